/-! GlacierMailModel -/
set_option maxRecDepth 100000
def RX10 : String := "GlacierMailModel"
def TX10 : u_T := fun k => match k with
  | 0 => ("GlacierMailModel", "thrown", "I", false)
  | 1 => ("GlacierMailModel", "world", "[I", true)
  | 2 => ("GlacierMailModel", "image", "[I", true)
  | 3 => ("GlacierMailModel", "before", "[I", true)
  | 4 => ("GlacierMailModel", "acts", "[I", true)
  | 5 => ("GlacierMailModel", "hasImage", "Z", false)
  | 6 => ("GlacierMailModel", "remembered", "I", false)
  | 7 => ("GlacierMailModel", "tape", "[B", true)
  | 8 => ("GlacierMailModel", "taped", "I", false)
  | 9 => ("GlacierMailModel", "point", "I", false)
  | 10 => ("GlacierMailModel", "end", "I", false)
  | 11 => ("GlacierMailModel", "begin", "I", false)
  | 12 => ("GlacierMailModel", "deep", "I", false)
  | 13 => ("GlacierMailModel", "faultAt", "I", false)
  | 14 => ("GlacierMailModel", "five", "[I", true)
  | 15 => ("GlacierMailModel", "steps", "I", false)
  | 16 => ("GlacierMailModel", "value", "[I", true)
  | 17 => ("GlacierMailModel", "itsLane", "I", false)
  | 18 => ("GlacierMailModel", "itsRow", "I", false)
  | 19 => ("GlacierMailModel", "itsYear", "I", false)
  | 20 => ("GlacierMailModel", "itsSpeed", "I", false)
  | 21 => ("GlacierMailModel", "itsPerson", "I", false)
  | 22 => ("GlacierMailModel", "itsAge", "I", false)
  | 23 => ("GlacierMailModel", "itsDepth", "I", false)
  | 24 => ("GlacierMailModel", "heats", "[I", true)
  | 25 => ("GlacierMailModel", "flows", "[B", true)
  | 26 => ("GlacierMailModel", "flowing", "I", false)
  | 27 => ("GlacierMailModel", "rows", "[I", true)
  | 28 => ("GlacierMailModel", "depths", "[I", true)
  | 29 => ("GlacierMailModel", "out", "I", false)
  | 30 => ("GlacierMailModel", "moved", "I", false)
  | 31 => ("GlacierMailModel", "outs", "[I", true)
  | 32 => ("GlacierMailModel", "otherRows", "[I", true)
  | 33 => ("GlacierMailModel", "throwing", "[I", true)
  | 34 => ("GlacierMailModel", "having", "[I", true)
  | 35 => ("GlacierMailModel", "outYear", "[I", true)
  | 36 => ("GlacierMailModel", "backYear", "I", false)
  | 37 => ("GlacierMailModel", "loot", "[I", true)
  | _ => ("GlacierMailModel", "more", "[I", true)
def tyX10 : Nat → FieldType := fun k => match k with
  | 0 => .int
  | 1 => .array .int
  | 2 => .array .int
  | 3 => .array .int
  | 4 => .array .int
  | 5 => .boolean
  | 6 => .int
  | 7 => .array .byte
  | 8 => .int
  | 9 => .int
  | 10 => .int
  | 11 => .int
  | 12 => .int
  | 13 => .int
  | 14 => .array .int
  | 15 => .int
  | 16 => .array .int
  | 17 => .int
  | 18 => .int
  | 19 => .int
  | 20 => .int
  | 21 => .int
  | 22 => .int
  | 23 => .int
  | 24 => .array .int
  | 25 => .array .byte
  | 26 => .int
  | 27 => .array .int
  | 28 => .array .int
  | 29 => .int
  | 30 => .int
  | 31 => .array .int
  | 32 => .array .int
  | 33 => .array .int
  | 34 => .array .int
  | 35 => .array .int
  | 36 => .int
  | 37 => .array .int
  | _ => .array .int
abbrev wsX100 : List Cond := u_ws RX10 TX10 39
set_option maxRecDepth 100000 in
theorem nmX10 : ∀ a, a < 39 → ∀ b, b < 39 → a ≠ b → (TX10 a).2.1 ≠ (TX10 b).2.1 := by decide +kernel
set_option maxRecDepth 100000 in
theorem tyX10_ok : ∀ k, k < 39 → parseFieldDescriptor (TX10 k).2.2.1 = some (tyX10 k) := by decide +kernel
abbrev cX10_thrown : ByteArray := prog_20_method_1_code
def yX10_thrown : MethodName := ⟨RX10, "thrown", "()I"⟩
theorem dX10_thrown_0 : decode cX10_thrown 0 = .ok (.aload_n 0, 1) := by decide +kernel
theorem dX10_thrown_1 : decode cX10_thrown 1 = .ok (.getfield 3, 3) := by decide +kernel
theorem dX10_thrown_4 : decode cX10_thrown 4 = .ok (.ireturn, 1) := by decide +kernel
abbrev cX10_init : ByteArray := prog_20_method_5_code
def yX10_init : MethodName := ⟨RX10, "<init>", "()V"⟩
def dkwX10_init_9 : List UInt8 := [42, 182, 0, 72, 177]
abbrev dktX10_init_9 : List UInt8 := dkwX10_init_9 ++ []
def dkwX10_init_8 : List UInt8 := [42, 180, 0, 13, 16, 11, 5, 79, 42, 180, 0, 13, 16, 12, 6, 79, 42, 180, 0, 13, 16, 13, 4, 79]
abbrev dktX10_init_8 : List UInt8 := dkwX10_init_8 ++ dktX10_init_9
def dkwX10_init_7 : List UInt8 := [42, 180, 0, 13, 3, 6, 79, 42, 180, 0, 13, 4, 16, 40, 79, 42, 180, 0, 13, 16, 10, 16, 10, 79]
abbrev dktX10_init_7 : List UInt8 := dkwX10_init_7 ++ dktX10_init_8
def dkwX10_init_6 : List UInt8 := [17, 9, 104, 188, 10, 181, 0, 63, 42, 16, 6, 188, 10, 181, 0, 66, 42, 16, 6, 188, 10, 181, 0, 69]
abbrev dktX10_init_6 : List UInt8 := dkwX10_init_6 ++ dktX10_init_7
def dkwX10_init_5 : List UInt8 := [188, 10, 181, 0, 54, 42, 17, 9, 104, 188, 10, 181, 0, 57, 42, 17, 9, 104, 188, 10, 181, 0, 60, 42]
abbrev dktX10_init_5 : List UInt8 := dkwX10_init_5 ++ dktX10_init_6
def dkwX10_init_4 : List UInt8 := [181, 0, 45, 42, 17, 1, 44, 188, 10, 181, 0, 48, 42, 16, 24, 188, 10, 181, 0, 51, 42, 17, 1, 44]
abbrev dktX10_init_4 : List UInt8 := dkwX10_init_4 ++ dktX10_init_5
def dkwX10_init_3 : List UInt8 := [42, 17, 1, 44, 188, 10, 181, 0, 39, 42, 17, 116, 4, 188, 8, 181, 0, 42, 42, 17, 1, 44, 188, 10]
abbrev dktX10_init_3 : List UInt8 := dkwX10_init_3 ++ dktX10_init_4
def dkwX10_init_2 : List UInt8 := [181, 0, 26, 42, 2, 181, 0, 30, 42, 8, 188, 10, 181, 0, 33, 42, 17, 1, 144, 188, 10, 181, 0, 36]
abbrev dktX10_init_2 : List UInt8 := dkwX10_init_2 ++ dktX10_init_3
def dkwX10_init_1 : List UInt8 := [17, 4, 220, 188, 10, 181, 0, 20, 42, 17, 18, 132, 188, 10, 181, 0, 23, 42, 17, 1, 144, 188, 8]
abbrev dktX10_init_1 : List UInt8 := dkwX10_init_1 ++ dktX10_init_2
def dkwX10_init_0 : List UInt8 := [42, 183, 0, 7, 42, 17, 8, 45, 188, 10, 181, 0, 13, 42, 17, 4, 220, 188, 10, 181, 0, 17, 42]
abbrev dktX10_init_0 : List UInt8 := dkwX10_init_0 ++ dktX10_init_1
theorem dksX10_init_0 : cX10_init.data.toList.drop 0 = dktX10_init_0 := by decide +kernel
theorem dksX10_init_1 : cX10_init.data.toList.drop 23 = dktX10_init_1 := dk_seg dksX10_init_0 23 rfl rfl
theorem dksX10_init_2 : cX10_init.data.toList.drop 46 = dktX10_init_2 := dk_seg dksX10_init_1 23 rfl rfl
theorem dksX10_init_3 : cX10_init.data.toList.drop 70 = dktX10_init_3 := dk_seg dksX10_init_2 24 rfl rfl
theorem dksX10_init_4 : cX10_init.data.toList.drop 94 = dktX10_init_4 := dk_seg dksX10_init_3 24 rfl rfl
theorem dksX10_init_5 : cX10_init.data.toList.drop 118 = dktX10_init_5 := dk_seg dksX10_init_4 24 rfl rfl
theorem dksX10_init_6 : cX10_init.data.toList.drop 142 = dktX10_init_6 := dk_seg dksX10_init_5 24 rfl rfl
theorem dksX10_init_7 : cX10_init.data.toList.drop 166 = dktX10_init_7 := dk_seg dksX10_init_6 24 rfl rfl
theorem dksX10_init_8 : cX10_init.data.toList.drop 190 = dktX10_init_8 := dk_seg dksX10_init_7 24 rfl rfl
theorem dksX10_init_9 : cX10_init.data.toList.drop 214 = dktX10_init_9 := dk_seg dksX10_init_8 24 rfl rfl
theorem dX10_init_0 : decode cX10_init 0 = .ok (.aload_n 0, 1) := dk_42 (dk_at dksX10_init_0 0 rfl rfl)
theorem dX10_init_1 : decode cX10_init 1 = .ok (.invokespecial 7, 3) := dk_183 0 7 (dk_at dksX10_init_0 1 rfl rfl)
theorem dX10_init_4 : decode cX10_init 4 = .ok (.aload_n 0, 1) := dk_42 (dk_at dksX10_init_0 4 rfl rfl)
theorem dX10_init_5 : decode cX10_init 5 = .ok (.sipush 2093, 3) := dk_17 8 45 (dk_at dksX10_init_0 5 rfl rfl)
theorem dX10_init_8 : decode cX10_init 8 = .ok (.newarray .int, 2) := dk_188_10 (dk_at dksX10_init_0 8 rfl rfl)
theorem dX10_init_10 : decode cX10_init 10 = .ok (.putfield 13, 3) := dk_181 0 13 (dk_at dksX10_init_0 10 rfl rfl)
theorem dX10_init_13 : decode cX10_init 13 = .ok (.aload_n 0, 1) := dk_42 (dk_at dksX10_init_0 13 rfl rfl)
theorem dX10_init_14 : decode cX10_init 14 = .ok (.sipush 1244, 3) := dk_17 4 220 (dk_at dksX10_init_0 14 rfl rfl)
theorem dX10_init_17 : decode cX10_init 17 = .ok (.newarray .int, 2) := dk_188_10 (dk_at dksX10_init_0 17 rfl rfl)
theorem dX10_init_19 : decode cX10_init 19 = .ok (.putfield 17, 3) := dk_181 0 17 (dk_at dksX10_init_0 19 rfl rfl)
theorem dX10_init_22 : decode cX10_init 22 = .ok (.aload_n 0, 1) := dk_42 (dk_at dksX10_init_0 22 rfl rfl)
theorem dX10_init_23 : decode cX10_init 23 = .ok (.sipush 1244, 3) := dk_17 4 220 (dk_at dksX10_init_1 0 rfl rfl)
theorem dX10_init_26 : decode cX10_init 26 = .ok (.newarray .int, 2) := dk_188_10 (dk_at dksX10_init_1 3 rfl rfl)
theorem dX10_init_28 : decode cX10_init 28 = .ok (.putfield 20, 3) := dk_181 0 20 (dk_at dksX10_init_1 5 rfl rfl)
theorem dX10_init_31 : decode cX10_init 31 = .ok (.aload_n 0, 1) := dk_42 (dk_at dksX10_init_1 8 rfl rfl)
theorem dX10_init_32 : decode cX10_init 32 = .ok (.sipush 4740, 3) := dk_17 18 132 (dk_at dksX10_init_1 9 rfl rfl)
theorem dX10_init_35 : decode cX10_init 35 = .ok (.newarray .int, 2) := dk_188_10 (dk_at dksX10_init_1 12 rfl rfl)
theorem dX10_init_37 : decode cX10_init 37 = .ok (.putfield 23, 3) := dk_181 0 23 (dk_at dksX10_init_1 14 rfl rfl)
theorem dX10_init_40 : decode cX10_init 40 = .ok (.aload_n 0, 1) := dk_42 (dk_at dksX10_init_1 17 rfl rfl)
theorem dX10_init_41 : decode cX10_init 41 = .ok (.sipush 400, 3) := dk_17 1 144 (dk_at dksX10_init_1 18 rfl rfl)
theorem dX10_init_44 : decode cX10_init 44 = .ok (.newarray .byte, 2) := dk_188_8 (dk_at dksX10_init_1 21 rfl rfl)
theorem dX10_init_46 : decode cX10_init 46 = .ok (.putfield 26, 3) := dk_181 0 26 (dk_at dksX10_init_2 0 rfl rfl)
theorem dX10_init_49 : decode cX10_init 49 = .ok (.aload_n 0, 1) := dk_42 (dk_at dksX10_init_2 3 rfl rfl)
theorem dX10_init_50 : decode cX10_init 50 = .ok (.iconst (-1), 1) := dk_2 (dk_at dksX10_init_2 4 rfl rfl)
theorem dX10_init_51 : decode cX10_init 51 = .ok (.putfield 30, 3) := dk_181 0 30 (dk_at dksX10_init_2 5 rfl rfl)
theorem dX10_init_54 : decode cX10_init 54 = .ok (.aload_n 0, 1) := dk_42 (dk_at dksX10_init_2 8 rfl rfl)
theorem dX10_init_55 : decode cX10_init 55 = .ok (.iconst 5, 1) := dk_8 (dk_at dksX10_init_2 9 rfl rfl)
theorem dX10_init_56 : decode cX10_init 56 = .ok (.newarray .int, 2) := dk_188_10 (dk_at dksX10_init_2 10 rfl rfl)
theorem dX10_init_58 : decode cX10_init 58 = .ok (.putfield 33, 3) := dk_181 0 33 (dk_at dksX10_init_2 12 rfl rfl)
theorem dX10_init_61 : decode cX10_init 61 = .ok (.aload_n 0, 1) := dk_42 (dk_at dksX10_init_2 15 rfl rfl)
theorem dX10_init_62 : decode cX10_init 62 = .ok (.sipush 400, 3) := dk_17 1 144 (dk_at dksX10_init_2 16 rfl rfl)
theorem dX10_init_65 : decode cX10_init 65 = .ok (.newarray .int, 2) := dk_188_10 (dk_at dksX10_init_2 19 rfl rfl)
theorem dX10_init_67 : decode cX10_init 67 = .ok (.putfield 36, 3) := dk_181 0 36 (dk_at dksX10_init_2 21 rfl rfl)
theorem dX10_init_70 : decode cX10_init 70 = .ok (.aload_n 0, 1) := dk_42 (dk_at dksX10_init_3 0 rfl rfl)
theorem dX10_init_71 : decode cX10_init 71 = .ok (.sipush 300, 3) := dk_17 1 44 (dk_at dksX10_init_3 1 rfl rfl)
theorem dX10_init_74 : decode cX10_init 74 = .ok (.newarray .int, 2) := dk_188_10 (dk_at dksX10_init_3 4 rfl rfl)
theorem dX10_init_76 : decode cX10_init 76 = .ok (.putfield 39, 3) := dk_181 0 39 (dk_at dksX10_init_3 6 rfl rfl)
theorem dX10_init_79 : decode cX10_init 79 = .ok (.aload_n 0, 1) := dk_42 (dk_at dksX10_init_3 9 rfl rfl)
theorem dX10_init_80 : decode cX10_init 80 = .ok (.sipush 29700, 3) := dk_17 116 4 (dk_at dksX10_init_3 10 rfl rfl)
theorem dX10_init_83 : decode cX10_init 83 = .ok (.newarray .byte, 2) := dk_188_8 (dk_at dksX10_init_3 13 rfl rfl)
theorem dX10_init_85 : decode cX10_init 85 = .ok (.putfield 42, 3) := dk_181 0 42 (dk_at dksX10_init_3 15 rfl rfl)
theorem dX10_init_88 : decode cX10_init 88 = .ok (.aload_n 0, 1) := dk_42 (dk_at dksX10_init_3 18 rfl rfl)
theorem dX10_init_89 : decode cX10_init 89 = .ok (.sipush 300, 3) := dk_17 1 44 (dk_at dksX10_init_3 19 rfl rfl)
theorem dX10_init_92 : decode cX10_init 92 = .ok (.newarray .int, 2) := dk_188_10 (dk_at dksX10_init_3 22 rfl rfl)
theorem dX10_init_94 : decode cX10_init 94 = .ok (.putfield 45, 3) := dk_181 0 45 (dk_at dksX10_init_4 0 rfl rfl)
theorem dX10_init_97 : decode cX10_init 97 = .ok (.aload_n 0, 1) := dk_42 (dk_at dksX10_init_4 3 rfl rfl)
theorem dX10_init_98 : decode cX10_init 98 = .ok (.sipush 300, 3) := dk_17 1 44 (dk_at dksX10_init_4 4 rfl rfl)
theorem dX10_init_101 : decode cX10_init 101 = .ok (.newarray .int, 2) := dk_188_10 (dk_at dksX10_init_4 7 rfl rfl)
theorem dX10_init_103 : decode cX10_init 103 = .ok (.putfield 48, 3) := dk_181 0 48 (dk_at dksX10_init_4 9 rfl rfl)
theorem dX10_init_106 : decode cX10_init 106 = .ok (.aload_n 0, 1) := dk_42 (dk_at dksX10_init_4 12 rfl rfl)
theorem dX10_init_107 : decode cX10_init 107 = .ok (.bipush 24, 2) := dk_16 24 (dk_at dksX10_init_4 13 rfl rfl)
theorem dX10_init_109 : decode cX10_init 109 = .ok (.newarray .int, 2) := dk_188_10 (dk_at dksX10_init_4 15 rfl rfl)
theorem dX10_init_111 : decode cX10_init 111 = .ok (.putfield 51, 3) := dk_181 0 51 (dk_at dksX10_init_4 17 rfl rfl)
theorem dX10_init_114 : decode cX10_init 114 = .ok (.aload_n 0, 1) := dk_42 (dk_at dksX10_init_4 20 rfl rfl)
theorem dX10_init_115 : decode cX10_init 115 = .ok (.sipush 300, 3) := dk_17 1 44 (dk_at dksX10_init_4 21 rfl rfl)
theorem dX10_init_118 : decode cX10_init 118 = .ok (.newarray .int, 2) := dk_188_10 (dk_at dksX10_init_5 0 rfl rfl)
theorem dX10_init_120 : decode cX10_init 120 = .ok (.putfield 54, 3) := dk_181 0 54 (dk_at dksX10_init_5 2 rfl rfl)
theorem dX10_init_123 : decode cX10_init 123 = .ok (.aload_n 0, 1) := dk_42 (dk_at dksX10_init_5 5 rfl rfl)
theorem dX10_init_124 : decode cX10_init 124 = .ok (.sipush 2408, 3) := dk_17 9 104 (dk_at dksX10_init_5 6 rfl rfl)
theorem dX10_init_127 : decode cX10_init 127 = .ok (.newarray .int, 2) := dk_188_10 (dk_at dksX10_init_5 9 rfl rfl)
theorem dX10_init_129 : decode cX10_init 129 = .ok (.putfield 57, 3) := dk_181 0 57 (dk_at dksX10_init_5 11 rfl rfl)
theorem dX10_init_132 : decode cX10_init 132 = .ok (.aload_n 0, 1) := dk_42 (dk_at dksX10_init_5 14 rfl rfl)
theorem dX10_init_133 : decode cX10_init 133 = .ok (.sipush 2408, 3) := dk_17 9 104 (dk_at dksX10_init_5 15 rfl rfl)
theorem dX10_init_136 : decode cX10_init 136 = .ok (.newarray .int, 2) := dk_188_10 (dk_at dksX10_init_5 18 rfl rfl)
theorem dX10_init_138 : decode cX10_init 138 = .ok (.putfield 60, 3) := dk_181 0 60 (dk_at dksX10_init_5 20 rfl rfl)
theorem dX10_init_141 : decode cX10_init 141 = .ok (.aload_n 0, 1) := dk_42 (dk_at dksX10_init_5 23 rfl rfl)
theorem dX10_init_142 : decode cX10_init 142 = .ok (.sipush 2408, 3) := dk_17 9 104 (dk_at dksX10_init_6 0 rfl rfl)
theorem dX10_init_145 : decode cX10_init 145 = .ok (.newarray .int, 2) := dk_188_10 (dk_at dksX10_init_6 3 rfl rfl)
theorem dX10_init_147 : decode cX10_init 147 = .ok (.putfield 63, 3) := dk_181 0 63 (dk_at dksX10_init_6 5 rfl rfl)
theorem dX10_init_150 : decode cX10_init 150 = .ok (.aload_n 0, 1) := dk_42 (dk_at dksX10_init_6 8 rfl rfl)
theorem dX10_init_151 : decode cX10_init 151 = .ok (.bipush 6, 2) := dk_16 6 (dk_at dksX10_init_6 9 rfl rfl)
theorem dX10_init_153 : decode cX10_init 153 = .ok (.newarray .int, 2) := dk_188_10 (dk_at dksX10_init_6 11 rfl rfl)
theorem dX10_init_155 : decode cX10_init 155 = .ok (.putfield 66, 3) := dk_181 0 66 (dk_at dksX10_init_6 13 rfl rfl)
theorem dX10_init_158 : decode cX10_init 158 = .ok (.aload_n 0, 1) := dk_42 (dk_at dksX10_init_6 16 rfl rfl)
theorem dX10_init_159 : decode cX10_init 159 = .ok (.bipush 6, 2) := dk_16 6 (dk_at dksX10_init_6 17 rfl rfl)
theorem dX10_init_161 : decode cX10_init 161 = .ok (.newarray .int, 2) := dk_188_10 (dk_at dksX10_init_6 19 rfl rfl)
theorem dX10_init_163 : decode cX10_init 163 = .ok (.putfield 69, 3) := dk_181 0 69 (dk_at dksX10_init_6 21 rfl rfl)
theorem dX10_init_166 : decode cX10_init 166 = .ok (.aload_n 0, 1) := dk_42 (dk_at dksX10_init_7 0 rfl rfl)
theorem dX10_init_167 : decode cX10_init 167 = .ok (.getfield 13, 3) := dk_180 0 13 (dk_at dksX10_init_7 1 rfl rfl)
theorem dX10_init_170 : decode cX10_init 170 = .ok (.iconst 0, 1) := dk_3 (dk_at dksX10_init_7 4 rfl rfl)
theorem dX10_init_171 : decode cX10_init 171 = .ok (.iconst 3, 1) := dk_6 (dk_at dksX10_init_7 5 rfl rfl)
theorem dX10_init_172 : decode cX10_init 172 = .ok (.iastore, 1) := dk_79 (dk_at dksX10_init_7 6 rfl rfl)
theorem dX10_init_173 : decode cX10_init 173 = .ok (.aload_n 0, 1) := dk_42 (dk_at dksX10_init_7 7 rfl rfl)
theorem dX10_init_174 : decode cX10_init 174 = .ok (.getfield 13, 3) := dk_180 0 13 (dk_at dksX10_init_7 8 rfl rfl)
theorem dX10_init_177 : decode cX10_init 177 = .ok (.iconst 1, 1) := dk_4 (dk_at dksX10_init_7 11 rfl rfl)
theorem dX10_init_178 : decode cX10_init 178 = .ok (.bipush 40, 2) := dk_16 40 (dk_at dksX10_init_7 12 rfl rfl)
theorem dX10_init_180 : decode cX10_init 180 = .ok (.iastore, 1) := dk_79 (dk_at dksX10_init_7 14 rfl rfl)
theorem dX10_init_181 : decode cX10_init 181 = .ok (.aload_n 0, 1) := dk_42 (dk_at dksX10_init_7 15 rfl rfl)
theorem dX10_init_182 : decode cX10_init 182 = .ok (.getfield 13, 3) := dk_180 0 13 (dk_at dksX10_init_7 16 rfl rfl)
theorem dX10_init_185 : decode cX10_init 185 = .ok (.bipush 10, 2) := dk_16 10 (dk_at dksX10_init_7 19 rfl rfl)
theorem dX10_init_187 : decode cX10_init 187 = .ok (.bipush 10, 2) := dk_16 10 (dk_at dksX10_init_7 21 rfl rfl)
theorem dX10_init_189 : decode cX10_init 189 = .ok (.iastore, 1) := dk_79 (dk_at dksX10_init_7 23 rfl rfl)
theorem dX10_init_190 : decode cX10_init 190 = .ok (.aload_n 0, 1) := dk_42 (dk_at dksX10_init_8 0 rfl rfl)
theorem dX10_init_191 : decode cX10_init 191 = .ok (.getfield 13, 3) := dk_180 0 13 (dk_at dksX10_init_8 1 rfl rfl)
theorem dX10_init_194 : decode cX10_init 194 = .ok (.bipush 11, 2) := dk_16 11 (dk_at dksX10_init_8 4 rfl rfl)
theorem dX10_init_196 : decode cX10_init 196 = .ok (.iconst 2, 1) := dk_5 (dk_at dksX10_init_8 6 rfl rfl)
theorem dX10_init_197 : decode cX10_init 197 = .ok (.iastore, 1) := dk_79 (dk_at dksX10_init_8 7 rfl rfl)
theorem dX10_init_198 : decode cX10_init 198 = .ok (.aload_n 0, 1) := dk_42 (dk_at dksX10_init_8 8 rfl rfl)
theorem dX10_init_199 : decode cX10_init 199 = .ok (.getfield 13, 3) := dk_180 0 13 (dk_at dksX10_init_8 9 rfl rfl)
theorem dX10_init_202 : decode cX10_init 202 = .ok (.bipush 12, 2) := dk_16 12 (dk_at dksX10_init_8 12 rfl rfl)
theorem dX10_init_204 : decode cX10_init 204 = .ok (.iconst 3, 1) := dk_6 (dk_at dksX10_init_8 14 rfl rfl)
theorem dX10_init_205 : decode cX10_init 205 = .ok (.iastore, 1) := dk_79 (dk_at dksX10_init_8 15 rfl rfl)
theorem dX10_init_206 : decode cX10_init 206 = .ok (.aload_n 0, 1) := dk_42 (dk_at dksX10_init_8 16 rfl rfl)
theorem dX10_init_207 : decode cX10_init 207 = .ok (.getfield 13, 3) := dk_180 0 13 (dk_at dksX10_init_8 17 rfl rfl)
theorem dX10_init_210 : decode cX10_init 210 = .ok (.bipush 13, 2) := dk_16 13 (dk_at dksX10_init_8 20 rfl rfl)
theorem dX10_init_212 : decode cX10_init 212 = .ok (.iconst 1, 1) := dk_4 (dk_at dksX10_init_8 22 rfl rfl)
theorem dX10_init_213 : decode cX10_init 213 = .ok (.iastore, 1) := dk_79 (dk_at dksX10_init_8 23 rfl rfl)
theorem dX10_init_214 : decode cX10_init 214 = .ok (.aload_n 0, 1) := dk_42 (dk_at dksX10_init_9 0 rfl rfl)
theorem dX10_init_215 : decode cX10_init 215 = .ok (.invokevirtual 72, 3) := dk_182 0 72 (dk_at dksX10_init_9 1 rfl rfl)
theorem dX10_init_218 : decode cX10_init 218 = .ok (.return_, 1) := dk_177 (dk_at dksX10_init_9 4 rfl rfl)
abbrev cX10_warms : ByteArray := prog_20_method_65_code
def yX10_warms : MethodName := ⟨RX10, "warms", "()V"⟩
def dkwX10_warms_2 : List UInt8 := [132, 2, 1, 167, 255, 219, 42, 2, 181, 1, 75, 177]
abbrev dktX10_warms_2 : List UInt8 := dkwX10_warms_2 ++ []
def dkwX10_warms_1 : List UInt8 := [17, 48, 57, 96, 60, 42, 180, 0, 39, 28, 27, 16, 16, 122, 17, 127, 255, 126, 16, 10, 112, 79]
abbrev dktX10_warms_1 : List UInt8 := dkwX10_warms_1 ++ dktX10_warms_2
def dkwX10_warms_0 : List UInt8 := [42, 180, 0, 13, 16, 13, 46, 60, 3, 61, 28, 17, 1, 44, 162, 0, 36, 19, 1, 74, 27, 104]
abbrev dktX10_warms_0 : List UInt8 := dkwX10_warms_0 ++ dktX10_warms_1
theorem dksX10_warms_0 : cX10_warms.data.toList.drop 0 = dktX10_warms_0 := by decide +kernel
theorem dksX10_warms_1 : cX10_warms.data.toList.drop 22 = dktX10_warms_1 := dk_seg dksX10_warms_0 22 rfl rfl
theorem dksX10_warms_2 : cX10_warms.data.toList.drop 44 = dktX10_warms_2 := dk_seg dksX10_warms_1 22 rfl rfl
theorem dX10_warms_0 : decode cX10_warms 0 = .ok (.aload_n 0, 1) := dk_42 (dk_at dksX10_warms_0 0 rfl rfl)
theorem dX10_warms_1 : decode cX10_warms 1 = .ok (.getfield 13, 3) := dk_180 0 13 (dk_at dksX10_warms_0 1 rfl rfl)
theorem dX10_warms_4 : decode cX10_warms 4 = .ok (.bipush 13, 2) := dk_16 13 (dk_at dksX10_warms_0 4 rfl rfl)
theorem dX10_warms_6 : decode cX10_warms 6 = .ok (.iaload, 1) := dk_46 (dk_at dksX10_warms_0 6 rfl rfl)
theorem dX10_warms_7 : decode cX10_warms 7 = .ok (.istore_n 1, 1) := dk_60 (dk_at dksX10_warms_0 7 rfl rfl)
theorem dX10_warms_8 : decode cX10_warms 8 = .ok (.iconst 0, 1) := dk_3 (dk_at dksX10_warms_0 8 rfl rfl)
theorem dX10_warms_9 : decode cX10_warms 9 = .ok (.istore_n 2, 1) := dk_61 (dk_at dksX10_warms_0 9 rfl rfl)
theorem dX10_warms_10 : decode cX10_warms 10 = .ok (.iload_n 2, 1) := dk_28 (dk_at dksX10_warms_0 10 rfl rfl)
theorem dX10_warms_11 : decode cX10_warms 11 = .ok (.sipush 300, 3) := dk_17 1 44 (dk_at dksX10_warms_0 11 rfl rfl)
theorem dX10_warms_14 : decode cX10_warms 14 = .ok (.if_icmp .ge 36, 3) := dk_162 0 36 (dk_at dksX10_warms_0 14 rfl rfl)
theorem dX10_warms_17 : decode cX10_warms 17 = .ok (.ldc_w 330, 3) := dk_19 1 74 (dk_at dksX10_warms_0 17 rfl rfl)
theorem dX10_warms_20 : decode cX10_warms 20 = .ok (.iload_n 1, 1) := dk_27 (dk_at dksX10_warms_0 20 rfl rfl)
theorem dX10_warms_21 : decode cX10_warms 21 = .ok (.imul, 1) := dk_104 (dk_at dksX10_warms_0 21 rfl rfl)
theorem dX10_warms_22 : decode cX10_warms 22 = .ok (.sipush 12345, 3) := dk_17 48 57 (dk_at dksX10_warms_1 0 rfl rfl)
theorem dX10_warms_25 : decode cX10_warms 25 = .ok (.iadd, 1) := dk_96 (dk_at dksX10_warms_1 3 rfl rfl)
theorem dX10_warms_26 : decode cX10_warms 26 = .ok (.istore_n 1, 1) := dk_60 (dk_at dksX10_warms_1 4 rfl rfl)
theorem dX10_warms_27 : decode cX10_warms 27 = .ok (.aload_n 0, 1) := dk_42 (dk_at dksX10_warms_1 5 rfl rfl)
theorem dX10_warms_28 : decode cX10_warms 28 = .ok (.getfield 39, 3) := dk_180 0 39 (dk_at dksX10_warms_1 6 rfl rfl)
theorem dX10_warms_31 : decode cX10_warms 31 = .ok (.iload_n 2, 1) := dk_28 (dk_at dksX10_warms_1 9 rfl rfl)
theorem dX10_warms_32 : decode cX10_warms 32 = .ok (.iload_n 1, 1) := dk_27 (dk_at dksX10_warms_1 10 rfl rfl)
theorem dX10_warms_33 : decode cX10_warms 33 = .ok (.bipush 16, 2) := dk_16 16 (dk_at dksX10_warms_1 11 rfl rfl)
theorem dX10_warms_35 : decode cX10_warms 35 = .ok (.ishr, 1) := dk_122 (dk_at dksX10_warms_1 13 rfl rfl)
theorem dX10_warms_36 : decode cX10_warms 36 = .ok (.sipush 32767, 3) := dk_17 127 255 (dk_at dksX10_warms_1 14 rfl rfl)
theorem dX10_warms_39 : decode cX10_warms 39 = .ok (.iand, 1) := dk_126 (dk_at dksX10_warms_1 17 rfl rfl)
theorem dX10_warms_40 : decode cX10_warms 40 = .ok (.bipush 10, 2) := dk_16 10 (dk_at dksX10_warms_1 18 rfl rfl)
theorem dX10_warms_42 : decode cX10_warms 42 = .ok (.irem, 1) := dk_112 (dk_at dksX10_warms_1 20 rfl rfl)
theorem dX10_warms_43 : decode cX10_warms 43 = .ok (.iastore, 1) := dk_79 (dk_at dksX10_warms_1 21 rfl rfl)
theorem dX10_warms_44 : decode cX10_warms 44 = .ok (.iinc 2 1, 3) := dk_132 2 1 (dk_at dksX10_warms_2 0 rfl rfl)
theorem dX10_warms_47 : decode cX10_warms 47 = .ok (.goto (-37), 3) := dk_167 255 219 (dk_at dksX10_warms_2 3 rfl rfl)
theorem dX10_warms_50 : decode cX10_warms 50 = .ok (.aload_n 0, 1) := dk_42 (dk_at dksX10_warms_2 6 rfl rfl)
theorem dX10_warms_51 : decode cX10_warms 51 = .ok (.iconst (-1), 1) := dk_2 (dk_at dksX10_warms_2 7 rfl rfl)
theorem dX10_warms_52 : decode cX10_warms 52 = .ok (.putfield 331, 3) := dk_181 1 75 (dk_at dksX10_warms_2 8 rfl rfl)
theorem dX10_warms_55 : decode cX10_warms 55 = .ok (.return_, 1) := dk_177 (dk_at dksX10_warms_2 11 rfl rfl)
abbrev cX10_image : ByteArray := prog_20_method_6_code
def yX10_image : MethodName := ⟨RX10, "image", "()V"⟩
def dkwX10_image_1 : List UInt8 := [46, 79, 132, 1, 1, 167, 255, 234, 42, 4, 181, 0, 75, 177]
abbrev dktX10_image_1 : List UInt8 := dkwX10_image_1 ++ []
def dkwX10_image_0 : List UInt8 := [42, 3, 181, 0, 3, 3, 60, 27, 17, 4, 220, 162, 0, 21, 42, 180, 0, 17, 27, 42, 180, 0, 13, 27]
abbrev dktX10_image_0 : List UInt8 := dkwX10_image_0 ++ dktX10_image_1
theorem dksX10_image_0 : cX10_image.data.toList.drop 0 = dktX10_image_0 := by decide +kernel
theorem dksX10_image_1 : cX10_image.data.toList.drop 24 = dktX10_image_1 := dk_seg dksX10_image_0 24 rfl rfl
theorem dX10_image_0 : decode cX10_image 0 = .ok (.aload_n 0, 1) := dk_42 (dk_at dksX10_image_0 0 rfl rfl)
theorem dX10_image_1 : decode cX10_image 1 = .ok (.iconst 0, 1) := dk_3 (dk_at dksX10_image_0 1 rfl rfl)
theorem dX10_image_2 : decode cX10_image 2 = .ok (.putfield 3, 3) := dk_181 0 3 (dk_at dksX10_image_0 2 rfl rfl)
theorem dX10_image_5 : decode cX10_image 5 = .ok (.iconst 0, 1) := dk_3 (dk_at dksX10_image_0 5 rfl rfl)
theorem dX10_image_6 : decode cX10_image 6 = .ok (.istore_n 1, 1) := dk_60 (dk_at dksX10_image_0 6 rfl rfl)
theorem dX10_image_7 : decode cX10_image 7 = .ok (.iload_n 1, 1) := dk_27 (dk_at dksX10_image_0 7 rfl rfl)
theorem dX10_image_8 : decode cX10_image 8 = .ok (.sipush 1244, 3) := dk_17 4 220 (dk_at dksX10_image_0 8 rfl rfl)
theorem dX10_image_11 : decode cX10_image 11 = .ok (.if_icmp .ge 21, 3) := dk_162 0 21 (dk_at dksX10_image_0 11 rfl rfl)
theorem dX10_image_14 : decode cX10_image 14 = .ok (.aload_n 0, 1) := dk_42 (dk_at dksX10_image_0 14 rfl rfl)
theorem dX10_image_15 : decode cX10_image 15 = .ok (.getfield 17, 3) := dk_180 0 17 (dk_at dksX10_image_0 15 rfl rfl)
theorem dX10_image_18 : decode cX10_image 18 = .ok (.iload_n 1, 1) := dk_27 (dk_at dksX10_image_0 18 rfl rfl)
theorem dX10_image_19 : decode cX10_image 19 = .ok (.aload_n 0, 1) := dk_42 (dk_at dksX10_image_0 19 rfl rfl)
theorem dX10_image_20 : decode cX10_image 20 = .ok (.getfield 13, 3) := dk_180 0 13 (dk_at dksX10_image_0 20 rfl rfl)
theorem dX10_image_23 : decode cX10_image 23 = .ok (.iload_n 1, 1) := dk_27 (dk_at dksX10_image_0 23 rfl rfl)
theorem dX10_image_24 : decode cX10_image 24 = .ok (.iaload, 1) := dk_46 (dk_at dksX10_image_1 0 rfl rfl)
theorem dX10_image_25 : decode cX10_image 25 = .ok (.iastore, 1) := dk_79 (dk_at dksX10_image_1 1 rfl rfl)
theorem dX10_image_26 : decode cX10_image 26 = .ok (.iinc 1 1, 3) := dk_132 1 1 (dk_at dksX10_image_1 2 rfl rfl)
theorem dX10_image_29 : decode cX10_image 29 = .ok (.goto (-22), 3) := dk_167 255 234 (dk_at dksX10_image_1 5 rfl rfl)
theorem dX10_image_32 : decode cX10_image 32 = .ok (.aload_n 0, 1) := dk_42 (dk_at dksX10_image_1 8 rfl rfl)
theorem dX10_image_33 : decode cX10_image 33 = .ok (.iconst 1, 1) := dk_4 (dk_at dksX10_image_1 9 rfl rfl)
theorem dX10_image_34 : decode cX10_image 34 = .ok (.putfield 75, 3) := dk_181 0 75 (dk_at dksX10_image_1 10 rfl rfl)
theorem dX10_image_37 : decode cX10_image 37 = .ok (.return_, 1) := dk_177 (dk_at dksX10_image_1 13 rfl rfl)
abbrev cX10_back : ByteArray := prog_20_method_7_code
def yX10_back : MethodName := ⟨RX10, "back", "()Z"⟩
def dkwX10_back_2 : List UInt8 := [182, 0, 72, 4, 172]
abbrev dktX10_back_2 : List UInt8 := dkwX10_back_2 ++ []
def dkwX10_back_1 : List UInt8 := [180, 0, 13, 27, 42, 180, 0, 17, 27, 46, 79, 132, 1, 1, 167, 255, 234, 42, 3, 181, 0, 79, 42]
abbrev dktX10_back_1 : List UInt8 := dkwX10_back_1 ++ dktX10_back_2
def dkwX10_back_0 : List UInt8 := [42, 3, 181, 0, 3, 42, 180, 0, 75, 154, 0, 5, 3, 172, 3, 60, 27, 17, 4, 220, 162, 0, 21, 42]
abbrev dktX10_back_0 : List UInt8 := dkwX10_back_0 ++ dktX10_back_1
theorem dksX10_back_0 : cX10_back.data.toList.drop 0 = dktX10_back_0 := by decide +kernel
theorem dksX10_back_1 : cX10_back.data.toList.drop 24 = dktX10_back_1 := dk_seg dksX10_back_0 24 rfl rfl
theorem dksX10_back_2 : cX10_back.data.toList.drop 47 = dktX10_back_2 := dk_seg dksX10_back_1 23 rfl rfl
theorem dX10_back_0 : decode cX10_back 0 = .ok (.aload_n 0, 1) := dk_42 (dk_at dksX10_back_0 0 rfl rfl)
theorem dX10_back_1 : decode cX10_back 1 = .ok (.iconst 0, 1) := dk_3 (dk_at dksX10_back_0 1 rfl rfl)
theorem dX10_back_2 : decode cX10_back 2 = .ok (.putfield 3, 3) := dk_181 0 3 (dk_at dksX10_back_0 2 rfl rfl)
theorem dX10_back_5 : decode cX10_back 5 = .ok (.aload_n 0, 1) := dk_42 (dk_at dksX10_back_0 5 rfl rfl)
theorem dX10_back_6 : decode cX10_back 6 = .ok (.getfield 75, 3) := dk_180 0 75 (dk_at dksX10_back_0 6 rfl rfl)
theorem dX10_back_9 : decode cX10_back 9 = .ok (.ifCond .ne 5, 3) := dk_154 0 5 (dk_at dksX10_back_0 9 rfl rfl)
theorem dX10_back_12 : decode cX10_back 12 = .ok (.iconst 0, 1) := dk_3 (dk_at dksX10_back_0 12 rfl rfl)
theorem dX10_back_13 : decode cX10_back 13 = .ok (.ireturn, 1) := dk_172 (dk_at dksX10_back_0 13 rfl rfl)
theorem dX10_back_14 : decode cX10_back 14 = .ok (.iconst 0, 1) := dk_3 (dk_at dksX10_back_0 14 rfl rfl)
theorem dX10_back_15 : decode cX10_back 15 = .ok (.istore_n 1, 1) := dk_60 (dk_at dksX10_back_0 15 rfl rfl)
theorem dX10_back_16 : decode cX10_back 16 = .ok (.iload_n 1, 1) := dk_27 (dk_at dksX10_back_0 16 rfl rfl)
theorem dX10_back_17 : decode cX10_back 17 = .ok (.sipush 1244, 3) := dk_17 4 220 (dk_at dksX10_back_0 17 rfl rfl)
theorem dX10_back_20 : decode cX10_back 20 = .ok (.if_icmp .ge 21, 3) := dk_162 0 21 (dk_at dksX10_back_0 20 rfl rfl)
theorem dX10_back_23 : decode cX10_back 23 = .ok (.aload_n 0, 1) := dk_42 (dk_at dksX10_back_0 23 rfl rfl)
theorem dX10_back_24 : decode cX10_back 24 = .ok (.getfield 13, 3) := dk_180 0 13 (dk_at dksX10_back_1 0 rfl rfl)
theorem dX10_back_27 : decode cX10_back 27 = .ok (.iload_n 1, 1) := dk_27 (dk_at dksX10_back_1 3 rfl rfl)
theorem dX10_back_28 : decode cX10_back 28 = .ok (.aload_n 0, 1) := dk_42 (dk_at dksX10_back_1 4 rfl rfl)
theorem dX10_back_29 : decode cX10_back 29 = .ok (.getfield 17, 3) := dk_180 0 17 (dk_at dksX10_back_1 5 rfl rfl)
theorem dX10_back_32 : decode cX10_back 32 = .ok (.iload_n 1, 1) := dk_27 (dk_at dksX10_back_1 8 rfl rfl)
theorem dX10_back_33 : decode cX10_back 33 = .ok (.iaload, 1) := dk_46 (dk_at dksX10_back_1 9 rfl rfl)
theorem dX10_back_34 : decode cX10_back 34 = .ok (.iastore, 1) := dk_79 (dk_at dksX10_back_1 10 rfl rfl)
theorem dX10_back_35 : decode cX10_back 35 = .ok (.iinc 1 1, 3) := dk_132 1 1 (dk_at dksX10_back_1 11 rfl rfl)
theorem dX10_back_38 : decode cX10_back 38 = .ok (.goto (-22), 3) := dk_167 255 234 (dk_at dksX10_back_1 14 rfl rfl)
theorem dX10_back_41 : decode cX10_back 41 = .ok (.aload_n 0, 1) := dk_42 (dk_at dksX10_back_1 17 rfl rfl)
theorem dX10_back_42 : decode cX10_back 42 = .ok (.iconst 0, 1) := dk_3 (dk_at dksX10_back_1 18 rfl rfl)
theorem dX10_back_43 : decode cX10_back 43 = .ok (.putfield 79, 3) := dk_181 0 79 (dk_at dksX10_back_1 19 rfl rfl)
theorem dX10_back_46 : decode cX10_back 46 = .ok (.aload_n 0, 1) := dk_42 (dk_at dksX10_back_1 22 rfl rfl)
theorem dX10_back_47 : decode cX10_back 47 = .ok (.invokevirtual 72, 3) := dk_182 0 72 (dk_at dksX10_back_2 0 rfl rfl)
theorem dX10_back_50 : decode cX10_back 50 = .ok (.iconst 1, 1) := dk_4 (dk_at dksX10_back_2 3 rfl rfl)
theorem dX10_back_51 : decode cX10_back 51 = .ok (.ireturn, 1) := dk_172 (dk_at dksX10_back_2 4 rfl rfl)
abbrev cX10_undo : ByteArray := prog_20_method_9_code
def yX10_undo : MethodName := ⟨RX10, "undo", "()Z"⟩
def dkwX10_undo_2 : List UInt8 := [180, 0, 79, 104, 27, 96, 46, 79, 132, 1, 1, 167, 255, 225, 4, 172]
abbrev dktX10_undo_2 : List UInt8 := dkwX10_undo_2 ++ []
def dkwX10_undo_1 : List UInt8 := [3, 60, 27, 17, 1, 139, 162, 0, 30, 42, 180, 0, 13, 27, 42, 180, 0, 23, 17, 1, 139, 42]
abbrev dktX10_undo_1 : List UInt8 := dkwX10_undo_1 ++ dktX10_undo_2
def dkwX10_undo_0 : List UInt8 := [42, 3, 181, 0, 3, 42, 180, 0, 79, 154, 0, 5, 3, 172, 42, 89, 180, 0, 79, 4, 100, 181, 0, 79]
abbrev dktX10_undo_0 : List UInt8 := dkwX10_undo_0 ++ dktX10_undo_1
theorem dksX10_undo_0 : cX10_undo.data.toList.drop 0 = dktX10_undo_0 := by decide +kernel
theorem dksX10_undo_1 : cX10_undo.data.toList.drop 24 = dktX10_undo_1 := dk_seg dksX10_undo_0 24 rfl rfl
theorem dksX10_undo_2 : cX10_undo.data.toList.drop 46 = dktX10_undo_2 := dk_seg dksX10_undo_1 22 rfl rfl
theorem dX10_undo_0 : decode cX10_undo 0 = .ok (.aload_n 0, 1) := dk_42 (dk_at dksX10_undo_0 0 rfl rfl)
theorem dX10_undo_1 : decode cX10_undo 1 = .ok (.iconst 0, 1) := dk_3 (dk_at dksX10_undo_0 1 rfl rfl)
theorem dX10_undo_2 : decode cX10_undo 2 = .ok (.putfield 3, 3) := dk_181 0 3 (dk_at dksX10_undo_0 2 rfl rfl)
theorem dX10_undo_5 : decode cX10_undo 5 = .ok (.aload_n 0, 1) := dk_42 (dk_at dksX10_undo_0 5 rfl rfl)
theorem dX10_undo_6 : decode cX10_undo 6 = .ok (.getfield 79, 3) := dk_180 0 79 (dk_at dksX10_undo_0 6 rfl rfl)
theorem dX10_undo_9 : decode cX10_undo 9 = .ok (.ifCond .ne 5, 3) := dk_154 0 5 (dk_at dksX10_undo_0 9 rfl rfl)
theorem dX10_undo_12 : decode cX10_undo 12 = .ok (.iconst 0, 1) := dk_3 (dk_at dksX10_undo_0 12 rfl rfl)
theorem dX10_undo_13 : decode cX10_undo 13 = .ok (.ireturn, 1) := dk_172 (dk_at dksX10_undo_0 13 rfl rfl)
theorem dX10_undo_14 : decode cX10_undo 14 = .ok (.aload_n 0, 1) := dk_42 (dk_at dksX10_undo_0 14 rfl rfl)
theorem dX10_undo_15 : decode cX10_undo 15 = .ok (.dup, 1) := dk_89 (dk_at dksX10_undo_0 15 rfl rfl)
theorem dX10_undo_16 : decode cX10_undo 16 = .ok (.getfield 79, 3) := dk_180 0 79 (dk_at dksX10_undo_0 16 rfl rfl)
theorem dX10_undo_19 : decode cX10_undo 19 = .ok (.iconst 1, 1) := dk_4 (dk_at dksX10_undo_0 19 rfl rfl)
theorem dX10_undo_20 : decode cX10_undo 20 = .ok (.isub, 1) := dk_100 (dk_at dksX10_undo_0 20 rfl rfl)
theorem dX10_undo_21 : decode cX10_undo 21 = .ok (.putfield 79, 3) := dk_181 0 79 (dk_at dksX10_undo_0 21 rfl rfl)
theorem dX10_undo_24 : decode cX10_undo 24 = .ok (.iconst 0, 1) := dk_3 (dk_at dksX10_undo_1 0 rfl rfl)
theorem dX10_undo_25 : decode cX10_undo 25 = .ok (.istore_n 1, 1) := dk_60 (dk_at dksX10_undo_1 1 rfl rfl)
theorem dX10_undo_26 : decode cX10_undo 26 = .ok (.iload_n 1, 1) := dk_27 (dk_at dksX10_undo_1 2 rfl rfl)
theorem dX10_undo_27 : decode cX10_undo 27 = .ok (.sipush 395, 3) := dk_17 1 139 (dk_at dksX10_undo_1 3 rfl rfl)
theorem dX10_undo_30 : decode cX10_undo 30 = .ok (.if_icmp .ge 30, 3) := dk_162 0 30 (dk_at dksX10_undo_1 6 rfl rfl)
theorem dX10_undo_33 : decode cX10_undo 33 = .ok (.aload_n 0, 1) := dk_42 (dk_at dksX10_undo_1 9 rfl rfl)
theorem dX10_undo_34 : decode cX10_undo 34 = .ok (.getfield 13, 3) := dk_180 0 13 (dk_at dksX10_undo_1 10 rfl rfl)
theorem dX10_undo_37 : decode cX10_undo 37 = .ok (.iload_n 1, 1) := dk_27 (dk_at dksX10_undo_1 13 rfl rfl)
theorem dX10_undo_38 : decode cX10_undo 38 = .ok (.aload_n 0, 1) := dk_42 (dk_at dksX10_undo_1 14 rfl rfl)
theorem dX10_undo_39 : decode cX10_undo 39 = .ok (.getfield 23, 3) := dk_180 0 23 (dk_at dksX10_undo_1 15 rfl rfl)
theorem dX10_undo_42 : decode cX10_undo 42 = .ok (.sipush 395, 3) := dk_17 1 139 (dk_at dksX10_undo_1 18 rfl rfl)
theorem dX10_undo_45 : decode cX10_undo 45 = .ok (.aload_n 0, 1) := dk_42 (dk_at dksX10_undo_1 21 rfl rfl)
theorem dX10_undo_46 : decode cX10_undo 46 = .ok (.getfield 79, 3) := dk_180 0 79 (dk_at dksX10_undo_2 0 rfl rfl)
theorem dX10_undo_49 : decode cX10_undo 49 = .ok (.imul, 1) := dk_104 (dk_at dksX10_undo_2 3 rfl rfl)
theorem dX10_undo_50 : decode cX10_undo 50 = .ok (.iload_n 1, 1) := dk_27 (dk_at dksX10_undo_2 4 rfl rfl)
theorem dX10_undo_51 : decode cX10_undo 51 = .ok (.iadd, 1) := dk_96 (dk_at dksX10_undo_2 5 rfl rfl)
theorem dX10_undo_52 : decode cX10_undo 52 = .ok (.iaload, 1) := dk_46 (dk_at dksX10_undo_2 6 rfl rfl)
theorem dX10_undo_53 : decode cX10_undo 53 = .ok (.iastore, 1) := dk_79 (dk_at dksX10_undo_2 7 rfl rfl)
theorem dX10_undo_54 : decode cX10_undo 54 = .ok (.iinc 1 1, 3) := dk_132 1 1 (dk_at dksX10_undo_2 8 rfl rfl)
theorem dX10_undo_57 : decode cX10_undo 57 = .ok (.goto (-31), 3) := dk_167 255 225 (dk_at dksX10_undo_2 11 rfl rfl)
theorem dX10_undo_60 : decode cX10_undo 60 = .ok (.iconst 1, 1) := dk_4 (dk_at dksX10_undo_2 14 rfl rfl)
theorem dX10_undo_61 : decode cX10_undo 61 = .ok (.ireturn, 1) := dk_172 (dk_at dksX10_undo_2 15 rfl rfl)
abbrev cX10_feed : ByteArray := prog_20_method_24_code
def yX10_feed : MethodName := ⟨RX10, "feed", "(IIIII)I"⟩
def dkwX10_feed_5 : List UInt8 := [180, 0, 103, 172]
abbrev dktX10_feed_5 : List UInt8 := dkwX10_feed_5 ++ []
def dkwX10_feed_4 : List UInt8 := [100, 122, 145, 84, 132, 6, 1, 167, 255, 213, 42, 89, 180, 0, 103, 16, 20, 96, 181, 0, 103, 42]
abbrev dktX10_feed_4 : List UInt8 := dkwX10_feed_4 ++ dktX10_feed_5
def dkwX10_feed_3 : List UInt8 := [180, 0, 103, 21, 6, 96, 42, 180, 0, 33, 21, 6, 7, 108, 46, 16, 24, 16, 8, 21, 6, 7, 112, 104]
abbrev dktX10_feed_3 : List UInt8 := dkwX10_feed_3 ++ dktX10_feed_4
def dkwX10_feed_2 : List UInt8 := [79, 42, 180, 0, 33, 7, 21, 5, 79, 3, 54, 6, 21, 6, 16, 20, 162, 0, 42, 42, 180, 0, 26, 42]
abbrev dktX10_feed_2 : List UInt8 := dkwX10_feed_2 ++ dktX10_feed_3
def dkwX10_feed_1 : List UInt8 := [3, 27, 79, 42, 180, 0, 33, 4, 28, 79, 42, 180, 0, 33, 5, 29, 79, 42, 180, 0, 33, 6, 21, 4]
abbrev dktX10_feed_1 : List UInt8 := dkwX10_feed_1 ++ dktX10_feed_2
def dkwX10_feed_0 : List UInt8 := [42, 3, 181, 0, 3, 42, 180, 0, 103, 16, 20, 96, 17, 1, 144, 164, 0, 5, 2, 172, 42, 180, 0, 33]
abbrev dktX10_feed_0 : List UInt8 := dkwX10_feed_0 ++ dktX10_feed_1
theorem dksX10_feed_0 : cX10_feed.data.toList.drop 0 = dktX10_feed_0 := by decide +kernel
theorem dksX10_feed_1 : cX10_feed.data.toList.drop 24 = dktX10_feed_1 := dk_seg dksX10_feed_0 24 rfl rfl
theorem dksX10_feed_2 : cX10_feed.data.toList.drop 48 = dktX10_feed_2 := dk_seg dksX10_feed_1 24 rfl rfl
theorem dksX10_feed_3 : cX10_feed.data.toList.drop 72 = dktX10_feed_3 := dk_seg dksX10_feed_2 24 rfl rfl
theorem dksX10_feed_4 : cX10_feed.data.toList.drop 96 = dktX10_feed_4 := dk_seg dksX10_feed_3 24 rfl rfl
theorem dksX10_feed_5 : cX10_feed.data.toList.drop 118 = dktX10_feed_5 := dk_seg dksX10_feed_4 22 rfl rfl
theorem dX10_feed_0 : decode cX10_feed 0 = .ok (.aload_n 0, 1) := dk_42 (dk_at dksX10_feed_0 0 rfl rfl)
theorem dX10_feed_1 : decode cX10_feed 1 = .ok (.iconst 0, 1) := dk_3 (dk_at dksX10_feed_0 1 rfl rfl)
theorem dX10_feed_2 : decode cX10_feed 2 = .ok (.putfield 3, 3) := dk_181 0 3 (dk_at dksX10_feed_0 2 rfl rfl)
theorem dX10_feed_5 : decode cX10_feed 5 = .ok (.aload_n 0, 1) := dk_42 (dk_at dksX10_feed_0 5 rfl rfl)
theorem dX10_feed_6 : decode cX10_feed 6 = .ok (.getfield 103, 3) := dk_180 0 103 (dk_at dksX10_feed_0 6 rfl rfl)
theorem dX10_feed_9 : decode cX10_feed 9 = .ok (.bipush 20, 2) := dk_16 20 (dk_at dksX10_feed_0 9 rfl rfl)
theorem dX10_feed_11 : decode cX10_feed 11 = .ok (.iadd, 1) := dk_96 (dk_at dksX10_feed_0 11 rfl rfl)
theorem dX10_feed_12 : decode cX10_feed 12 = .ok (.sipush 400, 3) := dk_17 1 144 (dk_at dksX10_feed_0 12 rfl rfl)
theorem dX10_feed_15 : decode cX10_feed 15 = .ok (.if_icmp .le 5, 3) := dk_164 0 5 (dk_at dksX10_feed_0 15 rfl rfl)
theorem dX10_feed_18 : decode cX10_feed 18 = .ok (.iconst (-1), 1) := dk_2 (dk_at dksX10_feed_0 18 rfl rfl)
theorem dX10_feed_19 : decode cX10_feed 19 = .ok (.ireturn, 1) := dk_172 (dk_at dksX10_feed_0 19 rfl rfl)
theorem dX10_feed_20 : decode cX10_feed 20 = .ok (.aload_n 0, 1) := dk_42 (dk_at dksX10_feed_0 20 rfl rfl)
theorem dX10_feed_21 : decode cX10_feed 21 = .ok (.getfield 33, 3) := dk_180 0 33 (dk_at dksX10_feed_0 21 rfl rfl)
theorem dX10_feed_24 : decode cX10_feed 24 = .ok (.iconst 0, 1) := dk_3 (dk_at dksX10_feed_1 0 rfl rfl)
theorem dX10_feed_25 : decode cX10_feed 25 = .ok (.iload_n 1, 1) := dk_27 (dk_at dksX10_feed_1 1 rfl rfl)
theorem dX10_feed_26 : decode cX10_feed 26 = .ok (.iastore, 1) := dk_79 (dk_at dksX10_feed_1 2 rfl rfl)
theorem dX10_feed_27 : decode cX10_feed 27 = .ok (.aload_n 0, 1) := dk_42 (dk_at dksX10_feed_1 3 rfl rfl)
theorem dX10_feed_28 : decode cX10_feed 28 = .ok (.getfield 33, 3) := dk_180 0 33 (dk_at dksX10_feed_1 4 rfl rfl)
theorem dX10_feed_31 : decode cX10_feed 31 = .ok (.iconst 1, 1) := dk_4 (dk_at dksX10_feed_1 7 rfl rfl)
theorem dX10_feed_32 : decode cX10_feed 32 = .ok (.iload_n 2, 1) := dk_28 (dk_at dksX10_feed_1 8 rfl rfl)
theorem dX10_feed_33 : decode cX10_feed 33 = .ok (.iastore, 1) := dk_79 (dk_at dksX10_feed_1 9 rfl rfl)
theorem dX10_feed_34 : decode cX10_feed 34 = .ok (.aload_n 0, 1) := dk_42 (dk_at dksX10_feed_1 10 rfl rfl)
theorem dX10_feed_35 : decode cX10_feed 35 = .ok (.getfield 33, 3) := dk_180 0 33 (dk_at dksX10_feed_1 11 rfl rfl)
theorem dX10_feed_38 : decode cX10_feed 38 = .ok (.iconst 2, 1) := dk_5 (dk_at dksX10_feed_1 14 rfl rfl)
theorem dX10_feed_39 : decode cX10_feed 39 = .ok (.iload_n 3, 1) := dk_29 (dk_at dksX10_feed_1 15 rfl rfl)
theorem dX10_feed_40 : decode cX10_feed 40 = .ok (.iastore, 1) := dk_79 (dk_at dksX10_feed_1 16 rfl rfl)
theorem dX10_feed_41 : decode cX10_feed 41 = .ok (.aload_n 0, 1) := dk_42 (dk_at dksX10_feed_1 17 rfl rfl)
theorem dX10_feed_42 : decode cX10_feed 42 = .ok (.getfield 33, 3) := dk_180 0 33 (dk_at dksX10_feed_1 18 rfl rfl)
theorem dX10_feed_45 : decode cX10_feed 45 = .ok (.iconst 3, 1) := dk_6 (dk_at dksX10_feed_1 21 rfl rfl)
theorem dX10_feed_46 : decode cX10_feed 46 = .ok (.iload 4, 2) := dk_21 4 (dk_at dksX10_feed_1 22 rfl rfl)
theorem dX10_feed_48 : decode cX10_feed 48 = .ok (.iastore, 1) := dk_79 (dk_at dksX10_feed_2 0 rfl rfl)
theorem dX10_feed_49 : decode cX10_feed 49 = .ok (.aload_n 0, 1) := dk_42 (dk_at dksX10_feed_2 1 rfl rfl)
theorem dX10_feed_50 : decode cX10_feed 50 = .ok (.getfield 33, 3) := dk_180 0 33 (dk_at dksX10_feed_2 2 rfl rfl)
theorem dX10_feed_53 : decode cX10_feed 53 = .ok (.iconst 4, 1) := dk_7 (dk_at dksX10_feed_2 5 rfl rfl)
theorem dX10_feed_54 : decode cX10_feed 54 = .ok (.iload 5, 2) := dk_21 5 (dk_at dksX10_feed_2 6 rfl rfl)
theorem dX10_feed_56 : decode cX10_feed 56 = .ok (.iastore, 1) := dk_79 (dk_at dksX10_feed_2 8 rfl rfl)
theorem dX10_feed_57 : decode cX10_feed 57 = .ok (.iconst 0, 1) := dk_3 (dk_at dksX10_feed_2 9 rfl rfl)
theorem dX10_feed_58 : decode cX10_feed 58 = .ok (.istore 6, 2) := dk_54 6 (dk_at dksX10_feed_2 10 rfl rfl)
theorem dX10_feed_60 : decode cX10_feed 60 = .ok (.iload 6, 2) := dk_21 6 (dk_at dksX10_feed_2 12 rfl rfl)
theorem dX10_feed_62 : decode cX10_feed 62 = .ok (.bipush 20, 2) := dk_16 20 (dk_at dksX10_feed_2 14 rfl rfl)
theorem dX10_feed_64 : decode cX10_feed 64 = .ok (.if_icmp .ge 42, 3) := dk_162 0 42 (dk_at dksX10_feed_2 16 rfl rfl)
theorem dX10_feed_67 : decode cX10_feed 67 = .ok (.aload_n 0, 1) := dk_42 (dk_at dksX10_feed_2 19 rfl rfl)
theorem dX10_feed_68 : decode cX10_feed 68 = .ok (.getfield 26, 3) := dk_180 0 26 (dk_at dksX10_feed_2 20 rfl rfl)
theorem dX10_feed_71 : decode cX10_feed 71 = .ok (.aload_n 0, 1) := dk_42 (dk_at dksX10_feed_2 23 rfl rfl)
theorem dX10_feed_72 : decode cX10_feed 72 = .ok (.getfield 103, 3) := dk_180 0 103 (dk_at dksX10_feed_3 0 rfl rfl)
theorem dX10_feed_75 : decode cX10_feed 75 = .ok (.iload 6, 2) := dk_21 6 (dk_at dksX10_feed_3 3 rfl rfl)
theorem dX10_feed_77 : decode cX10_feed 77 = .ok (.iadd, 1) := dk_96 (dk_at dksX10_feed_3 5 rfl rfl)
theorem dX10_feed_78 : decode cX10_feed 78 = .ok (.aload_n 0, 1) := dk_42 (dk_at dksX10_feed_3 6 rfl rfl)
theorem dX10_feed_79 : decode cX10_feed 79 = .ok (.getfield 33, 3) := dk_180 0 33 (dk_at dksX10_feed_3 7 rfl rfl)
theorem dX10_feed_82 : decode cX10_feed 82 = .ok (.iload 6, 2) := dk_21 6 (dk_at dksX10_feed_3 10 rfl rfl)
theorem dX10_feed_84 : decode cX10_feed 84 = .ok (.iconst 4, 1) := dk_7 (dk_at dksX10_feed_3 12 rfl rfl)
theorem dX10_feed_85 : decode cX10_feed 85 = .ok (.idiv, 1) := dk_108 (dk_at dksX10_feed_3 13 rfl rfl)
theorem dX10_feed_86 : decode cX10_feed 86 = .ok (.iaload, 1) := dk_46 (dk_at dksX10_feed_3 14 rfl rfl)
theorem dX10_feed_87 : decode cX10_feed 87 = .ok (.bipush 24, 2) := dk_16 24 (dk_at dksX10_feed_3 15 rfl rfl)
theorem dX10_feed_89 : decode cX10_feed 89 = .ok (.bipush 8, 2) := dk_16 8 (dk_at dksX10_feed_3 17 rfl rfl)
theorem dX10_feed_91 : decode cX10_feed 91 = .ok (.iload 6, 2) := dk_21 6 (dk_at dksX10_feed_3 19 rfl rfl)
theorem dX10_feed_93 : decode cX10_feed 93 = .ok (.iconst 4, 1) := dk_7 (dk_at dksX10_feed_3 21 rfl rfl)
theorem dX10_feed_94 : decode cX10_feed 94 = .ok (.irem, 1) := dk_112 (dk_at dksX10_feed_3 22 rfl rfl)
theorem dX10_feed_95 : decode cX10_feed 95 = .ok (.imul, 1) := dk_104 (dk_at dksX10_feed_3 23 rfl rfl)
theorem dX10_feed_96 : decode cX10_feed 96 = .ok (.isub, 1) := dk_100 (dk_at dksX10_feed_4 0 rfl rfl)
theorem dX10_feed_97 : decode cX10_feed 97 = .ok (.ishr, 1) := dk_122 (dk_at dksX10_feed_4 1 rfl rfl)
theorem dX10_feed_98 : decode cX10_feed 98 = .ok (.i2b, 1) := dk_145 (dk_at dksX10_feed_4 2 rfl rfl)
theorem dX10_feed_99 : decode cX10_feed 99 = .ok (.bastore, 1) := dk_84 (dk_at dksX10_feed_4 3 rfl rfl)
theorem dX10_feed_100 : decode cX10_feed 100 = .ok (.iinc 6 1, 3) := dk_132 6 1 (dk_at dksX10_feed_4 4 rfl rfl)
theorem dX10_feed_103 : decode cX10_feed 103 = .ok (.goto (-43), 3) := dk_167 255 213 (dk_at dksX10_feed_4 7 rfl rfl)
theorem dX10_feed_106 : decode cX10_feed 106 = .ok (.aload_n 0, 1) := dk_42 (dk_at dksX10_feed_4 10 rfl rfl)
theorem dX10_feed_107 : decode cX10_feed 107 = .ok (.dup, 1) := dk_89 (dk_at dksX10_feed_4 11 rfl rfl)
theorem dX10_feed_108 : decode cX10_feed 108 = .ok (.getfield 103, 3) := dk_180 0 103 (dk_at dksX10_feed_4 12 rfl rfl)
theorem dX10_feed_111 : decode cX10_feed 111 = .ok (.bipush 20, 2) := dk_16 20 (dk_at dksX10_feed_4 15 rfl rfl)
theorem dX10_feed_113 : decode cX10_feed 113 = .ok (.iadd, 1) := dk_96 (dk_at dksX10_feed_4 17 rfl rfl)
theorem dX10_feed_114 : decode cX10_feed 114 = .ok (.putfield 103, 3) := dk_181 0 103 (dk_at dksX10_feed_4 18 rfl rfl)
theorem dX10_feed_117 : decode cX10_feed 117 = .ok (.aload_n 0, 1) := dk_42 (dk_at dksX10_feed_4 21 rfl rfl)
theorem dX10_feed_118 : decode cX10_feed 118 = .ok (.getfield 103, 3) := dk_180 0 103 (dk_at dksX10_feed_5 0 rfl rfl)
theorem dX10_feed_121 : decode cX10_feed 121 = .ok (.ireturn, 1) := dk_172 (dk_at dksX10_feed_5 3 rfl rfl)
abbrev cX10_end : ByteArray := prog_20_method_25_code
def yX10_end : MethodName := ⟨RX10, "end", "(I)Z"⟩
def dkwX10_end_1 : List UInt8 := [4, 172]
abbrev dktX10_end_1 : List UInt8 := dkwX10_end_1 ++ []
def dkwX10_end_0 : List UInt8 := [42, 3, 181, 0, 3, 27, 155, 0, 11, 27, 42, 180, 0, 103, 164, 0, 5, 3, 172, 42, 27, 181, 0, 103]
abbrev dktX10_end_0 : List UInt8 := dkwX10_end_0 ++ dktX10_end_1
theorem dksX10_end_0 : cX10_end.data.toList.drop 0 = dktX10_end_0 := by decide +kernel
theorem dksX10_end_1 : cX10_end.data.toList.drop 24 = dktX10_end_1 := dk_seg dksX10_end_0 24 rfl rfl
theorem dX10_end_0 : decode cX10_end 0 = .ok (.aload_n 0, 1) := dk_42 (dk_at dksX10_end_0 0 rfl rfl)
theorem dX10_end_1 : decode cX10_end 1 = .ok (.iconst 0, 1) := dk_3 (dk_at dksX10_end_0 1 rfl rfl)
theorem dX10_end_2 : decode cX10_end 2 = .ok (.putfield 3, 3) := dk_181 0 3 (dk_at dksX10_end_0 2 rfl rfl)
theorem dX10_end_5 : decode cX10_end 5 = .ok (.iload_n 1, 1) := dk_27 (dk_at dksX10_end_0 5 rfl rfl)
theorem dX10_end_6 : decode cX10_end 6 = .ok (.ifCond .lt 11, 3) := dk_155 0 11 (dk_at dksX10_end_0 6 rfl rfl)
theorem dX10_end_9 : decode cX10_end 9 = .ok (.iload_n 1, 1) := dk_27 (dk_at dksX10_end_0 9 rfl rfl)
theorem dX10_end_10 : decode cX10_end 10 = .ok (.aload_n 0, 1) := dk_42 (dk_at dksX10_end_0 10 rfl rfl)
theorem dX10_end_11 : decode cX10_end 11 = .ok (.getfield 103, 3) := dk_180 0 103 (dk_at dksX10_end_0 11 rfl rfl)
theorem dX10_end_14 : decode cX10_end 14 = .ok (.if_icmp .le 5, 3) := dk_164 0 5 (dk_at dksX10_end_0 14 rfl rfl)
theorem dX10_end_17 : decode cX10_end 17 = .ok (.iconst 0, 1) := dk_3 (dk_at dksX10_end_0 17 rfl rfl)
theorem dX10_end_18 : decode cX10_end 18 = .ok (.ireturn, 1) := dk_172 (dk_at dksX10_end_0 18 rfl rfl)
theorem dX10_end_19 : decode cX10_end 19 = .ok (.aload_n 0, 1) := dk_42 (dk_at dksX10_end_0 19 rfl rfl)
theorem dX10_end_20 : decode cX10_end 20 = .ok (.iload_n 1, 1) := dk_27 (dk_at dksX10_end_0 20 rfl rfl)
theorem dX10_end_21 : decode cX10_end 21 = .ok (.putfield 103, 3) := dk_181 0 103 (dk_at dksX10_end_0 21 rfl rfl)
theorem dX10_end_24 : decode cX10_end 24 = .ok (.iconst 1, 1) := dk_4 (dk_at dksX10_end_1 0 rfl rfl)
theorem dX10_end_25 : decode cX10_end 25 = .ok (.ireturn, 1) := dk_172 (dk_at dksX10_end_1 1 rfl rfl)
abbrev cX10_fault : ByteArray := prog_20_method_35_code
def yX10_fault : MethodName := ⟨RX10, "fault", "()I"⟩
def dkwX10_fault_0 : List UInt8 := [42, 3, 181, 0, 3, 42, 180, 0, 30, 172]
abbrev dktX10_fault_0 : List UInt8 := dkwX10_fault_0 ++ []
theorem dksX10_fault_0 : cX10_fault.data.toList.drop 0 = dktX10_fault_0 := by decide +kernel
theorem dX10_fault_0 : decode cX10_fault 0 = .ok (.aload_n 0, 1) := dk_42 (dk_at dksX10_fault_0 0 rfl rfl)
theorem dX10_fault_1 : decode cX10_fault 1 = .ok (.iconst 0, 1) := dk_3 (dk_at dksX10_fault_0 1 rfl rfl)
theorem dX10_fault_2 : decode cX10_fault 2 = .ok (.putfield 3, 3) := dk_181 0 3 (dk_at dksX10_fault_0 2 rfl rfl)
theorem dX10_fault_5 : decode cX10_fault 5 = .ok (.aload_n 0, 1) := dk_42 (dk_at dksX10_fault_0 5 rfl rfl)
theorem dX10_fault_6 : decode cX10_fault 6 = .ok (.getfield 30, 3) := dk_180 0 30 (dk_at dksX10_fault_0 6 rfl rfl)
theorem dX10_fault_9 : decode cX10_fault 9 = .ok (.ireturn, 1) := dk_172 (dk_at dksX10_fault_0 9 rfl rfl)
abbrev cX10_valley : ByteArray := prog_20_method_60_code
def yX10_valley : MethodName := ⟨RX10, "valley", "()I"⟩
def dkwX10_valley_6 : List UInt8 := [182, 0, 72, 42, 180, 0, 13, 16, 7, 46, 172]
abbrev dktX10_valley_6 : List UInt8 := dkwX10_valley_6 ++ []
def dkwX10_valley_5 : List UInt8 := [167, 255, 234, 3, 172, 42, 180, 0, 13, 16, 7, 92, 46, 4, 96, 79, 42, 3, 181, 0, 79, 42]
abbrev dktX10_valley_5 : List UInt8 := dkwX10_valley_5 ++ dktX10_valley_6
def dkwX10_valley_4 : List UInt8 := [61, 28, 17, 4, 220, 162, 0, 21, 42, 180, 0, 13, 28, 42, 180, 0, 20, 28, 46, 79, 132, 2, 1]
abbrev dktX10_valley_4 : List UInt8 := dkwX10_valley_4 ++ dktX10_valley_5
def dkwX10_valley_3 : List UInt8 := [180, 0, 13, 16, 7, 46, 16, 12, 160, 0, 7, 4, 167, 0, 4, 3, 5, 182, 1, 44, 153, 0, 32, 3]
abbrev dktX10_valley_3 : List UInt8 := dkwX10_valley_3 ++ dktX10_valley_4
def dkwX10_valley_2 : List UInt8 := [181, 0, 30, 42, 27, 156, 0, 7, 4, 167, 0, 4, 3, 4, 182, 1, 44, 154, 0, 28, 42, 42]
abbrev dktX10_valley_2 : List UInt8 := dkwX10_valley_2 ++ dktX10_valley_3
def dkwX10_valley_1 : List UInt8 := [167, 255, 234, 42, 4, 182, 1, 40, 60, 42, 27, 156, 0, 10, 42, 180, 0, 116, 167, 0, 4, 2]
abbrev dktX10_valley_1 : List UInt8 := dkwX10_valley_1 ++ dktX10_valley_2
def dkwX10_valley_0 : List UInt8 := [3, 60, 27, 17, 4, 220, 162, 0, 21, 42, 180, 0, 20, 27, 42, 180, 0, 13, 27, 46, 79, 132, 1, 1]
abbrev dktX10_valley_0 : List UInt8 := dkwX10_valley_0 ++ dktX10_valley_1
theorem dksX10_valley_0 : cX10_valley.data.toList.drop 0 = dktX10_valley_0 := by decide +kernel
theorem dksX10_valley_1 : cX10_valley.data.toList.drop 24 = dktX10_valley_1 := dk_seg dksX10_valley_0 24 rfl rfl
theorem dksX10_valley_2 : cX10_valley.data.toList.drop 46 = dktX10_valley_2 := dk_seg dksX10_valley_1 22 rfl rfl
theorem dksX10_valley_3 : cX10_valley.data.toList.drop 68 = dktX10_valley_3 := dk_seg dksX10_valley_2 22 rfl rfl
theorem dksX10_valley_4 : cX10_valley.data.toList.drop 92 = dktX10_valley_4 := dk_seg dksX10_valley_3 24 rfl rfl
theorem dksX10_valley_5 : cX10_valley.data.toList.drop 115 = dktX10_valley_5 := dk_seg dksX10_valley_4 23 rfl rfl
theorem dksX10_valley_6 : cX10_valley.data.toList.drop 137 = dktX10_valley_6 := dk_seg dksX10_valley_5 22 rfl rfl
theorem dX10_valley_0 : decode cX10_valley 0 = .ok (.iconst 0, 1) := dk_3 (dk_at dksX10_valley_0 0 rfl rfl)
theorem dX10_valley_1 : decode cX10_valley 1 = .ok (.istore_n 1, 1) := dk_60 (dk_at dksX10_valley_0 1 rfl rfl)
theorem dX10_valley_2 : decode cX10_valley 2 = .ok (.iload_n 1, 1) := dk_27 (dk_at dksX10_valley_0 2 rfl rfl)
theorem dX10_valley_3 : decode cX10_valley 3 = .ok (.sipush 1244, 3) := dk_17 4 220 (dk_at dksX10_valley_0 3 rfl rfl)
theorem dX10_valley_6 : decode cX10_valley 6 = .ok (.if_icmp .ge 21, 3) := dk_162 0 21 (dk_at dksX10_valley_0 6 rfl rfl)
theorem dX10_valley_9 : decode cX10_valley 9 = .ok (.aload_n 0, 1) := dk_42 (dk_at dksX10_valley_0 9 rfl rfl)
theorem dX10_valley_10 : decode cX10_valley 10 = .ok (.getfield 20, 3) := dk_180 0 20 (dk_at dksX10_valley_0 10 rfl rfl)
theorem dX10_valley_13 : decode cX10_valley 13 = .ok (.iload_n 1, 1) := dk_27 (dk_at dksX10_valley_0 13 rfl rfl)
theorem dX10_valley_14 : decode cX10_valley 14 = .ok (.aload_n 0, 1) := dk_42 (dk_at dksX10_valley_0 14 rfl rfl)
theorem dX10_valley_15 : decode cX10_valley 15 = .ok (.getfield 13, 3) := dk_180 0 13 (dk_at dksX10_valley_0 15 rfl rfl)
theorem dX10_valley_18 : decode cX10_valley 18 = .ok (.iload_n 1, 1) := dk_27 (dk_at dksX10_valley_0 18 rfl rfl)
theorem dX10_valley_19 : decode cX10_valley 19 = .ok (.iaload, 1) := dk_46 (dk_at dksX10_valley_0 19 rfl rfl)
theorem dX10_valley_20 : decode cX10_valley 20 = .ok (.iastore, 1) := dk_79 (dk_at dksX10_valley_0 20 rfl rfl)
theorem dX10_valley_21 : decode cX10_valley 21 = .ok (.iinc 1 1, 3) := dk_132 1 1 (dk_at dksX10_valley_0 21 rfl rfl)
theorem dX10_valley_24 : decode cX10_valley 24 = .ok (.goto (-22), 3) := dk_167 255 234 (dk_at dksX10_valley_1 0 rfl rfl)
theorem dX10_valley_27 : decode cX10_valley 27 = .ok (.aload_n 0, 1) := dk_42 (dk_at dksX10_valley_1 3 rfl rfl)
theorem dX10_valley_28 : decode cX10_valley 28 = .ok (.iconst 1, 1) := dk_4 (dk_at dksX10_valley_1 4 rfl rfl)
theorem dX10_valley_29 : decode cX10_valley 29 = .ok (.invokevirtual 296, 3) := dk_182 1 40 (dk_at dksX10_valley_1 5 rfl rfl)
theorem dX10_valley_32 : decode cX10_valley 32 = .ok (.istore_n 1, 1) := dk_60 (dk_at dksX10_valley_1 8 rfl rfl)
theorem dX10_valley_33 : decode cX10_valley 33 = .ok (.aload_n 0, 1) := dk_42 (dk_at dksX10_valley_1 9 rfl rfl)
theorem dX10_valley_34 : decode cX10_valley 34 = .ok (.iload_n 1, 1) := dk_27 (dk_at dksX10_valley_1 10 rfl rfl)
theorem dX10_valley_35 : decode cX10_valley 35 = .ok (.ifCond .ge 10, 3) := dk_156 0 10 (dk_at dksX10_valley_1 11 rfl rfl)
theorem dX10_valley_38 : decode cX10_valley 38 = .ok (.aload_n 0, 1) := dk_42 (dk_at dksX10_valley_1 14 rfl rfl)
theorem dX10_valley_39 : decode cX10_valley 39 = .ok (.getfield 116, 3) := dk_180 0 116 (dk_at dksX10_valley_1 15 rfl rfl)
theorem dX10_valley_42 : decode cX10_valley 42 = .ok (.goto 4, 3) := dk_167 0 4 (dk_at dksX10_valley_1 18 rfl rfl)
theorem dX10_valley_45 : decode cX10_valley 45 = .ok (.iconst (-1), 1) := dk_2 (dk_at dksX10_valley_1 21 rfl rfl)
theorem dX10_valley_46 : decode cX10_valley 46 = .ok (.putfield 30, 3) := dk_181 0 30 (dk_at dksX10_valley_2 0 rfl rfl)
theorem dX10_valley_49 : decode cX10_valley 49 = .ok (.aload_n 0, 1) := dk_42 (dk_at dksX10_valley_2 3 rfl rfl)
theorem dX10_valley_50 : decode cX10_valley 50 = .ok (.iload_n 1, 1) := dk_27 (dk_at dksX10_valley_2 4 rfl rfl)
theorem dX10_valley_51 : decode cX10_valley 51 = .ok (.ifCond .ge 7, 3) := dk_156 0 7 (dk_at dksX10_valley_2 5 rfl rfl)
theorem dX10_valley_54 : decode cX10_valley 54 = .ok (.iconst 1, 1) := dk_4 (dk_at dksX10_valley_2 8 rfl rfl)
theorem dX10_valley_55 : decode cX10_valley 55 = .ok (.goto 4, 3) := dk_167 0 4 (dk_at dksX10_valley_2 9 rfl rfl)
theorem dX10_valley_58 : decode cX10_valley 58 = .ok (.iconst 0, 1) := dk_3 (dk_at dksX10_valley_2 12 rfl rfl)
theorem dX10_valley_59 : decode cX10_valley 59 = .ok (.iconst 1, 1) := dk_4 (dk_at dksX10_valley_2 13 rfl rfl)
theorem dX10_valley_60 : decode cX10_valley 60 = .ok (.invokevirtual 300, 3) := dk_182 1 44 (dk_at dksX10_valley_2 14 rfl rfl)
theorem dX10_valley_63 : decode cX10_valley 63 = .ok (.ifCond .ne 28, 3) := dk_154 0 28 (dk_at dksX10_valley_2 17 rfl rfl)
theorem dX10_valley_66 : decode cX10_valley 66 = .ok (.aload_n 0, 1) := dk_42 (dk_at dksX10_valley_2 20 rfl rfl)
theorem dX10_valley_67 : decode cX10_valley 67 = .ok (.aload_n 0, 1) := dk_42 (dk_at dksX10_valley_2 21 rfl rfl)
theorem dX10_valley_68 : decode cX10_valley 68 = .ok (.getfield 13, 3) := dk_180 0 13 (dk_at dksX10_valley_3 0 rfl rfl)
theorem dX10_valley_71 : decode cX10_valley 71 = .ok (.bipush 7, 2) := dk_16 7 (dk_at dksX10_valley_3 3 rfl rfl)
theorem dX10_valley_73 : decode cX10_valley 73 = .ok (.iaload, 1) := dk_46 (dk_at dksX10_valley_3 5 rfl rfl)
theorem dX10_valley_74 : decode cX10_valley 74 = .ok (.bipush 12, 2) := dk_16 12 (dk_at dksX10_valley_3 6 rfl rfl)
theorem dX10_valley_76 : decode cX10_valley 76 = .ok (.if_icmp .ne 7, 3) := dk_160 0 7 (dk_at dksX10_valley_3 8 rfl rfl)
theorem dX10_valley_79 : decode cX10_valley 79 = .ok (.iconst 1, 1) := dk_4 (dk_at dksX10_valley_3 11 rfl rfl)
theorem dX10_valley_80 : decode cX10_valley 80 = .ok (.goto 4, 3) := dk_167 0 4 (dk_at dksX10_valley_3 12 rfl rfl)
theorem dX10_valley_83 : decode cX10_valley 83 = .ok (.iconst 0, 1) := dk_3 (dk_at dksX10_valley_3 15 rfl rfl)
theorem dX10_valley_84 : decode cX10_valley 84 = .ok (.iconst 2, 1) := dk_5 (dk_at dksX10_valley_3 16 rfl rfl)
theorem dX10_valley_85 : decode cX10_valley 85 = .ok (.invokevirtual 300, 3) := dk_182 1 44 (dk_at dksX10_valley_3 17 rfl rfl)
theorem dX10_valley_88 : decode cX10_valley 88 = .ok (.ifCond .eq 32, 3) := dk_153 0 32 (dk_at dksX10_valley_3 20 rfl rfl)
theorem dX10_valley_91 : decode cX10_valley 91 = .ok (.iconst 0, 1) := dk_3 (dk_at dksX10_valley_3 23 rfl rfl)
theorem dX10_valley_92 : decode cX10_valley 92 = .ok (.istore_n 2, 1) := dk_61 (dk_at dksX10_valley_4 0 rfl rfl)
theorem dX10_valley_93 : decode cX10_valley 93 = .ok (.iload_n 2, 1) := dk_28 (dk_at dksX10_valley_4 1 rfl rfl)
theorem dX10_valley_94 : decode cX10_valley 94 = .ok (.sipush 1244, 3) := dk_17 4 220 (dk_at dksX10_valley_4 2 rfl rfl)
theorem dX10_valley_97 : decode cX10_valley 97 = .ok (.if_icmp .ge 21, 3) := dk_162 0 21 (dk_at dksX10_valley_4 5 rfl rfl)
theorem dX10_valley_100 : decode cX10_valley 100 = .ok (.aload_n 0, 1) := dk_42 (dk_at dksX10_valley_4 8 rfl rfl)
theorem dX10_valley_101 : decode cX10_valley 101 = .ok (.getfield 13, 3) := dk_180 0 13 (dk_at dksX10_valley_4 9 rfl rfl)
theorem dX10_valley_104 : decode cX10_valley 104 = .ok (.iload_n 2, 1) := dk_28 (dk_at dksX10_valley_4 12 rfl rfl)
theorem dX10_valley_105 : decode cX10_valley 105 = .ok (.aload_n 0, 1) := dk_42 (dk_at dksX10_valley_4 13 rfl rfl)
theorem dX10_valley_106 : decode cX10_valley 106 = .ok (.getfield 20, 3) := dk_180 0 20 (dk_at dksX10_valley_4 14 rfl rfl)
theorem dX10_valley_109 : decode cX10_valley 109 = .ok (.iload_n 2, 1) := dk_28 (dk_at dksX10_valley_4 17 rfl rfl)
theorem dX10_valley_110 : decode cX10_valley 110 = .ok (.iaload, 1) := dk_46 (dk_at dksX10_valley_4 18 rfl rfl)
theorem dX10_valley_111 : decode cX10_valley 111 = .ok (.iastore, 1) := dk_79 (dk_at dksX10_valley_4 19 rfl rfl)
theorem dX10_valley_112 : decode cX10_valley 112 = .ok (.iinc 2 1, 3) := dk_132 2 1 (dk_at dksX10_valley_4 20 rfl rfl)
theorem dX10_valley_115 : decode cX10_valley 115 = .ok (.goto (-22), 3) := dk_167 255 234 (dk_at dksX10_valley_5 0 rfl rfl)
theorem dX10_valley_118 : decode cX10_valley 118 = .ok (.iconst 0, 1) := dk_3 (dk_at dksX10_valley_5 3 rfl rfl)
theorem dX10_valley_119 : decode cX10_valley 119 = .ok (.ireturn, 1) := dk_172 (dk_at dksX10_valley_5 4 rfl rfl)
theorem dX10_valley_120 : decode cX10_valley 120 = .ok (.aload_n 0, 1) := dk_42 (dk_at dksX10_valley_5 5 rfl rfl)
theorem dX10_valley_121 : decode cX10_valley 121 = .ok (.getfield 13, 3) := dk_180 0 13 (dk_at dksX10_valley_5 6 rfl rfl)
theorem dX10_valley_124 : decode cX10_valley 124 = .ok (.bipush 7, 2) := dk_16 7 (dk_at dksX10_valley_5 9 rfl rfl)
theorem dX10_valley_126 : decode cX10_valley 126 = .ok (.dup2, 1) := dk_92 (dk_at dksX10_valley_5 11 rfl rfl)
theorem dX10_valley_127 : decode cX10_valley 127 = .ok (.iaload, 1) := dk_46 (dk_at dksX10_valley_5 12 rfl rfl)
theorem dX10_valley_128 : decode cX10_valley 128 = .ok (.iconst 1, 1) := dk_4 (dk_at dksX10_valley_5 13 rfl rfl)
theorem dX10_valley_129 : decode cX10_valley 129 = .ok (.iadd, 1) := dk_96 (dk_at dksX10_valley_5 14 rfl rfl)
theorem dX10_valley_130 : decode cX10_valley 130 = .ok (.iastore, 1) := dk_79 (dk_at dksX10_valley_5 15 rfl rfl)
theorem dX10_valley_131 : decode cX10_valley 131 = .ok (.aload_n 0, 1) := dk_42 (dk_at dksX10_valley_5 16 rfl rfl)
theorem dX10_valley_132 : decode cX10_valley 132 = .ok (.iconst 0, 1) := dk_3 (dk_at dksX10_valley_5 17 rfl rfl)
theorem dX10_valley_133 : decode cX10_valley 133 = .ok (.putfield 79, 3) := dk_181 0 79 (dk_at dksX10_valley_5 18 rfl rfl)
theorem dX10_valley_136 : decode cX10_valley 136 = .ok (.aload_n 0, 1) := dk_42 (dk_at dksX10_valley_5 21 rfl rfl)
theorem dX10_valley_137 : decode cX10_valley 137 = .ok (.invokevirtual 72, 3) := dk_182 0 72 (dk_at dksX10_valley_6 0 rfl rfl)
theorem dX10_valley_140 : decode cX10_valley 140 = .ok (.aload_n 0, 1) := dk_42 (dk_at dksX10_valley_6 3 rfl rfl)
theorem dX10_valley_141 : decode cX10_valley 141 = .ok (.getfield 13, 3) := dk_180 0 13 (dk_at dksX10_valley_6 4 rfl rfl)
theorem dX10_valley_144 : decode cX10_valley 144 = .ok (.bipush 7, 2) := dk_16 7 (dk_at dksX10_valley_6 7 rfl rfl)
theorem dX10_valley_146 : decode cX10_valley 146 = .ok (.iaload, 1) := dk_46 (dk_at dksX10_valley_6 9 rfl rfl)
theorem dX10_valley_147 : decode cX10_valley 147 = .ok (.ireturn, 1) := dk_172 (dk_at dksX10_valley_6 10 rfl rfl)
abbrev cX10_readAll : ByteArray := prog_20_method_59_code
def yX10_readAll : MethodName := ⟨RX10, "readAll", "(Z)I"⟩
def dkwX10_readAll_3 : List UInt8 := [89, 180, 0, 106, 4, 96, 181, 0, 106, 132, 2, 1, 167, 255, 200]
abbrev dktX10_readAll_3 : List UInt8 := dkwX10_readAll_3 ++ []
def dkwX10_readAll_2 : List UInt8 := [180, 0, 109, 160, 0, 7, 28, 4, 96, 172, 42, 16, 59, 16, 59, 182, 0, 112, 154, 0, 5, 2, 172, 42]
abbrev dktX10_readAll_2 : List UInt8 := dkwX10_readAll_2 ++ dktX10_readAll_3
def dkwX10_readAll_1 : List UInt8 := [3, 172, 3, 61, 42, 27, 28, 182, 1, 36, 154, 0, 5, 2, 172, 42, 182, 0, 119, 42, 180, 0, 106, 42]
abbrev dktX10_readAll_1 : List UInt8 := dkwX10_readAll_1 ++ dktX10_readAll_2
def dkwX10_readAll_0 : List UInt8 := [42, 182, 1, 33, 42, 3, 181, 0, 224, 42, 182, 0, 119, 42, 180, 0, 106, 42, 180, 0, 109, 160, 0, 5]
abbrev dktX10_readAll_0 : List UInt8 := dkwX10_readAll_0 ++ dktX10_readAll_1
theorem dksX10_readAll_0 : cX10_readAll.data.toList.drop 0 = dktX10_readAll_0 := by decide +kernel
theorem dksX10_readAll_1 : cX10_readAll.data.toList.drop 24 = dktX10_readAll_1 := dk_seg dksX10_readAll_0 24 rfl rfl
theorem dksX10_readAll_2 : cX10_readAll.data.toList.drop 48 = dktX10_readAll_2 := dk_seg dksX10_readAll_1 24 rfl rfl
theorem dksX10_readAll_3 : cX10_readAll.data.toList.drop 72 = dktX10_readAll_3 := dk_seg dksX10_readAll_2 24 rfl rfl
theorem dX10_readAll_0 : decode cX10_readAll 0 = .ok (.aload_n 0, 1) := dk_42 (dk_at dksX10_readAll_0 0 rfl rfl)
theorem dX10_readAll_1 : decode cX10_readAll 1 = .ok (.invokevirtual 289, 3) := dk_182 1 33 (dk_at dksX10_readAll_0 1 rfl rfl)
theorem dX10_readAll_4 : decode cX10_readAll 4 = .ok (.aload_n 0, 1) := dk_42 (dk_at dksX10_readAll_0 4 rfl rfl)
theorem dX10_readAll_5 : decode cX10_readAll 5 = .ok (.iconst 0, 1) := dk_3 (dk_at dksX10_readAll_0 5 rfl rfl)
theorem dX10_readAll_6 : decode cX10_readAll 6 = .ok (.putfield 224, 3) := dk_181 0 224 (dk_at dksX10_readAll_0 6 rfl rfl)
theorem dX10_readAll_9 : decode cX10_readAll 9 = .ok (.aload_n 0, 1) := dk_42 (dk_at dksX10_readAll_0 9 rfl rfl)
theorem dX10_readAll_10 : decode cX10_readAll 10 = .ok (.invokevirtual 119, 3) := dk_182 0 119 (dk_at dksX10_readAll_0 10 rfl rfl)
theorem dX10_readAll_13 : decode cX10_readAll 13 = .ok (.aload_n 0, 1) := dk_42 (dk_at dksX10_readAll_0 13 rfl rfl)
theorem dX10_readAll_14 : decode cX10_readAll 14 = .ok (.getfield 106, 3) := dk_180 0 106 (dk_at dksX10_readAll_0 14 rfl rfl)
theorem dX10_readAll_17 : decode cX10_readAll 17 = .ok (.aload_n 0, 1) := dk_42 (dk_at dksX10_readAll_0 17 rfl rfl)
theorem dX10_readAll_18 : decode cX10_readAll 18 = .ok (.getfield 109, 3) := dk_180 0 109 (dk_at dksX10_readAll_0 18 rfl rfl)
theorem dX10_readAll_21 : decode cX10_readAll 21 = .ok (.if_icmp .ne 5, 3) := dk_160 0 5 (dk_at dksX10_readAll_0 21 rfl rfl)
theorem dX10_readAll_24 : decode cX10_readAll 24 = .ok (.iconst 0, 1) := dk_3 (dk_at dksX10_readAll_1 0 rfl rfl)
theorem dX10_readAll_25 : decode cX10_readAll 25 = .ok (.ireturn, 1) := dk_172 (dk_at dksX10_readAll_1 1 rfl rfl)
theorem dX10_readAll_26 : decode cX10_readAll 26 = .ok (.iconst 0, 1) := dk_3 (dk_at dksX10_readAll_1 2 rfl rfl)
theorem dX10_readAll_27 : decode cX10_readAll 27 = .ok (.istore_n 2, 1) := dk_61 (dk_at dksX10_readAll_1 3 rfl rfl)
theorem dX10_readAll_28 : decode cX10_readAll 28 = .ok (.aload_n 0, 1) := dk_42 (dk_at dksX10_readAll_1 4 rfl rfl)
theorem dX10_readAll_29 : decode cX10_readAll 29 = .ok (.iload_n 1, 1) := dk_27 (dk_at dksX10_readAll_1 5 rfl rfl)
theorem dX10_readAll_30 : decode cX10_readAll 30 = .ok (.iload_n 2, 1) := dk_28 (dk_at dksX10_readAll_1 6 rfl rfl)
theorem dX10_readAll_31 : decode cX10_readAll 31 = .ok (.invokevirtual 292, 3) := dk_182 1 36 (dk_at dksX10_readAll_1 7 rfl rfl)
theorem dX10_readAll_34 : decode cX10_readAll 34 = .ok (.ifCond .ne 5, 3) := dk_154 0 5 (dk_at dksX10_readAll_1 10 rfl rfl)
theorem dX10_readAll_37 : decode cX10_readAll 37 = .ok (.iconst (-1), 1) := dk_2 (dk_at dksX10_readAll_1 13 rfl rfl)
theorem dX10_readAll_38 : decode cX10_readAll 38 = .ok (.ireturn, 1) := dk_172 (dk_at dksX10_readAll_1 14 rfl rfl)
theorem dX10_readAll_39 : decode cX10_readAll 39 = .ok (.aload_n 0, 1) := dk_42 (dk_at dksX10_readAll_1 15 rfl rfl)
theorem dX10_readAll_40 : decode cX10_readAll 40 = .ok (.invokevirtual 119, 3) := dk_182 0 119 (dk_at dksX10_readAll_1 16 rfl rfl)
theorem dX10_readAll_43 : decode cX10_readAll 43 = .ok (.aload_n 0, 1) := dk_42 (dk_at dksX10_readAll_1 19 rfl rfl)
theorem dX10_readAll_44 : decode cX10_readAll 44 = .ok (.getfield 106, 3) := dk_180 0 106 (dk_at dksX10_readAll_1 20 rfl rfl)
theorem dX10_readAll_47 : decode cX10_readAll 47 = .ok (.aload_n 0, 1) := dk_42 (dk_at dksX10_readAll_1 23 rfl rfl)
theorem dX10_readAll_48 : decode cX10_readAll 48 = .ok (.getfield 109, 3) := dk_180 0 109 (dk_at dksX10_readAll_2 0 rfl rfl)
theorem dX10_readAll_51 : decode cX10_readAll 51 = .ok (.if_icmp .ne 7, 3) := dk_160 0 7 (dk_at dksX10_readAll_2 3 rfl rfl)
theorem dX10_readAll_54 : decode cX10_readAll 54 = .ok (.iload_n 2, 1) := dk_28 (dk_at dksX10_readAll_2 6 rfl rfl)
theorem dX10_readAll_55 : decode cX10_readAll 55 = .ok (.iconst 1, 1) := dk_4 (dk_at dksX10_readAll_2 7 rfl rfl)
theorem dX10_readAll_56 : decode cX10_readAll 56 = .ok (.iadd, 1) := dk_96 (dk_at dksX10_readAll_2 8 rfl rfl)
theorem dX10_readAll_57 : decode cX10_readAll 57 = .ok (.ireturn, 1) := dk_172 (dk_at dksX10_readAll_2 9 rfl rfl)
theorem dX10_readAll_58 : decode cX10_readAll 58 = .ok (.aload_n 0, 1) := dk_42 (dk_at dksX10_readAll_2 10 rfl rfl)
theorem dX10_readAll_59 : decode cX10_readAll 59 = .ok (.bipush 59, 2) := dk_16 59 (dk_at dksX10_readAll_2 11 rfl rfl)
theorem dX10_readAll_61 : decode cX10_readAll 61 = .ok (.bipush 59, 2) := dk_16 59 (dk_at dksX10_readAll_2 13 rfl rfl)
theorem dX10_readAll_63 : decode cX10_readAll 63 = .ok (.invokevirtual 112, 3) := dk_182 0 112 (dk_at dksX10_readAll_2 15 rfl rfl)
theorem dX10_readAll_66 : decode cX10_readAll 66 = .ok (.ifCond .ne 5, 3) := dk_154 0 5 (dk_at dksX10_readAll_2 18 rfl rfl)
theorem dX10_readAll_69 : decode cX10_readAll 69 = .ok (.iconst (-1), 1) := dk_2 (dk_at dksX10_readAll_2 21 rfl rfl)
theorem dX10_readAll_70 : decode cX10_readAll 70 = .ok (.ireturn, 1) := dk_172 (dk_at dksX10_readAll_2 22 rfl rfl)
theorem dX10_readAll_71 : decode cX10_readAll 71 = .ok (.aload_n 0, 1) := dk_42 (dk_at dksX10_readAll_2 23 rfl rfl)
theorem dX10_readAll_72 : decode cX10_readAll 72 = .ok (.dup, 1) := dk_89 (dk_at dksX10_readAll_3 0 rfl rfl)
theorem dX10_readAll_73 : decode cX10_readAll 73 = .ok (.getfield 106, 3) := dk_180 0 106 (dk_at dksX10_readAll_3 1 rfl rfl)
theorem dX10_readAll_76 : decode cX10_readAll 76 = .ok (.iconst 1, 1) := dk_4 (dk_at dksX10_readAll_3 4 rfl rfl)
theorem dX10_readAll_77 : decode cX10_readAll 77 = .ok (.iadd, 1) := dk_96 (dk_at dksX10_readAll_3 5 rfl rfl)
theorem dX10_readAll_78 : decode cX10_readAll 78 = .ok (.putfield 106, 3) := dk_181 0 106 (dk_at dksX10_readAll_3 6 rfl rfl)
theorem dX10_readAll_81 : decode cX10_readAll 81 = .ok (.iinc 2 1, 3) := dk_132 2 1 (dk_at dksX10_readAll_3 9 rfl rfl)
theorem dX10_readAll_84 : decode cX10_readAll 84 = .ok (.goto (-56), 3) := dk_167 255 200 (dk_at dksX10_readAll_3 12 rfl rfl)
abbrev cX10_uses : ByteArray := prog_20_method_36_code
def yX10_uses : MethodName := ⟨RX10, "uses", "()V"⟩
def dkwX10_uses_0 : List UInt8 := [42, 3, 181, 0, 3, 42, 42, 180, 0, 103, 181, 0, 109, 42, 3, 181, 0, 103, 42, 3, 181, 0, 106, 177]
abbrev dktX10_uses_0 : List UInt8 := dkwX10_uses_0 ++ []
theorem dksX10_uses_0 : cX10_uses.data.toList.drop 0 = dktX10_uses_0 := by decide +kernel
theorem dX10_uses_0 : decode cX10_uses 0 = .ok (.aload_n 0, 1) := dk_42 (dk_at dksX10_uses_0 0 rfl rfl)
theorem dX10_uses_1 : decode cX10_uses 1 = .ok (.iconst 0, 1) := dk_3 (dk_at dksX10_uses_0 1 rfl rfl)
theorem dX10_uses_2 : decode cX10_uses 2 = .ok (.putfield 3, 3) := dk_181 0 3 (dk_at dksX10_uses_0 2 rfl rfl)
theorem dX10_uses_5 : decode cX10_uses 5 = .ok (.aload_n 0, 1) := dk_42 (dk_at dksX10_uses_0 5 rfl rfl)
theorem dX10_uses_6 : decode cX10_uses 6 = .ok (.aload_n 0, 1) := dk_42 (dk_at dksX10_uses_0 6 rfl rfl)
theorem dX10_uses_7 : decode cX10_uses 7 = .ok (.getfield 103, 3) := dk_180 0 103 (dk_at dksX10_uses_0 7 rfl rfl)
theorem dX10_uses_10 : decode cX10_uses 10 = .ok (.putfield 109, 3) := dk_181 0 109 (dk_at dksX10_uses_0 10 rfl rfl)
theorem dX10_uses_13 : decode cX10_uses 13 = .ok (.aload_n 0, 1) := dk_42 (dk_at dksX10_uses_0 13 rfl rfl)
theorem dX10_uses_14 : decode cX10_uses 14 = .ok (.iconst 0, 1) := dk_3 (dk_at dksX10_uses_0 14 rfl rfl)
theorem dX10_uses_15 : decode cX10_uses 15 = .ok (.putfield 103, 3) := dk_181 0 103 (dk_at dksX10_uses_0 15 rfl rfl)
theorem dX10_uses_18 : decode cX10_uses 18 = .ok (.aload_n 0, 1) := dk_42 (dk_at dksX10_uses_0 18 rfl rfl)
theorem dX10_uses_19 : decode cX10_uses 19 = .ok (.iconst 0, 1) := dk_3 (dk_at dksX10_uses_0 19 rfl rfl)
theorem dX10_uses_20 : decode cX10_uses 20 = .ok (.putfield 106, 3) := dk_181 0 106 (dk_at dksX10_uses_0 20 rfl rfl)
theorem dX10_uses_23 : decode cX10_uses 23 = .ok (.return_, 1) := dk_177 (dk_at dksX10_uses_0 23 rfl rfl)
abbrev cX10_blanks : ByteArray := prog_20_method_27_code
def yX10_blanks : MethodName := ⟨RX10, "blanks", "()V"⟩
def dkwX10_blanks_1 : List UInt8 := [42, 42, 180, 0, 106, 181, 0, 116, 177]
abbrev dktX10_blanks_1 : List UInt8 := dkwX10_blanks_1 ++ []
def dkwX10_blanks_0 : List UInt8 := [42, 16, 32, 16, 32, 182, 0, 112, 153, 0, 16, 42, 89, 180, 0, 106, 4, 96, 181, 0, 106, 167, 255, 235]
abbrev dktX10_blanks_0 : List UInt8 := dkwX10_blanks_0 ++ dktX10_blanks_1
theorem dksX10_blanks_0 : cX10_blanks.data.toList.drop 0 = dktX10_blanks_0 := by decide +kernel
theorem dksX10_blanks_1 : cX10_blanks.data.toList.drop 24 = dktX10_blanks_1 := dk_seg dksX10_blanks_0 24 rfl rfl
theorem dX10_blanks_0 : decode cX10_blanks 0 = .ok (.aload_n 0, 1) := dk_42 (dk_at dksX10_blanks_0 0 rfl rfl)
theorem dX10_blanks_1 : decode cX10_blanks 1 = .ok (.bipush 32, 2) := dk_16 32 (dk_at dksX10_blanks_0 1 rfl rfl)
theorem dX10_blanks_3 : decode cX10_blanks 3 = .ok (.bipush 32, 2) := dk_16 32 (dk_at dksX10_blanks_0 3 rfl rfl)
theorem dX10_blanks_5 : decode cX10_blanks 5 = .ok (.invokevirtual 112, 3) := dk_182 0 112 (dk_at dksX10_blanks_0 5 rfl rfl)
theorem dX10_blanks_8 : decode cX10_blanks 8 = .ok (.ifCond .eq 16, 3) := dk_153 0 16 (dk_at dksX10_blanks_0 8 rfl rfl)
theorem dX10_blanks_11 : decode cX10_blanks 11 = .ok (.aload_n 0, 1) := dk_42 (dk_at dksX10_blanks_0 11 rfl rfl)
theorem dX10_blanks_12 : decode cX10_blanks 12 = .ok (.dup, 1) := dk_89 (dk_at dksX10_blanks_0 12 rfl rfl)
theorem dX10_blanks_13 : decode cX10_blanks 13 = .ok (.getfield 106, 3) := dk_180 0 106 (dk_at dksX10_blanks_0 13 rfl rfl)
theorem dX10_blanks_16 : decode cX10_blanks 16 = .ok (.iconst 1, 1) := dk_4 (dk_at dksX10_blanks_0 16 rfl rfl)
theorem dX10_blanks_17 : decode cX10_blanks 17 = .ok (.iadd, 1) := dk_96 (dk_at dksX10_blanks_0 17 rfl rfl)
theorem dX10_blanks_18 : decode cX10_blanks 18 = .ok (.putfield 106, 3) := dk_181 0 106 (dk_at dksX10_blanks_0 18 rfl rfl)
theorem dX10_blanks_21 : decode cX10_blanks 21 = .ok (.goto (-21), 3) := dk_167 255 235 (dk_at dksX10_blanks_0 21 rfl rfl)
theorem dX10_blanks_24 : decode cX10_blanks 24 = .ok (.aload_n 0, 1) := dk_42 (dk_at dksX10_blanks_1 0 rfl rfl)
theorem dX10_blanks_25 : decode cX10_blanks 25 = .ok (.aload_n 0, 1) := dk_42 (dk_at dksX10_blanks_1 1 rfl rfl)
theorem dX10_blanks_26 : decode cX10_blanks 26 = .ok (.getfield 106, 3) := dk_180 0 106 (dk_at dksX10_blanks_1 2 rfl rfl)
theorem dX10_blanks_29 : decode cX10_blanks 29 = .ok (.putfield 116, 3) := dk_181 0 116 (dk_at dksX10_blanks_1 5 rfl rfl)
theorem dX10_blanks_32 : decode cX10_blanks 32 = .ok (.return_, 1) := dk_177 (dk_at dksX10_blanks_1 8 rfl rfl)
abbrev cX10_isAt : ByteArray := prog_20_method_26_code
def yX10_isAt : MethodName := ⟨RX10, "isAt", "(II)Z"⟩
def dkwX10_isAt_1 : List UInt8 := [42, 180, 0, 26, 42, 180, 0, 106, 51, 28, 163, 0, 7, 4, 167, 0, 4, 3, 172]
abbrev dktX10_isAt_1 : List UInt8 := dkwX10_isAt_1 ++ []
def dkwX10_isAt_0 : List UInt8 := [42, 180, 0, 106, 42, 180, 0, 109, 162, 0, 33, 42, 180, 0, 26, 42, 180, 0, 106, 51, 27, 161, 0, 20]
abbrev dktX10_isAt_0 : List UInt8 := dkwX10_isAt_0 ++ dktX10_isAt_1
theorem dksX10_isAt_0 : cX10_isAt.data.toList.drop 0 = dktX10_isAt_0 := by decide +kernel
theorem dksX10_isAt_1 : cX10_isAt.data.toList.drop 24 = dktX10_isAt_1 := dk_seg dksX10_isAt_0 24 rfl rfl
theorem dX10_isAt_0 : decode cX10_isAt 0 = .ok (.aload_n 0, 1) := dk_42 (dk_at dksX10_isAt_0 0 rfl rfl)
theorem dX10_isAt_1 : decode cX10_isAt 1 = .ok (.getfield 106, 3) := dk_180 0 106 (dk_at dksX10_isAt_0 1 rfl rfl)
theorem dX10_isAt_4 : decode cX10_isAt 4 = .ok (.aload_n 0, 1) := dk_42 (dk_at dksX10_isAt_0 4 rfl rfl)
theorem dX10_isAt_5 : decode cX10_isAt 5 = .ok (.getfield 109, 3) := dk_180 0 109 (dk_at dksX10_isAt_0 5 rfl rfl)
theorem dX10_isAt_8 : decode cX10_isAt 8 = .ok (.if_icmp .ge 33, 3) := dk_162 0 33 (dk_at dksX10_isAt_0 8 rfl rfl)
theorem dX10_isAt_11 : decode cX10_isAt 11 = .ok (.aload_n 0, 1) := dk_42 (dk_at dksX10_isAt_0 11 rfl rfl)
theorem dX10_isAt_12 : decode cX10_isAt 12 = .ok (.getfield 26, 3) := dk_180 0 26 (dk_at dksX10_isAt_0 12 rfl rfl)
theorem dX10_isAt_15 : decode cX10_isAt 15 = .ok (.aload_n 0, 1) := dk_42 (dk_at dksX10_isAt_0 15 rfl rfl)
theorem dX10_isAt_16 : decode cX10_isAt 16 = .ok (.getfield 106, 3) := dk_180 0 106 (dk_at dksX10_isAt_0 16 rfl rfl)
theorem dX10_isAt_19 : decode cX10_isAt 19 = .ok (.baload, 1) := dk_51 (dk_at dksX10_isAt_0 19 rfl rfl)
theorem dX10_isAt_20 : decode cX10_isAt 20 = .ok (.iload_n 1, 1) := dk_27 (dk_at dksX10_isAt_0 20 rfl rfl)
theorem dX10_isAt_21 : decode cX10_isAt 21 = .ok (.if_icmp .lt 20, 3) := dk_161 0 20 (dk_at dksX10_isAt_0 21 rfl rfl)
theorem dX10_isAt_24 : decode cX10_isAt 24 = .ok (.aload_n 0, 1) := dk_42 (dk_at dksX10_isAt_1 0 rfl rfl)
theorem dX10_isAt_25 : decode cX10_isAt 25 = .ok (.getfield 26, 3) := dk_180 0 26 (dk_at dksX10_isAt_1 1 rfl rfl)
theorem dX10_isAt_28 : decode cX10_isAt 28 = .ok (.aload_n 0, 1) := dk_42 (dk_at dksX10_isAt_1 4 rfl rfl)
theorem dX10_isAt_29 : decode cX10_isAt 29 = .ok (.getfield 106, 3) := dk_180 0 106 (dk_at dksX10_isAt_1 5 rfl rfl)
theorem dX10_isAt_32 : decode cX10_isAt 32 = .ok (.baload, 1) := dk_51 (dk_at dksX10_isAt_1 8 rfl rfl)
theorem dX10_isAt_33 : decode cX10_isAt 33 = .ok (.iload_n 2, 1) := dk_28 (dk_at dksX10_isAt_1 9 rfl rfl)
theorem dX10_isAt_34 : decode cX10_isAt 34 = .ok (.if_icmp .gt 7, 3) := dk_163 0 7 (dk_at dksX10_isAt_1 10 rfl rfl)
theorem dX10_isAt_37 : decode cX10_isAt 37 = .ok (.iconst 1, 1) := dk_4 (dk_at dksX10_isAt_1 13 rfl rfl)
theorem dX10_isAt_38 : decode cX10_isAt 38 = .ok (.goto 4, 3) := dk_167 0 4 (dk_at dksX10_isAt_1 14 rfl rfl)
theorem dX10_isAt_41 : decode cX10_isAt 41 = .ok (.iconst 0, 1) := dk_3 (dk_at dksX10_isAt_1 17 rfl rfl)
theorem dX10_isAt_42 : decode cX10_isAt 42 = .ok (.ireturn, 1) := dk_172 (dk_at dksX10_isAt_1 18 rfl rfl)
abbrev cX10_readLine : ByteArray := prog_20_method_58_code
def yX10_readLine : MethodName := ⟨RX10, "readLine", "(ZI)Z"⟩
def dkwX10_readLine_1 : List UInt8 := [182, 1, 27, 153, 0, 18, 167, 0, 11, 42, 28, 182, 1, 30, 153, 0, 7, 4, 167, 0, 4, 3, 172]
abbrev dktX10_readLine_1 : List UInt8 := dkwX10_readLine_1 ++ []
def dkwX10_readLine_0 : List UInt8 := [42, 182, 0, 131, 28, 27, 153, 0, 8, 16, 14, 167, 0, 5, 16, 12, 162, 0, 29, 27, 153, 0, 13, 42]
abbrev dktX10_readLine_0 : List UInt8 := dkwX10_readLine_0 ++ dktX10_readLine_1
theorem dksX10_readLine_0 : cX10_readLine.data.toList.drop 0 = dktX10_readLine_0 := by decide +kernel
theorem dksX10_readLine_1 : cX10_readLine.data.toList.drop 24 = dktX10_readLine_1 := dk_seg dksX10_readLine_0 24 rfl rfl
theorem dX10_readLine_0 : decode cX10_readLine 0 = .ok (.aload_n 0, 1) := dk_42 (dk_at dksX10_readLine_0 0 rfl rfl)
theorem dX10_readLine_1 : decode cX10_readLine 1 = .ok (.invokevirtual 131, 3) := dk_182 0 131 (dk_at dksX10_readLine_0 1 rfl rfl)
theorem dX10_readLine_4 : decode cX10_readLine 4 = .ok (.iload_n 2, 1) := dk_28 (dk_at dksX10_readLine_0 4 rfl rfl)
theorem dX10_readLine_5 : decode cX10_readLine 5 = .ok (.iload_n 1, 1) := dk_27 (dk_at dksX10_readLine_0 5 rfl rfl)
theorem dX10_readLine_6 : decode cX10_readLine 6 = .ok (.ifCond .eq 8, 3) := dk_153 0 8 (dk_at dksX10_readLine_0 6 rfl rfl)
theorem dX10_readLine_9 : decode cX10_readLine 9 = .ok (.bipush 14, 2) := dk_16 14 (dk_at dksX10_readLine_0 9 rfl rfl)
theorem dX10_readLine_11 : decode cX10_readLine 11 = .ok (.goto 5, 3) := dk_167 0 5 (dk_at dksX10_readLine_0 11 rfl rfl)
theorem dX10_readLine_14 : decode cX10_readLine 14 = .ok (.bipush 12, 2) := dk_16 12 (dk_at dksX10_readLine_0 14 rfl rfl)
theorem dX10_readLine_16 : decode cX10_readLine 16 = .ok (.if_icmp .ge 29, 3) := dk_162 0 29 (dk_at dksX10_readLine_0 16 rfl rfl)
theorem dX10_readLine_19 : decode cX10_readLine 19 = .ok (.iload_n 1, 1) := dk_27 (dk_at dksX10_readLine_0 19 rfl rfl)
theorem dX10_readLine_20 : decode cX10_readLine 20 = .ok (.ifCond .eq 13, 3) := dk_153 0 13 (dk_at dksX10_readLine_0 20 rfl rfl)
theorem dX10_readLine_23 : decode cX10_readLine 23 = .ok (.aload_n 0, 1) := dk_42 (dk_at dksX10_readLine_0 23 rfl rfl)
theorem dX10_readLine_24 : decode cX10_readLine 24 = .ok (.invokevirtual 283, 3) := dk_182 1 27 (dk_at dksX10_readLine_1 0 rfl rfl)
theorem dX10_readLine_27 : decode cX10_readLine 27 = .ok (.ifCond .eq 18, 3) := dk_153 0 18 (dk_at dksX10_readLine_1 3 rfl rfl)
theorem dX10_readLine_30 : decode cX10_readLine 30 = .ok (.goto 11, 3) := dk_167 0 11 (dk_at dksX10_readLine_1 6 rfl rfl)
theorem dX10_readLine_33 : decode cX10_readLine 33 = .ok (.aload_n 0, 1) := dk_42 (dk_at dksX10_readLine_1 9 rfl rfl)
theorem dX10_readLine_34 : decode cX10_readLine 34 = .ok (.iload_n 2, 1) := dk_28 (dk_at dksX10_readLine_1 10 rfl rfl)
theorem dX10_readLine_35 : decode cX10_readLine 35 = .ok (.invokevirtual 286, 3) := dk_182 1 30 (dk_at dksX10_readLine_1 11 rfl rfl)
theorem dX10_readLine_38 : decode cX10_readLine 38 = .ok (.ifCond .eq 7, 3) := dk_153 0 7 (dk_at dksX10_readLine_1 14 rfl rfl)
theorem dX10_readLine_41 : decode cX10_readLine 41 = .ok (.iconst 1, 1) := dk_4 (dk_at dksX10_readLine_1 17 rfl rfl)
theorem dX10_readLine_42 : decode cX10_readLine 42 = .ok (.goto 4, 3) := dk_167 0 4 (dk_at dksX10_readLine_1 18 rfl rfl)
theorem dX10_readLine_45 : decode cX10_readLine 45 = .ok (.iconst 0, 1) := dk_3 (dk_at dksX10_readLine_1 21 rfl rfl)
theorem dX10_readLine_46 : decode cX10_readLine 46 = .ok (.ireturn, 1) := dk_172 (dk_at dksX10_readLine_1 22 rfl rfl)
abbrev cX10_letterRow : ByteArray := prog_20_method_28_code
def yX10_letterRow : MethodName := ⟨RX10, "letterRow", "()V"⟩
def dkwX10_letterRow_1 : List UInt8 := [181, 0, 106, 167, 255, 235, 177]
abbrev dktX10_letterRow_1 : List UInt8 := dkwX10_letterRow_1 ++ []
def dkwX10_letterRow_0 : List UInt8 := [42, 182, 0, 119, 42, 16, 97, 16, 122, 182, 0, 112, 153, 0, 16, 42, 89, 180, 0, 106, 4, 96]
abbrev dktX10_letterRow_0 : List UInt8 := dkwX10_letterRow_0 ++ dktX10_letterRow_1
theorem dksX10_letterRow_0 : cX10_letterRow.data.toList.drop 0 = dktX10_letterRow_0 := by decide +kernel
theorem dksX10_letterRow_1 : cX10_letterRow.data.toList.drop 22 = dktX10_letterRow_1 := dk_seg dksX10_letterRow_0 22 rfl rfl
theorem dX10_letterRow_0 : decode cX10_letterRow 0 = .ok (.aload_n 0, 1) := dk_42 (dk_at dksX10_letterRow_0 0 rfl rfl)
theorem dX10_letterRow_1 : decode cX10_letterRow 1 = .ok (.invokevirtual 119, 3) := dk_182 0 119 (dk_at dksX10_letterRow_0 1 rfl rfl)
theorem dX10_letterRow_4 : decode cX10_letterRow 4 = .ok (.aload_n 0, 1) := dk_42 (dk_at dksX10_letterRow_0 4 rfl rfl)
theorem dX10_letterRow_5 : decode cX10_letterRow 5 = .ok (.bipush 97, 2) := dk_16 97 (dk_at dksX10_letterRow_0 5 rfl rfl)
theorem dX10_letterRow_7 : decode cX10_letterRow 7 = .ok (.bipush 122, 2) := dk_16 122 (dk_at dksX10_letterRow_0 7 rfl rfl)
theorem dX10_letterRow_9 : decode cX10_letterRow 9 = .ok (.invokevirtual 112, 3) := dk_182 0 112 (dk_at dksX10_letterRow_0 9 rfl rfl)
theorem dX10_letterRow_12 : decode cX10_letterRow 12 = .ok (.ifCond .eq 16, 3) := dk_153 0 16 (dk_at dksX10_letterRow_0 12 rfl rfl)
theorem dX10_letterRow_15 : decode cX10_letterRow 15 = .ok (.aload_n 0, 1) := dk_42 (dk_at dksX10_letterRow_0 15 rfl rfl)
theorem dX10_letterRow_16 : decode cX10_letterRow 16 = .ok (.dup, 1) := dk_89 (dk_at dksX10_letterRow_0 16 rfl rfl)
theorem dX10_letterRow_17 : decode cX10_letterRow 17 = .ok (.getfield 106, 3) := dk_180 0 106 (dk_at dksX10_letterRow_0 17 rfl rfl)
theorem dX10_letterRow_20 : decode cX10_letterRow 20 = .ok (.iconst 1, 1) := dk_4 (dk_at dksX10_letterRow_0 20 rfl rfl)
theorem dX10_letterRow_21 : decode cX10_letterRow 21 = .ok (.iadd, 1) := dk_96 (dk_at dksX10_letterRow_0 21 rfl rfl)
theorem dX10_letterRow_22 : decode cX10_letterRow 22 = .ok (.putfield 106, 3) := dk_181 0 106 (dk_at dksX10_letterRow_1 0 rfl rfl)
theorem dX10_letterRow_25 : decode cX10_letterRow 25 = .ok (.goto (-21), 3) := dk_167 255 235 (dk_at dksX10_letterRow_1 3 rfl rfl)
theorem dX10_letterRow_28 : decode cX10_letterRow 28 = .ok (.return_, 1) := dk_177 (dk_at dksX10_letterRow_1 6 rfl rfl)
abbrev cX10_readValleyLine : ByteArray := prog_20_method_50_code
def yX10_readValleyLine : MethodName := ⟨RX10, "readValleyLine", "()Z"⟩
def dkwX10_readValleyLine_7 : List UInt8 := [167, 0, 5, 16, 13, 28, 79, 28, 155, 0, 7, 4, 167, 0, 4, 3, 172]
abbrev dktX10_readValleyLine_7 : List UInt8 := dkwX10_readValleyLine_7 ++ []
def dkwX10_readValleyLine_6 : List UInt8 := [182, 0, 86, 167, 0, 6, 17, 39, 15, 182, 0, 142, 61, 42, 180, 0, 13, 27, 153, 0, 8, 16, 12]
abbrev dktX10_readValleyLine_6 : List UInt8 := dkwX10_readValleyLine_6 ++ dktX10_readValleyLine_7
def dkwX10_readValleyLine_5 : List UInt8 := [60, 27, 154, 0, 14, 42, 18, 222, 182, 0, 134, 154, 0, 5, 3, 172, 42, 3, 27, 153, 0, 10, 42]
abbrev dktX10_readValleyLine_5 : List UInt8 := dkwX10_readValleyLine_5 ++ dktX10_readValleyLine_6
def dkwX10_readValleyLine_4 : List UInt8 := [182, 0, 212, 172, 42, 18, 215, 182, 0, 134, 153, 0, 8, 42, 182, 0, 217, 172, 42, 18, 220, 182, 0, 134]
abbrev dktX10_readValleyLine_4 : List UInt8 := dkwX10_readValleyLine_4 ++ dktX10_readValleyLine_5
def dkwX10_readValleyLine_3 : List UInt8 := [18, 205, 182, 0, 134, 153, 0, 8, 42, 182, 0, 207, 172, 42, 18, 210, 182, 0, 134, 153, 0, 8, 42]
abbrev dktX10_readValleyLine_3 : List UInt8 := dkwX10_readValleyLine_3 ++ dktX10_readValleyLine_4
def dkwX10_readValleyLine_2 : List UInt8 := [153, 0, 8, 42, 182, 0, 197, 172, 42, 18, 200, 182, 0, 134, 153, 0, 8, 42, 182, 0, 202, 172, 42]
abbrev dktX10_readValleyLine_2 : List UInt8 := dkwX10_readValleyLine_2 ++ dktX10_readValleyLine_3
def dkwX10_readValleyLine_1 : List UInt8 := [182, 0, 187, 172, 42, 18, 190, 182, 0, 134, 153, 0, 8, 42, 182, 0, 192, 172, 42, 18, 195, 182, 0, 134]
abbrev dktX10_readValleyLine_1 : List UInt8 := dkwX10_readValleyLine_1 ++ dktX10_readValleyLine_2
def dkwX10_readValleyLine_0 : List UInt8 := [42, 18, 181, 182, 0, 134, 153, 0, 8, 42, 182, 0, 182, 172, 42, 18, 185, 182, 0, 134, 153, 0, 8, 42]
abbrev dktX10_readValleyLine_0 : List UInt8 := dkwX10_readValleyLine_0 ++ dktX10_readValleyLine_1
theorem dksX10_readValleyLine_0 : cX10_readValleyLine.data.toList.drop 0 = dktX10_readValleyLine_0 := by decide +kernel
theorem dksX10_readValleyLine_1 : cX10_readValleyLine.data.toList.drop 24 = dktX10_readValleyLine_1 := dk_seg dksX10_readValleyLine_0 24 rfl rfl
theorem dksX10_readValleyLine_2 : cX10_readValleyLine.data.toList.drop 48 = dktX10_readValleyLine_2 := dk_seg dksX10_readValleyLine_1 24 rfl rfl
theorem dksX10_readValleyLine_3 : cX10_readValleyLine.data.toList.drop 71 = dktX10_readValleyLine_3 := dk_seg dksX10_readValleyLine_2 23 rfl rfl
theorem dksX10_readValleyLine_4 : cX10_readValleyLine.data.toList.drop 94 = dktX10_readValleyLine_4 := dk_seg dksX10_readValleyLine_3 23 rfl rfl
theorem dksX10_readValleyLine_5 : cX10_readValleyLine.data.toList.drop 118 = dktX10_readValleyLine_5 := dk_seg dksX10_readValleyLine_4 24 rfl rfl
theorem dksX10_readValleyLine_6 : cX10_readValleyLine.data.toList.drop 141 = dktX10_readValleyLine_6 := dk_seg dksX10_readValleyLine_5 23 rfl rfl
theorem dksX10_readValleyLine_7 : cX10_readValleyLine.data.toList.drop 164 = dktX10_readValleyLine_7 := dk_seg dksX10_readValleyLine_6 23 rfl rfl
theorem dX10_readValleyLine_0 : decode cX10_readValleyLine 0 = .ok (.aload_n 0, 1) := dk_42 (dk_at dksX10_readValleyLine_0 0 rfl rfl)
theorem dX10_readValleyLine_1 : decode cX10_readValleyLine 1 = .ok (.ldc 181, 2) := dk_18 181 (dk_at dksX10_readValleyLine_0 1 rfl rfl)
theorem dX10_readValleyLine_3 : decode cX10_readValleyLine 3 = .ok (.invokevirtual 134, 3) := dk_182 0 134 (dk_at dksX10_readValleyLine_0 3 rfl rfl)
theorem dX10_readValleyLine_6 : decode cX10_readValleyLine 6 = .ok (.ifCond .eq 8, 3) := dk_153 0 8 (dk_at dksX10_readValleyLine_0 6 rfl rfl)
theorem dX10_readValleyLine_9 : decode cX10_readValleyLine 9 = .ok (.aload_n 0, 1) := dk_42 (dk_at dksX10_readValleyLine_0 9 rfl rfl)
theorem dX10_readValleyLine_10 : decode cX10_readValleyLine 10 = .ok (.invokevirtual 182, 3) := dk_182 0 182 (dk_at dksX10_readValleyLine_0 10 rfl rfl)
theorem dX10_readValleyLine_13 : decode cX10_readValleyLine 13 = .ok (.ireturn, 1) := dk_172 (dk_at dksX10_readValleyLine_0 13 rfl rfl)
theorem dX10_readValleyLine_14 : decode cX10_readValleyLine 14 = .ok (.aload_n 0, 1) := dk_42 (dk_at dksX10_readValleyLine_0 14 rfl rfl)
theorem dX10_readValleyLine_15 : decode cX10_readValleyLine 15 = .ok (.ldc 185, 2) := dk_18 185 (dk_at dksX10_readValleyLine_0 15 rfl rfl)
theorem dX10_readValleyLine_17 : decode cX10_readValleyLine 17 = .ok (.invokevirtual 134, 3) := dk_182 0 134 (dk_at dksX10_readValleyLine_0 17 rfl rfl)
theorem dX10_readValleyLine_20 : decode cX10_readValleyLine 20 = .ok (.ifCond .eq 8, 3) := dk_153 0 8 (dk_at dksX10_readValleyLine_0 20 rfl rfl)
theorem dX10_readValleyLine_23 : decode cX10_readValleyLine 23 = .ok (.aload_n 0, 1) := dk_42 (dk_at dksX10_readValleyLine_0 23 rfl rfl)
theorem dX10_readValleyLine_24 : decode cX10_readValleyLine 24 = .ok (.invokevirtual 187, 3) := dk_182 0 187 (dk_at dksX10_readValleyLine_1 0 rfl rfl)
theorem dX10_readValleyLine_27 : decode cX10_readValleyLine 27 = .ok (.ireturn, 1) := dk_172 (dk_at dksX10_readValleyLine_1 3 rfl rfl)
theorem dX10_readValleyLine_28 : decode cX10_readValleyLine 28 = .ok (.aload_n 0, 1) := dk_42 (dk_at dksX10_readValleyLine_1 4 rfl rfl)
theorem dX10_readValleyLine_29 : decode cX10_readValleyLine 29 = .ok (.ldc 190, 2) := dk_18 190 (dk_at dksX10_readValleyLine_1 5 rfl rfl)
theorem dX10_readValleyLine_31 : decode cX10_readValleyLine 31 = .ok (.invokevirtual 134, 3) := dk_182 0 134 (dk_at dksX10_readValleyLine_1 7 rfl rfl)
theorem dX10_readValleyLine_34 : decode cX10_readValleyLine 34 = .ok (.ifCond .eq 8, 3) := dk_153 0 8 (dk_at dksX10_readValleyLine_1 10 rfl rfl)
theorem dX10_readValleyLine_37 : decode cX10_readValleyLine 37 = .ok (.aload_n 0, 1) := dk_42 (dk_at dksX10_readValleyLine_1 13 rfl rfl)
theorem dX10_readValleyLine_38 : decode cX10_readValleyLine 38 = .ok (.invokevirtual 192, 3) := dk_182 0 192 (dk_at dksX10_readValleyLine_1 14 rfl rfl)
theorem dX10_readValleyLine_41 : decode cX10_readValleyLine 41 = .ok (.ireturn, 1) := dk_172 (dk_at dksX10_readValleyLine_1 17 rfl rfl)
theorem dX10_readValleyLine_42 : decode cX10_readValleyLine 42 = .ok (.aload_n 0, 1) := dk_42 (dk_at dksX10_readValleyLine_1 18 rfl rfl)
theorem dX10_readValleyLine_43 : decode cX10_readValleyLine 43 = .ok (.ldc 195, 2) := dk_18 195 (dk_at dksX10_readValleyLine_1 19 rfl rfl)
theorem dX10_readValleyLine_45 : decode cX10_readValleyLine 45 = .ok (.invokevirtual 134, 3) := dk_182 0 134 (dk_at dksX10_readValleyLine_1 21 rfl rfl)
theorem dX10_readValleyLine_48 : decode cX10_readValleyLine 48 = .ok (.ifCond .eq 8, 3) := dk_153 0 8 (dk_at dksX10_readValleyLine_2 0 rfl rfl)
theorem dX10_readValleyLine_51 : decode cX10_readValleyLine 51 = .ok (.aload_n 0, 1) := dk_42 (dk_at dksX10_readValleyLine_2 3 rfl rfl)
theorem dX10_readValleyLine_52 : decode cX10_readValleyLine 52 = .ok (.invokevirtual 197, 3) := dk_182 0 197 (dk_at dksX10_readValleyLine_2 4 rfl rfl)
theorem dX10_readValleyLine_55 : decode cX10_readValleyLine 55 = .ok (.ireturn, 1) := dk_172 (dk_at dksX10_readValleyLine_2 7 rfl rfl)
theorem dX10_readValleyLine_56 : decode cX10_readValleyLine 56 = .ok (.aload_n 0, 1) := dk_42 (dk_at dksX10_readValleyLine_2 8 rfl rfl)
theorem dX10_readValleyLine_57 : decode cX10_readValleyLine 57 = .ok (.ldc 200, 2) := dk_18 200 (dk_at dksX10_readValleyLine_2 9 rfl rfl)
theorem dX10_readValleyLine_59 : decode cX10_readValleyLine 59 = .ok (.invokevirtual 134, 3) := dk_182 0 134 (dk_at dksX10_readValleyLine_2 11 rfl rfl)
theorem dX10_readValleyLine_62 : decode cX10_readValleyLine 62 = .ok (.ifCond .eq 8, 3) := dk_153 0 8 (dk_at dksX10_readValleyLine_2 14 rfl rfl)
theorem dX10_readValleyLine_65 : decode cX10_readValleyLine 65 = .ok (.aload_n 0, 1) := dk_42 (dk_at dksX10_readValleyLine_2 17 rfl rfl)
theorem dX10_readValleyLine_66 : decode cX10_readValleyLine 66 = .ok (.invokevirtual 202, 3) := dk_182 0 202 (dk_at dksX10_readValleyLine_2 18 rfl rfl)
theorem dX10_readValleyLine_69 : decode cX10_readValleyLine 69 = .ok (.ireturn, 1) := dk_172 (dk_at dksX10_readValleyLine_2 21 rfl rfl)
theorem dX10_readValleyLine_70 : decode cX10_readValleyLine 70 = .ok (.aload_n 0, 1) := dk_42 (dk_at dksX10_readValleyLine_2 22 rfl rfl)
theorem dX10_readValleyLine_71 : decode cX10_readValleyLine 71 = .ok (.ldc 205, 2) := dk_18 205 (dk_at dksX10_readValleyLine_3 0 rfl rfl)
theorem dX10_readValleyLine_73 : decode cX10_readValleyLine 73 = .ok (.invokevirtual 134, 3) := dk_182 0 134 (dk_at dksX10_readValleyLine_3 2 rfl rfl)
theorem dX10_readValleyLine_76 : decode cX10_readValleyLine 76 = .ok (.ifCond .eq 8, 3) := dk_153 0 8 (dk_at dksX10_readValleyLine_3 5 rfl rfl)
theorem dX10_readValleyLine_79 : decode cX10_readValleyLine 79 = .ok (.aload_n 0, 1) := dk_42 (dk_at dksX10_readValleyLine_3 8 rfl rfl)
theorem dX10_readValleyLine_80 : decode cX10_readValleyLine 80 = .ok (.invokevirtual 207, 3) := dk_182 0 207 (dk_at dksX10_readValleyLine_3 9 rfl rfl)
theorem dX10_readValleyLine_83 : decode cX10_readValleyLine 83 = .ok (.ireturn, 1) := dk_172 (dk_at dksX10_readValleyLine_3 12 rfl rfl)
theorem dX10_readValleyLine_84 : decode cX10_readValleyLine 84 = .ok (.aload_n 0, 1) := dk_42 (dk_at dksX10_readValleyLine_3 13 rfl rfl)
theorem dX10_readValleyLine_85 : decode cX10_readValleyLine 85 = .ok (.ldc 210, 2) := dk_18 210 (dk_at dksX10_readValleyLine_3 14 rfl rfl)
theorem dX10_readValleyLine_87 : decode cX10_readValleyLine 87 = .ok (.invokevirtual 134, 3) := dk_182 0 134 (dk_at dksX10_readValleyLine_3 16 rfl rfl)
theorem dX10_readValleyLine_90 : decode cX10_readValleyLine 90 = .ok (.ifCond .eq 8, 3) := dk_153 0 8 (dk_at dksX10_readValleyLine_3 19 rfl rfl)
theorem dX10_readValleyLine_93 : decode cX10_readValleyLine 93 = .ok (.aload_n 0, 1) := dk_42 (dk_at dksX10_readValleyLine_3 22 rfl rfl)
theorem dX10_readValleyLine_94 : decode cX10_readValleyLine 94 = .ok (.invokevirtual 212, 3) := dk_182 0 212 (dk_at dksX10_readValleyLine_4 0 rfl rfl)
theorem dX10_readValleyLine_97 : decode cX10_readValleyLine 97 = .ok (.ireturn, 1) := dk_172 (dk_at dksX10_readValleyLine_4 3 rfl rfl)
theorem dX10_readValleyLine_98 : decode cX10_readValleyLine 98 = .ok (.aload_n 0, 1) := dk_42 (dk_at dksX10_readValleyLine_4 4 rfl rfl)
theorem dX10_readValleyLine_99 : decode cX10_readValleyLine 99 = .ok (.ldc 215, 2) := dk_18 215 (dk_at dksX10_readValleyLine_4 5 rfl rfl)
theorem dX10_readValleyLine_101 : decode cX10_readValleyLine 101 = .ok (.invokevirtual 134, 3) := dk_182 0 134 (dk_at dksX10_readValleyLine_4 7 rfl rfl)
theorem dX10_readValleyLine_104 : decode cX10_readValleyLine 104 = .ok (.ifCond .eq 8, 3) := dk_153 0 8 (dk_at dksX10_readValleyLine_4 10 rfl rfl)
theorem dX10_readValleyLine_107 : decode cX10_readValleyLine 107 = .ok (.aload_n 0, 1) := dk_42 (dk_at dksX10_readValleyLine_4 13 rfl rfl)
theorem dX10_readValleyLine_108 : decode cX10_readValleyLine 108 = .ok (.invokevirtual 217, 3) := dk_182 0 217 (dk_at dksX10_readValleyLine_4 14 rfl rfl)
theorem dX10_readValleyLine_111 : decode cX10_readValleyLine 111 = .ok (.ireturn, 1) := dk_172 (dk_at dksX10_readValleyLine_4 17 rfl rfl)
theorem dX10_readValleyLine_112 : decode cX10_readValleyLine 112 = .ok (.aload_n 0, 1) := dk_42 (dk_at dksX10_readValleyLine_4 18 rfl rfl)
theorem dX10_readValleyLine_113 : decode cX10_readValleyLine 113 = .ok (.ldc 220, 2) := dk_18 220 (dk_at dksX10_readValleyLine_4 19 rfl rfl)
theorem dX10_readValleyLine_115 : decode cX10_readValleyLine 115 = .ok (.invokevirtual 134, 3) := dk_182 0 134 (dk_at dksX10_readValleyLine_4 21 rfl rfl)
theorem dX10_readValleyLine_118 : decode cX10_readValleyLine 118 = .ok (.istore_n 1, 1) := dk_60 (dk_at dksX10_readValleyLine_5 0 rfl rfl)
theorem dX10_readValleyLine_119 : decode cX10_readValleyLine 119 = .ok (.iload_n 1, 1) := dk_27 (dk_at dksX10_readValleyLine_5 1 rfl rfl)
theorem dX10_readValleyLine_120 : decode cX10_readValleyLine 120 = .ok (.ifCond .ne 14, 3) := dk_154 0 14 (dk_at dksX10_readValleyLine_5 2 rfl rfl)
theorem dX10_readValleyLine_123 : decode cX10_readValleyLine 123 = .ok (.aload_n 0, 1) := dk_42 (dk_at dksX10_readValleyLine_5 5 rfl rfl)
theorem dX10_readValleyLine_124 : decode cX10_readValleyLine 124 = .ok (.ldc 222, 2) := dk_18 222 (dk_at dksX10_readValleyLine_5 6 rfl rfl)
theorem dX10_readValleyLine_126 : decode cX10_readValleyLine 126 = .ok (.invokevirtual 134, 3) := dk_182 0 134 (dk_at dksX10_readValleyLine_5 8 rfl rfl)
theorem dX10_readValleyLine_129 : decode cX10_readValleyLine 129 = .ok (.ifCond .ne 5, 3) := dk_154 0 5 (dk_at dksX10_readValleyLine_5 11 rfl rfl)
theorem dX10_readValleyLine_132 : decode cX10_readValleyLine 132 = .ok (.iconst 0, 1) := dk_3 (dk_at dksX10_readValleyLine_5 14 rfl rfl)
theorem dX10_readValleyLine_133 : decode cX10_readValleyLine 133 = .ok (.ireturn, 1) := dk_172 (dk_at dksX10_readValleyLine_5 15 rfl rfl)
theorem dX10_readValleyLine_134 : decode cX10_readValleyLine 134 = .ok (.aload_n 0, 1) := dk_42 (dk_at dksX10_readValleyLine_5 16 rfl rfl)
theorem dX10_readValleyLine_135 : decode cX10_readValleyLine 135 = .ok (.iconst 0, 1) := dk_3 (dk_at dksX10_readValleyLine_5 17 rfl rfl)
theorem dX10_readValleyLine_136 : decode cX10_readValleyLine 136 = .ok (.iload_n 1, 1) := dk_27 (dk_at dksX10_readValleyLine_5 18 rfl rfl)
theorem dX10_readValleyLine_137 : decode cX10_readValleyLine 137 = .ok (.ifCond .eq 10, 3) := dk_153 0 10 (dk_at dksX10_readValleyLine_5 19 rfl rfl)
theorem dX10_readValleyLine_140 : decode cX10_readValleyLine 140 = .ok (.aload_n 0, 1) := dk_42 (dk_at dksX10_readValleyLine_5 22 rfl rfl)
theorem dX10_readValleyLine_141 : decode cX10_readValleyLine 141 = .ok (.invokevirtual 86, 3) := dk_182 0 86 (dk_at dksX10_readValleyLine_6 0 rfl rfl)
theorem dX10_readValleyLine_144 : decode cX10_readValleyLine 144 = .ok (.goto 6, 3) := dk_167 0 6 (dk_at dksX10_readValleyLine_6 3 rfl rfl)
theorem dX10_readValleyLine_147 : decode cX10_readValleyLine 147 = .ok (.sipush 9999, 3) := dk_17 39 15 (dk_at dksX10_readValleyLine_6 6 rfl rfl)
theorem dX10_readValleyLine_150 : decode cX10_readValleyLine 150 = .ok (.invokevirtual 142, 3) := dk_182 0 142 (dk_at dksX10_readValleyLine_6 9 rfl rfl)
theorem dX10_readValleyLine_153 : decode cX10_readValleyLine 153 = .ok (.istore_n 2, 1) := dk_61 (dk_at dksX10_readValleyLine_6 12 rfl rfl)
theorem dX10_readValleyLine_154 : decode cX10_readValleyLine 154 = .ok (.aload_n 0, 1) := dk_42 (dk_at dksX10_readValleyLine_6 13 rfl rfl)
theorem dX10_readValleyLine_155 : decode cX10_readValleyLine 155 = .ok (.getfield 13, 3) := dk_180 0 13 (dk_at dksX10_readValleyLine_6 14 rfl rfl)
theorem dX10_readValleyLine_158 : decode cX10_readValleyLine 158 = .ok (.iload_n 1, 1) := dk_27 (dk_at dksX10_readValleyLine_6 17 rfl rfl)
theorem dX10_readValleyLine_159 : decode cX10_readValleyLine 159 = .ok (.ifCond .eq 8, 3) := dk_153 0 8 (dk_at dksX10_readValleyLine_6 18 rfl rfl)
theorem dX10_readValleyLine_162 : decode cX10_readValleyLine 162 = .ok (.bipush 12, 2) := dk_16 12 (dk_at dksX10_readValleyLine_6 21 rfl rfl)
theorem dX10_readValleyLine_164 : decode cX10_readValleyLine 164 = .ok (.goto 5, 3) := dk_167 0 5 (dk_at dksX10_readValleyLine_7 0 rfl rfl)
theorem dX10_readValleyLine_167 : decode cX10_readValleyLine 167 = .ok (.bipush 13, 2) := dk_16 13 (dk_at dksX10_readValleyLine_7 3 rfl rfl)
theorem dX10_readValleyLine_169 : decode cX10_readValleyLine 169 = .ok (.iload_n 2, 1) := dk_28 (dk_at dksX10_readValleyLine_7 5 rfl rfl)
theorem dX10_readValleyLine_170 : decode cX10_readValleyLine 170 = .ok (.iastore, 1) := dk_79 (dk_at dksX10_readValleyLine_7 6 rfl rfl)
theorem dX10_readValleyLine_171 : decode cX10_readValleyLine 171 = .ok (.iload_n 2, 1) := dk_28 (dk_at dksX10_readValleyLine_7 7 rfl rfl)
theorem dX10_readValleyLine_172 : decode cX10_readValleyLine 172 = .ok (.ifCond .lt 7, 3) := dk_155 0 7 (dk_at dksX10_readValleyLine_7 8 rfl rfl)
theorem dX10_readValleyLine_175 : decode cX10_readValleyLine 175 = .ok (.iconst 1, 1) := dk_4 (dk_at dksX10_readValleyLine_7 11 rfl rfl)
theorem dX10_readValleyLine_176 : decode cX10_readValleyLine 176 = .ok (.goto 4, 3) := dk_167 0 4 (dk_at dksX10_readValleyLine_7 12 rfl rfl)
theorem dX10_readValleyLine_179 : decode cX10_readValleyLine 179 = .ok (.iconst 0, 1) := dk_3 (dk_at dksX10_readValleyLine_7 15 rfl rfl)
theorem dX10_readValleyLine_180 : decode cX10_readValleyLine 180 = .ok (.ireturn, 1) := dk_172 (dk_at dksX10_readValleyLine_7 16 rfl rfl)
abbrev cX10_isWord : ByteArray := prog_20_method_29_code
def yX10_isWord : MethodName := ⟨RX10, "isWord", "(Ljava/lang/String;)Z"⟩
def dkwX10_isWord_2 : List UInt8 := [29, 182, 0, 127, 160, 0, 7, 4, 167, 0, 4, 3, 61, 132, 3, 1, 167, 255, 216, 28, 172]
abbrev dktX10_isWord_2 : List UInt8 := dkwX10_isWord_2 ++ []
def dkwX10_isWord_1 : List UInt8 := [28, 153, 0, 42, 29, 43, 182, 0, 122, 162, 0, 34, 42, 180, 0, 26, 42, 180, 0, 116, 29, 96, 51, 43]
abbrev dktX10_isWord_1 : List UInt8 := dkwX10_isWord_1 ++ dktX10_isWord_2
def dkwX10_isWord_0 : List UInt8 := [42, 180, 0, 106, 42, 180, 0, 116, 100, 43, 182, 0, 122, 160, 0, 7, 4, 167, 0, 4, 3, 61, 3, 62]
abbrev dktX10_isWord_0 : List UInt8 := dkwX10_isWord_0 ++ dktX10_isWord_1
theorem dksX10_isWord_0 : cX10_isWord.data.toList.drop 0 = dktX10_isWord_0 := by decide +kernel
theorem dksX10_isWord_1 : cX10_isWord.data.toList.drop 24 = dktX10_isWord_1 := dk_seg dksX10_isWord_0 24 rfl rfl
theorem dksX10_isWord_2 : cX10_isWord.data.toList.drop 48 = dktX10_isWord_2 := dk_seg dksX10_isWord_1 24 rfl rfl
theorem dX10_isWord_0 : decode cX10_isWord 0 = .ok (.aload_n 0, 1) := dk_42 (dk_at dksX10_isWord_0 0 rfl rfl)
theorem dX10_isWord_1 : decode cX10_isWord 1 = .ok (.getfield 106, 3) := dk_180 0 106 (dk_at dksX10_isWord_0 1 rfl rfl)
theorem dX10_isWord_4 : decode cX10_isWord 4 = .ok (.aload_n 0, 1) := dk_42 (dk_at dksX10_isWord_0 4 rfl rfl)
theorem dX10_isWord_5 : decode cX10_isWord 5 = .ok (.getfield 116, 3) := dk_180 0 116 (dk_at dksX10_isWord_0 5 rfl rfl)
theorem dX10_isWord_8 : decode cX10_isWord 8 = .ok (.isub, 1) := dk_100 (dk_at dksX10_isWord_0 8 rfl rfl)
theorem dX10_isWord_9 : decode cX10_isWord 9 = .ok (.aload_n 1, 1) := dk_43 (dk_at dksX10_isWord_0 9 rfl rfl)
theorem dX10_isWord_10 : decode cX10_isWord 10 = .ok (.invokevirtual 122, 3) := dk_182 0 122 (dk_at dksX10_isWord_0 10 rfl rfl)
theorem dX10_isWord_13 : decode cX10_isWord 13 = .ok (.if_icmp .ne 7, 3) := dk_160 0 7 (dk_at dksX10_isWord_0 13 rfl rfl)
theorem dX10_isWord_16 : decode cX10_isWord 16 = .ok (.iconst 1, 1) := dk_4 (dk_at dksX10_isWord_0 16 rfl rfl)
theorem dX10_isWord_17 : decode cX10_isWord 17 = .ok (.goto 4, 3) := dk_167 0 4 (dk_at dksX10_isWord_0 17 rfl rfl)
theorem dX10_isWord_20 : decode cX10_isWord 20 = .ok (.iconst 0, 1) := dk_3 (dk_at dksX10_isWord_0 20 rfl rfl)
theorem dX10_isWord_21 : decode cX10_isWord 21 = .ok (.istore_n 2, 1) := dk_61 (dk_at dksX10_isWord_0 21 rfl rfl)
theorem dX10_isWord_22 : decode cX10_isWord 22 = .ok (.iconst 0, 1) := dk_3 (dk_at dksX10_isWord_0 22 rfl rfl)
theorem dX10_isWord_23 : decode cX10_isWord 23 = .ok (.istore_n 3, 1) := dk_62 (dk_at dksX10_isWord_0 23 rfl rfl)
theorem dX10_isWord_24 : decode cX10_isWord 24 = .ok (.iload_n 2, 1) := dk_28 (dk_at dksX10_isWord_1 0 rfl rfl)
theorem dX10_isWord_25 : decode cX10_isWord 25 = .ok (.ifCond .eq 42, 3) := dk_153 0 42 (dk_at dksX10_isWord_1 1 rfl rfl)
theorem dX10_isWord_28 : decode cX10_isWord 28 = .ok (.iload_n 3, 1) := dk_29 (dk_at dksX10_isWord_1 4 rfl rfl)
theorem dX10_isWord_29 : decode cX10_isWord 29 = .ok (.aload_n 1, 1) := dk_43 (dk_at dksX10_isWord_1 5 rfl rfl)
theorem dX10_isWord_30 : decode cX10_isWord 30 = .ok (.invokevirtual 122, 3) := dk_182 0 122 (dk_at dksX10_isWord_1 6 rfl rfl)
theorem dX10_isWord_33 : decode cX10_isWord 33 = .ok (.if_icmp .ge 34, 3) := dk_162 0 34 (dk_at dksX10_isWord_1 9 rfl rfl)
theorem dX10_isWord_36 : decode cX10_isWord 36 = .ok (.aload_n 0, 1) := dk_42 (dk_at dksX10_isWord_1 12 rfl rfl)
theorem dX10_isWord_37 : decode cX10_isWord 37 = .ok (.getfield 26, 3) := dk_180 0 26 (dk_at dksX10_isWord_1 13 rfl rfl)
theorem dX10_isWord_40 : decode cX10_isWord 40 = .ok (.aload_n 0, 1) := dk_42 (dk_at dksX10_isWord_1 16 rfl rfl)
theorem dX10_isWord_41 : decode cX10_isWord 41 = .ok (.getfield 116, 3) := dk_180 0 116 (dk_at dksX10_isWord_1 17 rfl rfl)
theorem dX10_isWord_44 : decode cX10_isWord 44 = .ok (.iload_n 3, 1) := dk_29 (dk_at dksX10_isWord_1 20 rfl rfl)
theorem dX10_isWord_45 : decode cX10_isWord 45 = .ok (.iadd, 1) := dk_96 (dk_at dksX10_isWord_1 21 rfl rfl)
theorem dX10_isWord_46 : decode cX10_isWord 46 = .ok (.baload, 1) := dk_51 (dk_at dksX10_isWord_1 22 rfl rfl)
theorem dX10_isWord_47 : decode cX10_isWord 47 = .ok (.aload_n 1, 1) := dk_43 (dk_at dksX10_isWord_1 23 rfl rfl)
theorem dX10_isWord_48 : decode cX10_isWord 48 = .ok (.iload_n 3, 1) := dk_29 (dk_at dksX10_isWord_2 0 rfl rfl)
theorem dX10_isWord_49 : decode cX10_isWord 49 = .ok (.invokevirtual 127, 3) := dk_182 0 127 (dk_at dksX10_isWord_2 1 rfl rfl)
theorem dX10_isWord_52 : decode cX10_isWord 52 = .ok (.if_icmp .ne 7, 3) := dk_160 0 7 (dk_at dksX10_isWord_2 4 rfl rfl)
theorem dX10_isWord_55 : decode cX10_isWord 55 = .ok (.iconst 1, 1) := dk_4 (dk_at dksX10_isWord_2 7 rfl rfl)
theorem dX10_isWord_56 : decode cX10_isWord 56 = .ok (.goto 4, 3) := dk_167 0 4 (dk_at dksX10_isWord_2 8 rfl rfl)
theorem dX10_isWord_59 : decode cX10_isWord 59 = .ok (.iconst 0, 1) := dk_3 (dk_at dksX10_isWord_2 11 rfl rfl)
theorem dX10_isWord_60 : decode cX10_isWord 60 = .ok (.istore_n 2, 1) := dk_61 (dk_at dksX10_isWord_2 12 rfl rfl)
theorem dX10_isWord_61 : decode cX10_isWord 61 = .ok (.iinc 3 1, 3) := dk_132 3 1 (dk_at dksX10_isWord_2 13 rfl rfl)
theorem dX10_isWord_64 : decode cX10_isWord 64 = .ok (.goto (-40), 3) := dk_167 255 216 (dk_at dksX10_isWord_2 16 rfl rfl)
theorem dX10_isWord_67 : decode cX10_isWord 67 = .ok (.iload_n 2, 1) := dk_28 (dk_at dksX10_isWord_2 19 rfl rfl)
theorem dX10_isWord_68 : decode cX10_isWord 68 = .ok (.ireturn, 1) := dk_172 (dk_at dksX10_isWord_2 20 rfl rfl)
abbrev cX10_readLanes : ByteArray := prog_20_method_40_code
def yX10_readLanes : MethodName := ⟨RX10, "readLanes", "()Z"⟩
def dkwX10_readLanes_1 : List UInt8 := [180, 0, 13, 3, 27, 79, 42, 180, 0, 13, 16, 12, 27, 79, 4, 172]
abbrev dktX10_readLanes_1 : List UInt8 := dkwX10_readLanes_1 ++ []
def dkwX10_readLanes_0 : List UInt8 := [42, 182, 0, 145, 154, 0, 5, 3, 172, 42, 4, 16, 6, 182, 0, 142, 60, 27, 156, 0, 5, 3, 172, 42]
abbrev dktX10_readLanes_0 : List UInt8 := dkwX10_readLanes_0 ++ dktX10_readLanes_1
theorem dksX10_readLanes_0 : cX10_readLanes.data.toList.drop 0 = dktX10_readLanes_0 := by decide +kernel
theorem dksX10_readLanes_1 : cX10_readLanes.data.toList.drop 24 = dktX10_readLanes_1 := dk_seg dksX10_readLanes_0 24 rfl rfl
theorem dX10_readLanes_0 : decode cX10_readLanes 0 = .ok (.aload_n 0, 1) := dk_42 (dk_at dksX10_readLanes_0 0 rfl rfl)
theorem dX10_readLanes_1 : decode cX10_readLanes 1 = .ok (.invokevirtual 145, 3) := dk_182 0 145 (dk_at dksX10_readLanes_0 1 rfl rfl)
theorem dX10_readLanes_4 : decode cX10_readLanes 4 = .ok (.ifCond .ne 5, 3) := dk_154 0 5 (dk_at dksX10_readLanes_0 4 rfl rfl)
theorem dX10_readLanes_7 : decode cX10_readLanes 7 = .ok (.iconst 0, 1) := dk_3 (dk_at dksX10_readLanes_0 7 rfl rfl)
theorem dX10_readLanes_8 : decode cX10_readLanes 8 = .ok (.ireturn, 1) := dk_172 (dk_at dksX10_readLanes_0 8 rfl rfl)
theorem dX10_readLanes_9 : decode cX10_readLanes 9 = .ok (.aload_n 0, 1) := dk_42 (dk_at dksX10_readLanes_0 9 rfl rfl)
theorem dX10_readLanes_10 : decode cX10_readLanes 10 = .ok (.iconst 1, 1) := dk_4 (dk_at dksX10_readLanes_0 10 rfl rfl)
theorem dX10_readLanes_11 : decode cX10_readLanes 11 = .ok (.bipush 6, 2) := dk_16 6 (dk_at dksX10_readLanes_0 11 rfl rfl)
theorem dX10_readLanes_13 : decode cX10_readLanes 13 = .ok (.invokevirtual 142, 3) := dk_182 0 142 (dk_at dksX10_readLanes_0 13 rfl rfl)
theorem dX10_readLanes_16 : decode cX10_readLanes 16 = .ok (.istore_n 1, 1) := dk_60 (dk_at dksX10_readLanes_0 16 rfl rfl)
theorem dX10_readLanes_17 : decode cX10_readLanes 17 = .ok (.iload_n 1, 1) := dk_27 (dk_at dksX10_readLanes_0 17 rfl rfl)
theorem dX10_readLanes_18 : decode cX10_readLanes 18 = .ok (.ifCond .ge 5, 3) := dk_156 0 5 (dk_at dksX10_readLanes_0 18 rfl rfl)
theorem dX10_readLanes_21 : decode cX10_readLanes 21 = .ok (.iconst 0, 1) := dk_3 (dk_at dksX10_readLanes_0 21 rfl rfl)
theorem dX10_readLanes_22 : decode cX10_readLanes 22 = .ok (.ireturn, 1) := dk_172 (dk_at dksX10_readLanes_0 22 rfl rfl)
theorem dX10_readLanes_23 : decode cX10_readLanes 23 = .ok (.aload_n 0, 1) := dk_42 (dk_at dksX10_readLanes_0 23 rfl rfl)
theorem dX10_readLanes_24 : decode cX10_readLanes 24 = .ok (.getfield 13, 3) := dk_180 0 13 (dk_at dksX10_readLanes_1 0 rfl rfl)
theorem dX10_readLanes_27 : decode cX10_readLanes 27 = .ok (.iconst 0, 1) := dk_3 (dk_at dksX10_readLanes_1 3 rfl rfl)
theorem dX10_readLanes_28 : decode cX10_readLanes 28 = .ok (.iload_n 1, 1) := dk_27 (dk_at dksX10_readLanes_1 4 rfl rfl)
theorem dX10_readLanes_29 : decode cX10_readLanes 29 = .ok (.iastore, 1) := dk_79 (dk_at dksX10_readLanes_1 5 rfl rfl)
theorem dX10_readLanes_30 : decode cX10_readLanes 30 = .ok (.aload_n 0, 1) := dk_42 (dk_at dksX10_readLanes_1 6 rfl rfl)
theorem dX10_readLanes_31 : decode cX10_readLanes 31 = .ok (.getfield 13, 3) := dk_180 0 13 (dk_at dksX10_readLanes_1 7 rfl rfl)
theorem dX10_readLanes_34 : decode cX10_readLanes 34 = .ok (.bipush 12, 2) := dk_16 12 (dk_at dksX10_readLanes_1 10 rfl rfl)
theorem dX10_readLanes_36 : decode cX10_readLanes 36 = .ok (.iload_n 1, 1) := dk_27 (dk_at dksX10_readLanes_1 12 rfl rfl)
theorem dX10_readLanes_37 : decode cX10_readLanes 37 = .ok (.iastore, 1) := dk_79 (dk_at dksX10_readLanes_1 13 rfl rfl)
theorem dX10_readLanes_38 : decode cX10_readLanes 38 = .ok (.iconst 1, 1) := dk_4 (dk_at dksX10_readLanes_1 14 rfl rfl)
theorem dX10_readLanes_39 : decode cX10_readLanes 39 = .ok (.ireturn, 1) := dk_172 (dk_at dksX10_readLanes_1 15 rfl rfl)
abbrev cX10_isEmpty : ByteArray := prog_20_method_39_code
def yX10_isEmpty : MethodName := ⟨RX10, "isEmpty", "()Z"⟩
def dkwX10_isEmpty_1 : List UInt8 := [180, 0, 13, 16, 6, 46, 96, 154, 0, 7, 4, 167, 0, 4, 3, 172]
abbrev dktX10_isEmpty_1 : List UInt8 := dkwX10_isEmpty_1 ++ []
def dkwX10_isEmpty_0 : List UInt8 := [42, 180, 0, 13, 5, 46, 42, 182, 0, 97, 96, 42, 182, 0, 100, 96, 42, 180, 0, 13, 8, 46, 96, 42]
abbrev dktX10_isEmpty_0 : List UInt8 := dkwX10_isEmpty_0 ++ dktX10_isEmpty_1
theorem dksX10_isEmpty_0 : cX10_isEmpty.data.toList.drop 0 = dktX10_isEmpty_0 := by decide +kernel
theorem dksX10_isEmpty_1 : cX10_isEmpty.data.toList.drop 24 = dktX10_isEmpty_1 := dk_seg dksX10_isEmpty_0 24 rfl rfl
theorem dX10_isEmpty_0 : decode cX10_isEmpty 0 = .ok (.aload_n 0, 1) := dk_42 (dk_at dksX10_isEmpty_0 0 rfl rfl)
theorem dX10_isEmpty_1 : decode cX10_isEmpty 1 = .ok (.getfield 13, 3) := dk_180 0 13 (dk_at dksX10_isEmpty_0 1 rfl rfl)
theorem dX10_isEmpty_4 : decode cX10_isEmpty 4 = .ok (.iconst 2, 1) := dk_5 (dk_at dksX10_isEmpty_0 4 rfl rfl)
theorem dX10_isEmpty_5 : decode cX10_isEmpty 5 = .ok (.iaload, 1) := dk_46 (dk_at dksX10_isEmpty_0 5 rfl rfl)
theorem dX10_isEmpty_6 : decode cX10_isEmpty 6 = .ok (.aload_n 0, 1) := dk_42 (dk_at dksX10_isEmpty_0 6 rfl rfl)
theorem dX10_isEmpty_7 : decode cX10_isEmpty 7 = .ok (.invokevirtual 97, 3) := dk_182 0 97 (dk_at dksX10_isEmpty_0 7 rfl rfl)
theorem dX10_isEmpty_10 : decode cX10_isEmpty 10 = .ok (.iadd, 1) := dk_96 (dk_at dksX10_isEmpty_0 10 rfl rfl)
theorem dX10_isEmpty_11 : decode cX10_isEmpty 11 = .ok (.aload_n 0, 1) := dk_42 (dk_at dksX10_isEmpty_0 11 rfl rfl)
theorem dX10_isEmpty_12 : decode cX10_isEmpty 12 = .ok (.invokevirtual 100, 3) := dk_182 0 100 (dk_at dksX10_isEmpty_0 12 rfl rfl)
theorem dX10_isEmpty_15 : decode cX10_isEmpty 15 = .ok (.iadd, 1) := dk_96 (dk_at dksX10_isEmpty_0 15 rfl rfl)
theorem dX10_isEmpty_16 : decode cX10_isEmpty 16 = .ok (.aload_n 0, 1) := dk_42 (dk_at dksX10_isEmpty_0 16 rfl rfl)
theorem dX10_isEmpty_17 : decode cX10_isEmpty 17 = .ok (.getfield 13, 3) := dk_180 0 13 (dk_at dksX10_isEmpty_0 17 rfl rfl)
theorem dX10_isEmpty_20 : decode cX10_isEmpty 20 = .ok (.iconst 5, 1) := dk_8 (dk_at dksX10_isEmpty_0 20 rfl rfl)
theorem dX10_isEmpty_21 : decode cX10_isEmpty 21 = .ok (.iaload, 1) := dk_46 (dk_at dksX10_isEmpty_0 21 rfl rfl)
theorem dX10_isEmpty_22 : decode cX10_isEmpty 22 = .ok (.iadd, 1) := dk_96 (dk_at dksX10_isEmpty_0 22 rfl rfl)
theorem dX10_isEmpty_23 : decode cX10_isEmpty 23 = .ok (.aload_n 0, 1) := dk_42 (dk_at dksX10_isEmpty_0 23 rfl rfl)
theorem dX10_isEmpty_24 : decode cX10_isEmpty 24 = .ok (.getfield 13, 3) := dk_180 0 13 (dk_at dksX10_isEmpty_1 0 rfl rfl)
theorem dX10_isEmpty_27 : decode cX10_isEmpty 27 = .ok (.bipush 6, 2) := dk_16 6 (dk_at dksX10_isEmpty_1 3 rfl rfl)
theorem dX10_isEmpty_29 : decode cX10_isEmpty 29 = .ok (.iaload, 1) := dk_46 (dk_at dksX10_isEmpty_1 5 rfl rfl)
theorem dX10_isEmpty_30 : decode cX10_isEmpty 30 = .ok (.iadd, 1) := dk_96 (dk_at dksX10_isEmpty_1 6 rfl rfl)
theorem dX10_isEmpty_31 : decode cX10_isEmpty 31 = .ok (.ifCond .ne 7, 3) := dk_154 0 7 (dk_at dksX10_isEmpty_1 7 rfl rfl)
theorem dX10_isEmpty_34 : decode cX10_isEmpty 34 = .ok (.iconst 1, 1) := dk_4 (dk_at dksX10_isEmpty_1 10 rfl rfl)
theorem dX10_isEmpty_35 : decode cX10_isEmpty 35 = .ok (.goto 4, 3) := dk_167 0 4 (dk_at dksX10_isEmpty_1 11 rfl rfl)
theorem dX10_isEmpty_38 : decode cX10_isEmpty 38 = .ok (.iconst 0, 1) := dk_3 (dk_at dksX10_isEmpty_1 14 rfl rfl)
theorem dX10_isEmpty_39 : decode cX10_isEmpty 39 = .ok (.ireturn, 1) := dk_172 (dk_at dksX10_isEmpty_1 15 rfl rfl)
abbrev cX10_people : ByteArray := prog_20_method_12_code
def yX10_people : MethodName := ⟨RX10, "people", "()I"⟩
def dkwX10_people_0 : List UInt8 := [42, 180, 0, 13, 6, 46, 172]
abbrev dktX10_people_0 : List UInt8 := dkwX10_people_0 ++ []
theorem dksX10_people_0 : cX10_people.data.toList.drop 0 = dktX10_people_0 := by decide +kernel
theorem dX10_people_0 : decode cX10_people 0 = .ok (.aload_n 0, 1) := dk_42 (dk_at dksX10_people_0 0 rfl rfl)
theorem dX10_people_1 : decode cX10_people 1 = .ok (.getfield 13, 3) := dk_180 0 13 (dk_at dksX10_people_0 1 rfl rfl)
theorem dX10_people_4 : decode cX10_people 4 = .ok (.iconst 3, 1) := dk_6 (dk_at dksX10_people_0 4 rfl rfl)
theorem dX10_people_5 : decode cX10_people 5 = .ok (.iaload, 1) := dk_46 (dk_at dksX10_people_0 5 rfl rfl)
theorem dX10_people_6 : decode cX10_people 6 = .ok (.ireturn, 1) := dk_172 (dk_at dksX10_people_0 6 rfl rfl)
abbrev cX10_letters : ByteArray := prog_20_method_13_code
def yX10_letters : MethodName := ⟨RX10, "letters", "()I"⟩
def dkwX10_letters_0 : List UInt8 := [42, 180, 0, 13, 7, 46, 172]
abbrev dktX10_letters_0 : List UInt8 := dkwX10_letters_0 ++ []
theorem dksX10_letters_0 : cX10_letters.data.toList.drop 0 = dktX10_letters_0 := by decide +kernel
theorem dX10_letters_0 : decode cX10_letters 0 = .ok (.aload_n 0, 1) := dk_42 (dk_at dksX10_letters_0 0 rfl rfl)
theorem dX10_letters_1 : decode cX10_letters 1 = .ok (.getfield 13, 3) := dk_180 0 13 (dk_at dksX10_letters_0 1 rfl rfl)
theorem dX10_letters_4 : decode cX10_letters 4 = .ok (.iconst 4, 1) := dk_7 (dk_at dksX10_letters_0 4 rfl rfl)
theorem dX10_letters_5 : decode cX10_letters 5 = .ok (.iaload, 1) := dk_46 (dk_at dksX10_letters_0 5 rfl rfl)
theorem dX10_letters_6 : decode cX10_letters 6 = .ok (.ireturn, 1) := dk_172 (dk_at dksX10_letters_0 6 rfl rfl)
abbrev cX10_number : ByteArray := prog_20_method_33_code
def yX10_number : MethodName := ⟨RX10, "number", "(II)I"⟩
def dkwX10_number_0 : List UInt8 := [42, 27, 28, 7, 182, 0, 138, 172]
abbrev dktX10_number_0 : List UInt8 := dkwX10_number_0 ++ []
theorem dksX10_number_0 : cX10_number.data.toList.drop 0 = dktX10_number_0 := by decide +kernel
theorem dX10_number_0 : decode cX10_number 0 = .ok (.aload_n 0, 1) := dk_42 (dk_at dksX10_number_0 0 rfl rfl)
theorem dX10_number_1 : decode cX10_number 1 = .ok (.iload_n 1, 1) := dk_27 (dk_at dksX10_number_0 1 rfl rfl)
theorem dX10_number_2 : decode cX10_number 2 = .ok (.iload_n 2, 1) := dk_28 (dk_at dksX10_number_0 2 rfl rfl)
theorem dX10_number_3 : decode cX10_number 3 = .ok (.iconst 4, 1) := dk_7 (dk_at dksX10_number_0 3 rfl rfl)
theorem dX10_number_4 : decode cX10_number 4 = .ok (.invokevirtual 138, 3) := dk_182 0 138 (dk_at dksX10_number_0 4 rfl rfl)
theorem dX10_number_7 : decode cX10_number 7 = .ok (.ireturn, 1) := dk_172 (dk_at dksX10_number_0 7 rfl rfl)
abbrev cX10_figures : ByteArray := prog_20_method_32_code
def yX10_figures : MethodName := ⟨RX10, "figures", "(III)I"⟩
def dkwX10_figures_4 : List UInt8 := [21, 4, 27, 161, 0, 9, 21, 4, 28, 164, 0, 7, 2, 167, 0, 5, 21, 4, 172]
abbrev dktX10_figures_4 : List UInt8 := dkwX10_figures_4 ++ []
def dkwX10_figures_3 : List UInt8 := [180, 0, 106, 42, 180, 0, 116, 159, 0, 28, 42, 180, 0, 106, 42, 180, 0, 116, 100, 29, 163, 0, 15]
abbrev dktX10_figures_3 : List UInt8 := dkwX10_figures_3 ++ dktX10_figures_4
def dkwX10_figures_2 : List UInt8 := [16, 48, 100, 167, 0, 5, 21, 4, 54, 4, 42, 89, 180, 0, 106, 4, 96, 181, 0, 106, 167, 255, 197, 42]
abbrev dktX10_figures_2 : List UInt8 := dkwX10_figures_2 ++ dktX10_figures_3
def dkwX10_figures_1 : List UInt8 := [180, 0, 116, 100, 29, 162, 0, 24, 16, 10, 21, 4, 104, 42, 180, 0, 26, 42, 180, 0, 106, 51, 96]
abbrev dktX10_figures_1 : List UInt8 := dkwX10_figures_1 ++ dktX10_figures_2
def dkwX10_figures_0 : List UInt8 := [42, 182, 0, 119, 3, 54, 4, 42, 16, 48, 16, 57, 182, 0, 112, 153, 0, 54, 42, 180, 0, 106, 42]
abbrev dktX10_figures_0 : List UInt8 := dkwX10_figures_0 ++ dktX10_figures_1
theorem dksX10_figures_0 : cX10_figures.data.toList.drop 0 = dktX10_figures_0 := by decide +kernel
theorem dksX10_figures_1 : cX10_figures.data.toList.drop 23 = dktX10_figures_1 := dk_seg dksX10_figures_0 23 rfl rfl
theorem dksX10_figures_2 : cX10_figures.data.toList.drop 46 = dktX10_figures_2 := dk_seg dksX10_figures_1 23 rfl rfl
theorem dksX10_figures_3 : cX10_figures.data.toList.drop 70 = dktX10_figures_3 := dk_seg dksX10_figures_2 24 rfl rfl
theorem dksX10_figures_4 : cX10_figures.data.toList.drop 93 = dktX10_figures_4 := dk_seg dksX10_figures_3 23 rfl rfl
theorem dX10_figures_0 : decode cX10_figures 0 = .ok (.aload_n 0, 1) := dk_42 (dk_at dksX10_figures_0 0 rfl rfl)
theorem dX10_figures_1 : decode cX10_figures 1 = .ok (.invokevirtual 119, 3) := dk_182 0 119 (dk_at dksX10_figures_0 1 rfl rfl)
theorem dX10_figures_4 : decode cX10_figures 4 = .ok (.iconst 0, 1) := dk_3 (dk_at dksX10_figures_0 4 rfl rfl)
theorem dX10_figures_5 : decode cX10_figures 5 = .ok (.istore 4, 2) := dk_54 4 (dk_at dksX10_figures_0 5 rfl rfl)
theorem dX10_figures_7 : decode cX10_figures 7 = .ok (.aload_n 0, 1) := dk_42 (dk_at dksX10_figures_0 7 rfl rfl)
theorem dX10_figures_8 : decode cX10_figures 8 = .ok (.bipush 48, 2) := dk_16 48 (dk_at dksX10_figures_0 8 rfl rfl)
theorem dX10_figures_10 : decode cX10_figures 10 = .ok (.bipush 57, 2) := dk_16 57 (dk_at dksX10_figures_0 10 rfl rfl)
theorem dX10_figures_12 : decode cX10_figures 12 = .ok (.invokevirtual 112, 3) := dk_182 0 112 (dk_at dksX10_figures_0 12 rfl rfl)
theorem dX10_figures_15 : decode cX10_figures 15 = .ok (.ifCond .eq 54, 3) := dk_153 0 54 (dk_at dksX10_figures_0 15 rfl rfl)
theorem dX10_figures_18 : decode cX10_figures 18 = .ok (.aload_n 0, 1) := dk_42 (dk_at dksX10_figures_0 18 rfl rfl)
theorem dX10_figures_19 : decode cX10_figures 19 = .ok (.getfield 106, 3) := dk_180 0 106 (dk_at dksX10_figures_0 19 rfl rfl)
theorem dX10_figures_22 : decode cX10_figures 22 = .ok (.aload_n 0, 1) := dk_42 (dk_at dksX10_figures_0 22 rfl rfl)
theorem dX10_figures_23 : decode cX10_figures 23 = .ok (.getfield 116, 3) := dk_180 0 116 (dk_at dksX10_figures_1 0 rfl rfl)
theorem dX10_figures_26 : decode cX10_figures 26 = .ok (.isub, 1) := dk_100 (dk_at dksX10_figures_1 3 rfl rfl)
theorem dX10_figures_27 : decode cX10_figures 27 = .ok (.iload_n 3, 1) := dk_29 (dk_at dksX10_figures_1 4 rfl rfl)
theorem dX10_figures_28 : decode cX10_figures 28 = .ok (.if_icmp .ge 24, 3) := dk_162 0 24 (dk_at dksX10_figures_1 5 rfl rfl)
theorem dX10_figures_31 : decode cX10_figures 31 = .ok (.bipush 10, 2) := dk_16 10 (dk_at dksX10_figures_1 8 rfl rfl)
theorem dX10_figures_33 : decode cX10_figures 33 = .ok (.iload 4, 2) := dk_21 4 (dk_at dksX10_figures_1 10 rfl rfl)
theorem dX10_figures_35 : decode cX10_figures 35 = .ok (.imul, 1) := dk_104 (dk_at dksX10_figures_1 12 rfl rfl)
theorem dX10_figures_36 : decode cX10_figures 36 = .ok (.aload_n 0, 1) := dk_42 (dk_at dksX10_figures_1 13 rfl rfl)
theorem dX10_figures_37 : decode cX10_figures 37 = .ok (.getfield 26, 3) := dk_180 0 26 (dk_at dksX10_figures_1 14 rfl rfl)
theorem dX10_figures_40 : decode cX10_figures 40 = .ok (.aload_n 0, 1) := dk_42 (dk_at dksX10_figures_1 17 rfl rfl)
theorem dX10_figures_41 : decode cX10_figures 41 = .ok (.getfield 106, 3) := dk_180 0 106 (dk_at dksX10_figures_1 18 rfl rfl)
theorem dX10_figures_44 : decode cX10_figures 44 = .ok (.baload, 1) := dk_51 (dk_at dksX10_figures_1 21 rfl rfl)
theorem dX10_figures_45 : decode cX10_figures 45 = .ok (.iadd, 1) := dk_96 (dk_at dksX10_figures_1 22 rfl rfl)
theorem dX10_figures_46 : decode cX10_figures 46 = .ok (.bipush 48, 2) := dk_16 48 (dk_at dksX10_figures_2 0 rfl rfl)
theorem dX10_figures_48 : decode cX10_figures 48 = .ok (.isub, 1) := dk_100 (dk_at dksX10_figures_2 2 rfl rfl)
theorem dX10_figures_49 : decode cX10_figures 49 = .ok (.goto 5, 3) := dk_167 0 5 (dk_at dksX10_figures_2 3 rfl rfl)
theorem dX10_figures_52 : decode cX10_figures 52 = .ok (.iload 4, 2) := dk_21 4 (dk_at dksX10_figures_2 6 rfl rfl)
theorem dX10_figures_54 : decode cX10_figures 54 = .ok (.istore 4, 2) := dk_54 4 (dk_at dksX10_figures_2 8 rfl rfl)
theorem dX10_figures_56 : decode cX10_figures 56 = .ok (.aload_n 0, 1) := dk_42 (dk_at dksX10_figures_2 10 rfl rfl)
theorem dX10_figures_57 : decode cX10_figures 57 = .ok (.dup, 1) := dk_89 (dk_at dksX10_figures_2 11 rfl rfl)
theorem dX10_figures_58 : decode cX10_figures 58 = .ok (.getfield 106, 3) := dk_180 0 106 (dk_at dksX10_figures_2 12 rfl rfl)
theorem dX10_figures_61 : decode cX10_figures 61 = .ok (.iconst 1, 1) := dk_4 (dk_at dksX10_figures_2 15 rfl rfl)
theorem dX10_figures_62 : decode cX10_figures 62 = .ok (.iadd, 1) := dk_96 (dk_at dksX10_figures_2 16 rfl rfl)
theorem dX10_figures_63 : decode cX10_figures 63 = .ok (.putfield 106, 3) := dk_181 0 106 (dk_at dksX10_figures_2 17 rfl rfl)
theorem dX10_figures_66 : decode cX10_figures 66 = .ok (.goto (-59), 3) := dk_167 255 197 (dk_at dksX10_figures_2 20 rfl rfl)
theorem dX10_figures_69 : decode cX10_figures 69 = .ok (.aload_n 0, 1) := dk_42 (dk_at dksX10_figures_2 23 rfl rfl)
theorem dX10_figures_70 : decode cX10_figures 70 = .ok (.getfield 106, 3) := dk_180 0 106 (dk_at dksX10_figures_3 0 rfl rfl)
theorem dX10_figures_73 : decode cX10_figures 73 = .ok (.aload_n 0, 1) := dk_42 (dk_at dksX10_figures_3 3 rfl rfl)
theorem dX10_figures_74 : decode cX10_figures 74 = .ok (.getfield 116, 3) := dk_180 0 116 (dk_at dksX10_figures_3 4 rfl rfl)
theorem dX10_figures_77 : decode cX10_figures 77 = .ok (.if_icmp .eq 28, 3) := dk_159 0 28 (dk_at dksX10_figures_3 7 rfl rfl)
theorem dX10_figures_80 : decode cX10_figures 80 = .ok (.aload_n 0, 1) := dk_42 (dk_at dksX10_figures_3 10 rfl rfl)
theorem dX10_figures_81 : decode cX10_figures 81 = .ok (.getfield 106, 3) := dk_180 0 106 (dk_at dksX10_figures_3 11 rfl rfl)
theorem dX10_figures_84 : decode cX10_figures 84 = .ok (.aload_n 0, 1) := dk_42 (dk_at dksX10_figures_3 14 rfl rfl)
theorem dX10_figures_85 : decode cX10_figures 85 = .ok (.getfield 116, 3) := dk_180 0 116 (dk_at dksX10_figures_3 15 rfl rfl)
theorem dX10_figures_88 : decode cX10_figures 88 = .ok (.isub, 1) := dk_100 (dk_at dksX10_figures_3 18 rfl rfl)
theorem dX10_figures_89 : decode cX10_figures 89 = .ok (.iload_n 3, 1) := dk_29 (dk_at dksX10_figures_3 19 rfl rfl)
theorem dX10_figures_90 : decode cX10_figures 90 = .ok (.if_icmp .gt 15, 3) := dk_163 0 15 (dk_at dksX10_figures_3 20 rfl rfl)
theorem dX10_figures_93 : decode cX10_figures 93 = .ok (.iload 4, 2) := dk_21 4 (dk_at dksX10_figures_4 0 rfl rfl)
theorem dX10_figures_95 : decode cX10_figures 95 = .ok (.iload_n 1, 1) := dk_27 (dk_at dksX10_figures_4 2 rfl rfl)
theorem dX10_figures_96 : decode cX10_figures 96 = .ok (.if_icmp .lt 9, 3) := dk_161 0 9 (dk_at dksX10_figures_4 3 rfl rfl)
theorem dX10_figures_99 : decode cX10_figures 99 = .ok (.iload 4, 2) := dk_21 4 (dk_at dksX10_figures_4 6 rfl rfl)
theorem dX10_figures_101 : decode cX10_figures 101 = .ok (.iload_n 2, 1) := dk_28 (dk_at dksX10_figures_4 8 rfl rfl)
theorem dX10_figures_102 : decode cX10_figures 102 = .ok (.if_icmp .le 7, 3) := dk_164 0 7 (dk_at dksX10_figures_4 9 rfl rfl)
theorem dX10_figures_105 : decode cX10_figures 105 = .ok (.iconst (-1), 1) := dk_2 (dk_at dksX10_figures_4 12 rfl rfl)
theorem dX10_figures_106 : decode cX10_figures 106 = .ok (.goto 5, 3) := dk_167 0 5 (dk_at dksX10_figures_4 13 rfl rfl)
theorem dX10_figures_109 : decode cX10_figures 109 = .ok (.iload 4, 2) := dk_21 4 (dk_at dksX10_figures_4 16 rfl rfl)
theorem dX10_figures_111 : decode cX10_figures 111 = .ok (.ireturn, 1) := dk_172 (dk_at dksX10_figures_4 18 rfl rfl)
abbrev cX10_readLast : ByteArray := prog_20_method_41_code
def yX10_readLast : MethodName := ⟨RX10, "readLast", "()Z"⟩
def dkwX10_readLast_1 : List UInt8 := [42, 180, 0, 13, 4, 27, 79, 42, 180, 0, 13, 16, 10, 16, 10, 79, 4, 172]
abbrev dktX10_readLast_1 : List UInt8 := dkwX10_readLast_1 ++ []
def dkwX10_readLast_0 : List UInt8 := [42, 182, 0, 145, 154, 0, 5, 3, 172, 42, 16, 10, 16, 99, 182, 0, 142, 60, 27, 156, 0, 5, 3, 172]
abbrev dktX10_readLast_0 : List UInt8 := dkwX10_readLast_0 ++ dktX10_readLast_1
theorem dksX10_readLast_0 : cX10_readLast.data.toList.drop 0 = dktX10_readLast_0 := by decide +kernel
theorem dksX10_readLast_1 : cX10_readLast.data.toList.drop 24 = dktX10_readLast_1 := dk_seg dksX10_readLast_0 24 rfl rfl
theorem dX10_readLast_0 : decode cX10_readLast 0 = .ok (.aload_n 0, 1) := dk_42 (dk_at dksX10_readLast_0 0 rfl rfl)
theorem dX10_readLast_1 : decode cX10_readLast 1 = .ok (.invokevirtual 145, 3) := dk_182 0 145 (dk_at dksX10_readLast_0 1 rfl rfl)
theorem dX10_readLast_4 : decode cX10_readLast 4 = .ok (.ifCond .ne 5, 3) := dk_154 0 5 (dk_at dksX10_readLast_0 4 rfl rfl)
theorem dX10_readLast_7 : decode cX10_readLast 7 = .ok (.iconst 0, 1) := dk_3 (dk_at dksX10_readLast_0 7 rfl rfl)
theorem dX10_readLast_8 : decode cX10_readLast 8 = .ok (.ireturn, 1) := dk_172 (dk_at dksX10_readLast_0 8 rfl rfl)
theorem dX10_readLast_9 : decode cX10_readLast 9 = .ok (.aload_n 0, 1) := dk_42 (dk_at dksX10_readLast_0 9 rfl rfl)
theorem dX10_readLast_10 : decode cX10_readLast 10 = .ok (.bipush 10, 2) := dk_16 10 (dk_at dksX10_readLast_0 10 rfl rfl)
theorem dX10_readLast_12 : decode cX10_readLast 12 = .ok (.bipush 99, 2) := dk_16 99 (dk_at dksX10_readLast_0 12 rfl rfl)
theorem dX10_readLast_14 : decode cX10_readLast 14 = .ok (.invokevirtual 142, 3) := dk_182 0 142 (dk_at dksX10_readLast_0 14 rfl rfl)
theorem dX10_readLast_17 : decode cX10_readLast 17 = .ok (.istore_n 1, 1) := dk_60 (dk_at dksX10_readLast_0 17 rfl rfl)
theorem dX10_readLast_18 : decode cX10_readLast 18 = .ok (.iload_n 1, 1) := dk_27 (dk_at dksX10_readLast_0 18 rfl rfl)
theorem dX10_readLast_19 : decode cX10_readLast 19 = .ok (.ifCond .ge 5, 3) := dk_156 0 5 (dk_at dksX10_readLast_0 19 rfl rfl)
theorem dX10_readLast_22 : decode cX10_readLast 22 = .ok (.iconst 0, 1) := dk_3 (dk_at dksX10_readLast_0 22 rfl rfl)
theorem dX10_readLast_23 : decode cX10_readLast 23 = .ok (.ireturn, 1) := dk_172 (dk_at dksX10_readLast_0 23 rfl rfl)
theorem dX10_readLast_24 : decode cX10_readLast 24 = .ok (.aload_n 0, 1) := dk_42 (dk_at dksX10_readLast_1 0 rfl rfl)
theorem dX10_readLast_25 : decode cX10_readLast 25 = .ok (.getfield 13, 3) := dk_180 0 13 (dk_at dksX10_readLast_1 1 rfl rfl)
theorem dX10_readLast_28 : decode cX10_readLast 28 = .ok (.iconst 1, 1) := dk_4 (dk_at dksX10_readLast_1 4 rfl rfl)
theorem dX10_readLast_29 : decode cX10_readLast 29 = .ok (.iload_n 1, 1) := dk_27 (dk_at dksX10_readLast_1 5 rfl rfl)
theorem dX10_readLast_30 : decode cX10_readLast 30 = .ok (.iastore, 1) := dk_79 (dk_at dksX10_readLast_1 6 rfl rfl)
theorem dX10_readLast_31 : decode cX10_readLast 31 = .ok (.aload_n 0, 1) := dk_42 (dk_at dksX10_readLast_1 7 rfl rfl)
theorem dX10_readLast_32 : decode cX10_readLast 32 = .ok (.getfield 13, 3) := dk_180 0 13 (dk_at dksX10_readLast_1 8 rfl rfl)
theorem dX10_readLast_35 : decode cX10_readLast 35 = .ok (.bipush 10, 2) := dk_16 10 (dk_at dksX10_readLast_1 11 rfl rfl)
theorem dX10_readLast_37 : decode cX10_readLast 37 = .ok (.bipush 10, 2) := dk_16 10 (dk_at dksX10_readLast_1 13 rfl rfl)
theorem dX10_readLast_39 : decode cX10_readLast 39 = .ok (.iastore, 1) := dk_79 (dk_at dksX10_readLast_1 15 rfl rfl)
theorem dX10_readLast_40 : decode cX10_readLast 40 = .ok (.iconst 1, 1) := dk_4 (dk_at dksX10_readLast_1 16 rfl rfl)
theorem dX10_readLast_41 : decode cX10_readLast 41 = .ok (.ireturn, 1) := dk_172 (dk_at dksX10_readLast_1 17 rfl rfl)
abbrev cX10_readSection : ByteArray := prog_20_method_43_code
def yX10_readSection : MethodName := ⟨RX10, "readSection", "()Z"⟩
def dkwX10_readSection_3 : List UInt8 := [3, 172, 42, 180, 0, 13, 28, 29, 79, 42, 180, 0, 13, 5, 92, 46, 4, 96, 79, 4, 172]
abbrev dktX10_readSection_3 : List UInt8 := dkwX10_readSection_3 ++ []
def dkwX10_readSection_2 : List UInt8 := [42, 182, 0, 94, 4, 100, 182, 0, 142, 62, 29, 155, 0, 13, 42, 28, 4, 96, 182, 0, 149, 154, 0, 5]
abbrev dktX10_readSection_2 : List UInt8 := dkwX10_readSection_2 ++ dktX10_readSection_3
def dkwX10_readSection_1 : List UInt8 := [154, 0, 12, 42, 3, 3, 182, 0, 142, 167, 0, 24, 42, 42, 180, 0, 13, 28, 16, 7, 100, 46, 4, 96]
abbrev dktX10_readSection_1 : List UInt8 := dkwX10_readSection_1 ++ dktX10_readSection_2
def dkwX10_readSection_0 : List UInt8 := [42, 180, 0, 13, 5, 46, 60, 27, 16, 8, 160, 0, 5, 3, 172, 16, 15, 16, 7, 27, 104, 96, 61, 27]
abbrev dktX10_readSection_0 : List UInt8 := dkwX10_readSection_0 ++ dktX10_readSection_1
theorem dksX10_readSection_0 : cX10_readSection.data.toList.drop 0 = dktX10_readSection_0 := by decide +kernel
theorem dksX10_readSection_1 : cX10_readSection.data.toList.drop 24 = dktX10_readSection_1 := dk_seg dksX10_readSection_0 24 rfl rfl
theorem dksX10_readSection_2 : cX10_readSection.data.toList.drop 48 = dktX10_readSection_2 := dk_seg dksX10_readSection_1 24 rfl rfl
theorem dksX10_readSection_3 : cX10_readSection.data.toList.drop 72 = dktX10_readSection_3 := dk_seg dksX10_readSection_2 24 rfl rfl
theorem dX10_readSection_0 : decode cX10_readSection 0 = .ok (.aload_n 0, 1) := dk_42 (dk_at dksX10_readSection_0 0 rfl rfl)
theorem dX10_readSection_1 : decode cX10_readSection 1 = .ok (.getfield 13, 3) := dk_180 0 13 (dk_at dksX10_readSection_0 1 rfl rfl)
theorem dX10_readSection_4 : decode cX10_readSection 4 = .ok (.iconst 2, 1) := dk_5 (dk_at dksX10_readSection_0 4 rfl rfl)
theorem dX10_readSection_5 : decode cX10_readSection 5 = .ok (.iaload, 1) := dk_46 (dk_at dksX10_readSection_0 5 rfl rfl)
theorem dX10_readSection_6 : decode cX10_readSection 6 = .ok (.istore_n 1, 1) := dk_60 (dk_at dksX10_readSection_0 6 rfl rfl)
theorem dX10_readSection_7 : decode cX10_readSection 7 = .ok (.iload_n 1, 1) := dk_27 (dk_at dksX10_readSection_0 7 rfl rfl)
theorem dX10_readSection_8 : decode cX10_readSection 8 = .ok (.bipush 8, 2) := dk_16 8 (dk_at dksX10_readSection_0 8 rfl rfl)
theorem dX10_readSection_10 : decode cX10_readSection 10 = .ok (.if_icmp .ne 5, 3) := dk_160 0 5 (dk_at dksX10_readSection_0 10 rfl rfl)
theorem dX10_readSection_13 : decode cX10_readSection 13 = .ok (.iconst 0, 1) := dk_3 (dk_at dksX10_readSection_0 13 rfl rfl)
theorem dX10_readSection_14 : decode cX10_readSection 14 = .ok (.ireturn, 1) := dk_172 (dk_at dksX10_readSection_0 14 rfl rfl)
theorem dX10_readSection_15 : decode cX10_readSection 15 = .ok (.bipush 15, 2) := dk_16 15 (dk_at dksX10_readSection_0 15 rfl rfl)
theorem dX10_readSection_17 : decode cX10_readSection 17 = .ok (.bipush 7, 2) := dk_16 7 (dk_at dksX10_readSection_0 17 rfl rfl)
theorem dX10_readSection_19 : decode cX10_readSection 19 = .ok (.iload_n 1, 1) := dk_27 (dk_at dksX10_readSection_0 19 rfl rfl)
theorem dX10_readSection_20 : decode cX10_readSection 20 = .ok (.imul, 1) := dk_104 (dk_at dksX10_readSection_0 20 rfl rfl)
theorem dX10_readSection_21 : decode cX10_readSection 21 = .ok (.iadd, 1) := dk_96 (dk_at dksX10_readSection_0 21 rfl rfl)
theorem dX10_readSection_22 : decode cX10_readSection 22 = .ok (.istore_n 2, 1) := dk_61 (dk_at dksX10_readSection_0 22 rfl rfl)
theorem dX10_readSection_23 : decode cX10_readSection 23 = .ok (.iload_n 1, 1) := dk_27 (dk_at dksX10_readSection_0 23 rfl rfl)
theorem dX10_readSection_24 : decode cX10_readSection 24 = .ok (.ifCond .ne 12, 3) := dk_154 0 12 (dk_at dksX10_readSection_1 0 rfl rfl)
theorem dX10_readSection_27 : decode cX10_readSection 27 = .ok (.aload_n 0, 1) := dk_42 (dk_at dksX10_readSection_1 3 rfl rfl)
theorem dX10_readSection_28 : decode cX10_readSection 28 = .ok (.iconst 0, 1) := dk_3 (dk_at dksX10_readSection_1 4 rfl rfl)
theorem dX10_readSection_29 : decode cX10_readSection 29 = .ok (.iconst 0, 1) := dk_3 (dk_at dksX10_readSection_1 5 rfl rfl)
theorem dX10_readSection_30 : decode cX10_readSection 30 = .ok (.invokevirtual 142, 3) := dk_182 0 142 (dk_at dksX10_readSection_1 6 rfl rfl)
theorem dX10_readSection_33 : decode cX10_readSection 33 = .ok (.goto 24, 3) := dk_167 0 24 (dk_at dksX10_readSection_1 9 rfl rfl)
theorem dX10_readSection_36 : decode cX10_readSection 36 = .ok (.aload_n 0, 1) := dk_42 (dk_at dksX10_readSection_1 12 rfl rfl)
theorem dX10_readSection_37 : decode cX10_readSection 37 = .ok (.aload_n 0, 1) := dk_42 (dk_at dksX10_readSection_1 13 rfl rfl)
theorem dX10_readSection_38 : decode cX10_readSection 38 = .ok (.getfield 13, 3) := dk_180 0 13 (dk_at dksX10_readSection_1 14 rfl rfl)
theorem dX10_readSection_41 : decode cX10_readSection 41 = .ok (.iload_n 2, 1) := dk_28 (dk_at dksX10_readSection_1 17 rfl rfl)
theorem dX10_readSection_42 : decode cX10_readSection 42 = .ok (.bipush 7, 2) := dk_16 7 (dk_at dksX10_readSection_1 18 rfl rfl)
theorem dX10_readSection_44 : decode cX10_readSection 44 = .ok (.isub, 1) := dk_100 (dk_at dksX10_readSection_1 20 rfl rfl)
theorem dX10_readSection_45 : decode cX10_readSection 45 = .ok (.iaload, 1) := dk_46 (dk_at dksX10_readSection_1 21 rfl rfl)
theorem dX10_readSection_46 : decode cX10_readSection 46 = .ok (.iconst 1, 1) := dk_4 (dk_at dksX10_readSection_1 22 rfl rfl)
theorem dX10_readSection_47 : decode cX10_readSection 47 = .ok (.iadd, 1) := dk_96 (dk_at dksX10_readSection_1 23 rfl rfl)
theorem dX10_readSection_48 : decode cX10_readSection 48 = .ok (.aload_n 0, 1) := dk_42 (dk_at dksX10_readSection_2 0 rfl rfl)
theorem dX10_readSection_49 : decode cX10_readSection 49 = .ok (.invokevirtual 94, 3) := dk_182 0 94 (dk_at dksX10_readSection_2 1 rfl rfl)
theorem dX10_readSection_52 : decode cX10_readSection 52 = .ok (.iconst 1, 1) := dk_4 (dk_at dksX10_readSection_2 4 rfl rfl)
theorem dX10_readSection_53 : decode cX10_readSection 53 = .ok (.isub, 1) := dk_100 (dk_at dksX10_readSection_2 5 rfl rfl)
theorem dX10_readSection_54 : decode cX10_readSection 54 = .ok (.invokevirtual 142, 3) := dk_182 0 142 (dk_at dksX10_readSection_2 6 rfl rfl)
theorem dX10_readSection_57 : decode cX10_readSection 57 = .ok (.istore_n 3, 1) := dk_62 (dk_at dksX10_readSection_2 9 rfl rfl)
theorem dX10_readSection_58 : decode cX10_readSection 58 = .ok (.iload_n 3, 1) := dk_29 (dk_at dksX10_readSection_2 10 rfl rfl)
theorem dX10_readSection_59 : decode cX10_readSection 59 = .ok (.ifCond .lt 13, 3) := dk_155 0 13 (dk_at dksX10_readSection_2 11 rfl rfl)
theorem dX10_readSection_62 : decode cX10_readSection 62 = .ok (.aload_n 0, 1) := dk_42 (dk_at dksX10_readSection_2 14 rfl rfl)
theorem dX10_readSection_63 : decode cX10_readSection 63 = .ok (.iload_n 2, 1) := dk_28 (dk_at dksX10_readSection_2 15 rfl rfl)
theorem dX10_readSection_64 : decode cX10_readSection 64 = .ok (.iconst 1, 1) := dk_4 (dk_at dksX10_readSection_2 16 rfl rfl)
theorem dX10_readSection_65 : decode cX10_readSection 65 = .ok (.iadd, 1) := dk_96 (dk_at dksX10_readSection_2 17 rfl rfl)
theorem dX10_readSection_66 : decode cX10_readSection 66 = .ok (.invokevirtual 149, 3) := dk_182 0 149 (dk_at dksX10_readSection_2 18 rfl rfl)
theorem dX10_readSection_69 : decode cX10_readSection 69 = .ok (.ifCond .ne 5, 3) := dk_154 0 5 (dk_at dksX10_readSection_2 21 rfl rfl)
theorem dX10_readSection_72 : decode cX10_readSection 72 = .ok (.iconst 0, 1) := dk_3 (dk_at dksX10_readSection_3 0 rfl rfl)
theorem dX10_readSection_73 : decode cX10_readSection 73 = .ok (.ireturn, 1) := dk_172 (dk_at dksX10_readSection_3 1 rfl rfl)
theorem dX10_readSection_74 : decode cX10_readSection 74 = .ok (.aload_n 0, 1) := dk_42 (dk_at dksX10_readSection_3 2 rfl rfl)
theorem dX10_readSection_75 : decode cX10_readSection 75 = .ok (.getfield 13, 3) := dk_180 0 13 (dk_at dksX10_readSection_3 3 rfl rfl)
theorem dX10_readSection_78 : decode cX10_readSection 78 = .ok (.iload_n 2, 1) := dk_28 (dk_at dksX10_readSection_3 6 rfl rfl)
theorem dX10_readSection_79 : decode cX10_readSection 79 = .ok (.iload_n 3, 1) := dk_29 (dk_at dksX10_readSection_3 7 rfl rfl)
theorem dX10_readSection_80 : decode cX10_readSection 80 = .ok (.iastore, 1) := dk_79 (dk_at dksX10_readSection_3 8 rfl rfl)
theorem dX10_readSection_81 : decode cX10_readSection 81 = .ok (.aload_n 0, 1) := dk_42 (dk_at dksX10_readSection_3 9 rfl rfl)
theorem dX10_readSection_82 : decode cX10_readSection 82 = .ok (.getfield 13, 3) := dk_180 0 13 (dk_at dksX10_readSection_3 10 rfl rfl)
theorem dX10_readSection_85 : decode cX10_readSection 85 = .ok (.iconst 2, 1) := dk_5 (dk_at dksX10_readSection_3 13 rfl rfl)
theorem dX10_readSection_86 : decode cX10_readSection 86 = .ok (.dup2, 1) := dk_92 (dk_at dksX10_readSection_3 14 rfl rfl)
theorem dX10_readSection_87 : decode cX10_readSection 87 = .ok (.iaload, 1) := dk_46 (dk_at dksX10_readSection_3 15 rfl rfl)
theorem dX10_readSection_88 : decode cX10_readSection 88 = .ok (.iconst 1, 1) := dk_4 (dk_at dksX10_readSection_3 16 rfl rfl)
theorem dX10_readSection_89 : decode cX10_readSection 89 = .ok (.iadd, 1) := dk_96 (dk_at dksX10_readSection_3 17 rfl rfl)
theorem dX10_readSection_90 : decode cX10_readSection 90 = .ok (.iastore, 1) := dk_79 (dk_at dksX10_readSection_3 18 rfl rfl)
theorem dX10_readSection_91 : decode cX10_readSection 91 = .ok (.iconst 1, 1) := dk_4 (dk_at dksX10_readSection_3 19 rfl rfl)
theorem dX10_readSection_92 : decode cX10_readSection 92 = .ok (.ireturn, 1) := dk_172 (dk_at dksX10_readSection_3 20 rfl rfl)
abbrev cX10_lip : ByteArray := prog_20_method_11_code
def yX10_lip : MethodName := ⟨RX10, "lip", "()I"⟩
def dkwX10_lip_0 : List UInt8 := [42, 180, 0, 13, 4, 46, 172]
abbrev dktX10_lip_0 : List UInt8 := dkwX10_lip_0 ++ []
theorem dksX10_lip_0 : cX10_lip.data.toList.drop 0 = dktX10_lip_0 := by decide +kernel
theorem dX10_lip_0 : decode cX10_lip 0 = .ok (.aload_n 0, 1) := dk_42 (dk_at dksX10_lip_0 0 rfl rfl)
theorem dX10_lip_1 : decode cX10_lip 1 = .ok (.getfield 13, 3) := dk_180 0 13 (dk_at dksX10_lip_0 1 rfl rfl)
theorem dX10_lip_4 : decode cX10_lip 4 = .ok (.iconst 1, 1) := dk_4 (dk_at dksX10_lip_0 4 rfl rfl)
theorem dX10_lip_5 : decode cX10_lip 5 = .ok (.iaload, 1) := dk_46 (dk_at dksX10_lip_0 5 rfl rfl)
theorem dX10_lip_6 : decode cX10_lip 6 = .ok (.ireturn, 1) := dk_172 (dk_at dksX10_lip_0 6 rfl rfl)
abbrev cX10_readSpeeds : ByteArray := prog_20_method_42_code
def yX10_readSpeeds : MethodName := ⟨RX10, "readSpeeds", "(I)Z"⟩
def dkwX10_readSpeeds_1 : List UInt8 := [42, 180, 0, 13, 27, 28, 96, 29, 79, 132, 2, 1, 167, 255, 222, 4, 172]
abbrev dktX10_readSpeeds_1 : List UInt8 := dkwX10_readSpeeds_1 ++ []
def dkwX10_readSpeeds_0 : List UInt8 := [3, 61, 28, 42, 182, 0, 86, 162, 0, 32, 42, 3, 16, 20, 182, 0, 142, 62, 29, 156, 0, 5, 3, 172]
abbrev dktX10_readSpeeds_0 : List UInt8 := dkwX10_readSpeeds_0 ++ dktX10_readSpeeds_1
theorem dksX10_readSpeeds_0 : cX10_readSpeeds.data.toList.drop 0 = dktX10_readSpeeds_0 := by decide +kernel
theorem dksX10_readSpeeds_1 : cX10_readSpeeds.data.toList.drop 24 = dktX10_readSpeeds_1 := dk_seg dksX10_readSpeeds_0 24 rfl rfl
theorem dX10_readSpeeds_0 : decode cX10_readSpeeds 0 = .ok (.iconst 0, 1) := dk_3 (dk_at dksX10_readSpeeds_0 0 rfl rfl)
theorem dX10_readSpeeds_1 : decode cX10_readSpeeds 1 = .ok (.istore_n 2, 1) := dk_61 (dk_at dksX10_readSpeeds_0 1 rfl rfl)
theorem dX10_readSpeeds_2 : decode cX10_readSpeeds 2 = .ok (.iload_n 2, 1) := dk_28 (dk_at dksX10_readSpeeds_0 2 rfl rfl)
theorem dX10_readSpeeds_3 : decode cX10_readSpeeds 3 = .ok (.aload_n 0, 1) := dk_42 (dk_at dksX10_readSpeeds_0 3 rfl rfl)
theorem dX10_readSpeeds_4 : decode cX10_readSpeeds 4 = .ok (.invokevirtual 86, 3) := dk_182 0 86 (dk_at dksX10_readSpeeds_0 4 rfl rfl)
theorem dX10_readSpeeds_7 : decode cX10_readSpeeds 7 = .ok (.if_icmp .ge 32, 3) := dk_162 0 32 (dk_at dksX10_readSpeeds_0 7 rfl rfl)
theorem dX10_readSpeeds_10 : decode cX10_readSpeeds 10 = .ok (.aload_n 0, 1) := dk_42 (dk_at dksX10_readSpeeds_0 10 rfl rfl)
theorem dX10_readSpeeds_11 : decode cX10_readSpeeds 11 = .ok (.iconst 0, 1) := dk_3 (dk_at dksX10_readSpeeds_0 11 rfl rfl)
theorem dX10_readSpeeds_12 : decode cX10_readSpeeds 12 = .ok (.bipush 20, 2) := dk_16 20 (dk_at dksX10_readSpeeds_0 12 rfl rfl)
theorem dX10_readSpeeds_14 : decode cX10_readSpeeds 14 = .ok (.invokevirtual 142, 3) := dk_182 0 142 (dk_at dksX10_readSpeeds_0 14 rfl rfl)
theorem dX10_readSpeeds_17 : decode cX10_readSpeeds 17 = .ok (.istore_n 3, 1) := dk_62 (dk_at dksX10_readSpeeds_0 17 rfl rfl)
theorem dX10_readSpeeds_18 : decode cX10_readSpeeds 18 = .ok (.iload_n 3, 1) := dk_29 (dk_at dksX10_readSpeeds_0 18 rfl rfl)
theorem dX10_readSpeeds_19 : decode cX10_readSpeeds 19 = .ok (.ifCond .ge 5, 3) := dk_156 0 5 (dk_at dksX10_readSpeeds_0 19 rfl rfl)
theorem dX10_readSpeeds_22 : decode cX10_readSpeeds 22 = .ok (.iconst 0, 1) := dk_3 (dk_at dksX10_readSpeeds_0 22 rfl rfl)
theorem dX10_readSpeeds_23 : decode cX10_readSpeeds 23 = .ok (.ireturn, 1) := dk_172 (dk_at dksX10_readSpeeds_0 23 rfl rfl)
theorem dX10_readSpeeds_24 : decode cX10_readSpeeds 24 = .ok (.aload_n 0, 1) := dk_42 (dk_at dksX10_readSpeeds_1 0 rfl rfl)
theorem dX10_readSpeeds_25 : decode cX10_readSpeeds 25 = .ok (.getfield 13, 3) := dk_180 0 13 (dk_at dksX10_readSpeeds_1 1 rfl rfl)
theorem dX10_readSpeeds_28 : decode cX10_readSpeeds 28 = .ok (.iload_n 1, 1) := dk_27 (dk_at dksX10_readSpeeds_1 4 rfl rfl)
theorem dX10_readSpeeds_29 : decode cX10_readSpeeds 29 = .ok (.iload_n 2, 1) := dk_28 (dk_at dksX10_readSpeeds_1 5 rfl rfl)
theorem dX10_readSpeeds_30 : decode cX10_readSpeeds 30 = .ok (.iadd, 1) := dk_96 (dk_at dksX10_readSpeeds_1 6 rfl rfl)
theorem dX10_readSpeeds_31 : decode cX10_readSpeeds 31 = .ok (.iload_n 3, 1) := dk_29 (dk_at dksX10_readSpeeds_1 7 rfl rfl)
theorem dX10_readSpeeds_32 : decode cX10_readSpeeds 32 = .ok (.iastore, 1) := dk_79 (dk_at dksX10_readSpeeds_1 8 rfl rfl)
theorem dX10_readSpeeds_33 : decode cX10_readSpeeds 33 = .ok (.iinc 2 1, 3) := dk_132 2 1 (dk_at dksX10_readSpeeds_1 9 rfl rfl)
theorem dX10_readSpeeds_36 : decode cX10_readSpeeds 36 = .ok (.goto (-34), 3) := dk_167 255 222 (dk_at dksX10_readSpeeds_1 12 rfl rfl)
theorem dX10_readSpeeds_39 : decode cX10_readSpeeds 39 = .ok (.iconst 1, 1) := dk_4 (dk_at dksX10_readSpeeds_1 15 rfl rfl)
theorem dX10_readSpeeds_40 : decode cX10_readSpeeds 40 = .ok (.ireturn, 1) := dk_172 (dk_at dksX10_readSpeeds_1 16 rfl rfl)
abbrev cX10_lanes : ByteArray := prog_20_method_10_code
def yX10_lanes : MethodName := ⟨RX10, "lanes", "()I"⟩
def dkwX10_lanes_0 : List UInt8 := [42, 180, 0, 13, 3, 46, 172]
abbrev dktX10_lanes_0 : List UInt8 := dkwX10_lanes_0 ++ []
theorem dksX10_lanes_0 : cX10_lanes.data.toList.drop 0 = dktX10_lanes_0 := by decide +kernel
theorem dX10_lanes_0 : decode cX10_lanes 0 = .ok (.aload_n 0, 1) := dk_42 (dk_at dksX10_lanes_0 0 rfl rfl)
theorem dX10_lanes_1 : decode cX10_lanes 1 = .ok (.getfield 13, 3) := dk_180 0 13 (dk_at dksX10_lanes_0 1 rfl rfl)
theorem dX10_lanes_4 : decode cX10_lanes 4 = .ok (.iconst 0, 1) := dk_3 (dk_at dksX10_lanes_0 4 rfl rfl)
theorem dX10_lanes_5 : decode cX10_lanes 5 = .ok (.iaload, 1) := dk_46 (dk_at dksX10_lanes_0 5 rfl rfl)
theorem dX10_lanes_6 : decode cX10_lanes 6 = .ok (.ireturn, 1) := dk_172 (dk_at dksX10_lanes_0 6 rfl rfl)
abbrev cX10_readSnow : ByteArray := prog_20_method_44_code
def yX10_readSnow : MethodName := ⟨RX10, "readSnow", "()Z"⟩
def dkwX10_readSnow_1 : List UInt8 := [156, 0, 5, 3, 172, 42, 180, 0, 13, 16, 10, 27, 79, 42, 180, 0, 13, 16, 11, 28, 79, 4, 172]
abbrev dktX10_readSnow_1 : List UInt8 := dkwX10_readSnow_1 ++ []
def dkwX10_readSnow_0 : List UInt8 := [42, 182, 0, 153, 60, 27, 156, 0, 7, 2, 167, 0, 12, 42, 18, 156, 3, 16, 9, 182, 0, 158, 61, 28]
abbrev dktX10_readSnow_0 : List UInt8 := dkwX10_readSnow_0 ++ dktX10_readSnow_1
theorem dksX10_readSnow_0 : cX10_readSnow.data.toList.drop 0 = dktX10_readSnow_0 := by decide +kernel
theorem dksX10_readSnow_1 : cX10_readSnow.data.toList.drop 24 = dktX10_readSnow_1 := dk_seg dksX10_readSnow_0 24 rfl rfl
theorem dX10_readSnow_0 : decode cX10_readSnow 0 = .ok (.aload_n 0, 1) := dk_42 (dk_at dksX10_readSnow_0 0 rfl rfl)
theorem dX10_readSnow_1 : decode cX10_readSnow 1 = .ok (.invokevirtual 153, 3) := dk_182 0 153 (dk_at dksX10_readSnow_0 1 rfl rfl)
theorem dX10_readSnow_4 : decode cX10_readSnow 4 = .ok (.istore_n 1, 1) := dk_60 (dk_at dksX10_readSnow_0 4 rfl rfl)
theorem dX10_readSnow_5 : decode cX10_readSnow 5 = .ok (.iload_n 1, 1) := dk_27 (dk_at dksX10_readSnow_0 5 rfl rfl)
theorem dX10_readSnow_6 : decode cX10_readSnow 6 = .ok (.ifCond .ge 7, 3) := dk_156 0 7 (dk_at dksX10_readSnow_0 6 rfl rfl)
theorem dX10_readSnow_9 : decode cX10_readSnow 9 = .ok (.iconst (-1), 1) := dk_2 (dk_at dksX10_readSnow_0 9 rfl rfl)
theorem dX10_readSnow_10 : decode cX10_readSnow 10 = .ok (.goto 12, 3) := dk_167 0 12 (dk_at dksX10_readSnow_0 10 rfl rfl)
theorem dX10_readSnow_13 : decode cX10_readSnow 13 = .ok (.aload_n 0, 1) := dk_42 (dk_at dksX10_readSnow_0 13 rfl rfl)
theorem dX10_readSnow_14 : decode cX10_readSnow 14 = .ok (.ldc 156, 2) := dk_18 156 (dk_at dksX10_readSnow_0 14 rfl rfl)
theorem dX10_readSnow_16 : decode cX10_readSnow 16 = .ok (.iconst 0, 1) := dk_3 (dk_at dksX10_readSnow_0 16 rfl rfl)
theorem dX10_readSnow_17 : decode cX10_readSnow 17 = .ok (.bipush 9, 2) := dk_16 9 (dk_at dksX10_readSnow_0 17 rfl rfl)
theorem dX10_readSnow_19 : decode cX10_readSnow 19 = .ok (.invokevirtual 158, 3) := dk_182 0 158 (dk_at dksX10_readSnow_0 19 rfl rfl)
theorem dX10_readSnow_22 : decode cX10_readSnow 22 = .ok (.istore_n 2, 1) := dk_61 (dk_at dksX10_readSnow_0 22 rfl rfl)
theorem dX10_readSnow_23 : decode cX10_readSnow 23 = .ok (.iload_n 2, 1) := dk_28 (dk_at dksX10_readSnow_0 23 rfl rfl)
theorem dX10_readSnow_24 : decode cX10_readSnow 24 = .ok (.ifCond .ge 5, 3) := dk_156 0 5 (dk_at dksX10_readSnow_1 0 rfl rfl)
theorem dX10_readSnow_27 : decode cX10_readSnow 27 = .ok (.iconst 0, 1) := dk_3 (dk_at dksX10_readSnow_1 3 rfl rfl)
theorem dX10_readSnow_28 : decode cX10_readSnow 28 = .ok (.ireturn, 1) := dk_172 (dk_at dksX10_readSnow_1 4 rfl rfl)
theorem dX10_readSnow_29 : decode cX10_readSnow 29 = .ok (.aload_n 0, 1) := dk_42 (dk_at dksX10_readSnow_1 5 rfl rfl)
theorem dX10_readSnow_30 : decode cX10_readSnow 30 = .ok (.getfield 13, 3) := dk_180 0 13 (dk_at dksX10_readSnow_1 6 rfl rfl)
theorem dX10_readSnow_33 : decode cX10_readSnow 33 = .ok (.bipush 10, 2) := dk_16 10 (dk_at dksX10_readSnow_1 9 rfl rfl)
theorem dX10_readSnow_35 : decode cX10_readSnow 35 = .ok (.iload_n 1, 1) := dk_27 (dk_at dksX10_readSnow_1 11 rfl rfl)
theorem dX10_readSnow_36 : decode cX10_readSnow 36 = .ok (.iastore, 1) := dk_79 (dk_at dksX10_readSnow_1 12 rfl rfl)
theorem dX10_readSnow_37 : decode cX10_readSnow 37 = .ok (.aload_n 0, 1) := dk_42 (dk_at dksX10_readSnow_1 13 rfl rfl)
theorem dX10_readSnow_38 : decode cX10_readSnow 38 = .ok (.getfield 13, 3) := dk_180 0 13 (dk_at dksX10_readSnow_1 14 rfl rfl)
theorem dX10_readSnow_41 : decode cX10_readSnow 41 = .ok (.bipush 11, 2) := dk_16 11 (dk_at dksX10_readSnow_1 17 rfl rfl)
theorem dX10_readSnow_43 : decode cX10_readSnow 43 = .ok (.iload_n 2, 1) := dk_28 (dk_at dksX10_readSnow_1 19 rfl rfl)
theorem dX10_readSnow_44 : decode cX10_readSnow 44 = .ok (.iastore, 1) := dk_79 (dk_at dksX10_readSnow_1 20 rfl rfl)
theorem dX10_readSnow_45 : decode cX10_readSnow 45 = .ok (.iconst 1, 1) := dk_4 (dk_at dksX10_readSnow_1 21 rfl rfl)
theorem dX10_readSnow_46 : decode cX10_readSnow 46 = .ok (.ireturn, 1) := dk_172 (dk_at dksX10_readSnow_1 22 rfl rfl)
abbrev cX10_rowTold : ByteArray := prog_20_method_38_code
def yX10_rowTold : MethodName := ⟨RX10, "rowTold", "()I"⟩
def dkwX10_rowTold_0 : List UInt8 := [42, 3, 42, 182, 0, 94, 4, 100, 182, 0, 142, 172]
abbrev dktX10_rowTold_0 : List UInt8 := dkwX10_rowTold_0 ++ []
theorem dksX10_rowTold_0 : cX10_rowTold.data.toList.drop 0 = dktX10_rowTold_0 := by decide +kernel
theorem dX10_rowTold_0 : decode cX10_rowTold 0 = .ok (.aload_n 0, 1) := dk_42 (dk_at dksX10_rowTold_0 0 rfl rfl)
theorem dX10_rowTold_1 : decode cX10_rowTold 1 = .ok (.iconst 0, 1) := dk_3 (dk_at dksX10_rowTold_0 1 rfl rfl)
theorem dX10_rowTold_2 : decode cX10_rowTold 2 = .ok (.aload_n 0, 1) := dk_42 (dk_at dksX10_rowTold_0 2 rfl rfl)
theorem dX10_rowTold_3 : decode cX10_rowTold 3 = .ok (.invokevirtual 94, 3) := dk_182 0 94 (dk_at dksX10_rowTold_0 3 rfl rfl)
theorem dX10_rowTold_6 : decode cX10_rowTold 6 = .ok (.iconst 1, 1) := dk_4 (dk_at dksX10_rowTold_0 6 rfl rfl)
theorem dX10_rowTold_7 : decode cX10_rowTold 7 = .ok (.isub, 1) := dk_100 (dk_at dksX10_rowTold_0 7 rfl rfl)
theorem dX10_rowTold_8 : decode cX10_rowTold 8 = .ok (.invokevirtual 142, 3) := dk_182 0 142 (dk_at dksX10_rowTold_0 8 rfl rfl)
theorem dX10_rowTold_11 : decode cX10_rowTold 11 = .ok (.ireturn, 1) := dk_172 (dk_at dksX10_rowTold_0 11 rfl rfl)
abbrev cX10_after : ByteArray := prog_20_method_34_code
def yX10_after : MethodName := ⟨RX10, "after", "(Ljava/lang/String;II)I"⟩
def dkwX10_after_0 : List UInt8 := [42, 182, 0, 131, 42, 43, 182, 0, 134, 153, 0, 12, 42, 28, 29, 182, 0, 142, 167, 0, 4, 2, 172]
abbrev dktX10_after_0 : List UInt8 := dkwX10_after_0 ++ []
theorem dksX10_after_0 : cX10_after.data.toList.drop 0 = dktX10_after_0 := by decide +kernel
theorem dX10_after_0 : decode cX10_after 0 = .ok (.aload_n 0, 1) := dk_42 (dk_at dksX10_after_0 0 rfl rfl)
theorem dX10_after_1 : decode cX10_after 1 = .ok (.invokevirtual 131, 3) := dk_182 0 131 (dk_at dksX10_after_0 1 rfl rfl)
theorem dX10_after_4 : decode cX10_after 4 = .ok (.aload_n 0, 1) := dk_42 (dk_at dksX10_after_0 4 rfl rfl)
theorem dX10_after_5 : decode cX10_after 5 = .ok (.aload_n 1, 1) := dk_43 (dk_at dksX10_after_0 5 rfl rfl)
theorem dX10_after_6 : decode cX10_after 6 = .ok (.invokevirtual 134, 3) := dk_182 0 134 (dk_at dksX10_after_0 6 rfl rfl)
theorem dX10_after_9 : decode cX10_after 9 = .ok (.ifCond .eq 12, 3) := dk_153 0 12 (dk_at dksX10_after_0 9 rfl rfl)
theorem dX10_after_12 : decode cX10_after 12 = .ok (.aload_n 0, 1) := dk_42 (dk_at dksX10_after_0 12 rfl rfl)
theorem dX10_after_13 : decode cX10_after 13 = .ok (.iload_n 2, 1) := dk_28 (dk_at dksX10_after_0 13 rfl rfl)
theorem dX10_after_14 : decode cX10_after 14 = .ok (.iload_n 3, 1) := dk_29 (dk_at dksX10_after_0 14 rfl rfl)
theorem dX10_after_15 : decode cX10_after 15 = .ok (.invokevirtual 142, 3) := dk_182 0 142 (dk_at dksX10_after_0 15 rfl rfl)
theorem dX10_after_18 : decode cX10_after 18 = .ok (.goto 4, 3) := dk_167 0 4 (dk_at dksX10_after_0 18 rfl rfl)
theorem dX10_after_21 : decode cX10_after 21 = .ok (.iconst (-1), 1) := dk_2 (dk_at dksX10_after_0 21 rfl rfl)
theorem dX10_after_22 : decode cX10_after 22 = .ok (.ireturn, 1) := dk_172 (dk_at dksX10_after_0 22 rfl rfl)
abbrev cX10_readFlood : ByteArray := prog_20_method_45_code
def yX10_readFlood : MethodName := ⟨RX10, "readFlood", "()Z"⟩
def dkwX10_readFlood_4 : List UInt8 := [180, 0, 13, 27, 5, 96, 21, 4, 79, 42, 180, 0, 13, 8, 92, 46, 4, 96, 79, 4, 172]
abbrev dktX10_readFlood_4 : List UInt8 := dkwX10_readFlood_4 ++ []
def dkwX10_readFlood_3 : List UInt8 := [156, 0, 5, 3, 172, 42, 180, 0, 13, 27, 28, 79, 42, 180, 0, 13, 27, 4, 96, 29, 79, 42]
abbrev dktX10_readFlood_3 : List UInt8 := dkwX10_readFlood_3 ++ dktX10_readFlood_4
def dkwX10_readFlood_2 : List UInt8 := [182, 0, 153, 62, 29, 156, 0, 7, 2, 167, 0, 10, 42, 4, 16, 20, 182, 0, 142, 54, 4, 21, 4]
abbrev dktX10_readFlood_2 : List UInt8 := dkwX10_readFlood_2 ++ dktX10_readFlood_3
def dkwX10_readFlood_1 : List UInt8 := [172, 42, 42, 182, 0, 162, 17, 1, 43, 182, 0, 142, 61, 28, 156, 0, 7, 2, 167, 0, 7, 42]
abbrev dktX10_readFlood_1 : List UInt8 := dkwX10_readFlood_1 ++ dktX10_readFlood_2
def dkwX10_readFlood_0 : List UInt8 := [16, 71, 6, 42, 180, 0, 13, 8, 46, 104, 96, 60, 42, 180, 0, 13, 8, 46, 16, 8, 160, 0, 5, 3]
abbrev dktX10_readFlood_0 : List UInt8 := dkwX10_readFlood_0 ++ dktX10_readFlood_1
theorem dksX10_readFlood_0 : cX10_readFlood.data.toList.drop 0 = dktX10_readFlood_0 := by decide +kernel
theorem dksX10_readFlood_1 : cX10_readFlood.data.toList.drop 24 = dktX10_readFlood_1 := dk_seg dksX10_readFlood_0 24 rfl rfl
theorem dksX10_readFlood_2 : cX10_readFlood.data.toList.drop 46 = dktX10_readFlood_2 := dk_seg dksX10_readFlood_1 22 rfl rfl
theorem dksX10_readFlood_3 : cX10_readFlood.data.toList.drop 69 = dktX10_readFlood_3 := dk_seg dksX10_readFlood_2 23 rfl rfl
theorem dksX10_readFlood_4 : cX10_readFlood.data.toList.drop 91 = dktX10_readFlood_4 := dk_seg dksX10_readFlood_3 22 rfl rfl
theorem dX10_readFlood_0 : decode cX10_readFlood 0 = .ok (.bipush 71, 2) := dk_16 71 (dk_at dksX10_readFlood_0 0 rfl rfl)
theorem dX10_readFlood_2 : decode cX10_readFlood 2 = .ok (.iconst 3, 1) := dk_6 (dk_at dksX10_readFlood_0 2 rfl rfl)
theorem dX10_readFlood_3 : decode cX10_readFlood 3 = .ok (.aload_n 0, 1) := dk_42 (dk_at dksX10_readFlood_0 3 rfl rfl)
theorem dX10_readFlood_4 : decode cX10_readFlood 4 = .ok (.getfield 13, 3) := dk_180 0 13 (dk_at dksX10_readFlood_0 4 rfl rfl)
theorem dX10_readFlood_7 : decode cX10_readFlood 7 = .ok (.iconst 5, 1) := dk_8 (dk_at dksX10_readFlood_0 7 rfl rfl)
theorem dX10_readFlood_8 : decode cX10_readFlood 8 = .ok (.iaload, 1) := dk_46 (dk_at dksX10_readFlood_0 8 rfl rfl)
theorem dX10_readFlood_9 : decode cX10_readFlood 9 = .ok (.imul, 1) := dk_104 (dk_at dksX10_readFlood_0 9 rfl rfl)
theorem dX10_readFlood_10 : decode cX10_readFlood 10 = .ok (.iadd, 1) := dk_96 (dk_at dksX10_readFlood_0 10 rfl rfl)
theorem dX10_readFlood_11 : decode cX10_readFlood 11 = .ok (.istore_n 1, 1) := dk_60 (dk_at dksX10_readFlood_0 11 rfl rfl)
theorem dX10_readFlood_12 : decode cX10_readFlood 12 = .ok (.aload_n 0, 1) := dk_42 (dk_at dksX10_readFlood_0 12 rfl rfl)
theorem dX10_readFlood_13 : decode cX10_readFlood 13 = .ok (.getfield 13, 3) := dk_180 0 13 (dk_at dksX10_readFlood_0 13 rfl rfl)
theorem dX10_readFlood_16 : decode cX10_readFlood 16 = .ok (.iconst 5, 1) := dk_8 (dk_at dksX10_readFlood_0 16 rfl rfl)
theorem dX10_readFlood_17 : decode cX10_readFlood 17 = .ok (.iaload, 1) := dk_46 (dk_at dksX10_readFlood_0 17 rfl rfl)
theorem dX10_readFlood_18 : decode cX10_readFlood 18 = .ok (.bipush 8, 2) := dk_16 8 (dk_at dksX10_readFlood_0 18 rfl rfl)
theorem dX10_readFlood_20 : decode cX10_readFlood 20 = .ok (.if_icmp .ne 5, 3) := dk_160 0 5 (dk_at dksX10_readFlood_0 20 rfl rfl)
theorem dX10_readFlood_23 : decode cX10_readFlood 23 = .ok (.iconst 0, 1) := dk_3 (dk_at dksX10_readFlood_0 23 rfl rfl)
theorem dX10_readFlood_24 : decode cX10_readFlood 24 = .ok (.ireturn, 1) := dk_172 (dk_at dksX10_readFlood_1 0 rfl rfl)
theorem dX10_readFlood_25 : decode cX10_readFlood 25 = .ok (.aload_n 0, 1) := dk_42 (dk_at dksX10_readFlood_1 1 rfl rfl)
theorem dX10_readFlood_26 : decode cX10_readFlood 26 = .ok (.aload_n 0, 1) := dk_42 (dk_at dksX10_readFlood_1 2 rfl rfl)
theorem dX10_readFlood_27 : decode cX10_readFlood 27 = .ok (.invokevirtual 162, 3) := dk_182 0 162 (dk_at dksX10_readFlood_1 3 rfl rfl)
theorem dX10_readFlood_30 : decode cX10_readFlood 30 = .ok (.sipush 299, 3) := dk_17 1 43 (dk_at dksX10_readFlood_1 6 rfl rfl)
theorem dX10_readFlood_33 : decode cX10_readFlood 33 = .ok (.invokevirtual 142, 3) := dk_182 0 142 (dk_at dksX10_readFlood_1 9 rfl rfl)
theorem dX10_readFlood_36 : decode cX10_readFlood 36 = .ok (.istore_n 2, 1) := dk_61 (dk_at dksX10_readFlood_1 12 rfl rfl)
theorem dX10_readFlood_37 : decode cX10_readFlood 37 = .ok (.iload_n 2, 1) := dk_28 (dk_at dksX10_readFlood_1 13 rfl rfl)
theorem dX10_readFlood_38 : decode cX10_readFlood 38 = .ok (.ifCond .ge 7, 3) := dk_156 0 7 (dk_at dksX10_readFlood_1 14 rfl rfl)
theorem dX10_readFlood_41 : decode cX10_readFlood 41 = .ok (.iconst (-1), 1) := dk_2 (dk_at dksX10_readFlood_1 17 rfl rfl)
theorem dX10_readFlood_42 : decode cX10_readFlood 42 = .ok (.goto 7, 3) := dk_167 0 7 (dk_at dksX10_readFlood_1 18 rfl rfl)
theorem dX10_readFlood_45 : decode cX10_readFlood 45 = .ok (.aload_n 0, 1) := dk_42 (dk_at dksX10_readFlood_1 21 rfl rfl)
theorem dX10_readFlood_46 : decode cX10_readFlood 46 = .ok (.invokevirtual 153, 3) := dk_182 0 153 (dk_at dksX10_readFlood_2 0 rfl rfl)
theorem dX10_readFlood_49 : decode cX10_readFlood 49 = .ok (.istore_n 3, 1) := dk_62 (dk_at dksX10_readFlood_2 3 rfl rfl)
theorem dX10_readFlood_50 : decode cX10_readFlood 50 = .ok (.iload_n 3, 1) := dk_29 (dk_at dksX10_readFlood_2 4 rfl rfl)
theorem dX10_readFlood_51 : decode cX10_readFlood 51 = .ok (.ifCond .ge 7, 3) := dk_156 0 7 (dk_at dksX10_readFlood_2 5 rfl rfl)
theorem dX10_readFlood_54 : decode cX10_readFlood 54 = .ok (.iconst (-1), 1) := dk_2 (dk_at dksX10_readFlood_2 8 rfl rfl)
theorem dX10_readFlood_55 : decode cX10_readFlood 55 = .ok (.goto 10, 3) := dk_167 0 10 (dk_at dksX10_readFlood_2 9 rfl rfl)
theorem dX10_readFlood_58 : decode cX10_readFlood 58 = .ok (.aload_n 0, 1) := dk_42 (dk_at dksX10_readFlood_2 12 rfl rfl)
theorem dX10_readFlood_59 : decode cX10_readFlood 59 = .ok (.iconst 1, 1) := dk_4 (dk_at dksX10_readFlood_2 13 rfl rfl)
theorem dX10_readFlood_60 : decode cX10_readFlood 60 = .ok (.bipush 20, 2) := dk_16 20 (dk_at dksX10_readFlood_2 14 rfl rfl)
theorem dX10_readFlood_62 : decode cX10_readFlood 62 = .ok (.invokevirtual 142, 3) := dk_182 0 142 (dk_at dksX10_readFlood_2 16 rfl rfl)
theorem dX10_readFlood_65 : decode cX10_readFlood 65 = .ok (.istore 4, 2) := dk_54 4 (dk_at dksX10_readFlood_2 19 rfl rfl)
theorem dX10_readFlood_67 : decode cX10_readFlood 67 = .ok (.iload 4, 2) := dk_21 4 (dk_at dksX10_readFlood_2 21 rfl rfl)
theorem dX10_readFlood_69 : decode cX10_readFlood 69 = .ok (.ifCond .ge 5, 3) := dk_156 0 5 (dk_at dksX10_readFlood_3 0 rfl rfl)
theorem dX10_readFlood_72 : decode cX10_readFlood 72 = .ok (.iconst 0, 1) := dk_3 (dk_at dksX10_readFlood_3 3 rfl rfl)
theorem dX10_readFlood_73 : decode cX10_readFlood 73 = .ok (.ireturn, 1) := dk_172 (dk_at dksX10_readFlood_3 4 rfl rfl)
theorem dX10_readFlood_74 : decode cX10_readFlood 74 = .ok (.aload_n 0, 1) := dk_42 (dk_at dksX10_readFlood_3 5 rfl rfl)
theorem dX10_readFlood_75 : decode cX10_readFlood 75 = .ok (.getfield 13, 3) := dk_180 0 13 (dk_at dksX10_readFlood_3 6 rfl rfl)
theorem dX10_readFlood_78 : decode cX10_readFlood 78 = .ok (.iload_n 1, 1) := dk_27 (dk_at dksX10_readFlood_3 9 rfl rfl)
theorem dX10_readFlood_79 : decode cX10_readFlood 79 = .ok (.iload_n 2, 1) := dk_28 (dk_at dksX10_readFlood_3 10 rfl rfl)
theorem dX10_readFlood_80 : decode cX10_readFlood 80 = .ok (.iastore, 1) := dk_79 (dk_at dksX10_readFlood_3 11 rfl rfl)
theorem dX10_readFlood_81 : decode cX10_readFlood 81 = .ok (.aload_n 0, 1) := dk_42 (dk_at dksX10_readFlood_3 12 rfl rfl)
theorem dX10_readFlood_82 : decode cX10_readFlood 82 = .ok (.getfield 13, 3) := dk_180 0 13 (dk_at dksX10_readFlood_3 13 rfl rfl)
theorem dX10_readFlood_85 : decode cX10_readFlood 85 = .ok (.iload_n 1, 1) := dk_27 (dk_at dksX10_readFlood_3 16 rfl rfl)
theorem dX10_readFlood_86 : decode cX10_readFlood 86 = .ok (.iconst 1, 1) := dk_4 (dk_at dksX10_readFlood_3 17 rfl rfl)
theorem dX10_readFlood_87 : decode cX10_readFlood 87 = .ok (.iadd, 1) := dk_96 (dk_at dksX10_readFlood_3 18 rfl rfl)
theorem dX10_readFlood_88 : decode cX10_readFlood 88 = .ok (.iload_n 3, 1) := dk_29 (dk_at dksX10_readFlood_3 19 rfl rfl)
theorem dX10_readFlood_89 : decode cX10_readFlood 89 = .ok (.iastore, 1) := dk_79 (dk_at dksX10_readFlood_3 20 rfl rfl)
theorem dX10_readFlood_90 : decode cX10_readFlood 90 = .ok (.aload_n 0, 1) := dk_42 (dk_at dksX10_readFlood_3 21 rfl rfl)
theorem dX10_readFlood_91 : decode cX10_readFlood 91 = .ok (.getfield 13, 3) := dk_180 0 13 (dk_at dksX10_readFlood_4 0 rfl rfl)
theorem dX10_readFlood_94 : decode cX10_readFlood 94 = .ok (.iload_n 1, 1) := dk_27 (dk_at dksX10_readFlood_4 3 rfl rfl)
theorem dX10_readFlood_95 : decode cX10_readFlood 95 = .ok (.iconst 2, 1) := dk_5 (dk_at dksX10_readFlood_4 4 rfl rfl)
theorem dX10_readFlood_96 : decode cX10_readFlood 96 = .ok (.iadd, 1) := dk_96 (dk_at dksX10_readFlood_4 5 rfl rfl)
theorem dX10_readFlood_97 : decode cX10_readFlood 97 = .ok (.iload 4, 2) := dk_21 4 (dk_at dksX10_readFlood_4 6 rfl rfl)
theorem dX10_readFlood_99 : decode cX10_readFlood 99 = .ok (.iastore, 1) := dk_79 (dk_at dksX10_readFlood_4 8 rfl rfl)
theorem dX10_readFlood_100 : decode cX10_readFlood 100 = .ok (.aload_n 0, 1) := dk_42 (dk_at dksX10_readFlood_4 9 rfl rfl)
theorem dX10_readFlood_101 : decode cX10_readFlood 101 = .ok (.getfield 13, 3) := dk_180 0 13 (dk_at dksX10_readFlood_4 10 rfl rfl)
theorem dX10_readFlood_104 : decode cX10_readFlood 104 = .ok (.iconst 5, 1) := dk_8 (dk_at dksX10_readFlood_4 13 rfl rfl)
theorem dX10_readFlood_105 : decode cX10_readFlood 105 = .ok (.dup2, 1) := dk_92 (dk_at dksX10_readFlood_4 14 rfl rfl)
theorem dX10_readFlood_106 : decode cX10_readFlood 106 = .ok (.iaload, 1) := dk_46 (dk_at dksX10_readFlood_4 15 rfl rfl)
theorem dX10_readFlood_107 : decode cX10_readFlood 107 = .ok (.iconst 1, 1) := dk_4 (dk_at dksX10_readFlood_4 16 rfl rfl)
theorem dX10_readFlood_108 : decode cX10_readFlood 108 = .ok (.iadd, 1) := dk_96 (dk_at dksX10_readFlood_4 17 rfl rfl)
theorem dX10_readFlood_109 : decode cX10_readFlood 109 = .ok (.iastore, 1) := dk_79 (dk_at dksX10_readFlood_4 18 rfl rfl)
theorem dX10_readFlood_110 : decode cX10_readFlood 110 = .ok (.iconst 1, 1) := dk_4 (dk_at dksX10_readFlood_4 19 rfl rfl)
theorem dX10_readFlood_111 : decode cX10_readFlood 111 = .ok (.ireturn, 1) := dk_172 (dk_at dksX10_readFlood_4 20 rfl rfl)
abbrev cX10_now : ByteArray := prog_20_method_14_code
def yX10_now : MethodName := ⟨RX10, "now", "()I"⟩
def dkwX10_now_0 : List UInt8 := [42, 180, 0, 13, 16, 9, 46, 172]
abbrev dktX10_now_0 : List UInt8 := dkwX10_now_0 ++ []
theorem dksX10_now_0 : cX10_now.data.toList.drop 0 = dktX10_now_0 := by decide +kernel
theorem dX10_now_0 : decode cX10_now 0 = .ok (.aload_n 0, 1) := dk_42 (dk_at dksX10_now_0 0 rfl rfl)
theorem dX10_now_1 : decode cX10_now 1 = .ok (.getfield 13, 3) := dk_180 0 13 (dk_at dksX10_now_0 1 rfl rfl)
theorem dX10_now_4 : decode cX10_now 4 = .ok (.bipush 9, 2) := dk_16 9 (dk_at dksX10_now_0 4 rfl rfl)
theorem dX10_now_6 : decode cX10_now 6 = .ok (.iaload, 1) := dk_46 (dk_at dksX10_now_0 6 rfl rfl)
theorem dX10_now_7 : decode cX10_now 7 = .ok (.ireturn, 1) := dk_172 (dk_at dksX10_now_0 7 rfl rfl)
abbrev cX10_readPerson : ByteArray := prog_20_method_46_code
def yX10_readPerson : MethodName := ⟨RX10, "readPerson", "()Z"⟩
def dkwX10_readPerson_4 : List UInt8 := [21, 4, 79, 42, 180, 0, 13, 6, 92, 46, 4, 96, 79, 4, 172]
abbrev dktX10_readPerson_4 : List UInt8 := dkwX10_readPerson_4 ++ []
def dkwX10_readPerson_3 : List UInt8 := [42, 180, 0, 13, 27, 28, 79, 42, 180, 0, 13, 27, 4, 96, 29, 79, 42, 180, 0, 13, 27, 5, 96]
abbrev dktX10_readPerson_3 : List UInt8 := dkwX10_readPerson_3 ++ dktX10_readPerson_4
def dkwX10_readPerson_2 : List UInt8 := [54, 4, 42, 18, 168, 182, 0, 170, 153, 0, 16, 42, 182, 0, 165, 54, 4, 21, 4, 156, 0, 5, 3, 172]
abbrev dktX10_readPerson_2 : List UInt8 := dkwX10_readPerson_2 ++ dktX10_readPerson_3
def dkwX10_readPerson_1 : List UInt8 := [182, 0, 165, 61, 28, 156, 0, 7, 2, 167, 0, 7, 42, 182, 0, 153, 62, 29, 156, 0, 5, 3, 172, 2]
abbrev dktX10_readPerson_1 : List UInt8 := dkwX10_readPerson_1 ++ dktX10_readPerson_2
def dkwX10_readPerson_0 : List UInt8 := [16, 95, 6, 42, 182, 0, 97, 104, 96, 60, 42, 182, 0, 97, 16, 8, 160, 0, 5, 3, 172, 42]
abbrev dktX10_readPerson_0 : List UInt8 := dkwX10_readPerson_0 ++ dktX10_readPerson_1
theorem dksX10_readPerson_0 : cX10_readPerson.data.toList.drop 0 = dktX10_readPerson_0 := by decide +kernel
theorem dksX10_readPerson_1 : cX10_readPerson.data.toList.drop 22 = dktX10_readPerson_1 := dk_seg dksX10_readPerson_0 22 rfl rfl
theorem dksX10_readPerson_2 : cX10_readPerson.data.toList.drop 46 = dktX10_readPerson_2 := dk_seg dksX10_readPerson_1 24 rfl rfl
theorem dksX10_readPerson_3 : cX10_readPerson.data.toList.drop 70 = dktX10_readPerson_3 := dk_seg dksX10_readPerson_2 24 rfl rfl
theorem dksX10_readPerson_4 : cX10_readPerson.data.toList.drop 93 = dktX10_readPerson_4 := dk_seg dksX10_readPerson_3 23 rfl rfl
theorem dX10_readPerson_0 : decode cX10_readPerson 0 = .ok (.bipush 95, 2) := dk_16 95 (dk_at dksX10_readPerson_0 0 rfl rfl)
theorem dX10_readPerson_2 : decode cX10_readPerson 2 = .ok (.iconst 3, 1) := dk_6 (dk_at dksX10_readPerson_0 2 rfl rfl)
theorem dX10_readPerson_3 : decode cX10_readPerson 3 = .ok (.aload_n 0, 1) := dk_42 (dk_at dksX10_readPerson_0 3 rfl rfl)
theorem dX10_readPerson_4 : decode cX10_readPerson 4 = .ok (.invokevirtual 97, 3) := dk_182 0 97 (dk_at dksX10_readPerson_0 4 rfl rfl)
theorem dX10_readPerson_7 : decode cX10_readPerson 7 = .ok (.imul, 1) := dk_104 (dk_at dksX10_readPerson_0 7 rfl rfl)
theorem dX10_readPerson_8 : decode cX10_readPerson 8 = .ok (.iadd, 1) := dk_96 (dk_at dksX10_readPerson_0 8 rfl rfl)
theorem dX10_readPerson_9 : decode cX10_readPerson 9 = .ok (.istore_n 1, 1) := dk_60 (dk_at dksX10_readPerson_0 9 rfl rfl)
theorem dX10_readPerson_10 : decode cX10_readPerson 10 = .ok (.aload_n 0, 1) := dk_42 (dk_at dksX10_readPerson_0 10 rfl rfl)
theorem dX10_readPerson_11 : decode cX10_readPerson 11 = .ok (.invokevirtual 97, 3) := dk_182 0 97 (dk_at dksX10_readPerson_0 11 rfl rfl)
theorem dX10_readPerson_14 : decode cX10_readPerson 14 = .ok (.bipush 8, 2) := dk_16 8 (dk_at dksX10_readPerson_0 14 rfl rfl)
theorem dX10_readPerson_16 : decode cX10_readPerson 16 = .ok (.if_icmp .ne 5, 3) := dk_160 0 5 (dk_at dksX10_readPerson_0 16 rfl rfl)
theorem dX10_readPerson_19 : decode cX10_readPerson 19 = .ok (.iconst 0, 1) := dk_3 (dk_at dksX10_readPerson_0 19 rfl rfl)
theorem dX10_readPerson_20 : decode cX10_readPerson 20 = .ok (.ireturn, 1) := dk_172 (dk_at dksX10_readPerson_0 20 rfl rfl)
theorem dX10_readPerson_21 : decode cX10_readPerson 21 = .ok (.aload_n 0, 1) := dk_42 (dk_at dksX10_readPerson_0 21 rfl rfl)
theorem dX10_readPerson_22 : decode cX10_readPerson 22 = .ok (.invokevirtual 165, 3) := dk_182 0 165 (dk_at dksX10_readPerson_1 0 rfl rfl)
theorem dX10_readPerson_25 : decode cX10_readPerson 25 = .ok (.istore_n 2, 1) := dk_61 (dk_at dksX10_readPerson_1 3 rfl rfl)
theorem dX10_readPerson_26 : decode cX10_readPerson 26 = .ok (.iload_n 2, 1) := dk_28 (dk_at dksX10_readPerson_1 4 rfl rfl)
theorem dX10_readPerson_27 : decode cX10_readPerson 27 = .ok (.ifCond .ge 7, 3) := dk_156 0 7 (dk_at dksX10_readPerson_1 5 rfl rfl)
theorem dX10_readPerson_30 : decode cX10_readPerson 30 = .ok (.iconst (-1), 1) := dk_2 (dk_at dksX10_readPerson_1 8 rfl rfl)
theorem dX10_readPerson_31 : decode cX10_readPerson 31 = .ok (.goto 7, 3) := dk_167 0 7 (dk_at dksX10_readPerson_1 9 rfl rfl)
theorem dX10_readPerson_34 : decode cX10_readPerson 34 = .ok (.aload_n 0, 1) := dk_42 (dk_at dksX10_readPerson_1 12 rfl rfl)
theorem dX10_readPerson_35 : decode cX10_readPerson 35 = .ok (.invokevirtual 153, 3) := dk_182 0 153 (dk_at dksX10_readPerson_1 13 rfl rfl)
theorem dX10_readPerson_38 : decode cX10_readPerson 38 = .ok (.istore_n 3, 1) := dk_62 (dk_at dksX10_readPerson_1 16 rfl rfl)
theorem dX10_readPerson_39 : decode cX10_readPerson 39 = .ok (.iload_n 3, 1) := dk_29 (dk_at dksX10_readPerson_1 17 rfl rfl)
theorem dX10_readPerson_40 : decode cX10_readPerson 40 = .ok (.ifCond .ge 5, 3) := dk_156 0 5 (dk_at dksX10_readPerson_1 18 rfl rfl)
theorem dX10_readPerson_43 : decode cX10_readPerson 43 = .ok (.iconst 0, 1) := dk_3 (dk_at dksX10_readPerson_1 21 rfl rfl)
theorem dX10_readPerson_44 : decode cX10_readPerson 44 = .ok (.ireturn, 1) := dk_172 (dk_at dksX10_readPerson_1 22 rfl rfl)
theorem dX10_readPerson_45 : decode cX10_readPerson 45 = .ok (.iconst (-1), 1) := dk_2 (dk_at dksX10_readPerson_1 23 rfl rfl)
theorem dX10_readPerson_46 : decode cX10_readPerson 46 = .ok (.istore 4, 2) := dk_54 4 (dk_at dksX10_readPerson_2 0 rfl rfl)
theorem dX10_readPerson_48 : decode cX10_readPerson 48 = .ok (.aload_n 0, 1) := dk_42 (dk_at dksX10_readPerson_2 2 rfl rfl)
theorem dX10_readPerson_49 : decode cX10_readPerson 49 = .ok (.ldc 168, 2) := dk_18 168 (dk_at dksX10_readPerson_2 3 rfl rfl)
theorem dX10_readPerson_51 : decode cX10_readPerson 51 = .ok (.invokevirtual 170, 3) := dk_182 0 170 (dk_at dksX10_readPerson_2 5 rfl rfl)
theorem dX10_readPerson_54 : decode cX10_readPerson 54 = .ok (.ifCond .eq 16, 3) := dk_153 0 16 (dk_at dksX10_readPerson_2 8 rfl rfl)
theorem dX10_readPerson_57 : decode cX10_readPerson 57 = .ok (.aload_n 0, 1) := dk_42 (dk_at dksX10_readPerson_2 11 rfl rfl)
theorem dX10_readPerson_58 : decode cX10_readPerson 58 = .ok (.invokevirtual 165, 3) := dk_182 0 165 (dk_at dksX10_readPerson_2 12 rfl rfl)
theorem dX10_readPerson_61 : decode cX10_readPerson 61 = .ok (.istore 4, 2) := dk_54 4 (dk_at dksX10_readPerson_2 15 rfl rfl)
theorem dX10_readPerson_63 : decode cX10_readPerson 63 = .ok (.iload 4, 2) := dk_21 4 (dk_at dksX10_readPerson_2 17 rfl rfl)
theorem dX10_readPerson_65 : decode cX10_readPerson 65 = .ok (.ifCond .ge 5, 3) := dk_156 0 5 (dk_at dksX10_readPerson_2 19 rfl rfl)
theorem dX10_readPerson_68 : decode cX10_readPerson 68 = .ok (.iconst 0, 1) := dk_3 (dk_at dksX10_readPerson_2 22 rfl rfl)
theorem dX10_readPerson_69 : decode cX10_readPerson 69 = .ok (.ireturn, 1) := dk_172 (dk_at dksX10_readPerson_2 23 rfl rfl)
theorem dX10_readPerson_70 : decode cX10_readPerson 70 = .ok (.aload_n 0, 1) := dk_42 (dk_at dksX10_readPerson_3 0 rfl rfl)
theorem dX10_readPerson_71 : decode cX10_readPerson 71 = .ok (.getfield 13, 3) := dk_180 0 13 (dk_at dksX10_readPerson_3 1 rfl rfl)
theorem dX10_readPerson_74 : decode cX10_readPerson 74 = .ok (.iload_n 1, 1) := dk_27 (dk_at dksX10_readPerson_3 4 rfl rfl)
theorem dX10_readPerson_75 : decode cX10_readPerson 75 = .ok (.iload_n 2, 1) := dk_28 (dk_at dksX10_readPerson_3 5 rfl rfl)
theorem dX10_readPerson_76 : decode cX10_readPerson 76 = .ok (.iastore, 1) := dk_79 (dk_at dksX10_readPerson_3 6 rfl rfl)
theorem dX10_readPerson_77 : decode cX10_readPerson 77 = .ok (.aload_n 0, 1) := dk_42 (dk_at dksX10_readPerson_3 7 rfl rfl)
theorem dX10_readPerson_78 : decode cX10_readPerson 78 = .ok (.getfield 13, 3) := dk_180 0 13 (dk_at dksX10_readPerson_3 8 rfl rfl)
theorem dX10_readPerson_81 : decode cX10_readPerson 81 = .ok (.iload_n 1, 1) := dk_27 (dk_at dksX10_readPerson_3 11 rfl rfl)
theorem dX10_readPerson_82 : decode cX10_readPerson 82 = .ok (.iconst 1, 1) := dk_4 (dk_at dksX10_readPerson_3 12 rfl rfl)
theorem dX10_readPerson_83 : decode cX10_readPerson 83 = .ok (.iadd, 1) := dk_96 (dk_at dksX10_readPerson_3 13 rfl rfl)
theorem dX10_readPerson_84 : decode cX10_readPerson 84 = .ok (.iload_n 3, 1) := dk_29 (dk_at dksX10_readPerson_3 14 rfl rfl)
theorem dX10_readPerson_85 : decode cX10_readPerson 85 = .ok (.iastore, 1) := dk_79 (dk_at dksX10_readPerson_3 15 rfl rfl)
theorem dX10_readPerson_86 : decode cX10_readPerson 86 = .ok (.aload_n 0, 1) := dk_42 (dk_at dksX10_readPerson_3 16 rfl rfl)
theorem dX10_readPerson_87 : decode cX10_readPerson 87 = .ok (.getfield 13, 3) := dk_180 0 13 (dk_at dksX10_readPerson_3 17 rfl rfl)
theorem dX10_readPerson_90 : decode cX10_readPerson 90 = .ok (.iload_n 1, 1) := dk_27 (dk_at dksX10_readPerson_3 20 rfl rfl)
theorem dX10_readPerson_91 : decode cX10_readPerson 91 = .ok (.iconst 2, 1) := dk_5 (dk_at dksX10_readPerson_3 21 rfl rfl)
theorem dX10_readPerson_92 : decode cX10_readPerson 92 = .ok (.iadd, 1) := dk_96 (dk_at dksX10_readPerson_3 22 rfl rfl)
theorem dX10_readPerson_93 : decode cX10_readPerson 93 = .ok (.iload 4, 2) := dk_21 4 (dk_at dksX10_readPerson_4 0 rfl rfl)
theorem dX10_readPerson_95 : decode cX10_readPerson 95 = .ok (.iastore, 1) := dk_79 (dk_at dksX10_readPerson_4 2 rfl rfl)
theorem dX10_readPerson_96 : decode cX10_readPerson 96 = .ok (.aload_n 0, 1) := dk_42 (dk_at dksX10_readPerson_4 3 rfl rfl)
theorem dX10_readPerson_97 : decode cX10_readPerson 97 = .ok (.getfield 13, 3) := dk_180 0 13 (dk_at dksX10_readPerson_4 4 rfl rfl)
theorem dX10_readPerson_100 : decode cX10_readPerson 100 = .ok (.iconst 3, 1) := dk_6 (dk_at dksX10_readPerson_4 7 rfl rfl)
theorem dX10_readPerson_101 : decode cX10_readPerson 101 = .ok (.dup2, 1) := dk_92 (dk_at dksX10_readPerson_4 8 rfl rfl)
theorem dX10_readPerson_102 : decode cX10_readPerson 102 = .ok (.iaload, 1) := dk_46 (dk_at dksX10_readPerson_4 9 rfl rfl)
theorem dX10_readPerson_103 : decode cX10_readPerson 103 = .ok (.iconst 1, 1) := dk_4 (dk_at dksX10_readPerson_4 10 rfl rfl)
theorem dX10_readPerson_104 : decode cX10_readPerson 104 = .ok (.iadd, 1) := dk_96 (dk_at dksX10_readPerson_4 11 rfl rfl)
theorem dX10_readPerson_105 : decode cX10_readPerson 105 = .ok (.iastore, 1) := dk_79 (dk_at dksX10_readPerson_4 12 rfl rfl)
theorem dX10_readPerson_106 : decode cX10_readPerson 106 = .ok (.iconst 1, 1) := dk_4 (dk_at dksX10_readPerson_4 13 rfl rfl)
theorem dX10_readPerson_107 : decode cX10_readPerson 107 = .ok (.ireturn, 1) := dk_172 (dk_at dksX10_readPerson_4 14 rfl rfl)
abbrev cX10_laneTold : ByteArray := prog_20_method_37_code
def yX10_laneTold : MethodName := ⟨RX10, "laneTold", "()I"⟩
def dkwX10_laneTold_0 : List UInt8 := [42, 3, 42, 182, 0, 86, 4, 100, 182, 0, 142, 172]
abbrev dktX10_laneTold_0 : List UInt8 := dkwX10_laneTold_0 ++ []
theorem dksX10_laneTold_0 : cX10_laneTold.data.toList.drop 0 = dktX10_laneTold_0 := by decide +kernel
theorem dX10_laneTold_0 : decode cX10_laneTold 0 = .ok (.aload_n 0, 1) := dk_42 (dk_at dksX10_laneTold_0 0 rfl rfl)
theorem dX10_laneTold_1 : decode cX10_laneTold 1 = .ok (.iconst 0, 1) := dk_3 (dk_at dksX10_laneTold_0 1 rfl rfl)
theorem dX10_laneTold_2 : decode cX10_laneTold 2 = .ok (.aload_n 0, 1) := dk_42 (dk_at dksX10_laneTold_0 2 rfl rfl)
theorem dX10_laneTold_3 : decode cX10_laneTold 3 = .ok (.invokevirtual 86, 3) := dk_182 0 86 (dk_at dksX10_laneTold_0 3 rfl rfl)
theorem dX10_laneTold_6 : decode cX10_laneTold 6 = .ok (.iconst 1, 1) := dk_4 (dk_at dksX10_laneTold_0 6 rfl rfl)
theorem dX10_laneTold_7 : decode cX10_laneTold 7 = .ok (.isub, 1) := dk_100 (dk_at dksX10_laneTold_0 7 rfl rfl)
theorem dX10_laneTold_8 : decode cX10_laneTold 8 = .ok (.invokevirtual 142, 3) := dk_182 0 142 (dk_at dksX10_laneTold_0 8 rfl rfl)
theorem dX10_laneTold_11 : decode cX10_laneTold 11 = .ok (.ireturn, 1) := dk_172 (dk_at dksX10_laneTold_0 11 rfl rfl)
abbrev cX10_isNext : ByteArray := prog_20_method_30_code
def yX10_isNext : MethodName := ⟨RX10, "isNext", "(Ljava/lang/String;)Z"⟩
def dkwX10_isNext_0 : List UInt8 := [42, 182, 0, 131, 42, 43, 182, 0, 134, 153, 0, 5, 4, 172, 42, 42, 180, 0, 116, 181, 0, 106, 3, 172]
abbrev dktX10_isNext_0 : List UInt8 := dkwX10_isNext_0 ++ []
theorem dksX10_isNext_0 : cX10_isNext.data.toList.drop 0 = dktX10_isNext_0 := by decide +kernel
theorem dX10_isNext_0 : decode cX10_isNext 0 = .ok (.aload_n 0, 1) := dk_42 (dk_at dksX10_isNext_0 0 rfl rfl)
theorem dX10_isNext_1 : decode cX10_isNext 1 = .ok (.invokevirtual 131, 3) := dk_182 0 131 (dk_at dksX10_isNext_0 1 rfl rfl)
theorem dX10_isNext_4 : decode cX10_isNext 4 = .ok (.aload_n 0, 1) := dk_42 (dk_at dksX10_isNext_0 4 rfl rfl)
theorem dX10_isNext_5 : decode cX10_isNext 5 = .ok (.aload_n 1, 1) := dk_43 (dk_at dksX10_isNext_0 5 rfl rfl)
theorem dX10_isNext_6 : decode cX10_isNext 6 = .ok (.invokevirtual 134, 3) := dk_182 0 134 (dk_at dksX10_isNext_0 6 rfl rfl)
theorem dX10_isNext_9 : decode cX10_isNext 9 = .ok (.ifCond .eq 5, 3) := dk_153 0 5 (dk_at dksX10_isNext_0 9 rfl rfl)
theorem dX10_isNext_12 : decode cX10_isNext 12 = .ok (.iconst 1, 1) := dk_4 (dk_at dksX10_isNext_0 12 rfl rfl)
theorem dX10_isNext_13 : decode cX10_isNext 13 = .ok (.ireturn, 1) := dk_172 (dk_at dksX10_isNext_0 13 rfl rfl)
theorem dX10_isNext_14 : decode cX10_isNext 14 = .ok (.aload_n 0, 1) := dk_42 (dk_at dksX10_isNext_0 14 rfl rfl)
theorem dX10_isNext_15 : decode cX10_isNext 15 = .ok (.aload_n 0, 1) := dk_42 (dk_at dksX10_isNext_0 15 rfl rfl)
theorem dX10_isNext_16 : decode cX10_isNext 16 = .ok (.getfield 116, 3) := dk_180 0 116 (dk_at dksX10_isNext_0 16 rfl rfl)
theorem dX10_isNext_19 : decode cX10_isNext 19 = .ok (.putfield 106, 3) := dk_181 0 106 (dk_at dksX10_isNext_0 19 rfl rfl)
theorem dX10_isNext_22 : decode cX10_isNext 22 = .ok (.iconst 0, 1) := dk_3 (dk_at dksX10_isNext_0 22 rfl rfl)
theorem dX10_isNext_23 : decode cX10_isNext 23 = .ok (.ireturn, 1) := dk_172 (dk_at dksX10_isNext_0 23 rfl rfl)
abbrev cX10_readRock : ByteArray := prog_20_method_48_code
def yX10_readRock : MethodName := ⟨RX10, "readRock", "()Z"⟩
def dkwX10_readRock_2 : List UInt8 := [167, 0, 4, 3, 172]
abbrev dktX10_readRock_2 : List UInt8 := dkwX10_readRock_2 ++ []
def dkwX10_readRock_1 : List UInt8 := [42, 182, 0, 153, 61, 28, 155, 0, 11, 42, 2, 2, 27, 28, 182, 0, 177, 28, 155, 0, 7, 4]
abbrev dktX10_readRock_1 : List UInt8 := dkwX10_readRock_1 ++ dktX10_readRock_2
def dkwX10_readRock_0 : List UInt8 := [42, 182, 0, 100, 16, 24, 160, 0, 5, 3, 172, 42, 182, 0, 165, 60, 27, 156, 0, 7, 2, 167, 0, 7]
abbrev dktX10_readRock_0 : List UInt8 := dkwX10_readRock_0 ++ dktX10_readRock_1
theorem dksX10_readRock_0 : cX10_readRock.data.toList.drop 0 = dktX10_readRock_0 := by decide +kernel
theorem dksX10_readRock_1 : cX10_readRock.data.toList.drop 24 = dktX10_readRock_1 := dk_seg dksX10_readRock_0 24 rfl rfl
theorem dksX10_readRock_2 : cX10_readRock.data.toList.drop 46 = dktX10_readRock_2 := dk_seg dksX10_readRock_1 22 rfl rfl
theorem dX10_readRock_0 : decode cX10_readRock 0 = .ok (.aload_n 0, 1) := dk_42 (dk_at dksX10_readRock_0 0 rfl rfl)
theorem dX10_readRock_1 : decode cX10_readRock 1 = .ok (.invokevirtual 100, 3) := dk_182 0 100 (dk_at dksX10_readRock_0 1 rfl rfl)
theorem dX10_readRock_4 : decode cX10_readRock 4 = .ok (.bipush 24, 2) := dk_16 24 (dk_at dksX10_readRock_0 4 rfl rfl)
theorem dX10_readRock_6 : decode cX10_readRock 6 = .ok (.if_icmp .ne 5, 3) := dk_160 0 5 (dk_at dksX10_readRock_0 6 rfl rfl)
theorem dX10_readRock_9 : decode cX10_readRock 9 = .ok (.iconst 0, 1) := dk_3 (dk_at dksX10_readRock_0 9 rfl rfl)
theorem dX10_readRock_10 : decode cX10_readRock 10 = .ok (.ireturn, 1) := dk_172 (dk_at dksX10_readRock_0 10 rfl rfl)
theorem dX10_readRock_11 : decode cX10_readRock 11 = .ok (.aload_n 0, 1) := dk_42 (dk_at dksX10_readRock_0 11 rfl rfl)
theorem dX10_readRock_12 : decode cX10_readRock 12 = .ok (.invokevirtual 165, 3) := dk_182 0 165 (dk_at dksX10_readRock_0 12 rfl rfl)
theorem dX10_readRock_15 : decode cX10_readRock 15 = .ok (.istore_n 1, 1) := dk_60 (dk_at dksX10_readRock_0 15 rfl rfl)
theorem dX10_readRock_16 : decode cX10_readRock 16 = .ok (.iload_n 1, 1) := dk_27 (dk_at dksX10_readRock_0 16 rfl rfl)
theorem dX10_readRock_17 : decode cX10_readRock 17 = .ok (.ifCond .ge 7, 3) := dk_156 0 7 (dk_at dksX10_readRock_0 17 rfl rfl)
theorem dX10_readRock_20 : decode cX10_readRock 20 = .ok (.iconst (-1), 1) := dk_2 (dk_at dksX10_readRock_0 20 rfl rfl)
theorem dX10_readRock_21 : decode cX10_readRock 21 = .ok (.goto 7, 3) := dk_167 0 7 (dk_at dksX10_readRock_0 21 rfl rfl)
theorem dX10_readRock_24 : decode cX10_readRock 24 = .ok (.aload_n 0, 1) := dk_42 (dk_at dksX10_readRock_1 0 rfl rfl)
theorem dX10_readRock_25 : decode cX10_readRock 25 = .ok (.invokevirtual 153, 3) := dk_182 0 153 (dk_at dksX10_readRock_1 1 rfl rfl)
theorem dX10_readRock_28 : decode cX10_readRock 28 = .ok (.istore_n 2, 1) := dk_61 (dk_at dksX10_readRock_1 4 rfl rfl)
theorem dX10_readRock_29 : decode cX10_readRock 29 = .ok (.iload_n 2, 1) := dk_28 (dk_at dksX10_readRock_1 5 rfl rfl)
theorem dX10_readRock_30 : decode cX10_readRock 30 = .ok (.ifCond .lt 11, 3) := dk_155 0 11 (dk_at dksX10_readRock_1 6 rfl rfl)
theorem dX10_readRock_33 : decode cX10_readRock 33 = .ok (.aload_n 0, 1) := dk_42 (dk_at dksX10_readRock_1 9 rfl rfl)
theorem dX10_readRock_34 : decode cX10_readRock 34 = .ok (.iconst (-1), 1) := dk_2 (dk_at dksX10_readRock_1 10 rfl rfl)
theorem dX10_readRock_35 : decode cX10_readRock 35 = .ok (.iconst (-1), 1) := dk_2 (dk_at dksX10_readRock_1 11 rfl rfl)
theorem dX10_readRock_36 : decode cX10_readRock 36 = .ok (.iload_n 1, 1) := dk_27 (dk_at dksX10_readRock_1 12 rfl rfl)
theorem dX10_readRock_37 : decode cX10_readRock 37 = .ok (.iload_n 2, 1) := dk_28 (dk_at dksX10_readRock_1 13 rfl rfl)
theorem dX10_readRock_38 : decode cX10_readRock 38 = .ok (.invokevirtual 177, 3) := dk_182 0 177 (dk_at dksX10_readRock_1 14 rfl rfl)
theorem dX10_readRock_41 : decode cX10_readRock 41 = .ok (.iload_n 2, 1) := dk_28 (dk_at dksX10_readRock_1 17 rfl rfl)
theorem dX10_readRock_42 : decode cX10_readRock 42 = .ok (.ifCond .lt 7, 3) := dk_155 0 7 (dk_at dksX10_readRock_1 18 rfl rfl)
theorem dX10_readRock_45 : decode cX10_readRock 45 = .ok (.iconst 1, 1) := dk_4 (dk_at dksX10_readRock_1 21 rfl rfl)
theorem dX10_readRock_46 : decode cX10_readRock 46 = .ok (.goto 4, 3) := dk_167 0 4 (dk_at dksX10_readRock_2 0 rfl rfl)
theorem dX10_readRock_49 : decode cX10_readRock 49 = .ok (.iconst 0, 1) := dk_3 (dk_at dksX10_readRock_2 3 rfl rfl)
theorem dX10_readRock_50 : decode cX10_readRock 50 = .ok (.ireturn, 1) := dk_172 (dk_at dksX10_readRock_2 4 rfl rfl)
abbrev cX10_throwsIn : ByteArray := prog_20_method_47_code
def yX10_throwsIn : MethodName := ⟨RX10, "throwsIn", "(IIII)V"⟩
def dkwX10_throwsIn_3 : List UInt8 := [7, 92, 46, 4, 96, 79, 177]
abbrev dktX10_throwsIn_3 : List UInt8 := dkwX10_throwsIn_3 ++ []
def dkwX10_throwsIn_2 : List UInt8 := [182, 0, 173, 42, 21, 5, 8, 2, 182, 0, 173, 42, 21, 5, 16, 6, 2, 182, 0, 173, 42, 180, 0, 13]
abbrev dktX10_throwsIn_2 : List UInt8 := dkwX10_throwsIn_2 ++ dktX10_throwsIn_3
def dkwX10_throwsIn_1 : List UInt8 := [21, 5, 5, 29, 182, 0, 173, 42, 21, 5, 6, 42, 182, 0, 162, 182, 0, 173, 42, 21, 5, 7, 21, 4]
abbrev dktX10_throwsIn_1 : List UInt8 := dkwX10_throwsIn_1 ++ dktX10_throwsIn_2
def dkwX10_throwsIn_0 : List UInt8 := [42, 182, 0, 100, 54, 5, 42, 21, 5, 3, 27, 182, 0, 173, 42, 21, 5, 4, 28, 182, 0, 173, 42]
abbrev dktX10_throwsIn_0 : List UInt8 := dkwX10_throwsIn_0 ++ dktX10_throwsIn_1
theorem dksX10_throwsIn_0 : cX10_throwsIn.data.toList.drop 0 = dktX10_throwsIn_0 := by decide +kernel
theorem dksX10_throwsIn_1 : cX10_throwsIn.data.toList.drop 23 = dktX10_throwsIn_1 := dk_seg dksX10_throwsIn_0 23 rfl rfl
theorem dksX10_throwsIn_2 : cX10_throwsIn.data.toList.drop 47 = dktX10_throwsIn_2 := dk_seg dksX10_throwsIn_1 24 rfl rfl
theorem dksX10_throwsIn_3 : cX10_throwsIn.data.toList.drop 71 = dktX10_throwsIn_3 := dk_seg dksX10_throwsIn_2 24 rfl rfl
theorem dX10_throwsIn_0 : decode cX10_throwsIn 0 = .ok (.aload_n 0, 1) := dk_42 (dk_at dksX10_throwsIn_0 0 rfl rfl)
theorem dX10_throwsIn_1 : decode cX10_throwsIn 1 = .ok (.invokevirtual 100, 3) := dk_182 0 100 (dk_at dksX10_throwsIn_0 1 rfl rfl)
theorem dX10_throwsIn_4 : decode cX10_throwsIn 4 = .ok (.istore 5, 2) := dk_54 5 (dk_at dksX10_throwsIn_0 4 rfl rfl)
theorem dX10_throwsIn_6 : decode cX10_throwsIn 6 = .ok (.aload_n 0, 1) := dk_42 (dk_at dksX10_throwsIn_0 6 rfl rfl)
theorem dX10_throwsIn_7 : decode cX10_throwsIn 7 = .ok (.iload 5, 2) := dk_21 5 (dk_at dksX10_throwsIn_0 7 rfl rfl)
theorem dX10_throwsIn_9 : decode cX10_throwsIn 9 = .ok (.iconst 0, 1) := dk_3 (dk_at dksX10_throwsIn_0 9 rfl rfl)
theorem dX10_throwsIn_10 : decode cX10_throwsIn 10 = .ok (.iload_n 1, 1) := dk_27 (dk_at dksX10_throwsIn_0 10 rfl rfl)
theorem dX10_throwsIn_11 : decode cX10_throwsIn 11 = .ok (.invokevirtual 173, 3) := dk_182 0 173 (dk_at dksX10_throwsIn_0 11 rfl rfl)
theorem dX10_throwsIn_14 : decode cX10_throwsIn 14 = .ok (.aload_n 0, 1) := dk_42 (dk_at dksX10_throwsIn_0 14 rfl rfl)
theorem dX10_throwsIn_15 : decode cX10_throwsIn 15 = .ok (.iload 5, 2) := dk_21 5 (dk_at dksX10_throwsIn_0 15 rfl rfl)
theorem dX10_throwsIn_17 : decode cX10_throwsIn 17 = .ok (.iconst 1, 1) := dk_4 (dk_at dksX10_throwsIn_0 17 rfl rfl)
theorem dX10_throwsIn_18 : decode cX10_throwsIn 18 = .ok (.iload_n 2, 1) := dk_28 (dk_at dksX10_throwsIn_0 18 rfl rfl)
theorem dX10_throwsIn_19 : decode cX10_throwsIn 19 = .ok (.invokevirtual 173, 3) := dk_182 0 173 (dk_at dksX10_throwsIn_0 19 rfl rfl)
theorem dX10_throwsIn_22 : decode cX10_throwsIn 22 = .ok (.aload_n 0, 1) := dk_42 (dk_at dksX10_throwsIn_0 22 rfl rfl)
theorem dX10_throwsIn_23 : decode cX10_throwsIn 23 = .ok (.iload 5, 2) := dk_21 5 (dk_at dksX10_throwsIn_1 0 rfl rfl)
theorem dX10_throwsIn_25 : decode cX10_throwsIn 25 = .ok (.iconst 2, 1) := dk_5 (dk_at dksX10_throwsIn_1 2 rfl rfl)
theorem dX10_throwsIn_26 : decode cX10_throwsIn 26 = .ok (.iload_n 3, 1) := dk_29 (dk_at dksX10_throwsIn_1 3 rfl rfl)
theorem dX10_throwsIn_27 : decode cX10_throwsIn 27 = .ok (.invokevirtual 173, 3) := dk_182 0 173 (dk_at dksX10_throwsIn_1 4 rfl rfl)
theorem dX10_throwsIn_30 : decode cX10_throwsIn 30 = .ok (.aload_n 0, 1) := dk_42 (dk_at dksX10_throwsIn_1 7 rfl rfl)
theorem dX10_throwsIn_31 : decode cX10_throwsIn 31 = .ok (.iload 5, 2) := dk_21 5 (dk_at dksX10_throwsIn_1 8 rfl rfl)
theorem dX10_throwsIn_33 : decode cX10_throwsIn 33 = .ok (.iconst 3, 1) := dk_6 (dk_at dksX10_throwsIn_1 10 rfl rfl)
theorem dX10_throwsIn_34 : decode cX10_throwsIn 34 = .ok (.aload_n 0, 1) := dk_42 (dk_at dksX10_throwsIn_1 11 rfl rfl)
theorem dX10_throwsIn_35 : decode cX10_throwsIn 35 = .ok (.invokevirtual 162, 3) := dk_182 0 162 (dk_at dksX10_throwsIn_1 12 rfl rfl)
theorem dX10_throwsIn_38 : decode cX10_throwsIn 38 = .ok (.invokevirtual 173, 3) := dk_182 0 173 (dk_at dksX10_throwsIn_1 15 rfl rfl)
theorem dX10_throwsIn_41 : decode cX10_throwsIn 41 = .ok (.aload_n 0, 1) := dk_42 (dk_at dksX10_throwsIn_1 18 rfl rfl)
theorem dX10_throwsIn_42 : decode cX10_throwsIn 42 = .ok (.iload 5, 2) := dk_21 5 (dk_at dksX10_throwsIn_1 19 rfl rfl)
theorem dX10_throwsIn_44 : decode cX10_throwsIn 44 = .ok (.iconst 4, 1) := dk_7 (dk_at dksX10_throwsIn_1 21 rfl rfl)
theorem dX10_throwsIn_45 : decode cX10_throwsIn 45 = .ok (.iload 4, 2) := dk_21 4 (dk_at dksX10_throwsIn_1 22 rfl rfl)
theorem dX10_throwsIn_47 : decode cX10_throwsIn 47 = .ok (.invokevirtual 173, 3) := dk_182 0 173 (dk_at dksX10_throwsIn_2 0 rfl rfl)
theorem dX10_throwsIn_50 : decode cX10_throwsIn 50 = .ok (.aload_n 0, 1) := dk_42 (dk_at dksX10_throwsIn_2 3 rfl rfl)
theorem dX10_throwsIn_51 : decode cX10_throwsIn 51 = .ok (.iload 5, 2) := dk_21 5 (dk_at dksX10_throwsIn_2 4 rfl rfl)
theorem dX10_throwsIn_53 : decode cX10_throwsIn 53 = .ok (.iconst 5, 1) := dk_8 (dk_at dksX10_throwsIn_2 6 rfl rfl)
theorem dX10_throwsIn_54 : decode cX10_throwsIn 54 = .ok (.iconst (-1), 1) := dk_2 (dk_at dksX10_throwsIn_2 7 rfl rfl)
theorem dX10_throwsIn_55 : decode cX10_throwsIn 55 = .ok (.invokevirtual 173, 3) := dk_182 0 173 (dk_at dksX10_throwsIn_2 8 rfl rfl)
theorem dX10_throwsIn_58 : decode cX10_throwsIn 58 = .ok (.aload_n 0, 1) := dk_42 (dk_at dksX10_throwsIn_2 11 rfl rfl)
theorem dX10_throwsIn_59 : decode cX10_throwsIn 59 = .ok (.iload 5, 2) := dk_21 5 (dk_at dksX10_throwsIn_2 12 rfl rfl)
theorem dX10_throwsIn_61 : decode cX10_throwsIn 61 = .ok (.bipush 6, 2) := dk_16 6 (dk_at dksX10_throwsIn_2 14 rfl rfl)
theorem dX10_throwsIn_63 : decode cX10_throwsIn 63 = .ok (.iconst (-1), 1) := dk_2 (dk_at dksX10_throwsIn_2 16 rfl rfl)
theorem dX10_throwsIn_64 : decode cX10_throwsIn 64 = .ok (.invokevirtual 173, 3) := dk_182 0 173 (dk_at dksX10_throwsIn_2 17 rfl rfl)
theorem dX10_throwsIn_67 : decode cX10_throwsIn 67 = .ok (.aload_n 0, 1) := dk_42 (dk_at dksX10_throwsIn_2 20 rfl rfl)
theorem dX10_throwsIn_68 : decode cX10_throwsIn 68 = .ok (.getfield 13, 3) := dk_180 0 13 (dk_at dksX10_throwsIn_2 21 rfl rfl)
theorem dX10_throwsIn_71 : decode cX10_throwsIn 71 = .ok (.iconst 4, 1) := dk_7 (dk_at dksX10_throwsIn_3 0 rfl rfl)
theorem dX10_throwsIn_72 : decode cX10_throwsIn 72 = .ok (.dup2, 1) := dk_92 (dk_at dksX10_throwsIn_3 1 rfl rfl)
theorem dX10_throwsIn_73 : decode cX10_throwsIn 73 = .ok (.iaload, 1) := dk_46 (dk_at dksX10_throwsIn_3 2 rfl rfl)
theorem dX10_throwsIn_74 : decode cX10_throwsIn 74 = .ok (.iconst 1, 1) := dk_4 (dk_at dksX10_throwsIn_3 3 rfl rfl)
theorem dX10_throwsIn_75 : decode cX10_throwsIn 75 = .ok (.iadd, 1) := dk_96 (dk_at dksX10_throwsIn_3 4 rfl rfl)
theorem dX10_throwsIn_76 : decode cX10_throwsIn 76 = .ok (.iastore, 1) := dk_79 (dk_at dksX10_throwsIn_3 5 rfl rfl)
theorem dX10_throwsIn_77 : decode cX10_throwsIn 77 = .ok (.return_, 1) := dk_177 (dk_at dksX10_throwsIn_3 6 rfl rfl)
abbrev cX10_setsLetter : ByteArray := prog_20_method_17_code
def yX10_setsLetter : MethodName := ⟨RX10, "setsLetter", "(III)V"⟩
def dkwX10_setsLetter_0 : List UInt8 := [42, 180, 0, 13, 16, 119, 16, 7, 27, 104, 96, 28, 96, 29, 79, 177]
abbrev dktX10_setsLetter_0 : List UInt8 := dkwX10_setsLetter_0 ++ []
theorem dksX10_setsLetter_0 : cX10_setsLetter.data.toList.drop 0 = dktX10_setsLetter_0 := by decide +kernel
theorem dX10_setsLetter_0 : decode cX10_setsLetter 0 = .ok (.aload_n 0, 1) := dk_42 (dk_at dksX10_setsLetter_0 0 rfl rfl)
theorem dX10_setsLetter_1 : decode cX10_setsLetter 1 = .ok (.getfield 13, 3) := dk_180 0 13 (dk_at dksX10_setsLetter_0 1 rfl rfl)
theorem dX10_setsLetter_4 : decode cX10_setsLetter 4 = .ok (.bipush 119, 2) := dk_16 119 (dk_at dksX10_setsLetter_0 4 rfl rfl)
theorem dX10_setsLetter_6 : decode cX10_setsLetter 6 = .ok (.bipush 7, 2) := dk_16 7 (dk_at dksX10_setsLetter_0 6 rfl rfl)
theorem dX10_setsLetter_8 : decode cX10_setsLetter 8 = .ok (.iload_n 1, 1) := dk_27 (dk_at dksX10_setsLetter_0 8 rfl rfl)
theorem dX10_setsLetter_9 : decode cX10_setsLetter 9 = .ok (.imul, 1) := dk_104 (dk_at dksX10_setsLetter_0 9 rfl rfl)
theorem dX10_setsLetter_10 : decode cX10_setsLetter 10 = .ok (.iadd, 1) := dk_96 (dk_at dksX10_setsLetter_0 10 rfl rfl)
theorem dX10_setsLetter_11 : decode cX10_setsLetter 11 = .ok (.iload_n 2, 1) := dk_28 (dk_at dksX10_setsLetter_0 11 rfl rfl)
theorem dX10_setsLetter_12 : decode cX10_setsLetter 12 = .ok (.iadd, 1) := dk_96 (dk_at dksX10_setsLetter_0 12 rfl rfl)
theorem dX10_setsLetter_13 : decode cX10_setsLetter 13 = .ok (.iload_n 3, 1) := dk_29 (dk_at dksX10_setsLetter_0 13 rfl rfl)
theorem dX10_setsLetter_14 : decode cX10_setsLetter 14 = .ok (.iastore, 1) := dk_79 (dk_at dksX10_setsLetter_0 14 rfl rfl)
theorem dX10_setsLetter_15 : decode cX10_setsLetter 15 = .ok (.return_, 1) := dk_177 (dk_at dksX10_setsLetter_0 15 rfl rfl)
abbrev cX10_readTable : ByteArray := prog_20_method_49_code
def yX10_readTable : MethodName := ⟨RX10, "readTable", "()Z"⟩
def dkwX10_readTable_1 : List UInt8 := [182, 0, 149, 154, 0, 5, 3, 172, 42, 180, 0, 13, 16, 6, 92, 46, 4, 96, 79, 4, 172]
abbrev dktX10_readTable_1 : List UInt8 := dkwX10_readTable_1 ++ []
def dkwX10_readTable_0 : List UInt8 := [42, 180, 0, 13, 16, 6, 46, 60, 27, 16, 6, 159, 0, 18, 42, 17, 1, 31, 16, 6, 27, 104, 96]
abbrev dktX10_readTable_0 : List UInt8 := dkwX10_readTable_0 ++ dktX10_readTable_1
theorem dksX10_readTable_0 : cX10_readTable.data.toList.drop 0 = dktX10_readTable_0 := by decide +kernel
theorem dksX10_readTable_1 : cX10_readTable.data.toList.drop 23 = dktX10_readTable_1 := dk_seg dksX10_readTable_0 23 rfl rfl
theorem dX10_readTable_0 : decode cX10_readTable 0 = .ok (.aload_n 0, 1) := dk_42 (dk_at dksX10_readTable_0 0 rfl rfl)
theorem dX10_readTable_1 : decode cX10_readTable 1 = .ok (.getfield 13, 3) := dk_180 0 13 (dk_at dksX10_readTable_0 1 rfl rfl)
theorem dX10_readTable_4 : decode cX10_readTable 4 = .ok (.bipush 6, 2) := dk_16 6 (dk_at dksX10_readTable_0 4 rfl rfl)
theorem dX10_readTable_6 : decode cX10_readTable 6 = .ok (.iaload, 1) := dk_46 (dk_at dksX10_readTable_0 6 rfl rfl)
theorem dX10_readTable_7 : decode cX10_readTable 7 = .ok (.istore_n 1, 1) := dk_60 (dk_at dksX10_readTable_0 7 rfl rfl)
theorem dX10_readTable_8 : decode cX10_readTable 8 = .ok (.iload_n 1, 1) := dk_27 (dk_at dksX10_readTable_0 8 rfl rfl)
theorem dX10_readTable_9 : decode cX10_readTable 9 = .ok (.bipush 6, 2) := dk_16 6 (dk_at dksX10_readTable_0 9 rfl rfl)
theorem dX10_readTable_11 : decode cX10_readTable 11 = .ok (.if_icmp .eq 18, 3) := dk_159 0 18 (dk_at dksX10_readTable_0 11 rfl rfl)
theorem dX10_readTable_14 : decode cX10_readTable 14 = .ok (.aload_n 0, 1) := dk_42 (dk_at dksX10_readTable_0 14 rfl rfl)
theorem dX10_readTable_15 : decode cX10_readTable 15 = .ok (.sipush 287, 3) := dk_17 1 31 (dk_at dksX10_readTable_0 15 rfl rfl)
theorem dX10_readTable_18 : decode cX10_readTable 18 = .ok (.bipush 6, 2) := dk_16 6 (dk_at dksX10_readTable_0 18 rfl rfl)
theorem dX10_readTable_20 : decode cX10_readTable 20 = .ok (.iload_n 1, 1) := dk_27 (dk_at dksX10_readTable_0 20 rfl rfl)
theorem dX10_readTable_21 : decode cX10_readTable 21 = .ok (.imul, 1) := dk_104 (dk_at dksX10_readTable_0 21 rfl rfl)
theorem dX10_readTable_22 : decode cX10_readTable 22 = .ok (.iadd, 1) := dk_96 (dk_at dksX10_readTable_0 22 rfl rfl)
theorem dX10_readTable_23 : decode cX10_readTable 23 = .ok (.invokevirtual 149, 3) := dk_182 0 149 (dk_at dksX10_readTable_1 0 rfl rfl)
theorem dX10_readTable_26 : decode cX10_readTable 26 = .ok (.ifCond .ne 5, 3) := dk_154 0 5 (dk_at dksX10_readTable_1 3 rfl rfl)
theorem dX10_readTable_29 : decode cX10_readTable 29 = .ok (.iconst 0, 1) := dk_3 (dk_at dksX10_readTable_1 6 rfl rfl)
theorem dX10_readTable_30 : decode cX10_readTable 30 = .ok (.ireturn, 1) := dk_172 (dk_at dksX10_readTable_1 7 rfl rfl)
theorem dX10_readTable_31 : decode cX10_readTable 31 = .ok (.aload_n 0, 1) := dk_42 (dk_at dksX10_readTable_1 8 rfl rfl)
theorem dX10_readTable_32 : decode cX10_readTable 32 = .ok (.getfield 13, 3) := dk_180 0 13 (dk_at dksX10_readTable_1 9 rfl rfl)
theorem dX10_readTable_35 : decode cX10_readTable 35 = .ok (.bipush 6, 2) := dk_16 6 (dk_at dksX10_readTable_1 12 rfl rfl)
theorem dX10_readTable_37 : decode cX10_readTable 37 = .ok (.dup2, 1) := dk_92 (dk_at dksX10_readTable_1 14 rfl rfl)
theorem dX10_readTable_38 : decode cX10_readTable 38 = .ok (.iaload, 1) := dk_46 (dk_at dksX10_readTable_1 15 rfl rfl)
theorem dX10_readTable_39 : decode cX10_readTable 39 = .ok (.iconst 1, 1) := dk_4 (dk_at dksX10_readTable_1 16 rfl rfl)
theorem dX10_readTable_40 : decode cX10_readTable 40 = .ok (.iadd, 1) := dk_96 (dk_at dksX10_readTable_1 17 rfl rfl)
theorem dX10_readTable_41 : decode cX10_readTable 41 = .ok (.iastore, 1) := dk_79 (dk_at dksX10_readTable_1 18 rfl rfl)
theorem dX10_readTable_42 : decode cX10_readTable 42 = .ok (.iconst 1, 1) := dk_4 (dk_at dksX10_readTable_1 19 rfl rfl)
theorem dX10_readTable_43 : decode cX10_readTable 43 = .ok (.ireturn, 1) := dk_172 (dk_at dksX10_readTable_1 20 rfl rfl)
abbrev cX10_readLawLine : ByteArray := prog_20_method_57_code
def yX10_readLawLine : MethodName := ⟨RX10, "readLawLine", "(I)Z"⟩
def dkwX10_readLawLine_6 : List UInt8 := [154, 0, 5, 3, 172, 42, 180, 0, 13, 28, 6, 96, 42, 180, 0, 224, 79, 4, 172]
abbrev dktX10_readLawLine_6 : List UInt8 := dkwX10_readLawLine_6 ++ []
def dkwX10_readLawLine_5 : List UInt8 := [42, 180, 0, 224, 79, 42, 3, 181, 0, 251, 42, 19, 1, 25, 182, 0, 170, 153, 0, 12, 42, 182, 0, 253]
abbrev dktX10_readLawLine_5 : List UInt8 := dkwX10_readLawLine_5 ++ dktX10_readLawLine_6
def dkwX10_readLawLine_4 : List UInt8 := [182, 0, 138, 79, 42, 180, 0, 13, 28, 4, 96, 46, 156, 0, 5, 3, 172, 42, 180, 0, 13, 28, 5, 96]
abbrev dktX10_readLawLine_4 : List UInt8 := dkwX10_readLawLine_4 ++ dktX10_readLawLine_5
def dkwX10_readLawLine_3 : List UInt8 := [28, 4, 96, 42, 180, 0, 13, 28, 46, 5, 160, 0, 7, 4, 167, 0, 11, 42, 3, 16, 20, 6]
abbrev dktX10_readLawLine_3 : List UInt8 := dkwX10_readLawLine_3 ++ dktX10_readLawLine_4
def dkwX10_readLawLine_2 : List UInt8 := [153, 0, 7, 5, 167, 0, 4, 2, 79, 42, 180, 0, 13, 28, 46, 156, 0, 5, 3, 172, 42, 180, 0, 13]
abbrev dktX10_readLawLine_2 : List UInt8 := dkwX10_readLawLine_2 ++ dktX10_readLawLine_3
def dkwX10_readLawLine_1 : List UInt8 := [167, 0, 32, 42, 19, 1, 21, 182, 0, 134, 153, 0, 7, 4, 167, 0, 18, 42, 19, 1, 23, 182, 0, 134]
abbrev dktX10_readLawLine_1 : List UInt8 := dkwX10_readLawLine_1 ++ dktX10_readLawLine_2
def dkwX10_readLawLine_0 : List UInt8 := [17, 4, 221, 7, 27, 104, 96, 61, 42, 180, 0, 13, 28, 42, 19, 1, 19, 182, 0, 134, 153, 0, 7, 3]
abbrev dktX10_readLawLine_0 : List UInt8 := dkwX10_readLawLine_0 ++ dktX10_readLawLine_1
theorem dksX10_readLawLine_0 : cX10_readLawLine.data.toList.drop 0 = dktX10_readLawLine_0 := by decide +kernel
theorem dksX10_readLawLine_1 : cX10_readLawLine.data.toList.drop 24 = dktX10_readLawLine_1 := dk_seg dksX10_readLawLine_0 24 rfl rfl
theorem dksX10_readLawLine_2 : cX10_readLawLine.data.toList.drop 48 = dktX10_readLawLine_2 := dk_seg dksX10_readLawLine_1 24 rfl rfl
theorem dksX10_readLawLine_3 : cX10_readLawLine.data.toList.drop 72 = dktX10_readLawLine_3 := dk_seg dksX10_readLawLine_2 24 rfl rfl
theorem dksX10_readLawLine_4 : cX10_readLawLine.data.toList.drop 94 = dktX10_readLawLine_4 := dk_seg dksX10_readLawLine_3 22 rfl rfl
theorem dksX10_readLawLine_5 : cX10_readLawLine.data.toList.drop 118 = dktX10_readLawLine_5 := dk_seg dksX10_readLawLine_4 24 rfl rfl
theorem dksX10_readLawLine_6 : cX10_readLawLine.data.toList.drop 142 = dktX10_readLawLine_6 := dk_seg dksX10_readLawLine_5 24 rfl rfl
theorem dX10_readLawLine_0 : decode cX10_readLawLine 0 = .ok (.sipush 1245, 3) := dk_17 4 221 (dk_at dksX10_readLawLine_0 0 rfl rfl)
theorem dX10_readLawLine_3 : decode cX10_readLawLine 3 = .ok (.iconst 4, 1) := dk_7 (dk_at dksX10_readLawLine_0 3 rfl rfl)
theorem dX10_readLawLine_4 : decode cX10_readLawLine 4 = .ok (.iload_n 1, 1) := dk_27 (dk_at dksX10_readLawLine_0 4 rfl rfl)
theorem dX10_readLawLine_5 : decode cX10_readLawLine 5 = .ok (.imul, 1) := dk_104 (dk_at dksX10_readLawLine_0 5 rfl rfl)
theorem dX10_readLawLine_6 : decode cX10_readLawLine 6 = .ok (.iadd, 1) := dk_96 (dk_at dksX10_readLawLine_0 6 rfl rfl)
theorem dX10_readLawLine_7 : decode cX10_readLawLine 7 = .ok (.istore_n 2, 1) := dk_61 (dk_at dksX10_readLawLine_0 7 rfl rfl)
theorem dX10_readLawLine_8 : decode cX10_readLawLine 8 = .ok (.aload_n 0, 1) := dk_42 (dk_at dksX10_readLawLine_0 8 rfl rfl)
theorem dX10_readLawLine_9 : decode cX10_readLawLine 9 = .ok (.getfield 13, 3) := dk_180 0 13 (dk_at dksX10_readLawLine_0 9 rfl rfl)
theorem dX10_readLawLine_12 : decode cX10_readLawLine 12 = .ok (.iload_n 2, 1) := dk_28 (dk_at dksX10_readLawLine_0 12 rfl rfl)
theorem dX10_readLawLine_13 : decode cX10_readLawLine 13 = .ok (.aload_n 0, 1) := dk_42 (dk_at dksX10_readLawLine_0 13 rfl rfl)
theorem dX10_readLawLine_14 : decode cX10_readLawLine 14 = .ok (.ldc_w 275, 3) := dk_19 1 19 (dk_at dksX10_readLawLine_0 14 rfl rfl)
theorem dX10_readLawLine_17 : decode cX10_readLawLine 17 = .ok (.invokevirtual 134, 3) := dk_182 0 134 (dk_at dksX10_readLawLine_0 17 rfl rfl)
theorem dX10_readLawLine_20 : decode cX10_readLawLine 20 = .ok (.ifCond .eq 7, 3) := dk_153 0 7 (dk_at dksX10_readLawLine_0 20 rfl rfl)
theorem dX10_readLawLine_23 : decode cX10_readLawLine 23 = .ok (.iconst 0, 1) := dk_3 (dk_at dksX10_readLawLine_0 23 rfl rfl)
theorem dX10_readLawLine_24 : decode cX10_readLawLine 24 = .ok (.goto 32, 3) := dk_167 0 32 (dk_at dksX10_readLawLine_1 0 rfl rfl)
theorem dX10_readLawLine_27 : decode cX10_readLawLine 27 = .ok (.aload_n 0, 1) := dk_42 (dk_at dksX10_readLawLine_1 3 rfl rfl)
theorem dX10_readLawLine_28 : decode cX10_readLawLine 28 = .ok (.ldc_w 277, 3) := dk_19 1 21 (dk_at dksX10_readLawLine_1 4 rfl rfl)
theorem dX10_readLawLine_31 : decode cX10_readLawLine 31 = .ok (.invokevirtual 134, 3) := dk_182 0 134 (dk_at dksX10_readLawLine_1 7 rfl rfl)
theorem dX10_readLawLine_34 : decode cX10_readLawLine 34 = .ok (.ifCond .eq 7, 3) := dk_153 0 7 (dk_at dksX10_readLawLine_1 10 rfl rfl)
theorem dX10_readLawLine_37 : decode cX10_readLawLine 37 = .ok (.iconst 1, 1) := dk_4 (dk_at dksX10_readLawLine_1 13 rfl rfl)
theorem dX10_readLawLine_38 : decode cX10_readLawLine 38 = .ok (.goto 18, 3) := dk_167 0 18 (dk_at dksX10_readLawLine_1 14 rfl rfl)
theorem dX10_readLawLine_41 : decode cX10_readLawLine 41 = .ok (.aload_n 0, 1) := dk_42 (dk_at dksX10_readLawLine_1 17 rfl rfl)
theorem dX10_readLawLine_42 : decode cX10_readLawLine 42 = .ok (.ldc_w 279, 3) := dk_19 1 23 (dk_at dksX10_readLawLine_1 18 rfl rfl)
theorem dX10_readLawLine_45 : decode cX10_readLawLine 45 = .ok (.invokevirtual 134, 3) := dk_182 0 134 (dk_at dksX10_readLawLine_1 21 rfl rfl)
theorem dX10_readLawLine_48 : decode cX10_readLawLine 48 = .ok (.ifCond .eq 7, 3) := dk_153 0 7 (dk_at dksX10_readLawLine_2 0 rfl rfl)
theorem dX10_readLawLine_51 : decode cX10_readLawLine 51 = .ok (.iconst 2, 1) := dk_5 (dk_at dksX10_readLawLine_2 3 rfl rfl)
theorem dX10_readLawLine_52 : decode cX10_readLawLine 52 = .ok (.goto 4, 3) := dk_167 0 4 (dk_at dksX10_readLawLine_2 4 rfl rfl)
theorem dX10_readLawLine_55 : decode cX10_readLawLine 55 = .ok (.iconst (-1), 1) := dk_2 (dk_at dksX10_readLawLine_2 7 rfl rfl)
theorem dX10_readLawLine_56 : decode cX10_readLawLine 56 = .ok (.iastore, 1) := dk_79 (dk_at dksX10_readLawLine_2 8 rfl rfl)
theorem dX10_readLawLine_57 : decode cX10_readLawLine 57 = .ok (.aload_n 0, 1) := dk_42 (dk_at dksX10_readLawLine_2 9 rfl rfl)
theorem dX10_readLawLine_58 : decode cX10_readLawLine 58 = .ok (.getfield 13, 3) := dk_180 0 13 (dk_at dksX10_readLawLine_2 10 rfl rfl)
theorem dX10_readLawLine_61 : decode cX10_readLawLine 61 = .ok (.iload_n 2, 1) := dk_28 (dk_at dksX10_readLawLine_2 13 rfl rfl)
theorem dX10_readLawLine_62 : decode cX10_readLawLine 62 = .ok (.iaload, 1) := dk_46 (dk_at dksX10_readLawLine_2 14 rfl rfl)
theorem dX10_readLawLine_63 : decode cX10_readLawLine 63 = .ok (.ifCond .ge 5, 3) := dk_156 0 5 (dk_at dksX10_readLawLine_2 15 rfl rfl)
theorem dX10_readLawLine_66 : decode cX10_readLawLine 66 = .ok (.iconst 0, 1) := dk_3 (dk_at dksX10_readLawLine_2 18 rfl rfl)
theorem dX10_readLawLine_67 : decode cX10_readLawLine 67 = .ok (.ireturn, 1) := dk_172 (dk_at dksX10_readLawLine_2 19 rfl rfl)
theorem dX10_readLawLine_68 : decode cX10_readLawLine 68 = .ok (.aload_n 0, 1) := dk_42 (dk_at dksX10_readLawLine_2 20 rfl rfl)
theorem dX10_readLawLine_69 : decode cX10_readLawLine 69 = .ok (.getfield 13, 3) := dk_180 0 13 (dk_at dksX10_readLawLine_2 21 rfl rfl)
theorem dX10_readLawLine_72 : decode cX10_readLawLine 72 = .ok (.iload_n 2, 1) := dk_28 (dk_at dksX10_readLawLine_3 0 rfl rfl)
theorem dX10_readLawLine_73 : decode cX10_readLawLine 73 = .ok (.iconst 1, 1) := dk_4 (dk_at dksX10_readLawLine_3 1 rfl rfl)
theorem dX10_readLawLine_74 : decode cX10_readLawLine 74 = .ok (.iadd, 1) := dk_96 (dk_at dksX10_readLawLine_3 2 rfl rfl)
theorem dX10_readLawLine_75 : decode cX10_readLawLine 75 = .ok (.aload_n 0, 1) := dk_42 (dk_at dksX10_readLawLine_3 3 rfl rfl)
theorem dX10_readLawLine_76 : decode cX10_readLawLine 76 = .ok (.getfield 13, 3) := dk_180 0 13 (dk_at dksX10_readLawLine_3 4 rfl rfl)
theorem dX10_readLawLine_79 : decode cX10_readLawLine 79 = .ok (.iload_n 2, 1) := dk_28 (dk_at dksX10_readLawLine_3 7 rfl rfl)
theorem dX10_readLawLine_80 : decode cX10_readLawLine 80 = .ok (.iaload, 1) := dk_46 (dk_at dksX10_readLawLine_3 8 rfl rfl)
theorem dX10_readLawLine_81 : decode cX10_readLawLine 81 = .ok (.iconst 2, 1) := dk_5 (dk_at dksX10_readLawLine_3 9 rfl rfl)
theorem dX10_readLawLine_82 : decode cX10_readLawLine 82 = .ok (.if_icmp .ne 7, 3) := dk_160 0 7 (dk_at dksX10_readLawLine_3 10 rfl rfl)
theorem dX10_readLawLine_85 : decode cX10_readLawLine 85 = .ok (.iconst 1, 1) := dk_4 (dk_at dksX10_readLawLine_3 13 rfl rfl)
theorem dX10_readLawLine_86 : decode cX10_readLawLine 86 = .ok (.goto 11, 3) := dk_167 0 11 (dk_at dksX10_readLawLine_3 14 rfl rfl)
theorem dX10_readLawLine_89 : decode cX10_readLawLine 89 = .ok (.aload_n 0, 1) := dk_42 (dk_at dksX10_readLawLine_3 17 rfl rfl)
theorem dX10_readLawLine_90 : decode cX10_readLawLine 90 = .ok (.iconst 0, 1) := dk_3 (dk_at dksX10_readLawLine_3 18 rfl rfl)
theorem dX10_readLawLine_91 : decode cX10_readLawLine 91 = .ok (.bipush 20, 2) := dk_16 20 (dk_at dksX10_readLawLine_3 19 rfl rfl)
theorem dX10_readLawLine_93 : decode cX10_readLawLine 93 = .ok (.iconst 3, 1) := dk_6 (dk_at dksX10_readLawLine_3 21 rfl rfl)
theorem dX10_readLawLine_94 : decode cX10_readLawLine 94 = .ok (.invokevirtual 138, 3) := dk_182 0 138 (dk_at dksX10_readLawLine_4 0 rfl rfl)
theorem dX10_readLawLine_97 : decode cX10_readLawLine 97 = .ok (.iastore, 1) := dk_79 (dk_at dksX10_readLawLine_4 3 rfl rfl)
theorem dX10_readLawLine_98 : decode cX10_readLawLine 98 = .ok (.aload_n 0, 1) := dk_42 (dk_at dksX10_readLawLine_4 4 rfl rfl)
theorem dX10_readLawLine_99 : decode cX10_readLawLine 99 = .ok (.getfield 13, 3) := dk_180 0 13 (dk_at dksX10_readLawLine_4 5 rfl rfl)
theorem dX10_readLawLine_102 : decode cX10_readLawLine 102 = .ok (.iload_n 2, 1) := dk_28 (dk_at dksX10_readLawLine_4 8 rfl rfl)
theorem dX10_readLawLine_103 : decode cX10_readLawLine 103 = .ok (.iconst 1, 1) := dk_4 (dk_at dksX10_readLawLine_4 9 rfl rfl)
theorem dX10_readLawLine_104 : decode cX10_readLawLine 104 = .ok (.iadd, 1) := dk_96 (dk_at dksX10_readLawLine_4 10 rfl rfl)
theorem dX10_readLawLine_105 : decode cX10_readLawLine 105 = .ok (.iaload, 1) := dk_46 (dk_at dksX10_readLawLine_4 11 rfl rfl)
theorem dX10_readLawLine_106 : decode cX10_readLawLine 106 = .ok (.ifCond .ge 5, 3) := dk_156 0 5 (dk_at dksX10_readLawLine_4 12 rfl rfl)
theorem dX10_readLawLine_109 : decode cX10_readLawLine 109 = .ok (.iconst 0, 1) := dk_3 (dk_at dksX10_readLawLine_4 15 rfl rfl)
theorem dX10_readLawLine_110 : decode cX10_readLawLine 110 = .ok (.ireturn, 1) := dk_172 (dk_at dksX10_readLawLine_4 16 rfl rfl)
theorem dX10_readLawLine_111 : decode cX10_readLawLine 111 = .ok (.aload_n 0, 1) := dk_42 (dk_at dksX10_readLawLine_4 17 rfl rfl)
theorem dX10_readLawLine_112 : decode cX10_readLawLine 112 = .ok (.getfield 13, 3) := dk_180 0 13 (dk_at dksX10_readLawLine_4 18 rfl rfl)
theorem dX10_readLawLine_115 : decode cX10_readLawLine 115 = .ok (.iload_n 2, 1) := dk_28 (dk_at dksX10_readLawLine_4 21 rfl rfl)
theorem dX10_readLawLine_116 : decode cX10_readLawLine 116 = .ok (.iconst 2, 1) := dk_5 (dk_at dksX10_readLawLine_4 22 rfl rfl)
theorem dX10_readLawLine_117 : decode cX10_readLawLine 117 = .ok (.iadd, 1) := dk_96 (dk_at dksX10_readLawLine_4 23 rfl rfl)
theorem dX10_readLawLine_118 : decode cX10_readLawLine 118 = .ok (.aload_n 0, 1) := dk_42 (dk_at dksX10_readLawLine_5 0 rfl rfl)
theorem dX10_readLawLine_119 : decode cX10_readLawLine 119 = .ok (.getfield 224, 3) := dk_180 0 224 (dk_at dksX10_readLawLine_5 1 rfl rfl)
theorem dX10_readLawLine_122 : decode cX10_readLawLine 122 = .ok (.iastore, 1) := dk_79 (dk_at dksX10_readLawLine_5 4 rfl rfl)
theorem dX10_readLawLine_123 : decode cX10_readLawLine 123 = .ok (.aload_n 0, 1) := dk_42 (dk_at dksX10_readLawLine_5 5 rfl rfl)
theorem dX10_readLawLine_124 : decode cX10_readLawLine 124 = .ok (.iconst 0, 1) := dk_3 (dk_at dksX10_readLawLine_5 6 rfl rfl)
theorem dX10_readLawLine_125 : decode cX10_readLawLine 125 = .ok (.putfield 251, 3) := dk_181 0 251 (dk_at dksX10_readLawLine_5 7 rfl rfl)
theorem dX10_readLawLine_128 : decode cX10_readLawLine 128 = .ok (.aload_n 0, 1) := dk_42 (dk_at dksX10_readLawLine_5 10 rfl rfl)
theorem dX10_readLawLine_129 : decode cX10_readLawLine 129 = .ok (.ldc_w 281, 3) := dk_19 1 25 (dk_at dksX10_readLawLine_5 11 rfl rfl)
theorem dX10_readLawLine_132 : decode cX10_readLawLine 132 = .ok (.invokevirtual 170, 3) := dk_182 0 170 (dk_at dksX10_readLawLine_5 14 rfl rfl)
theorem dX10_readLawLine_135 : decode cX10_readLawLine 135 = .ok (.ifCond .eq 12, 3) := dk_153 0 12 (dk_at dksX10_readLawLine_5 17 rfl rfl)
theorem dX10_readLawLine_138 : decode cX10_readLawLine 138 = .ok (.aload_n 0, 1) := dk_42 (dk_at dksX10_readLawLine_5 20 rfl rfl)
theorem dX10_readLawLine_139 : decode cX10_readLawLine 139 = .ok (.invokevirtual 253, 3) := dk_182 0 253 (dk_at dksX10_readLawLine_5 21 rfl rfl)
theorem dX10_readLawLine_142 : decode cX10_readLawLine 142 = .ok (.ifCond .ne 5, 3) := dk_154 0 5 (dk_at dksX10_readLawLine_6 0 rfl rfl)
theorem dX10_readLawLine_145 : decode cX10_readLawLine 145 = .ok (.iconst 0, 1) := dk_3 (dk_at dksX10_readLawLine_6 3 rfl rfl)
theorem dX10_readLawLine_146 : decode cX10_readLawLine 146 = .ok (.ireturn, 1) := dk_172 (dk_at dksX10_readLawLine_6 4 rfl rfl)
theorem dX10_readLawLine_147 : decode cX10_readLawLine 147 = .ok (.aload_n 0, 1) := dk_42 (dk_at dksX10_readLawLine_6 5 rfl rfl)
theorem dX10_readLawLine_148 : decode cX10_readLawLine 148 = .ok (.getfield 13, 3) := dk_180 0 13 (dk_at dksX10_readLawLine_6 6 rfl rfl)
theorem dX10_readLawLine_151 : decode cX10_readLawLine 151 = .ok (.iload_n 2, 1) := dk_28 (dk_at dksX10_readLawLine_6 9 rfl rfl)
theorem dX10_readLawLine_152 : decode cX10_readLawLine 152 = .ok (.iconst 3, 1) := dk_6 (dk_at dksX10_readLawLine_6 10 rfl rfl)
theorem dX10_readLawLine_153 : decode cX10_readLawLine 153 = .ok (.iadd, 1) := dk_96 (dk_at dksX10_readLawLine_6 11 rfl rfl)
theorem dX10_readLawLine_154 : decode cX10_readLawLine 154 = .ok (.aload_n 0, 1) := dk_42 (dk_at dksX10_readLawLine_6 12 rfl rfl)
theorem dX10_readLawLine_155 : decode cX10_readLawLine 155 = .ok (.getfield 224, 3) := dk_180 0 224 (dk_at dksX10_readLawLine_6 13 rfl rfl)
theorem dX10_readLawLine_158 : decode cX10_readLawLine 158 = .ok (.iastore, 1) := dk_79 (dk_at dksX10_readLawLine_6 16 rfl rfl)
theorem dX10_readLawLine_159 : decode cX10_readLawLine 159 = .ok (.iconst 1, 1) := dk_4 (dk_at dksX10_readLawLine_6 17 rfl rfl)
theorem dX10_readLawLine_160 : decode cX10_readLawLine 160 = .ok (.ireturn, 1) := dk_172 (dk_at dksX10_readLawLine_6 18 rfl rfl)
abbrev cX10_readCond : ByteArray := prog_20_method_56_code
def yX10_readCond : MethodName := ⟨RX10, "readCond", "()Z"⟩
def dkwX10_readCond_1 : List UInt8 := [154, 0, 5, 3, 172, 42, 16, 16, 3, 182, 0, 227, 167, 255, 230, 4, 172]
abbrev dktX10_readCond_1 : List UInt8 := dkwX10_readCond_1 ++ []
def dkwX10_readCond_0 : List UInt8 := [42, 182, 1, 14, 154, 0, 5, 3, 172, 42, 19, 1, 17, 182, 0, 170, 153, 0, 22, 42, 182, 1, 14]
abbrev dktX10_readCond_0 : List UInt8 := dkwX10_readCond_0 ++ dktX10_readCond_1
theorem dksX10_readCond_0 : cX10_readCond.data.toList.drop 0 = dktX10_readCond_0 := by decide +kernel
theorem dksX10_readCond_1 : cX10_readCond.data.toList.drop 23 = dktX10_readCond_1 := dk_seg dksX10_readCond_0 23 rfl rfl
theorem dX10_readCond_0 : decode cX10_readCond 0 = .ok (.aload_n 0, 1) := dk_42 (dk_at dksX10_readCond_0 0 rfl rfl)
theorem dX10_readCond_1 : decode cX10_readCond 1 = .ok (.invokevirtual 270, 3) := dk_182 1 14 (dk_at dksX10_readCond_0 1 rfl rfl)
theorem dX10_readCond_4 : decode cX10_readCond 4 = .ok (.ifCond .ne 5, 3) := dk_154 0 5 (dk_at dksX10_readCond_0 4 rfl rfl)
theorem dX10_readCond_7 : decode cX10_readCond 7 = .ok (.iconst 0, 1) := dk_3 (dk_at dksX10_readCond_0 7 rfl rfl)
theorem dX10_readCond_8 : decode cX10_readCond 8 = .ok (.ireturn, 1) := dk_172 (dk_at dksX10_readCond_0 8 rfl rfl)
theorem dX10_readCond_9 : decode cX10_readCond 9 = .ok (.aload_n 0, 1) := dk_42 (dk_at dksX10_readCond_0 9 rfl rfl)
theorem dX10_readCond_10 : decode cX10_readCond 10 = .ok (.ldc_w 273, 3) := dk_19 1 17 (dk_at dksX10_readCond_0 10 rfl rfl)
theorem dX10_readCond_13 : decode cX10_readCond 13 = .ok (.invokevirtual 170, 3) := dk_182 0 170 (dk_at dksX10_readCond_0 13 rfl rfl)
theorem dX10_readCond_16 : decode cX10_readCond 16 = .ok (.ifCond .eq 22, 3) := dk_153 0 22 (dk_at dksX10_readCond_0 16 rfl rfl)
theorem dX10_readCond_19 : decode cX10_readCond 19 = .ok (.aload_n 0, 1) := dk_42 (dk_at dksX10_readCond_0 19 rfl rfl)
theorem dX10_readCond_20 : decode cX10_readCond 20 = .ok (.invokevirtual 270, 3) := dk_182 1 14 (dk_at dksX10_readCond_0 20 rfl rfl)
theorem dX10_readCond_23 : decode cX10_readCond 23 = .ok (.ifCond .ne 5, 3) := dk_154 0 5 (dk_at dksX10_readCond_1 0 rfl rfl)
theorem dX10_readCond_26 : decode cX10_readCond 26 = .ok (.iconst 0, 1) := dk_3 (dk_at dksX10_readCond_1 3 rfl rfl)
theorem dX10_readCond_27 : decode cX10_readCond 27 = .ok (.ireturn, 1) := dk_172 (dk_at dksX10_readCond_1 4 rfl rfl)
theorem dX10_readCond_28 : decode cX10_readCond 28 = .ok (.aload_n 0, 1) := dk_42 (dk_at dksX10_readCond_1 5 rfl rfl)
theorem dX10_readCond_29 : decode cX10_readCond 29 = .ok (.bipush 16, 2) := dk_16 16 (dk_at dksX10_readCond_1 6 rfl rfl)
theorem dX10_readCond_31 : decode cX10_readCond 31 = .ok (.iconst 0, 1) := dk_3 (dk_at dksX10_readCond_1 8 rfl rfl)
theorem dX10_readCond_32 : decode cX10_readCond 32 = .ok (.invokevirtual 227, 3) := dk_182 0 227 (dk_at dksX10_readCond_1 9 rfl rfl)
theorem dX10_readCond_35 : decode cX10_readCond 35 = .ok (.goto (-26), 3) := dk_167 255 230 (dk_at dksX10_readCond_1 12 rfl rfl)
theorem dX10_readCond_38 : decode cX10_readCond 38 = .ok (.iconst 1, 1) := dk_4 (dk_at dksX10_readCond_1 15 rfl rfl)
theorem dX10_readCond_39 : decode cX10_readCond 39 = .ok (.ireturn, 1) := dk_172 (dk_at dksX10_readCond_1 16 rfl rfl)
abbrev cX10_readAllOf : ByteArray := prog_20_method_55_code
def yX10_readAllOf : MethodName := ⟨RX10, "readAllOf", "()Z"⟩
def dkwX10_readAllOf_1 : List UInt8 := [154, 0, 5, 3, 172, 42, 16, 15, 3, 182, 0, 227, 167, 255, 230, 4, 172]
abbrev dktX10_readAllOf_1 : List UInt8 := dkwX10_readAllOf_1 ++ []
def dkwX10_readAllOf_0 : List UInt8 := [42, 182, 1, 2, 154, 0, 5, 3, 172, 42, 19, 1, 12, 182, 0, 170, 153, 0, 22, 42, 182, 1, 2]
abbrev dktX10_readAllOf_0 : List UInt8 := dkwX10_readAllOf_0 ++ dktX10_readAllOf_1
theorem dksX10_readAllOf_0 : cX10_readAllOf.data.toList.drop 0 = dktX10_readAllOf_0 := by decide +kernel
theorem dksX10_readAllOf_1 : cX10_readAllOf.data.toList.drop 23 = dktX10_readAllOf_1 := dk_seg dksX10_readAllOf_0 23 rfl rfl
theorem dX10_readAllOf_0 : decode cX10_readAllOf 0 = .ok (.aload_n 0, 1) := dk_42 (dk_at dksX10_readAllOf_0 0 rfl rfl)
theorem dX10_readAllOf_1 : decode cX10_readAllOf 1 = .ok (.invokevirtual 258, 3) := dk_182 1 2 (dk_at dksX10_readAllOf_0 1 rfl rfl)
theorem dX10_readAllOf_4 : decode cX10_readAllOf 4 = .ok (.ifCond .ne 5, 3) := dk_154 0 5 (dk_at dksX10_readAllOf_0 4 rfl rfl)
theorem dX10_readAllOf_7 : decode cX10_readAllOf 7 = .ok (.iconst 0, 1) := dk_3 (dk_at dksX10_readAllOf_0 7 rfl rfl)
theorem dX10_readAllOf_8 : decode cX10_readAllOf 8 = .ok (.ireturn, 1) := dk_172 (dk_at dksX10_readAllOf_0 8 rfl rfl)
theorem dX10_readAllOf_9 : decode cX10_readAllOf 9 = .ok (.aload_n 0, 1) := dk_42 (dk_at dksX10_readAllOf_0 9 rfl rfl)
theorem dX10_readAllOf_10 : decode cX10_readAllOf 10 = .ok (.ldc_w 268, 3) := dk_19 1 12 (dk_at dksX10_readAllOf_0 10 rfl rfl)
theorem dX10_readAllOf_13 : decode cX10_readAllOf 13 = .ok (.invokevirtual 170, 3) := dk_182 0 170 (dk_at dksX10_readAllOf_0 13 rfl rfl)
theorem dX10_readAllOf_16 : decode cX10_readAllOf 16 = .ok (.ifCond .eq 22, 3) := dk_153 0 22 (dk_at dksX10_readAllOf_0 16 rfl rfl)
theorem dX10_readAllOf_19 : decode cX10_readAllOf 19 = .ok (.aload_n 0, 1) := dk_42 (dk_at dksX10_readAllOf_0 19 rfl rfl)
theorem dX10_readAllOf_20 : decode cX10_readAllOf 20 = .ok (.invokevirtual 258, 3) := dk_182 1 2 (dk_at dksX10_readAllOf_0 20 rfl rfl)
theorem dX10_readAllOf_23 : decode cX10_readAllOf 23 = .ok (.ifCond .ne 5, 3) := dk_154 0 5 (dk_at dksX10_readAllOf_1 0 rfl rfl)
theorem dX10_readAllOf_26 : decode cX10_readAllOf 26 = .ok (.iconst 0, 1) := dk_3 (dk_at dksX10_readAllOf_1 3 rfl rfl)
theorem dX10_readAllOf_27 : decode cX10_readAllOf 27 = .ok (.ireturn, 1) := dk_172 (dk_at dksX10_readAllOf_1 4 rfl rfl)
theorem dX10_readAllOf_28 : decode cX10_readAllOf 28 = .ok (.aload_n 0, 1) := dk_42 (dk_at dksX10_readAllOf_1 5 rfl rfl)
theorem dX10_readAllOf_29 : decode cX10_readAllOf 29 = .ok (.bipush 15, 2) := dk_16 15 (dk_at dksX10_readAllOf_1 6 rfl rfl)
theorem dX10_readAllOf_31 : decode cX10_readAllOf 31 = .ok (.iconst 0, 1) := dk_3 (dk_at dksX10_readAllOf_1 8 rfl rfl)
theorem dX10_readAllOf_32 : decode cX10_readAllOf 32 = .ok (.invokevirtual 227, 3) := dk_182 0 227 (dk_at dksX10_readAllOf_1 9 rfl rfl)
theorem dX10_readAllOf_35 : decode cX10_readAllOf 35 = .ok (.goto (-26), 3) := dk_167 255 230 (dk_at dksX10_readAllOf_1 12 rfl rfl)
theorem dX10_readAllOf_38 : decode cX10_readAllOf 38 = .ok (.iconst 1, 1) := dk_4 (dk_at dksX10_readAllOf_1 15 rfl rfl)
theorem dX10_readAllOf_39 : decode cX10_readAllOf 39 = .ok (.ireturn, 1) := dk_172 (dk_at dksX10_readAllOf_1 16 rfl rfl)
abbrev cX10_readAtom : ByteArray := prog_20_method_54_code
def yX10_readAtom : MethodName := ⟨RX10, "readAtom", "()Z"⟩
def dkwX10_readAtom_9 : List UInt8 := [4, 172]
abbrev dktX10_readAtom_9 : List UInt8 := dkwX10_readAtom_9 ++ []
def dkwX10_readAtom_8 : List UInt8 := [182, 1, 9, 154, 0, 5, 3, 172, 42, 28, 153, 0, 8, 16, 12, 167, 0, 5, 16, 13, 3, 182, 0, 227]
abbrev dktX10_readAtom_8 : List UInt8 := dkwX10_readAtom_8 ++ dktX10_readAtom_9
def dkwX10_readAtom_7 : List UInt8 := [172, 42, 16, 60, 182, 0, 248, 61, 28, 154, 0, 12, 42, 16, 62, 182, 0, 248, 153, 0, 10, 42]
abbrev dktX10_readAtom_7 : List UInt8 := dkwX10_readAtom_7 ++ dktX10_readAtom_8
def dkwX10_readAtom_6 : List UInt8 := [153, 0, 8, 16, 8, 167, 0, 5, 16, 9, 3, 182, 0, 227, 4, 172, 42, 182, 1, 9, 154, 0, 5, 3]
abbrev dktX10_readAtom_6 : List UInt8 := dkwX10_readAtom_6 ++ dktX10_readAtom_7
def dkwX10_readAtom_5 : List UInt8 := [19, 1, 5, 182, 0, 170, 60, 27, 154, 0, 13, 42, 19, 1, 7, 182, 0, 170, 153, 0, 21, 42, 27]
abbrev dktX10_readAtom_5 : List UInt8 := dkwX10_readAtom_5 ++ dktX10_readAtom_6
def dkwX10_readAtom_4 : List UInt8 := [3, 172, 42, 89, 180, 0, 251, 4, 100, 181, 0, 251, 42, 16, 14, 3, 182, 0, 227, 4, 172, 42]
abbrev dktX10_readAtom_4 : List UInt8 := dkwX10_readAtom_4 ++ dktX10_readAtom_5
def dkwX10_readAtom_3 : List UInt8 := [16, 6, 160, 0, 5, 3, 172, 42, 89, 180, 0, 251, 4, 96, 181, 0, 251, 42, 182, 1, 2, 154, 0, 5]
abbrev dktX10_readAtom_3 : List UInt8 := dkwX10_readAtom_3 ++ dktX10_readAtom_4
def dkwX10_readAtom_2 : List UInt8 := [181, 0, 251, 42, 16, 41, 182, 0, 248, 172, 42, 19, 1, 0, 182, 0, 170, 153, 0, 52, 42, 180, 0, 251]
abbrev dktX10_readAtom_2 : List UInt8 := dkwX10_readAtom_2 ++ dktX10_readAtom_3
def dkwX10_readAtom_1 : List UInt8 := [180, 0, 251, 4, 96, 181, 0, 251, 42, 182, 0, 253, 154, 0, 5, 3, 172, 42, 89, 180, 0, 251, 4, 100]
abbrev dktX10_readAtom_1 : List UInt8 := dkwX10_readAtom_1 ++ dktX10_readAtom_2
def dkwX10_readAtom_0 : List UInt8 := [42, 16, 40, 182, 0, 248, 153, 0, 50, 42, 180, 0, 251, 16, 6, 160, 0, 5, 3, 172, 42, 89]
abbrev dktX10_readAtom_0 : List UInt8 := dkwX10_readAtom_0 ++ dktX10_readAtom_1
theorem dksX10_readAtom_0 : cX10_readAtom.data.toList.drop 0 = dktX10_readAtom_0 := by decide +kernel
theorem dksX10_readAtom_1 : cX10_readAtom.data.toList.drop 22 = dktX10_readAtom_1 := dk_seg dksX10_readAtom_0 22 rfl rfl
theorem dksX10_readAtom_2 : cX10_readAtom.data.toList.drop 46 = dktX10_readAtom_2 := dk_seg dksX10_readAtom_1 24 rfl rfl
theorem dksX10_readAtom_3 : cX10_readAtom.data.toList.drop 70 = dktX10_readAtom_3 := dk_seg dksX10_readAtom_2 24 rfl rfl
theorem dksX10_readAtom_4 : cX10_readAtom.data.toList.drop 94 = dktX10_readAtom_4 := dk_seg dksX10_readAtom_3 24 rfl rfl
theorem dksX10_readAtom_5 : cX10_readAtom.data.toList.drop 116 = dktX10_readAtom_5 := dk_seg dksX10_readAtom_4 22 rfl rfl
theorem dksX10_readAtom_6 : cX10_readAtom.data.toList.drop 139 = dktX10_readAtom_6 := dk_seg dksX10_readAtom_5 23 rfl rfl
theorem dksX10_readAtom_7 : cX10_readAtom.data.toList.drop 163 = dktX10_readAtom_7 := dk_seg dksX10_readAtom_6 24 rfl rfl
theorem dksX10_readAtom_8 : cX10_readAtom.data.toList.drop 185 = dktX10_readAtom_8 := dk_seg dksX10_readAtom_7 22 rfl rfl
theorem dksX10_readAtom_9 : cX10_readAtom.data.toList.drop 209 = dktX10_readAtom_9 := dk_seg dksX10_readAtom_8 24 rfl rfl
theorem dX10_readAtom_0 : decode cX10_readAtom 0 = .ok (.aload_n 0, 1) := dk_42 (dk_at dksX10_readAtom_0 0 rfl rfl)
theorem dX10_readAtom_1 : decode cX10_readAtom 1 = .ok (.bipush 40, 2) := dk_16 40 (dk_at dksX10_readAtom_0 1 rfl rfl)
theorem dX10_readAtom_3 : decode cX10_readAtom 3 = .ok (.invokevirtual 248, 3) := dk_182 0 248 (dk_at dksX10_readAtom_0 3 rfl rfl)
theorem dX10_readAtom_6 : decode cX10_readAtom 6 = .ok (.ifCond .eq 50, 3) := dk_153 0 50 (dk_at dksX10_readAtom_0 6 rfl rfl)
theorem dX10_readAtom_9 : decode cX10_readAtom 9 = .ok (.aload_n 0, 1) := dk_42 (dk_at dksX10_readAtom_0 9 rfl rfl)
theorem dX10_readAtom_10 : decode cX10_readAtom 10 = .ok (.getfield 251, 3) := dk_180 0 251 (dk_at dksX10_readAtom_0 10 rfl rfl)
theorem dX10_readAtom_13 : decode cX10_readAtom 13 = .ok (.bipush 6, 2) := dk_16 6 (dk_at dksX10_readAtom_0 13 rfl rfl)
theorem dX10_readAtom_15 : decode cX10_readAtom 15 = .ok (.if_icmp .ne 5, 3) := dk_160 0 5 (dk_at dksX10_readAtom_0 15 rfl rfl)
theorem dX10_readAtom_18 : decode cX10_readAtom 18 = .ok (.iconst 0, 1) := dk_3 (dk_at dksX10_readAtom_0 18 rfl rfl)
theorem dX10_readAtom_19 : decode cX10_readAtom 19 = .ok (.ireturn, 1) := dk_172 (dk_at dksX10_readAtom_0 19 rfl rfl)
theorem dX10_readAtom_20 : decode cX10_readAtom 20 = .ok (.aload_n 0, 1) := dk_42 (dk_at dksX10_readAtom_0 20 rfl rfl)
theorem dX10_readAtom_21 : decode cX10_readAtom 21 = .ok (.dup, 1) := dk_89 (dk_at dksX10_readAtom_0 21 rfl rfl)
theorem dX10_readAtom_22 : decode cX10_readAtom 22 = .ok (.getfield 251, 3) := dk_180 0 251 (dk_at dksX10_readAtom_1 0 rfl rfl)
theorem dX10_readAtom_25 : decode cX10_readAtom 25 = .ok (.iconst 1, 1) := dk_4 (dk_at dksX10_readAtom_1 3 rfl rfl)
theorem dX10_readAtom_26 : decode cX10_readAtom 26 = .ok (.iadd, 1) := dk_96 (dk_at dksX10_readAtom_1 4 rfl rfl)
theorem dX10_readAtom_27 : decode cX10_readAtom 27 = .ok (.putfield 251, 3) := dk_181 0 251 (dk_at dksX10_readAtom_1 5 rfl rfl)
theorem dX10_readAtom_30 : decode cX10_readAtom 30 = .ok (.aload_n 0, 1) := dk_42 (dk_at dksX10_readAtom_1 8 rfl rfl)
theorem dX10_readAtom_31 : decode cX10_readAtom 31 = .ok (.invokevirtual 253, 3) := dk_182 0 253 (dk_at dksX10_readAtom_1 9 rfl rfl)
theorem dX10_readAtom_34 : decode cX10_readAtom 34 = .ok (.ifCond .ne 5, 3) := dk_154 0 5 (dk_at dksX10_readAtom_1 12 rfl rfl)
theorem dX10_readAtom_37 : decode cX10_readAtom 37 = .ok (.iconst 0, 1) := dk_3 (dk_at dksX10_readAtom_1 15 rfl rfl)
theorem dX10_readAtom_38 : decode cX10_readAtom 38 = .ok (.ireturn, 1) := dk_172 (dk_at dksX10_readAtom_1 16 rfl rfl)
theorem dX10_readAtom_39 : decode cX10_readAtom 39 = .ok (.aload_n 0, 1) := dk_42 (dk_at dksX10_readAtom_1 17 rfl rfl)
theorem dX10_readAtom_40 : decode cX10_readAtom 40 = .ok (.dup, 1) := dk_89 (dk_at dksX10_readAtom_1 18 rfl rfl)
theorem dX10_readAtom_41 : decode cX10_readAtom 41 = .ok (.getfield 251, 3) := dk_180 0 251 (dk_at dksX10_readAtom_1 19 rfl rfl)
theorem dX10_readAtom_44 : decode cX10_readAtom 44 = .ok (.iconst 1, 1) := dk_4 (dk_at dksX10_readAtom_1 22 rfl rfl)
theorem dX10_readAtom_45 : decode cX10_readAtom 45 = .ok (.isub, 1) := dk_100 (dk_at dksX10_readAtom_1 23 rfl rfl)
theorem dX10_readAtom_46 : decode cX10_readAtom 46 = .ok (.putfield 251, 3) := dk_181 0 251 (dk_at dksX10_readAtom_2 0 rfl rfl)
theorem dX10_readAtom_49 : decode cX10_readAtom 49 = .ok (.aload_n 0, 1) := dk_42 (dk_at dksX10_readAtom_2 3 rfl rfl)
theorem dX10_readAtom_50 : decode cX10_readAtom 50 = .ok (.bipush 41, 2) := dk_16 41 (dk_at dksX10_readAtom_2 4 rfl rfl)
theorem dX10_readAtom_52 : decode cX10_readAtom 52 = .ok (.invokevirtual 248, 3) := dk_182 0 248 (dk_at dksX10_readAtom_2 6 rfl rfl)
theorem dX10_readAtom_55 : decode cX10_readAtom 55 = .ok (.ireturn, 1) := dk_172 (dk_at dksX10_readAtom_2 9 rfl rfl)
theorem dX10_readAtom_56 : decode cX10_readAtom 56 = .ok (.aload_n 0, 1) := dk_42 (dk_at dksX10_readAtom_2 10 rfl rfl)
theorem dX10_readAtom_57 : decode cX10_readAtom 57 = .ok (.ldc_w 256, 3) := dk_19 1 0 (dk_at dksX10_readAtom_2 11 rfl rfl)
theorem dX10_readAtom_60 : decode cX10_readAtom 60 = .ok (.invokevirtual 170, 3) := dk_182 0 170 (dk_at dksX10_readAtom_2 14 rfl rfl)
theorem dX10_readAtom_63 : decode cX10_readAtom 63 = .ok (.ifCond .eq 52, 3) := dk_153 0 52 (dk_at dksX10_readAtom_2 17 rfl rfl)
theorem dX10_readAtom_66 : decode cX10_readAtom 66 = .ok (.aload_n 0, 1) := dk_42 (dk_at dksX10_readAtom_2 20 rfl rfl)
theorem dX10_readAtom_67 : decode cX10_readAtom 67 = .ok (.getfield 251, 3) := dk_180 0 251 (dk_at dksX10_readAtom_2 21 rfl rfl)
theorem dX10_readAtom_70 : decode cX10_readAtom 70 = .ok (.bipush 6, 2) := dk_16 6 (dk_at dksX10_readAtom_3 0 rfl rfl)
theorem dX10_readAtom_72 : decode cX10_readAtom 72 = .ok (.if_icmp .ne 5, 3) := dk_160 0 5 (dk_at dksX10_readAtom_3 2 rfl rfl)
theorem dX10_readAtom_75 : decode cX10_readAtom 75 = .ok (.iconst 0, 1) := dk_3 (dk_at dksX10_readAtom_3 5 rfl rfl)
theorem dX10_readAtom_76 : decode cX10_readAtom 76 = .ok (.ireturn, 1) := dk_172 (dk_at dksX10_readAtom_3 6 rfl rfl)
theorem dX10_readAtom_77 : decode cX10_readAtom 77 = .ok (.aload_n 0, 1) := dk_42 (dk_at dksX10_readAtom_3 7 rfl rfl)
theorem dX10_readAtom_78 : decode cX10_readAtom 78 = .ok (.dup, 1) := dk_89 (dk_at dksX10_readAtom_3 8 rfl rfl)
theorem dX10_readAtom_79 : decode cX10_readAtom 79 = .ok (.getfield 251, 3) := dk_180 0 251 (dk_at dksX10_readAtom_3 9 rfl rfl)
theorem dX10_readAtom_82 : decode cX10_readAtom 82 = .ok (.iconst 1, 1) := dk_4 (dk_at dksX10_readAtom_3 12 rfl rfl)
theorem dX10_readAtom_83 : decode cX10_readAtom 83 = .ok (.iadd, 1) := dk_96 (dk_at dksX10_readAtom_3 13 rfl rfl)
theorem dX10_readAtom_84 : decode cX10_readAtom 84 = .ok (.putfield 251, 3) := dk_181 0 251 (dk_at dksX10_readAtom_3 14 rfl rfl)
theorem dX10_readAtom_87 : decode cX10_readAtom 87 = .ok (.aload_n 0, 1) := dk_42 (dk_at dksX10_readAtom_3 17 rfl rfl)
theorem dX10_readAtom_88 : decode cX10_readAtom 88 = .ok (.invokevirtual 258, 3) := dk_182 1 2 (dk_at dksX10_readAtom_3 18 rfl rfl)
theorem dX10_readAtom_91 : decode cX10_readAtom 91 = .ok (.ifCond .ne 5, 3) := dk_154 0 5 (dk_at dksX10_readAtom_3 21 rfl rfl)
theorem dX10_readAtom_94 : decode cX10_readAtom 94 = .ok (.iconst 0, 1) := dk_3 (dk_at dksX10_readAtom_4 0 rfl rfl)
theorem dX10_readAtom_95 : decode cX10_readAtom 95 = .ok (.ireturn, 1) := dk_172 (dk_at dksX10_readAtom_4 1 rfl rfl)
theorem dX10_readAtom_96 : decode cX10_readAtom 96 = .ok (.aload_n 0, 1) := dk_42 (dk_at dksX10_readAtom_4 2 rfl rfl)
theorem dX10_readAtom_97 : decode cX10_readAtom 97 = .ok (.dup, 1) := dk_89 (dk_at dksX10_readAtom_4 3 rfl rfl)
theorem dX10_readAtom_98 : decode cX10_readAtom 98 = .ok (.getfield 251, 3) := dk_180 0 251 (dk_at dksX10_readAtom_4 4 rfl rfl)
theorem dX10_readAtom_101 : decode cX10_readAtom 101 = .ok (.iconst 1, 1) := dk_4 (dk_at dksX10_readAtom_4 7 rfl rfl)
theorem dX10_readAtom_102 : decode cX10_readAtom 102 = .ok (.isub, 1) := dk_100 (dk_at dksX10_readAtom_4 8 rfl rfl)
theorem dX10_readAtom_103 : decode cX10_readAtom 103 = .ok (.putfield 251, 3) := dk_181 0 251 (dk_at dksX10_readAtom_4 9 rfl rfl)
theorem dX10_readAtom_106 : decode cX10_readAtom 106 = .ok (.aload_n 0, 1) := dk_42 (dk_at dksX10_readAtom_4 12 rfl rfl)
theorem dX10_readAtom_107 : decode cX10_readAtom 107 = .ok (.bipush 14, 2) := dk_16 14 (dk_at dksX10_readAtom_4 13 rfl rfl)
theorem dX10_readAtom_109 : decode cX10_readAtom 109 = .ok (.iconst 0, 1) := dk_3 (dk_at dksX10_readAtom_4 15 rfl rfl)
theorem dX10_readAtom_110 : decode cX10_readAtom 110 = .ok (.invokevirtual 227, 3) := dk_182 0 227 (dk_at dksX10_readAtom_4 16 rfl rfl)
theorem dX10_readAtom_113 : decode cX10_readAtom 113 = .ok (.iconst 1, 1) := dk_4 (dk_at dksX10_readAtom_4 19 rfl rfl)
theorem dX10_readAtom_114 : decode cX10_readAtom 114 = .ok (.ireturn, 1) := dk_172 (dk_at dksX10_readAtom_4 20 rfl rfl)
theorem dX10_readAtom_115 : decode cX10_readAtom 115 = .ok (.aload_n 0, 1) := dk_42 (dk_at dksX10_readAtom_4 21 rfl rfl)
theorem dX10_readAtom_116 : decode cX10_readAtom 116 = .ok (.ldc_w 261, 3) := dk_19 1 5 (dk_at dksX10_readAtom_5 0 rfl rfl)
theorem dX10_readAtom_119 : decode cX10_readAtom 119 = .ok (.invokevirtual 170, 3) := dk_182 0 170 (dk_at dksX10_readAtom_5 3 rfl rfl)
theorem dX10_readAtom_122 : decode cX10_readAtom 122 = .ok (.istore_n 1, 1) := dk_60 (dk_at dksX10_readAtom_5 6 rfl rfl)
theorem dX10_readAtom_123 : decode cX10_readAtom 123 = .ok (.iload_n 1, 1) := dk_27 (dk_at dksX10_readAtom_5 7 rfl rfl)
theorem dX10_readAtom_124 : decode cX10_readAtom 124 = .ok (.ifCond .ne 13, 3) := dk_154 0 13 (dk_at dksX10_readAtom_5 8 rfl rfl)
theorem dX10_readAtom_127 : decode cX10_readAtom 127 = .ok (.aload_n 0, 1) := dk_42 (dk_at dksX10_readAtom_5 11 rfl rfl)
theorem dX10_readAtom_128 : decode cX10_readAtom 128 = .ok (.ldc_w 263, 3) := dk_19 1 7 (dk_at dksX10_readAtom_5 12 rfl rfl)
theorem dX10_readAtom_131 : decode cX10_readAtom 131 = .ok (.invokevirtual 170, 3) := dk_182 0 170 (dk_at dksX10_readAtom_5 15 rfl rfl)
theorem dX10_readAtom_134 : decode cX10_readAtom 134 = .ok (.ifCond .eq 21, 3) := dk_153 0 21 (dk_at dksX10_readAtom_5 18 rfl rfl)
theorem dX10_readAtom_137 : decode cX10_readAtom 137 = .ok (.aload_n 0, 1) := dk_42 (dk_at dksX10_readAtom_5 21 rfl rfl)
theorem dX10_readAtom_138 : decode cX10_readAtom 138 = .ok (.iload_n 1, 1) := dk_27 (dk_at dksX10_readAtom_5 22 rfl rfl)
theorem dX10_readAtom_139 : decode cX10_readAtom 139 = .ok (.ifCond .eq 8, 3) := dk_153 0 8 (dk_at dksX10_readAtom_6 0 rfl rfl)
theorem dX10_readAtom_142 : decode cX10_readAtom 142 = .ok (.bipush 8, 2) := dk_16 8 (dk_at dksX10_readAtom_6 3 rfl rfl)
theorem dX10_readAtom_144 : decode cX10_readAtom 144 = .ok (.goto 5, 3) := dk_167 0 5 (dk_at dksX10_readAtom_6 5 rfl rfl)
theorem dX10_readAtom_147 : decode cX10_readAtom 147 = .ok (.bipush 9, 2) := dk_16 9 (dk_at dksX10_readAtom_6 8 rfl rfl)
theorem dX10_readAtom_149 : decode cX10_readAtom 149 = .ok (.iconst 0, 1) := dk_3 (dk_at dksX10_readAtom_6 10 rfl rfl)
theorem dX10_readAtom_150 : decode cX10_readAtom 150 = .ok (.invokevirtual 227, 3) := dk_182 0 227 (dk_at dksX10_readAtom_6 11 rfl rfl)
theorem dX10_readAtom_153 : decode cX10_readAtom 153 = .ok (.iconst 1, 1) := dk_4 (dk_at dksX10_readAtom_6 14 rfl rfl)
theorem dX10_readAtom_154 : decode cX10_readAtom 154 = .ok (.ireturn, 1) := dk_172 (dk_at dksX10_readAtom_6 15 rfl rfl)
theorem dX10_readAtom_155 : decode cX10_readAtom 155 = .ok (.aload_n 0, 1) := dk_42 (dk_at dksX10_readAtom_6 16 rfl rfl)
theorem dX10_readAtom_156 : decode cX10_readAtom 156 = .ok (.invokevirtual 265, 3) := dk_182 1 9 (dk_at dksX10_readAtom_6 17 rfl rfl)
theorem dX10_readAtom_159 : decode cX10_readAtom 159 = .ok (.ifCond .ne 5, 3) := dk_154 0 5 (dk_at dksX10_readAtom_6 20 rfl rfl)
theorem dX10_readAtom_162 : decode cX10_readAtom 162 = .ok (.iconst 0, 1) := dk_3 (dk_at dksX10_readAtom_6 23 rfl rfl)
theorem dX10_readAtom_163 : decode cX10_readAtom 163 = .ok (.ireturn, 1) := dk_172 (dk_at dksX10_readAtom_7 0 rfl rfl)
theorem dX10_readAtom_164 : decode cX10_readAtom 164 = .ok (.aload_n 0, 1) := dk_42 (dk_at dksX10_readAtom_7 1 rfl rfl)
theorem dX10_readAtom_165 : decode cX10_readAtom 165 = .ok (.bipush 60, 2) := dk_16 60 (dk_at dksX10_readAtom_7 2 rfl rfl)
theorem dX10_readAtom_167 : decode cX10_readAtom 167 = .ok (.invokevirtual 248, 3) := dk_182 0 248 (dk_at dksX10_readAtom_7 4 rfl rfl)
theorem dX10_readAtom_170 : decode cX10_readAtom 170 = .ok (.istore_n 2, 1) := dk_61 (dk_at dksX10_readAtom_7 7 rfl rfl)
theorem dX10_readAtom_171 : decode cX10_readAtom 171 = .ok (.iload_n 2, 1) := dk_28 (dk_at dksX10_readAtom_7 8 rfl rfl)
theorem dX10_readAtom_172 : decode cX10_readAtom 172 = .ok (.ifCond .ne 12, 3) := dk_154 0 12 (dk_at dksX10_readAtom_7 9 rfl rfl)
theorem dX10_readAtom_175 : decode cX10_readAtom 175 = .ok (.aload_n 0, 1) := dk_42 (dk_at dksX10_readAtom_7 12 rfl rfl)
theorem dX10_readAtom_176 : decode cX10_readAtom 176 = .ok (.bipush 62, 2) := dk_16 62 (dk_at dksX10_readAtom_7 13 rfl rfl)
theorem dX10_readAtom_178 : decode cX10_readAtom 178 = .ok (.invokevirtual 248, 3) := dk_182 0 248 (dk_at dksX10_readAtom_7 15 rfl rfl)
theorem dX10_readAtom_181 : decode cX10_readAtom 181 = .ok (.ifCond .eq 10, 3) := dk_153 0 10 (dk_at dksX10_readAtom_7 18 rfl rfl)
theorem dX10_readAtom_184 : decode cX10_readAtom 184 = .ok (.aload_n 0, 1) := dk_42 (dk_at dksX10_readAtom_7 21 rfl rfl)
theorem dX10_readAtom_185 : decode cX10_readAtom 185 = .ok (.invokevirtual 265, 3) := dk_182 1 9 (dk_at dksX10_readAtom_8 0 rfl rfl)
theorem dX10_readAtom_188 : decode cX10_readAtom 188 = .ok (.ifCond .ne 5, 3) := dk_154 0 5 (dk_at dksX10_readAtom_8 3 rfl rfl)
theorem dX10_readAtom_191 : decode cX10_readAtom 191 = .ok (.iconst 0, 1) := dk_3 (dk_at dksX10_readAtom_8 6 rfl rfl)
theorem dX10_readAtom_192 : decode cX10_readAtom 192 = .ok (.ireturn, 1) := dk_172 (dk_at dksX10_readAtom_8 7 rfl rfl)
theorem dX10_readAtom_193 : decode cX10_readAtom 193 = .ok (.aload_n 0, 1) := dk_42 (dk_at dksX10_readAtom_8 8 rfl rfl)
theorem dX10_readAtom_194 : decode cX10_readAtom 194 = .ok (.iload_n 2, 1) := dk_28 (dk_at dksX10_readAtom_8 9 rfl rfl)
theorem dX10_readAtom_195 : decode cX10_readAtom 195 = .ok (.ifCond .eq 8, 3) := dk_153 0 8 (dk_at dksX10_readAtom_8 10 rfl rfl)
theorem dX10_readAtom_198 : decode cX10_readAtom 198 = .ok (.bipush 12, 2) := dk_16 12 (dk_at dksX10_readAtom_8 13 rfl rfl)
theorem dX10_readAtom_200 : decode cX10_readAtom 200 = .ok (.goto 5, 3) := dk_167 0 5 (dk_at dksX10_readAtom_8 15 rfl rfl)
theorem dX10_readAtom_203 : decode cX10_readAtom 203 = .ok (.bipush 13, 2) := dk_16 13 (dk_at dksX10_readAtom_8 18 rfl rfl)
theorem dX10_readAtom_205 : decode cX10_readAtom 205 = .ok (.iconst 0, 1) := dk_3 (dk_at dksX10_readAtom_8 20 rfl rfl)
theorem dX10_readAtom_206 : decode cX10_readAtom 206 = .ok (.invokevirtual 227, 3) := dk_182 0 227 (dk_at dksX10_readAtom_8 21 rfl rfl)
theorem dX10_readAtom_209 : decode cX10_readAtom 209 = .ok (.iconst 1, 1) := dk_4 (dk_at dksX10_readAtom_9 0 rfl rfl)
theorem dX10_readAtom_210 : decode cX10_readAtom 210 = .ok (.ireturn, 1) := dk_172 (dk_at dksX10_readAtom_9 1 rfl rfl)
abbrev cX10_sign : ByteArray := prog_20_method_31_code
def yX10_sign : MethodName := ⟨RX10, "sign", "(I)Z"⟩
def dkwX10_sign_1 : List UInt8 := [181, 0, 106, 4, 172]
abbrev dktX10_sign_1 : List UInt8 := dkwX10_sign_1 ++ []
def dkwX10_sign_0 : List UInt8 := [42, 182, 0, 119, 42, 27, 27, 182, 0, 112, 154, 0, 5, 3, 172, 42, 89, 180, 0, 106, 4, 96]
abbrev dktX10_sign_0 : List UInt8 := dkwX10_sign_0 ++ dktX10_sign_1
theorem dksX10_sign_0 : cX10_sign.data.toList.drop 0 = dktX10_sign_0 := by decide +kernel
theorem dksX10_sign_1 : cX10_sign.data.toList.drop 22 = dktX10_sign_1 := dk_seg dksX10_sign_0 22 rfl rfl
theorem dX10_sign_0 : decode cX10_sign 0 = .ok (.aload_n 0, 1) := dk_42 (dk_at dksX10_sign_0 0 rfl rfl)
theorem dX10_sign_1 : decode cX10_sign 1 = .ok (.invokevirtual 119, 3) := dk_182 0 119 (dk_at dksX10_sign_0 1 rfl rfl)
theorem dX10_sign_4 : decode cX10_sign 4 = .ok (.aload_n 0, 1) := dk_42 (dk_at dksX10_sign_0 4 rfl rfl)
theorem dX10_sign_5 : decode cX10_sign 5 = .ok (.iload_n 1, 1) := dk_27 (dk_at dksX10_sign_0 5 rfl rfl)
theorem dX10_sign_6 : decode cX10_sign 6 = .ok (.iload_n 1, 1) := dk_27 (dk_at dksX10_sign_0 6 rfl rfl)
theorem dX10_sign_7 : decode cX10_sign 7 = .ok (.invokevirtual 112, 3) := dk_182 0 112 (dk_at dksX10_sign_0 7 rfl rfl)
theorem dX10_sign_10 : decode cX10_sign 10 = .ok (.ifCond .ne 5, 3) := dk_154 0 5 (dk_at dksX10_sign_0 10 rfl rfl)
theorem dX10_sign_13 : decode cX10_sign 13 = .ok (.iconst 0, 1) := dk_3 (dk_at dksX10_sign_0 13 rfl rfl)
theorem dX10_sign_14 : decode cX10_sign 14 = .ok (.ireturn, 1) := dk_172 (dk_at dksX10_sign_0 14 rfl rfl)
theorem dX10_sign_15 : decode cX10_sign 15 = .ok (.aload_n 0, 1) := dk_42 (dk_at dksX10_sign_0 15 rfl rfl)
theorem dX10_sign_16 : decode cX10_sign 16 = .ok (.dup, 1) := dk_89 (dk_at dksX10_sign_0 16 rfl rfl)
theorem dX10_sign_17 : decode cX10_sign 17 = .ok (.getfield 106, 3) := dk_180 0 106 (dk_at dksX10_sign_0 17 rfl rfl)
theorem dX10_sign_20 : decode cX10_sign 20 = .ok (.iconst 1, 1) := dk_4 (dk_at dksX10_sign_0 20 rfl rfl)
theorem dX10_sign_21 : decode cX10_sign 21 = .ok (.iadd, 1) := dk_96 (dk_at dksX10_sign_0 21 rfl rfl)
theorem dX10_sign_22 : decode cX10_sign 22 = .ok (.putfield 106, 3) := dk_181 0 106 (dk_at dksX10_sign_1 0 rfl rfl)
theorem dX10_sign_25 : decode cX10_sign 25 = .ok (.iconst 1, 1) := dk_4 (dk_at dksX10_sign_1 3 rfl rfl)
theorem dX10_sign_26 : decode cX10_sign 26 = .ok (.ireturn, 1) := dk_172 (dk_at dksX10_sign_1 4 rfl rfl)
abbrev cX10_emits : ByteArray := prog_20_method_51_code
def yX10_emits : MethodName := ⟨RX10, "emits", "(II)V"⟩
def dkwX10_emits_1 : List UInt8 := [42, 180, 0, 224, 104, 96, 4, 96, 28, 79, 42, 89, 180, 0, 224, 4, 96, 181, 0, 224, 177]
abbrev dktX10_emits_1 : List UInt8 := dkwX10_emits_1 ++ []
def dkwX10_emits_0 : List UInt8 := [42, 180, 0, 13, 17, 5, 13, 5, 42, 180, 0, 224, 104, 96, 27, 79, 42, 180, 0, 13, 17, 5, 13, 5]
abbrev dktX10_emits_0 : List UInt8 := dkwX10_emits_0 ++ dktX10_emits_1
theorem dksX10_emits_0 : cX10_emits.data.toList.drop 0 = dktX10_emits_0 := by decide +kernel
theorem dksX10_emits_1 : cX10_emits.data.toList.drop 24 = dktX10_emits_1 := dk_seg dksX10_emits_0 24 rfl rfl
theorem dX10_emits_0 : decode cX10_emits 0 = .ok (.aload_n 0, 1) := dk_42 (dk_at dksX10_emits_0 0 rfl rfl)
theorem dX10_emits_1 : decode cX10_emits 1 = .ok (.getfield 13, 3) := dk_180 0 13 (dk_at dksX10_emits_0 1 rfl rfl)
theorem dX10_emits_4 : decode cX10_emits 4 = .ok (.sipush 1293, 3) := dk_17 5 13 (dk_at dksX10_emits_0 4 rfl rfl)
theorem dX10_emits_7 : decode cX10_emits 7 = .ok (.iconst 2, 1) := dk_5 (dk_at dksX10_emits_0 7 rfl rfl)
theorem dX10_emits_8 : decode cX10_emits 8 = .ok (.aload_n 0, 1) := dk_42 (dk_at dksX10_emits_0 8 rfl rfl)
theorem dX10_emits_9 : decode cX10_emits 9 = .ok (.getfield 224, 3) := dk_180 0 224 (dk_at dksX10_emits_0 9 rfl rfl)
theorem dX10_emits_12 : decode cX10_emits 12 = .ok (.imul, 1) := dk_104 (dk_at dksX10_emits_0 12 rfl rfl)
theorem dX10_emits_13 : decode cX10_emits 13 = .ok (.iadd, 1) := dk_96 (dk_at dksX10_emits_0 13 rfl rfl)
theorem dX10_emits_14 : decode cX10_emits 14 = .ok (.iload_n 1, 1) := dk_27 (dk_at dksX10_emits_0 14 rfl rfl)
theorem dX10_emits_15 : decode cX10_emits 15 = .ok (.iastore, 1) := dk_79 (dk_at dksX10_emits_0 15 rfl rfl)
theorem dX10_emits_16 : decode cX10_emits 16 = .ok (.aload_n 0, 1) := dk_42 (dk_at dksX10_emits_0 16 rfl rfl)
theorem dX10_emits_17 : decode cX10_emits 17 = .ok (.getfield 13, 3) := dk_180 0 13 (dk_at dksX10_emits_0 17 rfl rfl)
theorem dX10_emits_20 : decode cX10_emits 20 = .ok (.sipush 1293, 3) := dk_17 5 13 (dk_at dksX10_emits_0 20 rfl rfl)
theorem dX10_emits_23 : decode cX10_emits 23 = .ok (.iconst 2, 1) := dk_5 (dk_at dksX10_emits_0 23 rfl rfl)
theorem dX10_emits_24 : decode cX10_emits 24 = .ok (.aload_n 0, 1) := dk_42 (dk_at dksX10_emits_1 0 rfl rfl)
theorem dX10_emits_25 : decode cX10_emits 25 = .ok (.getfield 224, 3) := dk_180 0 224 (dk_at dksX10_emits_1 1 rfl rfl)
theorem dX10_emits_28 : decode cX10_emits 28 = .ok (.imul, 1) := dk_104 (dk_at dksX10_emits_1 4 rfl rfl)
theorem dX10_emits_29 : decode cX10_emits 29 = .ok (.iadd, 1) := dk_96 (dk_at dksX10_emits_1 5 rfl rfl)
theorem dX10_emits_30 : decode cX10_emits 30 = .ok (.iconst 1, 1) := dk_4 (dk_at dksX10_emits_1 6 rfl rfl)
theorem dX10_emits_31 : decode cX10_emits 31 = .ok (.iadd, 1) := dk_96 (dk_at dksX10_emits_1 7 rfl rfl)
theorem dX10_emits_32 : decode cX10_emits 32 = .ok (.iload_n 2, 1) := dk_28 (dk_at dksX10_emits_1 8 rfl rfl)
theorem dX10_emits_33 : decode cX10_emits 33 = .ok (.iastore, 1) := dk_79 (dk_at dksX10_emits_1 9 rfl rfl)
theorem dX10_emits_34 : decode cX10_emits 34 = .ok (.aload_n 0, 1) := dk_42 (dk_at dksX10_emits_1 10 rfl rfl)
theorem dX10_emits_35 : decode cX10_emits 35 = .ok (.dup, 1) := dk_89 (dk_at dksX10_emits_1 11 rfl rfl)
theorem dX10_emits_36 : decode cX10_emits 36 = .ok (.getfield 224, 3) := dk_180 0 224 (dk_at dksX10_emits_1 12 rfl rfl)
theorem dX10_emits_39 : decode cX10_emits 39 = .ok (.iconst 1, 1) := dk_4 (dk_at dksX10_emits_1 15 rfl rfl)
theorem dX10_emits_40 : decode cX10_emits 40 = .ok (.iadd, 1) := dk_96 (dk_at dksX10_emits_1 16 rfl rfl)
theorem dX10_emits_41 : decode cX10_emits 41 = .ok (.putfield 224, 3) := dk_181 0 224 (dk_at dksX10_emits_1 17 rfl rfl)
theorem dX10_emits_44 : decode cX10_emits 44 = .ok (.return_, 1) := dk_177 (dk_at dksX10_emits_1 20 rfl rfl)
abbrev cX10_readSum : ByteArray := prog_20_method_53_code
def yX10_readSum : MethodName := ⟨RX10, "readSum", "()Z"⟩
def dkwX10_readSum_1 : List UInt8 := [154, 0, 5, 3, 172, 42, 16, 11, 3, 182, 0, 227, 167, 255, 231, 4, 172]
abbrev dktX10_readSum_1 : List UInt8 := dkwX10_readSum_1 ++ []
def dkwX10_readSum_0 : List UInt8 := [42, 182, 0, 245, 154, 0, 5, 3, 172, 42, 16, 43, 182, 0, 248, 153, 0, 22, 42, 182, 0, 245]
abbrev dktX10_readSum_0 : List UInt8 := dkwX10_readSum_0 ++ dktX10_readSum_1
theorem dksX10_readSum_0 : cX10_readSum.data.toList.drop 0 = dktX10_readSum_0 := by decide +kernel
theorem dksX10_readSum_1 : cX10_readSum.data.toList.drop 22 = dktX10_readSum_1 := dk_seg dksX10_readSum_0 22 rfl rfl
theorem dX10_readSum_0 : decode cX10_readSum 0 = .ok (.aload_n 0, 1) := dk_42 (dk_at dksX10_readSum_0 0 rfl rfl)
theorem dX10_readSum_1 : decode cX10_readSum 1 = .ok (.invokevirtual 245, 3) := dk_182 0 245 (dk_at dksX10_readSum_0 1 rfl rfl)
theorem dX10_readSum_4 : decode cX10_readSum 4 = .ok (.ifCond .ne 5, 3) := dk_154 0 5 (dk_at dksX10_readSum_0 4 rfl rfl)
theorem dX10_readSum_7 : decode cX10_readSum 7 = .ok (.iconst 0, 1) := dk_3 (dk_at dksX10_readSum_0 7 rfl rfl)
theorem dX10_readSum_8 : decode cX10_readSum 8 = .ok (.ireturn, 1) := dk_172 (dk_at dksX10_readSum_0 8 rfl rfl)
theorem dX10_readSum_9 : decode cX10_readSum 9 = .ok (.aload_n 0, 1) := dk_42 (dk_at dksX10_readSum_0 9 rfl rfl)
theorem dX10_readSum_10 : decode cX10_readSum 10 = .ok (.bipush 43, 2) := dk_16 43 (dk_at dksX10_readSum_0 10 rfl rfl)
theorem dX10_readSum_12 : decode cX10_readSum 12 = .ok (.invokevirtual 248, 3) := dk_182 0 248 (dk_at dksX10_readSum_0 12 rfl rfl)
theorem dX10_readSum_15 : decode cX10_readSum 15 = .ok (.ifCond .eq 22, 3) := dk_153 0 22 (dk_at dksX10_readSum_0 15 rfl rfl)
theorem dX10_readSum_18 : decode cX10_readSum 18 = .ok (.aload_n 0, 1) := dk_42 (dk_at dksX10_readSum_0 18 rfl rfl)
theorem dX10_readSum_19 : decode cX10_readSum 19 = .ok (.invokevirtual 245, 3) := dk_182 0 245 (dk_at dksX10_readSum_0 19 rfl rfl)
theorem dX10_readSum_22 : decode cX10_readSum 22 = .ok (.ifCond .ne 5, 3) := dk_154 0 5 (dk_at dksX10_readSum_1 0 rfl rfl)
theorem dX10_readSum_25 : decode cX10_readSum 25 = .ok (.iconst 0, 1) := dk_3 (dk_at dksX10_readSum_1 3 rfl rfl)
theorem dX10_readSum_26 : decode cX10_readSum 26 = .ok (.ireturn, 1) := dk_172 (dk_at dksX10_readSum_1 4 rfl rfl)
theorem dX10_readSum_27 : decode cX10_readSum 27 = .ok (.aload_n 0, 1) := dk_42 (dk_at dksX10_readSum_1 5 rfl rfl)
theorem dX10_readSum_28 : decode cX10_readSum 28 = .ok (.bipush 11, 2) := dk_16 11 (dk_at dksX10_readSum_1 6 rfl rfl)
theorem dX10_readSum_30 : decode cX10_readSum 30 = .ok (.iconst 0, 1) := dk_3 (dk_at dksX10_readSum_1 8 rfl rfl)
theorem dX10_readSum_31 : decode cX10_readSum 31 = .ok (.invokevirtual 227, 3) := dk_182 0 227 (dk_at dksX10_readSum_1 9 rfl rfl)
theorem dX10_readSum_34 : decode cX10_readSum 34 = .ok (.goto (-25), 3) := dk_167 255 231 (dk_at dksX10_readSum_1 12 rfl rfl)
theorem dX10_readSum_37 : decode cX10_readSum 37 = .ok (.iconst 1, 1) := dk_4 (dk_at dksX10_readSum_1 15 rfl rfl)
theorem dX10_readSum_38 : decode cX10_readSum 38 = .ok (.ireturn, 1) := dk_172 (dk_at dksX10_readSum_1 16 rfl rfl)
abbrev cX10_readPart : ByteArray := prog_20_method_52_code
def yX10_readPart : MethodName := ⟨RX10, "readPart", "()Z"⟩
def dkwX10_readPart_6 : List UInt8 := [167, 0, 4, 2, 60, 42, 27, 3, 182, 0, 227, 27, 155, 0, 7, 4, 167, 0, 4, 3, 172]
abbrev dktX10_readPart_6 : List UInt8 := dkwX10_readPart_6 ++ []
def dkwX10_readPart_5 : List UInt8 := [182, 0, 134, 153, 0, 8, 16, 6, 167, 0, 18, 42, 18, 243, 182, 0, 134, 153, 0, 8, 16, 7]
abbrev dktX10_readPart_5 : List UInt8 := dkwX10_readPart_5 ++ dktX10_readPart_6
def dkwX10_readPart_4 : List UInt8 := [153, 0, 7, 7, 167, 0, 45, 42, 18, 205, 182, 0, 134, 153, 0, 7, 8, 167, 0, 32, 42, 18, 241]
abbrev dktX10_readPart_4 : List UInt8 := dkwX10_readPart_4 ++ dktX10_readPart_5
def dkwX10_readPart_3 : List UInt8 := [167, 0, 71, 42, 18, 237, 182, 0, 134, 153, 0, 7, 6, 167, 0, 58, 42, 18, 239, 182, 0, 134]
abbrev dktX10_readPart_3 : List UInt8 := dkwX10_readPart_3 ++ dktX10_readPart_4
def dkwX10_readPart_2 : List UInt8 := [42, 18, 233, 182, 0, 134, 153, 0, 7, 4, 167, 0, 84, 42, 18, 235, 182, 0, 134, 153, 0, 7, 5]
abbrev dktX10_readPart_2 : List UInt8 := dkwX10_readPart_2 ++ dktX10_readPart_3
def dkwX10_readPart_1 : List UInt8 := [60, 42, 16, 10, 27, 182, 0, 227, 167, 0, 117, 42, 18, 231, 182, 0, 134, 153, 0, 7, 3, 167, 0, 97]
abbrev dktX10_readPart_1 : List UInt8 := dkwX10_readPart_1 ++ dktX10_readPart_2
def dkwX10_readPart_0 : List UInt8 := [42, 182, 0, 131, 42, 180, 0, 106, 42, 180, 0, 116, 160, 0, 23, 42, 3, 17, 3, 231, 6, 182, 0, 138]
abbrev dktX10_readPart_0 : List UInt8 := dkwX10_readPart_0 ++ dktX10_readPart_1
theorem dksX10_readPart_0 : cX10_readPart.data.toList.drop 0 = dktX10_readPart_0 := by decide +kernel
theorem dksX10_readPart_1 : cX10_readPart.data.toList.drop 24 = dktX10_readPart_1 := dk_seg dksX10_readPart_0 24 rfl rfl
theorem dksX10_readPart_2 : cX10_readPart.data.toList.drop 48 = dktX10_readPart_2 := dk_seg dksX10_readPart_1 24 rfl rfl
theorem dksX10_readPart_3 : cX10_readPart.data.toList.drop 71 = dktX10_readPart_3 := dk_seg dksX10_readPart_2 23 rfl rfl
theorem dksX10_readPart_4 : cX10_readPart.data.toList.drop 93 = dktX10_readPart_4 := dk_seg dksX10_readPart_3 22 rfl rfl
theorem dksX10_readPart_5 : cX10_readPart.data.toList.drop 116 = dktX10_readPart_5 := dk_seg dksX10_readPart_4 23 rfl rfl
theorem dksX10_readPart_6 : cX10_readPart.data.toList.drop 138 = dktX10_readPart_6 := dk_seg dksX10_readPart_5 22 rfl rfl
theorem dX10_readPart_0 : decode cX10_readPart 0 = .ok (.aload_n 0, 1) := dk_42 (dk_at dksX10_readPart_0 0 rfl rfl)
theorem dX10_readPart_1 : decode cX10_readPart 1 = .ok (.invokevirtual 131, 3) := dk_182 0 131 (dk_at dksX10_readPart_0 1 rfl rfl)
theorem dX10_readPart_4 : decode cX10_readPart 4 = .ok (.aload_n 0, 1) := dk_42 (dk_at dksX10_readPart_0 4 rfl rfl)
theorem dX10_readPart_5 : decode cX10_readPart 5 = .ok (.getfield 106, 3) := dk_180 0 106 (dk_at dksX10_readPart_0 5 rfl rfl)
theorem dX10_readPart_8 : decode cX10_readPart 8 = .ok (.aload_n 0, 1) := dk_42 (dk_at dksX10_readPart_0 8 rfl rfl)
theorem dX10_readPart_9 : decode cX10_readPart 9 = .ok (.getfield 116, 3) := dk_180 0 116 (dk_at dksX10_readPart_0 9 rfl rfl)
theorem dX10_readPart_12 : decode cX10_readPart 12 = .ok (.if_icmp .ne 23, 3) := dk_160 0 23 (dk_at dksX10_readPart_0 12 rfl rfl)
theorem dX10_readPart_15 : decode cX10_readPart 15 = .ok (.aload_n 0, 1) := dk_42 (dk_at dksX10_readPart_0 15 rfl rfl)
theorem dX10_readPart_16 : decode cX10_readPart 16 = .ok (.iconst 0, 1) := dk_3 (dk_at dksX10_readPart_0 16 rfl rfl)
theorem dX10_readPart_17 : decode cX10_readPart 17 = .ok (.sipush 999, 3) := dk_17 3 231 (dk_at dksX10_readPart_0 17 rfl rfl)
theorem dX10_readPart_20 : decode cX10_readPart 20 = .ok (.iconst 3, 1) := dk_6 (dk_at dksX10_readPart_0 20 rfl rfl)
theorem dX10_readPart_21 : decode cX10_readPart 21 = .ok (.invokevirtual 138, 3) := dk_182 0 138 (dk_at dksX10_readPart_0 21 rfl rfl)
theorem dX10_readPart_24 : decode cX10_readPart 24 = .ok (.istore_n 1, 1) := dk_60 (dk_at dksX10_readPart_1 0 rfl rfl)
theorem dX10_readPart_25 : decode cX10_readPart 25 = .ok (.aload_n 0, 1) := dk_42 (dk_at dksX10_readPart_1 1 rfl rfl)
theorem dX10_readPart_26 : decode cX10_readPart 26 = .ok (.bipush 10, 2) := dk_16 10 (dk_at dksX10_readPart_1 2 rfl rfl)
theorem dX10_readPart_28 : decode cX10_readPart 28 = .ok (.iload_n 1, 1) := dk_27 (dk_at dksX10_readPart_1 4 rfl rfl)
theorem dX10_readPart_29 : decode cX10_readPart 29 = .ok (.invokevirtual 227, 3) := dk_182 0 227 (dk_at dksX10_readPart_1 5 rfl rfl)
theorem dX10_readPart_32 : decode cX10_readPart 32 = .ok (.goto 117, 3) := dk_167 0 117 (dk_at dksX10_readPart_1 8 rfl rfl)
theorem dX10_readPart_35 : decode cX10_readPart 35 = .ok (.aload_n 0, 1) := dk_42 (dk_at dksX10_readPart_1 11 rfl rfl)
theorem dX10_readPart_36 : decode cX10_readPart 36 = .ok (.ldc 231, 2) := dk_18 231 (dk_at dksX10_readPart_1 12 rfl rfl)
theorem dX10_readPart_38 : decode cX10_readPart 38 = .ok (.invokevirtual 134, 3) := dk_182 0 134 (dk_at dksX10_readPart_1 14 rfl rfl)
theorem dX10_readPart_41 : decode cX10_readPart 41 = .ok (.ifCond .eq 7, 3) := dk_153 0 7 (dk_at dksX10_readPart_1 17 rfl rfl)
theorem dX10_readPart_44 : decode cX10_readPart 44 = .ok (.iconst 0, 1) := dk_3 (dk_at dksX10_readPart_1 20 rfl rfl)
theorem dX10_readPart_45 : decode cX10_readPart 45 = .ok (.goto 97, 3) := dk_167 0 97 (dk_at dksX10_readPart_1 21 rfl rfl)
theorem dX10_readPart_48 : decode cX10_readPart 48 = .ok (.aload_n 0, 1) := dk_42 (dk_at dksX10_readPart_2 0 rfl rfl)
theorem dX10_readPart_49 : decode cX10_readPart 49 = .ok (.ldc 233, 2) := dk_18 233 (dk_at dksX10_readPart_2 1 rfl rfl)
theorem dX10_readPart_51 : decode cX10_readPart 51 = .ok (.invokevirtual 134, 3) := dk_182 0 134 (dk_at dksX10_readPart_2 3 rfl rfl)
theorem dX10_readPart_54 : decode cX10_readPart 54 = .ok (.ifCond .eq 7, 3) := dk_153 0 7 (dk_at dksX10_readPart_2 6 rfl rfl)
theorem dX10_readPart_57 : decode cX10_readPart 57 = .ok (.iconst 1, 1) := dk_4 (dk_at dksX10_readPart_2 9 rfl rfl)
theorem dX10_readPart_58 : decode cX10_readPart 58 = .ok (.goto 84, 3) := dk_167 0 84 (dk_at dksX10_readPart_2 10 rfl rfl)
theorem dX10_readPart_61 : decode cX10_readPart 61 = .ok (.aload_n 0, 1) := dk_42 (dk_at dksX10_readPart_2 13 rfl rfl)
theorem dX10_readPart_62 : decode cX10_readPart 62 = .ok (.ldc 235, 2) := dk_18 235 (dk_at dksX10_readPart_2 14 rfl rfl)
theorem dX10_readPart_64 : decode cX10_readPart 64 = .ok (.invokevirtual 134, 3) := dk_182 0 134 (dk_at dksX10_readPart_2 16 rfl rfl)
theorem dX10_readPart_67 : decode cX10_readPart 67 = .ok (.ifCond .eq 7, 3) := dk_153 0 7 (dk_at dksX10_readPart_2 19 rfl rfl)
theorem dX10_readPart_70 : decode cX10_readPart 70 = .ok (.iconst 2, 1) := dk_5 (dk_at dksX10_readPart_2 22 rfl rfl)
theorem dX10_readPart_71 : decode cX10_readPart 71 = .ok (.goto 71, 3) := dk_167 0 71 (dk_at dksX10_readPart_3 0 rfl rfl)
theorem dX10_readPart_74 : decode cX10_readPart 74 = .ok (.aload_n 0, 1) := dk_42 (dk_at dksX10_readPart_3 3 rfl rfl)
theorem dX10_readPart_75 : decode cX10_readPart 75 = .ok (.ldc 237, 2) := dk_18 237 (dk_at dksX10_readPart_3 4 rfl rfl)
theorem dX10_readPart_77 : decode cX10_readPart 77 = .ok (.invokevirtual 134, 3) := dk_182 0 134 (dk_at dksX10_readPart_3 6 rfl rfl)
theorem dX10_readPart_80 : decode cX10_readPart 80 = .ok (.ifCond .eq 7, 3) := dk_153 0 7 (dk_at dksX10_readPart_3 9 rfl rfl)
theorem dX10_readPart_83 : decode cX10_readPart 83 = .ok (.iconst 3, 1) := dk_6 (dk_at dksX10_readPart_3 12 rfl rfl)
theorem dX10_readPart_84 : decode cX10_readPart 84 = .ok (.goto 58, 3) := dk_167 0 58 (dk_at dksX10_readPart_3 13 rfl rfl)
theorem dX10_readPart_87 : decode cX10_readPart 87 = .ok (.aload_n 0, 1) := dk_42 (dk_at dksX10_readPart_3 16 rfl rfl)
theorem dX10_readPart_88 : decode cX10_readPart 88 = .ok (.ldc 239, 2) := dk_18 239 (dk_at dksX10_readPart_3 17 rfl rfl)
theorem dX10_readPart_90 : decode cX10_readPart 90 = .ok (.invokevirtual 134, 3) := dk_182 0 134 (dk_at dksX10_readPart_3 19 rfl rfl)
theorem dX10_readPart_93 : decode cX10_readPart 93 = .ok (.ifCond .eq 7, 3) := dk_153 0 7 (dk_at dksX10_readPart_4 0 rfl rfl)
theorem dX10_readPart_96 : decode cX10_readPart 96 = .ok (.iconst 4, 1) := dk_7 (dk_at dksX10_readPart_4 3 rfl rfl)
theorem dX10_readPart_97 : decode cX10_readPart 97 = .ok (.goto 45, 3) := dk_167 0 45 (dk_at dksX10_readPart_4 4 rfl rfl)
theorem dX10_readPart_100 : decode cX10_readPart 100 = .ok (.aload_n 0, 1) := dk_42 (dk_at dksX10_readPart_4 7 rfl rfl)
theorem dX10_readPart_101 : decode cX10_readPart 101 = .ok (.ldc 205, 2) := dk_18 205 (dk_at dksX10_readPart_4 8 rfl rfl)
theorem dX10_readPart_103 : decode cX10_readPart 103 = .ok (.invokevirtual 134, 3) := dk_182 0 134 (dk_at dksX10_readPart_4 10 rfl rfl)
theorem dX10_readPart_106 : decode cX10_readPart 106 = .ok (.ifCond .eq 7, 3) := dk_153 0 7 (dk_at dksX10_readPart_4 13 rfl rfl)
theorem dX10_readPart_109 : decode cX10_readPart 109 = .ok (.iconst 5, 1) := dk_8 (dk_at dksX10_readPart_4 16 rfl rfl)
theorem dX10_readPart_110 : decode cX10_readPart 110 = .ok (.goto 32, 3) := dk_167 0 32 (dk_at dksX10_readPart_4 17 rfl rfl)
theorem dX10_readPart_113 : decode cX10_readPart 113 = .ok (.aload_n 0, 1) := dk_42 (dk_at dksX10_readPart_4 20 rfl rfl)
theorem dX10_readPart_114 : decode cX10_readPart 114 = .ok (.ldc 241, 2) := dk_18 241 (dk_at dksX10_readPart_4 21 rfl rfl)
theorem dX10_readPart_116 : decode cX10_readPart 116 = .ok (.invokevirtual 134, 3) := dk_182 0 134 (dk_at dksX10_readPart_5 0 rfl rfl)
theorem dX10_readPart_119 : decode cX10_readPart 119 = .ok (.ifCond .eq 8, 3) := dk_153 0 8 (dk_at dksX10_readPart_5 3 rfl rfl)
theorem dX10_readPart_122 : decode cX10_readPart 122 = .ok (.bipush 6, 2) := dk_16 6 (dk_at dksX10_readPart_5 6 rfl rfl)
theorem dX10_readPart_124 : decode cX10_readPart 124 = .ok (.goto 18, 3) := dk_167 0 18 (dk_at dksX10_readPart_5 8 rfl rfl)
theorem dX10_readPart_127 : decode cX10_readPart 127 = .ok (.aload_n 0, 1) := dk_42 (dk_at dksX10_readPart_5 11 rfl rfl)
theorem dX10_readPart_128 : decode cX10_readPart 128 = .ok (.ldc 243, 2) := dk_18 243 (dk_at dksX10_readPart_5 12 rfl rfl)
theorem dX10_readPart_130 : decode cX10_readPart 130 = .ok (.invokevirtual 134, 3) := dk_182 0 134 (dk_at dksX10_readPart_5 14 rfl rfl)
theorem dX10_readPart_133 : decode cX10_readPart 133 = .ok (.ifCond .eq 8, 3) := dk_153 0 8 (dk_at dksX10_readPart_5 17 rfl rfl)
theorem dX10_readPart_136 : decode cX10_readPart 136 = .ok (.bipush 7, 2) := dk_16 7 (dk_at dksX10_readPart_5 20 rfl rfl)
theorem dX10_readPart_138 : decode cX10_readPart 138 = .ok (.goto 4, 3) := dk_167 0 4 (dk_at dksX10_readPart_6 0 rfl rfl)
theorem dX10_readPart_141 : decode cX10_readPart 141 = .ok (.iconst (-1), 1) := dk_2 (dk_at dksX10_readPart_6 3 rfl rfl)
theorem dX10_readPart_142 : decode cX10_readPart 142 = .ok (.istore_n 1, 1) := dk_60 (dk_at dksX10_readPart_6 4 rfl rfl)
theorem dX10_readPart_143 : decode cX10_readPart 143 = .ok (.aload_n 0, 1) := dk_42 (dk_at dksX10_readPart_6 5 rfl rfl)
theorem dX10_readPart_144 : decode cX10_readPart 144 = .ok (.iload_n 1, 1) := dk_27 (dk_at dksX10_readPart_6 6 rfl rfl)
theorem dX10_readPart_145 : decode cX10_readPart 145 = .ok (.iconst 0, 1) := dk_3 (dk_at dksX10_readPart_6 7 rfl rfl)
theorem dX10_readPart_146 : decode cX10_readPart 146 = .ok (.invokevirtual 227, 3) := dk_182 0 227 (dk_at dksX10_readPart_6 8 rfl rfl)
theorem dX10_readPart_149 : decode cX10_readPart 149 = .ok (.iload_n 1, 1) := dk_27 (dk_at dksX10_readPart_6 11 rfl rfl)
theorem dX10_readPart_150 : decode cX10_readPart 150 = .ok (.ifCond .lt 7, 3) := dk_155 0 7 (dk_at dksX10_readPart_6 12 rfl rfl)
theorem dX10_readPart_153 : decode cX10_readPart 153 = .ok (.iconst 1, 1) := dk_4 (dk_at dksX10_readPart_6 15 rfl rfl)
theorem dX10_readPart_154 : decode cX10_readPart 154 = .ok (.goto 4, 3) := dk_167 0 4 (dk_at dksX10_readPart_6 16 rfl rfl)
theorem dX10_readPart_157 : decode cX10_readPart 157 = .ok (.iconst 0, 1) := dk_3 (dk_at dksX10_readPart_6 19 rfl rfl)
theorem dX10_readPart_158 : decode cX10_readPart 158 = .ok (.ireturn, 1) := dk_172 (dk_at dksX10_readPart_6 20 rfl rfl)
abbrev cX10_throwsIf : ByteArray := prog_20_method_2_code
def yX10_throwsIf : MethodName := ⟨RX10, "throwsIf", "(ZI)Z"⟩
def dkwX10_throwsIf_0 : List UInt8 := [27, 153, 0, 8, 42, 28, 181, 0, 3, 27, 172]
abbrev dktX10_throwsIf_0 : List UInt8 := dkwX10_throwsIf_0 ++ []
theorem dksX10_throwsIf_0 : cX10_throwsIf.data.toList.drop 0 = dktX10_throwsIf_0 := by decide +kernel
theorem dX10_throwsIf_0 : decode cX10_throwsIf 0 = .ok (.iload_n 1, 1) := dk_27 (dk_at dksX10_throwsIf_0 0 rfl rfl)
theorem dX10_throwsIf_1 : decode cX10_throwsIf 1 = .ok (.ifCond .eq 8, 3) := dk_153 0 8 (dk_at dksX10_throwsIf_0 1 rfl rfl)
theorem dX10_throwsIf_4 : decode cX10_throwsIf 4 = .ok (.aload_n 0, 1) := dk_42 (dk_at dksX10_throwsIf_0 4 rfl rfl)
theorem dX10_throwsIf_5 : decode cX10_throwsIf 5 = .ok (.iload_n 2, 1) := dk_28 (dk_at dksX10_throwsIf_0 5 rfl rfl)
theorem dX10_throwsIf_6 : decode cX10_throwsIf 6 = .ok (.putfield 3, 3) := dk_181 0 3 (dk_at dksX10_throwsIf_0 6 rfl rfl)
theorem dX10_throwsIf_9 : decode cX10_throwsIf 9 = .ok (.iload_n 1, 1) := dk_27 (dk_at dksX10_throwsIf_0 9 rfl rfl)
theorem dX10_throwsIf_10 : decode cX10_throwsIf 10 = .ok (.ireturn, 1) := dk_172 (dk_at dksX10_throwsIf_0 10 rfl rfl)
abbrev cX10_law : ByteArray := prog_20_method_61_code
def yX10_law : MethodName := ⟨RX10, "law", "()I"⟩
def dkwX10_law_4 : List UInt8 := [181, 0, 79, 42, 182, 0, 72, 27, 172]
abbrev dktX10_law_4 : List UInt8 := dkwX10_law_4 ++ []
def dkwX10_law_3 : List UInt8 := [17, 4, 220, 28, 96, 46, 79, 132, 2, 1, 167, 255, 226, 42, 180, 0, 13, 16, 8, 4, 79, 42, 3]
abbrev dktX10_law_3 : List UInt8 := dkwX10_law_3 ++ dktX10_law_4
def dkwX10_law_2 : List UInt8 := [27, 79, 3, 61, 28, 17, 3, 81, 162, 0, 29, 42, 180, 0, 13, 17, 1, 139, 28, 96, 42, 180, 0, 13]
abbrev dktX10_law_2 : List UInt8 := dkwX10_law_2 ++ dktX10_law_3
def dkwX10_law_1 : List UInt8 := [156, 0, 7, 4, 167, 0, 4, 3, 4, 182, 1, 44, 153, 0, 5, 3, 172, 42, 180, 0, 13, 17, 4, 220]
abbrev dktX10_law_1 : List UInt8 := dkwX10_law_1 ++ dktX10_law_2
def dkwX10_law_0 : List UInt8 := [42, 3, 182, 1, 40, 60, 42, 27, 156, 0, 10, 42, 180, 0, 116, 167, 0, 4, 2, 181, 0, 30, 42, 27]
abbrev dktX10_law_0 : List UInt8 := dkwX10_law_0 ++ dktX10_law_1
theorem dksX10_law_0 : cX10_law.data.toList.drop 0 = dktX10_law_0 := by decide +kernel
theorem dksX10_law_1 : cX10_law.data.toList.drop 24 = dktX10_law_1 := dk_seg dksX10_law_0 24 rfl rfl
theorem dksX10_law_2 : cX10_law.data.toList.drop 48 = dktX10_law_2 := dk_seg dksX10_law_1 24 rfl rfl
theorem dksX10_law_3 : cX10_law.data.toList.drop 72 = dktX10_law_3 := dk_seg dksX10_law_2 24 rfl rfl
theorem dksX10_law_4 : cX10_law.data.toList.drop 95 = dktX10_law_4 := dk_seg dksX10_law_3 23 rfl rfl
theorem dX10_law_0 : decode cX10_law 0 = .ok (.aload_n 0, 1) := dk_42 (dk_at dksX10_law_0 0 rfl rfl)
theorem dX10_law_1 : decode cX10_law 1 = .ok (.iconst 0, 1) := dk_3 (dk_at dksX10_law_0 1 rfl rfl)
theorem dX10_law_2 : decode cX10_law 2 = .ok (.invokevirtual 296, 3) := dk_182 1 40 (dk_at dksX10_law_0 2 rfl rfl)
theorem dX10_law_5 : decode cX10_law 5 = .ok (.istore_n 1, 1) := dk_60 (dk_at dksX10_law_0 5 rfl rfl)
theorem dX10_law_6 : decode cX10_law 6 = .ok (.aload_n 0, 1) := dk_42 (dk_at dksX10_law_0 6 rfl rfl)
theorem dX10_law_7 : decode cX10_law 7 = .ok (.iload_n 1, 1) := dk_27 (dk_at dksX10_law_0 7 rfl rfl)
theorem dX10_law_8 : decode cX10_law 8 = .ok (.ifCond .ge 10, 3) := dk_156 0 10 (dk_at dksX10_law_0 8 rfl rfl)
theorem dX10_law_11 : decode cX10_law 11 = .ok (.aload_n 0, 1) := dk_42 (dk_at dksX10_law_0 11 rfl rfl)
theorem dX10_law_12 : decode cX10_law 12 = .ok (.getfield 116, 3) := dk_180 0 116 (dk_at dksX10_law_0 12 rfl rfl)
theorem dX10_law_15 : decode cX10_law 15 = .ok (.goto 4, 3) := dk_167 0 4 (dk_at dksX10_law_0 15 rfl rfl)
theorem dX10_law_18 : decode cX10_law 18 = .ok (.iconst (-1), 1) := dk_2 (dk_at dksX10_law_0 18 rfl rfl)
theorem dX10_law_19 : decode cX10_law 19 = .ok (.putfield 30, 3) := dk_181 0 30 (dk_at dksX10_law_0 19 rfl rfl)
theorem dX10_law_22 : decode cX10_law 22 = .ok (.aload_n 0, 1) := dk_42 (dk_at dksX10_law_0 22 rfl rfl)
theorem dX10_law_23 : decode cX10_law 23 = .ok (.iload_n 1, 1) := dk_27 (dk_at dksX10_law_0 23 rfl rfl)
theorem dX10_law_24 : decode cX10_law 24 = .ok (.ifCond .ge 7, 3) := dk_156 0 7 (dk_at dksX10_law_1 0 rfl rfl)
theorem dX10_law_27 : decode cX10_law 27 = .ok (.iconst 1, 1) := dk_4 (dk_at dksX10_law_1 3 rfl rfl)
theorem dX10_law_28 : decode cX10_law 28 = .ok (.goto 4, 3) := dk_167 0 4 (dk_at dksX10_law_1 4 rfl rfl)
theorem dX10_law_31 : decode cX10_law 31 = .ok (.iconst 0, 1) := dk_3 (dk_at dksX10_law_1 7 rfl rfl)
theorem dX10_law_32 : decode cX10_law 32 = .ok (.iconst 1, 1) := dk_4 (dk_at dksX10_law_1 8 rfl rfl)
theorem dX10_law_33 : decode cX10_law 33 = .ok (.invokevirtual 300, 3) := dk_182 1 44 (dk_at dksX10_law_1 9 rfl rfl)
theorem dX10_law_36 : decode cX10_law 36 = .ok (.ifCond .eq 5, 3) := dk_153 0 5 (dk_at dksX10_law_1 12 rfl rfl)
theorem dX10_law_39 : decode cX10_law 39 = .ok (.iconst 0, 1) := dk_3 (dk_at dksX10_law_1 15 rfl rfl)
theorem dX10_law_40 : decode cX10_law 40 = .ok (.ireturn, 1) := dk_172 (dk_at dksX10_law_1 16 rfl rfl)
theorem dX10_law_41 : decode cX10_law 41 = .ok (.aload_n 0, 1) := dk_42 (dk_at dksX10_law_1 17 rfl rfl)
theorem dX10_law_42 : decode cX10_law 42 = .ok (.getfield 13, 3) := dk_180 0 13 (dk_at dksX10_law_1 18 rfl rfl)
theorem dX10_law_45 : decode cX10_law 45 = .ok (.sipush 1244, 3) := dk_17 4 220 (dk_at dksX10_law_1 21 rfl rfl)
theorem dX10_law_48 : decode cX10_law 48 = .ok (.iload_n 1, 1) := dk_27 (dk_at dksX10_law_2 0 rfl rfl)
theorem dX10_law_49 : decode cX10_law 49 = .ok (.iastore, 1) := dk_79 (dk_at dksX10_law_2 1 rfl rfl)
theorem dX10_law_50 : decode cX10_law 50 = .ok (.iconst 0, 1) := dk_3 (dk_at dksX10_law_2 2 rfl rfl)
theorem dX10_law_51 : decode cX10_law 51 = .ok (.istore_n 2, 1) := dk_61 (dk_at dksX10_law_2 3 rfl rfl)
theorem dX10_law_52 : decode cX10_law 52 = .ok (.iload_n 2, 1) := dk_28 (dk_at dksX10_law_2 4 rfl rfl)
theorem dX10_law_53 : decode cX10_law 53 = .ok (.sipush 849, 3) := dk_17 3 81 (dk_at dksX10_law_2 5 rfl rfl)
theorem dX10_law_56 : decode cX10_law 56 = .ok (.if_icmp .ge 29, 3) := dk_162 0 29 (dk_at dksX10_law_2 8 rfl rfl)
theorem dX10_law_59 : decode cX10_law 59 = .ok (.aload_n 0, 1) := dk_42 (dk_at dksX10_law_2 11 rfl rfl)
theorem dX10_law_60 : decode cX10_law 60 = .ok (.getfield 13, 3) := dk_180 0 13 (dk_at dksX10_law_2 12 rfl rfl)
theorem dX10_law_63 : decode cX10_law 63 = .ok (.sipush 395, 3) := dk_17 1 139 (dk_at dksX10_law_2 15 rfl rfl)
theorem dX10_law_66 : decode cX10_law 66 = .ok (.iload_n 2, 1) := dk_28 (dk_at dksX10_law_2 18 rfl rfl)
theorem dX10_law_67 : decode cX10_law 67 = .ok (.iadd, 1) := dk_96 (dk_at dksX10_law_2 19 rfl rfl)
theorem dX10_law_68 : decode cX10_law 68 = .ok (.aload_n 0, 1) := dk_42 (dk_at dksX10_law_2 20 rfl rfl)
theorem dX10_law_69 : decode cX10_law 69 = .ok (.getfield 13, 3) := dk_180 0 13 (dk_at dksX10_law_2 21 rfl rfl)
theorem dX10_law_72 : decode cX10_law 72 = .ok (.sipush 1244, 3) := dk_17 4 220 (dk_at dksX10_law_3 0 rfl rfl)
theorem dX10_law_75 : decode cX10_law 75 = .ok (.iload_n 2, 1) := dk_28 (dk_at dksX10_law_3 3 rfl rfl)
theorem dX10_law_76 : decode cX10_law 76 = .ok (.iadd, 1) := dk_96 (dk_at dksX10_law_3 4 rfl rfl)
theorem dX10_law_77 : decode cX10_law 77 = .ok (.iaload, 1) := dk_46 (dk_at dksX10_law_3 5 rfl rfl)
theorem dX10_law_78 : decode cX10_law 78 = .ok (.iastore, 1) := dk_79 (dk_at dksX10_law_3 6 rfl rfl)
theorem dX10_law_79 : decode cX10_law 79 = .ok (.iinc 2 1, 3) := dk_132 2 1 (dk_at dksX10_law_3 7 rfl rfl)
theorem dX10_law_82 : decode cX10_law 82 = .ok (.goto (-30), 3) := dk_167 255 226 (dk_at dksX10_law_3 10 rfl rfl)
theorem dX10_law_85 : decode cX10_law 85 = .ok (.aload_n 0, 1) := dk_42 (dk_at dksX10_law_3 13 rfl rfl)
theorem dX10_law_86 : decode cX10_law 86 = .ok (.getfield 13, 3) := dk_180 0 13 (dk_at dksX10_law_3 14 rfl rfl)
theorem dX10_law_89 : decode cX10_law 89 = .ok (.bipush 8, 2) := dk_16 8 (dk_at dksX10_law_3 17 rfl rfl)
theorem dX10_law_91 : decode cX10_law 91 = .ok (.iconst 1, 1) := dk_4 (dk_at dksX10_law_3 19 rfl rfl)
theorem dX10_law_92 : decode cX10_law 92 = .ok (.iastore, 1) := dk_79 (dk_at dksX10_law_3 20 rfl rfl)
theorem dX10_law_93 : decode cX10_law 93 = .ok (.aload_n 0, 1) := dk_42 (dk_at dksX10_law_3 21 rfl rfl)
theorem dX10_law_94 : decode cX10_law 94 = .ok (.iconst 0, 1) := dk_3 (dk_at dksX10_law_3 22 rfl rfl)
theorem dX10_law_95 : decode cX10_law 95 = .ok (.putfield 79, 3) := dk_181 0 79 (dk_at dksX10_law_4 0 rfl rfl)
theorem dX10_law_98 : decode cX10_law 98 = .ok (.aload_n 0, 1) := dk_42 (dk_at dksX10_law_4 3 rfl rfl)
theorem dX10_law_99 : decode cX10_law 99 = .ok (.invokevirtual 72, 3) := dk_182 0 72 (dk_at dksX10_law_4 4 rfl rfl)
theorem dX10_law_102 : decode cX10_law 102 = .ok (.iload_n 1, 1) := dk_27 (dk_at dksX10_law_4 7 rfl rfl)
theorem dX10_law_103 : decode cX10_law 103 = .ok (.ireturn, 1) := dk_172 (dk_at dksX10_law_4 8 rfl rfl)
abbrev cX10_heat : ByteArray := prog_20_method_69_code
def yX10_heat : MethodName := ⟨RX10, "heat", "(I)I"⟩
def dkwX10_heat_1 : List UInt8 := [180, 0, 39, 27, 46, 172]
abbrev dktX10_heat_1 : List UInt8 := dkwX10_heat_1 ++ []
def dkwX10_heat_0 : List UInt8 := [42, 3, 181, 0, 3, 42, 27, 184, 1, 97, 4, 182, 1, 44, 153, 0, 7, 3, 167, 0, 9, 42]
abbrev dktX10_heat_0 : List UInt8 := dkwX10_heat_0 ++ dktX10_heat_1
theorem dksX10_heat_0 : cX10_heat.data.toList.drop 0 = dktX10_heat_0 := by decide +kernel
theorem dksX10_heat_1 : cX10_heat.data.toList.drop 22 = dktX10_heat_1 := dk_seg dksX10_heat_0 22 rfl rfl
theorem dX10_heat_0 : decode cX10_heat 0 = .ok (.aload_n 0, 1) := dk_42 (dk_at dksX10_heat_0 0 rfl rfl)
theorem dX10_heat_1 : decode cX10_heat 1 = .ok (.iconst 0, 1) := dk_3 (dk_at dksX10_heat_0 1 rfl rfl)
theorem dX10_heat_2 : decode cX10_heat 2 = .ok (.putfield 3, 3) := dk_181 0 3 (dk_at dksX10_heat_0 2 rfl rfl)
theorem dX10_heat_5 : decode cX10_heat 5 = .ok (.aload_n 0, 1) := dk_42 (dk_at dksX10_heat_0 5 rfl rfl)
theorem dX10_heat_6 : decode cX10_heat 6 = .ok (.iload_n 1, 1) := dk_27 (dk_at dksX10_heat_0 6 rfl rfl)
theorem dX10_heat_7 : decode cX10_heat 7 = .ok (.invokestatic 353, 3) := dk_184 1 97 (dk_at dksX10_heat_0 7 rfl rfl)
theorem dX10_heat_10 : decode cX10_heat 10 = .ok (.iconst 1, 1) := dk_4 (dk_at dksX10_heat_0 10 rfl rfl)
theorem dX10_heat_11 : decode cX10_heat 11 = .ok (.invokevirtual 300, 3) := dk_182 1 44 (dk_at dksX10_heat_0 11 rfl rfl)
theorem dX10_heat_14 : decode cX10_heat 14 = .ok (.ifCond .eq 7, 3) := dk_153 0 7 (dk_at dksX10_heat_0 14 rfl rfl)
theorem dX10_heat_17 : decode cX10_heat 17 = .ok (.iconst 0, 1) := dk_3 (dk_at dksX10_heat_0 17 rfl rfl)
theorem dX10_heat_18 : decode cX10_heat 18 = .ok (.goto 9, 3) := dk_167 0 9 (dk_at dksX10_heat_0 18 rfl rfl)
theorem dX10_heat_21 : decode cX10_heat 21 = .ok (.aload_n 0, 1) := dk_42 (dk_at dksX10_heat_0 21 rfl rfl)
theorem dX10_heat_22 : decode cX10_heat 22 = .ok (.getfield 39, 3) := dk_180 0 39 (dk_at dksX10_heat_1 0 rfl rfl)
theorem dX10_heat_25 : decode cX10_heat 25 = .ok (.iload_n 1, 1) := dk_27 (dk_at dksX10_heat_1 3 rfl rfl)
theorem dX10_heat_26 : decode cX10_heat 26 = .ok (.iaload, 1) := dk_46 (dk_at dksX10_heat_1 4 rfl rfl)
theorem dX10_heat_27 : decode cX10_heat 27 = .ok (.ireturn, 1) := dk_172 (dk_at dksX10_heat_1 5 rfl rfl)
abbrev cX10_noYear : ByteArray := prog_20_method_23_code
def yX10_noYear : MethodName := ⟨RX10, "noYear", "(I)Z"⟩
def dkwX10_noYear_0 : List UInt8 := [26, 3, 17, 1, 43, 184, 0, 90, 154, 0, 7, 4, 167, 0, 4, 3, 172]
abbrev dktX10_noYear_0 : List UInt8 := dkwX10_noYear_0 ++ []
theorem dksX10_noYear_0 : cX10_noYear.data.toList.drop 0 = dktX10_noYear_0 := by decide +kernel
theorem dX10_noYear_0 : decode cX10_noYear 0 = .ok (.iload_n 0, 1) := dk_26 (dk_at dksX10_noYear_0 0 rfl rfl)
theorem dX10_noYear_1 : decode cX10_noYear 1 = .ok (.iconst 0, 1) := dk_3 (dk_at dksX10_noYear_0 1 rfl rfl)
theorem dX10_noYear_2 : decode cX10_noYear 2 = .ok (.sipush 299, 3) := dk_17 1 43 (dk_at dksX10_noYear_0 2 rfl rfl)
theorem dX10_noYear_5 : decode cX10_noYear 5 = .ok (.invokestatic 90, 3) := dk_184 0 90 (dk_at dksX10_noYear_0 5 rfl rfl)
theorem dX10_noYear_8 : decode cX10_noYear 8 = .ok (.ifCond .ne 7, 3) := dk_154 0 7 (dk_at dksX10_noYear_0 8 rfl rfl)
theorem dX10_noYear_11 : decode cX10_noYear 11 = .ok (.iconst 1, 1) := dk_4 (dk_at dksX10_noYear_0 11 rfl rfl)
theorem dX10_noYear_12 : decode cX10_noYear 12 = .ok (.goto 4, 3) := dk_167 0 4 (dk_at dksX10_noYear_0 12 rfl rfl)
theorem dX10_noYear_15 : decode cX10_noYear 15 = .ok (.iconst 0, 1) := dk_3 (dk_at dksX10_noYear_0 15 rfl rfl)
theorem dX10_noYear_16 : decode cX10_noYear 16 = .ok (.ireturn, 1) := dk_172 (dk_at dksX10_noYear_0 16 rfl rfl)
abbrev cX10_in : ByteArray := prog_20_method_3_code
def yX10_in : MethodName := ⟨RX10, "in", "(III)Z"⟩
def dkwX10_in_0 : List UInt8 := [26, 27, 161, 0, 12, 26, 28, 163, 0, 7, 4, 167, 0, 4, 3, 172]
abbrev dktX10_in_0 : List UInt8 := dkwX10_in_0 ++ []
theorem dksX10_in_0 : cX10_in.data.toList.drop 0 = dktX10_in_0 := by decide +kernel
theorem dX10_in_0 : decode cX10_in 0 = .ok (.iload_n 0, 1) := dk_26 (dk_at dksX10_in_0 0 rfl rfl)
theorem dX10_in_1 : decode cX10_in 1 = .ok (.iload_n 1, 1) := dk_27 (dk_at dksX10_in_0 1 rfl rfl)
theorem dX10_in_2 : decode cX10_in 2 = .ok (.if_icmp .lt 12, 3) := dk_161 0 12 (dk_at dksX10_in_0 2 rfl rfl)
theorem dX10_in_5 : decode cX10_in 5 = .ok (.iload_n 0, 1) := dk_26 (dk_at dksX10_in_0 5 rfl rfl)
theorem dX10_in_6 : decode cX10_in 6 = .ok (.iload_n 2, 1) := dk_28 (dk_at dksX10_in_0 6 rfl rfl)
theorem dX10_in_7 : decode cX10_in 7 = .ok (.if_icmp .gt 7, 3) := dk_163 0 7 (dk_at dksX10_in_0 7 rfl rfl)
theorem dX10_in_10 : decode cX10_in 10 = .ok (.iconst 1, 1) := dk_4 (dk_at dksX10_in_0 10 rfl rfl)
theorem dX10_in_11 : decode cX10_in 11 = .ok (.goto 4, 3) := dk_167 0 4 (dk_at dksX10_in_0 11 rfl rfl)
theorem dX10_in_14 : decode cX10_in 14 = .ok (.iconst 0, 1) := dk_3 (dk_at dksX10_in_0 14 rfl rfl)
theorem dX10_in_15 : decode cX10_in 15 = .ok (.ireturn, 1) := dk_172 (dk_at dksX10_in_0 15 rfl rfl)
abbrev cX10_speed : ByteArray := prog_20_method_70_code
def yX10_speed : MethodName := ⟨RX10, "speed", "(II)I"⟩
def dkwX10_speed_1 : List UInt8 := [167, 0, 4, 3, 4, 182, 1, 44, 153, 0, 7, 3, 167, 0, 9, 42, 27, 28, 182, 1, 82, 172]
abbrev dktX10_speed_1 : List UInt8 := dkwX10_speed_1 ++ []
def dkwX10_speed_0 : List UInt8 := [42, 3, 181, 0, 3, 42, 42, 27, 182, 1, 100, 154, 0, 11, 42, 28, 182, 1, 103, 153, 0, 7, 4]
abbrev dktX10_speed_0 : List UInt8 := dkwX10_speed_0 ++ dktX10_speed_1
theorem dksX10_speed_0 : cX10_speed.data.toList.drop 0 = dktX10_speed_0 := by decide +kernel
theorem dksX10_speed_1 : cX10_speed.data.toList.drop 23 = dktX10_speed_1 := dk_seg dksX10_speed_0 23 rfl rfl
theorem dX10_speed_0 : decode cX10_speed 0 = .ok (.aload_n 0, 1) := dk_42 (dk_at dksX10_speed_0 0 rfl rfl)
theorem dX10_speed_1 : decode cX10_speed 1 = .ok (.iconst 0, 1) := dk_3 (dk_at dksX10_speed_0 1 rfl rfl)
theorem dX10_speed_2 : decode cX10_speed 2 = .ok (.putfield 3, 3) := dk_181 0 3 (dk_at dksX10_speed_0 2 rfl rfl)
theorem dX10_speed_5 : decode cX10_speed 5 = .ok (.aload_n 0, 1) := dk_42 (dk_at dksX10_speed_0 5 rfl rfl)
theorem dX10_speed_6 : decode cX10_speed 6 = .ok (.aload_n 0, 1) := dk_42 (dk_at dksX10_speed_0 6 rfl rfl)
theorem dX10_speed_7 : decode cX10_speed 7 = .ok (.iload_n 1, 1) := dk_27 (dk_at dksX10_speed_0 7 rfl rfl)
theorem dX10_speed_8 : decode cX10_speed 8 = .ok (.invokevirtual 356, 3) := dk_182 1 100 (dk_at dksX10_speed_0 8 rfl rfl)
theorem dX10_speed_11 : decode cX10_speed 11 = .ok (.ifCond .ne 11, 3) := dk_154 0 11 (dk_at dksX10_speed_0 11 rfl rfl)
theorem dX10_speed_14 : decode cX10_speed 14 = .ok (.aload_n 0, 1) := dk_42 (dk_at dksX10_speed_0 14 rfl rfl)
theorem dX10_speed_15 : decode cX10_speed 15 = .ok (.iload_n 2, 1) := dk_28 (dk_at dksX10_speed_0 15 rfl rfl)
theorem dX10_speed_16 : decode cX10_speed 16 = .ok (.invokevirtual 359, 3) := dk_182 1 103 (dk_at dksX10_speed_0 16 rfl rfl)
theorem dX10_speed_19 : decode cX10_speed 19 = .ok (.ifCond .eq 7, 3) := dk_153 0 7 (dk_at dksX10_speed_0 19 rfl rfl)
theorem dX10_speed_22 : decode cX10_speed 22 = .ok (.iconst 1, 1) := dk_4 (dk_at dksX10_speed_0 22 rfl rfl)
theorem dX10_speed_23 : decode cX10_speed 23 = .ok (.goto 4, 3) := dk_167 0 4 (dk_at dksX10_speed_1 0 rfl rfl)
theorem dX10_speed_26 : decode cX10_speed 26 = .ok (.iconst 0, 1) := dk_3 (dk_at dksX10_speed_1 3 rfl rfl)
theorem dX10_speed_27 : decode cX10_speed 27 = .ok (.iconst 1, 1) := dk_4 (dk_at dksX10_speed_1 4 rfl rfl)
theorem dX10_speed_28 : decode cX10_speed 28 = .ok (.invokevirtual 300, 3) := dk_182 1 44 (dk_at dksX10_speed_1 5 rfl rfl)
theorem dX10_speed_31 : decode cX10_speed 31 = .ok (.ifCond .eq 7, 3) := dk_153 0 7 (dk_at dksX10_speed_1 8 rfl rfl)
theorem dX10_speed_34 : decode cX10_speed 34 = .ok (.iconst 0, 1) := dk_3 (dk_at dksX10_speed_1 11 rfl rfl)
theorem dX10_speed_35 : decode cX10_speed 35 = .ok (.goto 9, 3) := dk_167 0 9 (dk_at dksX10_speed_1 12 rfl rfl)
theorem dX10_speed_38 : decode cX10_speed 38 = .ok (.aload_n 0, 1) := dk_42 (dk_at dksX10_speed_1 15 rfl rfl)
theorem dX10_speed_39 : decode cX10_speed 39 = .ok (.iload_n 1, 1) := dk_27 (dk_at dksX10_speed_1 16 rfl rfl)
theorem dX10_speed_40 : decode cX10_speed 40 = .ok (.iload_n 2, 1) := dk_28 (dk_at dksX10_speed_1 17 rfl rfl)
theorem dX10_speed_41 : decode cX10_speed 41 = .ok (.invokevirtual 338, 3) := dk_182 1 82 (dk_at dksX10_speed_1 18 rfl rfl)
theorem dX10_speed_44 : decode cX10_speed 44 = .ok (.ireturn, 1) := dk_172 (dk_at dksX10_speed_1 21 rfl rfl)
abbrev cX10_noLane : ByteArray := prog_20_method_19_code
def yX10_noLane : MethodName := ⟨RX10, "noLane", "(I)Z"⟩
def dkwX10_noLane_0 : List UInt8 := [27, 3, 42, 182, 0, 86, 4, 100, 184, 0, 90, 154, 0, 7, 4, 167, 0, 4, 3, 172]
abbrev dktX10_noLane_0 : List UInt8 := dkwX10_noLane_0 ++ []
theorem dksX10_noLane_0 : cX10_noLane.data.toList.drop 0 = dktX10_noLane_0 := by decide +kernel
theorem dX10_noLane_0 : decode cX10_noLane 0 = .ok (.iload_n 1, 1) := dk_27 (dk_at dksX10_noLane_0 0 rfl rfl)
theorem dX10_noLane_1 : decode cX10_noLane 1 = .ok (.iconst 0, 1) := dk_3 (dk_at dksX10_noLane_0 1 rfl rfl)
theorem dX10_noLane_2 : decode cX10_noLane 2 = .ok (.aload_n 0, 1) := dk_42 (dk_at dksX10_noLane_0 2 rfl rfl)
theorem dX10_noLane_3 : decode cX10_noLane 3 = .ok (.invokevirtual 86, 3) := dk_182 0 86 (dk_at dksX10_noLane_0 3 rfl rfl)
theorem dX10_noLane_6 : decode cX10_noLane 6 = .ok (.iconst 1, 1) := dk_4 (dk_at dksX10_noLane_0 6 rfl rfl)
theorem dX10_noLane_7 : decode cX10_noLane 7 = .ok (.isub, 1) := dk_100 (dk_at dksX10_noLane_0 7 rfl rfl)
theorem dX10_noLane_8 : decode cX10_noLane 8 = .ok (.invokestatic 90, 3) := dk_184 0 90 (dk_at dksX10_noLane_0 8 rfl rfl)
theorem dX10_noLane_11 : decode cX10_noLane 11 = .ok (.ifCond .ne 7, 3) := dk_154 0 7 (dk_at dksX10_noLane_0 11 rfl rfl)
theorem dX10_noLane_14 : decode cX10_noLane 14 = .ok (.iconst 1, 1) := dk_4 (dk_at dksX10_noLane_0 14 rfl rfl)
theorem dX10_noLane_15 : decode cX10_noLane 15 = .ok (.goto 4, 3) := dk_167 0 4 (dk_at dksX10_noLane_0 15 rfl rfl)
theorem dX10_noLane_18 : decode cX10_noLane 18 = .ok (.iconst 0, 1) := dk_3 (dk_at dksX10_noLane_0 18 rfl rfl)
theorem dX10_noLane_19 : decode cX10_noLane 19 = .ok (.ireturn, 1) := dk_172 (dk_at dksX10_noLane_0 19 rfl rfl)
abbrev cX10_noRow : ByteArray := prog_20_method_20_code
def yX10_noRow : MethodName := ⟨RX10, "noRow", "(I)Z"⟩
def dkwX10_noRow_0 : List UInt8 := [27, 3, 42, 182, 0, 94, 4, 100, 184, 0, 90, 154, 0, 7, 4, 167, 0, 4, 3, 172]
abbrev dktX10_noRow_0 : List UInt8 := dkwX10_noRow_0 ++ []
theorem dksX10_noRow_0 : cX10_noRow.data.toList.drop 0 = dktX10_noRow_0 := by decide +kernel
theorem dX10_noRow_0 : decode cX10_noRow 0 = .ok (.iload_n 1, 1) := dk_27 (dk_at dksX10_noRow_0 0 rfl rfl)
theorem dX10_noRow_1 : decode cX10_noRow 1 = .ok (.iconst 0, 1) := dk_3 (dk_at dksX10_noRow_0 1 rfl rfl)
theorem dX10_noRow_2 : decode cX10_noRow 2 = .ok (.aload_n 0, 1) := dk_42 (dk_at dksX10_noRow_0 2 rfl rfl)
theorem dX10_noRow_3 : decode cX10_noRow 3 = .ok (.invokevirtual 94, 3) := dk_182 0 94 (dk_at dksX10_noRow_0 3 rfl rfl)
theorem dX10_noRow_6 : decode cX10_noRow 6 = .ok (.iconst 1, 1) := dk_4 (dk_at dksX10_noRow_0 6 rfl rfl)
theorem dX10_noRow_7 : decode cX10_noRow 7 = .ok (.isub, 1) := dk_100 (dk_at dksX10_noRow_0 7 rfl rfl)
theorem dX10_noRow_8 : decode cX10_noRow 8 = .ok (.invokestatic 90, 3) := dk_184 0 90 (dk_at dksX10_noRow_0 8 rfl rfl)
theorem dX10_noRow_11 : decode cX10_noRow 11 = .ok (.ifCond .ne 7, 3) := dk_154 0 7 (dk_at dksX10_noRow_0 11 rfl rfl)
theorem dX10_noRow_14 : decode cX10_noRow 14 = .ok (.iconst 1, 1) := dk_4 (dk_at dksX10_noRow_0 14 rfl rfl)
theorem dX10_noRow_15 : decode cX10_noRow 15 = .ok (.goto 4, 3) := dk_167 0 4 (dk_at dksX10_noRow_0 15 rfl rfl)
theorem dX10_noRow_18 : decode cX10_noRow 18 = .ok (.iconst 0, 1) := dk_3 (dk_at dksX10_noRow_0 18 rfl rfl)
theorem dX10_noRow_19 : decode cX10_noRow 19 = .ok (.ireturn, 1) := dk_172 (dk_at dksX10_noRow_0 19 rfl rfl)
abbrev cX10_speedAt : ByteArray := prog_20_method_67_code
def yX10_speedAt : MethodName := ⟨RX10, "speedAt", "(II)I"⟩
def dkwX10_speedAt_2 : List UInt8 := [96, 46, 167, 0, 4, 29, 62, 132, 4, 1, 167, 255, 203, 29, 172]
abbrev dktX10_speedAt_2 : List UInt8 := dkwX10_speedAt_2 ++ []
def dkwX10_speedAt_1 : List UInt8 := [21, 4, 104, 96, 46, 28, 163, 0, 23, 42, 180, 0, 13, 16, 15, 16, 7, 21, 4, 104, 96, 4, 96, 27]
abbrev dktX10_speedAt_1 : List UInt8 := dkwX10_speedAt_1 ++ dktX10_speedAt_2
def dkwX10_speedAt_0 : List UInt8 := [3, 62, 3, 54, 4, 21, 4, 42, 180, 0, 13, 5, 46, 162, 0, 48, 42, 180, 0, 13, 16, 15, 16, 7]
abbrev dktX10_speedAt_0 : List UInt8 := dkwX10_speedAt_0 ++ dktX10_speedAt_1
theorem dksX10_speedAt_0 : cX10_speedAt.data.toList.drop 0 = dktX10_speedAt_0 := by decide +kernel
theorem dksX10_speedAt_1 : cX10_speedAt.data.toList.drop 24 = dktX10_speedAt_1 := dk_seg dksX10_speedAt_0 24 rfl rfl
theorem dksX10_speedAt_2 : cX10_speedAt.data.toList.drop 48 = dktX10_speedAt_2 := dk_seg dksX10_speedAt_1 24 rfl rfl
theorem dX10_speedAt_0 : decode cX10_speedAt 0 = .ok (.iconst 0, 1) := dk_3 (dk_at dksX10_speedAt_0 0 rfl rfl)
theorem dX10_speedAt_1 : decode cX10_speedAt 1 = .ok (.istore_n 3, 1) := dk_62 (dk_at dksX10_speedAt_0 1 rfl rfl)
theorem dX10_speedAt_2 : decode cX10_speedAt 2 = .ok (.iconst 0, 1) := dk_3 (dk_at dksX10_speedAt_0 2 rfl rfl)
theorem dX10_speedAt_3 : decode cX10_speedAt 3 = .ok (.istore 4, 2) := dk_54 4 (dk_at dksX10_speedAt_0 3 rfl rfl)
theorem dX10_speedAt_5 : decode cX10_speedAt 5 = .ok (.iload 4, 2) := dk_21 4 (dk_at dksX10_speedAt_0 5 rfl rfl)
theorem dX10_speedAt_7 : decode cX10_speedAt 7 = .ok (.aload_n 0, 1) := dk_42 (dk_at dksX10_speedAt_0 7 rfl rfl)
theorem dX10_speedAt_8 : decode cX10_speedAt 8 = .ok (.getfield 13, 3) := dk_180 0 13 (dk_at dksX10_speedAt_0 8 rfl rfl)
theorem dX10_speedAt_11 : decode cX10_speedAt 11 = .ok (.iconst 2, 1) := dk_5 (dk_at dksX10_speedAt_0 11 rfl rfl)
theorem dX10_speedAt_12 : decode cX10_speedAt 12 = .ok (.iaload, 1) := dk_46 (dk_at dksX10_speedAt_0 12 rfl rfl)
theorem dX10_speedAt_13 : decode cX10_speedAt 13 = .ok (.if_icmp .ge 48, 3) := dk_162 0 48 (dk_at dksX10_speedAt_0 13 rfl rfl)
theorem dX10_speedAt_16 : decode cX10_speedAt 16 = .ok (.aload_n 0, 1) := dk_42 (dk_at dksX10_speedAt_0 16 rfl rfl)
theorem dX10_speedAt_17 : decode cX10_speedAt 17 = .ok (.getfield 13, 3) := dk_180 0 13 (dk_at dksX10_speedAt_0 17 rfl rfl)
theorem dX10_speedAt_20 : decode cX10_speedAt 20 = .ok (.bipush 15, 2) := dk_16 15 (dk_at dksX10_speedAt_0 20 rfl rfl)
theorem dX10_speedAt_22 : decode cX10_speedAt 22 = .ok (.bipush 7, 2) := dk_16 7 (dk_at dksX10_speedAt_0 22 rfl rfl)
theorem dX10_speedAt_24 : decode cX10_speedAt 24 = .ok (.iload 4, 2) := dk_21 4 (dk_at dksX10_speedAt_1 0 rfl rfl)
theorem dX10_speedAt_26 : decode cX10_speedAt 26 = .ok (.imul, 1) := dk_104 (dk_at dksX10_speedAt_1 2 rfl rfl)
theorem dX10_speedAt_27 : decode cX10_speedAt 27 = .ok (.iadd, 1) := dk_96 (dk_at dksX10_speedAt_1 3 rfl rfl)
theorem dX10_speedAt_28 : decode cX10_speedAt 28 = .ok (.iaload, 1) := dk_46 (dk_at dksX10_speedAt_1 4 rfl rfl)
theorem dX10_speedAt_29 : decode cX10_speedAt 29 = .ok (.iload_n 2, 1) := dk_28 (dk_at dksX10_speedAt_1 5 rfl rfl)
theorem dX10_speedAt_30 : decode cX10_speedAt 30 = .ok (.if_icmp .gt 23, 3) := dk_163 0 23 (dk_at dksX10_speedAt_1 6 rfl rfl)
theorem dX10_speedAt_33 : decode cX10_speedAt 33 = .ok (.aload_n 0, 1) := dk_42 (dk_at dksX10_speedAt_1 9 rfl rfl)
theorem dX10_speedAt_34 : decode cX10_speedAt 34 = .ok (.getfield 13, 3) := dk_180 0 13 (dk_at dksX10_speedAt_1 10 rfl rfl)
theorem dX10_speedAt_37 : decode cX10_speedAt 37 = .ok (.bipush 15, 2) := dk_16 15 (dk_at dksX10_speedAt_1 13 rfl rfl)
theorem dX10_speedAt_39 : decode cX10_speedAt 39 = .ok (.bipush 7, 2) := dk_16 7 (dk_at dksX10_speedAt_1 15 rfl rfl)
theorem dX10_speedAt_41 : decode cX10_speedAt 41 = .ok (.iload 4, 2) := dk_21 4 (dk_at dksX10_speedAt_1 17 rfl rfl)
theorem dX10_speedAt_43 : decode cX10_speedAt 43 = .ok (.imul, 1) := dk_104 (dk_at dksX10_speedAt_1 19 rfl rfl)
theorem dX10_speedAt_44 : decode cX10_speedAt 44 = .ok (.iadd, 1) := dk_96 (dk_at dksX10_speedAt_1 20 rfl rfl)
theorem dX10_speedAt_45 : decode cX10_speedAt 45 = .ok (.iconst 1, 1) := dk_4 (dk_at dksX10_speedAt_1 21 rfl rfl)
theorem dX10_speedAt_46 : decode cX10_speedAt 46 = .ok (.iadd, 1) := dk_96 (dk_at dksX10_speedAt_1 22 rfl rfl)
theorem dX10_speedAt_47 : decode cX10_speedAt 47 = .ok (.iload_n 1, 1) := dk_27 (dk_at dksX10_speedAt_1 23 rfl rfl)
theorem dX10_speedAt_48 : decode cX10_speedAt 48 = .ok (.iadd, 1) := dk_96 (dk_at dksX10_speedAt_2 0 rfl rfl)
theorem dX10_speedAt_49 : decode cX10_speedAt 49 = .ok (.iaload, 1) := dk_46 (dk_at dksX10_speedAt_2 1 rfl rfl)
theorem dX10_speedAt_50 : decode cX10_speedAt 50 = .ok (.goto 4, 3) := dk_167 0 4 (dk_at dksX10_speedAt_2 2 rfl rfl)
theorem dX10_speedAt_53 : decode cX10_speedAt 53 = .ok (.iload_n 3, 1) := dk_29 (dk_at dksX10_speedAt_2 5 rfl rfl)
theorem dX10_speedAt_54 : decode cX10_speedAt 54 = .ok (.istore_n 3, 1) := dk_62 (dk_at dksX10_speedAt_2 6 rfl rfl)
theorem dX10_speedAt_55 : decode cX10_speedAt 55 = .ok (.iinc 4 1, 3) := dk_132 4 1 (dk_at dksX10_speedAt_2 7 rfl rfl)
theorem dX10_speedAt_58 : decode cX10_speedAt 58 = .ok (.goto (-53), 3) := dk_167 255 203 (dk_at dksX10_speedAt_2 10 rfl rfl)
theorem dX10_speedAt_61 : decode cX10_speedAt 61 = .ok (.iload_n 3, 1) := dk_29 (dk_at dksX10_speedAt_2 13 rfl rfl)
theorem dX10_speedAt_62 : decode cX10_speedAt 62 = .ok (.ireturn, 1) := dk_172 (dk_at dksX10_speedAt_2 14 rfl rfl)
abbrev cX10_flow : ByteArray := prog_20_method_71_code
def yX10_flow : MethodName := ⟨RX10, "flow", "(III)I"⟩
def dkwX10_flow_2 : List UInt8 := [167, 0, 10, 42, 27, 28, 29, 182, 1, 106, 172]
abbrev dktX10_flow_2 : List UInt8 := dkwX10_flow_2 ++ []
def dkwX10_flow_1 : List UInt8 := [167, 0, 4, 3, 4, 182, 1, 44, 154, 0, 15, 42, 29, 184, 1, 97, 5, 182, 1, 44, 153, 0, 7, 3]
abbrev dktX10_flow_1 : List UInt8 := dkwX10_flow_1 ++ dktX10_flow_2
def dkwX10_flow_0 : List UInt8 := [42, 3, 181, 0, 3, 42, 42, 27, 182, 1, 100, 154, 0, 11, 42, 28, 182, 1, 103, 153, 0, 7, 4]
abbrev dktX10_flow_0 : List UInt8 := dkwX10_flow_0 ++ dktX10_flow_1
theorem dksX10_flow_0 : cX10_flow.data.toList.drop 0 = dktX10_flow_0 := by decide +kernel
theorem dksX10_flow_1 : cX10_flow.data.toList.drop 23 = dktX10_flow_1 := dk_seg dksX10_flow_0 23 rfl rfl
theorem dksX10_flow_2 : cX10_flow.data.toList.drop 47 = dktX10_flow_2 := dk_seg dksX10_flow_1 24 rfl rfl
theorem dX10_flow_0 : decode cX10_flow 0 = .ok (.aload_n 0, 1) := dk_42 (dk_at dksX10_flow_0 0 rfl rfl)
theorem dX10_flow_1 : decode cX10_flow 1 = .ok (.iconst 0, 1) := dk_3 (dk_at dksX10_flow_0 1 rfl rfl)
theorem dX10_flow_2 : decode cX10_flow 2 = .ok (.putfield 3, 3) := dk_181 0 3 (dk_at dksX10_flow_0 2 rfl rfl)
theorem dX10_flow_5 : decode cX10_flow 5 = .ok (.aload_n 0, 1) := dk_42 (dk_at dksX10_flow_0 5 rfl rfl)
theorem dX10_flow_6 : decode cX10_flow 6 = .ok (.aload_n 0, 1) := dk_42 (dk_at dksX10_flow_0 6 rfl rfl)
theorem dX10_flow_7 : decode cX10_flow 7 = .ok (.iload_n 1, 1) := dk_27 (dk_at dksX10_flow_0 7 rfl rfl)
theorem dX10_flow_8 : decode cX10_flow 8 = .ok (.invokevirtual 356, 3) := dk_182 1 100 (dk_at dksX10_flow_0 8 rfl rfl)
theorem dX10_flow_11 : decode cX10_flow 11 = .ok (.ifCond .ne 11, 3) := dk_154 0 11 (dk_at dksX10_flow_0 11 rfl rfl)
theorem dX10_flow_14 : decode cX10_flow 14 = .ok (.aload_n 0, 1) := dk_42 (dk_at dksX10_flow_0 14 rfl rfl)
theorem dX10_flow_15 : decode cX10_flow 15 = .ok (.iload_n 2, 1) := dk_28 (dk_at dksX10_flow_0 15 rfl rfl)
theorem dX10_flow_16 : decode cX10_flow 16 = .ok (.invokevirtual 359, 3) := dk_182 1 103 (dk_at dksX10_flow_0 16 rfl rfl)
theorem dX10_flow_19 : decode cX10_flow 19 = .ok (.ifCond .eq 7, 3) := dk_153 0 7 (dk_at dksX10_flow_0 19 rfl rfl)
theorem dX10_flow_22 : decode cX10_flow 22 = .ok (.iconst 1, 1) := dk_4 (dk_at dksX10_flow_0 22 rfl rfl)
theorem dX10_flow_23 : decode cX10_flow 23 = .ok (.goto 4, 3) := dk_167 0 4 (dk_at dksX10_flow_1 0 rfl rfl)
theorem dX10_flow_26 : decode cX10_flow 26 = .ok (.iconst 0, 1) := dk_3 (dk_at dksX10_flow_1 3 rfl rfl)
theorem dX10_flow_27 : decode cX10_flow 27 = .ok (.iconst 1, 1) := dk_4 (dk_at dksX10_flow_1 4 rfl rfl)
theorem dX10_flow_28 : decode cX10_flow 28 = .ok (.invokevirtual 300, 3) := dk_182 1 44 (dk_at dksX10_flow_1 5 rfl rfl)
theorem dX10_flow_31 : decode cX10_flow 31 = .ok (.ifCond .ne 15, 3) := dk_154 0 15 (dk_at dksX10_flow_1 8 rfl rfl)
theorem dX10_flow_34 : decode cX10_flow 34 = .ok (.aload_n 0, 1) := dk_42 (dk_at dksX10_flow_1 11 rfl rfl)
theorem dX10_flow_35 : decode cX10_flow 35 = .ok (.iload_n 3, 1) := dk_29 (dk_at dksX10_flow_1 12 rfl rfl)
theorem dX10_flow_36 : decode cX10_flow 36 = .ok (.invokestatic 353, 3) := dk_184 1 97 (dk_at dksX10_flow_1 13 rfl rfl)
theorem dX10_flow_39 : decode cX10_flow 39 = .ok (.iconst 2, 1) := dk_5 (dk_at dksX10_flow_1 16 rfl rfl)
theorem dX10_flow_40 : decode cX10_flow 40 = .ok (.invokevirtual 300, 3) := dk_182 1 44 (dk_at dksX10_flow_1 17 rfl rfl)
theorem dX10_flow_43 : decode cX10_flow 43 = .ok (.ifCond .eq 7, 3) := dk_153 0 7 (dk_at dksX10_flow_1 20 rfl rfl)
theorem dX10_flow_46 : decode cX10_flow 46 = .ok (.iconst 0, 1) := dk_3 (dk_at dksX10_flow_1 23 rfl rfl)
theorem dX10_flow_47 : decode cX10_flow 47 = .ok (.goto 10, 3) := dk_167 0 10 (dk_at dksX10_flow_2 0 rfl rfl)
theorem dX10_flow_50 : decode cX10_flow 50 = .ok (.aload_n 0, 1) := dk_42 (dk_at dksX10_flow_2 3 rfl rfl)
theorem dX10_flow_51 : decode cX10_flow 51 = .ok (.iload_n 1, 1) := dk_27 (dk_at dksX10_flow_2 4 rfl rfl)
theorem dX10_flow_52 : decode cX10_flow 52 = .ok (.iload_n 2, 1) := dk_28 (dk_at dksX10_flow_2 5 rfl rfl)
theorem dX10_flow_53 : decode cX10_flow 53 = .ok (.iload_n 3, 1) := dk_29 (dk_at dksX10_flow_2 6 rfl rfl)
theorem dX10_flow_54 : decode cX10_flow 54 = .ok (.invokevirtual 362, 3) := dk_182 1 106 (dk_at dksX10_flow_2 7 rfl rfl)
theorem dX10_flow_57 : decode cX10_flow 57 = .ok (.ireturn, 1) := dk_172 (dk_at dksX10_flow_2 10 rfl rfl)
abbrev cX10_flowAt : ByteArray := prog_20_method_68_code
def yX10_flowAt : MethodName := ⟨RX10, "flowAt", "(III)I"⟩
def dkwX10_flowAt_4 : List UInt8 := [184, 1, 89, 184, 1, 94, 54, 5, 42, 180, 0, 42, 21, 4, 21, 5, 4, 96, 145, 84, 21, 5, 172]
abbrev dktX10_flowAt_4 : List UInt8 := dkwX10_flowAt_4 ++ []
def dkwX10_flowAt_3 : List UInt8 := [3, 181, 1, 65, 3, 16, 30, 42, 180, 1, 56, 42, 3, 182, 1, 85, 96, 42, 4, 182, 1, 85, 100]
abbrev dktX10_flowAt_3 : List UInt8 := dkwX10_flowAt_3 ++ dktX10_flowAt_4
def dkwX10_flowAt_2 : List UInt8 := [181, 1, 53, 42, 42, 27, 28, 182, 1, 82, 181, 1, 56, 42, 3, 181, 1, 59, 42, 3, 181, 1, 62, 42]
abbrev dktX10_flowAt_2 : List UInt8 := dkwX10_flowAt_2 ++ dktX10_flowAt_3
def dkwX10_flowAt_1 : List UInt8 := [42, 180, 0, 42, 21, 4, 51, 4, 100, 172, 42, 27, 181, 1, 47, 42, 28, 181, 1, 50, 42, 29]
abbrev dktX10_flowAt_1 : List UInt8 := dkwX10_flowAt_1 ++ dktX10_flowAt_2
def dkwX10_flowAt_0 : List UInt8 := [42, 27, 182, 1, 78, 28, 17, 1, 44, 104, 29, 96, 54, 4, 42, 180, 0, 42, 21, 4, 51, 158, 0, 13]
abbrev dktX10_flowAt_0 : List UInt8 := dkwX10_flowAt_0 ++ dktX10_flowAt_1
theorem dksX10_flowAt_0 : cX10_flowAt.data.toList.drop 0 = dktX10_flowAt_0 := by decide +kernel
theorem dksX10_flowAt_1 : cX10_flowAt.data.toList.drop 24 = dktX10_flowAt_1 := dk_seg dksX10_flowAt_0 24 rfl rfl
theorem dksX10_flowAt_2 : cX10_flowAt.data.toList.drop 46 = dktX10_flowAt_2 := dk_seg dksX10_flowAt_1 22 rfl rfl
theorem dksX10_flowAt_3 : cX10_flowAt.data.toList.drop 70 = dktX10_flowAt_3 := dk_seg dksX10_flowAt_2 24 rfl rfl
theorem dksX10_flowAt_4 : cX10_flowAt.data.toList.drop 93 = dktX10_flowAt_4 := dk_seg dksX10_flowAt_3 23 rfl rfl
theorem dX10_flowAt_0 : decode cX10_flowAt 0 = .ok (.aload_n 0, 1) := dk_42 (dk_at dksX10_flowAt_0 0 rfl rfl)
theorem dX10_flowAt_1 : decode cX10_flowAt 1 = .ok (.iload_n 1, 1) := dk_27 (dk_at dksX10_flowAt_0 1 rfl rfl)
theorem dX10_flowAt_2 : decode cX10_flowAt 2 = .ok (.invokevirtual 334, 3) := dk_182 1 78 (dk_at dksX10_flowAt_0 2 rfl rfl)
theorem dX10_flowAt_5 : decode cX10_flowAt 5 = .ok (.iload_n 2, 1) := dk_28 (dk_at dksX10_flowAt_0 5 rfl rfl)
theorem dX10_flowAt_6 : decode cX10_flowAt 6 = .ok (.sipush 300, 3) := dk_17 1 44 (dk_at dksX10_flowAt_0 6 rfl rfl)
theorem dX10_flowAt_9 : decode cX10_flowAt 9 = .ok (.imul, 1) := dk_104 (dk_at dksX10_flowAt_0 9 rfl rfl)
theorem dX10_flowAt_10 : decode cX10_flowAt 10 = .ok (.iload_n 3, 1) := dk_29 (dk_at dksX10_flowAt_0 10 rfl rfl)
theorem dX10_flowAt_11 : decode cX10_flowAt 11 = .ok (.iadd, 1) := dk_96 (dk_at dksX10_flowAt_0 11 rfl rfl)
theorem dX10_flowAt_12 : decode cX10_flowAt 12 = .ok (.istore 4, 2) := dk_54 4 (dk_at dksX10_flowAt_0 12 rfl rfl)
theorem dX10_flowAt_14 : decode cX10_flowAt 14 = .ok (.aload_n 0, 1) := dk_42 (dk_at dksX10_flowAt_0 14 rfl rfl)
theorem dX10_flowAt_15 : decode cX10_flowAt 15 = .ok (.getfield 42, 3) := dk_180 0 42 (dk_at dksX10_flowAt_0 15 rfl rfl)
theorem dX10_flowAt_18 : decode cX10_flowAt 18 = .ok (.iload 4, 2) := dk_21 4 (dk_at dksX10_flowAt_0 18 rfl rfl)
theorem dX10_flowAt_20 : decode cX10_flowAt 20 = .ok (.baload, 1) := dk_51 (dk_at dksX10_flowAt_0 20 rfl rfl)
theorem dX10_flowAt_21 : decode cX10_flowAt 21 = .ok (.ifCond .le 13, 3) := dk_158 0 13 (dk_at dksX10_flowAt_0 21 rfl rfl)
theorem dX10_flowAt_24 : decode cX10_flowAt 24 = .ok (.aload_n 0, 1) := dk_42 (dk_at dksX10_flowAt_1 0 rfl rfl)
theorem dX10_flowAt_25 : decode cX10_flowAt 25 = .ok (.getfield 42, 3) := dk_180 0 42 (dk_at dksX10_flowAt_1 1 rfl rfl)
theorem dX10_flowAt_28 : decode cX10_flowAt 28 = .ok (.iload 4, 2) := dk_21 4 (dk_at dksX10_flowAt_1 4 rfl rfl)
theorem dX10_flowAt_30 : decode cX10_flowAt 30 = .ok (.baload, 1) := dk_51 (dk_at dksX10_flowAt_1 6 rfl rfl)
theorem dX10_flowAt_31 : decode cX10_flowAt 31 = .ok (.iconst 1, 1) := dk_4 (dk_at dksX10_flowAt_1 7 rfl rfl)
theorem dX10_flowAt_32 : decode cX10_flowAt 32 = .ok (.isub, 1) := dk_100 (dk_at dksX10_flowAt_1 8 rfl rfl)
theorem dX10_flowAt_33 : decode cX10_flowAt 33 = .ok (.ireturn, 1) := dk_172 (dk_at dksX10_flowAt_1 9 rfl rfl)
theorem dX10_flowAt_34 : decode cX10_flowAt 34 = .ok (.aload_n 0, 1) := dk_42 (dk_at dksX10_flowAt_1 10 rfl rfl)
theorem dX10_flowAt_35 : decode cX10_flowAt 35 = .ok (.iload_n 1, 1) := dk_27 (dk_at dksX10_flowAt_1 11 rfl rfl)
theorem dX10_flowAt_36 : decode cX10_flowAt 36 = .ok (.putfield 303, 3) := dk_181 1 47 (dk_at dksX10_flowAt_1 12 rfl rfl)
theorem dX10_flowAt_39 : decode cX10_flowAt 39 = .ok (.aload_n 0, 1) := dk_42 (dk_at dksX10_flowAt_1 15 rfl rfl)
theorem dX10_flowAt_40 : decode cX10_flowAt 40 = .ok (.iload_n 2, 1) := dk_28 (dk_at dksX10_flowAt_1 16 rfl rfl)
theorem dX10_flowAt_41 : decode cX10_flowAt 41 = .ok (.putfield 306, 3) := dk_181 1 50 (dk_at dksX10_flowAt_1 17 rfl rfl)
theorem dX10_flowAt_44 : decode cX10_flowAt 44 = .ok (.aload_n 0, 1) := dk_42 (dk_at dksX10_flowAt_1 20 rfl rfl)
theorem dX10_flowAt_45 : decode cX10_flowAt 45 = .ok (.iload_n 3, 1) := dk_29 (dk_at dksX10_flowAt_1 21 rfl rfl)
theorem dX10_flowAt_46 : decode cX10_flowAt 46 = .ok (.putfield 309, 3) := dk_181 1 53 (dk_at dksX10_flowAt_2 0 rfl rfl)
theorem dX10_flowAt_49 : decode cX10_flowAt 49 = .ok (.aload_n 0, 1) := dk_42 (dk_at dksX10_flowAt_2 3 rfl rfl)
theorem dX10_flowAt_50 : decode cX10_flowAt 50 = .ok (.aload_n 0, 1) := dk_42 (dk_at dksX10_flowAt_2 4 rfl rfl)
theorem dX10_flowAt_51 : decode cX10_flowAt 51 = .ok (.iload_n 1, 1) := dk_27 (dk_at dksX10_flowAt_2 5 rfl rfl)
theorem dX10_flowAt_52 : decode cX10_flowAt 52 = .ok (.iload_n 2, 1) := dk_28 (dk_at dksX10_flowAt_2 6 rfl rfl)
theorem dX10_flowAt_53 : decode cX10_flowAt 53 = .ok (.invokevirtual 338, 3) := dk_182 1 82 (dk_at dksX10_flowAt_2 7 rfl rfl)
theorem dX10_flowAt_56 : decode cX10_flowAt 56 = .ok (.putfield 312, 3) := dk_181 1 56 (dk_at dksX10_flowAt_2 10 rfl rfl)
theorem dX10_flowAt_59 : decode cX10_flowAt 59 = .ok (.aload_n 0, 1) := dk_42 (dk_at dksX10_flowAt_2 13 rfl rfl)
theorem dX10_flowAt_60 : decode cX10_flowAt 60 = .ok (.iconst 0, 1) := dk_3 (dk_at dksX10_flowAt_2 14 rfl rfl)
theorem dX10_flowAt_61 : decode cX10_flowAt 61 = .ok (.putfield 315, 3) := dk_181 1 59 (dk_at dksX10_flowAt_2 15 rfl rfl)
theorem dX10_flowAt_64 : decode cX10_flowAt 64 = .ok (.aload_n 0, 1) := dk_42 (dk_at dksX10_flowAt_2 18 rfl rfl)
theorem dX10_flowAt_65 : decode cX10_flowAt 65 = .ok (.iconst 0, 1) := dk_3 (dk_at dksX10_flowAt_2 19 rfl rfl)
theorem dX10_flowAt_66 : decode cX10_flowAt 66 = .ok (.putfield 318, 3) := dk_181 1 62 (dk_at dksX10_flowAt_2 20 rfl rfl)
theorem dX10_flowAt_69 : decode cX10_flowAt 69 = .ok (.aload_n 0, 1) := dk_42 (dk_at dksX10_flowAt_2 23 rfl rfl)
theorem dX10_flowAt_70 : decode cX10_flowAt 70 = .ok (.iconst 0, 1) := dk_3 (dk_at dksX10_flowAt_3 0 rfl rfl)
theorem dX10_flowAt_71 : decode cX10_flowAt 71 = .ok (.putfield 321, 3) := dk_181 1 65 (dk_at dksX10_flowAt_3 1 rfl rfl)
theorem dX10_flowAt_74 : decode cX10_flowAt 74 = .ok (.iconst 0, 1) := dk_3 (dk_at dksX10_flowAt_3 4 rfl rfl)
theorem dX10_flowAt_75 : decode cX10_flowAt 75 = .ok (.bipush 30, 2) := dk_16 30 (dk_at dksX10_flowAt_3 5 rfl rfl)
theorem dX10_flowAt_77 : decode cX10_flowAt 77 = .ok (.aload_n 0, 1) := dk_42 (dk_at dksX10_flowAt_3 7 rfl rfl)
theorem dX10_flowAt_78 : decode cX10_flowAt 78 = .ok (.getfield 312, 3) := dk_180 1 56 (dk_at dksX10_flowAt_3 8 rfl rfl)
theorem dX10_flowAt_81 : decode cX10_flowAt 81 = .ok (.aload_n 0, 1) := dk_42 (dk_at dksX10_flowAt_3 11 rfl rfl)
theorem dX10_flowAt_82 : decode cX10_flowAt 82 = .ok (.iconst 0, 1) := dk_3 (dk_at dksX10_flowAt_3 12 rfl rfl)
theorem dX10_flowAt_83 : decode cX10_flowAt 83 = .ok (.invokevirtual 341, 3) := dk_182 1 85 (dk_at dksX10_flowAt_3 13 rfl rfl)
theorem dX10_flowAt_86 : decode cX10_flowAt 86 = .ok (.iadd, 1) := dk_96 (dk_at dksX10_flowAt_3 16 rfl rfl)
theorem dX10_flowAt_87 : decode cX10_flowAt 87 = .ok (.aload_n 0, 1) := dk_42 (dk_at dksX10_flowAt_3 17 rfl rfl)
theorem dX10_flowAt_88 : decode cX10_flowAt 88 = .ok (.iconst 1, 1) := dk_4 (dk_at dksX10_flowAt_3 18 rfl rfl)
theorem dX10_flowAt_89 : decode cX10_flowAt 89 = .ok (.invokevirtual 341, 3) := dk_182 1 85 (dk_at dksX10_flowAt_3 19 rfl rfl)
theorem dX10_flowAt_92 : decode cX10_flowAt 92 = .ok (.isub, 1) := dk_100 (dk_at dksX10_flowAt_3 22 rfl rfl)
theorem dX10_flowAt_93 : decode cX10_flowAt 93 = .ok (.invokestatic 345, 3) := dk_184 1 89 (dk_at dksX10_flowAt_4 0 rfl rfl)
theorem dX10_flowAt_96 : decode cX10_flowAt 96 = .ok (.invokestatic 350, 3) := dk_184 1 94 (dk_at dksX10_flowAt_4 3 rfl rfl)
theorem dX10_flowAt_99 : decode cX10_flowAt 99 = .ok (.istore 5, 2) := dk_54 5 (dk_at dksX10_flowAt_4 6 rfl rfl)
theorem dX10_flowAt_101 : decode cX10_flowAt 101 = .ok (.aload_n 0, 1) := dk_42 (dk_at dksX10_flowAt_4 8 rfl rfl)
theorem dX10_flowAt_102 : decode cX10_flowAt 102 = .ok (.getfield 42, 3) := dk_180 0 42 (dk_at dksX10_flowAt_4 9 rfl rfl)
theorem dX10_flowAt_105 : decode cX10_flowAt 105 = .ok (.iload 4, 2) := dk_21 4 (dk_at dksX10_flowAt_4 12 rfl rfl)
theorem dX10_flowAt_107 : decode cX10_flowAt 107 = .ok (.iload 5, 2) := dk_21 5 (dk_at dksX10_flowAt_4 14 rfl rfl)
theorem dX10_flowAt_109 : decode cX10_flowAt 109 = .ok (.iconst 1, 1) := dk_4 (dk_at dksX10_flowAt_4 16 rfl rfl)
theorem dX10_flowAt_110 : decode cX10_flowAt 110 = .ok (.iadd, 1) := dk_96 (dk_at dksX10_flowAt_4 17 rfl rfl)
theorem dX10_flowAt_111 : decode cX10_flowAt 111 = .ok (.i2b, 1) := dk_145 (dk_at dksX10_flowAt_4 18 rfl rfl)
theorem dX10_flowAt_112 : decode cX10_flowAt 112 = .ok (.bastore, 1) := dk_84 (dk_at dksX10_flowAt_4 19 rfl rfl)
theorem dX10_flowAt_113 : decode cX10_flowAt 113 = .ok (.iload 5, 2) := dk_21 5 (dk_at dksX10_flowAt_4 20 rfl rfl)
theorem dX10_flowAt_115 : decode cX10_flowAt 115 = .ok (.ireturn, 1) := dk_172 (dk_at dksX10_flowAt_4 22 rfl rfl)
abbrev cX10_turnsTo : ByteArray := prog_20_method_66_code
def yX10_turnsTo : MethodName := ⟨RX10, "turnsTo", "(I)V"⟩
def dkwX10_turnsTo_1 : List UInt8 := [162, 0, 16, 42, 180, 0, 42, 28, 3, 84, 132, 2, 1, 167, 255, 237, 177]
abbrev dktX10_turnsTo_1 : List UInt8 := dkwX10_turnsTo_1 ++ []
def dkwX10_turnsTo_0 : List UInt8 := [27, 42, 180, 1, 75, 160, 0, 4, 177, 42, 27, 181, 1, 75, 3, 61, 28, 42, 180, 0, 42, 190]
abbrev dktX10_turnsTo_0 : List UInt8 := dkwX10_turnsTo_0 ++ dktX10_turnsTo_1
theorem dksX10_turnsTo_0 : cX10_turnsTo.data.toList.drop 0 = dktX10_turnsTo_0 := by decide +kernel
theorem dksX10_turnsTo_1 : cX10_turnsTo.data.toList.drop 22 = dktX10_turnsTo_1 := dk_seg dksX10_turnsTo_0 22 rfl rfl
theorem dX10_turnsTo_0 : decode cX10_turnsTo 0 = .ok (.iload_n 1, 1) := dk_27 (dk_at dksX10_turnsTo_0 0 rfl rfl)
theorem dX10_turnsTo_1 : decode cX10_turnsTo 1 = .ok (.aload_n 0, 1) := dk_42 (dk_at dksX10_turnsTo_0 1 rfl rfl)
theorem dX10_turnsTo_2 : decode cX10_turnsTo 2 = .ok (.getfield 331, 3) := dk_180 1 75 (dk_at dksX10_turnsTo_0 2 rfl rfl)
theorem dX10_turnsTo_5 : decode cX10_turnsTo 5 = .ok (.if_icmp .ne 4, 3) := dk_160 0 4 (dk_at dksX10_turnsTo_0 5 rfl rfl)
theorem dX10_turnsTo_8 : decode cX10_turnsTo 8 = .ok (.return_, 1) := dk_177 (dk_at dksX10_turnsTo_0 8 rfl rfl)
theorem dX10_turnsTo_9 : decode cX10_turnsTo 9 = .ok (.aload_n 0, 1) := dk_42 (dk_at dksX10_turnsTo_0 9 rfl rfl)
theorem dX10_turnsTo_10 : decode cX10_turnsTo 10 = .ok (.iload_n 1, 1) := dk_27 (dk_at dksX10_turnsTo_0 10 rfl rfl)
theorem dX10_turnsTo_11 : decode cX10_turnsTo 11 = .ok (.putfield 331, 3) := dk_181 1 75 (dk_at dksX10_turnsTo_0 11 rfl rfl)
theorem dX10_turnsTo_14 : decode cX10_turnsTo 14 = .ok (.iconst 0, 1) := dk_3 (dk_at dksX10_turnsTo_0 14 rfl rfl)
theorem dX10_turnsTo_15 : decode cX10_turnsTo 15 = .ok (.istore_n 2, 1) := dk_61 (dk_at dksX10_turnsTo_0 15 rfl rfl)
theorem dX10_turnsTo_16 : decode cX10_turnsTo 16 = .ok (.iload_n 2, 1) := dk_28 (dk_at dksX10_turnsTo_0 16 rfl rfl)
theorem dX10_turnsTo_17 : decode cX10_turnsTo 17 = .ok (.aload_n 0, 1) := dk_42 (dk_at dksX10_turnsTo_0 17 rfl rfl)
theorem dX10_turnsTo_18 : decode cX10_turnsTo 18 = .ok (.getfield 42, 3) := dk_180 0 42 (dk_at dksX10_turnsTo_0 18 rfl rfl)
theorem dX10_turnsTo_21 : decode cX10_turnsTo 21 = .ok (.arraylength, 1) := dk_190 (dk_at dksX10_turnsTo_0 21 rfl rfl)
theorem dX10_turnsTo_22 : decode cX10_turnsTo 22 = .ok (.if_icmp .ge 16, 3) := dk_162 0 16 (dk_at dksX10_turnsTo_1 0 rfl rfl)
theorem dX10_turnsTo_25 : decode cX10_turnsTo 25 = .ok (.aload_n 0, 1) := dk_42 (dk_at dksX10_turnsTo_1 3 rfl rfl)
theorem dX10_turnsTo_26 : decode cX10_turnsTo 26 = .ok (.getfield 42, 3) := dk_180 0 42 (dk_at dksX10_turnsTo_1 4 rfl rfl)
theorem dX10_turnsTo_29 : decode cX10_turnsTo 29 = .ok (.iload_n 2, 1) := dk_28 (dk_at dksX10_turnsTo_1 7 rfl rfl)
theorem dX10_turnsTo_30 : decode cX10_turnsTo 30 = .ok (.iconst 0, 1) := dk_3 (dk_at dksX10_turnsTo_1 8 rfl rfl)
theorem dX10_turnsTo_31 : decode cX10_turnsTo 31 = .ok (.bastore, 1) := dk_84 (dk_at dksX10_turnsTo_1 9 rfl rfl)
theorem dX10_turnsTo_32 : decode cX10_turnsTo 32 = .ok (.iinc 2 1, 3) := dk_132 2 1 (dk_at dksX10_turnsTo_1 10 rfl rfl)
theorem dX10_turnsTo_35 : decode cX10_turnsTo 35 = .ok (.goto (-19), 3) := dk_167 255 237 (dk_at dksX10_turnsTo_1 13 rfl rfl)
theorem dX10_turnsTo_38 : decode cX10_turnsTo 38 = .ok (.return_, 1) := dk_177 (dk_at dksX10_turnsTo_1 16 rfl rfl)
abbrev cX10_sumOf : ByteArray := prog_20_method_64_code
def yX10_sumOf : MethodName := ⟨RX10, "sumOf", "(I)I"⟩
def dkwX10_sumOf_3 : List UInt8 := [96, 61, 132, 3, 1, 167, 255, 185, 28, 172]
abbrev dktX10_sumOf_3 : List UInt8 := dkwX10_sumOf_3 ++ []
def dkwX10_sumOf_2 : List UInt8 := [182, 1, 71, 153, 0, 20, 42, 180, 0, 13, 17, 1, 140, 7, 29, 104, 96, 4, 96, 46, 167, 0, 4, 3]
abbrev dktX10_sumOf_2 : List UInt8 := dkwX10_sumOf_2 ++ dktX10_sumOf_3
def dkwX10_sumOf_1 : List UInt8 := [162, 0, 54, 28, 42, 180, 0, 13, 17, 1, 140, 7, 29, 104, 96, 46, 27, 160, 0, 28, 42, 29]
abbrev dktX10_sumOf_1 : List UInt8 := dkwX10_sumOf_1 ++ dktX10_sumOf_2
def dkwX10_sumOf_0 : List UInt8 := [3, 61, 3, 62, 42, 180, 0, 13, 16, 8, 46, 4, 160, 0, 66, 29, 42, 180, 0, 13, 17, 1, 139, 46]
abbrev dktX10_sumOf_0 : List UInt8 := dkwX10_sumOf_0 ++ dktX10_sumOf_1
theorem dksX10_sumOf_0 : cX10_sumOf.data.toList.drop 0 = dktX10_sumOf_0 := by decide +kernel
theorem dksX10_sumOf_1 : cX10_sumOf.data.toList.drop 24 = dktX10_sumOf_1 := dk_seg dksX10_sumOf_0 24 rfl rfl
theorem dksX10_sumOf_2 : cX10_sumOf.data.toList.drop 46 = dktX10_sumOf_2 := dk_seg dksX10_sumOf_1 22 rfl rfl
theorem dksX10_sumOf_3 : cX10_sumOf.data.toList.drop 70 = dktX10_sumOf_3 := dk_seg dksX10_sumOf_2 24 rfl rfl
theorem dX10_sumOf_0 : decode cX10_sumOf 0 = .ok (.iconst 0, 1) := dk_3 (dk_at dksX10_sumOf_0 0 rfl rfl)
theorem dX10_sumOf_1 : decode cX10_sumOf 1 = .ok (.istore_n 2, 1) := dk_61 (dk_at dksX10_sumOf_0 1 rfl rfl)
theorem dX10_sumOf_2 : decode cX10_sumOf 2 = .ok (.iconst 0, 1) := dk_3 (dk_at dksX10_sumOf_0 2 rfl rfl)
theorem dX10_sumOf_3 : decode cX10_sumOf 3 = .ok (.istore_n 3, 1) := dk_62 (dk_at dksX10_sumOf_0 3 rfl rfl)
theorem dX10_sumOf_4 : decode cX10_sumOf 4 = .ok (.aload_n 0, 1) := dk_42 (dk_at dksX10_sumOf_0 4 rfl rfl)
theorem dX10_sumOf_5 : decode cX10_sumOf 5 = .ok (.getfield 13, 3) := dk_180 0 13 (dk_at dksX10_sumOf_0 5 rfl rfl)
theorem dX10_sumOf_8 : decode cX10_sumOf 8 = .ok (.bipush 8, 2) := dk_16 8 (dk_at dksX10_sumOf_0 8 rfl rfl)
theorem dX10_sumOf_10 : decode cX10_sumOf 10 = .ok (.iaload, 1) := dk_46 (dk_at dksX10_sumOf_0 10 rfl rfl)
theorem dX10_sumOf_11 : decode cX10_sumOf 11 = .ok (.iconst 1, 1) := dk_4 (dk_at dksX10_sumOf_0 11 rfl rfl)
theorem dX10_sumOf_12 : decode cX10_sumOf 12 = .ok (.if_icmp .ne 66, 3) := dk_160 0 66 (dk_at dksX10_sumOf_0 12 rfl rfl)
theorem dX10_sumOf_15 : decode cX10_sumOf 15 = .ok (.iload_n 3, 1) := dk_29 (dk_at dksX10_sumOf_0 15 rfl rfl)
theorem dX10_sumOf_16 : decode cX10_sumOf 16 = .ok (.aload_n 0, 1) := dk_42 (dk_at dksX10_sumOf_0 16 rfl rfl)
theorem dX10_sumOf_17 : decode cX10_sumOf 17 = .ok (.getfield 13, 3) := dk_180 0 13 (dk_at dksX10_sumOf_0 17 rfl rfl)
theorem dX10_sumOf_20 : decode cX10_sumOf 20 = .ok (.sipush 395, 3) := dk_17 1 139 (dk_at dksX10_sumOf_0 20 rfl rfl)
theorem dX10_sumOf_23 : decode cX10_sumOf 23 = .ok (.iaload, 1) := dk_46 (dk_at dksX10_sumOf_0 23 rfl rfl)
theorem dX10_sumOf_24 : decode cX10_sumOf 24 = .ok (.if_icmp .ge 54, 3) := dk_162 0 54 (dk_at dksX10_sumOf_1 0 rfl rfl)
theorem dX10_sumOf_27 : decode cX10_sumOf 27 = .ok (.iload_n 2, 1) := dk_28 (dk_at dksX10_sumOf_1 3 rfl rfl)
theorem dX10_sumOf_28 : decode cX10_sumOf 28 = .ok (.aload_n 0, 1) := dk_42 (dk_at dksX10_sumOf_1 4 rfl rfl)
theorem dX10_sumOf_29 : decode cX10_sumOf 29 = .ok (.getfield 13, 3) := dk_180 0 13 (dk_at dksX10_sumOf_1 5 rfl rfl)
theorem dX10_sumOf_32 : decode cX10_sumOf 32 = .ok (.sipush 396, 3) := dk_17 1 140 (dk_at dksX10_sumOf_1 8 rfl rfl)
theorem dX10_sumOf_35 : decode cX10_sumOf 35 = .ok (.iconst 4, 1) := dk_7 (dk_at dksX10_sumOf_1 11 rfl rfl)
theorem dX10_sumOf_36 : decode cX10_sumOf 36 = .ok (.iload_n 3, 1) := dk_29 (dk_at dksX10_sumOf_1 12 rfl rfl)
theorem dX10_sumOf_37 : decode cX10_sumOf 37 = .ok (.imul, 1) := dk_104 (dk_at dksX10_sumOf_1 13 rfl rfl)
theorem dX10_sumOf_38 : decode cX10_sumOf 38 = .ok (.iadd, 1) := dk_96 (dk_at dksX10_sumOf_1 14 rfl rfl)
theorem dX10_sumOf_39 : decode cX10_sumOf 39 = .ok (.iaload, 1) := dk_46 (dk_at dksX10_sumOf_1 15 rfl rfl)
theorem dX10_sumOf_40 : decode cX10_sumOf 40 = .ok (.iload_n 1, 1) := dk_27 (dk_at dksX10_sumOf_1 16 rfl rfl)
theorem dX10_sumOf_41 : decode cX10_sumOf 41 = .ok (.if_icmp .ne 28, 3) := dk_160 0 28 (dk_at dksX10_sumOf_1 17 rfl rfl)
theorem dX10_sumOf_44 : decode cX10_sumOf 44 = .ok (.aload_n 0, 1) := dk_42 (dk_at dksX10_sumOf_1 20 rfl rfl)
theorem dX10_sumOf_45 : decode cX10_sumOf 45 = .ok (.iload_n 3, 1) := dk_29 (dk_at dksX10_sumOf_1 21 rfl rfl)
theorem dX10_sumOf_46 : decode cX10_sumOf 46 = .ok (.invokevirtual 327, 3) := dk_182 1 71 (dk_at dksX10_sumOf_2 0 rfl rfl)
theorem dX10_sumOf_49 : decode cX10_sumOf 49 = .ok (.ifCond .eq 20, 3) := dk_153 0 20 (dk_at dksX10_sumOf_2 3 rfl rfl)
theorem dX10_sumOf_52 : decode cX10_sumOf 52 = .ok (.aload_n 0, 1) := dk_42 (dk_at dksX10_sumOf_2 6 rfl rfl)
theorem dX10_sumOf_53 : decode cX10_sumOf 53 = .ok (.getfield 13, 3) := dk_180 0 13 (dk_at dksX10_sumOf_2 7 rfl rfl)
theorem dX10_sumOf_56 : decode cX10_sumOf 56 = .ok (.sipush 396, 3) := dk_17 1 140 (dk_at dksX10_sumOf_2 10 rfl rfl)
theorem dX10_sumOf_59 : decode cX10_sumOf 59 = .ok (.iconst 4, 1) := dk_7 (dk_at dksX10_sumOf_2 13 rfl rfl)
theorem dX10_sumOf_60 : decode cX10_sumOf 60 = .ok (.iload_n 3, 1) := dk_29 (dk_at dksX10_sumOf_2 14 rfl rfl)
theorem dX10_sumOf_61 : decode cX10_sumOf 61 = .ok (.imul, 1) := dk_104 (dk_at dksX10_sumOf_2 15 rfl rfl)
theorem dX10_sumOf_62 : decode cX10_sumOf 62 = .ok (.iadd, 1) := dk_96 (dk_at dksX10_sumOf_2 16 rfl rfl)
theorem dX10_sumOf_63 : decode cX10_sumOf 63 = .ok (.iconst 1, 1) := dk_4 (dk_at dksX10_sumOf_2 17 rfl rfl)
theorem dX10_sumOf_64 : decode cX10_sumOf 64 = .ok (.iadd, 1) := dk_96 (dk_at dksX10_sumOf_2 18 rfl rfl)
theorem dX10_sumOf_65 : decode cX10_sumOf 65 = .ok (.iaload, 1) := dk_46 (dk_at dksX10_sumOf_2 19 rfl rfl)
theorem dX10_sumOf_66 : decode cX10_sumOf 66 = .ok (.goto 4, 3) := dk_167 0 4 (dk_at dksX10_sumOf_2 20 rfl rfl)
theorem dX10_sumOf_69 : decode cX10_sumOf 69 = .ok (.iconst 0, 1) := dk_3 (dk_at dksX10_sumOf_2 23 rfl rfl)
theorem dX10_sumOf_70 : decode cX10_sumOf 70 = .ok (.iadd, 1) := dk_96 (dk_at dksX10_sumOf_3 0 rfl rfl)
theorem dX10_sumOf_71 : decode cX10_sumOf 71 = .ok (.istore_n 2, 1) := dk_61 (dk_at dksX10_sumOf_3 1 rfl rfl)
theorem dX10_sumOf_72 : decode cX10_sumOf 72 = .ok (.iinc 3 1, 3) := dk_132 3 1 (dk_at dksX10_sumOf_3 2 rfl rfl)
theorem dX10_sumOf_75 : decode cX10_sumOf 75 = .ok (.goto (-71), 3) := dk_167 255 185 (dk_at dksX10_sumOf_3 5 rfl rfl)
theorem dX10_sumOf_78 : decode cX10_sumOf 78 = .ok (.iload_n 2, 1) := dk_28 (dk_at dksX10_sumOf_3 8 rfl rfl)
theorem dX10_sumOf_79 : decode cX10_sumOf 79 = .ok (.ireturn, 1) := dk_172 (dk_at dksX10_sumOf_3 9 rfl rfl)
abbrev cX10_holdsLine : ByteArray := prog_20_method_63_code
def yX10_holdsLine : MethodName := ⟨RX10, "holdsLine", "(I)Z"⟩
def dkwX10_holdsLine_12 : List UInt8 := [3, 172]
abbrev dktX10_holdsLine_12 : List UInt8 := dkwX10_holdsLine_12 ++ []
def dkwX10_holdsLine_11 : List UInt8 := [132, 4, 1, 167, 255, 20, 28, 153, 0, 13, 42, 180, 0, 36, 3, 46, 4, 160, 0, 7, 4, 167, 0, 4]
abbrev dktX10_holdsLine_11 : List UInt8 := dkwX10_holdsLine_11 ++ dktX10_holdsLine_12
def dkwX10_holdsLine_10 : List UInt8 := [160, 0, 11, 21, 6, 21, 7, 96, 167, 0, 13, 21, 8, 153, 0, 7, 4, 167, 0, 4, 3, 79]
abbrev dktX10_holdsLine_10 : List UInt8 := dkwX10_holdsLine_10 ++ dktX10_holdsLine_11
def dkwX10_holdsLine_9 : List UInt8 := [96, 158, 0, 7, 4, 167, 0, 4, 3, 54, 8, 42, 180, 0, 36, 28, 4, 100, 21, 5, 16, 11]
abbrev dktX10_holdsLine_9 : List UInt8 := dkwX10_holdsLine_9 ++ dktX10_holdsLine_10
def dkwX10_holdsLine_8 : List UInt8 := [160, 0, 20, 21, 6, 21, 7, 96, 5, 160, 0, 7, 4, 167, 0, 20, 3, 167, 0, 16, 21, 6, 21, 7]
abbrev dktX10_holdsLine_8 : List UInt8 := dkwX10_holdsLine_8 ++ dktX10_holdsLine_9
def dkwX10_holdsLine_7 : List UInt8 := [160, 0, 18, 21, 6, 21, 7, 164, 0, 7, 4, 167, 0, 44, 3, 167, 0, 40, 21, 5, 16, 15]
abbrev dktX10_holdsLine_7 : List UInt8 := dkwX10_holdsLine_7 ++ dktX10_holdsLine_8
def dkwX10_holdsLine_6 : List UInt8 := [16, 12, 160, 0, 18, 21, 6, 21, 7, 162, 0, 7, 4, 167, 0, 66, 3, 167, 0, 62, 21, 5, 16, 13]
abbrev dktX10_holdsLine_6 : List UInt8 := dkwX10_holdsLine_6 ++ dktX10_holdsLine_7
def dkwX10_holdsLine_5 : List UInt8 := [132, 2, 255, 42, 180, 0, 36, 28, 4, 100, 46, 54, 6, 42, 180, 0, 36, 28, 46, 54, 7, 21, 5]
abbrev dktX10_holdsLine_5 : List UInt8 := dkwX10_holdsLine_5 ++ dktX10_holdsLine_6
def dkwX10_holdsLine_4 : List UInt8 := [160, 0, 24, 42, 180, 0, 36, 28, 4, 100, 4, 42, 180, 0, 36, 28, 4, 100, 46, 100, 79, 167, 0, 140]
abbrev dktX10_holdsLine_4 : List UInt8 := dkwX10_holdsLine_4 ++ dktX10_holdsLine_5
def dkwX10_holdsLine_3 : List UInt8 := [5, 21, 4, 104, 96, 4, 96, 46, 182, 1, 68, 79, 132, 2, 1, 167, 0, 168, 21, 5, 16, 14]
abbrev dktX10_holdsLine_3 : List UInt8 := dkwX10_holdsLine_3 ++ dktX10_holdsLine_4
def dkwX10_holdsLine_2 : List UInt8 := [54, 5, 21, 5, 16, 10, 163, 0, 36, 42, 180, 0, 36, 28, 42, 21, 5, 42, 180, 0, 13, 17, 1, 188]
abbrev dktX10_holdsLine_2 : List UInt8 := dkwX10_holdsLine_2 ++ dktX10_holdsLine_3
def dkwX10_holdsLine_1 : List UInt8 := [180, 0, 13, 29, 6, 96, 46, 162, 0, 229, 42, 180, 0, 13, 17, 1, 188, 5, 21, 4, 104, 96, 46]
abbrev dktX10_holdsLine_1 : List UInt8 := dkwX10_holdsLine_1 ++ dktX10_holdsLine_2
def dkwX10_holdsLine_0 : List UInt8 := [3, 61, 17, 1, 140, 7, 27, 104, 96, 62, 42, 180, 0, 13, 29, 5, 96, 46, 54, 4, 21, 4, 42]
abbrev dktX10_holdsLine_0 : List UInt8 := dkwX10_holdsLine_0 ++ dktX10_holdsLine_1
theorem dksX10_holdsLine_0 : cX10_holdsLine.data.toList.drop 0 = dktX10_holdsLine_0 := by decide +kernel
theorem dksX10_holdsLine_1 : cX10_holdsLine.data.toList.drop 23 = dktX10_holdsLine_1 := dk_seg dksX10_holdsLine_0 23 rfl rfl
theorem dksX10_holdsLine_2 : cX10_holdsLine.data.toList.drop 46 = dktX10_holdsLine_2 := dk_seg dksX10_holdsLine_1 23 rfl rfl
theorem dksX10_holdsLine_3 : cX10_holdsLine.data.toList.drop 70 = dktX10_holdsLine_3 := dk_seg dksX10_holdsLine_2 24 rfl rfl
theorem dksX10_holdsLine_4 : cX10_holdsLine.data.toList.drop 92 = dktX10_holdsLine_4 := dk_seg dksX10_holdsLine_3 22 rfl rfl
theorem dksX10_holdsLine_5 : cX10_holdsLine.data.toList.drop 116 = dktX10_holdsLine_5 := dk_seg dksX10_holdsLine_4 24 rfl rfl
theorem dksX10_holdsLine_6 : cX10_holdsLine.data.toList.drop 139 = dktX10_holdsLine_6 := dk_seg dksX10_holdsLine_5 23 rfl rfl
theorem dksX10_holdsLine_7 : cX10_holdsLine.data.toList.drop 163 = dktX10_holdsLine_7 := dk_seg dksX10_holdsLine_6 24 rfl rfl
theorem dksX10_holdsLine_8 : cX10_holdsLine.data.toList.drop 185 = dktX10_holdsLine_8 := dk_seg dksX10_holdsLine_7 22 rfl rfl
theorem dksX10_holdsLine_9 : cX10_holdsLine.data.toList.drop 209 = dktX10_holdsLine_9 := dk_seg dksX10_holdsLine_8 24 rfl rfl
theorem dksX10_holdsLine_10 : cX10_holdsLine.data.toList.drop 231 = dktX10_holdsLine_10 := dk_seg dksX10_holdsLine_9 22 rfl rfl
theorem dksX10_holdsLine_11 : cX10_holdsLine.data.toList.drop 253 = dktX10_holdsLine_11 := dk_seg dksX10_holdsLine_10 22 rfl rfl
theorem dksX10_holdsLine_12 : cX10_holdsLine.data.toList.drop 277 = dktX10_holdsLine_12 := dk_seg dksX10_holdsLine_11 24 rfl rfl
theorem dX10_holdsLine_0 : decode cX10_holdsLine 0 = .ok (.iconst 0, 1) := dk_3 (dk_at dksX10_holdsLine_0 0 rfl rfl)
theorem dX10_holdsLine_1 : decode cX10_holdsLine 1 = .ok (.istore_n 2, 1) := dk_61 (dk_at dksX10_holdsLine_0 1 rfl rfl)
theorem dX10_holdsLine_2 : decode cX10_holdsLine 2 = .ok (.sipush 396, 3) := dk_17 1 140 (dk_at dksX10_holdsLine_0 2 rfl rfl)
theorem dX10_holdsLine_5 : decode cX10_holdsLine 5 = .ok (.iconst 4, 1) := dk_7 (dk_at dksX10_holdsLine_0 5 rfl rfl)
theorem dX10_holdsLine_6 : decode cX10_holdsLine 6 = .ok (.iload_n 1, 1) := dk_27 (dk_at dksX10_holdsLine_0 6 rfl rfl)
theorem dX10_holdsLine_7 : decode cX10_holdsLine 7 = .ok (.imul, 1) := dk_104 (dk_at dksX10_holdsLine_0 7 rfl rfl)
theorem dX10_holdsLine_8 : decode cX10_holdsLine 8 = .ok (.iadd, 1) := dk_96 (dk_at dksX10_holdsLine_0 8 rfl rfl)
theorem dX10_holdsLine_9 : decode cX10_holdsLine 9 = .ok (.istore_n 3, 1) := dk_62 (dk_at dksX10_holdsLine_0 9 rfl rfl)
theorem dX10_holdsLine_10 : decode cX10_holdsLine 10 = .ok (.aload_n 0, 1) := dk_42 (dk_at dksX10_holdsLine_0 10 rfl rfl)
theorem dX10_holdsLine_11 : decode cX10_holdsLine 11 = .ok (.getfield 13, 3) := dk_180 0 13 (dk_at dksX10_holdsLine_0 11 rfl rfl)
theorem dX10_holdsLine_14 : decode cX10_holdsLine 14 = .ok (.iload_n 3, 1) := dk_29 (dk_at dksX10_holdsLine_0 14 rfl rfl)
theorem dX10_holdsLine_15 : decode cX10_holdsLine 15 = .ok (.iconst 2, 1) := dk_5 (dk_at dksX10_holdsLine_0 15 rfl rfl)
theorem dX10_holdsLine_16 : decode cX10_holdsLine 16 = .ok (.iadd, 1) := dk_96 (dk_at dksX10_holdsLine_0 16 rfl rfl)
theorem dX10_holdsLine_17 : decode cX10_holdsLine 17 = .ok (.iaload, 1) := dk_46 (dk_at dksX10_holdsLine_0 17 rfl rfl)
theorem dX10_holdsLine_18 : decode cX10_holdsLine 18 = .ok (.istore 4, 2) := dk_54 4 (dk_at dksX10_holdsLine_0 18 rfl rfl)
theorem dX10_holdsLine_20 : decode cX10_holdsLine 20 = .ok (.iload 4, 2) := dk_21 4 (dk_at dksX10_holdsLine_0 20 rfl rfl)
theorem dX10_holdsLine_22 : decode cX10_holdsLine 22 = .ok (.aload_n 0, 1) := dk_42 (dk_at dksX10_holdsLine_0 22 rfl rfl)
theorem dX10_holdsLine_23 : decode cX10_holdsLine 23 = .ok (.getfield 13, 3) := dk_180 0 13 (dk_at dksX10_holdsLine_1 0 rfl rfl)
theorem dX10_holdsLine_26 : decode cX10_holdsLine 26 = .ok (.iload_n 3, 1) := dk_29 (dk_at dksX10_holdsLine_1 3 rfl rfl)
theorem dX10_holdsLine_27 : decode cX10_holdsLine 27 = .ok (.iconst 3, 1) := dk_6 (dk_at dksX10_holdsLine_1 4 rfl rfl)
theorem dX10_holdsLine_28 : decode cX10_holdsLine 28 = .ok (.iadd, 1) := dk_96 (dk_at dksX10_holdsLine_1 5 rfl rfl)
theorem dX10_holdsLine_29 : decode cX10_holdsLine 29 = .ok (.iaload, 1) := dk_46 (dk_at dksX10_holdsLine_1 6 rfl rfl)
theorem dX10_holdsLine_30 : decode cX10_holdsLine 30 = .ok (.if_icmp .ge 229, 3) := dk_162 0 229 (dk_at dksX10_holdsLine_1 7 rfl rfl)
theorem dX10_holdsLine_33 : decode cX10_holdsLine 33 = .ok (.aload_n 0, 1) := dk_42 (dk_at dksX10_holdsLine_1 10 rfl rfl)
theorem dX10_holdsLine_34 : decode cX10_holdsLine 34 = .ok (.getfield 13, 3) := dk_180 0 13 (dk_at dksX10_holdsLine_1 11 rfl rfl)
theorem dX10_holdsLine_37 : decode cX10_holdsLine 37 = .ok (.sipush 444, 3) := dk_17 1 188 (dk_at dksX10_holdsLine_1 14 rfl rfl)
theorem dX10_holdsLine_40 : decode cX10_holdsLine 40 = .ok (.iconst 2, 1) := dk_5 (dk_at dksX10_holdsLine_1 17 rfl rfl)
theorem dX10_holdsLine_41 : decode cX10_holdsLine 41 = .ok (.iload 4, 2) := dk_21 4 (dk_at dksX10_holdsLine_1 18 rfl rfl)
theorem dX10_holdsLine_43 : decode cX10_holdsLine 43 = .ok (.imul, 1) := dk_104 (dk_at dksX10_holdsLine_1 20 rfl rfl)
theorem dX10_holdsLine_44 : decode cX10_holdsLine 44 = .ok (.iadd, 1) := dk_96 (dk_at dksX10_holdsLine_1 21 rfl rfl)
theorem dX10_holdsLine_45 : decode cX10_holdsLine 45 = .ok (.iaload, 1) := dk_46 (dk_at dksX10_holdsLine_1 22 rfl rfl)
theorem dX10_holdsLine_46 : decode cX10_holdsLine 46 = .ok (.istore 5, 2) := dk_54 5 (dk_at dksX10_holdsLine_2 0 rfl rfl)
theorem dX10_holdsLine_48 : decode cX10_holdsLine 48 = .ok (.iload 5, 2) := dk_21 5 (dk_at dksX10_holdsLine_2 2 rfl rfl)
theorem dX10_holdsLine_50 : decode cX10_holdsLine 50 = .ok (.bipush 10, 2) := dk_16 10 (dk_at dksX10_holdsLine_2 4 rfl rfl)
theorem dX10_holdsLine_52 : decode cX10_holdsLine 52 = .ok (.if_icmp .gt 36, 3) := dk_163 0 36 (dk_at dksX10_holdsLine_2 6 rfl rfl)
theorem dX10_holdsLine_55 : decode cX10_holdsLine 55 = .ok (.aload_n 0, 1) := dk_42 (dk_at dksX10_holdsLine_2 9 rfl rfl)
theorem dX10_holdsLine_56 : decode cX10_holdsLine 56 = .ok (.getfield 36, 3) := dk_180 0 36 (dk_at dksX10_holdsLine_2 10 rfl rfl)
theorem dX10_holdsLine_59 : decode cX10_holdsLine 59 = .ok (.iload_n 2, 1) := dk_28 (dk_at dksX10_holdsLine_2 13 rfl rfl)
theorem dX10_holdsLine_60 : decode cX10_holdsLine 60 = .ok (.aload_n 0, 1) := dk_42 (dk_at dksX10_holdsLine_2 14 rfl rfl)
theorem dX10_holdsLine_61 : decode cX10_holdsLine 61 = .ok (.iload 5, 2) := dk_21 5 (dk_at dksX10_holdsLine_2 15 rfl rfl)
theorem dX10_holdsLine_63 : decode cX10_holdsLine 63 = .ok (.aload_n 0, 1) := dk_42 (dk_at dksX10_holdsLine_2 17 rfl rfl)
theorem dX10_holdsLine_64 : decode cX10_holdsLine 64 = .ok (.getfield 13, 3) := dk_180 0 13 (dk_at dksX10_holdsLine_2 18 rfl rfl)
theorem dX10_holdsLine_67 : decode cX10_holdsLine 67 = .ok (.sipush 444, 3) := dk_17 1 188 (dk_at dksX10_holdsLine_2 21 rfl rfl)
theorem dX10_holdsLine_70 : decode cX10_holdsLine 70 = .ok (.iconst 2, 1) := dk_5 (dk_at dksX10_holdsLine_3 0 rfl rfl)
theorem dX10_holdsLine_71 : decode cX10_holdsLine 71 = .ok (.iload 4, 2) := dk_21 4 (dk_at dksX10_holdsLine_3 1 rfl rfl)
theorem dX10_holdsLine_73 : decode cX10_holdsLine 73 = .ok (.imul, 1) := dk_104 (dk_at dksX10_holdsLine_3 3 rfl rfl)
theorem dX10_holdsLine_74 : decode cX10_holdsLine 74 = .ok (.iadd, 1) := dk_96 (dk_at dksX10_holdsLine_3 4 rfl rfl)
theorem dX10_holdsLine_75 : decode cX10_holdsLine 75 = .ok (.iconst 1, 1) := dk_4 (dk_at dksX10_holdsLine_3 5 rfl rfl)
theorem dX10_holdsLine_76 : decode cX10_holdsLine 76 = .ok (.iadd, 1) := dk_96 (dk_at dksX10_holdsLine_3 6 rfl rfl)
theorem dX10_holdsLine_77 : decode cX10_holdsLine 77 = .ok (.iaload, 1) := dk_46 (dk_at dksX10_holdsLine_3 7 rfl rfl)
theorem dX10_holdsLine_78 : decode cX10_holdsLine 78 = .ok (.invokevirtual 324, 3) := dk_182 1 68 (dk_at dksX10_holdsLine_3 8 rfl rfl)
theorem dX10_holdsLine_81 : decode cX10_holdsLine 81 = .ok (.iastore, 1) := dk_79 (dk_at dksX10_holdsLine_3 11 rfl rfl)
theorem dX10_holdsLine_82 : decode cX10_holdsLine 82 = .ok (.iinc 2 1, 3) := dk_132 2 1 (dk_at dksX10_holdsLine_3 12 rfl rfl)
theorem dX10_holdsLine_85 : decode cX10_holdsLine 85 = .ok (.goto 168, 3) := dk_167 0 168 (dk_at dksX10_holdsLine_3 15 rfl rfl)
theorem dX10_holdsLine_88 : decode cX10_holdsLine 88 = .ok (.iload 5, 2) := dk_21 5 (dk_at dksX10_holdsLine_3 18 rfl rfl)
theorem dX10_holdsLine_90 : decode cX10_holdsLine 90 = .ok (.bipush 14, 2) := dk_16 14 (dk_at dksX10_holdsLine_3 20 rfl rfl)
theorem dX10_holdsLine_92 : decode cX10_holdsLine 92 = .ok (.if_icmp .ne 24, 3) := dk_160 0 24 (dk_at dksX10_holdsLine_4 0 rfl rfl)
theorem dX10_holdsLine_95 : decode cX10_holdsLine 95 = .ok (.aload_n 0, 1) := dk_42 (dk_at dksX10_holdsLine_4 3 rfl rfl)
theorem dX10_holdsLine_96 : decode cX10_holdsLine 96 = .ok (.getfield 36, 3) := dk_180 0 36 (dk_at dksX10_holdsLine_4 4 rfl rfl)
theorem dX10_holdsLine_99 : decode cX10_holdsLine 99 = .ok (.iload_n 2, 1) := dk_28 (dk_at dksX10_holdsLine_4 7 rfl rfl)
theorem dX10_holdsLine_100 : decode cX10_holdsLine 100 = .ok (.iconst 1, 1) := dk_4 (dk_at dksX10_holdsLine_4 8 rfl rfl)
theorem dX10_holdsLine_101 : decode cX10_holdsLine 101 = .ok (.isub, 1) := dk_100 (dk_at dksX10_holdsLine_4 9 rfl rfl)
theorem dX10_holdsLine_102 : decode cX10_holdsLine 102 = .ok (.iconst 1, 1) := dk_4 (dk_at dksX10_holdsLine_4 10 rfl rfl)
theorem dX10_holdsLine_103 : decode cX10_holdsLine 103 = .ok (.aload_n 0, 1) := dk_42 (dk_at dksX10_holdsLine_4 11 rfl rfl)
theorem dX10_holdsLine_104 : decode cX10_holdsLine 104 = .ok (.getfield 36, 3) := dk_180 0 36 (dk_at dksX10_holdsLine_4 12 rfl rfl)
theorem dX10_holdsLine_107 : decode cX10_holdsLine 107 = .ok (.iload_n 2, 1) := dk_28 (dk_at dksX10_holdsLine_4 15 rfl rfl)
theorem dX10_holdsLine_108 : decode cX10_holdsLine 108 = .ok (.iconst 1, 1) := dk_4 (dk_at dksX10_holdsLine_4 16 rfl rfl)
theorem dX10_holdsLine_109 : decode cX10_holdsLine 109 = .ok (.isub, 1) := dk_100 (dk_at dksX10_holdsLine_4 17 rfl rfl)
theorem dX10_holdsLine_110 : decode cX10_holdsLine 110 = .ok (.iaload, 1) := dk_46 (dk_at dksX10_holdsLine_4 18 rfl rfl)
theorem dX10_holdsLine_111 : decode cX10_holdsLine 111 = .ok (.isub, 1) := dk_100 (dk_at dksX10_holdsLine_4 19 rfl rfl)
theorem dX10_holdsLine_112 : decode cX10_holdsLine 112 = .ok (.iastore, 1) := dk_79 (dk_at dksX10_holdsLine_4 20 rfl rfl)
theorem dX10_holdsLine_113 : decode cX10_holdsLine 113 = .ok (.goto 140, 3) := dk_167 0 140 (dk_at dksX10_holdsLine_4 21 rfl rfl)
theorem dX10_holdsLine_116 : decode cX10_holdsLine 116 = .ok (.iinc 2 (-1), 3) := dk_132 2 255 (dk_at dksX10_holdsLine_5 0 rfl rfl)
theorem dX10_holdsLine_119 : decode cX10_holdsLine 119 = .ok (.aload_n 0, 1) := dk_42 (dk_at dksX10_holdsLine_5 3 rfl rfl)
theorem dX10_holdsLine_120 : decode cX10_holdsLine 120 = .ok (.getfield 36, 3) := dk_180 0 36 (dk_at dksX10_holdsLine_5 4 rfl rfl)
theorem dX10_holdsLine_123 : decode cX10_holdsLine 123 = .ok (.iload_n 2, 1) := dk_28 (dk_at dksX10_holdsLine_5 7 rfl rfl)
theorem dX10_holdsLine_124 : decode cX10_holdsLine 124 = .ok (.iconst 1, 1) := dk_4 (dk_at dksX10_holdsLine_5 8 rfl rfl)
theorem dX10_holdsLine_125 : decode cX10_holdsLine 125 = .ok (.isub, 1) := dk_100 (dk_at dksX10_holdsLine_5 9 rfl rfl)
theorem dX10_holdsLine_126 : decode cX10_holdsLine 126 = .ok (.iaload, 1) := dk_46 (dk_at dksX10_holdsLine_5 10 rfl rfl)
theorem dX10_holdsLine_127 : decode cX10_holdsLine 127 = .ok (.istore 6, 2) := dk_54 6 (dk_at dksX10_holdsLine_5 11 rfl rfl)
theorem dX10_holdsLine_129 : decode cX10_holdsLine 129 = .ok (.aload_n 0, 1) := dk_42 (dk_at dksX10_holdsLine_5 13 rfl rfl)
theorem dX10_holdsLine_130 : decode cX10_holdsLine 130 = .ok (.getfield 36, 3) := dk_180 0 36 (dk_at dksX10_holdsLine_5 14 rfl rfl)
theorem dX10_holdsLine_133 : decode cX10_holdsLine 133 = .ok (.iload_n 2, 1) := dk_28 (dk_at dksX10_holdsLine_5 17 rfl rfl)
theorem dX10_holdsLine_134 : decode cX10_holdsLine 134 = .ok (.iaload, 1) := dk_46 (dk_at dksX10_holdsLine_5 18 rfl rfl)
theorem dX10_holdsLine_135 : decode cX10_holdsLine 135 = .ok (.istore 7, 2) := dk_54 7 (dk_at dksX10_holdsLine_5 19 rfl rfl)
theorem dX10_holdsLine_137 : decode cX10_holdsLine 137 = .ok (.iload 5, 2) := dk_21 5 (dk_at dksX10_holdsLine_5 21 rfl rfl)
theorem dX10_holdsLine_139 : decode cX10_holdsLine 139 = .ok (.bipush 12, 2) := dk_16 12 (dk_at dksX10_holdsLine_6 0 rfl rfl)
theorem dX10_holdsLine_141 : decode cX10_holdsLine 141 = .ok (.if_icmp .ne 18, 3) := dk_160 0 18 (dk_at dksX10_holdsLine_6 2 rfl rfl)
theorem dX10_holdsLine_144 : decode cX10_holdsLine 144 = .ok (.iload 6, 2) := dk_21 6 (dk_at dksX10_holdsLine_6 5 rfl rfl)
theorem dX10_holdsLine_146 : decode cX10_holdsLine 146 = .ok (.iload 7, 2) := dk_21 7 (dk_at dksX10_holdsLine_6 7 rfl rfl)
theorem dX10_holdsLine_148 : decode cX10_holdsLine 148 = .ok (.if_icmp .ge 7, 3) := dk_162 0 7 (dk_at dksX10_holdsLine_6 9 rfl rfl)
theorem dX10_holdsLine_151 : decode cX10_holdsLine 151 = .ok (.iconst 1, 1) := dk_4 (dk_at dksX10_holdsLine_6 12 rfl rfl)
theorem dX10_holdsLine_152 : decode cX10_holdsLine 152 = .ok (.goto 66, 3) := dk_167 0 66 (dk_at dksX10_holdsLine_6 13 rfl rfl)
theorem dX10_holdsLine_155 : decode cX10_holdsLine 155 = .ok (.iconst 0, 1) := dk_3 (dk_at dksX10_holdsLine_6 16 rfl rfl)
theorem dX10_holdsLine_156 : decode cX10_holdsLine 156 = .ok (.goto 62, 3) := dk_167 0 62 (dk_at dksX10_holdsLine_6 17 rfl rfl)
theorem dX10_holdsLine_159 : decode cX10_holdsLine 159 = .ok (.iload 5, 2) := dk_21 5 (dk_at dksX10_holdsLine_6 20 rfl rfl)
theorem dX10_holdsLine_161 : decode cX10_holdsLine 161 = .ok (.bipush 13, 2) := dk_16 13 (dk_at dksX10_holdsLine_6 22 rfl rfl)
theorem dX10_holdsLine_163 : decode cX10_holdsLine 163 = .ok (.if_icmp .ne 18, 3) := dk_160 0 18 (dk_at dksX10_holdsLine_7 0 rfl rfl)
theorem dX10_holdsLine_166 : decode cX10_holdsLine 166 = .ok (.iload 6, 2) := dk_21 6 (dk_at dksX10_holdsLine_7 3 rfl rfl)
theorem dX10_holdsLine_168 : decode cX10_holdsLine 168 = .ok (.iload 7, 2) := dk_21 7 (dk_at dksX10_holdsLine_7 5 rfl rfl)
theorem dX10_holdsLine_170 : decode cX10_holdsLine 170 = .ok (.if_icmp .le 7, 3) := dk_164 0 7 (dk_at dksX10_holdsLine_7 7 rfl rfl)
theorem dX10_holdsLine_173 : decode cX10_holdsLine 173 = .ok (.iconst 1, 1) := dk_4 (dk_at dksX10_holdsLine_7 10 rfl rfl)
theorem dX10_holdsLine_174 : decode cX10_holdsLine 174 = .ok (.goto 44, 3) := dk_167 0 44 (dk_at dksX10_holdsLine_7 11 rfl rfl)
theorem dX10_holdsLine_177 : decode cX10_holdsLine 177 = .ok (.iconst 0, 1) := dk_3 (dk_at dksX10_holdsLine_7 14 rfl rfl)
theorem dX10_holdsLine_178 : decode cX10_holdsLine 178 = .ok (.goto 40, 3) := dk_167 0 40 (dk_at dksX10_holdsLine_7 15 rfl rfl)
theorem dX10_holdsLine_181 : decode cX10_holdsLine 181 = .ok (.iload 5, 2) := dk_21 5 (dk_at dksX10_holdsLine_7 18 rfl rfl)
theorem dX10_holdsLine_183 : decode cX10_holdsLine 183 = .ok (.bipush 15, 2) := dk_16 15 (dk_at dksX10_holdsLine_7 20 rfl rfl)
theorem dX10_holdsLine_185 : decode cX10_holdsLine 185 = .ok (.if_icmp .ne 20, 3) := dk_160 0 20 (dk_at dksX10_holdsLine_8 0 rfl rfl)
theorem dX10_holdsLine_188 : decode cX10_holdsLine 188 = .ok (.iload 6, 2) := dk_21 6 (dk_at dksX10_holdsLine_8 3 rfl rfl)
theorem dX10_holdsLine_190 : decode cX10_holdsLine 190 = .ok (.iload 7, 2) := dk_21 7 (dk_at dksX10_holdsLine_8 5 rfl rfl)
theorem dX10_holdsLine_192 : decode cX10_holdsLine 192 = .ok (.iadd, 1) := dk_96 (dk_at dksX10_holdsLine_8 7 rfl rfl)
theorem dX10_holdsLine_193 : decode cX10_holdsLine 193 = .ok (.iconst 2, 1) := dk_5 (dk_at dksX10_holdsLine_8 8 rfl rfl)
theorem dX10_holdsLine_194 : decode cX10_holdsLine 194 = .ok (.if_icmp .ne 7, 3) := dk_160 0 7 (dk_at dksX10_holdsLine_8 9 rfl rfl)
theorem dX10_holdsLine_197 : decode cX10_holdsLine 197 = .ok (.iconst 1, 1) := dk_4 (dk_at dksX10_holdsLine_8 12 rfl rfl)
theorem dX10_holdsLine_198 : decode cX10_holdsLine 198 = .ok (.goto 20, 3) := dk_167 0 20 (dk_at dksX10_holdsLine_8 13 rfl rfl)
theorem dX10_holdsLine_201 : decode cX10_holdsLine 201 = .ok (.iconst 0, 1) := dk_3 (dk_at dksX10_holdsLine_8 16 rfl rfl)
theorem dX10_holdsLine_202 : decode cX10_holdsLine 202 = .ok (.goto 16, 3) := dk_167 0 16 (dk_at dksX10_holdsLine_8 17 rfl rfl)
theorem dX10_holdsLine_205 : decode cX10_holdsLine 205 = .ok (.iload 6, 2) := dk_21 6 (dk_at dksX10_holdsLine_8 20 rfl rfl)
theorem dX10_holdsLine_207 : decode cX10_holdsLine 207 = .ok (.iload 7, 2) := dk_21 7 (dk_at dksX10_holdsLine_8 22 rfl rfl)
theorem dX10_holdsLine_209 : decode cX10_holdsLine 209 = .ok (.iadd, 1) := dk_96 (dk_at dksX10_holdsLine_9 0 rfl rfl)
theorem dX10_holdsLine_210 : decode cX10_holdsLine 210 = .ok (.ifCond .le 7, 3) := dk_158 0 7 (dk_at dksX10_holdsLine_9 1 rfl rfl)
theorem dX10_holdsLine_213 : decode cX10_holdsLine 213 = .ok (.iconst 1, 1) := dk_4 (dk_at dksX10_holdsLine_9 4 rfl rfl)
theorem dX10_holdsLine_214 : decode cX10_holdsLine 214 = .ok (.goto 4, 3) := dk_167 0 4 (dk_at dksX10_holdsLine_9 5 rfl rfl)
theorem dX10_holdsLine_217 : decode cX10_holdsLine 217 = .ok (.iconst 0, 1) := dk_3 (dk_at dksX10_holdsLine_9 8 rfl rfl)
theorem dX10_holdsLine_218 : decode cX10_holdsLine 218 = .ok (.istore 8, 2) := dk_54 8 (dk_at dksX10_holdsLine_9 9 rfl rfl)
theorem dX10_holdsLine_220 : decode cX10_holdsLine 220 = .ok (.aload_n 0, 1) := dk_42 (dk_at dksX10_holdsLine_9 11 rfl rfl)
theorem dX10_holdsLine_221 : decode cX10_holdsLine 221 = .ok (.getfield 36, 3) := dk_180 0 36 (dk_at dksX10_holdsLine_9 12 rfl rfl)
theorem dX10_holdsLine_224 : decode cX10_holdsLine 224 = .ok (.iload_n 2, 1) := dk_28 (dk_at dksX10_holdsLine_9 15 rfl rfl)
theorem dX10_holdsLine_225 : decode cX10_holdsLine 225 = .ok (.iconst 1, 1) := dk_4 (dk_at dksX10_holdsLine_9 16 rfl rfl)
theorem dX10_holdsLine_226 : decode cX10_holdsLine 226 = .ok (.isub, 1) := dk_100 (dk_at dksX10_holdsLine_9 17 rfl rfl)
theorem dX10_holdsLine_227 : decode cX10_holdsLine 227 = .ok (.iload 5, 2) := dk_21 5 (dk_at dksX10_holdsLine_9 18 rfl rfl)
theorem dX10_holdsLine_229 : decode cX10_holdsLine 229 = .ok (.bipush 11, 2) := dk_16 11 (dk_at dksX10_holdsLine_9 20 rfl rfl)
theorem dX10_holdsLine_231 : decode cX10_holdsLine 231 = .ok (.if_icmp .ne 11, 3) := dk_160 0 11 (dk_at dksX10_holdsLine_10 0 rfl rfl)
theorem dX10_holdsLine_234 : decode cX10_holdsLine 234 = .ok (.iload 6, 2) := dk_21 6 (dk_at dksX10_holdsLine_10 3 rfl rfl)
theorem dX10_holdsLine_236 : decode cX10_holdsLine 236 = .ok (.iload 7, 2) := dk_21 7 (dk_at dksX10_holdsLine_10 5 rfl rfl)
theorem dX10_holdsLine_238 : decode cX10_holdsLine 238 = .ok (.iadd, 1) := dk_96 (dk_at dksX10_holdsLine_10 7 rfl rfl)
theorem dX10_holdsLine_239 : decode cX10_holdsLine 239 = .ok (.goto 13, 3) := dk_167 0 13 (dk_at dksX10_holdsLine_10 8 rfl rfl)
theorem dX10_holdsLine_242 : decode cX10_holdsLine 242 = .ok (.iload 8, 2) := dk_21 8 (dk_at dksX10_holdsLine_10 11 rfl rfl)
theorem dX10_holdsLine_244 : decode cX10_holdsLine 244 = .ok (.ifCond .eq 7, 3) := dk_153 0 7 (dk_at dksX10_holdsLine_10 13 rfl rfl)
theorem dX10_holdsLine_247 : decode cX10_holdsLine 247 = .ok (.iconst 1, 1) := dk_4 (dk_at dksX10_holdsLine_10 16 rfl rfl)
theorem dX10_holdsLine_248 : decode cX10_holdsLine 248 = .ok (.goto 4, 3) := dk_167 0 4 (dk_at dksX10_holdsLine_10 17 rfl rfl)
theorem dX10_holdsLine_251 : decode cX10_holdsLine 251 = .ok (.iconst 0, 1) := dk_3 (dk_at dksX10_holdsLine_10 20 rfl rfl)
theorem dX10_holdsLine_252 : decode cX10_holdsLine 252 = .ok (.iastore, 1) := dk_79 (dk_at dksX10_holdsLine_10 21 rfl rfl)
theorem dX10_holdsLine_253 : decode cX10_holdsLine 253 = .ok (.iinc 4 1, 3) := dk_132 4 1 (dk_at dksX10_holdsLine_11 0 rfl rfl)
theorem dX10_holdsLine_256 : decode cX10_holdsLine 256 = .ok (.goto (-236), 3) := dk_167 255 20 (dk_at dksX10_holdsLine_11 3 rfl rfl)
theorem dX10_holdsLine_259 : decode cX10_holdsLine 259 = .ok (.iload_n 2, 1) := dk_28 (dk_at dksX10_holdsLine_11 6 rfl rfl)
theorem dX10_holdsLine_260 : decode cX10_holdsLine 260 = .ok (.ifCond .eq 13, 3) := dk_153 0 13 (dk_at dksX10_holdsLine_11 7 rfl rfl)
theorem dX10_holdsLine_263 : decode cX10_holdsLine 263 = .ok (.aload_n 0, 1) := dk_42 (dk_at dksX10_holdsLine_11 10 rfl rfl)
theorem dX10_holdsLine_264 : decode cX10_holdsLine 264 = .ok (.getfield 36, 3) := dk_180 0 36 (dk_at dksX10_holdsLine_11 11 rfl rfl)
theorem dX10_holdsLine_267 : decode cX10_holdsLine 267 = .ok (.iconst 0, 1) := dk_3 (dk_at dksX10_holdsLine_11 14 rfl rfl)
theorem dX10_holdsLine_268 : decode cX10_holdsLine 268 = .ok (.iaload, 1) := dk_46 (dk_at dksX10_holdsLine_11 15 rfl rfl)
theorem dX10_holdsLine_269 : decode cX10_holdsLine 269 = .ok (.iconst 1, 1) := dk_4 (dk_at dksX10_holdsLine_11 16 rfl rfl)
theorem dX10_holdsLine_270 : decode cX10_holdsLine 270 = .ok (.if_icmp .ne 7, 3) := dk_160 0 7 (dk_at dksX10_holdsLine_11 17 rfl rfl)
theorem dX10_holdsLine_273 : decode cX10_holdsLine 273 = .ok (.iconst 1, 1) := dk_4 (dk_at dksX10_holdsLine_11 20 rfl rfl)
theorem dX10_holdsLine_274 : decode cX10_holdsLine 274 = .ok (.goto 4, 3) := dk_167 0 4 (dk_at dksX10_holdsLine_11 21 rfl rfl)
theorem dX10_holdsLine_277 : decode cX10_holdsLine 277 = .ok (.iconst 0, 1) := dk_3 (dk_at dksX10_holdsLine_12 0 rfl rfl)
theorem dX10_holdsLine_278 : decode cX10_holdsLine 278 = .ok (.ireturn, 1) := dk_172 (dk_at dksX10_holdsLine_12 1 rfl rfl)
abbrev cX10_factOf : ByteArray := prog_20_method_62_code
def yX10_factOf : MethodName := ⟨RX10, "factOf", "(II)I"⟩
def dkwX10_factOf_5 : List UInt8 := [172, 42, 180, 1, 47, 42, 180, 0, 13, 16, 12, 46, 162, 0, 7, 4, 167, 0, 4, 3, 172, 28, 172]
abbrev dktX10_factOf_5 : List UInt8 := dkwX10_factOf_5 ++ []
def dkwX10_factOf_4 : List UInt8 := [180, 1, 47, 153, 0, 16, 42, 180, 1, 47, 42, 182, 0, 86, 4, 100, 160, 0, 7, 4, 167, 0, 4, 3]
abbrev dktX10_factOf_4 : List UInt8 := dkwX10_factOf_4 ++ dktX10_factOf_5
def dkwX10_factOf_3 : List UInt8 := [172, 42, 180, 1, 56, 172, 42, 180, 1, 59, 172, 42, 180, 1, 62, 172, 42, 180, 1, 65, 172, 42]
abbrev dktX10_factOf_3 : List UInt8 := dkwX10_factOf_3 ++ dktX10_factOf_4
def dkwX10_factOf_2 : List UInt8 := [42, 180, 1, 47, 172, 42, 180, 1, 50, 172, 42, 180, 1, 53, 172, 42, 180, 0, 39, 42, 180, 1, 53, 46]
abbrev dktX10_factOf_2 : List UInt8 := dkwX10_factOf_2 ++ dktX10_factOf_3
def dkwX10_factOf_1 : List UInt8 := [170, 0, 0, 0, 0, 0, 146, 0, 0, 0, 0, 0, 0, 0, 9, 0, 0, 0, 55, 0, 0, 0, 60, 0, 0, 0, 65, 0, 0, 0, 70, 0, 0, 0, 80, 0, 0, 0, 85, 0, 0, 0, 90, 0, 0, 0, 95, 0, 0, 0, 100, 0, 0, 0, 126]
abbrev dktX10_factOf_1 : List UInt8 := dkwX10_factOf_1 ++ dktX10_factOf_2
def dkwX10_factOf_0 : List UInt8 := [27]
abbrev dktX10_factOf_0 : List UInt8 := dkwX10_factOf_0 ++ dktX10_factOf_1
theorem dksX10_factOf_0 : cX10_factOf.data.toList.drop 0 = dktX10_factOf_0 := by decide +kernel
theorem dksX10_factOf_1 : cX10_factOf.data.toList.drop 1 = dktX10_factOf_1 := dk_seg dksX10_factOf_0 1 rfl rfl
theorem dksX10_factOf_2 : cX10_factOf.data.toList.drop 56 = dktX10_factOf_2 := dk_seg dksX10_factOf_1 55 rfl rfl
theorem dksX10_factOf_3 : cX10_factOf.data.toList.drop 80 = dktX10_factOf_3 := dk_seg dksX10_factOf_2 24 rfl rfl
theorem dksX10_factOf_4 : cX10_factOf.data.toList.drop 102 = dktX10_factOf_4 := dk_seg dksX10_factOf_3 22 rfl rfl
theorem dksX10_factOf_5 : cX10_factOf.data.toList.drop 126 = dktX10_factOf_5 := dk_seg dksX10_factOf_4 24 rfl rfl
theorem dX10_factOf_0 : decode cX10_factOf 0 = .ok (.iload_n 1, 1) := dk_27 (dk_at dksX10_factOf_0 0 rfl rfl)
theorem dX10_factOf_1 : decode cX10_factOf 1 = .ok (.tableswitch 146 0 9 #[55, 60, 65, 70, 80, 85, 90, 95, 100, 126], 55) := by decide +kernel
theorem dX10_factOf_56 : decode cX10_factOf 56 = .ok (.aload_n 0, 1) := dk_42 (dk_at dksX10_factOf_2 0 rfl rfl)
theorem dX10_factOf_57 : decode cX10_factOf 57 = .ok (.getfield 303, 3) := dk_180 1 47 (dk_at dksX10_factOf_2 1 rfl rfl)
theorem dX10_factOf_60 : decode cX10_factOf 60 = .ok (.ireturn, 1) := dk_172 (dk_at dksX10_factOf_2 4 rfl rfl)
theorem dX10_factOf_61 : decode cX10_factOf 61 = .ok (.aload_n 0, 1) := dk_42 (dk_at dksX10_factOf_2 5 rfl rfl)
theorem dX10_factOf_62 : decode cX10_factOf 62 = .ok (.getfield 306, 3) := dk_180 1 50 (dk_at dksX10_factOf_2 6 rfl rfl)
theorem dX10_factOf_65 : decode cX10_factOf 65 = .ok (.ireturn, 1) := dk_172 (dk_at dksX10_factOf_2 9 rfl rfl)
theorem dX10_factOf_66 : decode cX10_factOf 66 = .ok (.aload_n 0, 1) := dk_42 (dk_at dksX10_factOf_2 10 rfl rfl)
theorem dX10_factOf_67 : decode cX10_factOf 67 = .ok (.getfield 309, 3) := dk_180 1 53 (dk_at dksX10_factOf_2 11 rfl rfl)
theorem dX10_factOf_70 : decode cX10_factOf 70 = .ok (.ireturn, 1) := dk_172 (dk_at dksX10_factOf_2 14 rfl rfl)
theorem dX10_factOf_71 : decode cX10_factOf 71 = .ok (.aload_n 0, 1) := dk_42 (dk_at dksX10_factOf_2 15 rfl rfl)
theorem dX10_factOf_72 : decode cX10_factOf 72 = .ok (.getfield 39, 3) := dk_180 0 39 (dk_at dksX10_factOf_2 16 rfl rfl)
theorem dX10_factOf_75 : decode cX10_factOf 75 = .ok (.aload_n 0, 1) := dk_42 (dk_at dksX10_factOf_2 19 rfl rfl)
theorem dX10_factOf_76 : decode cX10_factOf 76 = .ok (.getfield 309, 3) := dk_180 1 53 (dk_at dksX10_factOf_2 20 rfl rfl)
theorem dX10_factOf_79 : decode cX10_factOf 79 = .ok (.iaload, 1) := dk_46 (dk_at dksX10_factOf_2 23 rfl rfl)
theorem dX10_factOf_80 : decode cX10_factOf 80 = .ok (.ireturn, 1) := dk_172 (dk_at dksX10_factOf_3 0 rfl rfl)
theorem dX10_factOf_81 : decode cX10_factOf 81 = .ok (.aload_n 0, 1) := dk_42 (dk_at dksX10_factOf_3 1 rfl rfl)
theorem dX10_factOf_82 : decode cX10_factOf 82 = .ok (.getfield 312, 3) := dk_180 1 56 (dk_at dksX10_factOf_3 2 rfl rfl)
theorem dX10_factOf_85 : decode cX10_factOf 85 = .ok (.ireturn, 1) := dk_172 (dk_at dksX10_factOf_3 5 rfl rfl)
theorem dX10_factOf_86 : decode cX10_factOf 86 = .ok (.aload_n 0, 1) := dk_42 (dk_at dksX10_factOf_3 6 rfl rfl)
theorem dX10_factOf_87 : decode cX10_factOf 87 = .ok (.getfield 315, 3) := dk_180 1 59 (dk_at dksX10_factOf_3 7 rfl rfl)
theorem dX10_factOf_90 : decode cX10_factOf 90 = .ok (.ireturn, 1) := dk_172 (dk_at dksX10_factOf_3 10 rfl rfl)
theorem dX10_factOf_91 : decode cX10_factOf 91 = .ok (.aload_n 0, 1) := dk_42 (dk_at dksX10_factOf_3 11 rfl rfl)
theorem dX10_factOf_92 : decode cX10_factOf 92 = .ok (.getfield 318, 3) := dk_180 1 62 (dk_at dksX10_factOf_3 12 rfl rfl)
theorem dX10_factOf_95 : decode cX10_factOf 95 = .ok (.ireturn, 1) := dk_172 (dk_at dksX10_factOf_3 15 rfl rfl)
theorem dX10_factOf_96 : decode cX10_factOf 96 = .ok (.aload_n 0, 1) := dk_42 (dk_at dksX10_factOf_3 16 rfl rfl)
theorem dX10_factOf_97 : decode cX10_factOf 97 = .ok (.getfield 321, 3) := dk_180 1 65 (dk_at dksX10_factOf_3 17 rfl rfl)
theorem dX10_factOf_100 : decode cX10_factOf 100 = .ok (.ireturn, 1) := dk_172 (dk_at dksX10_factOf_3 20 rfl rfl)
theorem dX10_factOf_101 : decode cX10_factOf 101 = .ok (.aload_n 0, 1) := dk_42 (dk_at dksX10_factOf_3 21 rfl rfl)
theorem dX10_factOf_102 : decode cX10_factOf 102 = .ok (.getfield 303, 3) := dk_180 1 47 (dk_at dksX10_factOf_4 0 rfl rfl)
theorem dX10_factOf_105 : decode cX10_factOf 105 = .ok (.ifCond .eq 16, 3) := dk_153 0 16 (dk_at dksX10_factOf_4 3 rfl rfl)
theorem dX10_factOf_108 : decode cX10_factOf 108 = .ok (.aload_n 0, 1) := dk_42 (dk_at dksX10_factOf_4 6 rfl rfl)
theorem dX10_factOf_109 : decode cX10_factOf 109 = .ok (.getfield 303, 3) := dk_180 1 47 (dk_at dksX10_factOf_4 7 rfl rfl)
theorem dX10_factOf_112 : decode cX10_factOf 112 = .ok (.aload_n 0, 1) := dk_42 (dk_at dksX10_factOf_4 10 rfl rfl)
theorem dX10_factOf_113 : decode cX10_factOf 113 = .ok (.invokevirtual 86, 3) := dk_182 0 86 (dk_at dksX10_factOf_4 11 rfl rfl)
theorem dX10_factOf_116 : decode cX10_factOf 116 = .ok (.iconst 1, 1) := dk_4 (dk_at dksX10_factOf_4 14 rfl rfl)
theorem dX10_factOf_117 : decode cX10_factOf 117 = .ok (.isub, 1) := dk_100 (dk_at dksX10_factOf_4 15 rfl rfl)
theorem dX10_factOf_118 : decode cX10_factOf 118 = .ok (.if_icmp .ne 7, 3) := dk_160 0 7 (dk_at dksX10_factOf_4 16 rfl rfl)
theorem dX10_factOf_121 : decode cX10_factOf 121 = .ok (.iconst 1, 1) := dk_4 (dk_at dksX10_factOf_4 19 rfl rfl)
theorem dX10_factOf_122 : decode cX10_factOf 122 = .ok (.goto 4, 3) := dk_167 0 4 (dk_at dksX10_factOf_4 20 rfl rfl)
theorem dX10_factOf_125 : decode cX10_factOf 125 = .ok (.iconst 0, 1) := dk_3 (dk_at dksX10_factOf_4 23 rfl rfl)
theorem dX10_factOf_126 : decode cX10_factOf 126 = .ok (.ireturn, 1) := dk_172 (dk_at dksX10_factOf_5 0 rfl rfl)
theorem dX10_factOf_127 : decode cX10_factOf 127 = .ok (.aload_n 0, 1) := dk_42 (dk_at dksX10_factOf_5 1 rfl rfl)
theorem dX10_factOf_128 : decode cX10_factOf 128 = .ok (.getfield 303, 3) := dk_180 1 47 (dk_at dksX10_factOf_5 2 rfl rfl)
theorem dX10_factOf_131 : decode cX10_factOf 131 = .ok (.aload_n 0, 1) := dk_42 (dk_at dksX10_factOf_5 5 rfl rfl)
theorem dX10_factOf_132 : decode cX10_factOf 132 = .ok (.getfield 13, 3) := dk_180 0 13 (dk_at dksX10_factOf_5 6 rfl rfl)
theorem dX10_factOf_135 : decode cX10_factOf 135 = .ok (.bipush 12, 2) := dk_16 12 (dk_at dksX10_factOf_5 9 rfl rfl)
theorem dX10_factOf_137 : decode cX10_factOf 137 = .ok (.iaload, 1) := dk_46 (dk_at dksX10_factOf_5 11 rfl rfl)
theorem dX10_factOf_138 : decode cX10_factOf 138 = .ok (.if_icmp .ge 7, 3) := dk_162 0 7 (dk_at dksX10_factOf_5 12 rfl rfl)
theorem dX10_factOf_141 : decode cX10_factOf 141 = .ok (.iconst 1, 1) := dk_4 (dk_at dksX10_factOf_5 15 rfl rfl)
theorem dX10_factOf_142 : decode cX10_factOf 142 = .ok (.goto 4, 3) := dk_167 0 4 (dk_at dksX10_factOf_5 16 rfl rfl)
theorem dX10_factOf_145 : decode cX10_factOf 145 = .ok (.iconst 0, 1) := dk_3 (dk_at dksX10_factOf_5 19 rfl rfl)
theorem dX10_factOf_146 : decode cX10_factOf 146 = .ok (.ireturn, 1) := dk_172 (dk_at dksX10_factOf_5 20 rfl rfl)
theorem dX10_factOf_147 : decode cX10_factOf 147 = .ok (.iload_n 2, 1) := dk_28 (dk_at dksX10_factOf_5 21 rfl rfl)
theorem dX10_factOf_148 : decode cX10_factOf 148 = .ok (.ireturn, 1) := dk_172 (dk_at dksX10_factOf_5 22 rfl rfl)
abbrev cX10_person : ByteArray := prog_20_method_81_code
def yX10_person : MethodName := ⟨RX10, "person", "(II)I"⟩
def dkwX10_person_2 : List UInt8 := [162, 0, 12, 42, 27, 28, 182, 1, 140, 167, 0, 9, 42, 27, 28, 182, 1, 143, 172]
abbrev dktX10_person_2 : List UInt8 := dkwX10_person_2 ++ []
def dkwX10_person_1 : List UInt8 := [184, 0, 90, 154, 0, 7, 4, 167, 0, 4, 3, 5, 182, 1, 44, 153, 0, 5, 3, 172, 28, 6]
abbrev dktX10_person_1 : List UInt8 := dkwX10_person_1 ++ dktX10_person_2
def dkwX10_person_0 : List UInt8 := [42, 3, 181, 0, 3, 42, 42, 27, 182, 1, 137, 4, 182, 1, 44, 154, 0, 25, 42, 28, 3, 8]
abbrev dktX10_person_0 : List UInt8 := dkwX10_person_0 ++ dktX10_person_1
theorem dksX10_person_0 : cX10_person.data.toList.drop 0 = dktX10_person_0 := by decide +kernel
theorem dksX10_person_1 : cX10_person.data.toList.drop 22 = dktX10_person_1 := dk_seg dksX10_person_0 22 rfl rfl
theorem dksX10_person_2 : cX10_person.data.toList.drop 44 = dktX10_person_2 := dk_seg dksX10_person_1 22 rfl rfl
theorem dX10_person_0 : decode cX10_person 0 = .ok (.aload_n 0, 1) := dk_42 (dk_at dksX10_person_0 0 rfl rfl)
theorem dX10_person_1 : decode cX10_person 1 = .ok (.iconst 0, 1) := dk_3 (dk_at dksX10_person_0 1 rfl rfl)
theorem dX10_person_2 : decode cX10_person 2 = .ok (.putfield 3, 3) := dk_181 0 3 (dk_at dksX10_person_0 2 rfl rfl)
theorem dX10_person_5 : decode cX10_person 5 = .ok (.aload_n 0, 1) := dk_42 (dk_at dksX10_person_0 5 rfl rfl)
theorem dX10_person_6 : decode cX10_person 6 = .ok (.aload_n 0, 1) := dk_42 (dk_at dksX10_person_0 6 rfl rfl)
theorem dX10_person_7 : decode cX10_person 7 = .ok (.iload_n 1, 1) := dk_27 (dk_at dksX10_person_0 7 rfl rfl)
theorem dX10_person_8 : decode cX10_person 8 = .ok (.invokevirtual 393, 3) := dk_182 1 137 (dk_at dksX10_person_0 8 rfl rfl)
theorem dX10_person_11 : decode cX10_person 11 = .ok (.iconst 1, 1) := dk_4 (dk_at dksX10_person_0 11 rfl rfl)
theorem dX10_person_12 : decode cX10_person 12 = .ok (.invokevirtual 300, 3) := dk_182 1 44 (dk_at dksX10_person_0 12 rfl rfl)
theorem dX10_person_15 : decode cX10_person 15 = .ok (.ifCond .ne 25, 3) := dk_154 0 25 (dk_at dksX10_person_0 15 rfl rfl)
theorem dX10_person_18 : decode cX10_person 18 = .ok (.aload_n 0, 1) := dk_42 (dk_at dksX10_person_0 18 rfl rfl)
theorem dX10_person_19 : decode cX10_person 19 = .ok (.iload_n 2, 1) := dk_28 (dk_at dksX10_person_0 19 rfl rfl)
theorem dX10_person_20 : decode cX10_person 20 = .ok (.iconst 0, 1) := dk_3 (dk_at dksX10_person_0 20 rfl rfl)
theorem dX10_person_21 : decode cX10_person 21 = .ok (.iconst 5, 1) := dk_8 (dk_at dksX10_person_0 21 rfl rfl)
theorem dX10_person_22 : decode cX10_person 22 = .ok (.invokestatic 90, 3) := dk_184 0 90 (dk_at dksX10_person_1 0 rfl rfl)
theorem dX10_person_25 : decode cX10_person 25 = .ok (.ifCond .ne 7, 3) := dk_154 0 7 (dk_at dksX10_person_1 3 rfl rfl)
theorem dX10_person_28 : decode cX10_person 28 = .ok (.iconst 1, 1) := dk_4 (dk_at dksX10_person_1 6 rfl rfl)
theorem dX10_person_29 : decode cX10_person 29 = .ok (.goto 4, 3) := dk_167 0 4 (dk_at dksX10_person_1 7 rfl rfl)
theorem dX10_person_32 : decode cX10_person 32 = .ok (.iconst 0, 1) := dk_3 (dk_at dksX10_person_1 10 rfl rfl)
theorem dX10_person_33 : decode cX10_person 33 = .ok (.iconst 2, 1) := dk_5 (dk_at dksX10_person_1 11 rfl rfl)
theorem dX10_person_34 : decode cX10_person 34 = .ok (.invokevirtual 300, 3) := dk_182 1 44 (dk_at dksX10_person_1 12 rfl rfl)
theorem dX10_person_37 : decode cX10_person 37 = .ok (.ifCond .eq 5, 3) := dk_153 0 5 (dk_at dksX10_person_1 15 rfl rfl)
theorem dX10_person_40 : decode cX10_person 40 = .ok (.iconst 0, 1) := dk_3 (dk_at dksX10_person_1 18 rfl rfl)
theorem dX10_person_41 : decode cX10_person 41 = .ok (.ireturn, 1) := dk_172 (dk_at dksX10_person_1 19 rfl rfl)
theorem dX10_person_42 : decode cX10_person 42 = .ok (.iload_n 2, 1) := dk_28 (dk_at dksX10_person_1 20 rfl rfl)
theorem dX10_person_43 : decode cX10_person 43 = .ok (.iconst 3, 1) := dk_6 (dk_at dksX10_person_1 21 rfl rfl)
theorem dX10_person_44 : decode cX10_person 44 = .ok (.if_icmp .ge 12, 3) := dk_162 0 12 (dk_at dksX10_person_2 0 rfl rfl)
theorem dX10_person_47 : decode cX10_person 47 = .ok (.aload_n 0, 1) := dk_42 (dk_at dksX10_person_2 3 rfl rfl)
theorem dX10_person_48 : decode cX10_person 48 = .ok (.iload_n 1, 1) := dk_27 (dk_at dksX10_person_2 4 rfl rfl)
theorem dX10_person_49 : decode cX10_person 49 = .ok (.iload_n 2, 1) := dk_28 (dk_at dksX10_person_2 5 rfl rfl)
theorem dX10_person_50 : decode cX10_person 50 = .ok (.invokevirtual 396, 3) := dk_182 1 140 (dk_at dksX10_person_2 6 rfl rfl)
theorem dX10_person_53 : decode cX10_person 53 = .ok (.goto 9, 3) := dk_167 0 9 (dk_at dksX10_person_2 9 rfl rfl)
theorem dX10_person_56 : decode cX10_person 56 = .ok (.aload_n 0, 1) := dk_42 (dk_at dksX10_person_2 12 rfl rfl)
theorem dX10_person_57 : decode cX10_person 57 = .ok (.iload_n 1, 1) := dk_27 (dk_at dksX10_person_2 13 rfl rfl)
theorem dX10_person_58 : decode cX10_person 58 = .ok (.iload_n 2, 1) := dk_28 (dk_at dksX10_person_2 14 rfl rfl)
theorem dX10_person_59 : decode cX10_person 59 = .ok (.invokevirtual 399, 3) := dk_182 1 143 (dk_at dksX10_person_2 15 rfl rfl)
theorem dX10_person_62 : decode cX10_person 62 = .ok (.ireturn, 1) := dk_172 (dk_at dksX10_person_2 18 rfl rfl)
abbrev cX10_noPerson : ByteArray := prog_20_method_21_code
def yX10_noPerson : MethodName := ⟨RX10, "noPerson", "(I)Z"⟩
def dkwX10_noPerson_0 : List UInt8 := [27, 3, 42, 182, 0, 97, 4, 100, 184, 0, 90, 154, 0, 7, 4, 167, 0, 4, 3, 172]
abbrev dktX10_noPerson_0 : List UInt8 := dkwX10_noPerson_0 ++ []
theorem dksX10_noPerson_0 : cX10_noPerson.data.toList.drop 0 = dktX10_noPerson_0 := by decide +kernel
theorem dX10_noPerson_0 : decode cX10_noPerson 0 = .ok (.iload_n 1, 1) := dk_27 (dk_at dksX10_noPerson_0 0 rfl rfl)
theorem dX10_noPerson_1 : decode cX10_noPerson 1 = .ok (.iconst 0, 1) := dk_3 (dk_at dksX10_noPerson_0 1 rfl rfl)
theorem dX10_noPerson_2 : decode cX10_noPerson 2 = .ok (.aload_n 0, 1) := dk_42 (dk_at dksX10_noPerson_0 2 rfl rfl)
theorem dX10_noPerson_3 : decode cX10_noPerson 3 = .ok (.invokevirtual 97, 3) := dk_182 0 97 (dk_at dksX10_noPerson_0 3 rfl rfl)
theorem dX10_noPerson_6 : decode cX10_noPerson 6 = .ok (.iconst 1, 1) := dk_4 (dk_at dksX10_noPerson_0 6 rfl rfl)
theorem dX10_noPerson_7 : decode cX10_noPerson 7 = .ok (.isub, 1) := dk_100 (dk_at dksX10_noPerson_0 7 rfl rfl)
theorem dX10_noPerson_8 : decode cX10_noPerson 8 = .ok (.invokestatic 90, 3) := dk_184 0 90 (dk_at dksX10_noPerson_0 8 rfl rfl)
theorem dX10_noPerson_11 : decode cX10_noPerson 11 = .ok (.ifCond .ne 7, 3) := dk_154 0 7 (dk_at dksX10_noPerson_0 11 rfl rfl)
theorem dX10_noPerson_14 : decode cX10_noPerson 14 = .ok (.iconst 1, 1) := dk_4 (dk_at dksX10_noPerson_0 14 rfl rfl)
theorem dX10_noPerson_15 : decode cX10_noPerson 15 = .ok (.goto 4, 3) := dk_167 0 4 (dk_at dksX10_noPerson_0 15 rfl rfl)
theorem dX10_noPerson_18 : decode cX10_noPerson 18 = .ok (.iconst 0, 1) := dk_3 (dk_at dksX10_noPerson_0 18 rfl rfl)
theorem dX10_noPerson_19 : decode cX10_noPerson 19 = .ok (.ireturn, 1) := dk_172 (dk_at dksX10_noPerson_0 19 rfl rfl)
abbrev cX10_of : ByteArray := prog_20_method_15_code
def yX10_of : MethodName := ⟨RX10, "of", "(II)I"⟩
def dkwX10_of_0 : List UInt8 := [42, 180, 0, 13, 16, 95, 6, 27, 104, 96, 28, 96, 46, 172]
abbrev dktX10_of_0 : List UInt8 := dkwX10_of_0 ++ []
theorem dksX10_of_0 : cX10_of.data.toList.drop 0 = dktX10_of_0 := by decide +kernel
theorem dX10_of_0 : decode cX10_of 0 = .ok (.aload_n 0, 1) := dk_42 (dk_at dksX10_of_0 0 rfl rfl)
theorem dX10_of_1 : decode cX10_of 1 = .ok (.getfield 13, 3) := dk_180 0 13 (dk_at dksX10_of_0 1 rfl rfl)
theorem dX10_of_4 : decode cX10_of 4 = .ok (.bipush 95, 2) := dk_16 95 (dk_at dksX10_of_0 4 rfl rfl)
theorem dX10_of_6 : decode cX10_of 6 = .ok (.iconst 3, 1) := dk_6 (dk_at dksX10_of_0 6 rfl rfl)
theorem dX10_of_7 : decode cX10_of 7 = .ok (.iload_n 1, 1) := dk_27 (dk_at dksX10_of_0 7 rfl rfl)
theorem dX10_of_8 : decode cX10_of 8 = .ok (.imul, 1) := dk_104 (dk_at dksX10_of_0 8 rfl rfl)
theorem dX10_of_9 : decode cX10_of 9 = .ok (.iadd, 1) := dk_96 (dk_at dksX10_of_0 9 rfl rfl)
theorem dX10_of_10 : decode cX10_of 10 = .ok (.iload_n 2, 1) := dk_28 (dk_at dksX10_of_0 10 rfl rfl)
theorem dX10_of_11 : decode cX10_of 11 = .ok (.iadd, 1) := dk_96 (dk_at dksX10_of_0 11 rfl rfl)
theorem dX10_of_12 : decode cX10_of 12 = .ok (.iaload, 1) := dk_46 (dk_at dksX10_of_0 12 rfl rfl)
theorem dX10_of_13 : decode cX10_of 13 = .ok (.ireturn, 1) := dk_172 (dk_at dksX10_of_0 13 rfl rfl)
abbrev cX10_countOf : ByteArray := prog_20_method_80_code
def yX10_countOf : MethodName := ⟨RX10, "countOf", "(II)I"⟩
def dkwX10_countOf_4 : List UInt8 := [153, 0, 7, 4, 167, 0, 4, 3, 96, 62, 132, 4, 1, 167, 255, 156, 29, 172]
abbrev dktX10_countOf_4 : List UInt8 := dkwX10_countOf_4 ++ []
def dkwX10_countOf_3 : List UInt8 := [160, 0, 16, 42, 21, 4, 182, 1, 134, 153, 0, 7, 4, 167, 0, 4, 3, 54, 5, 29, 21, 5]
abbrev dktX10_countOf_3 : List UInt8 := dkwX10_countOf_3 ++ dktX10_countOf_4
def dkwX10_countOf_2 : List UInt8 := [182, 0, 82, 27, 160, 0, 7, 4, 167, 0, 32, 3, 167, 0, 28, 42, 21, 4, 4, 182, 0, 82, 27]
abbrev dktX10_countOf_2 : List UInt8 := dkwX10_countOf_2 ++ dktX10_countOf_3
def dkwX10_countOf_1 : List UInt8 := [182, 0, 82, 27, 160, 0, 7, 4, 167, 0, 56, 3, 167, 0, 52, 28, 7, 160, 0, 22, 42, 21, 4, 8]
abbrev dktX10_countOf_1 : List UInt8 := dkwX10_countOf_1 ++ dktX10_countOf_2
def dkwX10_countOf_0 : List UInt8 := [3, 62, 3, 54, 4, 21, 4, 42, 182, 0, 100, 162, 0, 97, 28, 6, 160, 0, 22, 42, 21, 4, 3]
abbrev dktX10_countOf_0 : List UInt8 := dkwX10_countOf_0 ++ dktX10_countOf_1
theorem dksX10_countOf_0 : cX10_countOf.data.toList.drop 0 = dktX10_countOf_0 := by decide +kernel
theorem dksX10_countOf_1 : cX10_countOf.data.toList.drop 23 = dktX10_countOf_1 := dk_seg dksX10_countOf_0 23 rfl rfl
theorem dksX10_countOf_2 : cX10_countOf.data.toList.drop 47 = dktX10_countOf_2 := dk_seg dksX10_countOf_1 24 rfl rfl
theorem dksX10_countOf_3 : cX10_countOf.data.toList.drop 70 = dktX10_countOf_3 := dk_seg dksX10_countOf_2 23 rfl rfl
theorem dksX10_countOf_4 : cX10_countOf.data.toList.drop 92 = dktX10_countOf_4 := dk_seg dksX10_countOf_3 22 rfl rfl
theorem dX10_countOf_0 : decode cX10_countOf 0 = .ok (.iconst 0, 1) := dk_3 (dk_at dksX10_countOf_0 0 rfl rfl)
theorem dX10_countOf_1 : decode cX10_countOf 1 = .ok (.istore_n 3, 1) := dk_62 (dk_at dksX10_countOf_0 1 rfl rfl)
theorem dX10_countOf_2 : decode cX10_countOf 2 = .ok (.iconst 0, 1) := dk_3 (dk_at dksX10_countOf_0 2 rfl rfl)
theorem dX10_countOf_3 : decode cX10_countOf 3 = .ok (.istore 4, 2) := dk_54 4 (dk_at dksX10_countOf_0 3 rfl rfl)
theorem dX10_countOf_5 : decode cX10_countOf 5 = .ok (.iload 4, 2) := dk_21 4 (dk_at dksX10_countOf_0 5 rfl rfl)
theorem dX10_countOf_7 : decode cX10_countOf 7 = .ok (.aload_n 0, 1) := dk_42 (dk_at dksX10_countOf_0 7 rfl rfl)
theorem dX10_countOf_8 : decode cX10_countOf 8 = .ok (.invokevirtual 100, 3) := dk_182 0 100 (dk_at dksX10_countOf_0 8 rfl rfl)
theorem dX10_countOf_11 : decode cX10_countOf 11 = .ok (.if_icmp .ge 97, 3) := dk_162 0 97 (dk_at dksX10_countOf_0 11 rfl rfl)
theorem dX10_countOf_14 : decode cX10_countOf 14 = .ok (.iload_n 2, 1) := dk_28 (dk_at dksX10_countOf_0 14 rfl rfl)
theorem dX10_countOf_15 : decode cX10_countOf 15 = .ok (.iconst 3, 1) := dk_6 (dk_at dksX10_countOf_0 15 rfl rfl)
theorem dX10_countOf_16 : decode cX10_countOf 16 = .ok (.if_icmp .ne 22, 3) := dk_160 0 22 (dk_at dksX10_countOf_0 16 rfl rfl)
theorem dX10_countOf_19 : decode cX10_countOf 19 = .ok (.aload_n 0, 1) := dk_42 (dk_at dksX10_countOf_0 19 rfl rfl)
theorem dX10_countOf_20 : decode cX10_countOf 20 = .ok (.iload 4, 2) := dk_21 4 (dk_at dksX10_countOf_0 20 rfl rfl)
theorem dX10_countOf_22 : decode cX10_countOf 22 = .ok (.iconst 0, 1) := dk_3 (dk_at dksX10_countOf_0 22 rfl rfl)
theorem dX10_countOf_23 : decode cX10_countOf 23 = .ok (.invokevirtual 82, 3) := dk_182 0 82 (dk_at dksX10_countOf_1 0 rfl rfl)
theorem dX10_countOf_26 : decode cX10_countOf 26 = .ok (.iload_n 1, 1) := dk_27 (dk_at dksX10_countOf_1 3 rfl rfl)
theorem dX10_countOf_27 : decode cX10_countOf 27 = .ok (.if_icmp .ne 7, 3) := dk_160 0 7 (dk_at dksX10_countOf_1 4 rfl rfl)
theorem dX10_countOf_30 : decode cX10_countOf 30 = .ok (.iconst 1, 1) := dk_4 (dk_at dksX10_countOf_1 7 rfl rfl)
theorem dX10_countOf_31 : decode cX10_countOf 31 = .ok (.goto 56, 3) := dk_167 0 56 (dk_at dksX10_countOf_1 8 rfl rfl)
theorem dX10_countOf_34 : decode cX10_countOf 34 = .ok (.iconst 0, 1) := dk_3 (dk_at dksX10_countOf_1 11 rfl rfl)
theorem dX10_countOf_35 : decode cX10_countOf 35 = .ok (.goto 52, 3) := dk_167 0 52 (dk_at dksX10_countOf_1 12 rfl rfl)
theorem dX10_countOf_38 : decode cX10_countOf 38 = .ok (.iload_n 2, 1) := dk_28 (dk_at dksX10_countOf_1 15 rfl rfl)
theorem dX10_countOf_39 : decode cX10_countOf 39 = .ok (.iconst 4, 1) := dk_7 (dk_at dksX10_countOf_1 16 rfl rfl)
theorem dX10_countOf_40 : decode cX10_countOf 40 = .ok (.if_icmp .ne 22, 3) := dk_160 0 22 (dk_at dksX10_countOf_1 17 rfl rfl)
theorem dX10_countOf_43 : decode cX10_countOf 43 = .ok (.aload_n 0, 1) := dk_42 (dk_at dksX10_countOf_1 20 rfl rfl)
theorem dX10_countOf_44 : decode cX10_countOf 44 = .ok (.iload 4, 2) := dk_21 4 (dk_at dksX10_countOf_1 21 rfl rfl)
theorem dX10_countOf_46 : decode cX10_countOf 46 = .ok (.iconst 5, 1) := dk_8 (dk_at dksX10_countOf_1 23 rfl rfl)
theorem dX10_countOf_47 : decode cX10_countOf 47 = .ok (.invokevirtual 82, 3) := dk_182 0 82 (dk_at dksX10_countOf_2 0 rfl rfl)
theorem dX10_countOf_50 : decode cX10_countOf 50 = .ok (.iload_n 1, 1) := dk_27 (dk_at dksX10_countOf_2 3 rfl rfl)
theorem dX10_countOf_51 : decode cX10_countOf 51 = .ok (.if_icmp .ne 7, 3) := dk_160 0 7 (dk_at dksX10_countOf_2 4 rfl rfl)
theorem dX10_countOf_54 : decode cX10_countOf 54 = .ok (.iconst 1, 1) := dk_4 (dk_at dksX10_countOf_2 7 rfl rfl)
theorem dX10_countOf_55 : decode cX10_countOf 55 = .ok (.goto 32, 3) := dk_167 0 32 (dk_at dksX10_countOf_2 8 rfl rfl)
theorem dX10_countOf_58 : decode cX10_countOf 58 = .ok (.iconst 0, 1) := dk_3 (dk_at dksX10_countOf_2 11 rfl rfl)
theorem dX10_countOf_59 : decode cX10_countOf 59 = .ok (.goto 28, 3) := dk_167 0 28 (dk_at dksX10_countOf_2 12 rfl rfl)
theorem dX10_countOf_62 : decode cX10_countOf 62 = .ok (.aload_n 0, 1) := dk_42 (dk_at dksX10_countOf_2 15 rfl rfl)
theorem dX10_countOf_63 : decode cX10_countOf 63 = .ok (.iload 4, 2) := dk_21 4 (dk_at dksX10_countOf_2 16 rfl rfl)
theorem dX10_countOf_65 : decode cX10_countOf 65 = .ok (.iconst 1, 1) := dk_4 (dk_at dksX10_countOf_2 18 rfl rfl)
theorem dX10_countOf_66 : decode cX10_countOf 66 = .ok (.invokevirtual 82, 3) := dk_182 0 82 (dk_at dksX10_countOf_2 19 rfl rfl)
theorem dX10_countOf_69 : decode cX10_countOf 69 = .ok (.iload_n 1, 1) := dk_27 (dk_at dksX10_countOf_2 22 rfl rfl)
theorem dX10_countOf_70 : decode cX10_countOf 70 = .ok (.if_icmp .ne 16, 3) := dk_160 0 16 (dk_at dksX10_countOf_3 0 rfl rfl)
theorem dX10_countOf_73 : decode cX10_countOf 73 = .ok (.aload_n 0, 1) := dk_42 (dk_at dksX10_countOf_3 3 rfl rfl)
theorem dX10_countOf_74 : decode cX10_countOf 74 = .ok (.iload 4, 2) := dk_21 4 (dk_at dksX10_countOf_3 4 rfl rfl)
theorem dX10_countOf_76 : decode cX10_countOf 76 = .ok (.invokevirtual 390, 3) := dk_182 1 134 (dk_at dksX10_countOf_3 6 rfl rfl)
theorem dX10_countOf_79 : decode cX10_countOf 79 = .ok (.ifCond .eq 7, 3) := dk_153 0 7 (dk_at dksX10_countOf_3 9 rfl rfl)
theorem dX10_countOf_82 : decode cX10_countOf 82 = .ok (.iconst 1, 1) := dk_4 (dk_at dksX10_countOf_3 12 rfl rfl)
theorem dX10_countOf_83 : decode cX10_countOf 83 = .ok (.goto 4, 3) := dk_167 0 4 (dk_at dksX10_countOf_3 13 rfl rfl)
theorem dX10_countOf_86 : decode cX10_countOf 86 = .ok (.iconst 0, 1) := dk_3 (dk_at dksX10_countOf_3 16 rfl rfl)
theorem dX10_countOf_87 : decode cX10_countOf 87 = .ok (.istore 5, 2) := dk_54 5 (dk_at dksX10_countOf_3 17 rfl rfl)
theorem dX10_countOf_89 : decode cX10_countOf 89 = .ok (.iload_n 3, 1) := dk_29 (dk_at dksX10_countOf_3 19 rfl rfl)
theorem dX10_countOf_90 : decode cX10_countOf 90 = .ok (.iload 5, 2) := dk_21 5 (dk_at dksX10_countOf_3 20 rfl rfl)
theorem dX10_countOf_92 : decode cX10_countOf 92 = .ok (.ifCond .eq 7, 3) := dk_153 0 7 (dk_at dksX10_countOf_4 0 rfl rfl)
theorem dX10_countOf_95 : decode cX10_countOf 95 = .ok (.iconst 1, 1) := dk_4 (dk_at dksX10_countOf_4 3 rfl rfl)
theorem dX10_countOf_96 : decode cX10_countOf 96 = .ok (.goto 4, 3) := dk_167 0 4 (dk_at dksX10_countOf_4 4 rfl rfl)
theorem dX10_countOf_99 : decode cX10_countOf 99 = .ok (.iconst 0, 1) := dk_3 (dk_at dksX10_countOf_4 7 rfl rfl)
theorem dX10_countOf_100 : decode cX10_countOf 100 = .ok (.iadd, 1) := dk_96 (dk_at dksX10_countOf_4 8 rfl rfl)
theorem dX10_countOf_101 : decode cX10_countOf 101 = .ok (.istore_n 3, 1) := dk_62 (dk_at dksX10_countOf_4 9 rfl rfl)
theorem dX10_countOf_102 : decode cX10_countOf 102 = .ok (.iinc 4 1, 3) := dk_132 4 1 (dk_at dksX10_countOf_4 10 rfl rfl)
theorem dX10_countOf_105 : decode cX10_countOf 105 = .ok (.goto (-100), 3) := dk_167 255 156 (dk_at dksX10_countOf_4 13 rfl rfl)
theorem dX10_countOf_108 : decode cX10_countOf 108 = .ok (.iload_n 3, 1) := dk_29 (dk_at dksX10_countOf_4 16 rfl rfl)
theorem dX10_countOf_109 : decode cX10_countOf 109 = .ok (.ireturn, 1) := dk_172 (dk_at dksX10_countOf_4 17 rfl rfl)
abbrev cX10_ofLetter : ByteArray := prog_20_method_16_code
def yX10_ofLetter : MethodName := ⟨RX10, "ofLetter", "(II)I"⟩
def dkwX10_ofLetter_0 : List UInt8 := [42, 180, 0, 13, 16, 119, 16, 7, 27, 104, 96, 28, 96, 46, 172]
abbrev dktX10_ofLetter_0 : List UInt8 := dkwX10_ofLetter_0 ++ []
theorem dksX10_ofLetter_0 : cX10_ofLetter.data.toList.drop 0 = dktX10_ofLetter_0 := by decide +kernel
theorem dX10_ofLetter_0 : decode cX10_ofLetter 0 = .ok (.aload_n 0, 1) := dk_42 (dk_at dksX10_ofLetter_0 0 rfl rfl)
theorem dX10_ofLetter_1 : decode cX10_ofLetter 1 = .ok (.getfield 13, 3) := dk_180 0 13 (dk_at dksX10_ofLetter_0 1 rfl rfl)
theorem dX10_ofLetter_4 : decode cX10_ofLetter 4 = .ok (.bipush 119, 2) := dk_16 119 (dk_at dksX10_ofLetter_0 4 rfl rfl)
theorem dX10_ofLetter_6 : decode cX10_ofLetter 6 = .ok (.bipush 7, 2) := dk_16 7 (dk_at dksX10_ofLetter_0 6 rfl rfl)
theorem dX10_ofLetter_8 : decode cX10_ofLetter 8 = .ok (.iload_n 1, 1) := dk_27 (dk_at dksX10_ofLetter_0 8 rfl rfl)
theorem dX10_ofLetter_9 : decode cX10_ofLetter 9 = .ok (.imul, 1) := dk_104 (dk_at dksX10_ofLetter_0 9 rfl rfl)
theorem dX10_ofLetter_10 : decode cX10_ofLetter 10 = .ok (.iadd, 1) := dk_96 (dk_at dksX10_ofLetter_0 10 rfl rfl)
theorem dX10_ofLetter_11 : decode cX10_ofLetter 11 = .ok (.iload_n 2, 1) := dk_28 (dk_at dksX10_ofLetter_0 11 rfl rfl)
theorem dX10_ofLetter_12 : decode cX10_ofLetter 12 = .ok (.iadd, 1) := dk_96 (dk_at dksX10_ofLetter_0 12 rfl rfl)
theorem dX10_ofLetter_13 : decode cX10_ofLetter 13 = .ok (.iaload, 1) := dk_46 (dk_at dksX10_ofLetter_0 13 rfl rfl)
theorem dX10_ofLetter_14 : decode cX10_ofLetter 14 = .ok (.ireturn, 1) := dk_172 (dk_at dksX10_ofLetter_0 14 rfl rfl)
abbrev cX10_isWaiting : ByteArray := prog_20_method_79_code
def yX10_isWaiting : MethodName := ⟨RX10, "isWaiting", "(I)Z"⟩
def dkwX10_isWaiting_1 : List UInt8 := [61, 28, 155, 0, 15, 28, 42, 182, 0, 162, 163, 0, 7, 4, 167, 0, 4, 3, 172]
abbrev dktX10_isWaiting_1 : List UInt8 := dkwX10_isWaiting_1 ++ []
def dkwX10_isWaiting_0 : List UInt8 := [42, 27, 182, 1, 118, 154, 0, 12, 42, 27, 8, 182, 0, 82, 155, 0, 5, 3, 172, 42, 27, 182, 1, 131]
abbrev dktX10_isWaiting_0 : List UInt8 := dkwX10_isWaiting_0 ++ dktX10_isWaiting_1
theorem dksX10_isWaiting_0 : cX10_isWaiting.data.toList.drop 0 = dktX10_isWaiting_0 := by decide +kernel
theorem dksX10_isWaiting_1 : cX10_isWaiting.data.toList.drop 24 = dktX10_isWaiting_1 := dk_seg dksX10_isWaiting_0 24 rfl rfl
theorem dX10_isWaiting_0 : decode cX10_isWaiting 0 = .ok (.aload_n 0, 1) := dk_42 (dk_at dksX10_isWaiting_0 0 rfl rfl)
theorem dX10_isWaiting_1 : decode cX10_isWaiting 1 = .ok (.iload_n 1, 1) := dk_27 (dk_at dksX10_isWaiting_0 1 rfl rfl)
theorem dX10_isWaiting_2 : decode cX10_isWaiting 2 = .ok (.invokevirtual 374, 3) := dk_182 1 118 (dk_at dksX10_isWaiting_0 2 rfl rfl)
theorem dX10_isWaiting_5 : decode cX10_isWaiting 5 = .ok (.ifCond .ne 12, 3) := dk_154 0 12 (dk_at dksX10_isWaiting_0 5 rfl rfl)
theorem dX10_isWaiting_8 : decode cX10_isWaiting 8 = .ok (.aload_n 0, 1) := dk_42 (dk_at dksX10_isWaiting_0 8 rfl rfl)
theorem dX10_isWaiting_9 : decode cX10_isWaiting 9 = .ok (.iload_n 1, 1) := dk_27 (dk_at dksX10_isWaiting_0 9 rfl rfl)
theorem dX10_isWaiting_10 : decode cX10_isWaiting 10 = .ok (.iconst 5, 1) := dk_8 (dk_at dksX10_isWaiting_0 10 rfl rfl)
theorem dX10_isWaiting_11 : decode cX10_isWaiting 11 = .ok (.invokevirtual 82, 3) := dk_182 0 82 (dk_at dksX10_isWaiting_0 11 rfl rfl)
theorem dX10_isWaiting_14 : decode cX10_isWaiting 14 = .ok (.ifCond .lt 5, 3) := dk_155 0 5 (dk_at dksX10_isWaiting_0 14 rfl rfl)
theorem dX10_isWaiting_17 : decode cX10_isWaiting 17 = .ok (.iconst 0, 1) := dk_3 (dk_at dksX10_isWaiting_0 17 rfl rfl)
theorem dX10_isWaiting_18 : decode cX10_isWaiting 18 = .ok (.ireturn, 1) := dk_172 (dk_at dksX10_isWaiting_0 18 rfl rfl)
theorem dX10_isWaiting_19 : decode cX10_isWaiting 19 = .ok (.aload_n 0, 1) := dk_42 (dk_at dksX10_isWaiting_0 19 rfl rfl)
theorem dX10_isWaiting_20 : decode cX10_isWaiting 20 = .ok (.iload_n 1, 1) := dk_27 (dk_at dksX10_isWaiting_0 20 rfl rfl)
theorem dX10_isWaiting_21 : decode cX10_isWaiting 21 = .ok (.invokevirtual 387, 3) := dk_182 1 131 (dk_at dksX10_isWaiting_0 21 rfl rfl)
theorem dX10_isWaiting_24 : decode cX10_isWaiting 24 = .ok (.istore_n 2, 1) := dk_61 (dk_at dksX10_isWaiting_1 0 rfl rfl)
theorem dX10_isWaiting_25 : decode cX10_isWaiting 25 = .ok (.iload_n 2, 1) := dk_28 (dk_at dksX10_isWaiting_1 1 rfl rfl)
theorem dX10_isWaiting_26 : decode cX10_isWaiting 26 = .ok (.ifCond .lt 15, 3) := dk_155 0 15 (dk_at dksX10_isWaiting_1 2 rfl rfl)
theorem dX10_isWaiting_29 : decode cX10_isWaiting 29 = .ok (.iload_n 2, 1) := dk_28 (dk_at dksX10_isWaiting_1 5 rfl rfl)
theorem dX10_isWaiting_30 : decode cX10_isWaiting 30 = .ok (.aload_n 0, 1) := dk_42 (dk_at dksX10_isWaiting_1 6 rfl rfl)
theorem dX10_isWaiting_31 : decode cX10_isWaiting 31 = .ok (.invokevirtual 162, 3) := dk_182 0 162 (dk_at dksX10_isWaiting_1 7 rfl rfl)
theorem dX10_isWaiting_34 : decode cX10_isWaiting 34 = .ok (.if_icmp .gt 7, 3) := dk_163 0 7 (dk_at dksX10_isWaiting_1 10 rfl rfl)
theorem dX10_isWaiting_37 : decode cX10_isWaiting 37 = .ok (.iconst 1, 1) := dk_4 (dk_at dksX10_isWaiting_1 13 rfl rfl)
theorem dX10_isWaiting_38 : decode cX10_isWaiting 38 = .ok (.goto 4, 3) := dk_167 0 4 (dk_at dksX10_isWaiting_1 14 rfl rfl)
theorem dX10_isWaiting_41 : decode cX10_isWaiting 41 = .ok (.iconst 0, 1) := dk_3 (dk_at dksX10_isWaiting_1 17 rfl rfl)
theorem dX10_isWaiting_42 : decode cX10_isWaiting 42 = .ok (.ireturn, 1) := dk_172 (dk_at dksX10_isWaiting_1 18 rfl rfl)
abbrev cX10_isRock : ByteArray := prog_20_method_18_code
def yX10_isRock : MethodName := ⟨RX10, "isRock", "(I)Z"⟩
def dkwX10_isRock_0 : List UInt8 := [42, 27, 3, 182, 0, 82, 156, 0, 7, 4, 167, 0, 4, 3, 172]
abbrev dktX10_isRock_0 : List UInt8 := dkwX10_isRock_0 ++ []
theorem dksX10_isRock_0 : cX10_isRock.data.toList.drop 0 = dktX10_isRock_0 := by decide +kernel
theorem dX10_isRock_0 : decode cX10_isRock 0 = .ok (.aload_n 0, 1) := dk_42 (dk_at dksX10_isRock_0 0 rfl rfl)
theorem dX10_isRock_1 : decode cX10_isRock 1 = .ok (.iload_n 1, 1) := dk_27 (dk_at dksX10_isRock_0 1 rfl rfl)
theorem dX10_isRock_2 : decode cX10_isRock 2 = .ok (.iconst 0, 1) := dk_3 (dk_at dksX10_isRock_0 2 rfl rfl)
theorem dX10_isRock_3 : decode cX10_isRock 3 = .ok (.invokevirtual 82, 3) := dk_182 0 82 (dk_at dksX10_isRock_0 3 rfl rfl)
theorem dX10_isRock_6 : decode cX10_isRock 6 = .ok (.ifCond .ge 7, 3) := dk_156 0 7 (dk_at dksX10_isRock_0 6 rfl rfl)
theorem dX10_isRock_9 : decode cX10_isRock 9 = .ok (.iconst 1, 1) := dk_4 (dk_at dksX10_isRock_0 9 rfl rfl)
theorem dX10_isRock_10 : decode cX10_isRock 10 = .ok (.goto 4, 3) := dk_167 0 4 (dk_at dksX10_isRock_0 10 rfl rfl)
theorem dX10_isRock_13 : decode cX10_isRock 13 = .ok (.iconst 0, 1) := dk_3 (dk_at dksX10_isRock_0 13 rfl rfl)
theorem dX10_isRock_14 : decode cX10_isRock 14 = .ok (.ireturn, 1) := dk_172 (dk_at dksX10_isRock_0 14 rfl rfl)
abbrev cX10_outOf : ByteArray := prog_20_method_75_code
def yX10_outOf : MethodName := ⟨RX10, "outOf", "(I)I"⟩
def dkwX10_outOf_0 : List UInt8 := [42, 27, 2, 182, 1, 125, 42, 180, 1, 112, 172]
abbrev dktX10_outOf_0 : List UInt8 := dkwX10_outOf_0 ++ []
theorem dksX10_outOf_0 : cX10_outOf.data.toList.drop 0 = dktX10_outOf_0 := by decide +kernel
theorem dX10_outOf_0 : decode cX10_outOf 0 = .ok (.aload_n 0, 1) := dk_42 (dk_at dksX10_outOf_0 0 rfl rfl)
theorem dX10_outOf_1 : decode cX10_outOf 1 = .ok (.iload_n 1, 1) := dk_27 (dk_at dksX10_outOf_0 1 rfl rfl)
theorem dX10_outOf_2 : decode cX10_outOf 2 = .ok (.iconst (-1), 1) := dk_2 (dk_at dksX10_outOf_0 2 rfl rfl)
theorem dX10_outOf_3 : decode cX10_outOf 3 = .ok (.invokevirtual 381, 3) := dk_182 1 125 (dk_at dksX10_outOf_0 3 rfl rfl)
theorem dX10_outOf_6 : decode cX10_outOf 6 = .ok (.aload_n 0, 1) := dk_42 (dk_at dksX10_outOf_0 6 rfl rfl)
theorem dX10_outOf_7 : decode cX10_outOf 7 = .ok (.getfield 368, 3) := dk_180 1 112 (dk_at dksX10_outOf_0 7 rfl rfl)
theorem dX10_outOf_10 : decode cX10_outOf 10 = .ok (.ireturn, 1) := dk_172 (dk_at dksX10_outOf_0 10 rfl rfl)
abbrev cX10_runsLetter : ByteArray := prog_20_method_74_code
def yX10_runsLetter : MethodName := ⟨RX10, "runsLetter", "(II)V"⟩
def dkwX10_runsLetter_1 : List UInt8 := [28, 182, 1, 121, 177]
abbrev dktX10_runsLetter_1 : List UInt8 := dkwX10_runsLetter_1 ++ []
def dkwX10_runsLetter_0 : List UInt8 := [42, 42, 27, 5, 182, 0, 82, 42, 27, 7, 182, 0, 82, 42, 27, 6, 182, 0, 82, 42, 27, 182, 1, 118]
abbrev dktX10_runsLetter_0 : List UInt8 := dkwX10_runsLetter_0 ++ dktX10_runsLetter_1
theorem dksX10_runsLetter_0 : cX10_runsLetter.data.toList.drop 0 = dktX10_runsLetter_0 := by decide +kernel
theorem dksX10_runsLetter_1 : cX10_runsLetter.data.toList.drop 24 = dktX10_runsLetter_1 := dk_seg dksX10_runsLetter_0 24 rfl rfl
theorem dX10_runsLetter_0 : decode cX10_runsLetter 0 = .ok (.aload_n 0, 1) := dk_42 (dk_at dksX10_runsLetter_0 0 rfl rfl)
theorem dX10_runsLetter_1 : decode cX10_runsLetter 1 = .ok (.aload_n 0, 1) := dk_42 (dk_at dksX10_runsLetter_0 1 rfl rfl)
theorem dX10_runsLetter_2 : decode cX10_runsLetter 2 = .ok (.iload_n 1, 1) := dk_27 (dk_at dksX10_runsLetter_0 2 rfl rfl)
theorem dX10_runsLetter_3 : decode cX10_runsLetter 3 = .ok (.iconst 2, 1) := dk_5 (dk_at dksX10_runsLetter_0 3 rfl rfl)
theorem dX10_runsLetter_4 : decode cX10_runsLetter 4 = .ok (.invokevirtual 82, 3) := dk_182 0 82 (dk_at dksX10_runsLetter_0 4 rfl rfl)
theorem dX10_runsLetter_7 : decode cX10_runsLetter 7 = .ok (.aload_n 0, 1) := dk_42 (dk_at dksX10_runsLetter_0 7 rfl rfl)
theorem dX10_runsLetter_8 : decode cX10_runsLetter 8 = .ok (.iload_n 1, 1) := dk_27 (dk_at dksX10_runsLetter_0 8 rfl rfl)
theorem dX10_runsLetter_9 : decode cX10_runsLetter 9 = .ok (.iconst 4, 1) := dk_7 (dk_at dksX10_runsLetter_0 9 rfl rfl)
theorem dX10_runsLetter_10 : decode cX10_runsLetter 10 = .ok (.invokevirtual 82, 3) := dk_182 0 82 (dk_at dksX10_runsLetter_0 10 rfl rfl)
theorem dX10_runsLetter_13 : decode cX10_runsLetter 13 = .ok (.aload_n 0, 1) := dk_42 (dk_at dksX10_runsLetter_0 13 rfl rfl)
theorem dX10_runsLetter_14 : decode cX10_runsLetter 14 = .ok (.iload_n 1, 1) := dk_27 (dk_at dksX10_runsLetter_0 14 rfl rfl)
theorem dX10_runsLetter_15 : decode cX10_runsLetter 15 = .ok (.iconst 3, 1) := dk_6 (dk_at dksX10_runsLetter_0 15 rfl rfl)
theorem dX10_runsLetter_16 : decode cX10_runsLetter 16 = .ok (.invokevirtual 82, 3) := dk_182 0 82 (dk_at dksX10_runsLetter_0 16 rfl rfl)
theorem dX10_runsLetter_19 : decode cX10_runsLetter 19 = .ok (.aload_n 0, 1) := dk_42 (dk_at dksX10_runsLetter_0 19 rfl rfl)
theorem dX10_runsLetter_20 : decode cX10_runsLetter 20 = .ok (.iload_n 1, 1) := dk_27 (dk_at dksX10_runsLetter_0 20 rfl rfl)
theorem dX10_runsLetter_21 : decode cX10_runsLetter 21 = .ok (.invokevirtual 374, 3) := dk_182 1 118 (dk_at dksX10_runsLetter_0 21 rfl rfl)
theorem dX10_runsLetter_24 : decode cX10_runsLetter 24 = .ok (.iload_n 2, 1) := dk_28 (dk_at dksX10_runsLetter_1 0 rfl rfl)
theorem dX10_runsLetter_25 : decode cX10_runsLetter 25 = .ok (.invokevirtual 377, 3) := dk_182 1 121 (dk_at dksX10_runsLetter_1 1 rfl rfl)
theorem dX10_runsLetter_28 : decode cX10_runsLetter 28 = .ok (.return_, 1) := dk_177 (dk_at dksX10_runsLetter_1 4 rfl rfl)
abbrev cX10_runs : ByteArray := prog_20_method_73_code
def yX10_runs : MethodName := ⟨RX10, "runs", "(IIIZI)V"⟩
def dkwX10_runs_9 : List UInt8 := [167, 255, 96, 177]
abbrev dktX10_runs_9 : List UInt8 := dkwX10_runs_9 ++ []
def dkwX10_runs_8 : List UInt8 := [21, 6, 42, 27, 21, 6, 21, 8, 182, 1, 106, 96, 21, 8, 21, 5, 182, 1, 115, 54, 6, 132, 8, 1]
abbrev dktX10_runs_8 : List UInt8 := dkwX10_runs_8 ++ dktX10_runs_9
def dkwX10_runs_7 : List UInt8 := [184, 1, 89, 167, 0, 17, 3, 21, 7, 42, 180, 0, 39, 21, 8, 46, 100, 184, 1, 94, 54, 7, 42]
abbrev dktX10_runs_7 : List UInt8 := dkwX10_runs_7 ++ dktX10_runs_8
def dkwX10_runs_6 : List UInt8 := [21, 6, 42, 180, 0, 13, 16, 10, 46, 162, 0, 21, 16, 99, 21, 7, 42, 180, 0, 13, 16, 11, 46, 96]
abbrev dktX10_runs_6 : List UInt8 := dkwX10_runs_6 ++ dktX10_runs_7
def dkwX10_runs_5 : List UInt8 := [156, 0, 91, 21, 8, 17, 1, 43, 160, 0, 6, 167, 0, 80, 21, 4, 153, 0, 7, 3, 167, 0, 47]
abbrev dktX10_runs_5 : List UInt8 := dkwX10_runs_5 ++ dktX10_runs_6
def dkwX10_runs_4 : List UInt8 := [182, 0, 94, 161, 0, 8, 21, 8, 167, 0, 7, 42, 180, 1, 112, 181, 1, 112, 42, 180, 1, 112]
abbrev dktX10_runs_4 : List UInt8 := dkwX10_runs_4 ++ dktX10_runs_5
def dkwX10_runs_3 : List UInt8 := [184, 1, 89, 79, 42, 180, 0, 48, 21, 8, 21, 7, 79, 42, 42, 180, 1, 112, 156, 0, 17, 21, 6, 42]
abbrev dktX10_runs_3 : List UInt8 := dkwX10_runs_3 ++ dktX10_runs_4
def dkwX10_runs_2 : List UInt8 := [54, 8, 21, 8, 17, 1, 44, 162, 0, 158, 42, 180, 0, 45, 21, 8, 21, 6, 42, 182, 0, 94]
abbrev dktX10_runs_2 : List UInt8 := dkwX10_runs_2 ++ dktX10_runs_3
def dkwX10_runs_1 : List UInt8 := [79, 132, 6, 1, 167, 255, 231, 28, 54, 6, 3, 54, 7, 42, 2, 181, 1, 112, 42, 3, 181, 1, 109, 29]
abbrev dktX10_runs_1 : List UInt8 := dkwX10_runs_1 ++ dktX10_runs_2
def dkwX10_runs_0 : List UInt8 := [3, 54, 6, 21, 6, 29, 162, 0, 25, 42, 180, 0, 45, 21, 6, 2, 79, 42, 180, 0, 48, 21, 6, 2]
abbrev dktX10_runs_0 : List UInt8 := dkwX10_runs_0 ++ dktX10_runs_1
theorem dksX10_runs_0 : cX10_runs.data.toList.drop 0 = dktX10_runs_0 := by decide +kernel
theorem dksX10_runs_1 : cX10_runs.data.toList.drop 24 = dktX10_runs_1 := dk_seg dksX10_runs_0 24 rfl rfl
theorem dksX10_runs_2 : cX10_runs.data.toList.drop 48 = dktX10_runs_2 := dk_seg dksX10_runs_1 24 rfl rfl
theorem dksX10_runs_3 : cX10_runs.data.toList.drop 70 = dktX10_runs_3 := dk_seg dksX10_runs_2 22 rfl rfl
theorem dksX10_runs_4 : cX10_runs.data.toList.drop 94 = dktX10_runs_4 := dk_seg dksX10_runs_3 24 rfl rfl
theorem dksX10_runs_5 : cX10_runs.data.toList.drop 116 = dktX10_runs_5 := dk_seg dksX10_runs_4 22 rfl rfl
theorem dksX10_runs_6 : cX10_runs.data.toList.drop 139 = dktX10_runs_6 := dk_seg dksX10_runs_5 23 rfl rfl
theorem dksX10_runs_7 : cX10_runs.data.toList.drop 163 = dktX10_runs_7 := dk_seg dksX10_runs_6 24 rfl rfl
theorem dksX10_runs_8 : cX10_runs.data.toList.drop 186 = dktX10_runs_8 := dk_seg dksX10_runs_7 23 rfl rfl
theorem dksX10_runs_9 : cX10_runs.data.toList.drop 210 = dktX10_runs_9 := dk_seg dksX10_runs_8 24 rfl rfl
theorem dX10_runs_0 : decode cX10_runs 0 = .ok (.iconst 0, 1) := dk_3 (dk_at dksX10_runs_0 0 rfl rfl)
theorem dX10_runs_1 : decode cX10_runs 1 = .ok (.istore 6, 2) := dk_54 6 (dk_at dksX10_runs_0 1 rfl rfl)
theorem dX10_runs_3 : decode cX10_runs 3 = .ok (.iload 6, 2) := dk_21 6 (dk_at dksX10_runs_0 3 rfl rfl)
theorem dX10_runs_5 : decode cX10_runs 5 = .ok (.iload_n 3, 1) := dk_29 (dk_at dksX10_runs_0 5 rfl rfl)
theorem dX10_runs_6 : decode cX10_runs 6 = .ok (.if_icmp .ge 25, 3) := dk_162 0 25 (dk_at dksX10_runs_0 6 rfl rfl)
theorem dX10_runs_9 : decode cX10_runs 9 = .ok (.aload_n 0, 1) := dk_42 (dk_at dksX10_runs_0 9 rfl rfl)
theorem dX10_runs_10 : decode cX10_runs 10 = .ok (.getfield 45, 3) := dk_180 0 45 (dk_at dksX10_runs_0 10 rfl rfl)
theorem dX10_runs_13 : decode cX10_runs 13 = .ok (.iload 6, 2) := dk_21 6 (dk_at dksX10_runs_0 13 rfl rfl)
theorem dX10_runs_15 : decode cX10_runs 15 = .ok (.iconst (-1), 1) := dk_2 (dk_at dksX10_runs_0 15 rfl rfl)
theorem dX10_runs_16 : decode cX10_runs 16 = .ok (.iastore, 1) := dk_79 (dk_at dksX10_runs_0 16 rfl rfl)
theorem dX10_runs_17 : decode cX10_runs 17 = .ok (.aload_n 0, 1) := dk_42 (dk_at dksX10_runs_0 17 rfl rfl)
theorem dX10_runs_18 : decode cX10_runs 18 = .ok (.getfield 48, 3) := dk_180 0 48 (dk_at dksX10_runs_0 18 rfl rfl)
theorem dX10_runs_21 : decode cX10_runs 21 = .ok (.iload 6, 2) := dk_21 6 (dk_at dksX10_runs_0 21 rfl rfl)
theorem dX10_runs_23 : decode cX10_runs 23 = .ok (.iconst (-1), 1) := dk_2 (dk_at dksX10_runs_0 23 rfl rfl)
theorem dX10_runs_24 : decode cX10_runs 24 = .ok (.iastore, 1) := dk_79 (dk_at dksX10_runs_1 0 rfl rfl)
theorem dX10_runs_25 : decode cX10_runs 25 = .ok (.iinc 6 1, 3) := dk_132 6 1 (dk_at dksX10_runs_1 1 rfl rfl)
theorem dX10_runs_28 : decode cX10_runs 28 = .ok (.goto (-25), 3) := dk_167 255 231 (dk_at dksX10_runs_1 4 rfl rfl)
theorem dX10_runs_31 : decode cX10_runs 31 = .ok (.iload_n 2, 1) := dk_28 (dk_at dksX10_runs_1 7 rfl rfl)
theorem dX10_runs_32 : decode cX10_runs 32 = .ok (.istore 6, 2) := dk_54 6 (dk_at dksX10_runs_1 8 rfl rfl)
theorem dX10_runs_34 : decode cX10_runs 34 = .ok (.iconst 0, 1) := dk_3 (dk_at dksX10_runs_1 10 rfl rfl)
theorem dX10_runs_35 : decode cX10_runs 35 = .ok (.istore 7, 2) := dk_54 7 (dk_at dksX10_runs_1 11 rfl rfl)
theorem dX10_runs_37 : decode cX10_runs 37 = .ok (.aload_n 0, 1) := dk_42 (dk_at dksX10_runs_1 13 rfl rfl)
theorem dX10_runs_38 : decode cX10_runs 38 = .ok (.iconst (-1), 1) := dk_2 (dk_at dksX10_runs_1 14 rfl rfl)
theorem dX10_runs_39 : decode cX10_runs 39 = .ok (.putfield 368, 3) := dk_181 1 112 (dk_at dksX10_runs_1 15 rfl rfl)
theorem dX10_runs_42 : decode cX10_runs 42 = .ok (.aload_n 0, 1) := dk_42 (dk_at dksX10_runs_1 18 rfl rfl)
theorem dX10_runs_43 : decode cX10_runs 43 = .ok (.iconst 0, 1) := dk_3 (dk_at dksX10_runs_1 19 rfl rfl)
theorem dX10_runs_44 : decode cX10_runs 44 = .ok (.putfield 365, 3) := dk_181 1 109 (dk_at dksX10_runs_1 20 rfl rfl)
theorem dX10_runs_47 : decode cX10_runs 47 = .ok (.iload_n 3, 1) := dk_29 (dk_at dksX10_runs_1 23 rfl rfl)
theorem dX10_runs_48 : decode cX10_runs 48 = .ok (.istore 8, 2) := dk_54 8 (dk_at dksX10_runs_2 0 rfl rfl)
theorem dX10_runs_50 : decode cX10_runs 50 = .ok (.iload 8, 2) := dk_21 8 (dk_at dksX10_runs_2 2 rfl rfl)
theorem dX10_runs_52 : decode cX10_runs 52 = .ok (.sipush 300, 3) := dk_17 1 44 (dk_at dksX10_runs_2 4 rfl rfl)
theorem dX10_runs_55 : decode cX10_runs 55 = .ok (.if_icmp .ge 158, 3) := dk_162 0 158 (dk_at dksX10_runs_2 7 rfl rfl)
theorem dX10_runs_58 : decode cX10_runs 58 = .ok (.aload_n 0, 1) := dk_42 (dk_at dksX10_runs_2 10 rfl rfl)
theorem dX10_runs_59 : decode cX10_runs 59 = .ok (.getfield 45, 3) := dk_180 0 45 (dk_at dksX10_runs_2 11 rfl rfl)
theorem dX10_runs_62 : decode cX10_runs 62 = .ok (.iload 8, 2) := dk_21 8 (dk_at dksX10_runs_2 14 rfl rfl)
theorem dX10_runs_64 : decode cX10_runs 64 = .ok (.iload 6, 2) := dk_21 6 (dk_at dksX10_runs_2 16 rfl rfl)
theorem dX10_runs_66 : decode cX10_runs 66 = .ok (.aload_n 0, 1) := dk_42 (dk_at dksX10_runs_2 18 rfl rfl)
theorem dX10_runs_67 : decode cX10_runs 67 = .ok (.invokevirtual 94, 3) := dk_182 0 94 (dk_at dksX10_runs_2 19 rfl rfl)
theorem dX10_runs_70 : decode cX10_runs 70 = .ok (.invokestatic 345, 3) := dk_184 1 89 (dk_at dksX10_runs_3 0 rfl rfl)
theorem dX10_runs_73 : decode cX10_runs 73 = .ok (.iastore, 1) := dk_79 (dk_at dksX10_runs_3 3 rfl rfl)
theorem dX10_runs_74 : decode cX10_runs 74 = .ok (.aload_n 0, 1) := dk_42 (dk_at dksX10_runs_3 4 rfl rfl)
theorem dX10_runs_75 : decode cX10_runs 75 = .ok (.getfield 48, 3) := dk_180 0 48 (dk_at dksX10_runs_3 5 rfl rfl)
theorem dX10_runs_78 : decode cX10_runs 78 = .ok (.iload 8, 2) := dk_21 8 (dk_at dksX10_runs_3 8 rfl rfl)
theorem dX10_runs_80 : decode cX10_runs 80 = .ok (.iload 7, 2) := dk_21 7 (dk_at dksX10_runs_3 10 rfl rfl)
theorem dX10_runs_82 : decode cX10_runs 82 = .ok (.iastore, 1) := dk_79 (dk_at dksX10_runs_3 12 rfl rfl)
theorem dX10_runs_83 : decode cX10_runs 83 = .ok (.aload_n 0, 1) := dk_42 (dk_at dksX10_runs_3 13 rfl rfl)
theorem dX10_runs_84 : decode cX10_runs 84 = .ok (.aload_n 0, 1) := dk_42 (dk_at dksX10_runs_3 14 rfl rfl)
theorem dX10_runs_85 : decode cX10_runs 85 = .ok (.getfield 368, 3) := dk_180 1 112 (dk_at dksX10_runs_3 15 rfl rfl)
theorem dX10_runs_88 : decode cX10_runs 88 = .ok (.ifCond .ge 17, 3) := dk_156 0 17 (dk_at dksX10_runs_3 18 rfl rfl)
theorem dX10_runs_91 : decode cX10_runs 91 = .ok (.iload 6, 2) := dk_21 6 (dk_at dksX10_runs_3 21 rfl rfl)
theorem dX10_runs_93 : decode cX10_runs 93 = .ok (.aload_n 0, 1) := dk_42 (dk_at dksX10_runs_3 23 rfl rfl)
theorem dX10_runs_94 : decode cX10_runs 94 = .ok (.invokevirtual 94, 3) := dk_182 0 94 (dk_at dksX10_runs_4 0 rfl rfl)
theorem dX10_runs_97 : decode cX10_runs 97 = .ok (.if_icmp .lt 8, 3) := dk_161 0 8 (dk_at dksX10_runs_4 3 rfl rfl)
theorem dX10_runs_100 : decode cX10_runs 100 = .ok (.iload 8, 2) := dk_21 8 (dk_at dksX10_runs_4 6 rfl rfl)
theorem dX10_runs_102 : decode cX10_runs 102 = .ok (.goto 7, 3) := dk_167 0 7 (dk_at dksX10_runs_4 8 rfl rfl)
theorem dX10_runs_105 : decode cX10_runs 105 = .ok (.aload_n 0, 1) := dk_42 (dk_at dksX10_runs_4 11 rfl rfl)
theorem dX10_runs_106 : decode cX10_runs 106 = .ok (.getfield 368, 3) := dk_180 1 112 (dk_at dksX10_runs_4 12 rfl rfl)
theorem dX10_runs_109 : decode cX10_runs 109 = .ok (.putfield 368, 3) := dk_181 1 112 (dk_at dksX10_runs_4 15 rfl rfl)
theorem dX10_runs_112 : decode cX10_runs 112 = .ok (.aload_n 0, 1) := dk_42 (dk_at dksX10_runs_4 18 rfl rfl)
theorem dX10_runs_113 : decode cX10_runs 113 = .ok (.getfield 368, 3) := dk_180 1 112 (dk_at dksX10_runs_4 19 rfl rfl)
theorem dX10_runs_116 : decode cX10_runs 116 = .ok (.ifCond .ge 91, 3) := dk_156 0 91 (dk_at dksX10_runs_5 0 rfl rfl)
theorem dX10_runs_119 : decode cX10_runs 119 = .ok (.iload 8, 2) := dk_21 8 (dk_at dksX10_runs_5 3 rfl rfl)
theorem dX10_runs_121 : decode cX10_runs 121 = .ok (.sipush 299, 3) := dk_17 1 43 (dk_at dksX10_runs_5 5 rfl rfl)
theorem dX10_runs_124 : decode cX10_runs 124 = .ok (.if_icmp .ne 6, 3) := dk_160 0 6 (dk_at dksX10_runs_5 8 rfl rfl)
theorem dX10_runs_127 : decode cX10_runs 127 = .ok (.goto 80, 3) := dk_167 0 80 (dk_at dksX10_runs_5 11 rfl rfl)
theorem dX10_runs_130 : decode cX10_runs 130 = .ok (.iload 4, 2) := dk_21 4 (dk_at dksX10_runs_5 14 rfl rfl)
theorem dX10_runs_132 : decode cX10_runs 132 = .ok (.ifCond .eq 7, 3) := dk_153 0 7 (dk_at dksX10_runs_5 16 rfl rfl)
theorem dX10_runs_135 : decode cX10_runs 135 = .ok (.iconst 0, 1) := dk_3 (dk_at dksX10_runs_5 19 rfl rfl)
theorem dX10_runs_136 : decode cX10_runs 136 = .ok (.goto 47, 3) := dk_167 0 47 (dk_at dksX10_runs_5 20 rfl rfl)
theorem dX10_runs_139 : decode cX10_runs 139 = .ok (.iload 6, 2) := dk_21 6 (dk_at dksX10_runs_6 0 rfl rfl)
theorem dX10_runs_141 : decode cX10_runs 141 = .ok (.aload_n 0, 1) := dk_42 (dk_at dksX10_runs_6 2 rfl rfl)
theorem dX10_runs_142 : decode cX10_runs 142 = .ok (.getfield 13, 3) := dk_180 0 13 (dk_at dksX10_runs_6 3 rfl rfl)
theorem dX10_runs_145 : decode cX10_runs 145 = .ok (.bipush 10, 2) := dk_16 10 (dk_at dksX10_runs_6 6 rfl rfl)
theorem dX10_runs_147 : decode cX10_runs 147 = .ok (.iaload, 1) := dk_46 (dk_at dksX10_runs_6 8 rfl rfl)
theorem dX10_runs_148 : decode cX10_runs 148 = .ok (.if_icmp .ge 21, 3) := dk_162 0 21 (dk_at dksX10_runs_6 9 rfl rfl)
theorem dX10_runs_151 : decode cX10_runs 151 = .ok (.bipush 99, 2) := dk_16 99 (dk_at dksX10_runs_6 12 rfl rfl)
theorem dX10_runs_153 : decode cX10_runs 153 = .ok (.iload 7, 2) := dk_21 7 (dk_at dksX10_runs_6 14 rfl rfl)
theorem dX10_runs_155 : decode cX10_runs 155 = .ok (.aload_n 0, 1) := dk_42 (dk_at dksX10_runs_6 16 rfl rfl)
theorem dX10_runs_156 : decode cX10_runs 156 = .ok (.getfield 13, 3) := dk_180 0 13 (dk_at dksX10_runs_6 17 rfl rfl)
theorem dX10_runs_159 : decode cX10_runs 159 = .ok (.bipush 11, 2) := dk_16 11 (dk_at dksX10_runs_6 20 rfl rfl)
theorem dX10_runs_161 : decode cX10_runs 161 = .ok (.iaload, 1) := dk_46 (dk_at dksX10_runs_6 22 rfl rfl)
theorem dX10_runs_162 : decode cX10_runs 162 = .ok (.iadd, 1) := dk_96 (dk_at dksX10_runs_6 23 rfl rfl)
theorem dX10_runs_163 : decode cX10_runs 163 = .ok (.invokestatic 345, 3) := dk_184 1 89 (dk_at dksX10_runs_7 0 rfl rfl)
theorem dX10_runs_166 : decode cX10_runs 166 = .ok (.goto 17, 3) := dk_167 0 17 (dk_at dksX10_runs_7 3 rfl rfl)
theorem dX10_runs_169 : decode cX10_runs 169 = .ok (.iconst 0, 1) := dk_3 (dk_at dksX10_runs_7 6 rfl rfl)
theorem dX10_runs_170 : decode cX10_runs 170 = .ok (.iload 7, 2) := dk_21 7 (dk_at dksX10_runs_7 7 rfl rfl)
theorem dX10_runs_172 : decode cX10_runs 172 = .ok (.aload_n 0, 1) := dk_42 (dk_at dksX10_runs_7 9 rfl rfl)
theorem dX10_runs_173 : decode cX10_runs 173 = .ok (.getfield 39, 3) := dk_180 0 39 (dk_at dksX10_runs_7 10 rfl rfl)
theorem dX10_runs_176 : decode cX10_runs 176 = .ok (.iload 8, 2) := dk_21 8 (dk_at dksX10_runs_7 13 rfl rfl)
theorem dX10_runs_178 : decode cX10_runs 178 = .ok (.iaload, 1) := dk_46 (dk_at dksX10_runs_7 15 rfl rfl)
theorem dX10_runs_179 : decode cX10_runs 179 = .ok (.isub, 1) := dk_100 (dk_at dksX10_runs_7 16 rfl rfl)
theorem dX10_runs_180 : decode cX10_runs 180 = .ok (.invokestatic 350, 3) := dk_184 1 94 (dk_at dksX10_runs_7 17 rfl rfl)
theorem dX10_runs_183 : decode cX10_runs 183 = .ok (.istore 7, 2) := dk_54 7 (dk_at dksX10_runs_7 20 rfl rfl)
theorem dX10_runs_185 : decode cX10_runs 185 = .ok (.aload_n 0, 1) := dk_42 (dk_at dksX10_runs_7 22 rfl rfl)
theorem dX10_runs_186 : decode cX10_runs 186 = .ok (.iload 6, 2) := dk_21 6 (dk_at dksX10_runs_8 0 rfl rfl)
theorem dX10_runs_188 : decode cX10_runs 188 = .ok (.aload_n 0, 1) := dk_42 (dk_at dksX10_runs_8 2 rfl rfl)
theorem dX10_runs_189 : decode cX10_runs 189 = .ok (.iload_n 1, 1) := dk_27 (dk_at dksX10_runs_8 3 rfl rfl)
theorem dX10_runs_190 : decode cX10_runs 190 = .ok (.iload 6, 2) := dk_21 6 (dk_at dksX10_runs_8 4 rfl rfl)
theorem dX10_runs_192 : decode cX10_runs 192 = .ok (.iload 8, 2) := dk_21 8 (dk_at dksX10_runs_8 6 rfl rfl)
theorem dX10_runs_194 : decode cX10_runs 194 = .ok (.invokevirtual 362, 3) := dk_182 1 106 (dk_at dksX10_runs_8 8 rfl rfl)
theorem dX10_runs_197 : decode cX10_runs 197 = .ok (.iadd, 1) := dk_96 (dk_at dksX10_runs_8 11 rfl rfl)
theorem dX10_runs_198 : decode cX10_runs 198 = .ok (.iload 8, 2) := dk_21 8 (dk_at dksX10_runs_8 12 rfl rfl)
theorem dX10_runs_200 : decode cX10_runs 200 = .ok (.iload 5, 2) := dk_21 5 (dk_at dksX10_runs_8 14 rfl rfl)
theorem dX10_runs_202 : decode cX10_runs 202 = .ok (.invokevirtual 371, 3) := dk_182 1 115 (dk_at dksX10_runs_8 16 rfl rfl)
theorem dX10_runs_205 : decode cX10_runs 205 = .ok (.istore 6, 2) := dk_54 6 (dk_at dksX10_runs_8 19 rfl rfl)
theorem dX10_runs_207 : decode cX10_runs 207 = .ok (.iinc 8 1, 3) := dk_132 8 1 (dk_at dksX10_runs_8 21 rfl rfl)
theorem dX10_runs_210 : decode cX10_runs 210 = .ok (.goto (-160), 3) := dk_167 255 96 (dk_at dksX10_runs_9 0 rfl rfl)
theorem dX10_runs_213 : decode cX10_runs 213 = .ok (.return_, 1) := dk_177 (dk_at dksX10_runs_9 3 rfl rfl)
abbrev cX10_floods : ByteArray := prog_20_method_72_code
def yX10_floods : MethodName := ⟨RX10, "floods", "(III)I"⟩
def dkwX10_floods_4 : List UInt8 := [132, 5, 1, 167, 255, 167, 21, 4, 172]
abbrev dktX10_floods_4 : List UInt8 := dkwX10_floods_4 ++ []
def dkwX10_floods_3 : List UInt8 := [46, 96, 54, 4, 42, 89, 180, 1, 109, 42, 180, 0, 13, 21, 6, 5, 96, 46, 96, 181, 1, 109]
abbrev dktX10_floods_3 : List UInt8 := dkwX10_floods_3 ++ dktX10_floods_4
def dkwX10_floods_2 : List UInt8 := [180, 0, 13, 21, 6, 4, 96, 46, 162, 0, 6, 167, 0, 35, 21, 4, 42, 180, 0, 13, 21, 6, 5, 96]
abbrev dktX10_floods_2 : List UInt8 := dkwX10_floods_2 ++ dktX10_floods_3
def dkwX10_floods_1 : List UInt8 := [54, 6, 21, 5, 29, 159, 0, 63, 42, 180, 0, 13, 21, 6, 46, 28, 160, 0, 52, 21, 4, 42]
abbrev dktX10_floods_1 : List UInt8 := dkwX10_floods_1 ++ dktX10_floods_2
def dkwX10_floods_0 : List UInt8 := [27, 54, 4, 3, 54, 5, 21, 5, 42, 180, 0, 13, 8, 46, 162, 0, 84, 16, 71, 6, 21, 5, 104, 96]
abbrev dktX10_floods_0 : List UInt8 := dkwX10_floods_0 ++ dktX10_floods_1
theorem dksX10_floods_0 : cX10_floods.data.toList.drop 0 = dktX10_floods_0 := by decide +kernel
theorem dksX10_floods_1 : cX10_floods.data.toList.drop 24 = dktX10_floods_1 := dk_seg dksX10_floods_0 24 rfl rfl
theorem dksX10_floods_2 : cX10_floods.data.toList.drop 46 = dktX10_floods_2 := dk_seg dksX10_floods_1 22 rfl rfl
theorem dksX10_floods_3 : cX10_floods.data.toList.drop 70 = dktX10_floods_3 := dk_seg dksX10_floods_2 24 rfl rfl
theorem dksX10_floods_4 : cX10_floods.data.toList.drop 92 = dktX10_floods_4 := dk_seg dksX10_floods_3 22 rfl rfl
theorem dX10_floods_0 : decode cX10_floods 0 = .ok (.iload_n 1, 1) := dk_27 (dk_at dksX10_floods_0 0 rfl rfl)
theorem dX10_floods_1 : decode cX10_floods 1 = .ok (.istore 4, 2) := dk_54 4 (dk_at dksX10_floods_0 1 rfl rfl)
theorem dX10_floods_3 : decode cX10_floods 3 = .ok (.iconst 0, 1) := dk_3 (dk_at dksX10_floods_0 3 rfl rfl)
theorem dX10_floods_4 : decode cX10_floods 4 = .ok (.istore 5, 2) := dk_54 5 (dk_at dksX10_floods_0 4 rfl rfl)
theorem dX10_floods_6 : decode cX10_floods 6 = .ok (.iload 5, 2) := dk_21 5 (dk_at dksX10_floods_0 6 rfl rfl)
theorem dX10_floods_8 : decode cX10_floods 8 = .ok (.aload_n 0, 1) := dk_42 (dk_at dksX10_floods_0 8 rfl rfl)
theorem dX10_floods_9 : decode cX10_floods 9 = .ok (.getfield 13, 3) := dk_180 0 13 (dk_at dksX10_floods_0 9 rfl rfl)
theorem dX10_floods_12 : decode cX10_floods 12 = .ok (.iconst 5, 1) := dk_8 (dk_at dksX10_floods_0 12 rfl rfl)
theorem dX10_floods_13 : decode cX10_floods 13 = .ok (.iaload, 1) := dk_46 (dk_at dksX10_floods_0 13 rfl rfl)
theorem dX10_floods_14 : decode cX10_floods 14 = .ok (.if_icmp .ge 84, 3) := dk_162 0 84 (dk_at dksX10_floods_0 14 rfl rfl)
theorem dX10_floods_17 : decode cX10_floods 17 = .ok (.bipush 71, 2) := dk_16 71 (dk_at dksX10_floods_0 17 rfl rfl)
theorem dX10_floods_19 : decode cX10_floods 19 = .ok (.iconst 3, 1) := dk_6 (dk_at dksX10_floods_0 19 rfl rfl)
theorem dX10_floods_20 : decode cX10_floods 20 = .ok (.iload 5, 2) := dk_21 5 (dk_at dksX10_floods_0 20 rfl rfl)
theorem dX10_floods_22 : decode cX10_floods 22 = .ok (.imul, 1) := dk_104 (dk_at dksX10_floods_0 22 rfl rfl)
theorem dX10_floods_23 : decode cX10_floods 23 = .ok (.iadd, 1) := dk_96 (dk_at dksX10_floods_0 23 rfl rfl)
theorem dX10_floods_24 : decode cX10_floods 24 = .ok (.istore 6, 2) := dk_54 6 (dk_at dksX10_floods_1 0 rfl rfl)
theorem dX10_floods_26 : decode cX10_floods 26 = .ok (.iload 5, 2) := dk_21 5 (dk_at dksX10_floods_1 2 rfl rfl)
theorem dX10_floods_28 : decode cX10_floods 28 = .ok (.iload_n 3, 1) := dk_29 (dk_at dksX10_floods_1 4 rfl rfl)
theorem dX10_floods_29 : decode cX10_floods 29 = .ok (.if_icmp .eq 63, 3) := dk_159 0 63 (dk_at dksX10_floods_1 5 rfl rfl)
theorem dX10_floods_32 : decode cX10_floods 32 = .ok (.aload_n 0, 1) := dk_42 (dk_at dksX10_floods_1 8 rfl rfl)
theorem dX10_floods_33 : decode cX10_floods 33 = .ok (.getfield 13, 3) := dk_180 0 13 (dk_at dksX10_floods_1 9 rfl rfl)
theorem dX10_floods_36 : decode cX10_floods 36 = .ok (.iload 6, 2) := dk_21 6 (dk_at dksX10_floods_1 12 rfl rfl)
theorem dX10_floods_38 : decode cX10_floods 38 = .ok (.iaload, 1) := dk_46 (dk_at dksX10_floods_1 14 rfl rfl)
theorem dX10_floods_39 : decode cX10_floods 39 = .ok (.iload_n 2, 1) := dk_28 (dk_at dksX10_floods_1 15 rfl rfl)
theorem dX10_floods_40 : decode cX10_floods 40 = .ok (.if_icmp .ne 52, 3) := dk_160 0 52 (dk_at dksX10_floods_1 16 rfl rfl)
theorem dX10_floods_43 : decode cX10_floods 43 = .ok (.iload 4, 2) := dk_21 4 (dk_at dksX10_floods_1 19 rfl rfl)
theorem dX10_floods_45 : decode cX10_floods 45 = .ok (.aload_n 0, 1) := dk_42 (dk_at dksX10_floods_1 21 rfl rfl)
theorem dX10_floods_46 : decode cX10_floods 46 = .ok (.getfield 13, 3) := dk_180 0 13 (dk_at dksX10_floods_2 0 rfl rfl)
theorem dX10_floods_49 : decode cX10_floods 49 = .ok (.iload 6, 2) := dk_21 6 (dk_at dksX10_floods_2 3 rfl rfl)
theorem dX10_floods_51 : decode cX10_floods 51 = .ok (.iconst 1, 1) := dk_4 (dk_at dksX10_floods_2 5 rfl rfl)
theorem dX10_floods_52 : decode cX10_floods 52 = .ok (.iadd, 1) := dk_96 (dk_at dksX10_floods_2 6 rfl rfl)
theorem dX10_floods_53 : decode cX10_floods 53 = .ok (.iaload, 1) := dk_46 (dk_at dksX10_floods_2 7 rfl rfl)
theorem dX10_floods_54 : decode cX10_floods 54 = .ok (.if_icmp .ge 6, 3) := dk_162 0 6 (dk_at dksX10_floods_2 8 rfl rfl)
theorem dX10_floods_57 : decode cX10_floods 57 = .ok (.goto 35, 3) := dk_167 0 35 (dk_at dksX10_floods_2 11 rfl rfl)
theorem dX10_floods_60 : decode cX10_floods 60 = .ok (.iload 4, 2) := dk_21 4 (dk_at dksX10_floods_2 14 rfl rfl)
theorem dX10_floods_62 : decode cX10_floods 62 = .ok (.aload_n 0, 1) := dk_42 (dk_at dksX10_floods_2 16 rfl rfl)
theorem dX10_floods_63 : decode cX10_floods 63 = .ok (.getfield 13, 3) := dk_180 0 13 (dk_at dksX10_floods_2 17 rfl rfl)
theorem dX10_floods_66 : decode cX10_floods 66 = .ok (.iload 6, 2) := dk_21 6 (dk_at dksX10_floods_2 20 rfl rfl)
theorem dX10_floods_68 : decode cX10_floods 68 = .ok (.iconst 2, 1) := dk_5 (dk_at dksX10_floods_2 22 rfl rfl)
theorem dX10_floods_69 : decode cX10_floods 69 = .ok (.iadd, 1) := dk_96 (dk_at dksX10_floods_2 23 rfl rfl)
theorem dX10_floods_70 : decode cX10_floods 70 = .ok (.iaload, 1) := dk_46 (dk_at dksX10_floods_3 0 rfl rfl)
theorem dX10_floods_71 : decode cX10_floods 71 = .ok (.iadd, 1) := dk_96 (dk_at dksX10_floods_3 1 rfl rfl)
theorem dX10_floods_72 : decode cX10_floods 72 = .ok (.istore 4, 2) := dk_54 4 (dk_at dksX10_floods_3 2 rfl rfl)
theorem dX10_floods_74 : decode cX10_floods 74 = .ok (.aload_n 0, 1) := dk_42 (dk_at dksX10_floods_3 4 rfl rfl)
theorem dX10_floods_75 : decode cX10_floods 75 = .ok (.dup, 1) := dk_89 (dk_at dksX10_floods_3 5 rfl rfl)
theorem dX10_floods_76 : decode cX10_floods 76 = .ok (.getfield 365, 3) := dk_180 1 109 (dk_at dksX10_floods_3 6 rfl rfl)
theorem dX10_floods_79 : decode cX10_floods 79 = .ok (.aload_n 0, 1) := dk_42 (dk_at dksX10_floods_3 9 rfl rfl)
theorem dX10_floods_80 : decode cX10_floods 80 = .ok (.getfield 13, 3) := dk_180 0 13 (dk_at dksX10_floods_3 10 rfl rfl)
theorem dX10_floods_83 : decode cX10_floods 83 = .ok (.iload 6, 2) := dk_21 6 (dk_at dksX10_floods_3 13 rfl rfl)
theorem dX10_floods_85 : decode cX10_floods 85 = .ok (.iconst 2, 1) := dk_5 (dk_at dksX10_floods_3 15 rfl rfl)
theorem dX10_floods_86 : decode cX10_floods 86 = .ok (.iadd, 1) := dk_96 (dk_at dksX10_floods_3 16 rfl rfl)
theorem dX10_floods_87 : decode cX10_floods 87 = .ok (.iaload, 1) := dk_46 (dk_at dksX10_floods_3 17 rfl rfl)
theorem dX10_floods_88 : decode cX10_floods 88 = .ok (.iadd, 1) := dk_96 (dk_at dksX10_floods_3 18 rfl rfl)
theorem dX10_floods_89 : decode cX10_floods 89 = .ok (.putfield 365, 3) := dk_181 1 109 (dk_at dksX10_floods_3 19 rfl rfl)
theorem dX10_floods_92 : decode cX10_floods 92 = .ok (.iinc 5 1, 3) := dk_132 5 1 (dk_at dksX10_floods_4 0 rfl rfl)
theorem dX10_floods_95 : decode cX10_floods 95 = .ok (.goto (-89), 3) := dk_167 255 167 (dk_at dksX10_floods_4 3 rfl rfl)
theorem dX10_floods_98 : decode cX10_floods 98 = .ok (.iload 4, 2) := dk_21 4 (dk_at dksX10_floods_4 6 rfl rfl)
theorem dX10_floods_100 : decode cX10_floods 100 = .ok (.ireturn, 1) := dk_172 (dk_at dksX10_floods_4 8 rfl rfl)
abbrev cX10_letter : ByteArray := prog_20_method_83_code
def yX10_letter : MethodName := ⟨RX10, "letter", "(II)I"⟩
def dkwX10_letter_4 : List UInt8 := [167, 0, 8, 42, 27, 182, 1, 152, 172]
abbrev dktX10_letter_4 : List UInt8 := dkwX10_letter_4 ++ []
def dkwX10_letter_3 : List UInt8 := [167, 0, 31, 28, 16, 8, 160, 0, 20, 29, 156, 0, 7, 2, 167, 0, 17, 42, 180, 0, 48, 29, 46]
abbrev dktX10_letter_3 : List UInt8 := dkwX10_letter_3 ++ dktX10_letter_4
def dkwX10_letter_2 : List UInt8 := [162, 0, 10, 42, 27, 28, 182, 0, 82, 172, 42, 27, 182, 1, 131, 62, 28, 16, 7, 160, 0, 7, 29]
abbrev dktX10_letter_2 : List UInt8 := dkwX10_letter_2 ++ dktX10_letter_3
def dkwX10_letter_1 : List UInt8 := [184, 0, 90, 154, 0, 7, 4, 167, 0, 4, 3, 5, 182, 1, 44, 153, 0, 5, 3, 172, 28, 16, 7]
abbrev dktX10_letter_1 : List UInt8 := dkwX10_letter_1 ++ dktX10_letter_2
def dkwX10_letter_0 : List UInt8 := [42, 3, 181, 0, 3, 42, 42, 27, 182, 1, 149, 4, 182, 1, 44, 154, 0, 26, 42, 28, 3, 16, 9]
abbrev dktX10_letter_0 : List UInt8 := dkwX10_letter_0 ++ dktX10_letter_1
theorem dksX10_letter_0 : cX10_letter.data.toList.drop 0 = dktX10_letter_0 := by decide +kernel
theorem dksX10_letter_1 : cX10_letter.data.toList.drop 23 = dktX10_letter_1 := dk_seg dksX10_letter_0 23 rfl rfl
theorem dksX10_letter_2 : cX10_letter.data.toList.drop 46 = dktX10_letter_2 := dk_seg dksX10_letter_1 23 rfl rfl
theorem dksX10_letter_3 : cX10_letter.data.toList.drop 69 = dktX10_letter_3 := dk_seg dksX10_letter_2 23 rfl rfl
theorem dksX10_letter_4 : cX10_letter.data.toList.drop 92 = dktX10_letter_4 := dk_seg dksX10_letter_3 23 rfl rfl
theorem dX10_letter_0 : decode cX10_letter 0 = .ok (.aload_n 0, 1) := dk_42 (dk_at dksX10_letter_0 0 rfl rfl)
theorem dX10_letter_1 : decode cX10_letter 1 = .ok (.iconst 0, 1) := dk_3 (dk_at dksX10_letter_0 1 rfl rfl)
theorem dX10_letter_2 : decode cX10_letter 2 = .ok (.putfield 3, 3) := dk_181 0 3 (dk_at dksX10_letter_0 2 rfl rfl)
theorem dX10_letter_5 : decode cX10_letter 5 = .ok (.aload_n 0, 1) := dk_42 (dk_at dksX10_letter_0 5 rfl rfl)
theorem dX10_letter_6 : decode cX10_letter 6 = .ok (.aload_n 0, 1) := dk_42 (dk_at dksX10_letter_0 6 rfl rfl)
theorem dX10_letter_7 : decode cX10_letter 7 = .ok (.iload_n 1, 1) := dk_27 (dk_at dksX10_letter_0 7 rfl rfl)
theorem dX10_letter_8 : decode cX10_letter 8 = .ok (.invokevirtual 405, 3) := dk_182 1 149 (dk_at dksX10_letter_0 8 rfl rfl)
theorem dX10_letter_11 : decode cX10_letter 11 = .ok (.iconst 1, 1) := dk_4 (dk_at dksX10_letter_0 11 rfl rfl)
theorem dX10_letter_12 : decode cX10_letter 12 = .ok (.invokevirtual 300, 3) := dk_182 1 44 (dk_at dksX10_letter_0 12 rfl rfl)
theorem dX10_letter_15 : decode cX10_letter 15 = .ok (.ifCond .ne 26, 3) := dk_154 0 26 (dk_at dksX10_letter_0 15 rfl rfl)
theorem dX10_letter_18 : decode cX10_letter 18 = .ok (.aload_n 0, 1) := dk_42 (dk_at dksX10_letter_0 18 rfl rfl)
theorem dX10_letter_19 : decode cX10_letter 19 = .ok (.iload_n 2, 1) := dk_28 (dk_at dksX10_letter_0 19 rfl rfl)
theorem dX10_letter_20 : decode cX10_letter 20 = .ok (.iconst 0, 1) := dk_3 (dk_at dksX10_letter_0 20 rfl rfl)
theorem dX10_letter_21 : decode cX10_letter 21 = .ok (.bipush 9, 2) := dk_16 9 (dk_at dksX10_letter_0 21 rfl rfl)
theorem dX10_letter_23 : decode cX10_letter 23 = .ok (.invokestatic 90, 3) := dk_184 0 90 (dk_at dksX10_letter_1 0 rfl rfl)
theorem dX10_letter_26 : decode cX10_letter 26 = .ok (.ifCond .ne 7, 3) := dk_154 0 7 (dk_at dksX10_letter_1 3 rfl rfl)
theorem dX10_letter_29 : decode cX10_letter 29 = .ok (.iconst 1, 1) := dk_4 (dk_at dksX10_letter_1 6 rfl rfl)
theorem dX10_letter_30 : decode cX10_letter 30 = .ok (.goto 4, 3) := dk_167 0 4 (dk_at dksX10_letter_1 7 rfl rfl)
theorem dX10_letter_33 : decode cX10_letter 33 = .ok (.iconst 0, 1) := dk_3 (dk_at dksX10_letter_1 10 rfl rfl)
theorem dX10_letter_34 : decode cX10_letter 34 = .ok (.iconst 2, 1) := dk_5 (dk_at dksX10_letter_1 11 rfl rfl)
theorem dX10_letter_35 : decode cX10_letter 35 = .ok (.invokevirtual 300, 3) := dk_182 1 44 (dk_at dksX10_letter_1 12 rfl rfl)
theorem dX10_letter_38 : decode cX10_letter 38 = .ok (.ifCond .eq 5, 3) := dk_153 0 5 (dk_at dksX10_letter_1 15 rfl rfl)
theorem dX10_letter_41 : decode cX10_letter 41 = .ok (.iconst 0, 1) := dk_3 (dk_at dksX10_letter_1 18 rfl rfl)
theorem dX10_letter_42 : decode cX10_letter 42 = .ok (.ireturn, 1) := dk_172 (dk_at dksX10_letter_1 19 rfl rfl)
theorem dX10_letter_43 : decode cX10_letter 43 = .ok (.iload_n 2, 1) := dk_28 (dk_at dksX10_letter_1 20 rfl rfl)
theorem dX10_letter_44 : decode cX10_letter 44 = .ok (.bipush 7, 2) := dk_16 7 (dk_at dksX10_letter_1 21 rfl rfl)
theorem dX10_letter_46 : decode cX10_letter 46 = .ok (.if_icmp .ge 10, 3) := dk_162 0 10 (dk_at dksX10_letter_2 0 rfl rfl)
theorem dX10_letter_49 : decode cX10_letter 49 = .ok (.aload_n 0, 1) := dk_42 (dk_at dksX10_letter_2 3 rfl rfl)
theorem dX10_letter_50 : decode cX10_letter 50 = .ok (.iload_n 1, 1) := dk_27 (dk_at dksX10_letter_2 4 rfl rfl)
theorem dX10_letter_51 : decode cX10_letter 51 = .ok (.iload_n 2, 1) := dk_28 (dk_at dksX10_letter_2 5 rfl rfl)
theorem dX10_letter_52 : decode cX10_letter 52 = .ok (.invokevirtual 82, 3) := dk_182 0 82 (dk_at dksX10_letter_2 6 rfl rfl)
theorem dX10_letter_55 : decode cX10_letter 55 = .ok (.ireturn, 1) := dk_172 (dk_at dksX10_letter_2 9 rfl rfl)
theorem dX10_letter_56 : decode cX10_letter 56 = .ok (.aload_n 0, 1) := dk_42 (dk_at dksX10_letter_2 10 rfl rfl)
theorem dX10_letter_57 : decode cX10_letter 57 = .ok (.iload_n 1, 1) := dk_27 (dk_at dksX10_letter_2 11 rfl rfl)
theorem dX10_letter_58 : decode cX10_letter 58 = .ok (.invokevirtual 387, 3) := dk_182 1 131 (dk_at dksX10_letter_2 12 rfl rfl)
theorem dX10_letter_61 : decode cX10_letter 61 = .ok (.istore_n 3, 1) := dk_62 (dk_at dksX10_letter_2 15 rfl rfl)
theorem dX10_letter_62 : decode cX10_letter 62 = .ok (.iload_n 2, 1) := dk_28 (dk_at dksX10_letter_2 16 rfl rfl)
theorem dX10_letter_63 : decode cX10_letter 63 = .ok (.bipush 7, 2) := dk_16 7 (dk_at dksX10_letter_2 17 rfl rfl)
theorem dX10_letter_65 : decode cX10_letter 65 = .ok (.if_icmp .ne 7, 3) := dk_160 0 7 (dk_at dksX10_letter_2 19 rfl rfl)
theorem dX10_letter_68 : decode cX10_letter 68 = .ok (.iload_n 3, 1) := dk_29 (dk_at dksX10_letter_2 22 rfl rfl)
theorem dX10_letter_69 : decode cX10_letter 69 = .ok (.goto 31, 3) := dk_167 0 31 (dk_at dksX10_letter_3 0 rfl rfl)
theorem dX10_letter_72 : decode cX10_letter 72 = .ok (.iload_n 2, 1) := dk_28 (dk_at dksX10_letter_3 3 rfl rfl)
theorem dX10_letter_73 : decode cX10_letter 73 = .ok (.bipush 8, 2) := dk_16 8 (dk_at dksX10_letter_3 4 rfl rfl)
theorem dX10_letter_75 : decode cX10_letter 75 = .ok (.if_icmp .ne 20, 3) := dk_160 0 20 (dk_at dksX10_letter_3 6 rfl rfl)
theorem dX10_letter_78 : decode cX10_letter 78 = .ok (.iload_n 3, 1) := dk_29 (dk_at dksX10_letter_3 9 rfl rfl)
theorem dX10_letter_79 : decode cX10_letter 79 = .ok (.ifCond .ge 7, 3) := dk_156 0 7 (dk_at dksX10_letter_3 10 rfl rfl)
theorem dX10_letter_82 : decode cX10_letter 82 = .ok (.iconst (-1), 1) := dk_2 (dk_at dksX10_letter_3 13 rfl rfl)
theorem dX10_letter_83 : decode cX10_letter 83 = .ok (.goto 17, 3) := dk_167 0 17 (dk_at dksX10_letter_3 14 rfl rfl)
theorem dX10_letter_86 : decode cX10_letter 86 = .ok (.aload_n 0, 1) := dk_42 (dk_at dksX10_letter_3 17 rfl rfl)
theorem dX10_letter_87 : decode cX10_letter 87 = .ok (.getfield 48, 3) := dk_180 0 48 (dk_at dksX10_letter_3 18 rfl rfl)
theorem dX10_letter_90 : decode cX10_letter 90 = .ok (.iload_n 3, 1) := dk_29 (dk_at dksX10_letter_3 21 rfl rfl)
theorem dX10_letter_91 : decode cX10_letter 91 = .ok (.iaload, 1) := dk_46 (dk_at dksX10_letter_3 22 rfl rfl)
theorem dX10_letter_92 : decode cX10_letter 92 = .ok (.goto 8, 3) := dk_167 0 8 (dk_at dksX10_letter_4 0 rfl rfl)
theorem dX10_letter_95 : decode cX10_letter 95 = .ok (.aload_n 0, 1) := dk_42 (dk_at dksX10_letter_4 3 rfl rfl)
theorem dX10_letter_96 : decode cX10_letter 96 = .ok (.iload_n 1, 1) := dk_27 (dk_at dksX10_letter_4 4 rfl rfl)
theorem dX10_letter_97 : decode cX10_letter 97 = .ok (.invokevirtual 408, 3) := dk_182 1 152 (dk_at dksX10_letter_4 5 rfl rfl)
theorem dX10_letter_100 : decode cX10_letter 100 = .ok (.ireturn, 1) := dk_172 (dk_at dksX10_letter_4 8 rfl rfl)
abbrev cX10_noLetter : ByteArray := prog_20_method_22_code
def yX10_noLetter : MethodName := ⟨RX10, "noLetter", "(I)Z"⟩
def dkwX10_noLetter_0 : List UInt8 := [27, 3, 42, 182, 0, 100, 4, 100, 184, 0, 90, 154, 0, 7, 4, 167, 0, 4, 3, 172]
abbrev dktX10_noLetter_0 : List UInt8 := dkwX10_noLetter_0 ++ []
theorem dksX10_noLetter_0 : cX10_noLetter.data.toList.drop 0 = dktX10_noLetter_0 := by decide +kernel
theorem dX10_noLetter_0 : decode cX10_noLetter 0 = .ok (.iload_n 1, 1) := dk_27 (dk_at dksX10_noLetter_0 0 rfl rfl)
theorem dX10_noLetter_1 : decode cX10_noLetter 1 = .ok (.iconst 0, 1) := dk_3 (dk_at dksX10_noLetter_0 1 rfl rfl)
theorem dX10_noLetter_2 : decode cX10_noLetter 2 = .ok (.aload_n 0, 1) := dk_42 (dk_at dksX10_noLetter_0 2 rfl rfl)
theorem dX10_noLetter_3 : decode cX10_noLetter 3 = .ok (.invokevirtual 100, 3) := dk_182 0 100 (dk_at dksX10_noLetter_0 3 rfl rfl)
theorem dX10_noLetter_6 : decode cX10_noLetter 6 = .ok (.iconst 1, 1) := dk_4 (dk_at dksX10_noLetter_0 6 rfl rfl)
theorem dX10_noLetter_7 : decode cX10_noLetter 7 = .ok (.isub, 1) := dk_100 (dk_at dksX10_noLetter_0 7 rfl rfl)
theorem dX10_noLetter_8 : decode cX10_noLetter 8 = .ok (.invokestatic 90, 3) := dk_184 0 90 (dk_at dksX10_noLetter_0 8 rfl rfl)
theorem dX10_noLetter_11 : decode cX10_noLetter 11 = .ok (.ifCond .ne 7, 3) := dk_154 0 7 (dk_at dksX10_noLetter_0 11 rfl rfl)
theorem dX10_noLetter_14 : decode cX10_noLetter 14 = .ok (.iconst 1, 1) := dk_4 (dk_at dksX10_noLetter_0 14 rfl rfl)
theorem dX10_noLetter_15 : decode cX10_noLetter 15 = .ok (.goto 4, 3) := dk_167 0 4 (dk_at dksX10_noLetter_0 15 rfl rfl)
theorem dX10_noLetter_18 : decode cX10_noLetter 18 = .ok (.iconst 0, 1) := dk_3 (dk_at dksX10_noLetter_0 18 rfl rfl)
theorem dX10_noLetter_19 : decode cX10_noLetter 19 = .ok (.ireturn, 1) := dk_172 (dk_at dksX10_noLetter_0 19 rfl rfl)
abbrev cX10_bareFrom : ByteArray := prog_20_method_82_code
def yX10_bareFrom : MethodName := ⟨RX10, "bareFrom", "(I)I"⟩
def dkwX10_bareFrom_1 : List UInt8 := [167, 255, 235, 2, 172]
abbrev dktX10_bareFrom_1 : List UInt8 := dkwX10_bareFrom_1 ++ []
def dkwX10_bareFrom_0 : List UInt8 := [3, 61, 28, 17, 1, 44, 162, 0, 20, 42, 27, 28, 182, 1, 146, 153, 0, 5, 28, 172, 132, 2, 1]
abbrev dktX10_bareFrom_0 : List UInt8 := dkwX10_bareFrom_0 ++ dktX10_bareFrom_1
theorem dksX10_bareFrom_0 : cX10_bareFrom.data.toList.drop 0 = dktX10_bareFrom_0 := by decide +kernel
theorem dksX10_bareFrom_1 : cX10_bareFrom.data.toList.drop 23 = dktX10_bareFrom_1 := dk_seg dksX10_bareFrom_0 23 rfl rfl
theorem dX10_bareFrom_0 : decode cX10_bareFrom 0 = .ok (.iconst 0, 1) := dk_3 (dk_at dksX10_bareFrom_0 0 rfl rfl)
theorem dX10_bareFrom_1 : decode cX10_bareFrom 1 = .ok (.istore_n 2, 1) := dk_61 (dk_at dksX10_bareFrom_0 1 rfl rfl)
theorem dX10_bareFrom_2 : decode cX10_bareFrom 2 = .ok (.iload_n 2, 1) := dk_28 (dk_at dksX10_bareFrom_0 2 rfl rfl)
theorem dX10_bareFrom_3 : decode cX10_bareFrom 3 = .ok (.sipush 300, 3) := dk_17 1 44 (dk_at dksX10_bareFrom_0 3 rfl rfl)
theorem dX10_bareFrom_6 : decode cX10_bareFrom 6 = .ok (.if_icmp .ge 20, 3) := dk_162 0 20 (dk_at dksX10_bareFrom_0 6 rfl rfl)
theorem dX10_bareFrom_9 : decode cX10_bareFrom 9 = .ok (.aload_n 0, 1) := dk_42 (dk_at dksX10_bareFrom_0 9 rfl rfl)
theorem dX10_bareFrom_10 : decode cX10_bareFrom 10 = .ok (.iload_n 1, 1) := dk_27 (dk_at dksX10_bareFrom_0 10 rfl rfl)
theorem dX10_bareFrom_11 : decode cX10_bareFrom 11 = .ok (.iload_n 2, 1) := dk_28 (dk_at dksX10_bareFrom_0 11 rfl rfl)
theorem dX10_bareFrom_12 : decode cX10_bareFrom 12 = .ok (.invokevirtual 402, 3) := dk_182 1 146 (dk_at dksX10_bareFrom_0 12 rfl rfl)
theorem dX10_bareFrom_15 : decode cX10_bareFrom 15 = .ok (.ifCond .eq 5, 3) := dk_153 0 5 (dk_at dksX10_bareFrom_0 15 rfl rfl)
theorem dX10_bareFrom_18 : decode cX10_bareFrom 18 = .ok (.iload_n 2, 1) := dk_28 (dk_at dksX10_bareFrom_0 18 rfl rfl)
theorem dX10_bareFrom_19 : decode cX10_bareFrom 19 = .ok (.ireturn, 1) := dk_172 (dk_at dksX10_bareFrom_0 19 rfl rfl)
theorem dX10_bareFrom_20 : decode cX10_bareFrom 20 = .ok (.iinc 2 1, 3) := dk_132 2 1 (dk_at dksX10_bareFrom_0 20 rfl rfl)
theorem dX10_bareFrom_23 : decode cX10_bareFrom 23 = .ok (.goto (-21), 3) := dk_167 255 235 (dk_at dksX10_bareFrom_1 0 rfl rfl)
theorem dX10_bareFrom_26 : decode cX10_bareFrom 26 = .ok (.iconst (-1), 1) := dk_2 (dk_at dksX10_bareFrom_1 3 rfl rfl)
theorem dX10_bareFrom_27 : decode cX10_bareFrom 27 = .ok (.ireturn, 1) := dk_172 (dk_at dksX10_bareFrom_1 4 rfl rfl)
abbrev cX10_isBare : ByteArray := prog_20_method_78_code
def yX10_isBare : MethodName := ⟨RX10, "isBare", "(II)Z"⟩
def dkwX10_isBare_1 : List UInt8 := [154, 0, 7, 4, 167, 0, 4, 3, 172]
abbrev dktX10_isBare_1 : List UInt8 := dkwX10_isBare_1 ++ []
def dkwX10_isBare_0 : List UInt8 := [28, 42, 27, 6, 182, 0, 82, 164, 0, 24, 42, 28, 182, 1, 128, 153, 0, 16, 42, 180, 0, 48, 28, 46]
abbrev dktX10_isBare_0 : List UInt8 := dkwX10_isBare_0 ++ dktX10_isBare_1
theorem dksX10_isBare_0 : cX10_isBare.data.toList.drop 0 = dktX10_isBare_0 := by decide +kernel
theorem dksX10_isBare_1 : cX10_isBare.data.toList.drop 24 = dktX10_isBare_1 := dk_seg dksX10_isBare_0 24 rfl rfl
theorem dX10_isBare_0 : decode cX10_isBare 0 = .ok (.iload_n 2, 1) := dk_28 (dk_at dksX10_isBare_0 0 rfl rfl)
theorem dX10_isBare_1 : decode cX10_isBare 1 = .ok (.aload_n 0, 1) := dk_42 (dk_at dksX10_isBare_0 1 rfl rfl)
theorem dX10_isBare_2 : decode cX10_isBare 2 = .ok (.iload_n 1, 1) := dk_27 (dk_at dksX10_isBare_0 2 rfl rfl)
theorem dX10_isBare_3 : decode cX10_isBare 3 = .ok (.iconst 3, 1) := dk_6 (dk_at dksX10_isBare_0 3 rfl rfl)
theorem dX10_isBare_4 : decode cX10_isBare 4 = .ok (.invokevirtual 82, 3) := dk_182 0 82 (dk_at dksX10_isBare_0 4 rfl rfl)
theorem dX10_isBare_7 : decode cX10_isBare 7 = .ok (.if_icmp .le 24, 3) := dk_164 0 24 (dk_at dksX10_isBare_0 7 rfl rfl)
theorem dX10_isBare_10 : decode cX10_isBare 10 = .ok (.aload_n 0, 1) := dk_42 (dk_at dksX10_isBare_0 10 rfl rfl)
theorem dX10_isBare_11 : decode cX10_isBare 11 = .ok (.iload_n 2, 1) := dk_28 (dk_at dksX10_isBare_0 11 rfl rfl)
theorem dX10_isBare_12 : decode cX10_isBare 12 = .ok (.invokevirtual 384, 3) := dk_182 1 128 (dk_at dksX10_isBare_0 12 rfl rfl)
theorem dX10_isBare_15 : decode cX10_isBare 15 = .ok (.ifCond .eq 16, 3) := dk_153 0 16 (dk_at dksX10_isBare_0 15 rfl rfl)
theorem dX10_isBare_18 : decode cX10_isBare 18 = .ok (.aload_n 0, 1) := dk_42 (dk_at dksX10_isBare_0 18 rfl rfl)
theorem dX10_isBare_19 : decode cX10_isBare 19 = .ok (.getfield 48, 3) := dk_180 0 48 (dk_at dksX10_isBare_0 19 rfl rfl)
theorem dX10_isBare_22 : decode cX10_isBare 22 = .ok (.iload_n 2, 1) := dk_28 (dk_at dksX10_isBare_0 22 rfl rfl)
theorem dX10_isBare_23 : decode cX10_isBare 23 = .ok (.iaload, 1) := dk_46 (dk_at dksX10_isBare_0 23 rfl rfl)
theorem dX10_isBare_24 : decode cX10_isBare 24 = .ok (.ifCond .ne 7, 3) := dk_154 0 7 (dk_at dksX10_isBare_1 0 rfl rfl)
theorem dX10_isBare_27 : decode cX10_isBare 27 = .ok (.iconst 1, 1) := dk_4 (dk_at dksX10_isBare_1 3 rfl rfl)
theorem dX10_isBare_28 : decode cX10_isBare 28 = .ok (.goto 4, 3) := dk_167 0 4 (dk_at dksX10_isBare_1 4 rfl rfl)
theorem dX10_isBare_31 : decode cX10_isBare 31 = .ok (.iconst 0, 1) := dk_3 (dk_at dksX10_isBare_1 7 rfl rfl)
theorem dX10_isBare_32 : decode cX10_isBare 32 = .ok (.ireturn, 1) := dk_172 (dk_at dksX10_isBare_1 8 rfl rfl)
abbrev cX10_isInIce : ByteArray := prog_20_method_77_code
def yX10_isInIce : MethodName := ⟨RX10, "isInIce", "(I)Z"⟩
def dkwX10_isInIce_1 : List UInt8 := [167, 0, 4, 3, 172]
abbrev dktX10_isInIce_1 : List UInt8 := dkwX10_isInIce_1 ++ []
def dkwX10_isInIce_0 : List UInt8 := [42, 180, 0, 45, 27, 46, 155, 0, 20, 42, 180, 0, 45, 27, 46, 42, 182, 0, 94, 162, 0, 7, 4]
abbrev dktX10_isInIce_0 : List UInt8 := dkwX10_isInIce_0 ++ dktX10_isInIce_1
theorem dksX10_isInIce_0 : cX10_isInIce.data.toList.drop 0 = dktX10_isInIce_0 := by decide +kernel
theorem dksX10_isInIce_1 : cX10_isInIce.data.toList.drop 23 = dktX10_isInIce_1 := dk_seg dksX10_isInIce_0 23 rfl rfl
theorem dX10_isInIce_0 : decode cX10_isInIce 0 = .ok (.aload_n 0, 1) := dk_42 (dk_at dksX10_isInIce_0 0 rfl rfl)
theorem dX10_isInIce_1 : decode cX10_isInIce 1 = .ok (.getfield 45, 3) := dk_180 0 45 (dk_at dksX10_isInIce_0 1 rfl rfl)
theorem dX10_isInIce_4 : decode cX10_isInIce 4 = .ok (.iload_n 1, 1) := dk_27 (dk_at dksX10_isInIce_0 4 rfl rfl)
theorem dX10_isInIce_5 : decode cX10_isInIce 5 = .ok (.iaload, 1) := dk_46 (dk_at dksX10_isInIce_0 5 rfl rfl)
theorem dX10_isInIce_6 : decode cX10_isInIce 6 = .ok (.ifCond .lt 20, 3) := dk_155 0 20 (dk_at dksX10_isInIce_0 6 rfl rfl)
theorem dX10_isInIce_9 : decode cX10_isInIce 9 = .ok (.aload_n 0, 1) := dk_42 (dk_at dksX10_isInIce_0 9 rfl rfl)
theorem dX10_isInIce_10 : decode cX10_isInIce 10 = .ok (.getfield 45, 3) := dk_180 0 45 (dk_at dksX10_isInIce_0 10 rfl rfl)
theorem dX10_isInIce_13 : decode cX10_isInIce 13 = .ok (.iload_n 1, 1) := dk_27 (dk_at dksX10_isInIce_0 13 rfl rfl)
theorem dX10_isInIce_14 : decode cX10_isInIce 14 = .ok (.iaload, 1) := dk_46 (dk_at dksX10_isInIce_0 14 rfl rfl)
theorem dX10_isInIce_15 : decode cX10_isInIce 15 = .ok (.aload_n 0, 1) := dk_42 (dk_at dksX10_isInIce_0 15 rfl rfl)
theorem dX10_isInIce_16 : decode cX10_isInIce 16 = .ok (.invokevirtual 94, 3) := dk_182 0 94 (dk_at dksX10_isInIce_0 16 rfl rfl)
theorem dX10_isInIce_19 : decode cX10_isInIce 19 = .ok (.if_icmp .ge 7, 3) := dk_162 0 7 (dk_at dksX10_isInIce_0 19 rfl rfl)
theorem dX10_isInIce_22 : decode cX10_isInIce 22 = .ok (.iconst 1, 1) := dk_4 (dk_at dksX10_isInIce_0 22 rfl rfl)
theorem dX10_isInIce_23 : decode cX10_isInIce 23 = .ok (.goto 4, 3) := dk_167 0 4 (dk_at dksX10_isInIce_1 0 rfl rfl)
theorem dX10_isInIce_26 : decode cX10_isInIce 26 = .ok (.iconst 0, 1) := dk_3 (dk_at dksX10_isInIce_1 3 rfl rfl)
theorem dX10_isInIce_27 : decode cX10_isInIce 27 = .ok (.ireturn, 1) := dk_172 (dk_at dksX10_isInIce_1 4 rfl rfl)
abbrev cX10_where : ByteArray := prog_20_method_84_code
def yX10_where : MethodName := ⟨RX10, "where", "(II)I"⟩
def dkwX10_where_1 : List UInt8 := [182, 1, 44, 153, 0, 5, 3, 172, 42, 27, 2, 182, 1, 125, 42, 180, 0, 45, 28, 46, 172]
abbrev dktX10_where_1 : List UInt8 := dkwX10_where_1 ++ []
def dkwX10_where_0 : List UInt8 := [42, 3, 181, 0, 3, 42, 42, 27, 182, 1, 149, 4, 182, 1, 44, 154, 0, 15, 42, 28, 184, 1, 97, 5]
abbrev dktX10_where_0 : List UInt8 := dkwX10_where_0 ++ dktX10_where_1
theorem dksX10_where_0 : cX10_where.data.toList.drop 0 = dktX10_where_0 := by decide +kernel
theorem dksX10_where_1 : cX10_where.data.toList.drop 24 = dktX10_where_1 := dk_seg dksX10_where_0 24 rfl rfl
theorem dX10_where_0 : decode cX10_where 0 = .ok (.aload_n 0, 1) := dk_42 (dk_at dksX10_where_0 0 rfl rfl)
theorem dX10_where_1 : decode cX10_where 1 = .ok (.iconst 0, 1) := dk_3 (dk_at dksX10_where_0 1 rfl rfl)
theorem dX10_where_2 : decode cX10_where 2 = .ok (.putfield 3, 3) := dk_181 0 3 (dk_at dksX10_where_0 2 rfl rfl)
theorem dX10_where_5 : decode cX10_where 5 = .ok (.aload_n 0, 1) := dk_42 (dk_at dksX10_where_0 5 rfl rfl)
theorem dX10_where_6 : decode cX10_where 6 = .ok (.aload_n 0, 1) := dk_42 (dk_at dksX10_where_0 6 rfl rfl)
theorem dX10_where_7 : decode cX10_where 7 = .ok (.iload_n 1, 1) := dk_27 (dk_at dksX10_where_0 7 rfl rfl)
theorem dX10_where_8 : decode cX10_where 8 = .ok (.invokevirtual 405, 3) := dk_182 1 149 (dk_at dksX10_where_0 8 rfl rfl)
theorem dX10_where_11 : decode cX10_where 11 = .ok (.iconst 1, 1) := dk_4 (dk_at dksX10_where_0 11 rfl rfl)
theorem dX10_where_12 : decode cX10_where 12 = .ok (.invokevirtual 300, 3) := dk_182 1 44 (dk_at dksX10_where_0 12 rfl rfl)
theorem dX10_where_15 : decode cX10_where 15 = .ok (.ifCond .ne 15, 3) := dk_154 0 15 (dk_at dksX10_where_0 15 rfl rfl)
theorem dX10_where_18 : decode cX10_where 18 = .ok (.aload_n 0, 1) := dk_42 (dk_at dksX10_where_0 18 rfl rfl)
theorem dX10_where_19 : decode cX10_where 19 = .ok (.iload_n 2, 1) := dk_28 (dk_at dksX10_where_0 19 rfl rfl)
theorem dX10_where_20 : decode cX10_where 20 = .ok (.invokestatic 353, 3) := dk_184 1 97 (dk_at dksX10_where_0 20 rfl rfl)
theorem dX10_where_23 : decode cX10_where 23 = .ok (.iconst 2, 1) := dk_5 (dk_at dksX10_where_0 23 rfl rfl)
theorem dX10_where_24 : decode cX10_where 24 = .ok (.invokevirtual 300, 3) := dk_182 1 44 (dk_at dksX10_where_1 0 rfl rfl)
theorem dX10_where_27 : decode cX10_where 27 = .ok (.ifCond .eq 5, 3) := dk_153 0 5 (dk_at dksX10_where_1 3 rfl rfl)
theorem dX10_where_30 : decode cX10_where 30 = .ok (.iconst 0, 1) := dk_3 (dk_at dksX10_where_1 6 rfl rfl)
theorem dX10_where_31 : decode cX10_where 31 = .ok (.ireturn, 1) := dk_172 (dk_at dksX10_where_1 7 rfl rfl)
theorem dX10_where_32 : decode cX10_where 32 = .ok (.aload_n 0, 1) := dk_42 (dk_at dksX10_where_1 8 rfl rfl)
theorem dX10_where_33 : decode cX10_where 33 = .ok (.iload_n 1, 1) := dk_27 (dk_at dksX10_where_1 9 rfl rfl)
theorem dX10_where_34 : decode cX10_where 34 = .ok (.iconst (-1), 1) := dk_2 (dk_at dksX10_where_1 10 rfl rfl)
theorem dX10_where_35 : decode cX10_where 35 = .ok (.invokevirtual 381, 3) := dk_182 1 125 (dk_at dksX10_where_1 11 rfl rfl)
theorem dX10_where_38 : decode cX10_where 38 = .ok (.aload_n 0, 1) := dk_42 (dk_at dksX10_where_1 14 rfl rfl)
theorem dX10_where_39 : decode cX10_where 39 = .ok (.getfield 45, 3) := dk_180 0 45 (dk_at dksX10_where_1 15 rfl rfl)
theorem dX10_where_42 : decode cX10_where 42 = .ok (.iload_n 2, 1) := dk_28 (dk_at dksX10_where_1 18 rfl rfl)
theorem dX10_where_43 : decode cX10_where 43 = .ok (.iaload, 1) := dk_46 (dk_at dksX10_where_1 19 rfl rfl)
theorem dX10_where_44 : decode cX10_where 44 = .ok (.ireturn, 1) := dk_172 (dk_at dksX10_where_1 20 rfl rfl)
abbrev cX10_deep : ByteArray := prog_20_method_85_code
def yX10_deep : MethodName := ⟨RX10, "deep", "(II)I"⟩
def dkwX10_deep_1 : List UInt8 := [182, 1, 44, 153, 0, 5, 3, 172, 42, 27, 2, 182, 1, 125, 42, 180, 0, 48, 28, 46, 172]
abbrev dktX10_deep_1 : List UInt8 := dkwX10_deep_1 ++ []
def dkwX10_deep_0 : List UInt8 := [42, 3, 181, 0, 3, 42, 42, 27, 182, 1, 149, 4, 182, 1, 44, 154, 0, 15, 42, 28, 184, 1, 97, 5]
abbrev dktX10_deep_0 : List UInt8 := dkwX10_deep_0 ++ dktX10_deep_1
theorem dksX10_deep_0 : cX10_deep.data.toList.drop 0 = dktX10_deep_0 := by decide +kernel
theorem dksX10_deep_1 : cX10_deep.data.toList.drop 24 = dktX10_deep_1 := dk_seg dksX10_deep_0 24 rfl rfl
theorem dX10_deep_0 : decode cX10_deep 0 = .ok (.aload_n 0, 1) := dk_42 (dk_at dksX10_deep_0 0 rfl rfl)
theorem dX10_deep_1 : decode cX10_deep 1 = .ok (.iconst 0, 1) := dk_3 (dk_at dksX10_deep_0 1 rfl rfl)
theorem dX10_deep_2 : decode cX10_deep 2 = .ok (.putfield 3, 3) := dk_181 0 3 (dk_at dksX10_deep_0 2 rfl rfl)
theorem dX10_deep_5 : decode cX10_deep 5 = .ok (.aload_n 0, 1) := dk_42 (dk_at dksX10_deep_0 5 rfl rfl)
theorem dX10_deep_6 : decode cX10_deep 6 = .ok (.aload_n 0, 1) := dk_42 (dk_at dksX10_deep_0 6 rfl rfl)
theorem dX10_deep_7 : decode cX10_deep 7 = .ok (.iload_n 1, 1) := dk_27 (dk_at dksX10_deep_0 7 rfl rfl)
theorem dX10_deep_8 : decode cX10_deep 8 = .ok (.invokevirtual 405, 3) := dk_182 1 149 (dk_at dksX10_deep_0 8 rfl rfl)
theorem dX10_deep_11 : decode cX10_deep 11 = .ok (.iconst 1, 1) := dk_4 (dk_at dksX10_deep_0 11 rfl rfl)
theorem dX10_deep_12 : decode cX10_deep 12 = .ok (.invokevirtual 300, 3) := dk_182 1 44 (dk_at dksX10_deep_0 12 rfl rfl)
theorem dX10_deep_15 : decode cX10_deep 15 = .ok (.ifCond .ne 15, 3) := dk_154 0 15 (dk_at dksX10_deep_0 15 rfl rfl)
theorem dX10_deep_18 : decode cX10_deep 18 = .ok (.aload_n 0, 1) := dk_42 (dk_at dksX10_deep_0 18 rfl rfl)
theorem dX10_deep_19 : decode cX10_deep 19 = .ok (.iload_n 2, 1) := dk_28 (dk_at dksX10_deep_0 19 rfl rfl)
theorem dX10_deep_20 : decode cX10_deep 20 = .ok (.invokestatic 353, 3) := dk_184 1 97 (dk_at dksX10_deep_0 20 rfl rfl)
theorem dX10_deep_23 : decode cX10_deep 23 = .ok (.iconst 2, 1) := dk_5 (dk_at dksX10_deep_0 23 rfl rfl)
theorem dX10_deep_24 : decode cX10_deep 24 = .ok (.invokevirtual 300, 3) := dk_182 1 44 (dk_at dksX10_deep_1 0 rfl rfl)
theorem dX10_deep_27 : decode cX10_deep 27 = .ok (.ifCond .eq 5, 3) := dk_153 0 5 (dk_at dksX10_deep_1 3 rfl rfl)
theorem dX10_deep_30 : decode cX10_deep 30 = .ok (.iconst 0, 1) := dk_3 (dk_at dksX10_deep_1 6 rfl rfl)
theorem dX10_deep_31 : decode cX10_deep 31 = .ok (.ireturn, 1) := dk_172 (dk_at dksX10_deep_1 7 rfl rfl)
theorem dX10_deep_32 : decode cX10_deep 32 = .ok (.aload_n 0, 1) := dk_42 (dk_at dksX10_deep_1 8 rfl rfl)
theorem dX10_deep_33 : decode cX10_deep 33 = .ok (.iload_n 1, 1) := dk_27 (dk_at dksX10_deep_1 9 rfl rfl)
theorem dX10_deep_34 : decode cX10_deep 34 = .ok (.iconst (-1), 1) := dk_2 (dk_at dksX10_deep_1 10 rfl rfl)
theorem dX10_deep_35 : decode cX10_deep 35 = .ok (.invokevirtual 381, 3) := dk_182 1 125 (dk_at dksX10_deep_1 11 rfl rfl)
theorem dX10_deep_38 : decode cX10_deep 38 = .ok (.aload_n 0, 1) := dk_42 (dk_at dksX10_deep_1 14 rfl rfl)
theorem dX10_deep_39 : decode cX10_deep 39 = .ok (.getfield 48, 3) := dk_180 0 48 (dk_at dksX10_deep_1 15 rfl rfl)
theorem dX10_deep_42 : decode cX10_deep 42 = .ok (.iload_n 2, 1) := dk_28 (dk_at dksX10_deep_1 18 rfl rfl)
theorem dX10_deep_43 : decode cX10_deep 43 = .ok (.iaload, 1) := dk_46 (dk_at dksX10_deep_1 19 rfl rfl)
theorem dX10_deep_44 : decode cX10_deep 44 = .ok (.ireturn, 1) := dk_172 (dk_at dksX10_deep_1 20 rfl rfl)
abbrev cX10_post : ByteArray := prog_20_method_86_code
def yX10_post : MethodName := ⟨RX10, "post", "(II)I"⟩
def dkwX10_post_4 : List UInt8 := [182, 1, 140, 182, 0, 177, 42, 182, 0, 100, 4, 100, 172]
abbrev dktX10_post_4 : List UInt8 := dkwX10_post_4 ++ []
def dkwX10_post_3 : List UInt8 := [182, 1, 44, 153, 0, 5, 3, 172, 42, 182, 1, 155, 42, 27, 28, 42, 27, 3, 182, 1, 140, 42, 27, 4]
abbrev dktX10_post_3 : List UInt8 := dkwX10_post_3 ++ dktX10_post_4
def dkwX10_post_2 : List UInt8 := [182, 1, 44, 154, 0, 25, 42, 42, 182, 0, 100, 16, 24, 160, 0, 7, 4, 167, 0, 4, 3, 6]
abbrev dktX10_post_2 : List UInt8 := dkwX10_post_2 ++ dktX10_post_3
def dkwX10_post_1 : List UInt8 := [167, 0, 4, 3, 4, 182, 1, 44, 154, 0, 43, 42, 27, 28, 160, 0, 7, 4, 167, 0, 4, 3, 5]
abbrev dktX10_post_1 : List UInt8 := dkwX10_post_1 ++ dktX10_post_2
def dkwX10_post_0 : List UInt8 := [42, 3, 181, 0, 3, 42, 42, 27, 182, 1, 137, 154, 0, 11, 42, 28, 182, 1, 137, 153, 0, 7, 4]
abbrev dktX10_post_0 : List UInt8 := dkwX10_post_0 ++ dktX10_post_1
theorem dksX10_post_0 : cX10_post.data.toList.drop 0 = dktX10_post_0 := by decide +kernel
theorem dksX10_post_1 : cX10_post.data.toList.drop 23 = dktX10_post_1 := dk_seg dksX10_post_0 23 rfl rfl
theorem dksX10_post_2 : cX10_post.data.toList.drop 46 = dktX10_post_2 := dk_seg dksX10_post_1 23 rfl rfl
theorem dksX10_post_3 : cX10_post.data.toList.drop 68 = dktX10_post_3 := dk_seg dksX10_post_2 22 rfl rfl
theorem dksX10_post_4 : cX10_post.data.toList.drop 92 = dktX10_post_4 := dk_seg dksX10_post_3 24 rfl rfl
theorem dX10_post_0 : decode cX10_post 0 = .ok (.aload_n 0, 1) := dk_42 (dk_at dksX10_post_0 0 rfl rfl)
theorem dX10_post_1 : decode cX10_post 1 = .ok (.iconst 0, 1) := dk_3 (dk_at dksX10_post_0 1 rfl rfl)
theorem dX10_post_2 : decode cX10_post 2 = .ok (.putfield 3, 3) := dk_181 0 3 (dk_at dksX10_post_0 2 rfl rfl)
theorem dX10_post_5 : decode cX10_post 5 = .ok (.aload_n 0, 1) := dk_42 (dk_at dksX10_post_0 5 rfl rfl)
theorem dX10_post_6 : decode cX10_post 6 = .ok (.aload_n 0, 1) := dk_42 (dk_at dksX10_post_0 6 rfl rfl)
theorem dX10_post_7 : decode cX10_post 7 = .ok (.iload_n 1, 1) := dk_27 (dk_at dksX10_post_0 7 rfl rfl)
theorem dX10_post_8 : decode cX10_post 8 = .ok (.invokevirtual 393, 3) := dk_182 1 137 (dk_at dksX10_post_0 8 rfl rfl)
theorem dX10_post_11 : decode cX10_post 11 = .ok (.ifCond .ne 11, 3) := dk_154 0 11 (dk_at dksX10_post_0 11 rfl rfl)
theorem dX10_post_14 : decode cX10_post 14 = .ok (.aload_n 0, 1) := dk_42 (dk_at dksX10_post_0 14 rfl rfl)
theorem dX10_post_15 : decode cX10_post 15 = .ok (.iload_n 2, 1) := dk_28 (dk_at dksX10_post_0 15 rfl rfl)
theorem dX10_post_16 : decode cX10_post 16 = .ok (.invokevirtual 393, 3) := dk_182 1 137 (dk_at dksX10_post_0 16 rfl rfl)
theorem dX10_post_19 : decode cX10_post 19 = .ok (.ifCond .eq 7, 3) := dk_153 0 7 (dk_at dksX10_post_0 19 rfl rfl)
theorem dX10_post_22 : decode cX10_post 22 = .ok (.iconst 1, 1) := dk_4 (dk_at dksX10_post_0 22 rfl rfl)
theorem dX10_post_23 : decode cX10_post 23 = .ok (.goto 4, 3) := dk_167 0 4 (dk_at dksX10_post_1 0 rfl rfl)
theorem dX10_post_26 : decode cX10_post 26 = .ok (.iconst 0, 1) := dk_3 (dk_at dksX10_post_1 3 rfl rfl)
theorem dX10_post_27 : decode cX10_post 27 = .ok (.iconst 1, 1) := dk_4 (dk_at dksX10_post_1 4 rfl rfl)
theorem dX10_post_28 : decode cX10_post 28 = .ok (.invokevirtual 300, 3) := dk_182 1 44 (dk_at dksX10_post_1 5 rfl rfl)
theorem dX10_post_31 : decode cX10_post 31 = .ok (.ifCond .ne 43, 3) := dk_154 0 43 (dk_at dksX10_post_1 8 rfl rfl)
theorem dX10_post_34 : decode cX10_post 34 = .ok (.aload_n 0, 1) := dk_42 (dk_at dksX10_post_1 11 rfl rfl)
theorem dX10_post_35 : decode cX10_post 35 = .ok (.iload_n 1, 1) := dk_27 (dk_at dksX10_post_1 12 rfl rfl)
theorem dX10_post_36 : decode cX10_post 36 = .ok (.iload_n 2, 1) := dk_28 (dk_at dksX10_post_1 13 rfl rfl)
theorem dX10_post_37 : decode cX10_post 37 = .ok (.if_icmp .ne 7, 3) := dk_160 0 7 (dk_at dksX10_post_1 14 rfl rfl)
theorem dX10_post_40 : decode cX10_post 40 = .ok (.iconst 1, 1) := dk_4 (dk_at dksX10_post_1 17 rfl rfl)
theorem dX10_post_41 : decode cX10_post 41 = .ok (.goto 4, 3) := dk_167 0 4 (dk_at dksX10_post_1 18 rfl rfl)
theorem dX10_post_44 : decode cX10_post 44 = .ok (.iconst 0, 1) := dk_3 (dk_at dksX10_post_1 21 rfl rfl)
theorem dX10_post_45 : decode cX10_post 45 = .ok (.iconst 2, 1) := dk_5 (dk_at dksX10_post_1 22 rfl rfl)
theorem dX10_post_46 : decode cX10_post 46 = .ok (.invokevirtual 300, 3) := dk_182 1 44 (dk_at dksX10_post_2 0 rfl rfl)
theorem dX10_post_49 : decode cX10_post 49 = .ok (.ifCond .ne 25, 3) := dk_154 0 25 (dk_at dksX10_post_2 3 rfl rfl)
theorem dX10_post_52 : decode cX10_post 52 = .ok (.aload_n 0, 1) := dk_42 (dk_at dksX10_post_2 6 rfl rfl)
theorem dX10_post_53 : decode cX10_post 53 = .ok (.aload_n 0, 1) := dk_42 (dk_at dksX10_post_2 7 rfl rfl)
theorem dX10_post_54 : decode cX10_post 54 = .ok (.invokevirtual 100, 3) := dk_182 0 100 (dk_at dksX10_post_2 8 rfl rfl)
theorem dX10_post_57 : decode cX10_post 57 = .ok (.bipush 24, 2) := dk_16 24 (dk_at dksX10_post_2 11 rfl rfl)
theorem dX10_post_59 : decode cX10_post 59 = .ok (.if_icmp .ne 7, 3) := dk_160 0 7 (dk_at dksX10_post_2 13 rfl rfl)
theorem dX10_post_62 : decode cX10_post 62 = .ok (.iconst 1, 1) := dk_4 (dk_at dksX10_post_2 16 rfl rfl)
theorem dX10_post_63 : decode cX10_post 63 = .ok (.goto 4, 3) := dk_167 0 4 (dk_at dksX10_post_2 17 rfl rfl)
theorem dX10_post_66 : decode cX10_post 66 = .ok (.iconst 0, 1) := dk_3 (dk_at dksX10_post_2 20 rfl rfl)
theorem dX10_post_67 : decode cX10_post 67 = .ok (.iconst 3, 1) := dk_6 (dk_at dksX10_post_2 21 rfl rfl)
theorem dX10_post_68 : decode cX10_post 68 = .ok (.invokevirtual 300, 3) := dk_182 1 44 (dk_at dksX10_post_3 0 rfl rfl)
theorem dX10_post_71 : decode cX10_post 71 = .ok (.ifCond .eq 5, 3) := dk_153 0 5 (dk_at dksX10_post_3 3 rfl rfl)
theorem dX10_post_74 : decode cX10_post 74 = .ok (.iconst 0, 1) := dk_3 (dk_at dksX10_post_3 6 rfl rfl)
theorem dX10_post_75 : decode cX10_post 75 = .ok (.ireturn, 1) := dk_172 (dk_at dksX10_post_3 7 rfl rfl)
theorem dX10_post_76 : decode cX10_post 76 = .ok (.aload_n 0, 1) := dk_42 (dk_at dksX10_post_3 8 rfl rfl)
theorem dX10_post_77 : decode cX10_post 77 = .ok (.invokevirtual 411, 3) := dk_182 1 155 (dk_at dksX10_post_3 9 rfl rfl)
theorem dX10_post_80 : decode cX10_post 80 = .ok (.aload_n 0, 1) := dk_42 (dk_at dksX10_post_3 12 rfl rfl)
theorem dX10_post_81 : decode cX10_post 81 = .ok (.iload_n 1, 1) := dk_27 (dk_at dksX10_post_3 13 rfl rfl)
theorem dX10_post_82 : decode cX10_post 82 = .ok (.iload_n 2, 1) := dk_28 (dk_at dksX10_post_3 14 rfl rfl)
theorem dX10_post_83 : decode cX10_post 83 = .ok (.aload_n 0, 1) := dk_42 (dk_at dksX10_post_3 15 rfl rfl)
theorem dX10_post_84 : decode cX10_post 84 = .ok (.iload_n 1, 1) := dk_27 (dk_at dksX10_post_3 16 rfl rfl)
theorem dX10_post_85 : decode cX10_post 85 = .ok (.iconst 0, 1) := dk_3 (dk_at dksX10_post_3 17 rfl rfl)
theorem dX10_post_86 : decode cX10_post 86 = .ok (.invokevirtual 396, 3) := dk_182 1 140 (dk_at dksX10_post_3 18 rfl rfl)
theorem dX10_post_89 : decode cX10_post 89 = .ok (.aload_n 0, 1) := dk_42 (dk_at dksX10_post_3 21 rfl rfl)
theorem dX10_post_90 : decode cX10_post 90 = .ok (.iload_n 1, 1) := dk_27 (dk_at dksX10_post_3 22 rfl rfl)
theorem dX10_post_91 : decode cX10_post 91 = .ok (.iconst 1, 1) := dk_4 (dk_at dksX10_post_3 23 rfl rfl)
theorem dX10_post_92 : decode cX10_post 92 = .ok (.invokevirtual 396, 3) := dk_182 1 140 (dk_at dksX10_post_4 0 rfl rfl)
theorem dX10_post_95 : decode cX10_post 95 = .ok (.invokevirtual 177, 3) := dk_182 0 177 (dk_at dksX10_post_4 3 rfl rfl)
theorem dX10_post_98 : decode cX10_post 98 = .ok (.aload_n 0, 1) := dk_42 (dk_at dksX10_post_4 6 rfl rfl)
theorem dX10_post_99 : decode cX10_post 99 = .ok (.invokevirtual 100, 3) := dk_182 0 100 (dk_at dksX10_post_4 7 rfl rfl)
theorem dX10_post_102 : decode cX10_post 102 = .ok (.iconst 1, 1) := dk_4 (dk_at dksX10_post_4 10 rfl rfl)
theorem dX10_post_103 : decode cX10_post 103 = .ok (.isub, 1) := dk_100 (dk_at dksX10_post_4 11 rfl rfl)
theorem dX10_post_104 : decode cX10_post 104 = .ok (.ireturn, 1) := dk_172 (dk_at dksX10_post_4 12 rfl rfl)
abbrev cX10_remembers : ByteArray := prog_20_method_8_code
def yX10_remembers : MethodName := ⟨RX10, "remembers", "()V"⟩
def dkwX10_remembers_3 : List UInt8 := [180, 0, 79, 4, 100, 104, 27, 96, 42, 180, 0, 13, 27, 46, 79, 132, 1, 1, 167, 255, 223, 177]
abbrev dktX10_remembers_3 : List UInt8 := dkwX10_remembers_3 ++ []
def dkwX10_remembers_2 : List UInt8 := [4, 96, 181, 0, 79, 3, 60, 27, 17, 1, 139, 162, 0, 32, 42, 180, 0, 23, 17, 1, 139, 42]
abbrev dktX10_remembers_2 : List UInt8 := dkwX10_remembers_2 ++ dktX10_remembers_3
def dkwX10_remembers_1 : List UInt8 := [180, 0, 23, 27, 17, 1, 139, 96, 46, 79, 132, 1, 1, 167, 255, 230, 167, 0, 13, 42, 89, 180, 0, 79]
abbrev dktX10_remembers_1 : List UInt8 := dkwX10_remembers_1 ++ dktX10_remembers_2
def dkwX10_remembers_0 : List UInt8 := [42, 180, 0, 79, 16, 12, 160, 0, 37, 3, 60, 27, 17, 16, 249, 162, 0, 25, 42, 180, 0, 23, 27, 42]
abbrev dktX10_remembers_0 : List UInt8 := dkwX10_remembers_0 ++ dktX10_remembers_1
theorem dksX10_remembers_0 : cX10_remembers.data.toList.drop 0 = dktX10_remembers_0 := by decide +kernel
theorem dksX10_remembers_1 : cX10_remembers.data.toList.drop 24 = dktX10_remembers_1 := dk_seg dksX10_remembers_0 24 rfl rfl
theorem dksX10_remembers_2 : cX10_remembers.data.toList.drop 48 = dktX10_remembers_2 := dk_seg dksX10_remembers_1 24 rfl rfl
theorem dksX10_remembers_3 : cX10_remembers.data.toList.drop 70 = dktX10_remembers_3 := dk_seg dksX10_remembers_2 22 rfl rfl
theorem dX10_remembers_0 : decode cX10_remembers 0 = .ok (.aload_n 0, 1) := dk_42 (dk_at dksX10_remembers_0 0 rfl rfl)
theorem dX10_remembers_1 : decode cX10_remembers 1 = .ok (.getfield 79, 3) := dk_180 0 79 (dk_at dksX10_remembers_0 1 rfl rfl)
theorem dX10_remembers_4 : decode cX10_remembers 4 = .ok (.bipush 12, 2) := dk_16 12 (dk_at dksX10_remembers_0 4 rfl rfl)
theorem dX10_remembers_6 : decode cX10_remembers 6 = .ok (.if_icmp .ne 37, 3) := dk_160 0 37 (dk_at dksX10_remembers_0 6 rfl rfl)
theorem dX10_remembers_9 : decode cX10_remembers 9 = .ok (.iconst 0, 1) := dk_3 (dk_at dksX10_remembers_0 9 rfl rfl)
theorem dX10_remembers_10 : decode cX10_remembers 10 = .ok (.istore_n 1, 1) := dk_60 (dk_at dksX10_remembers_0 10 rfl rfl)
theorem dX10_remembers_11 : decode cX10_remembers 11 = .ok (.iload_n 1, 1) := dk_27 (dk_at dksX10_remembers_0 11 rfl rfl)
theorem dX10_remembers_12 : decode cX10_remembers 12 = .ok (.sipush 4345, 3) := dk_17 16 249 (dk_at dksX10_remembers_0 12 rfl rfl)
theorem dX10_remembers_15 : decode cX10_remembers 15 = .ok (.if_icmp .ge 25, 3) := dk_162 0 25 (dk_at dksX10_remembers_0 15 rfl rfl)
theorem dX10_remembers_18 : decode cX10_remembers 18 = .ok (.aload_n 0, 1) := dk_42 (dk_at dksX10_remembers_0 18 rfl rfl)
theorem dX10_remembers_19 : decode cX10_remembers 19 = .ok (.getfield 23, 3) := dk_180 0 23 (dk_at dksX10_remembers_0 19 rfl rfl)
theorem dX10_remembers_22 : decode cX10_remembers 22 = .ok (.iload_n 1, 1) := dk_27 (dk_at dksX10_remembers_0 22 rfl rfl)
theorem dX10_remembers_23 : decode cX10_remembers 23 = .ok (.aload_n 0, 1) := dk_42 (dk_at dksX10_remembers_0 23 rfl rfl)
theorem dX10_remembers_24 : decode cX10_remembers 24 = .ok (.getfield 23, 3) := dk_180 0 23 (dk_at dksX10_remembers_1 0 rfl rfl)
theorem dX10_remembers_27 : decode cX10_remembers 27 = .ok (.iload_n 1, 1) := dk_27 (dk_at dksX10_remembers_1 3 rfl rfl)
theorem dX10_remembers_28 : decode cX10_remembers 28 = .ok (.sipush 395, 3) := dk_17 1 139 (dk_at dksX10_remembers_1 4 rfl rfl)
theorem dX10_remembers_31 : decode cX10_remembers 31 = .ok (.iadd, 1) := dk_96 (dk_at dksX10_remembers_1 7 rfl rfl)
theorem dX10_remembers_32 : decode cX10_remembers 32 = .ok (.iaload, 1) := dk_46 (dk_at dksX10_remembers_1 8 rfl rfl)
theorem dX10_remembers_33 : decode cX10_remembers 33 = .ok (.iastore, 1) := dk_79 (dk_at dksX10_remembers_1 9 rfl rfl)
theorem dX10_remembers_34 : decode cX10_remembers 34 = .ok (.iinc 1 1, 3) := dk_132 1 1 (dk_at dksX10_remembers_1 10 rfl rfl)
theorem dX10_remembers_37 : decode cX10_remembers 37 = .ok (.goto (-26), 3) := dk_167 255 230 (dk_at dksX10_remembers_1 13 rfl rfl)
theorem dX10_remembers_40 : decode cX10_remembers 40 = .ok (.goto 13, 3) := dk_167 0 13 (dk_at dksX10_remembers_1 16 rfl rfl)
theorem dX10_remembers_43 : decode cX10_remembers 43 = .ok (.aload_n 0, 1) := dk_42 (dk_at dksX10_remembers_1 19 rfl rfl)
theorem dX10_remembers_44 : decode cX10_remembers 44 = .ok (.dup, 1) := dk_89 (dk_at dksX10_remembers_1 20 rfl rfl)
theorem dX10_remembers_45 : decode cX10_remembers 45 = .ok (.getfield 79, 3) := dk_180 0 79 (dk_at dksX10_remembers_1 21 rfl rfl)
theorem dX10_remembers_48 : decode cX10_remembers 48 = .ok (.iconst 1, 1) := dk_4 (dk_at dksX10_remembers_2 0 rfl rfl)
theorem dX10_remembers_49 : decode cX10_remembers 49 = .ok (.iadd, 1) := dk_96 (dk_at dksX10_remembers_2 1 rfl rfl)
theorem dX10_remembers_50 : decode cX10_remembers 50 = .ok (.putfield 79, 3) := dk_181 0 79 (dk_at dksX10_remembers_2 2 rfl rfl)
theorem dX10_remembers_53 : decode cX10_remembers 53 = .ok (.iconst 0, 1) := dk_3 (dk_at dksX10_remembers_2 5 rfl rfl)
theorem dX10_remembers_54 : decode cX10_remembers 54 = .ok (.istore_n 1, 1) := dk_60 (dk_at dksX10_remembers_2 6 rfl rfl)
theorem dX10_remembers_55 : decode cX10_remembers 55 = .ok (.iload_n 1, 1) := dk_27 (dk_at dksX10_remembers_2 7 rfl rfl)
theorem dX10_remembers_56 : decode cX10_remembers 56 = .ok (.sipush 395, 3) := dk_17 1 139 (dk_at dksX10_remembers_2 8 rfl rfl)
theorem dX10_remembers_59 : decode cX10_remembers 59 = .ok (.if_icmp .ge 32, 3) := dk_162 0 32 (dk_at dksX10_remembers_2 11 rfl rfl)
theorem dX10_remembers_62 : decode cX10_remembers 62 = .ok (.aload_n 0, 1) := dk_42 (dk_at dksX10_remembers_2 14 rfl rfl)
theorem dX10_remembers_63 : decode cX10_remembers 63 = .ok (.getfield 23, 3) := dk_180 0 23 (dk_at dksX10_remembers_2 15 rfl rfl)
theorem dX10_remembers_66 : decode cX10_remembers 66 = .ok (.sipush 395, 3) := dk_17 1 139 (dk_at dksX10_remembers_2 18 rfl rfl)
theorem dX10_remembers_69 : decode cX10_remembers 69 = .ok (.aload_n 0, 1) := dk_42 (dk_at dksX10_remembers_2 21 rfl rfl)
theorem dX10_remembers_70 : decode cX10_remembers 70 = .ok (.getfield 79, 3) := dk_180 0 79 (dk_at dksX10_remembers_3 0 rfl rfl)
theorem dX10_remembers_73 : decode cX10_remembers 73 = .ok (.iconst 1, 1) := dk_4 (dk_at dksX10_remembers_3 3 rfl rfl)
theorem dX10_remembers_74 : decode cX10_remembers 74 = .ok (.isub, 1) := dk_100 (dk_at dksX10_remembers_3 4 rfl rfl)
theorem dX10_remembers_75 : decode cX10_remembers 75 = .ok (.imul, 1) := dk_104 (dk_at dksX10_remembers_3 5 rfl rfl)
theorem dX10_remembers_76 : decode cX10_remembers 76 = .ok (.iload_n 1, 1) := dk_27 (dk_at dksX10_remembers_3 6 rfl rfl)
theorem dX10_remembers_77 : decode cX10_remembers 77 = .ok (.iadd, 1) := dk_96 (dk_at dksX10_remembers_3 7 rfl rfl)
theorem dX10_remembers_78 : decode cX10_remembers 78 = .ok (.aload_n 0, 1) := dk_42 (dk_at dksX10_remembers_3 8 rfl rfl)
theorem dX10_remembers_79 : decode cX10_remembers 79 = .ok (.getfield 13, 3) := dk_180 0 13 (dk_at dksX10_remembers_3 9 rfl rfl)
theorem dX10_remembers_82 : decode cX10_remembers 82 = .ok (.iload_n 1, 1) := dk_27 (dk_at dksX10_remembers_3 12 rfl rfl)
theorem dX10_remembers_83 : decode cX10_remembers 83 = .ok (.iaload, 1) := dk_46 (dk_at dksX10_remembers_3 13 rfl rfl)
theorem dX10_remembers_84 : decode cX10_remembers 84 = .ok (.iastore, 1) := dk_79 (dk_at dksX10_remembers_3 14 rfl rfl)
theorem dX10_remembers_85 : decode cX10_remembers 85 = .ok (.iinc 1 1, 3) := dk_132 1 1 (dk_at dksX10_remembers_3 15 rfl rfl)
theorem dX10_remembers_88 : decode cX10_remembers 88 = .ok (.goto (-33), 3) := dk_167 255 223 (dk_at dksX10_remembers_3 18 rfl rfl)
theorem dX10_remembers_91 : decode cX10_remembers 91 = .ok (.return_, 1) := dk_177 (dk_at dksX10_remembers_3 21 rfl rfl)
abbrev cX10_watch : ByteArray := prog_20_method_87_code
def yX10_watch : MethodName := ⟨RX10, "watch", "(II)I"⟩
def dkwX10_watch_2 : List UInt8 := [182, 1, 140, 62, 42, 180, 0, 13, 16, 95, 6, 27, 104, 96, 5, 96, 28, 79, 29, 172]
abbrev dktX10_watch_2 : List UInt8 := dkwX10_watch_2 ++ []
def dkwX10_watch_1 : List UInt8 := [153, 0, 7, 4, 167, 0, 4, 3, 4, 182, 1, 44, 153, 0, 5, 3, 172, 42, 182, 1, 155, 42, 27, 5]
abbrev dktX10_watch_1 : List UInt8 := dkwX10_watch_1 ++ dktX10_watch_2
def dkwX10_watch_0 : List UInt8 := [42, 3, 181, 0, 3, 42, 42, 27, 182, 1, 137, 154, 0, 16, 28, 2, 159, 0, 15, 42, 28, 182, 1, 100]
abbrev dktX10_watch_0 : List UInt8 := dkwX10_watch_0 ++ dktX10_watch_1
theorem dksX10_watch_0 : cX10_watch.data.toList.drop 0 = dktX10_watch_0 := by decide +kernel
theorem dksX10_watch_1 : cX10_watch.data.toList.drop 24 = dktX10_watch_1 := dk_seg dksX10_watch_0 24 rfl rfl
theorem dksX10_watch_2 : cX10_watch.data.toList.drop 48 = dktX10_watch_2 := dk_seg dksX10_watch_1 24 rfl rfl
theorem dX10_watch_0 : decode cX10_watch 0 = .ok (.aload_n 0, 1) := dk_42 (dk_at dksX10_watch_0 0 rfl rfl)
theorem dX10_watch_1 : decode cX10_watch 1 = .ok (.iconst 0, 1) := dk_3 (dk_at dksX10_watch_0 1 rfl rfl)
theorem dX10_watch_2 : decode cX10_watch 2 = .ok (.putfield 3, 3) := dk_181 0 3 (dk_at dksX10_watch_0 2 rfl rfl)
theorem dX10_watch_5 : decode cX10_watch 5 = .ok (.aload_n 0, 1) := dk_42 (dk_at dksX10_watch_0 5 rfl rfl)
theorem dX10_watch_6 : decode cX10_watch 6 = .ok (.aload_n 0, 1) := dk_42 (dk_at dksX10_watch_0 6 rfl rfl)
theorem dX10_watch_7 : decode cX10_watch 7 = .ok (.iload_n 1, 1) := dk_27 (dk_at dksX10_watch_0 7 rfl rfl)
theorem dX10_watch_8 : decode cX10_watch 8 = .ok (.invokevirtual 393, 3) := dk_182 1 137 (dk_at dksX10_watch_0 8 rfl rfl)
theorem dX10_watch_11 : decode cX10_watch 11 = .ok (.ifCond .ne 16, 3) := dk_154 0 16 (dk_at dksX10_watch_0 11 rfl rfl)
theorem dX10_watch_14 : decode cX10_watch 14 = .ok (.iload_n 2, 1) := dk_28 (dk_at dksX10_watch_0 14 rfl rfl)
theorem dX10_watch_15 : decode cX10_watch 15 = .ok (.iconst (-1), 1) := dk_2 (dk_at dksX10_watch_0 15 rfl rfl)
theorem dX10_watch_16 : decode cX10_watch 16 = .ok (.if_icmp .eq 15, 3) := dk_159 0 15 (dk_at dksX10_watch_0 16 rfl rfl)
theorem dX10_watch_19 : decode cX10_watch 19 = .ok (.aload_n 0, 1) := dk_42 (dk_at dksX10_watch_0 19 rfl rfl)
theorem dX10_watch_20 : decode cX10_watch 20 = .ok (.iload_n 2, 1) := dk_28 (dk_at dksX10_watch_0 20 rfl rfl)
theorem dX10_watch_21 : decode cX10_watch 21 = .ok (.invokevirtual 356, 3) := dk_182 1 100 (dk_at dksX10_watch_0 21 rfl rfl)
theorem dX10_watch_24 : decode cX10_watch 24 = .ok (.ifCond .eq 7, 3) := dk_153 0 7 (dk_at dksX10_watch_1 0 rfl rfl)
theorem dX10_watch_27 : decode cX10_watch 27 = .ok (.iconst 1, 1) := dk_4 (dk_at dksX10_watch_1 3 rfl rfl)
theorem dX10_watch_28 : decode cX10_watch 28 = .ok (.goto 4, 3) := dk_167 0 4 (dk_at dksX10_watch_1 4 rfl rfl)
theorem dX10_watch_31 : decode cX10_watch 31 = .ok (.iconst 0, 1) := dk_3 (dk_at dksX10_watch_1 7 rfl rfl)
theorem dX10_watch_32 : decode cX10_watch 32 = .ok (.iconst 1, 1) := dk_4 (dk_at dksX10_watch_1 8 rfl rfl)
theorem dX10_watch_33 : decode cX10_watch 33 = .ok (.invokevirtual 300, 3) := dk_182 1 44 (dk_at dksX10_watch_1 9 rfl rfl)
theorem dX10_watch_36 : decode cX10_watch 36 = .ok (.ifCond .eq 5, 3) := dk_153 0 5 (dk_at dksX10_watch_1 12 rfl rfl)
theorem dX10_watch_39 : decode cX10_watch 39 = .ok (.iconst 0, 1) := dk_3 (dk_at dksX10_watch_1 15 rfl rfl)
theorem dX10_watch_40 : decode cX10_watch 40 = .ok (.ireturn, 1) := dk_172 (dk_at dksX10_watch_1 16 rfl rfl)
theorem dX10_watch_41 : decode cX10_watch 41 = .ok (.aload_n 0, 1) := dk_42 (dk_at dksX10_watch_1 17 rfl rfl)
theorem dX10_watch_42 : decode cX10_watch 42 = .ok (.invokevirtual 411, 3) := dk_182 1 155 (dk_at dksX10_watch_1 18 rfl rfl)
theorem dX10_watch_45 : decode cX10_watch 45 = .ok (.aload_n 0, 1) := dk_42 (dk_at dksX10_watch_1 21 rfl rfl)
theorem dX10_watch_46 : decode cX10_watch 46 = .ok (.iload_n 1, 1) := dk_27 (dk_at dksX10_watch_1 22 rfl rfl)
theorem dX10_watch_47 : decode cX10_watch 47 = .ok (.iconst 2, 1) := dk_5 (dk_at dksX10_watch_1 23 rfl rfl)
theorem dX10_watch_48 : decode cX10_watch 48 = .ok (.invokevirtual 396, 3) := dk_182 1 140 (dk_at dksX10_watch_2 0 rfl rfl)
theorem dX10_watch_51 : decode cX10_watch 51 = .ok (.istore_n 3, 1) := dk_62 (dk_at dksX10_watch_2 3 rfl rfl)
theorem dX10_watch_52 : decode cX10_watch 52 = .ok (.aload_n 0, 1) := dk_42 (dk_at dksX10_watch_2 4 rfl rfl)
theorem dX10_watch_53 : decode cX10_watch 53 = .ok (.getfield 13, 3) := dk_180 0 13 (dk_at dksX10_watch_2 5 rfl rfl)
theorem dX10_watch_56 : decode cX10_watch 56 = .ok (.bipush 95, 2) := dk_16 95 (dk_at dksX10_watch_2 8 rfl rfl)
theorem dX10_watch_58 : decode cX10_watch 58 = .ok (.iconst 3, 1) := dk_6 (dk_at dksX10_watch_2 10 rfl rfl)
theorem dX10_watch_59 : decode cX10_watch 59 = .ok (.iload_n 1, 1) := dk_27 (dk_at dksX10_watch_2 11 rfl rfl)
theorem dX10_watch_60 : decode cX10_watch 60 = .ok (.imul, 1) := dk_104 (dk_at dksX10_watch_2 12 rfl rfl)
theorem dX10_watch_61 : decode cX10_watch 61 = .ok (.iadd, 1) := dk_96 (dk_at dksX10_watch_2 13 rfl rfl)
theorem dX10_watch_62 : decode cX10_watch 62 = .ok (.iconst 2, 1) := dk_5 (dk_at dksX10_watch_2 14 rfl rfl)
theorem dX10_watch_63 : decode cX10_watch 63 = .ok (.iadd, 1) := dk_96 (dk_at dksX10_watch_2 15 rfl rfl)
theorem dX10_watch_64 : decode cX10_watch 64 = .ok (.iload_n 2, 1) := dk_28 (dk_at dksX10_watch_2 16 rfl rfl)
theorem dX10_watch_65 : decode cX10_watch 65 = .ok (.iastore, 1) := dk_79 (dk_at dksX10_watch_2 17 rfl rfl)
theorem dX10_watch_66 : decode cX10_watch 66 = .ok (.iload_n 3, 1) := dk_29 (dk_at dksX10_watch_2 18 rfl rfl)
theorem dX10_watch_67 : decode cX10_watch 67 = .ok (.ireturn, 1) := dk_172 (dk_at dksX10_watch_2 19 rfl rfl)
abbrev cX10_open : ByteArray := prog_20_method_89_code
def yX10_open : MethodName := ⟨RX10, "open", "(I)I"⟩
def dkwX10_open_2 : List UInt8 := [27, 4, 182, 0, 82, 182, 1, 158, 42, 182, 0, 162, 42, 27, 6, 182, 0, 82, 100, 172]
abbrev dktX10_open_2 : List UInt8 := dkwX10_open_2 ++ []
def dkwX10_open_1 : List UInt8 := [154, 0, 7, 4, 167, 0, 4, 3, 5, 182, 1, 44, 153, 0, 5, 3, 172, 42, 182, 1, 155, 42, 27, 42]
abbrev dktX10_open_1 : List UInt8 := dkwX10_open_1 ++ dktX10_open_2
def dkwX10_open_0 : List UInt8 := [42, 3, 181, 0, 3, 42, 42, 27, 182, 1, 149, 4, 182, 1, 44, 154, 0, 24, 42, 42, 27, 182, 1, 134]
abbrev dktX10_open_0 : List UInt8 := dkwX10_open_0 ++ dktX10_open_1
theorem dksX10_open_0 : cX10_open.data.toList.drop 0 = dktX10_open_0 := by decide +kernel
theorem dksX10_open_1 : cX10_open.data.toList.drop 24 = dktX10_open_1 := dk_seg dksX10_open_0 24 rfl rfl
theorem dksX10_open_2 : cX10_open.data.toList.drop 48 = dktX10_open_2 := dk_seg dksX10_open_1 24 rfl rfl
theorem dX10_open_0 : decode cX10_open 0 = .ok (.aload_n 0, 1) := dk_42 (dk_at dksX10_open_0 0 rfl rfl)
theorem dX10_open_1 : decode cX10_open 1 = .ok (.iconst 0, 1) := dk_3 (dk_at dksX10_open_0 1 rfl rfl)
theorem dX10_open_2 : decode cX10_open 2 = .ok (.putfield 3, 3) := dk_181 0 3 (dk_at dksX10_open_0 2 rfl rfl)
theorem dX10_open_5 : decode cX10_open 5 = .ok (.aload_n 0, 1) := dk_42 (dk_at dksX10_open_0 5 rfl rfl)
theorem dX10_open_6 : decode cX10_open 6 = .ok (.aload_n 0, 1) := dk_42 (dk_at dksX10_open_0 6 rfl rfl)
theorem dX10_open_7 : decode cX10_open 7 = .ok (.iload_n 1, 1) := dk_27 (dk_at dksX10_open_0 7 rfl rfl)
theorem dX10_open_8 : decode cX10_open 8 = .ok (.invokevirtual 405, 3) := dk_182 1 149 (dk_at dksX10_open_0 8 rfl rfl)
theorem dX10_open_11 : decode cX10_open 11 = .ok (.iconst 1, 1) := dk_4 (dk_at dksX10_open_0 11 rfl rfl)
theorem dX10_open_12 : decode cX10_open 12 = .ok (.invokevirtual 300, 3) := dk_182 1 44 (dk_at dksX10_open_0 12 rfl rfl)
theorem dX10_open_15 : decode cX10_open 15 = .ok (.ifCond .ne 24, 3) := dk_154 0 24 (dk_at dksX10_open_0 15 rfl rfl)
theorem dX10_open_18 : decode cX10_open 18 = .ok (.aload_n 0, 1) := dk_42 (dk_at dksX10_open_0 18 rfl rfl)
theorem dX10_open_19 : decode cX10_open 19 = .ok (.aload_n 0, 1) := dk_42 (dk_at dksX10_open_0 19 rfl rfl)
theorem dX10_open_20 : decode cX10_open 20 = .ok (.iload_n 1, 1) := dk_27 (dk_at dksX10_open_0 20 rfl rfl)
theorem dX10_open_21 : decode cX10_open 21 = .ok (.invokevirtual 390, 3) := dk_182 1 134 (dk_at dksX10_open_0 21 rfl rfl)
theorem dX10_open_24 : decode cX10_open 24 = .ok (.ifCond .ne 7, 3) := dk_154 0 7 (dk_at dksX10_open_1 0 rfl rfl)
theorem dX10_open_27 : decode cX10_open 27 = .ok (.iconst 1, 1) := dk_4 (dk_at dksX10_open_1 3 rfl rfl)
theorem dX10_open_28 : decode cX10_open 28 = .ok (.goto 4, 3) := dk_167 0 4 (dk_at dksX10_open_1 4 rfl rfl)
theorem dX10_open_31 : decode cX10_open 31 = .ok (.iconst 0, 1) := dk_3 (dk_at dksX10_open_1 7 rfl rfl)
theorem dX10_open_32 : decode cX10_open 32 = .ok (.iconst 2, 1) := dk_5 (dk_at dksX10_open_1 8 rfl rfl)
theorem dX10_open_33 : decode cX10_open 33 = .ok (.invokevirtual 300, 3) := dk_182 1 44 (dk_at dksX10_open_1 9 rfl rfl)
theorem dX10_open_36 : decode cX10_open 36 = .ok (.ifCond .eq 5, 3) := dk_153 0 5 (dk_at dksX10_open_1 12 rfl rfl)
theorem dX10_open_39 : decode cX10_open 39 = .ok (.iconst 0, 1) := dk_3 (dk_at dksX10_open_1 15 rfl rfl)
theorem dX10_open_40 : decode cX10_open 40 = .ok (.ireturn, 1) := dk_172 (dk_at dksX10_open_1 16 rfl rfl)
theorem dX10_open_41 : decode cX10_open 41 = .ok (.aload_n 0, 1) := dk_42 (dk_at dksX10_open_1 17 rfl rfl)
theorem dX10_open_42 : decode cX10_open 42 = .ok (.invokevirtual 411, 3) := dk_182 1 155 (dk_at dksX10_open_1 18 rfl rfl)
theorem dX10_open_45 : decode cX10_open 45 = .ok (.aload_n 0, 1) := dk_42 (dk_at dksX10_open_1 21 rfl rfl)
theorem dX10_open_46 : decode cX10_open 46 = .ok (.iload_n 1, 1) := dk_27 (dk_at dksX10_open_1 22 rfl rfl)
theorem dX10_open_47 : decode cX10_open 47 = .ok (.aload_n 0, 1) := dk_42 (dk_at dksX10_open_1 23 rfl rfl)
theorem dX10_open_48 : decode cX10_open 48 = .ok (.iload_n 1, 1) := dk_27 (dk_at dksX10_open_2 0 rfl rfl)
theorem dX10_open_49 : decode cX10_open 49 = .ok (.iconst 1, 1) := dk_4 (dk_at dksX10_open_2 1 rfl rfl)
theorem dX10_open_50 : decode cX10_open 50 = .ok (.invokevirtual 82, 3) := dk_182 0 82 (dk_at dksX10_open_2 2 rfl rfl)
theorem dX10_open_53 : decode cX10_open 53 = .ok (.invokevirtual 414, 3) := dk_182 1 158 (dk_at dksX10_open_2 5 rfl rfl)
theorem dX10_open_56 : decode cX10_open 56 = .ok (.aload_n 0, 1) := dk_42 (dk_at dksX10_open_2 8 rfl rfl)
theorem dX10_open_57 : decode cX10_open 57 = .ok (.invokevirtual 162, 3) := dk_182 0 162 (dk_at dksX10_open_2 9 rfl rfl)
theorem dX10_open_60 : decode cX10_open 60 = .ok (.aload_n 0, 1) := dk_42 (dk_at dksX10_open_2 12 rfl rfl)
theorem dX10_open_61 : decode cX10_open 61 = .ok (.iload_n 1, 1) := dk_27 (dk_at dksX10_open_2 13 rfl rfl)
theorem dX10_open_62 : decode cX10_open 62 = .ok (.iconst 3, 1) := dk_6 (dk_at dksX10_open_2 14 rfl rfl)
theorem dX10_open_63 : decode cX10_open 63 = .ok (.invokevirtual 82, 3) := dk_182 0 82 (dk_at dksX10_open_2 15 rfl rfl)
theorem dX10_open_66 : decode cX10_open 66 = .ok (.isub, 1) := dk_100 (dk_at dksX10_open_2 18 rfl rfl)
theorem dX10_open_67 : decode cX10_open 67 = .ok (.ireturn, 1) := dk_172 (dk_at dksX10_open_2 19 rfl rfl)
abbrev cX10_opens : ByteArray := prog_20_method_88_code
def yX10_opens : MethodName := ⟨RX10, "opens", "(II)V"⟩
def dkwX10_opens_3 : List UInt8 := [177]
abbrev dktX10_opens_3 : List UInt8 := dkwX10_opens_3 ++ []
def dkwX10_opens_2 : List UInt8 := [4, 96, 27, 79, 42, 180, 0, 13, 29, 5, 96, 28, 79, 42, 180, 0, 13, 16, 14, 92, 46, 4, 96, 79]
abbrev dktX10_opens_2 : List UInt8 := dkwX10_opens_2 ++ dktX10_opens_3
def dkwX10_opens_1 : List UInt8 := [180, 0, 13, 16, 14, 46, 104, 96, 62, 42, 180, 0, 13, 29, 42, 182, 0, 162, 79, 42, 180, 0, 13, 29]
abbrev dktX10_opens_1 : List UInt8 := dkwX10_opens_1 ++ dktX10_opens_2
def dkwX10_opens_0 : List UInt8 := [42, 27, 8, 28, 182, 0, 173, 42, 27, 16, 6, 42, 182, 0, 162, 182, 0, 173, 17, 1, 67, 6, 42]
abbrev dktX10_opens_0 : List UInt8 := dkwX10_opens_0 ++ dktX10_opens_1
theorem dksX10_opens_0 : cX10_opens.data.toList.drop 0 = dktX10_opens_0 := by decide +kernel
theorem dksX10_opens_1 : cX10_opens.data.toList.drop 23 = dktX10_opens_1 := dk_seg dksX10_opens_0 23 rfl rfl
theorem dksX10_opens_2 : cX10_opens.data.toList.drop 47 = dktX10_opens_2 := dk_seg dksX10_opens_1 24 rfl rfl
theorem dksX10_opens_3 : cX10_opens.data.toList.drop 71 = dktX10_opens_3 := dk_seg dksX10_opens_2 24 rfl rfl
theorem dX10_opens_0 : decode cX10_opens 0 = .ok (.aload_n 0, 1) := dk_42 (dk_at dksX10_opens_0 0 rfl rfl)
theorem dX10_opens_1 : decode cX10_opens 1 = .ok (.iload_n 1, 1) := dk_27 (dk_at dksX10_opens_0 1 rfl rfl)
theorem dX10_opens_2 : decode cX10_opens 2 = .ok (.iconst 5, 1) := dk_8 (dk_at dksX10_opens_0 2 rfl rfl)
theorem dX10_opens_3 : decode cX10_opens 3 = .ok (.iload_n 2, 1) := dk_28 (dk_at dksX10_opens_0 3 rfl rfl)
theorem dX10_opens_4 : decode cX10_opens 4 = .ok (.invokevirtual 173, 3) := dk_182 0 173 (dk_at dksX10_opens_0 4 rfl rfl)
theorem dX10_opens_7 : decode cX10_opens 7 = .ok (.aload_n 0, 1) := dk_42 (dk_at dksX10_opens_0 7 rfl rfl)
theorem dX10_opens_8 : decode cX10_opens 8 = .ok (.iload_n 1, 1) := dk_27 (dk_at dksX10_opens_0 8 rfl rfl)
theorem dX10_opens_9 : decode cX10_opens 9 = .ok (.bipush 6, 2) := dk_16 6 (dk_at dksX10_opens_0 9 rfl rfl)
theorem dX10_opens_11 : decode cX10_opens 11 = .ok (.aload_n 0, 1) := dk_42 (dk_at dksX10_opens_0 11 rfl rfl)
theorem dX10_opens_12 : decode cX10_opens 12 = .ok (.invokevirtual 162, 3) := dk_182 0 162 (dk_at dksX10_opens_0 12 rfl rfl)
theorem dX10_opens_15 : decode cX10_opens 15 = .ok (.invokevirtual 173, 3) := dk_182 0 173 (dk_at dksX10_opens_0 15 rfl rfl)
theorem dX10_opens_18 : decode cX10_opens 18 = .ok (.sipush 323, 3) := dk_17 1 67 (dk_at dksX10_opens_0 18 rfl rfl)
theorem dX10_opens_21 : decode cX10_opens 21 = .ok (.iconst 3, 1) := dk_6 (dk_at dksX10_opens_0 21 rfl rfl)
theorem dX10_opens_22 : decode cX10_opens 22 = .ok (.aload_n 0, 1) := dk_42 (dk_at dksX10_opens_0 22 rfl rfl)
theorem dX10_opens_23 : decode cX10_opens 23 = .ok (.getfield 13, 3) := dk_180 0 13 (dk_at dksX10_opens_1 0 rfl rfl)
theorem dX10_opens_26 : decode cX10_opens 26 = .ok (.bipush 14, 2) := dk_16 14 (dk_at dksX10_opens_1 3 rfl rfl)
theorem dX10_opens_28 : decode cX10_opens 28 = .ok (.iaload, 1) := dk_46 (dk_at dksX10_opens_1 5 rfl rfl)
theorem dX10_opens_29 : decode cX10_opens 29 = .ok (.imul, 1) := dk_104 (dk_at dksX10_opens_1 6 rfl rfl)
theorem dX10_opens_30 : decode cX10_opens 30 = .ok (.iadd, 1) := dk_96 (dk_at dksX10_opens_1 7 rfl rfl)
theorem dX10_opens_31 : decode cX10_opens 31 = .ok (.istore_n 3, 1) := dk_62 (dk_at dksX10_opens_1 8 rfl rfl)
theorem dX10_opens_32 : decode cX10_opens 32 = .ok (.aload_n 0, 1) := dk_42 (dk_at dksX10_opens_1 9 rfl rfl)
theorem dX10_opens_33 : decode cX10_opens 33 = .ok (.getfield 13, 3) := dk_180 0 13 (dk_at dksX10_opens_1 10 rfl rfl)
theorem dX10_opens_36 : decode cX10_opens 36 = .ok (.iload_n 3, 1) := dk_29 (dk_at dksX10_opens_1 13 rfl rfl)
theorem dX10_opens_37 : decode cX10_opens 37 = .ok (.aload_n 0, 1) := dk_42 (dk_at dksX10_opens_1 14 rfl rfl)
theorem dX10_opens_38 : decode cX10_opens 38 = .ok (.invokevirtual 162, 3) := dk_182 0 162 (dk_at dksX10_opens_1 15 rfl rfl)
theorem dX10_opens_41 : decode cX10_opens 41 = .ok (.iastore, 1) := dk_79 (dk_at dksX10_opens_1 18 rfl rfl)
theorem dX10_opens_42 : decode cX10_opens 42 = .ok (.aload_n 0, 1) := dk_42 (dk_at dksX10_opens_1 19 rfl rfl)
theorem dX10_opens_43 : decode cX10_opens 43 = .ok (.getfield 13, 3) := dk_180 0 13 (dk_at dksX10_opens_1 20 rfl rfl)
theorem dX10_opens_46 : decode cX10_opens 46 = .ok (.iload_n 3, 1) := dk_29 (dk_at dksX10_opens_1 23 rfl rfl)
theorem dX10_opens_47 : decode cX10_opens 47 = .ok (.iconst 1, 1) := dk_4 (dk_at dksX10_opens_2 0 rfl rfl)
theorem dX10_opens_48 : decode cX10_opens 48 = .ok (.iadd, 1) := dk_96 (dk_at dksX10_opens_2 1 rfl rfl)
theorem dX10_opens_49 : decode cX10_opens 49 = .ok (.iload_n 1, 1) := dk_27 (dk_at dksX10_opens_2 2 rfl rfl)
theorem dX10_opens_50 : decode cX10_opens 50 = .ok (.iastore, 1) := dk_79 (dk_at dksX10_opens_2 3 rfl rfl)
theorem dX10_opens_51 : decode cX10_opens 51 = .ok (.aload_n 0, 1) := dk_42 (dk_at dksX10_opens_2 4 rfl rfl)
theorem dX10_opens_52 : decode cX10_opens 52 = .ok (.getfield 13, 3) := dk_180 0 13 (dk_at dksX10_opens_2 5 rfl rfl)
theorem dX10_opens_55 : decode cX10_opens 55 = .ok (.iload_n 3, 1) := dk_29 (dk_at dksX10_opens_2 8 rfl rfl)
theorem dX10_opens_56 : decode cX10_opens 56 = .ok (.iconst 2, 1) := dk_5 (dk_at dksX10_opens_2 9 rfl rfl)
theorem dX10_opens_57 : decode cX10_opens 57 = .ok (.iadd, 1) := dk_96 (dk_at dksX10_opens_2 10 rfl rfl)
theorem dX10_opens_58 : decode cX10_opens 58 = .ok (.iload_n 2, 1) := dk_28 (dk_at dksX10_opens_2 11 rfl rfl)
theorem dX10_opens_59 : decode cX10_opens 59 = .ok (.iastore, 1) := dk_79 (dk_at dksX10_opens_2 12 rfl rfl)
theorem dX10_opens_60 : decode cX10_opens 60 = .ok (.aload_n 0, 1) := dk_42 (dk_at dksX10_opens_2 13 rfl rfl)
theorem dX10_opens_61 : decode cX10_opens 61 = .ok (.getfield 13, 3) := dk_180 0 13 (dk_at dksX10_opens_2 14 rfl rfl)
theorem dX10_opens_64 : decode cX10_opens 64 = .ok (.bipush 14, 2) := dk_16 14 (dk_at dksX10_opens_2 17 rfl rfl)
theorem dX10_opens_66 : decode cX10_opens 66 = .ok (.dup2, 1) := dk_92 (dk_at dksX10_opens_2 19 rfl rfl)
theorem dX10_opens_67 : decode cX10_opens 67 = .ok (.iaload, 1) := dk_46 (dk_at dksX10_opens_2 20 rfl rfl)
theorem dX10_opens_68 : decode cX10_opens 68 = .ok (.iconst 1, 1) := dk_4 (dk_at dksX10_opens_2 21 rfl rfl)
theorem dX10_opens_69 : decode cX10_opens 69 = .ok (.iadd, 1) := dk_96 (dk_at dksX10_opens_2 22 rfl rfl)
theorem dX10_opens_70 : decode cX10_opens 70 = .ok (.iastore, 1) := dk_79 (dk_at dksX10_opens_2 23 rfl rfl)
theorem dX10_opens_71 : decode cX10_opens 71 = .ok (.return_, 1) := dk_177 (dk_at dksX10_opens_3 0 rfl rfl)
abbrev cX10_years : ByteArray := prog_20_method_93_code
def yX10_years : MethodName := ⟨RX10, "years", "(I)I"⟩
def dkwX10_years_2 : List UInt8 := [3, 61, 3, 62, 29, 27, 162, 0, 16, 28, 42, 182, 1, 167, 96, 61, 132, 3, 1, 167, 255, 241, 28, 172]
abbrev dktX10_years_2 : List UInt8 := dkwX10_years_2 ++ []
def dkwX10_years_1 : List UInt8 := [17, 1, 43, 164, 0, 7, 4, 167, 0, 4, 3, 4, 182, 1, 44, 153, 0, 5, 3, 172, 42, 182, 1, 155]
abbrev dktX10_years_1 : List UInt8 := dkwX10_years_1 ++ dktX10_years_2
def dkwX10_years_0 : List UInt8 := [42, 3, 181, 0, 3, 42, 27, 4, 16, 50, 184, 0, 90, 153, 0, 15, 42, 182, 0, 162, 27, 96]
abbrev dktX10_years_0 : List UInt8 := dkwX10_years_0 ++ dktX10_years_1
theorem dksX10_years_0 : cX10_years.data.toList.drop 0 = dktX10_years_0 := by decide +kernel
theorem dksX10_years_1 : cX10_years.data.toList.drop 22 = dktX10_years_1 := dk_seg dksX10_years_0 22 rfl rfl
theorem dksX10_years_2 : cX10_years.data.toList.drop 46 = dktX10_years_2 := dk_seg dksX10_years_1 24 rfl rfl
theorem dX10_years_0 : decode cX10_years 0 = .ok (.aload_n 0, 1) := dk_42 (dk_at dksX10_years_0 0 rfl rfl)
theorem dX10_years_1 : decode cX10_years 1 = .ok (.iconst 0, 1) := dk_3 (dk_at dksX10_years_0 1 rfl rfl)
theorem dX10_years_2 : decode cX10_years 2 = .ok (.putfield 3, 3) := dk_181 0 3 (dk_at dksX10_years_0 2 rfl rfl)
theorem dX10_years_5 : decode cX10_years 5 = .ok (.aload_n 0, 1) := dk_42 (dk_at dksX10_years_0 5 rfl rfl)
theorem dX10_years_6 : decode cX10_years 6 = .ok (.iload_n 1, 1) := dk_27 (dk_at dksX10_years_0 6 rfl rfl)
theorem dX10_years_7 : decode cX10_years 7 = .ok (.iconst 1, 1) := dk_4 (dk_at dksX10_years_0 7 rfl rfl)
theorem dX10_years_8 : decode cX10_years 8 = .ok (.bipush 50, 2) := dk_16 50 (dk_at dksX10_years_0 8 rfl rfl)
theorem dX10_years_10 : decode cX10_years 10 = .ok (.invokestatic 90, 3) := dk_184 0 90 (dk_at dksX10_years_0 10 rfl rfl)
theorem dX10_years_13 : decode cX10_years 13 = .ok (.ifCond .eq 15, 3) := dk_153 0 15 (dk_at dksX10_years_0 13 rfl rfl)
theorem dX10_years_16 : decode cX10_years 16 = .ok (.aload_n 0, 1) := dk_42 (dk_at dksX10_years_0 16 rfl rfl)
theorem dX10_years_17 : decode cX10_years 17 = .ok (.invokevirtual 162, 3) := dk_182 0 162 (dk_at dksX10_years_0 17 rfl rfl)
theorem dX10_years_20 : decode cX10_years 20 = .ok (.iload_n 1, 1) := dk_27 (dk_at dksX10_years_0 20 rfl rfl)
theorem dX10_years_21 : decode cX10_years 21 = .ok (.iadd, 1) := dk_96 (dk_at dksX10_years_0 21 rfl rfl)
theorem dX10_years_22 : decode cX10_years 22 = .ok (.sipush 299, 3) := dk_17 1 43 (dk_at dksX10_years_1 0 rfl rfl)
theorem dX10_years_25 : decode cX10_years 25 = .ok (.if_icmp .le 7, 3) := dk_164 0 7 (dk_at dksX10_years_1 3 rfl rfl)
theorem dX10_years_28 : decode cX10_years 28 = .ok (.iconst 1, 1) := dk_4 (dk_at dksX10_years_1 6 rfl rfl)
theorem dX10_years_29 : decode cX10_years 29 = .ok (.goto 4, 3) := dk_167 0 4 (dk_at dksX10_years_1 7 rfl rfl)
theorem dX10_years_32 : decode cX10_years 32 = .ok (.iconst 0, 1) := dk_3 (dk_at dksX10_years_1 10 rfl rfl)
theorem dX10_years_33 : decode cX10_years 33 = .ok (.iconst 1, 1) := dk_4 (dk_at dksX10_years_1 11 rfl rfl)
theorem dX10_years_34 : decode cX10_years 34 = .ok (.invokevirtual 300, 3) := dk_182 1 44 (dk_at dksX10_years_1 12 rfl rfl)
theorem dX10_years_37 : decode cX10_years 37 = .ok (.ifCond .eq 5, 3) := dk_153 0 5 (dk_at dksX10_years_1 15 rfl rfl)
theorem dX10_years_40 : decode cX10_years 40 = .ok (.iconst 0, 1) := dk_3 (dk_at dksX10_years_1 18 rfl rfl)
theorem dX10_years_41 : decode cX10_years 41 = .ok (.ireturn, 1) := dk_172 (dk_at dksX10_years_1 19 rfl rfl)
theorem dX10_years_42 : decode cX10_years 42 = .ok (.aload_n 0, 1) := dk_42 (dk_at dksX10_years_1 20 rfl rfl)
theorem dX10_years_43 : decode cX10_years 43 = .ok (.invokevirtual 411, 3) := dk_182 1 155 (dk_at dksX10_years_1 21 rfl rfl)
theorem dX10_years_46 : decode cX10_years 46 = .ok (.iconst 0, 1) := dk_3 (dk_at dksX10_years_2 0 rfl rfl)
theorem dX10_years_47 : decode cX10_years 47 = .ok (.istore_n 2, 1) := dk_61 (dk_at dksX10_years_2 1 rfl rfl)
theorem dX10_years_48 : decode cX10_years 48 = .ok (.iconst 0, 1) := dk_3 (dk_at dksX10_years_2 2 rfl rfl)
theorem dX10_years_49 : decode cX10_years 49 = .ok (.istore_n 3, 1) := dk_62 (dk_at dksX10_years_2 3 rfl rfl)
theorem dX10_years_50 : decode cX10_years 50 = .ok (.iload_n 3, 1) := dk_29 (dk_at dksX10_years_2 4 rfl rfl)
theorem dX10_years_51 : decode cX10_years 51 = .ok (.iload_n 1, 1) := dk_27 (dk_at dksX10_years_2 5 rfl rfl)
theorem dX10_years_52 : decode cX10_years 52 = .ok (.if_icmp .ge 16, 3) := dk_162 0 16 (dk_at dksX10_years_2 6 rfl rfl)
theorem dX10_years_55 : decode cX10_years 55 = .ok (.iload_n 2, 1) := dk_28 (dk_at dksX10_years_2 9 rfl rfl)
theorem dX10_years_56 : decode cX10_years 56 = .ok (.aload_n 0, 1) := dk_42 (dk_at dksX10_years_2 10 rfl rfl)
theorem dX10_years_57 : decode cX10_years 57 = .ok (.invokevirtual 423, 3) := dk_182 1 167 (dk_at dksX10_years_2 11 rfl rfl)
theorem dX10_years_60 : decode cX10_years 60 = .ok (.iadd, 1) := dk_96 (dk_at dksX10_years_2 14 rfl rfl)
theorem dX10_years_61 : decode cX10_years 61 = .ok (.istore_n 2, 1) := dk_61 (dk_at dksX10_years_2 15 rfl rfl)
theorem dX10_years_62 : decode cX10_years 62 = .ok (.iinc 3 1, 3) := dk_132 3 1 (dk_at dksX10_years_2 16 rfl rfl)
theorem dX10_years_65 : decode cX10_years 65 = .ok (.goto (-15), 3) := dk_167 255 241 (dk_at dksX10_years_2 19 rfl rfl)
theorem dX10_years_68 : decode cX10_years 68 = .ok (.iload_n 2, 1) := dk_28 (dk_at dksX10_years_2 22 rfl rfl)
theorem dX10_years_69 : decode cX10_years 69 = .ok (.ireturn, 1) := dk_172 (dk_at dksX10_years_2 23 rfl rfl)
abbrev cX10_year : ByteArray := prog_20_method_92_code
def yX10_year : MethodName := ⟨RX10, "year", "()I"⟩
def dkwX10_year_2 : List UInt8 := [42, 28, 29, 182, 1, 158, 132, 1, 1, 132, 2, 1, 167, 255, 211, 27, 172]
abbrev dktX10_year_2 : List UInt8 := dkwX10_year_2 ++ []
def dkwX10_year_1 : List UInt8 := [28, 182, 1, 134, 153, 0, 11, 42, 28, 182, 1, 164, 167, 0, 4, 2, 62, 29, 156, 0, 6, 167, 0, 12]
abbrev dktX10_year_1 : List UInt8 := dkwX10_year_1 ++ dktX10_year_2
def dkwX10_year_0 : List UInt8 := [42, 180, 0, 13, 16, 9, 92, 46, 4, 96, 79, 3, 60, 3, 61, 28, 42, 182, 0, 100, 162, 0, 43, 42]
abbrev dktX10_year_0 : List UInt8 := dkwX10_year_0 ++ dktX10_year_1
theorem dksX10_year_0 : cX10_year.data.toList.drop 0 = dktX10_year_0 := by decide +kernel
theorem dksX10_year_1 : cX10_year.data.toList.drop 24 = dktX10_year_1 := dk_seg dksX10_year_0 24 rfl rfl
theorem dksX10_year_2 : cX10_year.data.toList.drop 48 = dktX10_year_2 := dk_seg dksX10_year_1 24 rfl rfl
theorem dX10_year_0 : decode cX10_year 0 = .ok (.aload_n 0, 1) := dk_42 (dk_at dksX10_year_0 0 rfl rfl)
theorem dX10_year_1 : decode cX10_year 1 = .ok (.getfield 13, 3) := dk_180 0 13 (dk_at dksX10_year_0 1 rfl rfl)
theorem dX10_year_4 : decode cX10_year 4 = .ok (.bipush 9, 2) := dk_16 9 (dk_at dksX10_year_0 4 rfl rfl)
theorem dX10_year_6 : decode cX10_year 6 = .ok (.dup2, 1) := dk_92 (dk_at dksX10_year_0 6 rfl rfl)
theorem dX10_year_7 : decode cX10_year 7 = .ok (.iaload, 1) := dk_46 (dk_at dksX10_year_0 7 rfl rfl)
theorem dX10_year_8 : decode cX10_year 8 = .ok (.iconst 1, 1) := dk_4 (dk_at dksX10_year_0 8 rfl rfl)
theorem dX10_year_9 : decode cX10_year 9 = .ok (.iadd, 1) := dk_96 (dk_at dksX10_year_0 9 rfl rfl)
theorem dX10_year_10 : decode cX10_year 10 = .ok (.iastore, 1) := dk_79 (dk_at dksX10_year_0 10 rfl rfl)
theorem dX10_year_11 : decode cX10_year 11 = .ok (.iconst 0, 1) := dk_3 (dk_at dksX10_year_0 11 rfl rfl)
theorem dX10_year_12 : decode cX10_year 12 = .ok (.istore_n 1, 1) := dk_60 (dk_at dksX10_year_0 12 rfl rfl)
theorem dX10_year_13 : decode cX10_year 13 = .ok (.iconst 0, 1) := dk_3 (dk_at dksX10_year_0 13 rfl rfl)
theorem dX10_year_14 : decode cX10_year 14 = .ok (.istore_n 2, 1) := dk_61 (dk_at dksX10_year_0 14 rfl rfl)
theorem dX10_year_15 : decode cX10_year 15 = .ok (.iload_n 2, 1) := dk_28 (dk_at dksX10_year_0 15 rfl rfl)
theorem dX10_year_16 : decode cX10_year 16 = .ok (.aload_n 0, 1) := dk_42 (dk_at dksX10_year_0 16 rfl rfl)
theorem dX10_year_17 : decode cX10_year 17 = .ok (.invokevirtual 100, 3) := dk_182 0 100 (dk_at dksX10_year_0 17 rfl rfl)
theorem dX10_year_20 : decode cX10_year 20 = .ok (.if_icmp .ge 43, 3) := dk_162 0 43 (dk_at dksX10_year_0 20 rfl rfl)
theorem dX10_year_23 : decode cX10_year 23 = .ok (.aload_n 0, 1) := dk_42 (dk_at dksX10_year_0 23 rfl rfl)
theorem dX10_year_24 : decode cX10_year 24 = .ok (.iload_n 2, 1) := dk_28 (dk_at dksX10_year_1 0 rfl rfl)
theorem dX10_year_25 : decode cX10_year 25 = .ok (.invokevirtual 390, 3) := dk_182 1 134 (dk_at dksX10_year_1 1 rfl rfl)
theorem dX10_year_28 : decode cX10_year 28 = .ok (.ifCond .eq 11, 3) := dk_153 0 11 (dk_at dksX10_year_1 4 rfl rfl)
theorem dX10_year_31 : decode cX10_year 31 = .ok (.aload_n 0, 1) := dk_42 (dk_at dksX10_year_1 7 rfl rfl)
theorem dX10_year_32 : decode cX10_year 32 = .ok (.iload_n 2, 1) := dk_28 (dk_at dksX10_year_1 8 rfl rfl)
theorem dX10_year_33 : decode cX10_year 33 = .ok (.invokevirtual 420, 3) := dk_182 1 164 (dk_at dksX10_year_1 9 rfl rfl)
theorem dX10_year_36 : decode cX10_year 36 = .ok (.goto 4, 3) := dk_167 0 4 (dk_at dksX10_year_1 12 rfl rfl)
theorem dX10_year_39 : decode cX10_year 39 = .ok (.iconst (-1), 1) := dk_2 (dk_at dksX10_year_1 15 rfl rfl)
theorem dX10_year_40 : decode cX10_year 40 = .ok (.istore_n 3, 1) := dk_62 (dk_at dksX10_year_1 16 rfl rfl)
theorem dX10_year_41 : decode cX10_year 41 = .ok (.iload_n 3, 1) := dk_29 (dk_at dksX10_year_1 17 rfl rfl)
theorem dX10_year_42 : decode cX10_year 42 = .ok (.ifCond .ge 6, 3) := dk_156 0 6 (dk_at dksX10_year_1 18 rfl rfl)
theorem dX10_year_45 : decode cX10_year 45 = .ok (.goto 12, 3) := dk_167 0 12 (dk_at dksX10_year_1 21 rfl rfl)
theorem dX10_year_48 : decode cX10_year 48 = .ok (.aload_n 0, 1) := dk_42 (dk_at dksX10_year_2 0 rfl rfl)
theorem dX10_year_49 : decode cX10_year 49 = .ok (.iload_n 2, 1) := dk_28 (dk_at dksX10_year_2 1 rfl rfl)
theorem dX10_year_50 : decode cX10_year 50 = .ok (.iload_n 3, 1) := dk_29 (dk_at dksX10_year_2 2 rfl rfl)
theorem dX10_year_51 : decode cX10_year 51 = .ok (.invokevirtual 414, 3) := dk_182 1 158 (dk_at dksX10_year_2 3 rfl rfl)
theorem dX10_year_54 : decode cX10_year 54 = .ok (.iinc 1 1, 3) := dk_132 1 1 (dk_at dksX10_year_2 6 rfl rfl)
theorem dX10_year_57 : decode cX10_year 57 = .ok (.iinc 2 1, 3) := dk_132 2 1 (dk_at dksX10_year_2 9 rfl rfl)
theorem dX10_year_60 : decode cX10_year 60 = .ok (.goto (-45), 3) := dk_167 255 211 (dk_at dksX10_year_2 12 rfl rfl)
theorem dX10_year_63 : decode cX10_year 63 = .ok (.iload_n 1, 1) := dk_27 (dk_at dksX10_year_2 15 rfl rfl)
theorem dX10_year_64 : decode cX10_year 64 = .ok (.ireturn, 1) := dk_172 (dk_at dksX10_year_2 16 rfl rfl)
abbrev cX10_opener : ByteArray := prog_20_method_91_code
def yX10_opener : MethodName := ⟨RX10, "opener", "(I)I"⟩
def dkwX10_opener_2 : List UInt8 := [160, 0, 14, 42, 29, 27, 182, 1, 161, 153, 0, 5, 29, 172, 132, 3, 1, 167, 255, 224, 2, 172]
abbrev dktX10_opener_2 : List UInt8 := dkwX10_opener_2 ++ []
def dkwX10_opener_1 : List UInt8 := [4, 182, 0, 82, 172, 3, 62, 29, 42, 182, 0, 97, 162, 0, 30, 42, 29, 5, 182, 1, 140, 28]
abbrev dktX10_opener_1 : List UInt8 := dkwX10_opener_1 ++ dktX10_opener_2
def dkwX10_opener_0 : List UInt8 := [42, 27, 5, 182, 0, 82, 61, 42, 42, 27, 4, 182, 0, 82, 5, 182, 1, 140, 28, 160, 0, 10, 42, 27]
abbrev dktX10_opener_0 : List UInt8 := dkwX10_opener_0 ++ dktX10_opener_1
theorem dksX10_opener_0 : cX10_opener.data.toList.drop 0 = dktX10_opener_0 := by decide +kernel
theorem dksX10_opener_1 : cX10_opener.data.toList.drop 24 = dktX10_opener_1 := dk_seg dksX10_opener_0 24 rfl rfl
theorem dksX10_opener_2 : cX10_opener.data.toList.drop 46 = dktX10_opener_2 := dk_seg dksX10_opener_1 22 rfl rfl
theorem dX10_opener_0 : decode cX10_opener 0 = .ok (.aload_n 0, 1) := dk_42 (dk_at dksX10_opener_0 0 rfl rfl)
theorem dX10_opener_1 : decode cX10_opener 1 = .ok (.iload_n 1, 1) := dk_27 (dk_at dksX10_opener_0 1 rfl rfl)
theorem dX10_opener_2 : decode cX10_opener 2 = .ok (.iconst 2, 1) := dk_5 (dk_at dksX10_opener_0 2 rfl rfl)
theorem dX10_opener_3 : decode cX10_opener 3 = .ok (.invokevirtual 82, 3) := dk_182 0 82 (dk_at dksX10_opener_0 3 rfl rfl)
theorem dX10_opener_6 : decode cX10_opener 6 = .ok (.istore_n 2, 1) := dk_61 (dk_at dksX10_opener_0 6 rfl rfl)
theorem dX10_opener_7 : decode cX10_opener 7 = .ok (.aload_n 0, 1) := dk_42 (dk_at dksX10_opener_0 7 rfl rfl)
theorem dX10_opener_8 : decode cX10_opener 8 = .ok (.aload_n 0, 1) := dk_42 (dk_at dksX10_opener_0 8 rfl rfl)
theorem dX10_opener_9 : decode cX10_opener 9 = .ok (.iload_n 1, 1) := dk_27 (dk_at dksX10_opener_0 9 rfl rfl)
theorem dX10_opener_10 : decode cX10_opener 10 = .ok (.iconst 1, 1) := dk_4 (dk_at dksX10_opener_0 10 rfl rfl)
theorem dX10_opener_11 : decode cX10_opener 11 = .ok (.invokevirtual 82, 3) := dk_182 0 82 (dk_at dksX10_opener_0 11 rfl rfl)
theorem dX10_opener_14 : decode cX10_opener 14 = .ok (.iconst 2, 1) := dk_5 (dk_at dksX10_opener_0 14 rfl rfl)
theorem dX10_opener_15 : decode cX10_opener 15 = .ok (.invokevirtual 396, 3) := dk_182 1 140 (dk_at dksX10_opener_0 15 rfl rfl)
theorem dX10_opener_18 : decode cX10_opener 18 = .ok (.iload_n 2, 1) := dk_28 (dk_at dksX10_opener_0 18 rfl rfl)
theorem dX10_opener_19 : decode cX10_opener 19 = .ok (.if_icmp .ne 10, 3) := dk_160 0 10 (dk_at dksX10_opener_0 19 rfl rfl)
theorem dX10_opener_22 : decode cX10_opener 22 = .ok (.aload_n 0, 1) := dk_42 (dk_at dksX10_opener_0 22 rfl rfl)
theorem dX10_opener_23 : decode cX10_opener 23 = .ok (.iload_n 1, 1) := dk_27 (dk_at dksX10_opener_0 23 rfl rfl)
theorem dX10_opener_24 : decode cX10_opener 24 = .ok (.iconst 1, 1) := dk_4 (dk_at dksX10_opener_1 0 rfl rfl)
theorem dX10_opener_25 : decode cX10_opener 25 = .ok (.invokevirtual 82, 3) := dk_182 0 82 (dk_at dksX10_opener_1 1 rfl rfl)
theorem dX10_opener_28 : decode cX10_opener 28 = .ok (.ireturn, 1) := dk_172 (dk_at dksX10_opener_1 4 rfl rfl)
theorem dX10_opener_29 : decode cX10_opener 29 = .ok (.iconst 0, 1) := dk_3 (dk_at dksX10_opener_1 5 rfl rfl)
theorem dX10_opener_30 : decode cX10_opener 30 = .ok (.istore_n 3, 1) := dk_62 (dk_at dksX10_opener_1 6 rfl rfl)
theorem dX10_opener_31 : decode cX10_opener 31 = .ok (.iload_n 3, 1) := dk_29 (dk_at dksX10_opener_1 7 rfl rfl)
theorem dX10_opener_32 : decode cX10_opener 32 = .ok (.aload_n 0, 1) := dk_42 (dk_at dksX10_opener_1 8 rfl rfl)
theorem dX10_opener_33 : decode cX10_opener 33 = .ok (.invokevirtual 97, 3) := dk_182 0 97 (dk_at dksX10_opener_1 9 rfl rfl)
theorem dX10_opener_36 : decode cX10_opener 36 = .ok (.if_icmp .ge 30, 3) := dk_162 0 30 (dk_at dksX10_opener_1 12 rfl rfl)
theorem dX10_opener_39 : decode cX10_opener 39 = .ok (.aload_n 0, 1) := dk_42 (dk_at dksX10_opener_1 15 rfl rfl)
theorem dX10_opener_40 : decode cX10_opener 40 = .ok (.iload_n 3, 1) := dk_29 (dk_at dksX10_opener_1 16 rfl rfl)
theorem dX10_opener_41 : decode cX10_opener 41 = .ok (.iconst 2, 1) := dk_5 (dk_at dksX10_opener_1 17 rfl rfl)
theorem dX10_opener_42 : decode cX10_opener 42 = .ok (.invokevirtual 396, 3) := dk_182 1 140 (dk_at dksX10_opener_1 18 rfl rfl)
theorem dX10_opener_45 : decode cX10_opener 45 = .ok (.iload_n 2, 1) := dk_28 (dk_at dksX10_opener_1 21 rfl rfl)
theorem dX10_opener_46 : decode cX10_opener 46 = .ok (.if_icmp .ne 14, 3) := dk_160 0 14 (dk_at dksX10_opener_2 0 rfl rfl)
theorem dX10_opener_49 : decode cX10_opener 49 = .ok (.aload_n 0, 1) := dk_42 (dk_at dksX10_opener_2 3 rfl rfl)
theorem dX10_opener_50 : decode cX10_opener 50 = .ok (.iload_n 3, 1) := dk_29 (dk_at dksX10_opener_2 4 rfl rfl)
theorem dX10_opener_51 : decode cX10_opener 51 = .ok (.iload_n 1, 1) := dk_27 (dk_at dksX10_opener_2 5 rfl rfl)
theorem dX10_opener_52 : decode cX10_opener 52 = .ok (.invokevirtual 417, 3) := dk_182 1 161 (dk_at dksX10_opener_2 6 rfl rfl)
theorem dX10_opener_55 : decode cX10_opener 55 = .ok (.ifCond .eq 5, 3) := dk_153 0 5 (dk_at dksX10_opener_2 9 rfl rfl)
theorem dX10_opener_58 : decode cX10_opener 58 = .ok (.iload_n 3, 1) := dk_29 (dk_at dksX10_opener_2 12 rfl rfl)
theorem dX10_opener_59 : decode cX10_opener 59 = .ok (.ireturn, 1) := dk_172 (dk_at dksX10_opener_2 13 rfl rfl)
theorem dX10_opener_60 : decode cX10_opener 60 = .ok (.iinc 3 1, 3) := dk_132 3 1 (dk_at dksX10_opener_2 14 rfl rfl)
theorem dX10_opener_63 : decode cX10_opener 63 = .ok (.goto (-32), 3) := dk_167 255 224 (dk_at dksX10_opener_2 17 rfl rfl)
theorem dX10_opener_66 : decode cX10_opener 66 = .ok (.iconst (-1), 1) := dk_2 (dk_at dksX10_opener_2 20 rfl rfl)
theorem dX10_opener_67 : decode cX10_opener 67 = .ok (.ireturn, 1) := dk_172 (dk_at dksX10_opener_2 21 rfl rfl)
abbrev cX10_mayOpen : ByteArray := prog_20_method_90_code
def yX10_mayOpen : MethodName := ⟨RX10, "mayOpen", "(II)Z"⟩
def dkwX10_mayOpen_3 : List UInt8 := [158, 0, 7, 4, 167, 0, 4, 3, 172]
abbrev dktX10_mayOpen_3 : List UInt8 := dkwX10_mayOpen_3 ++ []
def dkwX10_mayOpen_2 : List UInt8 := [100, 181, 1, 62, 42, 42, 180, 0, 48, 42, 180, 1, 112, 46, 181, 1, 65, 42, 5, 182, 1, 85]
abbrev dktX10_mayOpen_2 : List UInt8 := dkwX10_mayOpen_2 ++ dktX10_mayOpen_3
def dkwX10_mayOpen_1 : List UInt8 := [181, 1, 53, 42, 3, 181, 1, 56, 42, 27, 181, 1, 59, 42, 42, 182, 0, 162, 42, 28, 6, 182, 0, 82]
abbrev dktX10_mayOpen_1 : List UInt8 := dkwX10_mayOpen_1 ++ dktX10_mayOpen_2
def dkwX10_mayOpen_0 : List UInt8 := [42, 42, 28, 5, 182, 0, 82, 181, 1, 47, 42, 42, 182, 0, 94, 181, 1, 50, 42, 42, 182, 0, 162]
abbrev dktX10_mayOpen_0 : List UInt8 := dkwX10_mayOpen_0 ++ dktX10_mayOpen_1
theorem dksX10_mayOpen_0 : cX10_mayOpen.data.toList.drop 0 = dktX10_mayOpen_0 := by decide +kernel
theorem dksX10_mayOpen_1 : cX10_mayOpen.data.toList.drop 23 = dktX10_mayOpen_1 := dk_seg dksX10_mayOpen_0 23 rfl rfl
theorem dksX10_mayOpen_2 : cX10_mayOpen.data.toList.drop 47 = dktX10_mayOpen_2 := dk_seg dksX10_mayOpen_1 24 rfl rfl
theorem dksX10_mayOpen_3 : cX10_mayOpen.data.toList.drop 69 = dktX10_mayOpen_3 := dk_seg dksX10_mayOpen_2 22 rfl rfl
theorem dX10_mayOpen_0 : decode cX10_mayOpen 0 = .ok (.aload_n 0, 1) := dk_42 (dk_at dksX10_mayOpen_0 0 rfl rfl)
theorem dX10_mayOpen_1 : decode cX10_mayOpen 1 = .ok (.aload_n 0, 1) := dk_42 (dk_at dksX10_mayOpen_0 1 rfl rfl)
theorem dX10_mayOpen_2 : decode cX10_mayOpen 2 = .ok (.iload_n 2, 1) := dk_28 (dk_at dksX10_mayOpen_0 2 rfl rfl)
theorem dX10_mayOpen_3 : decode cX10_mayOpen 3 = .ok (.iconst 2, 1) := dk_5 (dk_at dksX10_mayOpen_0 3 rfl rfl)
theorem dX10_mayOpen_4 : decode cX10_mayOpen 4 = .ok (.invokevirtual 82, 3) := dk_182 0 82 (dk_at dksX10_mayOpen_0 4 rfl rfl)
theorem dX10_mayOpen_7 : decode cX10_mayOpen 7 = .ok (.putfield 303, 3) := dk_181 1 47 (dk_at dksX10_mayOpen_0 7 rfl rfl)
theorem dX10_mayOpen_10 : decode cX10_mayOpen 10 = .ok (.aload_n 0, 1) := dk_42 (dk_at dksX10_mayOpen_0 10 rfl rfl)
theorem dX10_mayOpen_11 : decode cX10_mayOpen 11 = .ok (.aload_n 0, 1) := dk_42 (dk_at dksX10_mayOpen_0 11 rfl rfl)
theorem dX10_mayOpen_12 : decode cX10_mayOpen 12 = .ok (.invokevirtual 94, 3) := dk_182 0 94 (dk_at dksX10_mayOpen_0 12 rfl rfl)
theorem dX10_mayOpen_15 : decode cX10_mayOpen 15 = .ok (.putfield 306, 3) := dk_181 1 50 (dk_at dksX10_mayOpen_0 15 rfl rfl)
theorem dX10_mayOpen_18 : decode cX10_mayOpen 18 = .ok (.aload_n 0, 1) := dk_42 (dk_at dksX10_mayOpen_0 18 rfl rfl)
theorem dX10_mayOpen_19 : decode cX10_mayOpen 19 = .ok (.aload_n 0, 1) := dk_42 (dk_at dksX10_mayOpen_0 19 rfl rfl)
theorem dX10_mayOpen_20 : decode cX10_mayOpen 20 = .ok (.invokevirtual 162, 3) := dk_182 0 162 (dk_at dksX10_mayOpen_0 20 rfl rfl)
theorem dX10_mayOpen_23 : decode cX10_mayOpen 23 = .ok (.putfield 309, 3) := dk_181 1 53 (dk_at dksX10_mayOpen_1 0 rfl rfl)
theorem dX10_mayOpen_26 : decode cX10_mayOpen 26 = .ok (.aload_n 0, 1) := dk_42 (dk_at dksX10_mayOpen_1 3 rfl rfl)
theorem dX10_mayOpen_27 : decode cX10_mayOpen 27 = .ok (.iconst 0, 1) := dk_3 (dk_at dksX10_mayOpen_1 4 rfl rfl)
theorem dX10_mayOpen_28 : decode cX10_mayOpen 28 = .ok (.putfield 312, 3) := dk_181 1 56 (dk_at dksX10_mayOpen_1 5 rfl rfl)
theorem dX10_mayOpen_31 : decode cX10_mayOpen 31 = .ok (.aload_n 0, 1) := dk_42 (dk_at dksX10_mayOpen_1 8 rfl rfl)
theorem dX10_mayOpen_32 : decode cX10_mayOpen 32 = .ok (.iload_n 1, 1) := dk_27 (dk_at dksX10_mayOpen_1 9 rfl rfl)
theorem dX10_mayOpen_33 : decode cX10_mayOpen 33 = .ok (.putfield 315, 3) := dk_181 1 59 (dk_at dksX10_mayOpen_1 10 rfl rfl)
theorem dX10_mayOpen_36 : decode cX10_mayOpen 36 = .ok (.aload_n 0, 1) := dk_42 (dk_at dksX10_mayOpen_1 13 rfl rfl)
theorem dX10_mayOpen_37 : decode cX10_mayOpen 37 = .ok (.aload_n 0, 1) := dk_42 (dk_at dksX10_mayOpen_1 14 rfl rfl)
theorem dX10_mayOpen_38 : decode cX10_mayOpen 38 = .ok (.invokevirtual 162, 3) := dk_182 0 162 (dk_at dksX10_mayOpen_1 15 rfl rfl)
theorem dX10_mayOpen_41 : decode cX10_mayOpen 41 = .ok (.aload_n 0, 1) := dk_42 (dk_at dksX10_mayOpen_1 18 rfl rfl)
theorem dX10_mayOpen_42 : decode cX10_mayOpen 42 = .ok (.iload_n 2, 1) := dk_28 (dk_at dksX10_mayOpen_1 19 rfl rfl)
theorem dX10_mayOpen_43 : decode cX10_mayOpen 43 = .ok (.iconst 3, 1) := dk_6 (dk_at dksX10_mayOpen_1 20 rfl rfl)
theorem dX10_mayOpen_44 : decode cX10_mayOpen 44 = .ok (.invokevirtual 82, 3) := dk_182 0 82 (dk_at dksX10_mayOpen_1 21 rfl rfl)
theorem dX10_mayOpen_47 : decode cX10_mayOpen 47 = .ok (.isub, 1) := dk_100 (dk_at dksX10_mayOpen_2 0 rfl rfl)
theorem dX10_mayOpen_48 : decode cX10_mayOpen 48 = .ok (.putfield 318, 3) := dk_181 1 62 (dk_at dksX10_mayOpen_2 1 rfl rfl)
theorem dX10_mayOpen_51 : decode cX10_mayOpen 51 = .ok (.aload_n 0, 1) := dk_42 (dk_at dksX10_mayOpen_2 4 rfl rfl)
theorem dX10_mayOpen_52 : decode cX10_mayOpen 52 = .ok (.aload_n 0, 1) := dk_42 (dk_at dksX10_mayOpen_2 5 rfl rfl)
theorem dX10_mayOpen_53 : decode cX10_mayOpen 53 = .ok (.getfield 48, 3) := dk_180 0 48 (dk_at dksX10_mayOpen_2 6 rfl rfl)
theorem dX10_mayOpen_56 : decode cX10_mayOpen 56 = .ok (.aload_n 0, 1) := dk_42 (dk_at dksX10_mayOpen_2 9 rfl rfl)
theorem dX10_mayOpen_57 : decode cX10_mayOpen 57 = .ok (.getfield 368, 3) := dk_180 1 112 (dk_at dksX10_mayOpen_2 10 rfl rfl)
theorem dX10_mayOpen_60 : decode cX10_mayOpen 60 = .ok (.iaload, 1) := dk_46 (dk_at dksX10_mayOpen_2 13 rfl rfl)
theorem dX10_mayOpen_61 : decode cX10_mayOpen 61 = .ok (.putfield 321, 3) := dk_181 1 65 (dk_at dksX10_mayOpen_2 14 rfl rfl)
theorem dX10_mayOpen_64 : decode cX10_mayOpen 64 = .ok (.aload_n 0, 1) := dk_42 (dk_at dksX10_mayOpen_2 17 rfl rfl)
theorem dX10_mayOpen_65 : decode cX10_mayOpen 65 = .ok (.iconst 2, 1) := dk_5 (dk_at dksX10_mayOpen_2 18 rfl rfl)
theorem dX10_mayOpen_66 : decode cX10_mayOpen 66 = .ok (.invokevirtual 341, 3) := dk_182 1 85 (dk_at dksX10_mayOpen_2 19 rfl rfl)
theorem dX10_mayOpen_69 : decode cX10_mayOpen 69 = .ok (.ifCond .le 7, 3) := dk_158 0 7 (dk_at dksX10_mayOpen_3 0 rfl rfl)
theorem dX10_mayOpen_72 : decode cX10_mayOpen 72 = .ok (.iconst 1, 1) := dk_4 (dk_at dksX10_mayOpen_3 3 rfl rfl)
theorem dX10_mayOpen_73 : decode cX10_mayOpen 73 = .ok (.goto 4, 3) := dk_167 0 4 (dk_at dksX10_mayOpen_3 4 rfl rfl)
theorem dX10_mayOpen_76 : decode cX10_mayOpen 76 = .ok (.iconst 0, 1) := dk_3 (dk_at dksX10_mayOpen_3 7 rfl rfl)
theorem dX10_mayOpen_77 : decode cX10_mayOpen 77 = .ok (.ireturn, 1) := dk_172 (dk_at dksX10_mayOpen_3 8 rfl rfl)
abbrev cX10_throwsFor : ByteArray := prog_20_method_94_code
def yX10_throwsFor : MethodName := ⟨RX10, "throwsFor", "(IIII)I"⟩
def dkwX10_throwsFor_7 : List UInt8 := [21, 7, 172]
abbrev dktX10_throwsFor_7 : List UInt8 := dkwX10_throwsFor_7 ++ []
def dkwX10_throwsFor_6 : List UInt8 := [167, 255, 208, 21, 4, 154, 0, 8, 21, 5, 167, 0, 16, 21, 4, 4, 160, 0, 8, 21, 6, 167, 0, 5]
abbrev dktX10_throwsFor_6 : List UInt8 := dkwX10_throwsFor_6 ++ dktX10_throwsFor_7
def dkwX10_throwsFor_5 : List UInt8 := [154, 0, 8, 21, 8, 167, 0, 5, 21, 6, 54, 6, 21, 8, 54, 7, 132, 5, 1, 132, 8, 1]
abbrev dktX10_throwsFor_5 : List UInt8 := dkwX10_throwsFor_5 ++ dktX10_throwsFor_6
def dkwX10_throwsFor_4 : List UInt8 := [182, 0, 94, 162, 0, 45, 42, 27, 21, 8, 28, 182, 1, 169, 29, 159, 0, 6, 167, 0, 24, 21, 5]
abbrev dktX10_throwsFor_4 : List UInt8 := dkwX10_throwsFor_4 ++ dktX10_throwsFor_5
def dkwX10_throwsFor_3 : List UInt8 := [182, 1, 44, 153, 0, 5, 3, 172, 3, 54, 5, 2, 54, 6, 2, 54, 7, 3, 54, 8, 21, 8, 42]
abbrev dktX10_throwsFor_3 : List UInt8 := dkwX10_throwsFor_3 ++ dktX10_throwsFor_4
def dkwX10_throwsFor_2 : List UInt8 := [182, 1, 44, 154, 0, 26, 42, 21, 4, 3, 5, 184, 0, 90, 154, 0, 7, 4, 167, 0, 4, 3, 6]
abbrev dktX10_throwsFor_2 : List UInt8 := dkwX10_throwsFor_2 ++ dktX10_throwsFor_3
def dkwX10_throwsFor_1 : List UInt8 := [154, 0, 18, 29, 184, 1, 97, 154, 0, 11, 28, 42, 182, 0, 162, 162, 0, 7, 4, 167, 0, 4, 3, 5]
abbrev dktX10_throwsFor_1 : List UInt8 := dkwX10_throwsFor_1 ++ dktX10_throwsFor_2
def dkwX10_throwsFor_0 : List UInt8 := [42, 3, 181, 0, 3, 42, 42, 27, 182, 1, 100, 4, 182, 1, 44, 154, 0, 61, 42, 28, 184, 1, 97]
abbrev dktX10_throwsFor_0 : List UInt8 := dkwX10_throwsFor_0 ++ dktX10_throwsFor_1
theorem dksX10_throwsFor_0 : cX10_throwsFor.data.toList.drop 0 = dktX10_throwsFor_0 := by decide +kernel
theorem dksX10_throwsFor_1 : cX10_throwsFor.data.toList.drop 23 = dktX10_throwsFor_1 := dk_seg dksX10_throwsFor_0 23 rfl rfl
theorem dksX10_throwsFor_2 : cX10_throwsFor.data.toList.drop 47 = dktX10_throwsFor_2 := dk_seg dksX10_throwsFor_1 24 rfl rfl
theorem dksX10_throwsFor_3 : cX10_throwsFor.data.toList.drop 70 = dktX10_throwsFor_3 := dk_seg dksX10_throwsFor_2 23 rfl rfl
theorem dksX10_throwsFor_4 : cX10_throwsFor.data.toList.drop 93 = dktX10_throwsFor_4 := dk_seg dksX10_throwsFor_3 23 rfl rfl
theorem dksX10_throwsFor_5 : cX10_throwsFor.data.toList.drop 116 = dktX10_throwsFor_5 := dk_seg dksX10_throwsFor_4 23 rfl rfl
theorem dksX10_throwsFor_6 : cX10_throwsFor.data.toList.drop 138 = dktX10_throwsFor_6 := dk_seg dksX10_throwsFor_5 22 rfl rfl
theorem dksX10_throwsFor_7 : cX10_throwsFor.data.toList.drop 162 = dktX10_throwsFor_7 := dk_seg dksX10_throwsFor_6 24 rfl rfl
theorem dX10_throwsFor_0 : decode cX10_throwsFor 0 = .ok (.aload_n 0, 1) := dk_42 (dk_at dksX10_throwsFor_0 0 rfl rfl)
theorem dX10_throwsFor_1 : decode cX10_throwsFor 1 = .ok (.iconst 0, 1) := dk_3 (dk_at dksX10_throwsFor_0 1 rfl rfl)
theorem dX10_throwsFor_2 : decode cX10_throwsFor 2 = .ok (.putfield 3, 3) := dk_181 0 3 (dk_at dksX10_throwsFor_0 2 rfl rfl)
theorem dX10_throwsFor_5 : decode cX10_throwsFor 5 = .ok (.aload_n 0, 1) := dk_42 (dk_at dksX10_throwsFor_0 5 rfl rfl)
theorem dX10_throwsFor_6 : decode cX10_throwsFor 6 = .ok (.aload_n 0, 1) := dk_42 (dk_at dksX10_throwsFor_0 6 rfl rfl)
theorem dX10_throwsFor_7 : decode cX10_throwsFor 7 = .ok (.iload_n 1, 1) := dk_27 (dk_at dksX10_throwsFor_0 7 rfl rfl)
theorem dX10_throwsFor_8 : decode cX10_throwsFor 8 = .ok (.invokevirtual 356, 3) := dk_182 1 100 (dk_at dksX10_throwsFor_0 8 rfl rfl)
theorem dX10_throwsFor_11 : decode cX10_throwsFor 11 = .ok (.iconst 1, 1) := dk_4 (dk_at dksX10_throwsFor_0 11 rfl rfl)
theorem dX10_throwsFor_12 : decode cX10_throwsFor 12 = .ok (.invokevirtual 300, 3) := dk_182 1 44 (dk_at dksX10_throwsFor_0 12 rfl rfl)
theorem dX10_throwsFor_15 : decode cX10_throwsFor 15 = .ok (.ifCond .ne 61, 3) := dk_154 0 61 (dk_at dksX10_throwsFor_0 15 rfl rfl)
theorem dX10_throwsFor_18 : decode cX10_throwsFor 18 = .ok (.aload_n 0, 1) := dk_42 (dk_at dksX10_throwsFor_0 18 rfl rfl)
theorem dX10_throwsFor_19 : decode cX10_throwsFor 19 = .ok (.iload_n 2, 1) := dk_28 (dk_at dksX10_throwsFor_0 19 rfl rfl)
theorem dX10_throwsFor_20 : decode cX10_throwsFor 20 = .ok (.invokestatic 353, 3) := dk_184 1 97 (dk_at dksX10_throwsFor_0 20 rfl rfl)
theorem dX10_throwsFor_23 : decode cX10_throwsFor 23 = .ok (.ifCond .ne 18, 3) := dk_154 0 18 (dk_at dksX10_throwsFor_1 0 rfl rfl)
theorem dX10_throwsFor_26 : decode cX10_throwsFor 26 = .ok (.iload_n 3, 1) := dk_29 (dk_at dksX10_throwsFor_1 3 rfl rfl)
theorem dX10_throwsFor_27 : decode cX10_throwsFor 27 = .ok (.invokestatic 353, 3) := dk_184 1 97 (dk_at dksX10_throwsFor_1 4 rfl rfl)
theorem dX10_throwsFor_30 : decode cX10_throwsFor 30 = .ok (.ifCond .ne 11, 3) := dk_154 0 11 (dk_at dksX10_throwsFor_1 7 rfl rfl)
theorem dX10_throwsFor_33 : decode cX10_throwsFor 33 = .ok (.iload_n 2, 1) := dk_28 (dk_at dksX10_throwsFor_1 10 rfl rfl)
theorem dX10_throwsFor_34 : decode cX10_throwsFor 34 = .ok (.aload_n 0, 1) := dk_42 (dk_at dksX10_throwsFor_1 11 rfl rfl)
theorem dX10_throwsFor_35 : decode cX10_throwsFor 35 = .ok (.invokevirtual 162, 3) := dk_182 0 162 (dk_at dksX10_throwsFor_1 12 rfl rfl)
theorem dX10_throwsFor_38 : decode cX10_throwsFor 38 = .ok (.if_icmp .ge 7, 3) := dk_162 0 7 (dk_at dksX10_throwsFor_1 15 rfl rfl)
theorem dX10_throwsFor_41 : decode cX10_throwsFor 41 = .ok (.iconst 1, 1) := dk_4 (dk_at dksX10_throwsFor_1 18 rfl rfl)
theorem dX10_throwsFor_42 : decode cX10_throwsFor 42 = .ok (.goto 4, 3) := dk_167 0 4 (dk_at dksX10_throwsFor_1 19 rfl rfl)
theorem dX10_throwsFor_45 : decode cX10_throwsFor 45 = .ok (.iconst 0, 1) := dk_3 (dk_at dksX10_throwsFor_1 22 rfl rfl)
theorem dX10_throwsFor_46 : decode cX10_throwsFor 46 = .ok (.iconst 2, 1) := dk_5 (dk_at dksX10_throwsFor_1 23 rfl rfl)
theorem dX10_throwsFor_47 : decode cX10_throwsFor 47 = .ok (.invokevirtual 300, 3) := dk_182 1 44 (dk_at dksX10_throwsFor_2 0 rfl rfl)
theorem dX10_throwsFor_50 : decode cX10_throwsFor 50 = .ok (.ifCond .ne 26, 3) := dk_154 0 26 (dk_at dksX10_throwsFor_2 3 rfl rfl)
theorem dX10_throwsFor_53 : decode cX10_throwsFor 53 = .ok (.aload_n 0, 1) := dk_42 (dk_at dksX10_throwsFor_2 6 rfl rfl)
theorem dX10_throwsFor_54 : decode cX10_throwsFor 54 = .ok (.iload 4, 2) := dk_21 4 (dk_at dksX10_throwsFor_2 7 rfl rfl)
theorem dX10_throwsFor_56 : decode cX10_throwsFor 56 = .ok (.iconst 0, 1) := dk_3 (dk_at dksX10_throwsFor_2 9 rfl rfl)
theorem dX10_throwsFor_57 : decode cX10_throwsFor 57 = .ok (.iconst 2, 1) := dk_5 (dk_at dksX10_throwsFor_2 10 rfl rfl)
theorem dX10_throwsFor_58 : decode cX10_throwsFor 58 = .ok (.invokestatic 90, 3) := dk_184 0 90 (dk_at dksX10_throwsFor_2 11 rfl rfl)
theorem dX10_throwsFor_61 : decode cX10_throwsFor 61 = .ok (.ifCond .ne 7, 3) := dk_154 0 7 (dk_at dksX10_throwsFor_2 14 rfl rfl)
theorem dX10_throwsFor_64 : decode cX10_throwsFor 64 = .ok (.iconst 1, 1) := dk_4 (dk_at dksX10_throwsFor_2 17 rfl rfl)
theorem dX10_throwsFor_65 : decode cX10_throwsFor 65 = .ok (.goto 4, 3) := dk_167 0 4 (dk_at dksX10_throwsFor_2 18 rfl rfl)
theorem dX10_throwsFor_68 : decode cX10_throwsFor 68 = .ok (.iconst 0, 1) := dk_3 (dk_at dksX10_throwsFor_2 21 rfl rfl)
theorem dX10_throwsFor_69 : decode cX10_throwsFor 69 = .ok (.iconst 3, 1) := dk_6 (dk_at dksX10_throwsFor_2 22 rfl rfl)
theorem dX10_throwsFor_70 : decode cX10_throwsFor 70 = .ok (.invokevirtual 300, 3) := dk_182 1 44 (dk_at dksX10_throwsFor_3 0 rfl rfl)
theorem dX10_throwsFor_73 : decode cX10_throwsFor 73 = .ok (.ifCond .eq 5, 3) := dk_153 0 5 (dk_at dksX10_throwsFor_3 3 rfl rfl)
theorem dX10_throwsFor_76 : decode cX10_throwsFor 76 = .ok (.iconst 0, 1) := dk_3 (dk_at dksX10_throwsFor_3 6 rfl rfl)
theorem dX10_throwsFor_77 : decode cX10_throwsFor 77 = .ok (.ireturn, 1) := dk_172 (dk_at dksX10_throwsFor_3 7 rfl rfl)
theorem dX10_throwsFor_78 : decode cX10_throwsFor 78 = .ok (.iconst 0, 1) := dk_3 (dk_at dksX10_throwsFor_3 8 rfl rfl)
theorem dX10_throwsFor_79 : decode cX10_throwsFor 79 = .ok (.istore 5, 2) := dk_54 5 (dk_at dksX10_throwsFor_3 9 rfl rfl)
theorem dX10_throwsFor_81 : decode cX10_throwsFor 81 = .ok (.iconst (-1), 1) := dk_2 (dk_at dksX10_throwsFor_3 11 rfl rfl)
theorem dX10_throwsFor_82 : decode cX10_throwsFor 82 = .ok (.istore 6, 2) := dk_54 6 (dk_at dksX10_throwsFor_3 12 rfl rfl)
theorem dX10_throwsFor_84 : decode cX10_throwsFor 84 = .ok (.iconst (-1), 1) := dk_2 (dk_at dksX10_throwsFor_3 14 rfl rfl)
theorem dX10_throwsFor_85 : decode cX10_throwsFor 85 = .ok (.istore 7, 2) := dk_54 7 (dk_at dksX10_throwsFor_3 15 rfl rfl)
theorem dX10_throwsFor_87 : decode cX10_throwsFor 87 = .ok (.iconst 0, 1) := dk_3 (dk_at dksX10_throwsFor_3 17 rfl rfl)
theorem dX10_throwsFor_88 : decode cX10_throwsFor 88 = .ok (.istore 8, 2) := dk_54 8 (dk_at dksX10_throwsFor_3 18 rfl rfl)
theorem dX10_throwsFor_90 : decode cX10_throwsFor 90 = .ok (.iload 8, 2) := dk_21 8 (dk_at dksX10_throwsFor_3 20 rfl rfl)
theorem dX10_throwsFor_92 : decode cX10_throwsFor 92 = .ok (.aload_n 0, 1) := dk_42 (dk_at dksX10_throwsFor_3 22 rfl rfl)
theorem dX10_throwsFor_93 : decode cX10_throwsFor 93 = .ok (.invokevirtual 94, 3) := dk_182 0 94 (dk_at dksX10_throwsFor_4 0 rfl rfl)
theorem dX10_throwsFor_96 : decode cX10_throwsFor 96 = .ok (.if_icmp .ge 45, 3) := dk_162 0 45 (dk_at dksX10_throwsFor_4 3 rfl rfl)
theorem dX10_throwsFor_99 : decode cX10_throwsFor 99 = .ok (.aload_n 0, 1) := dk_42 (dk_at dksX10_throwsFor_4 6 rfl rfl)
theorem dX10_throwsFor_100 : decode cX10_throwsFor 100 = .ok (.iload_n 1, 1) := dk_27 (dk_at dksX10_throwsFor_4 7 rfl rfl)
theorem dX10_throwsFor_101 : decode cX10_throwsFor 101 = .ok (.iload 8, 2) := dk_21 8 (dk_at dksX10_throwsFor_4 8 rfl rfl)
theorem dX10_throwsFor_103 : decode cX10_throwsFor 103 = .ok (.iload_n 2, 1) := dk_28 (dk_at dksX10_throwsFor_4 10 rfl rfl)
theorem dX10_throwsFor_104 : decode cX10_throwsFor 104 = .ok (.invokevirtual 425, 3) := dk_182 1 169 (dk_at dksX10_throwsFor_4 11 rfl rfl)
theorem dX10_throwsFor_107 : decode cX10_throwsFor 107 = .ok (.iload_n 3, 1) := dk_29 (dk_at dksX10_throwsFor_4 14 rfl rfl)
theorem dX10_throwsFor_108 : decode cX10_throwsFor 108 = .ok (.if_icmp .eq 6, 3) := dk_159 0 6 (dk_at dksX10_throwsFor_4 15 rfl rfl)
theorem dX10_throwsFor_111 : decode cX10_throwsFor 111 = .ok (.goto 24, 3) := dk_167 0 24 (dk_at dksX10_throwsFor_4 18 rfl rfl)
theorem dX10_throwsFor_114 : decode cX10_throwsFor 114 = .ok (.iload 5, 2) := dk_21 5 (dk_at dksX10_throwsFor_4 21 rfl rfl)
theorem dX10_throwsFor_116 : decode cX10_throwsFor 116 = .ok (.ifCond .ne 8, 3) := dk_154 0 8 (dk_at dksX10_throwsFor_5 0 rfl rfl)
theorem dX10_throwsFor_119 : decode cX10_throwsFor 119 = .ok (.iload 8, 2) := dk_21 8 (dk_at dksX10_throwsFor_5 3 rfl rfl)
theorem dX10_throwsFor_121 : decode cX10_throwsFor 121 = .ok (.goto 5, 3) := dk_167 0 5 (dk_at dksX10_throwsFor_5 5 rfl rfl)
theorem dX10_throwsFor_124 : decode cX10_throwsFor 124 = .ok (.iload 6, 2) := dk_21 6 (dk_at dksX10_throwsFor_5 8 rfl rfl)
theorem dX10_throwsFor_126 : decode cX10_throwsFor 126 = .ok (.istore 6, 2) := dk_54 6 (dk_at dksX10_throwsFor_5 10 rfl rfl)
theorem dX10_throwsFor_128 : decode cX10_throwsFor 128 = .ok (.iload 8, 2) := dk_21 8 (dk_at dksX10_throwsFor_5 12 rfl rfl)
theorem dX10_throwsFor_130 : decode cX10_throwsFor 130 = .ok (.istore 7, 2) := dk_54 7 (dk_at dksX10_throwsFor_5 14 rfl rfl)
theorem dX10_throwsFor_132 : decode cX10_throwsFor 132 = .ok (.iinc 5 1, 3) := dk_132 5 1 (dk_at dksX10_throwsFor_5 16 rfl rfl)
theorem dX10_throwsFor_135 : decode cX10_throwsFor 135 = .ok (.iinc 8 1, 3) := dk_132 8 1 (dk_at dksX10_throwsFor_5 19 rfl rfl)
theorem dX10_throwsFor_138 : decode cX10_throwsFor 138 = .ok (.goto (-48), 3) := dk_167 255 208 (dk_at dksX10_throwsFor_6 0 rfl rfl)
theorem dX10_throwsFor_141 : decode cX10_throwsFor 141 = .ok (.iload 4, 2) := dk_21 4 (dk_at dksX10_throwsFor_6 3 rfl rfl)
theorem dX10_throwsFor_143 : decode cX10_throwsFor 143 = .ok (.ifCond .ne 8, 3) := dk_154 0 8 (dk_at dksX10_throwsFor_6 5 rfl rfl)
theorem dX10_throwsFor_146 : decode cX10_throwsFor 146 = .ok (.iload 5, 2) := dk_21 5 (dk_at dksX10_throwsFor_6 8 rfl rfl)
theorem dX10_throwsFor_148 : decode cX10_throwsFor 148 = .ok (.goto 16, 3) := dk_167 0 16 (dk_at dksX10_throwsFor_6 10 rfl rfl)
theorem dX10_throwsFor_151 : decode cX10_throwsFor 151 = .ok (.iload 4, 2) := dk_21 4 (dk_at dksX10_throwsFor_6 13 rfl rfl)
theorem dX10_throwsFor_153 : decode cX10_throwsFor 153 = .ok (.iconst 1, 1) := dk_4 (dk_at dksX10_throwsFor_6 15 rfl rfl)
theorem dX10_throwsFor_154 : decode cX10_throwsFor 154 = .ok (.if_icmp .ne 8, 3) := dk_160 0 8 (dk_at dksX10_throwsFor_6 16 rfl rfl)
theorem dX10_throwsFor_157 : decode cX10_throwsFor 157 = .ok (.iload 6, 2) := dk_21 6 (dk_at dksX10_throwsFor_6 19 rfl rfl)
theorem dX10_throwsFor_159 : decode cX10_throwsFor 159 = .ok (.goto 5, 3) := dk_167 0 5 (dk_at dksX10_throwsFor_6 21 rfl rfl)
theorem dX10_throwsFor_162 : decode cX10_throwsFor 162 = .ok (.iload 7, 2) := dk_21 7 (dk_at dksX10_throwsFor_7 0 rfl rfl)
theorem dX10_throwsFor_164 : decode cX10_throwsFor 164 = .ok (.ireturn, 1) := dk_172 (dk_at dksX10_throwsFor_7 2 rfl rfl)
abbrev cX10_outFrom : ByteArray := prog_20_method_76_code
def yX10_outFrom : MethodName := ⟨RX10, "outFrom", "(III)I"⟩
def dkwX10_outFrom_0 : List UInt8 := [42, 27, 28, 29, 3, 2, 182, 1, 121, 42, 180, 1, 112, 172]
abbrev dktX10_outFrom_0 : List UInt8 := dkwX10_outFrom_0 ++ []
theorem dksX10_outFrom_0 : cX10_outFrom.data.toList.drop 0 = dktX10_outFrom_0 := by decide +kernel
theorem dX10_outFrom_0 : decode cX10_outFrom 0 = .ok (.aload_n 0, 1) := dk_42 (dk_at dksX10_outFrom_0 0 rfl rfl)
theorem dX10_outFrom_1 : decode cX10_outFrom 1 = .ok (.iload_n 1, 1) := dk_27 (dk_at dksX10_outFrom_0 1 rfl rfl)
theorem dX10_outFrom_2 : decode cX10_outFrom 2 = .ok (.iload_n 2, 1) := dk_28 (dk_at dksX10_outFrom_0 2 rfl rfl)
theorem dX10_outFrom_3 : decode cX10_outFrom 3 = .ok (.iload_n 3, 1) := dk_29 (dk_at dksX10_outFrom_0 3 rfl rfl)
theorem dX10_outFrom_4 : decode cX10_outFrom 4 = .ok (.iconst 0, 1) := dk_3 (dk_at dksX10_outFrom_0 4 rfl rfl)
theorem dX10_outFrom_5 : decode cX10_outFrom 5 = .ok (.iconst (-1), 1) := dk_2 (dk_at dksX10_outFrom_0 5 rfl rfl)
theorem dX10_outFrom_6 : decode cX10_outFrom 6 = .ok (.invokevirtual 377, 3) := dk_182 1 121 (dk_at dksX10_outFrom_0 6 rfl rfl)
theorem dX10_outFrom_9 : decode cX10_outFrom 9 = .ok (.aload_n 0, 1) := dk_42 (dk_at dksX10_outFrom_0 9 rfl rfl)
theorem dX10_outFrom_10 : decode cX10_outFrom 10 = .ok (.getfield 368, 3) := dk_180 1 112 (dk_at dksX10_outFrom_0 10 rfl rfl)
theorem dX10_outFrom_13 : decode cX10_outFrom 13 = .ok (.ireturn, 1) := dk_172 (dk_at dksX10_outFrom_0 13 rfl rfl)
abbrev cX10_latest : ByteArray := prog_20_method_95_code
def yX10_latest : MethodName := ⟨RX10, "latest", "(II)I"⟩
def dkwX10_latest_3 : List UInt8 := [163, 0, 5, 29, 172, 132, 3, 255, 167, 255, 213, 2, 172]
abbrev dktX10_latest_3 : List UInt8 := dkwX10_latest_3 ++ []
def dkwX10_latest_2 : List UInt8 := [182, 1, 140, 42, 27, 4, 182, 1, 140, 29, 182, 1, 169, 54, 4, 21, 4, 155, 0, 11, 21, 4, 28]
abbrev dktX10_latest_2 : List UInt8 := dkwX10_latest_2 ++ dktX10_latest_3
def dkwX10_latest_1 : List UInt8 := [182, 1, 44, 153, 0, 5, 3, 172, 17, 1, 43, 62, 29, 42, 182, 0, 162, 161, 0, 41, 42, 42, 27, 3]
abbrev dktX10_latest_1 : List UInt8 := dkwX10_latest_1 ++ dktX10_latest_2
def dkwX10_latest_0 : List UInt8 := [42, 3, 181, 0, 3, 42, 42, 27, 182, 1, 137, 4, 182, 1, 44, 154, 0, 15, 42, 28, 184, 1, 97, 5]
abbrev dktX10_latest_0 : List UInt8 := dkwX10_latest_0 ++ dktX10_latest_1
theorem dksX10_latest_0 : cX10_latest.data.toList.drop 0 = dktX10_latest_0 := by decide +kernel
theorem dksX10_latest_1 : cX10_latest.data.toList.drop 24 = dktX10_latest_1 := dk_seg dksX10_latest_0 24 rfl rfl
theorem dksX10_latest_2 : cX10_latest.data.toList.drop 48 = dktX10_latest_2 := dk_seg dksX10_latest_1 24 rfl rfl
theorem dksX10_latest_3 : cX10_latest.data.toList.drop 71 = dktX10_latest_3 := dk_seg dksX10_latest_2 23 rfl rfl
theorem dX10_latest_0 : decode cX10_latest 0 = .ok (.aload_n 0, 1) := dk_42 (dk_at dksX10_latest_0 0 rfl rfl)
theorem dX10_latest_1 : decode cX10_latest 1 = .ok (.iconst 0, 1) := dk_3 (dk_at dksX10_latest_0 1 rfl rfl)
theorem dX10_latest_2 : decode cX10_latest 2 = .ok (.putfield 3, 3) := dk_181 0 3 (dk_at dksX10_latest_0 2 rfl rfl)
theorem dX10_latest_5 : decode cX10_latest 5 = .ok (.aload_n 0, 1) := dk_42 (dk_at dksX10_latest_0 5 rfl rfl)
theorem dX10_latest_6 : decode cX10_latest 6 = .ok (.aload_n 0, 1) := dk_42 (dk_at dksX10_latest_0 6 rfl rfl)
theorem dX10_latest_7 : decode cX10_latest 7 = .ok (.iload_n 1, 1) := dk_27 (dk_at dksX10_latest_0 7 rfl rfl)
theorem dX10_latest_8 : decode cX10_latest 8 = .ok (.invokevirtual 393, 3) := dk_182 1 137 (dk_at dksX10_latest_0 8 rfl rfl)
theorem dX10_latest_11 : decode cX10_latest 11 = .ok (.iconst 1, 1) := dk_4 (dk_at dksX10_latest_0 11 rfl rfl)
theorem dX10_latest_12 : decode cX10_latest 12 = .ok (.invokevirtual 300, 3) := dk_182 1 44 (dk_at dksX10_latest_0 12 rfl rfl)
theorem dX10_latest_15 : decode cX10_latest 15 = .ok (.ifCond .ne 15, 3) := dk_154 0 15 (dk_at dksX10_latest_0 15 rfl rfl)
theorem dX10_latest_18 : decode cX10_latest 18 = .ok (.aload_n 0, 1) := dk_42 (dk_at dksX10_latest_0 18 rfl rfl)
theorem dX10_latest_19 : decode cX10_latest 19 = .ok (.iload_n 2, 1) := dk_28 (dk_at dksX10_latest_0 19 rfl rfl)
theorem dX10_latest_20 : decode cX10_latest 20 = .ok (.invokestatic 353, 3) := dk_184 1 97 (dk_at dksX10_latest_0 20 rfl rfl)
theorem dX10_latest_23 : decode cX10_latest 23 = .ok (.iconst 2, 1) := dk_5 (dk_at dksX10_latest_0 23 rfl rfl)
theorem dX10_latest_24 : decode cX10_latest 24 = .ok (.invokevirtual 300, 3) := dk_182 1 44 (dk_at dksX10_latest_1 0 rfl rfl)
theorem dX10_latest_27 : decode cX10_latest 27 = .ok (.ifCond .eq 5, 3) := dk_153 0 5 (dk_at dksX10_latest_1 3 rfl rfl)
theorem dX10_latest_30 : decode cX10_latest 30 = .ok (.iconst 0, 1) := dk_3 (dk_at dksX10_latest_1 6 rfl rfl)
theorem dX10_latest_31 : decode cX10_latest 31 = .ok (.ireturn, 1) := dk_172 (dk_at dksX10_latest_1 7 rfl rfl)
theorem dX10_latest_32 : decode cX10_latest 32 = .ok (.sipush 299, 3) := dk_17 1 43 (dk_at dksX10_latest_1 8 rfl rfl)
theorem dX10_latest_35 : decode cX10_latest 35 = .ok (.istore_n 3, 1) := dk_62 (dk_at dksX10_latest_1 11 rfl rfl)
theorem dX10_latest_36 : decode cX10_latest 36 = .ok (.iload_n 3, 1) := dk_29 (dk_at dksX10_latest_1 12 rfl rfl)
theorem dX10_latest_37 : decode cX10_latest 37 = .ok (.aload_n 0, 1) := dk_42 (dk_at dksX10_latest_1 13 rfl rfl)
theorem dX10_latest_38 : decode cX10_latest 38 = .ok (.invokevirtual 162, 3) := dk_182 0 162 (dk_at dksX10_latest_1 14 rfl rfl)
theorem dX10_latest_41 : decode cX10_latest 41 = .ok (.if_icmp .lt 41, 3) := dk_161 0 41 (dk_at dksX10_latest_1 17 rfl rfl)
theorem dX10_latest_44 : decode cX10_latest 44 = .ok (.aload_n 0, 1) := dk_42 (dk_at dksX10_latest_1 20 rfl rfl)
theorem dX10_latest_45 : decode cX10_latest 45 = .ok (.aload_n 0, 1) := dk_42 (dk_at dksX10_latest_1 21 rfl rfl)
theorem dX10_latest_46 : decode cX10_latest 46 = .ok (.iload_n 1, 1) := dk_27 (dk_at dksX10_latest_1 22 rfl rfl)
theorem dX10_latest_47 : decode cX10_latest 47 = .ok (.iconst 0, 1) := dk_3 (dk_at dksX10_latest_1 23 rfl rfl)
theorem dX10_latest_48 : decode cX10_latest 48 = .ok (.invokevirtual 396, 3) := dk_182 1 140 (dk_at dksX10_latest_2 0 rfl rfl)
theorem dX10_latest_51 : decode cX10_latest 51 = .ok (.aload_n 0, 1) := dk_42 (dk_at dksX10_latest_2 3 rfl rfl)
theorem dX10_latest_52 : decode cX10_latest 52 = .ok (.iload_n 1, 1) := dk_27 (dk_at dksX10_latest_2 4 rfl rfl)
theorem dX10_latest_53 : decode cX10_latest 53 = .ok (.iconst 1, 1) := dk_4 (dk_at dksX10_latest_2 5 rfl rfl)
theorem dX10_latest_54 : decode cX10_latest 54 = .ok (.invokevirtual 396, 3) := dk_182 1 140 (dk_at dksX10_latest_2 6 rfl rfl)
theorem dX10_latest_57 : decode cX10_latest 57 = .ok (.iload_n 3, 1) := dk_29 (dk_at dksX10_latest_2 9 rfl rfl)
theorem dX10_latest_58 : decode cX10_latest 58 = .ok (.invokevirtual 425, 3) := dk_182 1 169 (dk_at dksX10_latest_2 10 rfl rfl)
theorem dX10_latest_61 : decode cX10_latest 61 = .ok (.istore 4, 2) := dk_54 4 (dk_at dksX10_latest_2 13 rfl rfl)
theorem dX10_latest_63 : decode cX10_latest 63 = .ok (.iload 4, 2) := dk_21 4 (dk_at dksX10_latest_2 15 rfl rfl)
theorem dX10_latest_65 : decode cX10_latest 65 = .ok (.ifCond .lt 11, 3) := dk_155 0 11 (dk_at dksX10_latest_2 17 rfl rfl)
theorem dX10_latest_68 : decode cX10_latest 68 = .ok (.iload 4, 2) := dk_21 4 (dk_at dksX10_latest_2 20 rfl rfl)
theorem dX10_latest_70 : decode cX10_latest 70 = .ok (.iload_n 2, 1) := dk_28 (dk_at dksX10_latest_2 22 rfl rfl)
theorem dX10_latest_71 : decode cX10_latest 71 = .ok (.if_icmp .gt 5, 3) := dk_163 0 5 (dk_at dksX10_latest_3 0 rfl rfl)
theorem dX10_latest_74 : decode cX10_latest 74 = .ok (.iload_n 3, 1) := dk_29 (dk_at dksX10_latest_3 3 rfl rfl)
theorem dX10_latest_75 : decode cX10_latest 75 = .ok (.ireturn, 1) := dk_172 (dk_at dksX10_latest_3 4 rfl rfl)
theorem dX10_latest_76 : decode cX10_latest 76 = .ok (.iinc 3 (-1), 3) := dk_132 3 255 (dk_at dksX10_latest_3 5 rfl rfl)
theorem dX10_latest_79 : decode cX10_latest 79 = .ok (.goto (-43), 3) := dk_167 255 213 (dk_at dksX10_latest_3 8 rfl rfl)
theorem dX10_latest_82 : decode cX10_latest 82 = .ok (.iconst (-1), 1) := dk_2 (dk_at dksX10_latest_3 11 rfl rfl)
theorem dX10_latest_83 : decode cX10_latest 83 = .ok (.ireturn, 1) := dk_172 (dk_at dksX10_latest_3 12 rfl rfl)
abbrev cX10_hut : ByteArray := prog_20_method_96_code
def yX10_hut : MethodName := ⟨RX10, "hut", "(II)I"⟩
def dkwX10_hut_3 : List UInt8 := [21, 4, 42, 182, 0, 162, 28, 96, 163, 0, 5, 29, 172, 132, 3, 1, 167, 255, 215, 2, 172]
abbrev dktX10_hut_3 : List UInt8 := dkwX10_hut_3 ++ []
def dkwX10_hut_2 : List UInt8 := [182, 0, 94, 162, 0, 39, 42, 27, 29, 42, 182, 0, 162, 182, 1, 169, 54, 4, 21, 4, 155, 0, 16]
abbrev dktX10_hut_2 : List UInt8 := dkwX10_hut_2 ++ dktX10_hut_3
def dkwX10_hut_1 : List UInt8 := [184, 0, 90, 154, 0, 7, 4, 167, 0, 4, 3, 5, 182, 1, 44, 153, 0, 5, 3, 172, 3, 62, 29, 42]
abbrev dktX10_hut_1 : List UInt8 := dkwX10_hut_1 ++ dktX10_hut_2
def dkwX10_hut_0 : List UInt8 := [42, 3, 181, 0, 3, 42, 42, 27, 182, 1, 100, 4, 182, 1, 44, 154, 0, 27, 42, 28, 4, 17, 1, 43]
abbrev dktX10_hut_0 : List UInt8 := dkwX10_hut_0 ++ dktX10_hut_1
theorem dksX10_hut_0 : cX10_hut.data.toList.drop 0 = dktX10_hut_0 := by decide +kernel
theorem dksX10_hut_1 : cX10_hut.data.toList.drop 24 = dktX10_hut_1 := dk_seg dksX10_hut_0 24 rfl rfl
theorem dksX10_hut_2 : cX10_hut.data.toList.drop 48 = dktX10_hut_2 := dk_seg dksX10_hut_1 24 rfl rfl
theorem dksX10_hut_3 : cX10_hut.data.toList.drop 71 = dktX10_hut_3 := dk_seg dksX10_hut_2 23 rfl rfl
theorem dX10_hut_0 : decode cX10_hut 0 = .ok (.aload_n 0, 1) := dk_42 (dk_at dksX10_hut_0 0 rfl rfl)
theorem dX10_hut_1 : decode cX10_hut 1 = .ok (.iconst 0, 1) := dk_3 (dk_at dksX10_hut_0 1 rfl rfl)
theorem dX10_hut_2 : decode cX10_hut 2 = .ok (.putfield 3, 3) := dk_181 0 3 (dk_at dksX10_hut_0 2 rfl rfl)
theorem dX10_hut_5 : decode cX10_hut 5 = .ok (.aload_n 0, 1) := dk_42 (dk_at dksX10_hut_0 5 rfl rfl)
theorem dX10_hut_6 : decode cX10_hut 6 = .ok (.aload_n 0, 1) := dk_42 (dk_at dksX10_hut_0 6 rfl rfl)
theorem dX10_hut_7 : decode cX10_hut 7 = .ok (.iload_n 1, 1) := dk_27 (dk_at dksX10_hut_0 7 rfl rfl)
theorem dX10_hut_8 : decode cX10_hut 8 = .ok (.invokevirtual 356, 3) := dk_182 1 100 (dk_at dksX10_hut_0 8 rfl rfl)
theorem dX10_hut_11 : decode cX10_hut 11 = .ok (.iconst 1, 1) := dk_4 (dk_at dksX10_hut_0 11 rfl rfl)
theorem dX10_hut_12 : decode cX10_hut 12 = .ok (.invokevirtual 300, 3) := dk_182 1 44 (dk_at dksX10_hut_0 12 rfl rfl)
theorem dX10_hut_15 : decode cX10_hut 15 = .ok (.ifCond .ne 27, 3) := dk_154 0 27 (dk_at dksX10_hut_0 15 rfl rfl)
theorem dX10_hut_18 : decode cX10_hut 18 = .ok (.aload_n 0, 1) := dk_42 (dk_at dksX10_hut_0 18 rfl rfl)
theorem dX10_hut_19 : decode cX10_hut 19 = .ok (.iload_n 2, 1) := dk_28 (dk_at dksX10_hut_0 19 rfl rfl)
theorem dX10_hut_20 : decode cX10_hut 20 = .ok (.iconst 1, 1) := dk_4 (dk_at dksX10_hut_0 20 rfl rfl)
theorem dX10_hut_21 : decode cX10_hut 21 = .ok (.sipush 299, 3) := dk_17 1 43 (dk_at dksX10_hut_0 21 rfl rfl)
theorem dX10_hut_24 : decode cX10_hut 24 = .ok (.invokestatic 90, 3) := dk_184 0 90 (dk_at dksX10_hut_1 0 rfl rfl)
theorem dX10_hut_27 : decode cX10_hut 27 = .ok (.ifCond .ne 7, 3) := dk_154 0 7 (dk_at dksX10_hut_1 3 rfl rfl)
theorem dX10_hut_30 : decode cX10_hut 30 = .ok (.iconst 1, 1) := dk_4 (dk_at dksX10_hut_1 6 rfl rfl)
theorem dX10_hut_31 : decode cX10_hut 31 = .ok (.goto 4, 3) := dk_167 0 4 (dk_at dksX10_hut_1 7 rfl rfl)
theorem dX10_hut_34 : decode cX10_hut 34 = .ok (.iconst 0, 1) := dk_3 (dk_at dksX10_hut_1 10 rfl rfl)
theorem dX10_hut_35 : decode cX10_hut 35 = .ok (.iconst 2, 1) := dk_5 (dk_at dksX10_hut_1 11 rfl rfl)
theorem dX10_hut_36 : decode cX10_hut 36 = .ok (.invokevirtual 300, 3) := dk_182 1 44 (dk_at dksX10_hut_1 12 rfl rfl)
theorem dX10_hut_39 : decode cX10_hut 39 = .ok (.ifCond .eq 5, 3) := dk_153 0 5 (dk_at dksX10_hut_1 15 rfl rfl)
theorem dX10_hut_42 : decode cX10_hut 42 = .ok (.iconst 0, 1) := dk_3 (dk_at dksX10_hut_1 18 rfl rfl)
theorem dX10_hut_43 : decode cX10_hut 43 = .ok (.ireturn, 1) := dk_172 (dk_at dksX10_hut_1 19 rfl rfl)
theorem dX10_hut_44 : decode cX10_hut 44 = .ok (.iconst 0, 1) := dk_3 (dk_at dksX10_hut_1 20 rfl rfl)
theorem dX10_hut_45 : decode cX10_hut 45 = .ok (.istore_n 3, 1) := dk_62 (dk_at dksX10_hut_1 21 rfl rfl)
theorem dX10_hut_46 : decode cX10_hut 46 = .ok (.iload_n 3, 1) := dk_29 (dk_at dksX10_hut_1 22 rfl rfl)
theorem dX10_hut_47 : decode cX10_hut 47 = .ok (.aload_n 0, 1) := dk_42 (dk_at dksX10_hut_1 23 rfl rfl)
theorem dX10_hut_48 : decode cX10_hut 48 = .ok (.invokevirtual 94, 3) := dk_182 0 94 (dk_at dksX10_hut_2 0 rfl rfl)
theorem dX10_hut_51 : decode cX10_hut 51 = .ok (.if_icmp .ge 39, 3) := dk_162 0 39 (dk_at dksX10_hut_2 3 rfl rfl)
theorem dX10_hut_54 : decode cX10_hut 54 = .ok (.aload_n 0, 1) := dk_42 (dk_at dksX10_hut_2 6 rfl rfl)
theorem dX10_hut_55 : decode cX10_hut 55 = .ok (.iload_n 1, 1) := dk_27 (dk_at dksX10_hut_2 7 rfl rfl)
theorem dX10_hut_56 : decode cX10_hut 56 = .ok (.iload_n 3, 1) := dk_29 (dk_at dksX10_hut_2 8 rfl rfl)
theorem dX10_hut_57 : decode cX10_hut 57 = .ok (.aload_n 0, 1) := dk_42 (dk_at dksX10_hut_2 9 rfl rfl)
theorem dX10_hut_58 : decode cX10_hut 58 = .ok (.invokevirtual 162, 3) := dk_182 0 162 (dk_at dksX10_hut_2 10 rfl rfl)
theorem dX10_hut_61 : decode cX10_hut 61 = .ok (.invokevirtual 425, 3) := dk_182 1 169 (dk_at dksX10_hut_2 13 rfl rfl)
theorem dX10_hut_64 : decode cX10_hut 64 = .ok (.istore 4, 2) := dk_54 4 (dk_at dksX10_hut_2 16 rfl rfl)
theorem dX10_hut_66 : decode cX10_hut 66 = .ok (.iload 4, 2) := dk_21 4 (dk_at dksX10_hut_2 18 rfl rfl)
theorem dX10_hut_68 : decode cX10_hut 68 = .ok (.ifCond .lt 16, 3) := dk_155 0 16 (dk_at dksX10_hut_2 20 rfl rfl)
theorem dX10_hut_71 : decode cX10_hut 71 = .ok (.iload 4, 2) := dk_21 4 (dk_at dksX10_hut_3 0 rfl rfl)
theorem dX10_hut_73 : decode cX10_hut 73 = .ok (.aload_n 0, 1) := dk_42 (dk_at dksX10_hut_3 2 rfl rfl)
theorem dX10_hut_74 : decode cX10_hut 74 = .ok (.invokevirtual 162, 3) := dk_182 0 162 (dk_at dksX10_hut_3 3 rfl rfl)
theorem dX10_hut_77 : decode cX10_hut 77 = .ok (.iload_n 2, 1) := dk_28 (dk_at dksX10_hut_3 6 rfl rfl)
theorem dX10_hut_78 : decode cX10_hut 78 = .ok (.iadd, 1) := dk_96 (dk_at dksX10_hut_3 7 rfl rfl)
theorem dX10_hut_79 : decode cX10_hut 79 = .ok (.if_icmp .gt 5, 3) := dk_163 0 5 (dk_at dksX10_hut_3 8 rfl rfl)
theorem dX10_hut_82 : decode cX10_hut 82 = .ok (.iload_n 3, 1) := dk_29 (dk_at dksX10_hut_3 11 rfl rfl)
theorem dX10_hut_83 : decode cX10_hut 83 = .ok (.ireturn, 1) := dk_172 (dk_at dksX10_hut_3 12 rfl rfl)
theorem dX10_hut_84 : decode cX10_hut 84 = .ok (.iinc 3 1, 3) := dk_132 3 1 (dk_at dksX10_hut_3 13 rfl rfl)
theorem dX10_hut_87 : decode cX10_hut 87 = .ok (.goto (-41), 3) := dk_167 255 215 (dk_at dksX10_hut_3 16 rfl rfl)
theorem dX10_hut_90 : decode cX10_hut 90 = .ok (.iconst (-1), 1) := dk_2 (dk_at dksX10_hut_3 19 rfl rfl)
theorem dX10_hut_91 : decode cX10_hut 91 = .ok (.ireturn, 1) := dk_172 (dk_at dksX10_hut_3 20 rfl rfl)
abbrev cX10_without : ByteArray := prog_20_method_97_code
def yX10_without : MethodName := ⟨RX10, "without", "(II)I"⟩
def dkwX10_without_2 : List UInt8 := [182, 1, 125, 42, 180, 1, 112, 172]
abbrev dktX10_without_2 : List UInt8 := dkwX10_without_2 ++ []
def dkwX10_without_1 : List UInt8 := [184, 0, 90, 154, 0, 7, 4, 167, 0, 4, 3, 4, 182, 1, 44, 153, 0, 5, 3, 172, 42, 27, 28]
abbrev dktX10_without_1 : List UInt8 := dkwX10_without_1 ++ dktX10_without_2
def dkwX10_without_0 : List UInt8 := [42, 3, 181, 0, 3, 42, 42, 27, 182, 1, 149, 154, 0, 19, 28, 3, 42, 180, 0, 13, 8, 46, 4, 100]
abbrev dktX10_without_0 : List UInt8 := dkwX10_without_0 ++ dktX10_without_1
theorem dksX10_without_0 : cX10_without.data.toList.drop 0 = dktX10_without_0 := by decide +kernel
theorem dksX10_without_1 : cX10_without.data.toList.drop 24 = dktX10_without_1 := dk_seg dksX10_without_0 24 rfl rfl
theorem dksX10_without_2 : cX10_without.data.toList.drop 47 = dktX10_without_2 := dk_seg dksX10_without_1 23 rfl rfl
theorem dX10_without_0 : decode cX10_without 0 = .ok (.aload_n 0, 1) := dk_42 (dk_at dksX10_without_0 0 rfl rfl)
theorem dX10_without_1 : decode cX10_without 1 = .ok (.iconst 0, 1) := dk_3 (dk_at dksX10_without_0 1 rfl rfl)
theorem dX10_without_2 : decode cX10_without 2 = .ok (.putfield 3, 3) := dk_181 0 3 (dk_at dksX10_without_0 2 rfl rfl)
theorem dX10_without_5 : decode cX10_without 5 = .ok (.aload_n 0, 1) := dk_42 (dk_at dksX10_without_0 5 rfl rfl)
theorem dX10_without_6 : decode cX10_without 6 = .ok (.aload_n 0, 1) := dk_42 (dk_at dksX10_without_0 6 rfl rfl)
theorem dX10_without_7 : decode cX10_without 7 = .ok (.iload_n 1, 1) := dk_27 (dk_at dksX10_without_0 7 rfl rfl)
theorem dX10_without_8 : decode cX10_without 8 = .ok (.invokevirtual 405, 3) := dk_182 1 149 (dk_at dksX10_without_0 8 rfl rfl)
theorem dX10_without_11 : decode cX10_without 11 = .ok (.ifCond .ne 19, 3) := dk_154 0 19 (dk_at dksX10_without_0 11 rfl rfl)
theorem dX10_without_14 : decode cX10_without 14 = .ok (.iload_n 2, 1) := dk_28 (dk_at dksX10_without_0 14 rfl rfl)
theorem dX10_without_15 : decode cX10_without 15 = .ok (.iconst 0, 1) := dk_3 (dk_at dksX10_without_0 15 rfl rfl)
theorem dX10_without_16 : decode cX10_without 16 = .ok (.aload_n 0, 1) := dk_42 (dk_at dksX10_without_0 16 rfl rfl)
theorem dX10_without_17 : decode cX10_without 17 = .ok (.getfield 13, 3) := dk_180 0 13 (dk_at dksX10_without_0 17 rfl rfl)
theorem dX10_without_20 : decode cX10_without 20 = .ok (.iconst 5, 1) := dk_8 (dk_at dksX10_without_0 20 rfl rfl)
theorem dX10_without_21 : decode cX10_without 21 = .ok (.iaload, 1) := dk_46 (dk_at dksX10_without_0 21 rfl rfl)
theorem dX10_without_22 : decode cX10_without 22 = .ok (.iconst 1, 1) := dk_4 (dk_at dksX10_without_0 22 rfl rfl)
theorem dX10_without_23 : decode cX10_without 23 = .ok (.isub, 1) := dk_100 (dk_at dksX10_without_0 23 rfl rfl)
theorem dX10_without_24 : decode cX10_without 24 = .ok (.invokestatic 90, 3) := dk_184 0 90 (dk_at dksX10_without_1 0 rfl rfl)
theorem dX10_without_27 : decode cX10_without 27 = .ok (.ifCond .ne 7, 3) := dk_154 0 7 (dk_at dksX10_without_1 3 rfl rfl)
theorem dX10_without_30 : decode cX10_without 30 = .ok (.iconst 1, 1) := dk_4 (dk_at dksX10_without_1 6 rfl rfl)
theorem dX10_without_31 : decode cX10_without 31 = .ok (.goto 4, 3) := dk_167 0 4 (dk_at dksX10_without_1 7 rfl rfl)
theorem dX10_without_34 : decode cX10_without 34 = .ok (.iconst 0, 1) := dk_3 (dk_at dksX10_without_1 10 rfl rfl)
theorem dX10_without_35 : decode cX10_without 35 = .ok (.iconst 1, 1) := dk_4 (dk_at dksX10_without_1 11 rfl rfl)
theorem dX10_without_36 : decode cX10_without 36 = .ok (.invokevirtual 300, 3) := dk_182 1 44 (dk_at dksX10_without_1 12 rfl rfl)
theorem dX10_without_39 : decode cX10_without 39 = .ok (.ifCond .eq 5, 3) := dk_153 0 5 (dk_at dksX10_without_1 15 rfl rfl)
theorem dX10_without_42 : decode cX10_without 42 = .ok (.iconst 0, 1) := dk_3 (dk_at dksX10_without_1 18 rfl rfl)
theorem dX10_without_43 : decode cX10_without 43 = .ok (.ireturn, 1) := dk_172 (dk_at dksX10_without_1 19 rfl rfl)
theorem dX10_without_44 : decode cX10_without 44 = .ok (.aload_n 0, 1) := dk_42 (dk_at dksX10_without_1 20 rfl rfl)
theorem dX10_without_45 : decode cX10_without 45 = .ok (.iload_n 1, 1) := dk_27 (dk_at dksX10_without_1 21 rfl rfl)
theorem dX10_without_46 : decode cX10_without 46 = .ok (.iload_n 2, 1) := dk_28 (dk_at dksX10_without_1 22 rfl rfl)
theorem dX10_without_47 : decode cX10_without 47 = .ok (.invokevirtual 381, 3) := dk_182 1 125 (dk_at dksX10_without_2 0 rfl rfl)
theorem dX10_without_50 : decode cX10_without 50 = .ok (.aload_n 0, 1) := dk_42 (dk_at dksX10_without_2 3 rfl rfl)
theorem dX10_without_51 : decode cX10_without 51 = .ok (.getfield 368, 3) := dk_180 1 112 (dk_at dksX10_without_2 4 rfl rfl)
theorem dX10_without_54 : decode cX10_without 54 = .ok (.ireturn, 1) := dk_172 (dk_at dksX10_without_2 7 rfl rfl)
abbrev cX10_moved : ByteArray := prog_20_method_98_code
def yX10_moved : MethodName := ⟨RX10, "moved", "(I)I"⟩
def dkwX10_moved_1 : List UInt8 := [182, 1, 125, 42, 180, 1, 109, 172]
abbrev dktX10_moved_1 : List UInt8 := dkwX10_moved_1 ++ []
def dkwX10_moved_0 : List UInt8 := [42, 3, 181, 0, 3, 42, 42, 27, 182, 1, 149, 4, 182, 1, 44, 153, 0, 5, 3, 172, 42, 27, 2]
abbrev dktX10_moved_0 : List UInt8 := dkwX10_moved_0 ++ dktX10_moved_1
theorem dksX10_moved_0 : cX10_moved.data.toList.drop 0 = dktX10_moved_0 := by decide +kernel
theorem dksX10_moved_1 : cX10_moved.data.toList.drop 23 = dktX10_moved_1 := dk_seg dksX10_moved_0 23 rfl rfl
theorem dX10_moved_0 : decode cX10_moved 0 = .ok (.aload_n 0, 1) := dk_42 (dk_at dksX10_moved_0 0 rfl rfl)
theorem dX10_moved_1 : decode cX10_moved 1 = .ok (.iconst 0, 1) := dk_3 (dk_at dksX10_moved_0 1 rfl rfl)
theorem dX10_moved_2 : decode cX10_moved 2 = .ok (.putfield 3, 3) := dk_181 0 3 (dk_at dksX10_moved_0 2 rfl rfl)
theorem dX10_moved_5 : decode cX10_moved 5 = .ok (.aload_n 0, 1) := dk_42 (dk_at dksX10_moved_0 5 rfl rfl)
theorem dX10_moved_6 : decode cX10_moved 6 = .ok (.aload_n 0, 1) := dk_42 (dk_at dksX10_moved_0 6 rfl rfl)
theorem dX10_moved_7 : decode cX10_moved 7 = .ok (.iload_n 1, 1) := dk_27 (dk_at dksX10_moved_0 7 rfl rfl)
theorem dX10_moved_8 : decode cX10_moved 8 = .ok (.invokevirtual 405, 3) := dk_182 1 149 (dk_at dksX10_moved_0 8 rfl rfl)
theorem dX10_moved_11 : decode cX10_moved 11 = .ok (.iconst 1, 1) := dk_4 (dk_at dksX10_moved_0 11 rfl rfl)
theorem dX10_moved_12 : decode cX10_moved 12 = .ok (.invokevirtual 300, 3) := dk_182 1 44 (dk_at dksX10_moved_0 12 rfl rfl)
theorem dX10_moved_15 : decode cX10_moved 15 = .ok (.ifCond .eq 5, 3) := dk_153 0 5 (dk_at dksX10_moved_0 15 rfl rfl)
theorem dX10_moved_18 : decode cX10_moved 18 = .ok (.iconst 0, 1) := dk_3 (dk_at dksX10_moved_0 18 rfl rfl)
theorem dX10_moved_19 : decode cX10_moved 19 = .ok (.ireturn, 1) := dk_172 (dk_at dksX10_moved_0 19 rfl rfl)
theorem dX10_moved_20 : decode cX10_moved 20 = .ok (.aload_n 0, 1) := dk_42 (dk_at dksX10_moved_0 20 rfl rfl)
theorem dX10_moved_21 : decode cX10_moved 21 = .ok (.iload_n 1, 1) := dk_27 (dk_at dksX10_moved_0 21 rfl rfl)
theorem dX10_moved_22 : decode cX10_moved 22 = .ok (.iconst (-1), 1) := dk_2 (dk_at dksX10_moved_0 22 rfl rfl)
theorem dX10_moved_23 : decode cX10_moved 23 = .ok (.invokevirtual 381, 3) := dk_182 1 125 (dk_at dksX10_moved_1 0 rfl rfl)
theorem dX10_moved_26 : decode cX10_moved 26 = .ok (.aload_n 0, 1) := dk_42 (dk_at dksX10_moved_1 3 rfl rfl)
theorem dX10_moved_27 : decode cX10_moved 27 = .ok (.getfield 365, 3) := dk_180 1 109 (dk_at dksX10_moved_1 4 rfl rfl)
theorem dX10_moved_30 : decode cX10_moved 30 = .ok (.ireturn, 1) := dk_172 (dk_at dksX10_moved_1 7 rfl rfl)
abbrev cX10_lost : ByteArray := prog_20_method_99_code
def yX10_lost : MethodName := ⟨RX10, "lost", "()I"⟩
def dkwX10_lost_1 : List UInt8 := [156, 0, 9, 4, 28, 120, 167, 0, 4, 3, 128, 60, 132, 2, 1, 167, 255, 227, 27, 172]
abbrev dktX10_lost_1 : List UInt8 := dkwX10_lost_1 ++ []
def dkwX10_lost_0 : List UInt8 := [42, 3, 181, 0, 3, 3, 60, 3, 61, 28, 42, 182, 0, 100, 162, 0, 27, 27, 42, 28, 182, 1, 131]
abbrev dktX10_lost_0 : List UInt8 := dkwX10_lost_0 ++ dktX10_lost_1
theorem dksX10_lost_0 : cX10_lost.data.toList.drop 0 = dktX10_lost_0 := by decide +kernel
theorem dksX10_lost_1 : cX10_lost.data.toList.drop 23 = dktX10_lost_1 := dk_seg dksX10_lost_0 23 rfl rfl
theorem dX10_lost_0 : decode cX10_lost 0 = .ok (.aload_n 0, 1) := dk_42 (dk_at dksX10_lost_0 0 rfl rfl)
theorem dX10_lost_1 : decode cX10_lost 1 = .ok (.iconst 0, 1) := dk_3 (dk_at dksX10_lost_0 1 rfl rfl)
theorem dX10_lost_2 : decode cX10_lost 2 = .ok (.putfield 3, 3) := dk_181 0 3 (dk_at dksX10_lost_0 2 rfl rfl)
theorem dX10_lost_5 : decode cX10_lost 5 = .ok (.iconst 0, 1) := dk_3 (dk_at dksX10_lost_0 5 rfl rfl)
theorem dX10_lost_6 : decode cX10_lost 6 = .ok (.istore_n 1, 1) := dk_60 (dk_at dksX10_lost_0 6 rfl rfl)
theorem dX10_lost_7 : decode cX10_lost 7 = .ok (.iconst 0, 1) := dk_3 (dk_at dksX10_lost_0 7 rfl rfl)
theorem dX10_lost_8 : decode cX10_lost 8 = .ok (.istore_n 2, 1) := dk_61 (dk_at dksX10_lost_0 8 rfl rfl)
theorem dX10_lost_9 : decode cX10_lost 9 = .ok (.iload_n 2, 1) := dk_28 (dk_at dksX10_lost_0 9 rfl rfl)
theorem dX10_lost_10 : decode cX10_lost 10 = .ok (.aload_n 0, 1) := dk_42 (dk_at dksX10_lost_0 10 rfl rfl)
theorem dX10_lost_11 : decode cX10_lost 11 = .ok (.invokevirtual 100, 3) := dk_182 0 100 (dk_at dksX10_lost_0 11 rfl rfl)
theorem dX10_lost_14 : decode cX10_lost 14 = .ok (.if_icmp .ge 27, 3) := dk_162 0 27 (dk_at dksX10_lost_0 14 rfl rfl)
theorem dX10_lost_17 : decode cX10_lost 17 = .ok (.iload_n 1, 1) := dk_27 (dk_at dksX10_lost_0 17 rfl rfl)
theorem dX10_lost_18 : decode cX10_lost 18 = .ok (.aload_n 0, 1) := dk_42 (dk_at dksX10_lost_0 18 rfl rfl)
theorem dX10_lost_19 : decode cX10_lost 19 = .ok (.iload_n 2, 1) := dk_28 (dk_at dksX10_lost_0 19 rfl rfl)
theorem dX10_lost_20 : decode cX10_lost 20 = .ok (.invokevirtual 387, 3) := dk_182 1 131 (dk_at dksX10_lost_0 20 rfl rfl)
theorem dX10_lost_23 : decode cX10_lost 23 = .ok (.ifCond .ge 9, 3) := dk_156 0 9 (dk_at dksX10_lost_1 0 rfl rfl)
theorem dX10_lost_26 : decode cX10_lost 26 = .ok (.iconst 1, 1) := dk_4 (dk_at dksX10_lost_1 3 rfl rfl)
theorem dX10_lost_27 : decode cX10_lost 27 = .ok (.iload_n 2, 1) := dk_28 (dk_at dksX10_lost_1 4 rfl rfl)
theorem dX10_lost_28 : decode cX10_lost 28 = .ok (.ishl, 1) := dk_120 (dk_at dksX10_lost_1 5 rfl rfl)
theorem dX10_lost_29 : decode cX10_lost 29 = .ok (.goto 4, 3) := dk_167 0 4 (dk_at dksX10_lost_1 6 rfl rfl)
theorem dX10_lost_32 : decode cX10_lost 32 = .ok (.iconst 0, 1) := dk_3 (dk_at dksX10_lost_1 9 rfl rfl)
theorem dX10_lost_33 : decode cX10_lost 33 = .ok (.ior, 1) := dk_128 (dk_at dksX10_lost_1 10 rfl rfl)
theorem dX10_lost_34 : decode cX10_lost 34 = .ok (.istore_n 1, 1) := dk_60 (dk_at dksX10_lost_1 11 rfl rfl)
theorem dX10_lost_35 : decode cX10_lost 35 = .ok (.iinc 2 1, 3) := dk_132 2 1 (dk_at dksX10_lost_1 12 rfl rfl)
theorem dX10_lost_38 : decode cX10_lost 38 = .ok (.goto (-29), 3) := dk_167 255 227 (dk_at dksX10_lost_1 15 rfl rfl)
theorem dX10_lost_41 : decode cX10_lost 41 = .ok (.iload_n 1, 1) := dk_27 (dk_at dksX10_lost_1 18 rfl rfl)
theorem dX10_lost_42 : decode cX10_lost 42 = .ok (.ireturn, 1) := dk_172 (dk_at dksX10_lost_1 19 rfl rfl)
abbrev cX10_market : ByteArray := prog_20_method_102_code
def yX10_market : MethodName := ⟨RX10, "market", "(Z)I"⟩
def dkwX10_market_2 : List UInt8 := [62, 132, 4, 1, 167, 255, 220, 27, 153, 0, 7, 29, 167, 0, 4, 28, 172]
abbrev dktX10_market_2 : List UInt8 := dkwX10_market_2 ++ []
def dkwX10_market_1 : List UInt8 := [42, 21, 4, 2, 3, 182, 1, 175, 54, 5, 21, 5, 29, 163, 0, 6, 167, 0, 9, 21, 4, 61, 21, 5]
abbrev dktX10_market_1 : List UInt8 := dkwX10_market_1 ++ dktX10_market_2
def dkwX10_market_0 : List UInt8 := [42, 3, 181, 0, 3, 42, 182, 1, 172, 2, 61, 3, 62, 3, 54, 4, 21, 4, 17, 1, 44, 162, 0, 34]
abbrev dktX10_market_0 : List UInt8 := dkwX10_market_0 ++ dktX10_market_1
theorem dksX10_market_0 : cX10_market.data.toList.drop 0 = dktX10_market_0 := by decide +kernel
theorem dksX10_market_1 : cX10_market.data.toList.drop 24 = dktX10_market_1 := dk_seg dksX10_market_0 24 rfl rfl
theorem dksX10_market_2 : cX10_market.data.toList.drop 48 = dktX10_market_2 := dk_seg dksX10_market_1 24 rfl rfl
theorem dX10_market_0 : decode cX10_market 0 = .ok (.aload_n 0, 1) := dk_42 (dk_at dksX10_market_0 0 rfl rfl)
theorem dX10_market_1 : decode cX10_market 1 = .ok (.iconst 0, 1) := dk_3 (dk_at dksX10_market_0 1 rfl rfl)
theorem dX10_market_2 : decode cX10_market 2 = .ok (.putfield 3, 3) := dk_181 0 3 (dk_at dksX10_market_0 2 rfl rfl)
theorem dX10_market_5 : decode cX10_market 5 = .ok (.aload_n 0, 1) := dk_42 (dk_at dksX10_market_0 5 rfl rfl)
theorem dX10_market_6 : decode cX10_market 6 = .ok (.invokevirtual 428, 3) := dk_182 1 172 (dk_at dksX10_market_0 6 rfl rfl)
theorem dX10_market_9 : decode cX10_market 9 = .ok (.iconst (-1), 1) := dk_2 (dk_at dksX10_market_0 9 rfl rfl)
theorem dX10_market_10 : decode cX10_market 10 = .ok (.istore_n 2, 1) := dk_61 (dk_at dksX10_market_0 10 rfl rfl)
theorem dX10_market_11 : decode cX10_market 11 = .ok (.iconst 0, 1) := dk_3 (dk_at dksX10_market_0 11 rfl rfl)
theorem dX10_market_12 : decode cX10_market 12 = .ok (.istore_n 3, 1) := dk_62 (dk_at dksX10_market_0 12 rfl rfl)
theorem dX10_market_13 : decode cX10_market 13 = .ok (.iconst 0, 1) := dk_3 (dk_at dksX10_market_0 13 rfl rfl)
theorem dX10_market_14 : decode cX10_market 14 = .ok (.istore 4, 2) := dk_54 4 (dk_at dksX10_market_0 14 rfl rfl)
theorem dX10_market_16 : decode cX10_market 16 = .ok (.iload 4, 2) := dk_21 4 (dk_at dksX10_market_0 16 rfl rfl)
theorem dX10_market_18 : decode cX10_market 18 = .ok (.sipush 300, 3) := dk_17 1 44 (dk_at dksX10_market_0 18 rfl rfl)
theorem dX10_market_21 : decode cX10_market 21 = .ok (.if_icmp .ge 34, 3) := dk_162 0 34 (dk_at dksX10_market_0 21 rfl rfl)
theorem dX10_market_24 : decode cX10_market 24 = .ok (.aload_n 0, 1) := dk_42 (dk_at dksX10_market_1 0 rfl rfl)
theorem dX10_market_25 : decode cX10_market 25 = .ok (.iload 4, 2) := dk_21 4 (dk_at dksX10_market_1 1 rfl rfl)
theorem dX10_market_27 : decode cX10_market 27 = .ok (.iconst (-1), 1) := dk_2 (dk_at dksX10_market_1 3 rfl rfl)
theorem dX10_market_28 : decode cX10_market 28 = .ok (.iconst 0, 1) := dk_3 (dk_at dksX10_market_1 4 rfl rfl)
theorem dX10_market_29 : decode cX10_market 29 = .ok (.invokevirtual 431, 3) := dk_182 1 175 (dk_at dksX10_market_1 5 rfl rfl)
theorem dX10_market_32 : decode cX10_market 32 = .ok (.istore 5, 2) := dk_54 5 (dk_at dksX10_market_1 8 rfl rfl)
theorem dX10_market_34 : decode cX10_market 34 = .ok (.iload 5, 2) := dk_21 5 (dk_at dksX10_market_1 10 rfl rfl)
theorem dX10_market_36 : decode cX10_market 36 = .ok (.iload_n 3, 1) := dk_29 (dk_at dksX10_market_1 12 rfl rfl)
theorem dX10_market_37 : decode cX10_market 37 = .ok (.if_icmp .gt 6, 3) := dk_163 0 6 (dk_at dksX10_market_1 13 rfl rfl)
theorem dX10_market_40 : decode cX10_market 40 = .ok (.goto 9, 3) := dk_167 0 9 (dk_at dksX10_market_1 16 rfl rfl)
theorem dX10_market_43 : decode cX10_market 43 = .ok (.iload 4, 2) := dk_21 4 (dk_at dksX10_market_1 19 rfl rfl)
theorem dX10_market_45 : decode cX10_market 45 = .ok (.istore_n 2, 1) := dk_61 (dk_at dksX10_market_1 21 rfl rfl)
theorem dX10_market_46 : decode cX10_market 46 = .ok (.iload 5, 2) := dk_21 5 (dk_at dksX10_market_1 22 rfl rfl)
theorem dX10_market_48 : decode cX10_market 48 = .ok (.istore_n 3, 1) := dk_62 (dk_at dksX10_market_2 0 rfl rfl)
theorem dX10_market_49 : decode cX10_market 49 = .ok (.iinc 4 1, 3) := dk_132 4 1 (dk_at dksX10_market_2 1 rfl rfl)
theorem dX10_market_52 : decode cX10_market 52 = .ok (.goto (-36), 3) := dk_167 255 220 (dk_at dksX10_market_2 4 rfl rfl)
theorem dX10_market_55 : decode cX10_market 55 = .ok (.iload_n 1, 1) := dk_27 (dk_at dksX10_market_2 7 rfl rfl)
theorem dX10_market_56 : decode cX10_market 56 = .ok (.ifCond .eq 7, 3) := dk_153 0 7 (dk_at dksX10_market_2 8 rfl rfl)
theorem dX10_market_59 : decode cX10_market 59 = .ok (.iload_n 3, 1) := dk_29 (dk_at dksX10_market_2 11 rfl rfl)
theorem dX10_market_60 : decode cX10_market 60 = .ok (.goto 4, 3) := dk_167 0 4 (dk_at dksX10_market_2 12 rfl rfl)
theorem dX10_market_63 : decode cX10_market 63 = .ok (.iload_n 2, 1) := dk_28 (dk_at dksX10_market_2 15 rfl rfl)
theorem dX10_market_64 : decode cX10_market 64 = .ok (.ireturn, 1) := dk_172 (dk_at dksX10_market_2 16 rfl rfl)
abbrev cX10_outsAll : ByteArray := prog_20_method_100_code
def yX10_outsAll : MethodName := ⟨RX10, "outsAll", "()V"⟩
def dkwX10_outsAll_1 : List UInt8 := [167, 255, 234, 177]
abbrev dktX10_outsAll_1 : List UInt8 := dkwX10_outsAll_1 ++ []
def dkwX10_outsAll_0 : List UInt8 := [3, 60, 27, 42, 182, 0, 100, 162, 0, 20, 42, 180, 0, 51, 27, 42, 27, 182, 1, 131, 79, 132, 1, 1]
abbrev dktX10_outsAll_0 : List UInt8 := dkwX10_outsAll_0 ++ dktX10_outsAll_1
theorem dksX10_outsAll_0 : cX10_outsAll.data.toList.drop 0 = dktX10_outsAll_0 := by decide +kernel
theorem dksX10_outsAll_1 : cX10_outsAll.data.toList.drop 24 = dktX10_outsAll_1 := dk_seg dksX10_outsAll_0 24 rfl rfl
theorem dX10_outsAll_0 : decode cX10_outsAll 0 = .ok (.iconst 0, 1) := dk_3 (dk_at dksX10_outsAll_0 0 rfl rfl)
theorem dX10_outsAll_1 : decode cX10_outsAll 1 = .ok (.istore_n 1, 1) := dk_60 (dk_at dksX10_outsAll_0 1 rfl rfl)
theorem dX10_outsAll_2 : decode cX10_outsAll 2 = .ok (.iload_n 1, 1) := dk_27 (dk_at dksX10_outsAll_0 2 rfl rfl)
theorem dX10_outsAll_3 : decode cX10_outsAll 3 = .ok (.aload_n 0, 1) := dk_42 (dk_at dksX10_outsAll_0 3 rfl rfl)
theorem dX10_outsAll_4 : decode cX10_outsAll 4 = .ok (.invokevirtual 100, 3) := dk_182 0 100 (dk_at dksX10_outsAll_0 4 rfl rfl)
theorem dX10_outsAll_7 : decode cX10_outsAll 7 = .ok (.if_icmp .ge 20, 3) := dk_162 0 20 (dk_at dksX10_outsAll_0 7 rfl rfl)
theorem dX10_outsAll_10 : decode cX10_outsAll 10 = .ok (.aload_n 0, 1) := dk_42 (dk_at dksX10_outsAll_0 10 rfl rfl)
theorem dX10_outsAll_11 : decode cX10_outsAll 11 = .ok (.getfield 51, 3) := dk_180 0 51 (dk_at dksX10_outsAll_0 11 rfl rfl)
theorem dX10_outsAll_14 : decode cX10_outsAll 14 = .ok (.iload_n 1, 1) := dk_27 (dk_at dksX10_outsAll_0 14 rfl rfl)
theorem dX10_outsAll_15 : decode cX10_outsAll 15 = .ok (.aload_n 0, 1) := dk_42 (dk_at dksX10_outsAll_0 15 rfl rfl)
theorem dX10_outsAll_16 : decode cX10_outsAll 16 = .ok (.iload_n 1, 1) := dk_27 (dk_at dksX10_outsAll_0 16 rfl rfl)
theorem dX10_outsAll_17 : decode cX10_outsAll 17 = .ok (.invokevirtual 387, 3) := dk_182 1 131 (dk_at dksX10_outsAll_0 17 rfl rfl)
theorem dX10_outsAll_20 : decode cX10_outsAll 20 = .ok (.iastore, 1) := dk_79 (dk_at dksX10_outsAll_0 20 rfl rfl)
theorem dX10_outsAll_21 : decode cX10_outsAll 21 = .ok (.iinc 1 1, 3) := dk_132 1 1 (dk_at dksX10_outsAll_0 21 rfl rfl)
theorem dX10_outsAll_24 : decode cX10_outsAll 24 = .ok (.goto (-22), 3) := dk_167 255 234 (dk_at dksX10_outsAll_1 0 rfl rfl)
theorem dX10_outsAll_27 : decode cX10_outsAll 27 = .ok (.return_, 1) := dk_177 (dk_at dksX10_outsAll_1 3 rfl rfl)
abbrev cX10_outsIn : ByteArray := prog_20_method_101_code
def yX10_outsIn : MethodName := ⟨RX10, "outsIn", "(IIZ)I"⟩
def dkwX10_outsIn_3 : List UInt8 := [172]
abbrev dktX10_outsIn_3 : List UInt8 := dkwX10_outsIn_3 ++ []
def dkwX10_outsIn_2 : List UInt8 := [21, 5, 182, 1, 118, 154, 0, 7, 4, 167, 0, 4, 3, 96, 54, 4, 132, 5, 1, 167, 255, 195, 21, 4]
abbrev dktX10_outsIn_2 : List UInt8 := dkwX10_outsIn_2 ++ dktX10_outsIn_3
def dkwX10_outsIn_1 : List UInt8 := [27, 160, 0, 35, 28, 155, 0, 14, 42, 21, 5, 5, 182, 0, 82, 28, 160, 0, 20, 29, 154, 0, 12, 42]
abbrev dktX10_outsIn_1 : List UInt8 := dkwX10_outsIn_1 ++ dktX10_outsIn_2
def dkwX10_outsIn_0 : List UInt8 := [3, 54, 4, 3, 54, 5, 21, 5, 42, 182, 0, 100, 162, 0, 58, 21, 4, 42, 180, 0, 51, 21, 5, 46]
abbrev dktX10_outsIn_0 : List UInt8 := dkwX10_outsIn_0 ++ dktX10_outsIn_1
theorem dksX10_outsIn_0 : cX10_outsIn.data.toList.drop 0 = dktX10_outsIn_0 := by decide +kernel
theorem dksX10_outsIn_1 : cX10_outsIn.data.toList.drop 24 = dktX10_outsIn_1 := dk_seg dksX10_outsIn_0 24 rfl rfl
theorem dksX10_outsIn_2 : cX10_outsIn.data.toList.drop 48 = dktX10_outsIn_2 := dk_seg dksX10_outsIn_1 24 rfl rfl
theorem dksX10_outsIn_3 : cX10_outsIn.data.toList.drop 72 = dktX10_outsIn_3 := dk_seg dksX10_outsIn_2 24 rfl rfl
theorem dX10_outsIn_0 : decode cX10_outsIn 0 = .ok (.iconst 0, 1) := dk_3 (dk_at dksX10_outsIn_0 0 rfl rfl)
theorem dX10_outsIn_1 : decode cX10_outsIn 1 = .ok (.istore 4, 2) := dk_54 4 (dk_at dksX10_outsIn_0 1 rfl rfl)
theorem dX10_outsIn_3 : decode cX10_outsIn 3 = .ok (.iconst 0, 1) := dk_3 (dk_at dksX10_outsIn_0 3 rfl rfl)
theorem dX10_outsIn_4 : decode cX10_outsIn 4 = .ok (.istore 5, 2) := dk_54 5 (dk_at dksX10_outsIn_0 4 rfl rfl)
theorem dX10_outsIn_6 : decode cX10_outsIn 6 = .ok (.iload 5, 2) := dk_21 5 (dk_at dksX10_outsIn_0 6 rfl rfl)
theorem dX10_outsIn_8 : decode cX10_outsIn 8 = .ok (.aload_n 0, 1) := dk_42 (dk_at dksX10_outsIn_0 8 rfl rfl)
theorem dX10_outsIn_9 : decode cX10_outsIn 9 = .ok (.invokevirtual 100, 3) := dk_182 0 100 (dk_at dksX10_outsIn_0 9 rfl rfl)
theorem dX10_outsIn_12 : decode cX10_outsIn 12 = .ok (.if_icmp .ge 58, 3) := dk_162 0 58 (dk_at dksX10_outsIn_0 12 rfl rfl)
theorem dX10_outsIn_15 : decode cX10_outsIn 15 = .ok (.iload 4, 2) := dk_21 4 (dk_at dksX10_outsIn_0 15 rfl rfl)
theorem dX10_outsIn_17 : decode cX10_outsIn 17 = .ok (.aload_n 0, 1) := dk_42 (dk_at dksX10_outsIn_0 17 rfl rfl)
theorem dX10_outsIn_18 : decode cX10_outsIn 18 = .ok (.getfield 51, 3) := dk_180 0 51 (dk_at dksX10_outsIn_0 18 rfl rfl)
theorem dX10_outsIn_21 : decode cX10_outsIn 21 = .ok (.iload 5, 2) := dk_21 5 (dk_at dksX10_outsIn_0 21 rfl rfl)
theorem dX10_outsIn_23 : decode cX10_outsIn 23 = .ok (.iaload, 1) := dk_46 (dk_at dksX10_outsIn_0 23 rfl rfl)
theorem dX10_outsIn_24 : decode cX10_outsIn 24 = .ok (.iload_n 1, 1) := dk_27 (dk_at dksX10_outsIn_1 0 rfl rfl)
theorem dX10_outsIn_25 : decode cX10_outsIn 25 = .ok (.if_icmp .ne 35, 3) := dk_160 0 35 (dk_at dksX10_outsIn_1 1 rfl rfl)
theorem dX10_outsIn_28 : decode cX10_outsIn 28 = .ok (.iload_n 2, 1) := dk_28 (dk_at dksX10_outsIn_1 4 rfl rfl)
theorem dX10_outsIn_29 : decode cX10_outsIn 29 = .ok (.ifCond .lt 14, 3) := dk_155 0 14 (dk_at dksX10_outsIn_1 5 rfl rfl)
theorem dX10_outsIn_32 : decode cX10_outsIn 32 = .ok (.aload_n 0, 1) := dk_42 (dk_at dksX10_outsIn_1 8 rfl rfl)
theorem dX10_outsIn_33 : decode cX10_outsIn 33 = .ok (.iload 5, 2) := dk_21 5 (dk_at dksX10_outsIn_1 9 rfl rfl)
theorem dX10_outsIn_35 : decode cX10_outsIn 35 = .ok (.iconst 2, 1) := dk_5 (dk_at dksX10_outsIn_1 11 rfl rfl)
theorem dX10_outsIn_36 : decode cX10_outsIn 36 = .ok (.invokevirtual 82, 3) := dk_182 0 82 (dk_at dksX10_outsIn_1 12 rfl rfl)
theorem dX10_outsIn_39 : decode cX10_outsIn 39 = .ok (.iload_n 2, 1) := dk_28 (dk_at dksX10_outsIn_1 15 rfl rfl)
theorem dX10_outsIn_40 : decode cX10_outsIn 40 = .ok (.if_icmp .ne 20, 3) := dk_160 0 20 (dk_at dksX10_outsIn_1 16 rfl rfl)
theorem dX10_outsIn_43 : decode cX10_outsIn 43 = .ok (.iload_n 3, 1) := dk_29 (dk_at dksX10_outsIn_1 19 rfl rfl)
theorem dX10_outsIn_44 : decode cX10_outsIn 44 = .ok (.ifCond .ne 12, 3) := dk_154 0 12 (dk_at dksX10_outsIn_1 20 rfl rfl)
theorem dX10_outsIn_47 : decode cX10_outsIn 47 = .ok (.aload_n 0, 1) := dk_42 (dk_at dksX10_outsIn_1 23 rfl rfl)
theorem dX10_outsIn_48 : decode cX10_outsIn 48 = .ok (.iload 5, 2) := dk_21 5 (dk_at dksX10_outsIn_2 0 rfl rfl)
theorem dX10_outsIn_50 : decode cX10_outsIn 50 = .ok (.invokevirtual 374, 3) := dk_182 1 118 (dk_at dksX10_outsIn_2 2 rfl rfl)
theorem dX10_outsIn_53 : decode cX10_outsIn 53 = .ok (.ifCond .ne 7, 3) := dk_154 0 7 (dk_at dksX10_outsIn_2 5 rfl rfl)
theorem dX10_outsIn_56 : decode cX10_outsIn 56 = .ok (.iconst 1, 1) := dk_4 (dk_at dksX10_outsIn_2 8 rfl rfl)
theorem dX10_outsIn_57 : decode cX10_outsIn 57 = .ok (.goto 4, 3) := dk_167 0 4 (dk_at dksX10_outsIn_2 9 rfl rfl)
theorem dX10_outsIn_60 : decode cX10_outsIn 60 = .ok (.iconst 0, 1) := dk_3 (dk_at dksX10_outsIn_2 12 rfl rfl)
theorem dX10_outsIn_61 : decode cX10_outsIn 61 = .ok (.iadd, 1) := dk_96 (dk_at dksX10_outsIn_2 13 rfl rfl)
theorem dX10_outsIn_62 : decode cX10_outsIn 62 = .ok (.istore 4, 2) := dk_54 4 (dk_at dksX10_outsIn_2 14 rfl rfl)
theorem dX10_outsIn_64 : decode cX10_outsIn 64 = .ok (.iinc 5 1, 3) := dk_132 5 1 (dk_at dksX10_outsIn_2 16 rfl rfl)
theorem dX10_outsIn_67 : decode cX10_outsIn 67 = .ok (.goto (-61), 3) := dk_167 255 195 (dk_at dksX10_outsIn_2 19 rfl rfl)
theorem dX10_outsIn_70 : decode cX10_outsIn 70 = .ok (.iload 4, 2) := dk_21 4 (dk_at dksX10_outsIn_2 22 rfl rfl)
theorem dX10_outsIn_72 : decode cX10_outsIn 72 = .ok (.ireturn, 1) := dk_172 (dk_at dksX10_outsIn_3 0 rfl rfl)
abbrev cX10_passes : ByteArray := prog_20_method_106_code
def yX10_passes : MethodName := ⟨RX10, "passes", "(I)I"⟩
def dkwX10_passes_4 : List UInt8 := [167, 0, 4, 3, 96, 61, 132, 3, 1, 167, 255, 186, 28, 172]
abbrev dktX10_passes_4 : List UInt8 := dkwX10_passes_4 ++ []
def dkwX10_passes_3 : List UInt8 := [28, 42, 42, 29, 6, 182, 0, 82, 42, 27, 6, 182, 0, 82, 184, 1, 94, 182, 1, 185, 153, 0, 7, 4]
abbrev dktX10_passes_3 : List UInt8 := dkwX10_passes_3 ++ dktX10_passes_4
def dkwX10_passes_2 : List UInt8 := [42, 29, 5, 182, 0, 82, 42, 27, 5, 182, 0, 82, 159, 0, 6, 167, 0, 39, 42, 29, 2, 182, 1, 125]
abbrev dktX10_passes_2 : List UInt8 := dkwX10_passes_2 ++ dktX10_passes_3
def dkwX10_passes_1 : List UInt8 := [182, 1, 125, 42, 182, 1, 182, 3, 61, 3, 62, 29, 42, 182, 0, 100, 162, 0, 68, 29, 27, 159, 0, 57]
abbrev dktX10_passes_1 : List UInt8 := dkwX10_passes_1 ++ dktX10_passes_2
def dkwX10_passes_0 : List UInt8 := [42, 3, 181, 0, 3, 42, 42, 27, 182, 1, 149, 4, 182, 1, 44, 153, 0, 5, 3, 172, 42, 27, 2]
abbrev dktX10_passes_0 : List UInt8 := dkwX10_passes_0 ++ dktX10_passes_1
theorem dksX10_passes_0 : cX10_passes.data.toList.drop 0 = dktX10_passes_0 := by decide +kernel
theorem dksX10_passes_1 : cX10_passes.data.toList.drop 23 = dktX10_passes_1 := dk_seg dksX10_passes_0 23 rfl rfl
theorem dksX10_passes_2 : cX10_passes.data.toList.drop 47 = dktX10_passes_2 := dk_seg dksX10_passes_1 24 rfl rfl
theorem dksX10_passes_3 : cX10_passes.data.toList.drop 71 = dktX10_passes_3 := dk_seg dksX10_passes_2 24 rfl rfl
theorem dksX10_passes_4 : cX10_passes.data.toList.drop 95 = dktX10_passes_4 := dk_seg dksX10_passes_3 24 rfl rfl
theorem dX10_passes_0 : decode cX10_passes 0 = .ok (.aload_n 0, 1) := dk_42 (dk_at dksX10_passes_0 0 rfl rfl)
theorem dX10_passes_1 : decode cX10_passes 1 = .ok (.iconst 0, 1) := dk_3 (dk_at dksX10_passes_0 1 rfl rfl)
theorem dX10_passes_2 : decode cX10_passes 2 = .ok (.putfield 3, 3) := dk_181 0 3 (dk_at dksX10_passes_0 2 rfl rfl)
theorem dX10_passes_5 : decode cX10_passes 5 = .ok (.aload_n 0, 1) := dk_42 (dk_at dksX10_passes_0 5 rfl rfl)
theorem dX10_passes_6 : decode cX10_passes 6 = .ok (.aload_n 0, 1) := dk_42 (dk_at dksX10_passes_0 6 rfl rfl)
theorem dX10_passes_7 : decode cX10_passes 7 = .ok (.iload_n 1, 1) := dk_27 (dk_at dksX10_passes_0 7 rfl rfl)
theorem dX10_passes_8 : decode cX10_passes 8 = .ok (.invokevirtual 405, 3) := dk_182 1 149 (dk_at dksX10_passes_0 8 rfl rfl)
theorem dX10_passes_11 : decode cX10_passes 11 = .ok (.iconst 1, 1) := dk_4 (dk_at dksX10_passes_0 11 rfl rfl)
theorem dX10_passes_12 : decode cX10_passes 12 = .ok (.invokevirtual 300, 3) := dk_182 1 44 (dk_at dksX10_passes_0 12 rfl rfl)
theorem dX10_passes_15 : decode cX10_passes 15 = .ok (.ifCond .eq 5, 3) := dk_153 0 5 (dk_at dksX10_passes_0 15 rfl rfl)
theorem dX10_passes_18 : decode cX10_passes 18 = .ok (.iconst 0, 1) := dk_3 (dk_at dksX10_passes_0 18 rfl rfl)
theorem dX10_passes_19 : decode cX10_passes 19 = .ok (.ireturn, 1) := dk_172 (dk_at dksX10_passes_0 19 rfl rfl)
theorem dX10_passes_20 : decode cX10_passes 20 = .ok (.aload_n 0, 1) := dk_42 (dk_at dksX10_passes_0 20 rfl rfl)
theorem dX10_passes_21 : decode cX10_passes 21 = .ok (.iload_n 1, 1) := dk_27 (dk_at dksX10_passes_0 21 rfl rfl)
theorem dX10_passes_22 : decode cX10_passes 22 = .ok (.iconst (-1), 1) := dk_2 (dk_at dksX10_passes_0 22 rfl rfl)
theorem dX10_passes_23 : decode cX10_passes 23 = .ok (.invokevirtual 381, 3) := dk_182 1 125 (dk_at dksX10_passes_1 0 rfl rfl)
theorem dX10_passes_26 : decode cX10_passes 26 = .ok (.aload_n 0, 1) := dk_42 (dk_at dksX10_passes_1 3 rfl rfl)
theorem dX10_passes_27 : decode cX10_passes 27 = .ok (.invokevirtual 438, 3) := dk_182 1 182 (dk_at dksX10_passes_1 4 rfl rfl)
theorem dX10_passes_30 : decode cX10_passes 30 = .ok (.iconst 0, 1) := dk_3 (dk_at dksX10_passes_1 7 rfl rfl)
theorem dX10_passes_31 : decode cX10_passes 31 = .ok (.istore_n 2, 1) := dk_61 (dk_at dksX10_passes_1 8 rfl rfl)
theorem dX10_passes_32 : decode cX10_passes 32 = .ok (.iconst 0, 1) := dk_3 (dk_at dksX10_passes_1 9 rfl rfl)
theorem dX10_passes_33 : decode cX10_passes 33 = .ok (.istore_n 3, 1) := dk_62 (dk_at dksX10_passes_1 10 rfl rfl)
theorem dX10_passes_34 : decode cX10_passes 34 = .ok (.iload_n 3, 1) := dk_29 (dk_at dksX10_passes_1 11 rfl rfl)
theorem dX10_passes_35 : decode cX10_passes 35 = .ok (.aload_n 0, 1) := dk_42 (dk_at dksX10_passes_1 12 rfl rfl)
theorem dX10_passes_36 : decode cX10_passes 36 = .ok (.invokevirtual 100, 3) := dk_182 0 100 (dk_at dksX10_passes_1 13 rfl rfl)
theorem dX10_passes_39 : decode cX10_passes 39 = .ok (.if_icmp .ge 68, 3) := dk_162 0 68 (dk_at dksX10_passes_1 16 rfl rfl)
theorem dX10_passes_42 : decode cX10_passes 42 = .ok (.iload_n 3, 1) := dk_29 (dk_at dksX10_passes_1 19 rfl rfl)
theorem dX10_passes_43 : decode cX10_passes 43 = .ok (.iload_n 1, 1) := dk_27 (dk_at dksX10_passes_1 20 rfl rfl)
theorem dX10_passes_44 : decode cX10_passes 44 = .ok (.if_icmp .eq 57, 3) := dk_159 0 57 (dk_at dksX10_passes_1 21 rfl rfl)
theorem dX10_passes_47 : decode cX10_passes 47 = .ok (.aload_n 0, 1) := dk_42 (dk_at dksX10_passes_2 0 rfl rfl)
theorem dX10_passes_48 : decode cX10_passes 48 = .ok (.iload_n 3, 1) := dk_29 (dk_at dksX10_passes_2 1 rfl rfl)
theorem dX10_passes_49 : decode cX10_passes 49 = .ok (.iconst 2, 1) := dk_5 (dk_at dksX10_passes_2 2 rfl rfl)
theorem dX10_passes_50 : decode cX10_passes 50 = .ok (.invokevirtual 82, 3) := dk_182 0 82 (dk_at dksX10_passes_2 3 rfl rfl)
theorem dX10_passes_53 : decode cX10_passes 53 = .ok (.aload_n 0, 1) := dk_42 (dk_at dksX10_passes_2 6 rfl rfl)
theorem dX10_passes_54 : decode cX10_passes 54 = .ok (.iload_n 1, 1) := dk_27 (dk_at dksX10_passes_2 7 rfl rfl)
theorem dX10_passes_55 : decode cX10_passes 55 = .ok (.iconst 2, 1) := dk_5 (dk_at dksX10_passes_2 8 rfl rfl)
theorem dX10_passes_56 : decode cX10_passes 56 = .ok (.invokevirtual 82, 3) := dk_182 0 82 (dk_at dksX10_passes_2 9 rfl rfl)
theorem dX10_passes_59 : decode cX10_passes 59 = .ok (.if_icmp .eq 6, 3) := dk_159 0 6 (dk_at dksX10_passes_2 12 rfl rfl)
theorem dX10_passes_62 : decode cX10_passes 62 = .ok (.goto 39, 3) := dk_167 0 39 (dk_at dksX10_passes_2 15 rfl rfl)
theorem dX10_passes_65 : decode cX10_passes 65 = .ok (.aload_n 0, 1) := dk_42 (dk_at dksX10_passes_2 18 rfl rfl)
theorem dX10_passes_66 : decode cX10_passes 66 = .ok (.iload_n 3, 1) := dk_29 (dk_at dksX10_passes_2 19 rfl rfl)
theorem dX10_passes_67 : decode cX10_passes 67 = .ok (.iconst (-1), 1) := dk_2 (dk_at dksX10_passes_2 20 rfl rfl)
theorem dX10_passes_68 : decode cX10_passes 68 = .ok (.invokevirtual 381, 3) := dk_182 1 125 (dk_at dksX10_passes_2 21 rfl rfl)
theorem dX10_passes_71 : decode cX10_passes 71 = .ok (.iload_n 2, 1) := dk_28 (dk_at dksX10_passes_3 0 rfl rfl)
theorem dX10_passes_72 : decode cX10_passes 72 = .ok (.aload_n 0, 1) := dk_42 (dk_at dksX10_passes_3 1 rfl rfl)
theorem dX10_passes_73 : decode cX10_passes 73 = .ok (.aload_n 0, 1) := dk_42 (dk_at dksX10_passes_3 2 rfl rfl)
theorem dX10_passes_74 : decode cX10_passes 74 = .ok (.iload_n 3, 1) := dk_29 (dk_at dksX10_passes_3 3 rfl rfl)
theorem dX10_passes_75 : decode cX10_passes 75 = .ok (.iconst 3, 1) := dk_6 (dk_at dksX10_passes_3 4 rfl rfl)
theorem dX10_passes_76 : decode cX10_passes 76 = .ok (.invokevirtual 82, 3) := dk_182 0 82 (dk_at dksX10_passes_3 5 rfl rfl)
theorem dX10_passes_79 : decode cX10_passes 79 = .ok (.aload_n 0, 1) := dk_42 (dk_at dksX10_passes_3 8 rfl rfl)
theorem dX10_passes_80 : decode cX10_passes 80 = .ok (.iload_n 1, 1) := dk_27 (dk_at dksX10_passes_3 9 rfl rfl)
theorem dX10_passes_81 : decode cX10_passes 81 = .ok (.iconst 3, 1) := dk_6 (dk_at dksX10_passes_3 10 rfl rfl)
theorem dX10_passes_82 : decode cX10_passes 82 = .ok (.invokevirtual 82, 3) := dk_182 0 82 (dk_at dksX10_passes_3 11 rfl rfl)
theorem dX10_passes_85 : decode cX10_passes 85 = .ok (.invokestatic 350, 3) := dk_184 1 94 (dk_at dksX10_passes_3 14 rfl rfl)
theorem dX10_passes_88 : decode cX10_passes 88 = .ok (.invokevirtual 441, 3) := dk_182 1 185 (dk_at dksX10_passes_3 17 rfl rfl)
theorem dX10_passes_91 : decode cX10_passes 91 = .ok (.ifCond .eq 7, 3) := dk_153 0 7 (dk_at dksX10_passes_3 20 rfl rfl)
theorem dX10_passes_94 : decode cX10_passes 94 = .ok (.iconst 1, 1) := dk_4 (dk_at dksX10_passes_3 23 rfl rfl)
theorem dX10_passes_95 : decode cX10_passes 95 = .ok (.goto 4, 3) := dk_167 0 4 (dk_at dksX10_passes_4 0 rfl rfl)
theorem dX10_passes_98 : decode cX10_passes 98 = .ok (.iconst 0, 1) := dk_3 (dk_at dksX10_passes_4 3 rfl rfl)
theorem dX10_passes_99 : decode cX10_passes 99 = .ok (.iadd, 1) := dk_96 (dk_at dksX10_passes_4 4 rfl rfl)
theorem dX10_passes_100 : decode cX10_passes 100 = .ok (.istore_n 2, 1) := dk_61 (dk_at dksX10_passes_4 5 rfl rfl)
theorem dX10_passes_101 : decode cX10_passes 101 = .ok (.iinc 3 1, 3) := dk_132 3 1 (dk_at dksX10_passes_4 6 rfl rfl)
theorem dX10_passes_104 : decode cX10_passes 104 = .ok (.goto (-70), 3) := dk_167 255 186 (dk_at dksX10_passes_4 9 rfl rfl)
theorem dX10_passes_107 : decode cX10_passes 107 = .ok (.iload_n 2, 1) := dk_28 (dk_at dksX10_passes_4 12 rfl rfl)
theorem dX10_passes_108 : decode cX10_passes 108 = .ok (.ireturn, 1) := dk_172 (dk_at dksX10_passes_4 13 rfl rfl)
abbrev cX10_keepsRows : ByteArray := prog_20_method_103_code
def yX10_keepsRows : MethodName := ⟨RX10, "keepsRows", "()V"⟩
def dkwX10_keepsRows_1 : List UInt8 := [167, 255, 234, 177]
abbrev dktX10_keepsRows_1 : List UInt8 := dkwX10_keepsRows_1 ++ []
def dkwX10_keepsRows_0 : List UInt8 := [3, 60, 27, 17, 1, 44, 162, 0, 21, 42, 180, 0, 54, 27, 42, 180, 0, 45, 27, 46, 79, 132, 1, 1]
abbrev dktX10_keepsRows_0 : List UInt8 := dkwX10_keepsRows_0 ++ dktX10_keepsRows_1
theorem dksX10_keepsRows_0 : cX10_keepsRows.data.toList.drop 0 = dktX10_keepsRows_0 := by decide +kernel
theorem dksX10_keepsRows_1 : cX10_keepsRows.data.toList.drop 24 = dktX10_keepsRows_1 := dk_seg dksX10_keepsRows_0 24 rfl rfl
theorem dX10_keepsRows_0 : decode cX10_keepsRows 0 = .ok (.iconst 0, 1) := dk_3 (dk_at dksX10_keepsRows_0 0 rfl rfl)
theorem dX10_keepsRows_1 : decode cX10_keepsRows 1 = .ok (.istore_n 1, 1) := dk_60 (dk_at dksX10_keepsRows_0 1 rfl rfl)
theorem dX10_keepsRows_2 : decode cX10_keepsRows 2 = .ok (.iload_n 1, 1) := dk_27 (dk_at dksX10_keepsRows_0 2 rfl rfl)
theorem dX10_keepsRows_3 : decode cX10_keepsRows 3 = .ok (.sipush 300, 3) := dk_17 1 44 (dk_at dksX10_keepsRows_0 3 rfl rfl)
theorem dX10_keepsRows_6 : decode cX10_keepsRows 6 = .ok (.if_icmp .ge 21, 3) := dk_162 0 21 (dk_at dksX10_keepsRows_0 6 rfl rfl)
theorem dX10_keepsRows_9 : decode cX10_keepsRows 9 = .ok (.aload_n 0, 1) := dk_42 (dk_at dksX10_keepsRows_0 9 rfl rfl)
theorem dX10_keepsRows_10 : decode cX10_keepsRows 10 = .ok (.getfield 54, 3) := dk_180 0 54 (dk_at dksX10_keepsRows_0 10 rfl rfl)
theorem dX10_keepsRows_13 : decode cX10_keepsRows 13 = .ok (.iload_n 1, 1) := dk_27 (dk_at dksX10_keepsRows_0 13 rfl rfl)
theorem dX10_keepsRows_14 : decode cX10_keepsRows 14 = .ok (.aload_n 0, 1) := dk_42 (dk_at dksX10_keepsRows_0 14 rfl rfl)
theorem dX10_keepsRows_15 : decode cX10_keepsRows 15 = .ok (.getfield 45, 3) := dk_180 0 45 (dk_at dksX10_keepsRows_0 15 rfl rfl)
theorem dX10_keepsRows_18 : decode cX10_keepsRows 18 = .ok (.iload_n 1, 1) := dk_27 (dk_at dksX10_keepsRows_0 18 rfl rfl)
theorem dX10_keepsRows_19 : decode cX10_keepsRows 19 = .ok (.iaload, 1) := dk_46 (dk_at dksX10_keepsRows_0 19 rfl rfl)
theorem dX10_keepsRows_20 : decode cX10_keepsRows 20 = .ok (.iastore, 1) := dk_79 (dk_at dksX10_keepsRows_0 20 rfl rfl)
theorem dX10_keepsRows_21 : decode cX10_keepsRows 21 = .ok (.iinc 1 1, 3) := dk_132 1 1 (dk_at dksX10_keepsRows_0 21 rfl rfl)
theorem dX10_keepsRows_24 : decode cX10_keepsRows 24 = .ok (.goto (-22), 3) := dk_167 255 234 (dk_at dksX10_keepsRows_1 0 rfl rfl)
theorem dX10_keepsRows_27 : decode cX10_keepsRows 27 = .ok (.return_, 1) := dk_177 (dk_at dksX10_keepsRows_1 3 rfl rfl)
abbrev cX10_isPassing : ByteArray := prog_20_method_105_code
def yX10_isPassing : MethodName := ⟨RX10, "isPassing", "(I)Z"⟩
def dkwX10_isPassing_3 : List UInt8 := [28, 46, 164, 0, 5, 4, 172, 132, 2, 1, 167, 255, 213, 3, 172]
abbrev dktX10_isPassing_3 : List UInt8 := dkwX10_isPassing_3 ++ []
def dkwX10_isPassing_2 : List UInt8 := [182, 1, 128, 153, 0, 28, 42, 28, 182, 1, 179, 153, 0, 20, 42, 180, 0, 54, 28, 46, 42, 180, 0, 45]
abbrev dktX10_isPassing_2 : List UInt8 := dkwX10_isPassing_2 ++ dktX10_isPassing_3
def dkwX10_isPassing_1 : List UInt8 := [180, 0, 45, 27, 46, 161, 0, 5, 3, 172, 27, 4, 96, 61, 28, 17, 1, 44, 162, 0, 42, 42, 28]
abbrev dktX10_isPassing_1 : List UInt8 := dkwX10_isPassing_1 ++ dktX10_isPassing_2
def dkwX10_isPassing_0 : List UInt8 := [42, 27, 182, 1, 128, 153, 0, 26, 42, 27, 182, 1, 179, 153, 0, 18, 42, 180, 0, 54, 27, 46, 42]
abbrev dktX10_isPassing_0 : List UInt8 := dkwX10_isPassing_0 ++ dktX10_isPassing_1
theorem dksX10_isPassing_0 : cX10_isPassing.data.toList.drop 0 = dktX10_isPassing_0 := by decide +kernel
theorem dksX10_isPassing_1 : cX10_isPassing.data.toList.drop 23 = dktX10_isPassing_1 := dk_seg dksX10_isPassing_0 23 rfl rfl
theorem dksX10_isPassing_2 : cX10_isPassing.data.toList.drop 46 = dktX10_isPassing_2 := dk_seg dksX10_isPassing_1 23 rfl rfl
theorem dksX10_isPassing_3 : cX10_isPassing.data.toList.drop 70 = dktX10_isPassing_3 := dk_seg dksX10_isPassing_2 24 rfl rfl
theorem dX10_isPassing_0 : decode cX10_isPassing 0 = .ok (.aload_n 0, 1) := dk_42 (dk_at dksX10_isPassing_0 0 rfl rfl)
theorem dX10_isPassing_1 : decode cX10_isPassing 1 = .ok (.iload_n 1, 1) := dk_27 (dk_at dksX10_isPassing_0 1 rfl rfl)
theorem dX10_isPassing_2 : decode cX10_isPassing 2 = .ok (.invokevirtual 384, 3) := dk_182 1 128 (dk_at dksX10_isPassing_0 2 rfl rfl)
theorem dX10_isPassing_5 : decode cX10_isPassing 5 = .ok (.ifCond .eq 26, 3) := dk_153 0 26 (dk_at dksX10_isPassing_0 5 rfl rfl)
theorem dX10_isPassing_8 : decode cX10_isPassing 8 = .ok (.aload_n 0, 1) := dk_42 (dk_at dksX10_isPassing_0 8 rfl rfl)
theorem dX10_isPassing_9 : decode cX10_isPassing 9 = .ok (.iload_n 1, 1) := dk_27 (dk_at dksX10_isPassing_0 9 rfl rfl)
theorem dX10_isPassing_10 : decode cX10_isPassing 10 = .ok (.invokevirtual 435, 3) := dk_182 1 179 (dk_at dksX10_isPassing_0 10 rfl rfl)
theorem dX10_isPassing_13 : decode cX10_isPassing 13 = .ok (.ifCond .eq 18, 3) := dk_153 0 18 (dk_at dksX10_isPassing_0 13 rfl rfl)
theorem dX10_isPassing_16 : decode cX10_isPassing 16 = .ok (.aload_n 0, 1) := dk_42 (dk_at dksX10_isPassing_0 16 rfl rfl)
theorem dX10_isPassing_17 : decode cX10_isPassing 17 = .ok (.getfield 54, 3) := dk_180 0 54 (dk_at dksX10_isPassing_0 17 rfl rfl)
theorem dX10_isPassing_20 : decode cX10_isPassing 20 = .ok (.iload_n 1, 1) := dk_27 (dk_at dksX10_isPassing_0 20 rfl rfl)
theorem dX10_isPassing_21 : decode cX10_isPassing 21 = .ok (.iaload, 1) := dk_46 (dk_at dksX10_isPassing_0 21 rfl rfl)
theorem dX10_isPassing_22 : decode cX10_isPassing 22 = .ok (.aload_n 0, 1) := dk_42 (dk_at dksX10_isPassing_0 22 rfl rfl)
theorem dX10_isPassing_23 : decode cX10_isPassing 23 = .ok (.getfield 45, 3) := dk_180 0 45 (dk_at dksX10_isPassing_1 0 rfl rfl)
theorem dX10_isPassing_26 : decode cX10_isPassing 26 = .ok (.iload_n 1, 1) := dk_27 (dk_at dksX10_isPassing_1 3 rfl rfl)
theorem dX10_isPassing_27 : decode cX10_isPassing 27 = .ok (.iaload, 1) := dk_46 (dk_at dksX10_isPassing_1 4 rfl rfl)
theorem dX10_isPassing_28 : decode cX10_isPassing 28 = .ok (.if_icmp .lt 5, 3) := dk_161 0 5 (dk_at dksX10_isPassing_1 5 rfl rfl)
theorem dX10_isPassing_31 : decode cX10_isPassing 31 = .ok (.iconst 0, 1) := dk_3 (dk_at dksX10_isPassing_1 8 rfl rfl)
theorem dX10_isPassing_32 : decode cX10_isPassing 32 = .ok (.ireturn, 1) := dk_172 (dk_at dksX10_isPassing_1 9 rfl rfl)
theorem dX10_isPassing_33 : decode cX10_isPassing 33 = .ok (.iload_n 1, 1) := dk_27 (dk_at dksX10_isPassing_1 10 rfl rfl)
theorem dX10_isPassing_34 : decode cX10_isPassing 34 = .ok (.iconst 1, 1) := dk_4 (dk_at dksX10_isPassing_1 11 rfl rfl)
theorem dX10_isPassing_35 : decode cX10_isPassing 35 = .ok (.iadd, 1) := dk_96 (dk_at dksX10_isPassing_1 12 rfl rfl)
theorem dX10_isPassing_36 : decode cX10_isPassing 36 = .ok (.istore_n 2, 1) := dk_61 (dk_at dksX10_isPassing_1 13 rfl rfl)
theorem dX10_isPassing_37 : decode cX10_isPassing 37 = .ok (.iload_n 2, 1) := dk_28 (dk_at dksX10_isPassing_1 14 rfl rfl)
theorem dX10_isPassing_38 : decode cX10_isPassing 38 = .ok (.sipush 300, 3) := dk_17 1 44 (dk_at dksX10_isPassing_1 15 rfl rfl)
theorem dX10_isPassing_41 : decode cX10_isPassing 41 = .ok (.if_icmp .ge 42, 3) := dk_162 0 42 (dk_at dksX10_isPassing_1 18 rfl rfl)
theorem dX10_isPassing_44 : decode cX10_isPassing 44 = .ok (.aload_n 0, 1) := dk_42 (dk_at dksX10_isPassing_1 21 rfl rfl)
theorem dX10_isPassing_45 : decode cX10_isPassing 45 = .ok (.iload_n 2, 1) := dk_28 (dk_at dksX10_isPassing_1 22 rfl rfl)
theorem dX10_isPassing_46 : decode cX10_isPassing 46 = .ok (.invokevirtual 384, 3) := dk_182 1 128 (dk_at dksX10_isPassing_2 0 rfl rfl)
theorem dX10_isPassing_49 : decode cX10_isPassing 49 = .ok (.ifCond .eq 28, 3) := dk_153 0 28 (dk_at dksX10_isPassing_2 3 rfl rfl)
theorem dX10_isPassing_52 : decode cX10_isPassing 52 = .ok (.aload_n 0, 1) := dk_42 (dk_at dksX10_isPassing_2 6 rfl rfl)
theorem dX10_isPassing_53 : decode cX10_isPassing 53 = .ok (.iload_n 2, 1) := dk_28 (dk_at dksX10_isPassing_2 7 rfl rfl)
theorem dX10_isPassing_54 : decode cX10_isPassing 54 = .ok (.invokevirtual 435, 3) := dk_182 1 179 (dk_at dksX10_isPassing_2 8 rfl rfl)
theorem dX10_isPassing_57 : decode cX10_isPassing 57 = .ok (.ifCond .eq 20, 3) := dk_153 0 20 (dk_at dksX10_isPassing_2 11 rfl rfl)
theorem dX10_isPassing_60 : decode cX10_isPassing 60 = .ok (.aload_n 0, 1) := dk_42 (dk_at dksX10_isPassing_2 14 rfl rfl)
theorem dX10_isPassing_61 : decode cX10_isPassing 61 = .ok (.getfield 54, 3) := dk_180 0 54 (dk_at dksX10_isPassing_2 15 rfl rfl)
theorem dX10_isPassing_64 : decode cX10_isPassing 64 = .ok (.iload_n 2, 1) := dk_28 (dk_at dksX10_isPassing_2 18 rfl rfl)
theorem dX10_isPassing_65 : decode cX10_isPassing 65 = .ok (.iaload, 1) := dk_46 (dk_at dksX10_isPassing_2 19 rfl rfl)
theorem dX10_isPassing_66 : decode cX10_isPassing 66 = .ok (.aload_n 0, 1) := dk_42 (dk_at dksX10_isPassing_2 20 rfl rfl)
theorem dX10_isPassing_67 : decode cX10_isPassing 67 = .ok (.getfield 45, 3) := dk_180 0 45 (dk_at dksX10_isPassing_2 21 rfl rfl)
theorem dX10_isPassing_70 : decode cX10_isPassing 70 = .ok (.iload_n 2, 1) := dk_28 (dk_at dksX10_isPassing_3 0 rfl rfl)
theorem dX10_isPassing_71 : decode cX10_isPassing 71 = .ok (.iaload, 1) := dk_46 (dk_at dksX10_isPassing_3 1 rfl rfl)
theorem dX10_isPassing_72 : decode cX10_isPassing 72 = .ok (.if_icmp .le 5, 3) := dk_164 0 5 (dk_at dksX10_isPassing_3 2 rfl rfl)
theorem dX10_isPassing_75 : decode cX10_isPassing 75 = .ok (.iconst 1, 1) := dk_4 (dk_at dksX10_isPassing_3 5 rfl rfl)
theorem dX10_isPassing_76 : decode cX10_isPassing 76 = .ok (.ireturn, 1) := dk_172 (dk_at dksX10_isPassing_3 6 rfl rfl)
theorem dX10_isPassing_77 : decode cX10_isPassing 77 = .ok (.iinc 2 1, 3) := dk_132 2 1 (dk_at dksX10_isPassing_3 7 rfl rfl)
theorem dX10_isPassing_80 : decode cX10_isPassing 80 = .ok (.goto (-43), 3) := dk_167 255 213 (dk_at dksX10_isPassing_3 10 rfl rfl)
theorem dX10_isPassing_83 : decode cX10_isPassing 83 = .ok (.iconst 0, 1) := dk_3 (dk_at dksX10_isPassing_3 13 rfl rfl)
theorem dX10_isPassing_84 : decode cX10_isPassing 84 = .ok (.ireturn, 1) := dk_172 (dk_at dksX10_isPassing_3 14 rfl rfl)
abbrev cX10_isOtherInIce : ByteArray := prog_20_method_104_code
def yX10_isOtherInIce : MethodName := ⟨RX10, "isOtherInIce", "(I)Z"⟩
def dkwX10_isOtherInIce_1 : List UInt8 := [167, 0, 4, 3, 172]
abbrev dktX10_isOtherInIce_1 : List UInt8 := dkwX10_isOtherInIce_1 ++ []
def dkwX10_isOtherInIce_0 : List UInt8 := [42, 180, 0, 54, 27, 46, 155, 0, 20, 42, 180, 0, 54, 27, 46, 42, 182, 0, 94, 162, 0, 7, 4]
abbrev dktX10_isOtherInIce_0 : List UInt8 := dkwX10_isOtherInIce_0 ++ dktX10_isOtherInIce_1
theorem dksX10_isOtherInIce_0 : cX10_isOtherInIce.data.toList.drop 0 = dktX10_isOtherInIce_0 := by decide +kernel
theorem dksX10_isOtherInIce_1 : cX10_isOtherInIce.data.toList.drop 23 = dktX10_isOtherInIce_1 := dk_seg dksX10_isOtherInIce_0 23 rfl rfl
theorem dX10_isOtherInIce_0 : decode cX10_isOtherInIce 0 = .ok (.aload_n 0, 1) := dk_42 (dk_at dksX10_isOtherInIce_0 0 rfl rfl)
theorem dX10_isOtherInIce_1 : decode cX10_isOtherInIce 1 = .ok (.getfield 54, 3) := dk_180 0 54 (dk_at dksX10_isOtherInIce_0 1 rfl rfl)
theorem dX10_isOtherInIce_4 : decode cX10_isOtherInIce 4 = .ok (.iload_n 1, 1) := dk_27 (dk_at dksX10_isOtherInIce_0 4 rfl rfl)
theorem dX10_isOtherInIce_5 : decode cX10_isOtherInIce 5 = .ok (.iaload, 1) := dk_46 (dk_at dksX10_isOtherInIce_0 5 rfl rfl)
theorem dX10_isOtherInIce_6 : decode cX10_isOtherInIce 6 = .ok (.ifCond .lt 20, 3) := dk_155 0 20 (dk_at dksX10_isOtherInIce_0 6 rfl rfl)
theorem dX10_isOtherInIce_9 : decode cX10_isOtherInIce 9 = .ok (.aload_n 0, 1) := dk_42 (dk_at dksX10_isOtherInIce_0 9 rfl rfl)
theorem dX10_isOtherInIce_10 : decode cX10_isOtherInIce 10 = .ok (.getfield 54, 3) := dk_180 0 54 (dk_at dksX10_isOtherInIce_0 10 rfl rfl)
theorem dX10_isOtherInIce_13 : decode cX10_isOtherInIce 13 = .ok (.iload_n 1, 1) := dk_27 (dk_at dksX10_isOtherInIce_0 13 rfl rfl)
theorem dX10_isOtherInIce_14 : decode cX10_isOtherInIce 14 = .ok (.iaload, 1) := dk_46 (dk_at dksX10_isOtherInIce_0 14 rfl rfl)
theorem dX10_isOtherInIce_15 : decode cX10_isOtherInIce 15 = .ok (.aload_n 0, 1) := dk_42 (dk_at dksX10_isOtherInIce_0 15 rfl rfl)
theorem dX10_isOtherInIce_16 : decode cX10_isOtherInIce 16 = .ok (.invokevirtual 94, 3) := dk_182 0 94 (dk_at dksX10_isOtherInIce_0 16 rfl rfl)
theorem dX10_isOtherInIce_19 : decode cX10_isOtherInIce 19 = .ok (.if_icmp .ge 7, 3) := dk_162 0 7 (dk_at dksX10_isOtherInIce_0 19 rfl rfl)
theorem dX10_isOtherInIce_22 : decode cX10_isOtherInIce 22 = .ok (.iconst 1, 1) := dk_4 (dk_at dksX10_isOtherInIce_0 22 rfl rfl)
theorem dX10_isOtherInIce_23 : decode cX10_isOtherInIce 23 = .ok (.goto 4, 3) := dk_167 0 4 (dk_at dksX10_isOtherInIce_1 0 rfl rfl)
theorem dX10_isOtherInIce_26 : decode cX10_isOtherInIce 26 = .ok (.iconst 0, 1) := dk_3 (dk_at dksX10_isOtherInIce_1 3 rfl rfl)
theorem dX10_isOtherInIce_27 : decode cX10_isOtherInIce 27 = .ok (.ireturn, 1) := dk_172 (dk_at dksX10_isOtherInIce_1 4 rfl rfl)
abbrev cX10_writers : ByteArray := prog_20_method_108_code
def yX10_writers : MethodName := ⟨RX10, "writers", "(III)I"⟩
def dkwX10_writers_4 : List UInt8 := [132, 5, 1, 167, 255, 219, 21, 4, 172]
abbrev dktX10_writers_4 : List UInt8 := dkwX10_writers_4 ++ []
def dkwX10_writers_3 : List UInt8 := [21, 5, 27, 28, 29, 182, 1, 188, 155, 0, 10, 4, 21, 5, 120, 167, 0, 4, 3, 128, 54, 4]
abbrev dktX10_writers_3 : List UInt8 := dkwX10_writers_3 ++ dktX10_writers_4
def dkwX10_writers_2 : List UInt8 := [153, 0, 5, 3, 172, 3, 54, 4, 3, 54, 5, 21, 5, 42, 182, 0, 97, 162, 0, 34, 21, 4, 42]
abbrev dktX10_writers_2 : List UInt8 := dkwX10_writers_2 ++ dktX10_writers_3
def dkwX10_writers_1 : List UInt8 := [154, 0, 13, 29, 3, 16, 99, 184, 0, 90, 154, 0, 7, 4, 167, 0, 4, 3, 5, 182, 1, 44]
abbrev dktX10_writers_1 : List UInt8 := dkwX10_writers_1 ++ dktX10_writers_2
def dkwX10_writers_0 : List UInt8 := [42, 3, 181, 0, 3, 42, 42, 27, 182, 1, 100, 4, 182, 1, 44, 154, 0, 33, 42, 28, 184, 1, 97]
abbrev dktX10_writers_0 : List UInt8 := dkwX10_writers_0 ++ dktX10_writers_1
theorem dksX10_writers_0 : cX10_writers.data.toList.drop 0 = dktX10_writers_0 := by decide +kernel
theorem dksX10_writers_1 : cX10_writers.data.toList.drop 23 = dktX10_writers_1 := dk_seg dksX10_writers_0 23 rfl rfl
theorem dksX10_writers_2 : cX10_writers.data.toList.drop 45 = dktX10_writers_2 := dk_seg dksX10_writers_1 22 rfl rfl
theorem dksX10_writers_3 : cX10_writers.data.toList.drop 68 = dktX10_writers_3 := dk_seg dksX10_writers_2 23 rfl rfl
theorem dksX10_writers_4 : cX10_writers.data.toList.drop 90 = dktX10_writers_4 := dk_seg dksX10_writers_3 22 rfl rfl
theorem dX10_writers_0 : decode cX10_writers 0 = .ok (.aload_n 0, 1) := dk_42 (dk_at dksX10_writers_0 0 rfl rfl)
theorem dX10_writers_1 : decode cX10_writers 1 = .ok (.iconst 0, 1) := dk_3 (dk_at dksX10_writers_0 1 rfl rfl)
theorem dX10_writers_2 : decode cX10_writers 2 = .ok (.putfield 3, 3) := dk_181 0 3 (dk_at dksX10_writers_0 2 rfl rfl)
theorem dX10_writers_5 : decode cX10_writers 5 = .ok (.aload_n 0, 1) := dk_42 (dk_at dksX10_writers_0 5 rfl rfl)
theorem dX10_writers_6 : decode cX10_writers 6 = .ok (.aload_n 0, 1) := dk_42 (dk_at dksX10_writers_0 6 rfl rfl)
theorem dX10_writers_7 : decode cX10_writers 7 = .ok (.iload_n 1, 1) := dk_27 (dk_at dksX10_writers_0 7 rfl rfl)
theorem dX10_writers_8 : decode cX10_writers 8 = .ok (.invokevirtual 356, 3) := dk_182 1 100 (dk_at dksX10_writers_0 8 rfl rfl)
theorem dX10_writers_11 : decode cX10_writers 11 = .ok (.iconst 1, 1) := dk_4 (dk_at dksX10_writers_0 11 rfl rfl)
theorem dX10_writers_12 : decode cX10_writers 12 = .ok (.invokevirtual 300, 3) := dk_182 1 44 (dk_at dksX10_writers_0 12 rfl rfl)
theorem dX10_writers_15 : decode cX10_writers 15 = .ok (.ifCond .ne 33, 3) := dk_154 0 33 (dk_at dksX10_writers_0 15 rfl rfl)
theorem dX10_writers_18 : decode cX10_writers 18 = .ok (.aload_n 0, 1) := dk_42 (dk_at dksX10_writers_0 18 rfl rfl)
theorem dX10_writers_19 : decode cX10_writers 19 = .ok (.iload_n 2, 1) := dk_28 (dk_at dksX10_writers_0 19 rfl rfl)
theorem dX10_writers_20 : decode cX10_writers 20 = .ok (.invokestatic 353, 3) := dk_184 1 97 (dk_at dksX10_writers_0 20 rfl rfl)
theorem dX10_writers_23 : decode cX10_writers 23 = .ok (.ifCond .ne 13, 3) := dk_154 0 13 (dk_at dksX10_writers_1 0 rfl rfl)
theorem dX10_writers_26 : decode cX10_writers 26 = .ok (.iload_n 3, 1) := dk_29 (dk_at dksX10_writers_1 3 rfl rfl)
theorem dX10_writers_27 : decode cX10_writers 27 = .ok (.iconst 0, 1) := dk_3 (dk_at dksX10_writers_1 4 rfl rfl)
theorem dX10_writers_28 : decode cX10_writers 28 = .ok (.bipush 99, 2) := dk_16 99 (dk_at dksX10_writers_1 5 rfl rfl)
theorem dX10_writers_30 : decode cX10_writers 30 = .ok (.invokestatic 90, 3) := dk_184 0 90 (dk_at dksX10_writers_1 7 rfl rfl)
theorem dX10_writers_33 : decode cX10_writers 33 = .ok (.ifCond .ne 7, 3) := dk_154 0 7 (dk_at dksX10_writers_1 10 rfl rfl)
theorem dX10_writers_36 : decode cX10_writers 36 = .ok (.iconst 1, 1) := dk_4 (dk_at dksX10_writers_1 13 rfl rfl)
theorem dX10_writers_37 : decode cX10_writers 37 = .ok (.goto 4, 3) := dk_167 0 4 (dk_at dksX10_writers_1 14 rfl rfl)
theorem dX10_writers_40 : decode cX10_writers 40 = .ok (.iconst 0, 1) := dk_3 (dk_at dksX10_writers_1 17 rfl rfl)
theorem dX10_writers_41 : decode cX10_writers 41 = .ok (.iconst 2, 1) := dk_5 (dk_at dksX10_writers_1 18 rfl rfl)
theorem dX10_writers_42 : decode cX10_writers 42 = .ok (.invokevirtual 300, 3) := dk_182 1 44 (dk_at dksX10_writers_1 19 rfl rfl)
theorem dX10_writers_45 : decode cX10_writers 45 = .ok (.ifCond .eq 5, 3) := dk_153 0 5 (dk_at dksX10_writers_2 0 rfl rfl)
theorem dX10_writers_48 : decode cX10_writers 48 = .ok (.iconst 0, 1) := dk_3 (dk_at dksX10_writers_2 3 rfl rfl)
theorem dX10_writers_49 : decode cX10_writers 49 = .ok (.ireturn, 1) := dk_172 (dk_at dksX10_writers_2 4 rfl rfl)
theorem dX10_writers_50 : decode cX10_writers 50 = .ok (.iconst 0, 1) := dk_3 (dk_at dksX10_writers_2 5 rfl rfl)
theorem dX10_writers_51 : decode cX10_writers 51 = .ok (.istore 4, 2) := dk_54 4 (dk_at dksX10_writers_2 6 rfl rfl)
theorem dX10_writers_53 : decode cX10_writers 53 = .ok (.iconst 0, 1) := dk_3 (dk_at dksX10_writers_2 8 rfl rfl)
theorem dX10_writers_54 : decode cX10_writers 54 = .ok (.istore 5, 2) := dk_54 5 (dk_at dksX10_writers_2 9 rfl rfl)
theorem dX10_writers_56 : decode cX10_writers 56 = .ok (.iload 5, 2) := dk_21 5 (dk_at dksX10_writers_2 11 rfl rfl)
theorem dX10_writers_58 : decode cX10_writers 58 = .ok (.aload_n 0, 1) := dk_42 (dk_at dksX10_writers_2 13 rfl rfl)
theorem dX10_writers_59 : decode cX10_writers 59 = .ok (.invokevirtual 97, 3) := dk_182 0 97 (dk_at dksX10_writers_2 14 rfl rfl)
theorem dX10_writers_62 : decode cX10_writers 62 = .ok (.if_icmp .ge 34, 3) := dk_162 0 34 (dk_at dksX10_writers_2 17 rfl rfl)
theorem dX10_writers_65 : decode cX10_writers 65 = .ok (.iload 4, 2) := dk_21 4 (dk_at dksX10_writers_2 20 rfl rfl)
theorem dX10_writers_67 : decode cX10_writers 67 = .ok (.aload_n 0, 1) := dk_42 (dk_at dksX10_writers_2 22 rfl rfl)
theorem dX10_writers_68 : decode cX10_writers 68 = .ok (.iload 5, 2) := dk_21 5 (dk_at dksX10_writers_3 0 rfl rfl)
theorem dX10_writers_70 : decode cX10_writers 70 = .ok (.iload_n 1, 1) := dk_27 (dk_at dksX10_writers_3 2 rfl rfl)
theorem dX10_writers_71 : decode cX10_writers 71 = .ok (.iload_n 2, 1) := dk_28 (dk_at dksX10_writers_3 3 rfl rfl)
theorem dX10_writers_72 : decode cX10_writers 72 = .ok (.iload_n 3, 1) := dk_29 (dk_at dksX10_writers_3 4 rfl rfl)
theorem dX10_writers_73 : decode cX10_writers 73 = .ok (.invokevirtual 444, 3) := dk_182 1 188 (dk_at dksX10_writers_3 5 rfl rfl)
theorem dX10_writers_76 : decode cX10_writers 76 = .ok (.ifCond .lt 10, 3) := dk_155 0 10 (dk_at dksX10_writers_3 8 rfl rfl)
theorem dX10_writers_79 : decode cX10_writers 79 = .ok (.iconst 1, 1) := dk_4 (dk_at dksX10_writers_3 11 rfl rfl)
theorem dX10_writers_80 : decode cX10_writers 80 = .ok (.iload 5, 2) := dk_21 5 (dk_at dksX10_writers_3 12 rfl rfl)
theorem dX10_writers_82 : decode cX10_writers 82 = .ok (.ishl, 1) := dk_120 (dk_at dksX10_writers_3 14 rfl rfl)
theorem dX10_writers_83 : decode cX10_writers 83 = .ok (.goto 4, 3) := dk_167 0 4 (dk_at dksX10_writers_3 15 rfl rfl)
theorem dX10_writers_86 : decode cX10_writers 86 = .ok (.iconst 0, 1) := dk_3 (dk_at dksX10_writers_3 18 rfl rfl)
theorem dX10_writers_87 : decode cX10_writers 87 = .ok (.ior, 1) := dk_128 (dk_at dksX10_writers_3 19 rfl rfl)
theorem dX10_writers_88 : decode cX10_writers 88 = .ok (.istore 4, 2) := dk_54 4 (dk_at dksX10_writers_3 20 rfl rfl)
theorem dX10_writers_90 : decode cX10_writers 90 = .ok (.iinc 5 1, 3) := dk_132 5 1 (dk_at dksX10_writers_4 0 rfl rfl)
theorem dX10_writers_93 : decode cX10_writers 93 = .ok (.goto (-37), 3) := dk_167 255 219 (dk_at dksX10_writers_4 3 rfl rfl)
theorem dX10_writers_96 : decode cX10_writers 96 = .ok (.iload 4, 2) := dk_21 4 (dk_at dksX10_writers_4 6 rfl rfl)
theorem dX10_writers_98 : decode cX10_writers 98 = .ok (.ireturn, 1) := dk_172 (dk_at dksX10_writers_4 8 rfl rfl)
abbrev cX10_wroteIn : ByteArray := prog_20_method_107_code
def yX10_wroteIn : MethodName := ⟨RX10, "wroteIn", "(IIII)I"⟩
def dkwX10_wroteIn_2 : List UInt8 := [21, 5, 172, 132, 5, 255, 167, 255, 207, 2, 172]
abbrev dktX10_wroteIn_2 : List UInt8 := dkwX10_wroteIn_2 ++ []
def dkwX10_wroteIn_1 : List UInt8 := [4, 182, 1, 140, 21, 5, 182, 1, 169, 29, 160, 0, 17, 42, 180, 0, 48, 29, 46, 21, 4, 160, 0, 6]
abbrev dktX10_wroteIn_1 : List UInt8 := dkwX10_wroteIn_1 ++ dktX10_wroteIn_2
def dkwX10_wroteIn_0 : List UInt8 := [29, 4, 100, 54, 5, 21, 5, 155, 0, 50, 42, 27, 3, 182, 1, 140, 28, 160, 0, 40, 42, 28, 42, 27]
abbrev dktX10_wroteIn_0 : List UInt8 := dkwX10_wroteIn_0 ++ dktX10_wroteIn_1
theorem dksX10_wroteIn_0 : cX10_wroteIn.data.toList.drop 0 = dktX10_wroteIn_0 := by decide +kernel
theorem dksX10_wroteIn_1 : cX10_wroteIn.data.toList.drop 24 = dktX10_wroteIn_1 := dk_seg dksX10_wroteIn_0 24 rfl rfl
theorem dksX10_wroteIn_2 : cX10_wroteIn.data.toList.drop 48 = dktX10_wroteIn_2 := dk_seg dksX10_wroteIn_1 24 rfl rfl
theorem dX10_wroteIn_0 : decode cX10_wroteIn 0 = .ok (.iload_n 3, 1) := dk_29 (dk_at dksX10_wroteIn_0 0 rfl rfl)
theorem dX10_wroteIn_1 : decode cX10_wroteIn 1 = .ok (.iconst 1, 1) := dk_4 (dk_at dksX10_wroteIn_0 1 rfl rfl)
theorem dX10_wroteIn_2 : decode cX10_wroteIn 2 = .ok (.isub, 1) := dk_100 (dk_at dksX10_wroteIn_0 2 rfl rfl)
theorem dX10_wroteIn_3 : decode cX10_wroteIn 3 = .ok (.istore 5, 2) := dk_54 5 (dk_at dksX10_wroteIn_0 3 rfl rfl)
theorem dX10_wroteIn_5 : decode cX10_wroteIn 5 = .ok (.iload 5, 2) := dk_21 5 (dk_at dksX10_wroteIn_0 5 rfl rfl)
theorem dX10_wroteIn_7 : decode cX10_wroteIn 7 = .ok (.ifCond .lt 50, 3) := dk_155 0 50 (dk_at dksX10_wroteIn_0 7 rfl rfl)
theorem dX10_wroteIn_10 : decode cX10_wroteIn 10 = .ok (.aload_n 0, 1) := dk_42 (dk_at dksX10_wroteIn_0 10 rfl rfl)
theorem dX10_wroteIn_11 : decode cX10_wroteIn 11 = .ok (.iload_n 1, 1) := dk_27 (dk_at dksX10_wroteIn_0 11 rfl rfl)
theorem dX10_wroteIn_12 : decode cX10_wroteIn 12 = .ok (.iconst 0, 1) := dk_3 (dk_at dksX10_wroteIn_0 12 rfl rfl)
theorem dX10_wroteIn_13 : decode cX10_wroteIn 13 = .ok (.invokevirtual 396, 3) := dk_182 1 140 (dk_at dksX10_wroteIn_0 13 rfl rfl)
theorem dX10_wroteIn_16 : decode cX10_wroteIn 16 = .ok (.iload_n 2, 1) := dk_28 (dk_at dksX10_wroteIn_0 16 rfl rfl)
theorem dX10_wroteIn_17 : decode cX10_wroteIn 17 = .ok (.if_icmp .ne 40, 3) := dk_160 0 40 (dk_at dksX10_wroteIn_0 17 rfl rfl)
theorem dX10_wroteIn_20 : decode cX10_wroteIn 20 = .ok (.aload_n 0, 1) := dk_42 (dk_at dksX10_wroteIn_0 20 rfl rfl)
theorem dX10_wroteIn_21 : decode cX10_wroteIn 21 = .ok (.iload_n 2, 1) := dk_28 (dk_at dksX10_wroteIn_0 21 rfl rfl)
theorem dX10_wroteIn_22 : decode cX10_wroteIn 22 = .ok (.aload_n 0, 1) := dk_42 (dk_at dksX10_wroteIn_0 22 rfl rfl)
theorem dX10_wroteIn_23 : decode cX10_wroteIn 23 = .ok (.iload_n 1, 1) := dk_27 (dk_at dksX10_wroteIn_0 23 rfl rfl)
theorem dX10_wroteIn_24 : decode cX10_wroteIn 24 = .ok (.iconst 1, 1) := dk_4 (dk_at dksX10_wroteIn_1 0 rfl rfl)
theorem dX10_wroteIn_25 : decode cX10_wroteIn 25 = .ok (.invokevirtual 396, 3) := dk_182 1 140 (dk_at dksX10_wroteIn_1 1 rfl rfl)
theorem dX10_wroteIn_28 : decode cX10_wroteIn 28 = .ok (.iload 5, 2) := dk_21 5 (dk_at dksX10_wroteIn_1 4 rfl rfl)
theorem dX10_wroteIn_30 : decode cX10_wroteIn 30 = .ok (.invokevirtual 425, 3) := dk_182 1 169 (dk_at dksX10_wroteIn_1 6 rfl rfl)
theorem dX10_wroteIn_33 : decode cX10_wroteIn 33 = .ok (.iload_n 3, 1) := dk_29 (dk_at dksX10_wroteIn_1 9 rfl rfl)
theorem dX10_wroteIn_34 : decode cX10_wroteIn 34 = .ok (.if_icmp .ne 17, 3) := dk_160 0 17 (dk_at dksX10_wroteIn_1 10 rfl rfl)
theorem dX10_wroteIn_37 : decode cX10_wroteIn 37 = .ok (.aload_n 0, 1) := dk_42 (dk_at dksX10_wroteIn_1 13 rfl rfl)
theorem dX10_wroteIn_38 : decode cX10_wroteIn 38 = .ok (.getfield 48, 3) := dk_180 0 48 (dk_at dksX10_wroteIn_1 14 rfl rfl)
theorem dX10_wroteIn_41 : decode cX10_wroteIn 41 = .ok (.iload_n 3, 1) := dk_29 (dk_at dksX10_wroteIn_1 17 rfl rfl)
theorem dX10_wroteIn_42 : decode cX10_wroteIn 42 = .ok (.iaload, 1) := dk_46 (dk_at dksX10_wroteIn_1 18 rfl rfl)
theorem dX10_wroteIn_43 : decode cX10_wroteIn 43 = .ok (.iload 4, 2) := dk_21 4 (dk_at dksX10_wroteIn_1 19 rfl rfl)
theorem dX10_wroteIn_45 : decode cX10_wroteIn 45 = .ok (.if_icmp .ne 6, 3) := dk_160 0 6 (dk_at dksX10_wroteIn_1 21 rfl rfl)
theorem dX10_wroteIn_48 : decode cX10_wroteIn 48 = .ok (.iload 5, 2) := dk_21 5 (dk_at dksX10_wroteIn_2 0 rfl rfl)
theorem dX10_wroteIn_50 : decode cX10_wroteIn 50 = .ok (.ireturn, 1) := dk_172 (dk_at dksX10_wroteIn_2 2 rfl rfl)
theorem dX10_wroteIn_51 : decode cX10_wroteIn 51 = .ok (.iinc 5 (-1), 3) := dk_132 5 255 (dk_at dksX10_wroteIn_2 3 rfl rfl)
theorem dX10_wroteIn_54 : decode cX10_wroteIn 54 = .ok (.goto (-49), 3) := dk_167 255 207 (dk_at dksX10_wroteIn_2 6 rfl rfl)
theorem dX10_wroteIn_57 : decode cX10_wroteIn 57 = .ok (.iconst (-1), 1) := dk_2 (dk_at dksX10_wroteIn_2 9 rfl rfl)
theorem dX10_wroteIn_58 : decode cX10_wroteIn 58 = .ok (.ireturn, 1) := dk_172 (dk_at dksX10_wroteIn_2 10 rfl rfl)
abbrev cX10_wrote : ByteArray := prog_20_method_109_code
def yX10_wrote : MethodName := ⟨RX10, "wrote", "(IIII)I"⟩
def dkwX10_wrote_3 : List UInt8 := [21, 4, 182, 1, 188, 172]
abbrev dktX10_wrote_3 : List UInt8 := dkwX10_wrote_3 ++ []
def dkwX10_wrote_2 : List UInt8 := [184, 0, 90, 154, 0, 7, 4, 167, 0, 4, 3, 5, 182, 1, 44, 153, 0, 5, 3, 172, 42, 27, 28, 29]
abbrev dktX10_wrote_2 : List UInt8 := dkwX10_wrote_2 ++ dktX10_wrote_3
def dkwX10_wrote_1 : List UInt8 := [167, 0, 4, 3, 4, 182, 1, 44, 154, 0, 34, 42, 29, 184, 1, 97, 154, 0, 14, 21, 4, 3, 16, 99]
abbrev dktX10_wrote_1 : List UInt8 := dkwX10_wrote_1 ++ dktX10_wrote_2
def dkwX10_wrote_0 : List UInt8 := [42, 3, 181, 0, 3, 42, 42, 27, 182, 1, 137, 154, 0, 11, 42, 28, 182, 1, 100, 153, 0, 7, 4]
abbrev dktX10_wrote_0 : List UInt8 := dkwX10_wrote_0 ++ dktX10_wrote_1
theorem dksX10_wrote_0 : cX10_wrote.data.toList.drop 0 = dktX10_wrote_0 := by decide +kernel
theorem dksX10_wrote_1 : cX10_wrote.data.toList.drop 23 = dktX10_wrote_1 := dk_seg dksX10_wrote_0 23 rfl rfl
theorem dksX10_wrote_2 : cX10_wrote.data.toList.drop 47 = dktX10_wrote_2 := dk_seg dksX10_wrote_1 24 rfl rfl
theorem dksX10_wrote_3 : cX10_wrote.data.toList.drop 71 = dktX10_wrote_3 := dk_seg dksX10_wrote_2 24 rfl rfl
theorem dX10_wrote_0 : decode cX10_wrote 0 = .ok (.aload_n 0, 1) := dk_42 (dk_at dksX10_wrote_0 0 rfl rfl)
theorem dX10_wrote_1 : decode cX10_wrote 1 = .ok (.iconst 0, 1) := dk_3 (dk_at dksX10_wrote_0 1 rfl rfl)
theorem dX10_wrote_2 : decode cX10_wrote 2 = .ok (.putfield 3, 3) := dk_181 0 3 (dk_at dksX10_wrote_0 2 rfl rfl)
theorem dX10_wrote_5 : decode cX10_wrote 5 = .ok (.aload_n 0, 1) := dk_42 (dk_at dksX10_wrote_0 5 rfl rfl)
theorem dX10_wrote_6 : decode cX10_wrote 6 = .ok (.aload_n 0, 1) := dk_42 (dk_at dksX10_wrote_0 6 rfl rfl)
theorem dX10_wrote_7 : decode cX10_wrote 7 = .ok (.iload_n 1, 1) := dk_27 (dk_at dksX10_wrote_0 7 rfl rfl)
theorem dX10_wrote_8 : decode cX10_wrote 8 = .ok (.invokevirtual 393, 3) := dk_182 1 137 (dk_at dksX10_wrote_0 8 rfl rfl)
theorem dX10_wrote_11 : decode cX10_wrote 11 = .ok (.ifCond .ne 11, 3) := dk_154 0 11 (dk_at dksX10_wrote_0 11 rfl rfl)
theorem dX10_wrote_14 : decode cX10_wrote 14 = .ok (.aload_n 0, 1) := dk_42 (dk_at dksX10_wrote_0 14 rfl rfl)
theorem dX10_wrote_15 : decode cX10_wrote 15 = .ok (.iload_n 2, 1) := dk_28 (dk_at dksX10_wrote_0 15 rfl rfl)
theorem dX10_wrote_16 : decode cX10_wrote 16 = .ok (.invokevirtual 356, 3) := dk_182 1 100 (dk_at dksX10_wrote_0 16 rfl rfl)
theorem dX10_wrote_19 : decode cX10_wrote 19 = .ok (.ifCond .eq 7, 3) := dk_153 0 7 (dk_at dksX10_wrote_0 19 rfl rfl)
theorem dX10_wrote_22 : decode cX10_wrote 22 = .ok (.iconst 1, 1) := dk_4 (dk_at dksX10_wrote_0 22 rfl rfl)
theorem dX10_wrote_23 : decode cX10_wrote 23 = .ok (.goto 4, 3) := dk_167 0 4 (dk_at dksX10_wrote_1 0 rfl rfl)
theorem dX10_wrote_26 : decode cX10_wrote 26 = .ok (.iconst 0, 1) := dk_3 (dk_at dksX10_wrote_1 3 rfl rfl)
theorem dX10_wrote_27 : decode cX10_wrote 27 = .ok (.iconst 1, 1) := dk_4 (dk_at dksX10_wrote_1 4 rfl rfl)
theorem dX10_wrote_28 : decode cX10_wrote 28 = .ok (.invokevirtual 300, 3) := dk_182 1 44 (dk_at dksX10_wrote_1 5 rfl rfl)
theorem dX10_wrote_31 : decode cX10_wrote 31 = .ok (.ifCond .ne 34, 3) := dk_154 0 34 (dk_at dksX10_wrote_1 8 rfl rfl)
theorem dX10_wrote_34 : decode cX10_wrote 34 = .ok (.aload_n 0, 1) := dk_42 (dk_at dksX10_wrote_1 11 rfl rfl)
theorem dX10_wrote_35 : decode cX10_wrote 35 = .ok (.iload_n 3, 1) := dk_29 (dk_at dksX10_wrote_1 12 rfl rfl)
theorem dX10_wrote_36 : decode cX10_wrote 36 = .ok (.invokestatic 353, 3) := dk_184 1 97 (dk_at dksX10_wrote_1 13 rfl rfl)
theorem dX10_wrote_39 : decode cX10_wrote 39 = .ok (.ifCond .ne 14, 3) := dk_154 0 14 (dk_at dksX10_wrote_1 16 rfl rfl)
theorem dX10_wrote_42 : decode cX10_wrote 42 = .ok (.iload 4, 2) := dk_21 4 (dk_at dksX10_wrote_1 19 rfl rfl)
theorem dX10_wrote_44 : decode cX10_wrote 44 = .ok (.iconst 0, 1) := dk_3 (dk_at dksX10_wrote_1 21 rfl rfl)
theorem dX10_wrote_45 : decode cX10_wrote 45 = .ok (.bipush 99, 2) := dk_16 99 (dk_at dksX10_wrote_1 22 rfl rfl)
theorem dX10_wrote_47 : decode cX10_wrote 47 = .ok (.invokestatic 90, 3) := dk_184 0 90 (dk_at dksX10_wrote_2 0 rfl rfl)
theorem dX10_wrote_50 : decode cX10_wrote 50 = .ok (.ifCond .ne 7, 3) := dk_154 0 7 (dk_at dksX10_wrote_2 3 rfl rfl)
theorem dX10_wrote_53 : decode cX10_wrote 53 = .ok (.iconst 1, 1) := dk_4 (dk_at dksX10_wrote_2 6 rfl rfl)
theorem dX10_wrote_54 : decode cX10_wrote 54 = .ok (.goto 4, 3) := dk_167 0 4 (dk_at dksX10_wrote_2 7 rfl rfl)
theorem dX10_wrote_57 : decode cX10_wrote 57 = .ok (.iconst 0, 1) := dk_3 (dk_at dksX10_wrote_2 10 rfl rfl)
theorem dX10_wrote_58 : decode cX10_wrote 58 = .ok (.iconst 2, 1) := dk_5 (dk_at dksX10_wrote_2 11 rfl rfl)
theorem dX10_wrote_59 : decode cX10_wrote 59 = .ok (.invokevirtual 300, 3) := dk_182 1 44 (dk_at dksX10_wrote_2 12 rfl rfl)
theorem dX10_wrote_62 : decode cX10_wrote 62 = .ok (.ifCond .eq 5, 3) := dk_153 0 5 (dk_at dksX10_wrote_2 15 rfl rfl)
theorem dX10_wrote_65 : decode cX10_wrote 65 = .ok (.iconst 0, 1) := dk_3 (dk_at dksX10_wrote_2 18 rfl rfl)
theorem dX10_wrote_66 : decode cX10_wrote 66 = .ok (.ireturn, 1) := dk_172 (dk_at dksX10_wrote_2 19 rfl rfl)
theorem dX10_wrote_67 : decode cX10_wrote 67 = .ok (.aload_n 0, 1) := dk_42 (dk_at dksX10_wrote_2 20 rfl rfl)
theorem dX10_wrote_68 : decode cX10_wrote 68 = .ok (.iload_n 1, 1) := dk_27 (dk_at dksX10_wrote_2 21 rfl rfl)
theorem dX10_wrote_69 : decode cX10_wrote 69 = .ok (.iload_n 2, 1) := dk_28 (dk_at dksX10_wrote_2 22 rfl rfl)
theorem dX10_wrote_70 : decode cX10_wrote 70 = .ok (.iload_n 3, 1) := dk_29 (dk_at dksX10_wrote_2 23 rfl rfl)
theorem dX10_wrote_71 : decode cX10_wrote 71 = .ok (.iload 4, 2) := dk_21 4 (dk_at dksX10_wrote_3 0 rfl rfl)
theorem dX10_wrote_73 : decode cX10_wrote 73 = .ok (.invokevirtual 444, 3) := dk_182 1 188 (dk_at dksX10_wrote_3 2 rfl rfl)
theorem dX10_wrote_76 : decode cX10_wrote 76 = .ok (.ireturn, 1) := dk_172 (dk_at dksX10_wrote_3 5 rfl rfl)
abbrev cX10_table : ByteArray := prog_20_method_112_code
def yX10_table : MethodName := ⟨RX10, "table", "(II)I"⟩
def dkwX10_table_1 : List UInt8 := [167, 0, 4, 3, 4, 182, 1, 44, 153, 0, 7, 3, 167, 0, 9, 42, 27, 28, 182, 1, 195, 172]
abbrev dktX10_table_1 : List UInt8 := dkwX10_table_1 ++ []
def dkwX10_table_0 : List UInt8 := [42, 3, 181, 0, 3, 42, 42, 27, 182, 1, 192, 154, 0, 11, 42, 28, 182, 1, 100, 153, 0, 7, 4]
abbrev dktX10_table_0 : List UInt8 := dkwX10_table_0 ++ dktX10_table_1
theorem dksX10_table_0 : cX10_table.data.toList.drop 0 = dktX10_table_0 := by decide +kernel
theorem dksX10_table_1 : cX10_table.data.toList.drop 23 = dktX10_table_1 := dk_seg dksX10_table_0 23 rfl rfl
theorem dX10_table_0 : decode cX10_table 0 = .ok (.aload_n 0, 1) := dk_42 (dk_at dksX10_table_0 0 rfl rfl)
theorem dX10_table_1 : decode cX10_table 1 = .ok (.iconst 0, 1) := dk_3 (dk_at dksX10_table_0 1 rfl rfl)
theorem dX10_table_2 : decode cX10_table 2 = .ok (.putfield 3, 3) := dk_181 0 3 (dk_at dksX10_table_0 2 rfl rfl)
theorem dX10_table_5 : decode cX10_table 5 = .ok (.aload_n 0, 1) := dk_42 (dk_at dksX10_table_0 5 rfl rfl)
theorem dX10_table_6 : decode cX10_table 6 = .ok (.aload_n 0, 1) := dk_42 (dk_at dksX10_table_0 6 rfl rfl)
theorem dX10_table_7 : decode cX10_table 7 = .ok (.iload_n 1, 1) := dk_27 (dk_at dksX10_table_0 7 rfl rfl)
theorem dX10_table_8 : decode cX10_table 8 = .ok (.invokevirtual 448, 3) := dk_182 1 192 (dk_at dksX10_table_0 8 rfl rfl)
theorem dX10_table_11 : decode cX10_table 11 = .ok (.ifCond .ne 11, 3) := dk_154 0 11 (dk_at dksX10_table_0 11 rfl rfl)
theorem dX10_table_14 : decode cX10_table 14 = .ok (.aload_n 0, 1) := dk_42 (dk_at dksX10_table_0 14 rfl rfl)
theorem dX10_table_15 : decode cX10_table 15 = .ok (.iload_n 2, 1) := dk_28 (dk_at dksX10_table_0 15 rfl rfl)
theorem dX10_table_16 : decode cX10_table 16 = .ok (.invokevirtual 356, 3) := dk_182 1 100 (dk_at dksX10_table_0 16 rfl rfl)
theorem dX10_table_19 : decode cX10_table 19 = .ok (.ifCond .eq 7, 3) := dk_153 0 7 (dk_at dksX10_table_0 19 rfl rfl)
theorem dX10_table_22 : decode cX10_table 22 = .ok (.iconst 1, 1) := dk_4 (dk_at dksX10_table_0 22 rfl rfl)
theorem dX10_table_23 : decode cX10_table 23 = .ok (.goto 4, 3) := dk_167 0 4 (dk_at dksX10_table_1 0 rfl rfl)
theorem dX10_table_26 : decode cX10_table 26 = .ok (.iconst 0, 1) := dk_3 (dk_at dksX10_table_1 3 rfl rfl)
theorem dX10_table_27 : decode cX10_table 27 = .ok (.iconst 1, 1) := dk_4 (dk_at dksX10_table_1 4 rfl rfl)
theorem dX10_table_28 : decode cX10_table 28 = .ok (.invokevirtual 300, 3) := dk_182 1 44 (dk_at dksX10_table_1 5 rfl rfl)
theorem dX10_table_31 : decode cX10_table 31 = .ok (.ifCond .eq 7, 3) := dk_153 0 7 (dk_at dksX10_table_1 8 rfl rfl)
theorem dX10_table_34 : decode cX10_table 34 = .ok (.iconst 0, 1) := dk_3 (dk_at dksX10_table_1 11 rfl rfl)
theorem dX10_table_35 : decode cX10_table 35 = .ok (.goto 9, 3) := dk_167 0 9 (dk_at dksX10_table_1 12 rfl rfl)
theorem dX10_table_38 : decode cX10_table 38 = .ok (.aload_n 0, 1) := dk_42 (dk_at dksX10_table_1 15 rfl rfl)
theorem dX10_table_39 : decode cX10_table 39 = .ok (.iload_n 1, 1) := dk_27 (dk_at dksX10_table_1 16 rfl rfl)
theorem dX10_table_40 : decode cX10_table 40 = .ok (.iload_n 2, 1) := dk_28 (dk_at dksX10_table_1 17 rfl rfl)
theorem dX10_table_41 : decode cX10_table 41 = .ok (.invokevirtual 451, 3) := dk_182 1 195 (dk_at dksX10_table_1 18 rfl rfl)
theorem dX10_table_44 : decode cX10_table 44 = .ok (.ireturn, 1) := dk_172 (dk_at dksX10_table_1 21 rfl rfl)
abbrev cX10_noTable : ByteArray := prog_20_method_111_code
def yX10_noTable : MethodName := ⟨RX10, "noTable", "(I)Z"⟩
def dkwX10_noTable_0 : List UInt8 := [27, 3, 42, 180, 0, 13, 16, 6, 46, 4, 100, 184, 0, 90, 154, 0, 7, 4, 167, 0, 4, 3, 172]
abbrev dktX10_noTable_0 : List UInt8 := dkwX10_noTable_0 ++ []
theorem dksX10_noTable_0 : cX10_noTable.data.toList.drop 0 = dktX10_noTable_0 := by decide +kernel
theorem dX10_noTable_0 : decode cX10_noTable 0 = .ok (.iload_n 1, 1) := dk_27 (dk_at dksX10_noTable_0 0 rfl rfl)
theorem dX10_noTable_1 : decode cX10_noTable 1 = .ok (.iconst 0, 1) := dk_3 (dk_at dksX10_noTable_0 1 rfl rfl)
theorem dX10_noTable_2 : decode cX10_noTable 2 = .ok (.aload_n 0, 1) := dk_42 (dk_at dksX10_noTable_0 2 rfl rfl)
theorem dX10_noTable_3 : decode cX10_noTable 3 = .ok (.getfield 13, 3) := dk_180 0 13 (dk_at dksX10_noTable_0 3 rfl rfl)
theorem dX10_noTable_6 : decode cX10_noTable 6 = .ok (.bipush 6, 2) := dk_16 6 (dk_at dksX10_noTable_0 6 rfl rfl)
theorem dX10_noTable_8 : decode cX10_noTable 8 = .ok (.iaload, 1) := dk_46 (dk_at dksX10_noTable_0 8 rfl rfl)
theorem dX10_noTable_9 : decode cX10_noTable 9 = .ok (.iconst 1, 1) := dk_4 (dk_at dksX10_noTable_0 9 rfl rfl)
theorem dX10_noTable_10 : decode cX10_noTable 10 = .ok (.isub, 1) := dk_100 (dk_at dksX10_noTable_0 10 rfl rfl)
theorem dX10_noTable_11 : decode cX10_noTable 11 = .ok (.invokestatic 90, 3) := dk_184 0 90 (dk_at dksX10_noTable_0 11 rfl rfl)
theorem dX10_noTable_14 : decode cX10_noTable 14 = .ok (.ifCond .ne 7, 3) := dk_154 0 7 (dk_at dksX10_noTable_0 14 rfl rfl)
theorem dX10_noTable_17 : decode cX10_noTable 17 = .ok (.iconst 1, 1) := dk_4 (dk_at dksX10_noTable_0 17 rfl rfl)
theorem dX10_noTable_18 : decode cX10_noTable 18 = .ok (.goto 4, 3) := dk_167 0 4 (dk_at dksX10_noTable_0 18 rfl rfl)
theorem dX10_noTable_21 : decode cX10_noTable 21 = .ok (.iconst 0, 1) := dk_3 (dk_at dksX10_noTable_0 21 rfl rfl)
theorem dX10_noTable_22 : decode cX10_noTable 22 = .ok (.ireturn, 1) := dk_172 (dk_at dksX10_noTable_0 22 rfl rfl)
abbrev cX10_ofTable : ByteArray := prog_20_method_110_code
def yX10_ofTable : MethodName := ⟨RX10, "ofTable", "(II)I"⟩
def dkwX10_ofTable_0 : List UInt8 := [42, 180, 0, 13, 17, 1, 31, 16, 6, 27, 104, 96, 28, 96, 46, 172]
abbrev dktX10_ofTable_0 : List UInt8 := dkwX10_ofTable_0 ++ []
theorem dksX10_ofTable_0 : cX10_ofTable.data.toList.drop 0 = dktX10_ofTable_0 := by decide +kernel
theorem dX10_ofTable_0 : decode cX10_ofTable 0 = .ok (.aload_n 0, 1) := dk_42 (dk_at dksX10_ofTable_0 0 rfl rfl)
theorem dX10_ofTable_1 : decode cX10_ofTable 1 = .ok (.getfield 13, 3) := dk_180 0 13 (dk_at dksX10_ofTable_0 1 rfl rfl)
theorem dX10_ofTable_4 : decode cX10_ofTable 4 = .ok (.sipush 287, 3) := dk_17 1 31 (dk_at dksX10_ofTable_0 4 rfl rfl)
theorem dX10_ofTable_7 : decode cX10_ofTable 7 = .ok (.bipush 6, 2) := dk_16 6 (dk_at dksX10_ofTable_0 7 rfl rfl)
theorem dX10_ofTable_9 : decode cX10_ofTable 9 = .ok (.iload_n 1, 1) := dk_27 (dk_at dksX10_ofTable_0 9 rfl rfl)
theorem dX10_ofTable_10 : decode cX10_ofTable 10 = .ok (.imul, 1) := dk_104 (dk_at dksX10_ofTable_0 10 rfl rfl)
theorem dX10_ofTable_11 : decode cX10_ofTable 11 = .ok (.iadd, 1) := dk_96 (dk_at dksX10_ofTable_0 11 rfl rfl)
theorem dX10_ofTable_12 : decode cX10_ofTable 12 = .ok (.iload_n 2, 1) := dk_28 (dk_at dksX10_ofTable_0 12 rfl rfl)
theorem dX10_ofTable_13 : decode cX10_ofTable 13 = .ok (.iadd, 1) := dk_96 (dk_at dksX10_ofTable_0 13 rfl rfl)
theorem dX10_ofTable_14 : decode cX10_ofTable 14 = .ok (.iaload, 1) := dk_46 (dk_at dksX10_ofTable_0 14 rfl rfl)
theorem dX10_ofTable_15 : decode cX10_ofTable 15 = .ok (.ireturn, 1) := dk_172 (dk_at dksX10_ofTable_0 15 rfl rfl)
abbrev cX10_apart : ByteArray := prog_20_method_114_code
def yX10_apart : MethodName := ⟨RX10, "apart", "(III)Z"⟩
def dkwX10_apart_2 : List UInt8 := [167, 0, 4, 3, 172]
abbrev dktX10_apart_2 : List UInt8 := dkwX10_apart_2 ++ []
def dkwX10_apart_1 : List UInt8 := [167, 0, 4, 3, 4, 182, 1, 44, 154, 0, 17, 42, 27, 28, 29, 182, 1, 201, 153, 0, 7, 4]
abbrev dktX10_apart_1 : List UInt8 := dkwX10_apart_1 ++ dktX10_apart_2
def dkwX10_apart_0 : List UInt8 := [42, 3, 181, 0, 3, 42, 42, 27, 182, 1, 192, 154, 0, 11, 42, 28, 182, 1, 192, 153, 0, 7, 4]
abbrev dktX10_apart_0 : List UInt8 := dkwX10_apart_0 ++ dktX10_apart_1
theorem dksX10_apart_0 : cX10_apart.data.toList.drop 0 = dktX10_apart_0 := by decide +kernel
theorem dksX10_apart_1 : cX10_apart.data.toList.drop 23 = dktX10_apart_1 := dk_seg dksX10_apart_0 23 rfl rfl
theorem dksX10_apart_2 : cX10_apart.data.toList.drop 45 = dktX10_apart_2 := dk_seg dksX10_apart_1 22 rfl rfl
theorem dX10_apart_0 : decode cX10_apart 0 = .ok (.aload_n 0, 1) := dk_42 (dk_at dksX10_apart_0 0 rfl rfl)
theorem dX10_apart_1 : decode cX10_apart 1 = .ok (.iconst 0, 1) := dk_3 (dk_at dksX10_apart_0 1 rfl rfl)
theorem dX10_apart_2 : decode cX10_apart 2 = .ok (.putfield 3, 3) := dk_181 0 3 (dk_at dksX10_apart_0 2 rfl rfl)
theorem dX10_apart_5 : decode cX10_apart 5 = .ok (.aload_n 0, 1) := dk_42 (dk_at dksX10_apart_0 5 rfl rfl)
theorem dX10_apart_6 : decode cX10_apart 6 = .ok (.aload_n 0, 1) := dk_42 (dk_at dksX10_apart_0 6 rfl rfl)
theorem dX10_apart_7 : decode cX10_apart 7 = .ok (.iload_n 1, 1) := dk_27 (dk_at dksX10_apart_0 7 rfl rfl)
theorem dX10_apart_8 : decode cX10_apart 8 = .ok (.invokevirtual 448, 3) := dk_182 1 192 (dk_at dksX10_apart_0 8 rfl rfl)
theorem dX10_apart_11 : decode cX10_apart 11 = .ok (.ifCond .ne 11, 3) := dk_154 0 11 (dk_at dksX10_apart_0 11 rfl rfl)
theorem dX10_apart_14 : decode cX10_apart 14 = .ok (.aload_n 0, 1) := dk_42 (dk_at dksX10_apart_0 14 rfl rfl)
theorem dX10_apart_15 : decode cX10_apart 15 = .ok (.iload_n 2, 1) := dk_28 (dk_at dksX10_apart_0 15 rfl rfl)
theorem dX10_apart_16 : decode cX10_apart 16 = .ok (.invokevirtual 448, 3) := dk_182 1 192 (dk_at dksX10_apart_0 16 rfl rfl)
theorem dX10_apart_19 : decode cX10_apart 19 = .ok (.ifCond .eq 7, 3) := dk_153 0 7 (dk_at dksX10_apart_0 19 rfl rfl)
theorem dX10_apart_22 : decode cX10_apart 22 = .ok (.iconst 1, 1) := dk_4 (dk_at dksX10_apart_0 22 rfl rfl)
theorem dX10_apart_23 : decode cX10_apart 23 = .ok (.goto 4, 3) := dk_167 0 4 (dk_at dksX10_apart_1 0 rfl rfl)
theorem dX10_apart_26 : decode cX10_apart 26 = .ok (.iconst 0, 1) := dk_3 (dk_at dksX10_apart_1 3 rfl rfl)
theorem dX10_apart_27 : decode cX10_apart 27 = .ok (.iconst 1, 1) := dk_4 (dk_at dksX10_apart_1 4 rfl rfl)
theorem dX10_apart_28 : decode cX10_apart 28 = .ok (.invokevirtual 300, 3) := dk_182 1 44 (dk_at dksX10_apart_1 5 rfl rfl)
theorem dX10_apart_31 : decode cX10_apart 31 = .ok (.ifCond .ne 17, 3) := dk_154 0 17 (dk_at dksX10_apart_1 8 rfl rfl)
theorem dX10_apart_34 : decode cX10_apart 34 = .ok (.aload_n 0, 1) := dk_42 (dk_at dksX10_apart_1 11 rfl rfl)
theorem dX10_apart_35 : decode cX10_apart 35 = .ok (.iload_n 1, 1) := dk_27 (dk_at dksX10_apart_1 12 rfl rfl)
theorem dX10_apart_36 : decode cX10_apart 36 = .ok (.iload_n 2, 1) := dk_28 (dk_at dksX10_apart_1 13 rfl rfl)
theorem dX10_apart_37 : decode cX10_apart 37 = .ok (.iload_n 3, 1) := dk_29 (dk_at dksX10_apart_1 14 rfl rfl)
theorem dX10_apart_38 : decode cX10_apart 38 = .ok (.invokevirtual 457, 3) := dk_182 1 201 (dk_at dksX10_apart_1 15 rfl rfl)
theorem dX10_apart_41 : decode cX10_apart 41 = .ok (.ifCond .eq 7, 3) := dk_153 0 7 (dk_at dksX10_apart_1 18 rfl rfl)
theorem dX10_apart_44 : decode cX10_apart 44 = .ok (.iconst 1, 1) := dk_4 (dk_at dksX10_apart_1 21 rfl rfl)
theorem dX10_apart_45 : decode cX10_apart 45 = .ok (.goto 4, 3) := dk_167 0 4 (dk_at dksX10_apart_2 0 rfl rfl)
theorem dX10_apart_48 : decode cX10_apart 48 = .ok (.iconst 0, 1) := dk_3 (dk_at dksX10_apart_2 3 rfl rfl)
theorem dX10_apart_49 : decode cX10_apart 49 = .ok (.ireturn, 1) := dk_172 (dk_at dksX10_apart_2 4 rfl rfl)
abbrev cX10_areApart : ByteArray := prog_20_method_113_code
def yX10_areApart : MethodName := ⟨RX10, "areApart", "(III)Z"⟩
def dkwX10_areApart_2 : List UInt8 := [167, 0, 4, 3, 54, 4, 132, 5, 1, 167, 255, 206, 21, 4, 172]
abbrev dktX10_areApart_2 : List UInt8 := dkwX10_areApart_2 ++ []
def dkwX10_areApart_1 : List UInt8 := [184, 1, 198, 153, 0, 24, 42, 27, 21, 5, 182, 1, 195, 42, 28, 21, 5, 182, 1, 195, 159, 0, 7, 4]
abbrev dktX10_areApart_1 : List UInt8 := dkwX10_areApart_1 ++ dktX10_areApart_2
def dkwX10_areApart_0 : List UInt8 := [3, 54, 4, 3, 54, 5, 21, 5, 42, 182, 0, 86, 162, 0, 47, 21, 4, 154, 0, 29, 29, 21, 5]
abbrev dktX10_areApart_0 : List UInt8 := dkwX10_areApart_0 ++ dktX10_areApart_1
theorem dksX10_areApart_0 : cX10_areApart.data.toList.drop 0 = dktX10_areApart_0 := by decide +kernel
theorem dksX10_areApart_1 : cX10_areApart.data.toList.drop 23 = dktX10_areApart_1 := dk_seg dksX10_areApart_0 23 rfl rfl
theorem dksX10_areApart_2 : cX10_areApart.data.toList.drop 47 = dktX10_areApart_2 := dk_seg dksX10_areApart_1 24 rfl rfl
theorem dX10_areApart_0 : decode cX10_areApart 0 = .ok (.iconst 0, 1) := dk_3 (dk_at dksX10_areApart_0 0 rfl rfl)
theorem dX10_areApart_1 : decode cX10_areApart 1 = .ok (.istore 4, 2) := dk_54 4 (dk_at dksX10_areApart_0 1 rfl rfl)
theorem dX10_areApart_3 : decode cX10_areApart 3 = .ok (.iconst 0, 1) := dk_3 (dk_at dksX10_areApart_0 3 rfl rfl)
theorem dX10_areApart_4 : decode cX10_areApart 4 = .ok (.istore 5, 2) := dk_54 5 (dk_at dksX10_areApart_0 4 rfl rfl)
theorem dX10_areApart_6 : decode cX10_areApart 6 = .ok (.iload 5, 2) := dk_21 5 (dk_at dksX10_areApart_0 6 rfl rfl)
theorem dX10_areApart_8 : decode cX10_areApart 8 = .ok (.aload_n 0, 1) := dk_42 (dk_at dksX10_areApart_0 8 rfl rfl)
theorem dX10_areApart_9 : decode cX10_areApart 9 = .ok (.invokevirtual 86, 3) := dk_182 0 86 (dk_at dksX10_areApart_0 9 rfl rfl)
theorem dX10_areApart_12 : decode cX10_areApart 12 = .ok (.if_icmp .ge 47, 3) := dk_162 0 47 (dk_at dksX10_areApart_0 12 rfl rfl)
theorem dX10_areApart_15 : decode cX10_areApart 15 = .ok (.iload 4, 2) := dk_21 4 (dk_at dksX10_areApart_0 15 rfl rfl)
theorem dX10_areApart_17 : decode cX10_areApart 17 = .ok (.ifCond .ne 29, 3) := dk_154 0 29 (dk_at dksX10_areApart_0 17 rfl rfl)
theorem dX10_areApart_20 : decode cX10_areApart 20 = .ok (.iload_n 3, 1) := dk_29 (dk_at dksX10_areApart_0 20 rfl rfl)
theorem dX10_areApart_21 : decode cX10_areApart 21 = .ok (.iload 5, 2) := dk_21 5 (dk_at dksX10_areApart_0 21 rfl rfl)
theorem dX10_areApart_23 : decode cX10_areApart 23 = .ok (.invokestatic 454, 3) := dk_184 1 198 (dk_at dksX10_areApart_1 0 rfl rfl)
theorem dX10_areApart_26 : decode cX10_areApart 26 = .ok (.ifCond .eq 24, 3) := dk_153 0 24 (dk_at dksX10_areApart_1 3 rfl rfl)
theorem dX10_areApart_29 : decode cX10_areApart 29 = .ok (.aload_n 0, 1) := dk_42 (dk_at dksX10_areApart_1 6 rfl rfl)
theorem dX10_areApart_30 : decode cX10_areApart 30 = .ok (.iload_n 1, 1) := dk_27 (dk_at dksX10_areApart_1 7 rfl rfl)
theorem dX10_areApart_31 : decode cX10_areApart 31 = .ok (.iload 5, 2) := dk_21 5 (dk_at dksX10_areApart_1 8 rfl rfl)
theorem dX10_areApart_33 : decode cX10_areApart 33 = .ok (.invokevirtual 451, 3) := dk_182 1 195 (dk_at dksX10_areApart_1 10 rfl rfl)
theorem dX10_areApart_36 : decode cX10_areApart 36 = .ok (.aload_n 0, 1) := dk_42 (dk_at dksX10_areApart_1 13 rfl rfl)
theorem dX10_areApart_37 : decode cX10_areApart 37 = .ok (.iload_n 2, 1) := dk_28 (dk_at dksX10_areApart_1 14 rfl rfl)
theorem dX10_areApart_38 : decode cX10_areApart 38 = .ok (.iload 5, 2) := dk_21 5 (dk_at dksX10_areApart_1 15 rfl rfl)
theorem dX10_areApart_40 : decode cX10_areApart 40 = .ok (.invokevirtual 451, 3) := dk_182 1 195 (dk_at dksX10_areApart_1 17 rfl rfl)
theorem dX10_areApart_43 : decode cX10_areApart 43 = .ok (.if_icmp .eq 7, 3) := dk_159 0 7 (dk_at dksX10_areApart_1 20 rfl rfl)
theorem dX10_areApart_46 : decode cX10_areApart 46 = .ok (.iconst 1, 1) := dk_4 (dk_at dksX10_areApart_1 23 rfl rfl)
theorem dX10_areApart_47 : decode cX10_areApart 47 = .ok (.goto 4, 3) := dk_167 0 4 (dk_at dksX10_areApart_2 0 rfl rfl)
theorem dX10_areApart_50 : decode cX10_areApart 50 = .ok (.iconst 0, 1) := dk_3 (dk_at dksX10_areApart_2 3 rfl rfl)
theorem dX10_areApart_51 : decode cX10_areApart 51 = .ok (.istore 4, 2) := dk_54 4 (dk_at dksX10_areApart_2 4 rfl rfl)
theorem dX10_areApart_53 : decode cX10_areApart 53 = .ok (.iinc 5 1, 3) := dk_132 5 1 (dk_at dksX10_areApart_2 6 rfl rfl)
theorem dX10_areApart_56 : decode cX10_areApart 56 = .ok (.goto (-50), 3) := dk_167 255 206 (dk_at dksX10_areApart_2 9 rfl rfl)
theorem dX10_areApart_59 : decode cX10_areApart 59 = .ok (.iload 4, 2) := dk_21 4 (dk_at dksX10_areApart_2 12 rfl rfl)
theorem dX10_areApart_61 : decode cX10_areApart 61 = .ok (.ireturn, 1) := dk_172 (dk_at dksX10_areApart_2 14 rfl rfl)
abbrev cX10_has : ByteArray := prog_20_method_4_code
def yX10_has : MethodName := ⟨RX10, "has", "(II)Z"⟩
def dkwX10_has_0 : List UInt8 := [26, 27, 122, 4, 126, 4, 160, 0, 7, 4, 167, 0, 4, 3, 172]
abbrev dktX10_has_0 : List UInt8 := dkwX10_has_0 ++ []
theorem dksX10_has_0 : cX10_has.data.toList.drop 0 = dktX10_has_0 := by decide +kernel
theorem dX10_has_0 : decode cX10_has 0 = .ok (.iload_n 0, 1) := dk_26 (dk_at dksX10_has_0 0 rfl rfl)
theorem dX10_has_1 : decode cX10_has 1 = .ok (.iload_n 1, 1) := dk_27 (dk_at dksX10_has_0 1 rfl rfl)
theorem dX10_has_2 : decode cX10_has 2 = .ok (.ishr, 1) := dk_122 (dk_at dksX10_has_0 2 rfl rfl)
theorem dX10_has_3 : decode cX10_has 3 = .ok (.iconst 1, 1) := dk_4 (dk_at dksX10_has_0 3 rfl rfl)
theorem dX10_has_4 : decode cX10_has 4 = .ok (.iand, 1) := dk_126 (dk_at dksX10_has_0 4 rfl rfl)
theorem dX10_has_5 : decode cX10_has 5 = .ok (.iconst 1, 1) := dk_4 (dk_at dksX10_has_0 5 rfl rfl)
theorem dX10_has_6 : decode cX10_has 6 = .ok (.if_icmp .ne 7, 3) := dk_160 0 7 (dk_at dksX10_has_0 6 rfl rfl)
theorem dX10_has_9 : decode cX10_has 9 = .ok (.iconst 1, 1) := dk_4 (dk_at dksX10_has_0 9 rfl rfl)
theorem dX10_has_10 : decode cX10_has 10 = .ok (.goto 4, 3) := dk_167 0 4 (dk_at dksX10_has_0 10 rfl rfl)
theorem dX10_has_13 : decode cX10_has 13 = .ok (.iconst 0, 1) := dk_3 (dk_at dksX10_has_0 13 rfl rfl)
theorem dX10_has_14 : decode cX10_has 14 = .ok (.ireturn, 1) := dk_172 (dk_at dksX10_has_0 14 rfl rfl)
abbrev cX10_poles : ByteArray := prog_20_method_115_code
def yX10_poles : MethodName := ⟨RX10, "poles", "()I"⟩
def dkwX10_poles_4 : List UInt8 := [132, 4, 1, 167, 255, 203, 29, 153, 0, 7, 28, 167, 0, 4, 27, 60, 132, 2, 1, 167, 255, 153, 27, 172]
abbrev dktX10_poles_4 : List UInt8 := dkwX10_poles_4 ++ []
def dkwX10_poles_3 : List UInt8 := [21, 4, 21, 5, 28, 182, 1, 201, 153, 0, 7, 4, 167, 0, 4, 3, 62, 132, 5, 1, 167, 255, 224]
abbrev dktX10_poles_3 : List UInt8 := dkwX10_poles_3 ++ dktX10_poles_4
def dkwX10_poles_2 : List UInt8 := [180, 0, 13, 16, 6, 46, 162, 0, 47, 3, 54, 5, 21, 5, 21, 4, 162, 0, 31, 29, 153, 0, 19, 42]
abbrev dktX10_poles_2 : List UInt8 := dkwX10_poles_2 ++ dktX10_poles_3
def dkwX10_poles_1 : List UInt8 := [184, 1, 204, 27, 184, 1, 204, 162, 0, 7, 4, 167, 0, 4, 3, 62, 3, 54, 4, 21, 4, 42]
abbrev dktX10_poles_1 : List UInt8 := dkwX10_poles_1 ++ dktX10_poles_2
def dkwX10_poles_0 : List UInt8 := [42, 3, 181, 0, 3, 2, 60, 3, 61, 28, 4, 42, 182, 0, 86, 120, 162, 0, 99, 27, 155, 0, 14, 28]
abbrev dktX10_poles_0 : List UInt8 := dkwX10_poles_0 ++ dktX10_poles_1
theorem dksX10_poles_0 : cX10_poles.data.toList.drop 0 = dktX10_poles_0 := by decide +kernel
theorem dksX10_poles_1 : cX10_poles.data.toList.drop 24 = dktX10_poles_1 := dk_seg dksX10_poles_0 24 rfl rfl
theorem dksX10_poles_2 : cX10_poles.data.toList.drop 46 = dktX10_poles_2 := dk_seg dksX10_poles_1 22 rfl rfl
theorem dksX10_poles_3 : cX10_poles.data.toList.drop 70 = dktX10_poles_3 := dk_seg dksX10_poles_2 24 rfl rfl
theorem dksX10_poles_4 : cX10_poles.data.toList.drop 93 = dktX10_poles_4 := dk_seg dksX10_poles_3 23 rfl rfl
theorem dX10_poles_0 : decode cX10_poles 0 = .ok (.aload_n 0, 1) := dk_42 (dk_at dksX10_poles_0 0 rfl rfl)
theorem dX10_poles_1 : decode cX10_poles 1 = .ok (.iconst 0, 1) := dk_3 (dk_at dksX10_poles_0 1 rfl rfl)
theorem dX10_poles_2 : decode cX10_poles 2 = .ok (.putfield 3, 3) := dk_181 0 3 (dk_at dksX10_poles_0 2 rfl rfl)
theorem dX10_poles_5 : decode cX10_poles 5 = .ok (.iconst (-1), 1) := dk_2 (dk_at dksX10_poles_0 5 rfl rfl)
theorem dX10_poles_6 : decode cX10_poles 6 = .ok (.istore_n 1, 1) := dk_60 (dk_at dksX10_poles_0 6 rfl rfl)
theorem dX10_poles_7 : decode cX10_poles 7 = .ok (.iconst 0, 1) := dk_3 (dk_at dksX10_poles_0 7 rfl rfl)
theorem dX10_poles_8 : decode cX10_poles 8 = .ok (.istore_n 2, 1) := dk_61 (dk_at dksX10_poles_0 8 rfl rfl)
theorem dX10_poles_9 : decode cX10_poles 9 = .ok (.iload_n 2, 1) := dk_28 (dk_at dksX10_poles_0 9 rfl rfl)
theorem dX10_poles_10 : decode cX10_poles 10 = .ok (.iconst 1, 1) := dk_4 (dk_at dksX10_poles_0 10 rfl rfl)
theorem dX10_poles_11 : decode cX10_poles 11 = .ok (.aload_n 0, 1) := dk_42 (dk_at dksX10_poles_0 11 rfl rfl)
theorem dX10_poles_12 : decode cX10_poles 12 = .ok (.invokevirtual 86, 3) := dk_182 0 86 (dk_at dksX10_poles_0 12 rfl rfl)
theorem dX10_poles_15 : decode cX10_poles 15 = .ok (.ishl, 1) := dk_120 (dk_at dksX10_poles_0 15 rfl rfl)
theorem dX10_poles_16 : decode cX10_poles 16 = .ok (.if_icmp .ge 99, 3) := dk_162 0 99 (dk_at dksX10_poles_0 16 rfl rfl)
theorem dX10_poles_19 : decode cX10_poles 19 = .ok (.iload_n 1, 1) := dk_27 (dk_at dksX10_poles_0 19 rfl rfl)
theorem dX10_poles_20 : decode cX10_poles 20 = .ok (.ifCond .lt 14, 3) := dk_155 0 14 (dk_at dksX10_poles_0 20 rfl rfl)
theorem dX10_poles_23 : decode cX10_poles 23 = .ok (.iload_n 2, 1) := dk_28 (dk_at dksX10_poles_0 23 rfl rfl)
theorem dX10_poles_24 : decode cX10_poles 24 = .ok (.invokestatic 460, 3) := dk_184 1 204 (dk_at dksX10_poles_1 0 rfl rfl)
theorem dX10_poles_27 : decode cX10_poles 27 = .ok (.iload_n 1, 1) := dk_27 (dk_at dksX10_poles_1 3 rfl rfl)
theorem dX10_poles_28 : decode cX10_poles 28 = .ok (.invokestatic 460, 3) := dk_184 1 204 (dk_at dksX10_poles_1 4 rfl rfl)
theorem dX10_poles_31 : decode cX10_poles 31 = .ok (.if_icmp .ge 7, 3) := dk_162 0 7 (dk_at dksX10_poles_1 7 rfl rfl)
theorem dX10_poles_34 : decode cX10_poles 34 = .ok (.iconst 1, 1) := dk_4 (dk_at dksX10_poles_1 10 rfl rfl)
theorem dX10_poles_35 : decode cX10_poles 35 = .ok (.goto 4, 3) := dk_167 0 4 (dk_at dksX10_poles_1 11 rfl rfl)
theorem dX10_poles_38 : decode cX10_poles 38 = .ok (.iconst 0, 1) := dk_3 (dk_at dksX10_poles_1 14 rfl rfl)
theorem dX10_poles_39 : decode cX10_poles 39 = .ok (.istore_n 3, 1) := dk_62 (dk_at dksX10_poles_1 15 rfl rfl)
theorem dX10_poles_40 : decode cX10_poles 40 = .ok (.iconst 0, 1) := dk_3 (dk_at dksX10_poles_1 16 rfl rfl)
theorem dX10_poles_41 : decode cX10_poles 41 = .ok (.istore 4, 2) := dk_54 4 (dk_at dksX10_poles_1 17 rfl rfl)
theorem dX10_poles_43 : decode cX10_poles 43 = .ok (.iload 4, 2) := dk_21 4 (dk_at dksX10_poles_1 19 rfl rfl)
theorem dX10_poles_45 : decode cX10_poles 45 = .ok (.aload_n 0, 1) := dk_42 (dk_at dksX10_poles_1 21 rfl rfl)
theorem dX10_poles_46 : decode cX10_poles 46 = .ok (.getfield 13, 3) := dk_180 0 13 (dk_at dksX10_poles_2 0 rfl rfl)
theorem dX10_poles_49 : decode cX10_poles 49 = .ok (.bipush 6, 2) := dk_16 6 (dk_at dksX10_poles_2 3 rfl rfl)
theorem dX10_poles_51 : decode cX10_poles 51 = .ok (.iaload, 1) := dk_46 (dk_at dksX10_poles_2 5 rfl rfl)
theorem dX10_poles_52 : decode cX10_poles 52 = .ok (.if_icmp .ge 47, 3) := dk_162 0 47 (dk_at dksX10_poles_2 6 rfl rfl)
theorem dX10_poles_55 : decode cX10_poles 55 = .ok (.iconst 0, 1) := dk_3 (dk_at dksX10_poles_2 9 rfl rfl)
theorem dX10_poles_56 : decode cX10_poles 56 = .ok (.istore 5, 2) := dk_54 5 (dk_at dksX10_poles_2 10 rfl rfl)
theorem dX10_poles_58 : decode cX10_poles 58 = .ok (.iload 5, 2) := dk_21 5 (dk_at dksX10_poles_2 12 rfl rfl)
theorem dX10_poles_60 : decode cX10_poles 60 = .ok (.iload 4, 2) := dk_21 4 (dk_at dksX10_poles_2 14 rfl rfl)
theorem dX10_poles_62 : decode cX10_poles 62 = .ok (.if_icmp .ge 31, 3) := dk_162 0 31 (dk_at dksX10_poles_2 16 rfl rfl)
theorem dX10_poles_65 : decode cX10_poles 65 = .ok (.iload_n 3, 1) := dk_29 (dk_at dksX10_poles_2 19 rfl rfl)
theorem dX10_poles_66 : decode cX10_poles 66 = .ok (.ifCond .eq 19, 3) := dk_153 0 19 (dk_at dksX10_poles_2 20 rfl rfl)
theorem dX10_poles_69 : decode cX10_poles 69 = .ok (.aload_n 0, 1) := dk_42 (dk_at dksX10_poles_2 23 rfl rfl)
theorem dX10_poles_70 : decode cX10_poles 70 = .ok (.iload 4, 2) := dk_21 4 (dk_at dksX10_poles_3 0 rfl rfl)
theorem dX10_poles_72 : decode cX10_poles 72 = .ok (.iload 5, 2) := dk_21 5 (dk_at dksX10_poles_3 2 rfl rfl)
theorem dX10_poles_74 : decode cX10_poles 74 = .ok (.iload_n 2, 1) := dk_28 (dk_at dksX10_poles_3 4 rfl rfl)
theorem dX10_poles_75 : decode cX10_poles 75 = .ok (.invokevirtual 457, 3) := dk_182 1 201 (dk_at dksX10_poles_3 5 rfl rfl)
theorem dX10_poles_78 : decode cX10_poles 78 = .ok (.ifCond .eq 7, 3) := dk_153 0 7 (dk_at dksX10_poles_3 8 rfl rfl)
theorem dX10_poles_81 : decode cX10_poles 81 = .ok (.iconst 1, 1) := dk_4 (dk_at dksX10_poles_3 11 rfl rfl)
theorem dX10_poles_82 : decode cX10_poles 82 = .ok (.goto 4, 3) := dk_167 0 4 (dk_at dksX10_poles_3 12 rfl rfl)
theorem dX10_poles_85 : decode cX10_poles 85 = .ok (.iconst 0, 1) := dk_3 (dk_at dksX10_poles_3 15 rfl rfl)
theorem dX10_poles_86 : decode cX10_poles 86 = .ok (.istore_n 3, 1) := dk_62 (dk_at dksX10_poles_3 16 rfl rfl)
theorem dX10_poles_87 : decode cX10_poles 87 = .ok (.iinc 5 1, 3) := dk_132 5 1 (dk_at dksX10_poles_3 17 rfl rfl)
theorem dX10_poles_90 : decode cX10_poles 90 = .ok (.goto (-32), 3) := dk_167 255 224 (dk_at dksX10_poles_3 20 rfl rfl)
theorem dX10_poles_93 : decode cX10_poles 93 = .ok (.iinc 4 1, 3) := dk_132 4 1 (dk_at dksX10_poles_4 0 rfl rfl)
theorem dX10_poles_96 : decode cX10_poles 96 = .ok (.goto (-53), 3) := dk_167 255 203 (dk_at dksX10_poles_4 3 rfl rfl)
theorem dX10_poles_99 : decode cX10_poles 99 = .ok (.iload_n 3, 1) := dk_29 (dk_at dksX10_poles_4 6 rfl rfl)
theorem dX10_poles_100 : decode cX10_poles 100 = .ok (.ifCond .eq 7, 3) := dk_153 0 7 (dk_at dksX10_poles_4 7 rfl rfl)
theorem dX10_poles_103 : decode cX10_poles 103 = .ok (.iload_n 2, 1) := dk_28 (dk_at dksX10_poles_4 10 rfl rfl)
theorem dX10_poles_104 : decode cX10_poles 104 = .ok (.goto 4, 3) := dk_167 0 4 (dk_at dksX10_poles_4 11 rfl rfl)
theorem dX10_poles_107 : decode cX10_poles 107 = .ok (.iload_n 1, 1) := dk_27 (dk_at dksX10_poles_4 14 rfl rfl)
theorem dX10_poles_108 : decode cX10_poles 108 = .ok (.istore_n 1, 1) := dk_60 (dk_at dksX10_poles_4 15 rfl rfl)
theorem dX10_poles_109 : decode cX10_poles 109 = .ok (.iinc 2 1, 3) := dk_132 2 1 (dk_at dksX10_poles_4 16 rfl rfl)
theorem dX10_poles_112 : decode cX10_poles 112 = .ok (.goto (-103), 3) := dk_167 255 153 (dk_at dksX10_poles_4 19 rfl rfl)
theorem dX10_poles_115 : decode cX10_poles 115 = .ok (.iload_n 1, 1) := dk_27 (dk_at dksX10_poles_4 22 rfl rfl)
theorem dX10_poles_116 : decode cX10_poles 116 = .ok (.ireturn, 1) := dk_172 (dk_at dksX10_poles_4 23 rfl rfl)
abbrev cX10_fit : ByteArray := prog_20_method_116_code
def yX10_fit : MethodName := ⟨RX10, "fit", "()I"⟩
def dkwX10_fit_7 : List UInt8 := [132, 4, 2, 167, 255, 212, 132, 3, 1, 167, 255, 192, 28, 172]
abbrev dktX10_fit_7 : List UInt8 := dkwX10_fit_7 ++ []
def dkwX10_fit_6 : List UInt8 := [182, 1, 195, 42, 180, 0, 26, 21, 4, 4, 96, 51, 159, 0, 11, 28, 4, 29, 120, 2, 130, 126, 61]
abbrev dktX10_fit_6 : List UInt8 := dkwX10_fit_6 ++ dktX10_fit_7
def dkwX10_fit_5 : List UInt8 := [162, 0, 59, 3, 54, 4, 21, 4, 42, 180, 0, 109, 162, 0, 41, 42, 29, 42, 180, 0, 26, 21, 4, 51]
abbrev dktX10_fit_5 : List UInt8 := dkwX10_fit_5 ++ dktX10_fit_6
def dkwX10_fit_4 : List UInt8 := [172, 4, 42, 180, 0, 13, 16, 6, 46, 120, 4, 100, 61, 3, 62, 29, 42, 180, 0, 13, 16, 6, 46]
abbrev dktX10_fit_4 : List UInt8 := dkwX10_fit_4 ++ dktX10_fit_5
def dkwX10_fit_3 : List UInt8 := [132, 2, 2, 167, 255, 203, 42, 27, 154, 0, 7, 4, 167, 0, 4, 3, 4, 182, 1, 44, 153, 0, 5, 3]
abbrev dktX10_fit_3 : List UInt8 := dkwX10_fit_3 ++ dktX10_fit_4
def dkwX10_fit_2 : List UInt8 := [42, 180, 0, 26, 28, 4, 96, 51, 3, 16, 20, 184, 0, 90, 153, 0, 7, 4, 167, 0, 4, 3, 60]
abbrev dktX10_fit_2 : List UInt8 := dkwX10_fit_2 ++ dktX10_fit_3
def dkwX10_fit_1 : List UInt8 := [42, 180, 0, 109, 162, 0, 49, 27, 153, 0, 45, 42, 42, 180, 0, 26, 28, 51, 182, 1, 100, 154, 0, 24]
abbrev dktX10_fit_1 : List UInt8 := dkwX10_fit_1 ++ dktX10_fit_2
def dkwX10_fit_0 : List UInt8 := [42, 182, 1, 33, 42, 180, 0, 109, 5, 112, 154, 0, 7, 4, 167, 0, 4, 3, 60, 3, 61, 28, 4, 96]
abbrev dktX10_fit_0 : List UInt8 := dkwX10_fit_0 ++ dktX10_fit_1
theorem dksX10_fit_0 : cX10_fit.data.toList.drop 0 = dktX10_fit_0 := by decide +kernel
theorem dksX10_fit_1 : cX10_fit.data.toList.drop 24 = dktX10_fit_1 := dk_seg dksX10_fit_0 24 rfl rfl
theorem dksX10_fit_2 : cX10_fit.data.toList.drop 48 = dktX10_fit_2 := dk_seg dksX10_fit_1 24 rfl rfl
theorem dksX10_fit_3 : cX10_fit.data.toList.drop 71 = dktX10_fit_3 := dk_seg dksX10_fit_2 23 rfl rfl
theorem dksX10_fit_4 : cX10_fit.data.toList.drop 95 = dktX10_fit_4 := dk_seg dksX10_fit_3 24 rfl rfl
theorem dksX10_fit_5 : cX10_fit.data.toList.drop 118 = dktX10_fit_5 := dk_seg dksX10_fit_4 23 rfl rfl
theorem dksX10_fit_6 : cX10_fit.data.toList.drop 142 = dktX10_fit_6 := dk_seg dksX10_fit_5 24 rfl rfl
theorem dksX10_fit_7 : cX10_fit.data.toList.drop 165 = dktX10_fit_7 := dk_seg dksX10_fit_6 23 rfl rfl
theorem dX10_fit_0 : decode cX10_fit 0 = .ok (.aload_n 0, 1) := dk_42 (dk_at dksX10_fit_0 0 rfl rfl)
theorem dX10_fit_1 : decode cX10_fit 1 = .ok (.invokevirtual 289, 3) := dk_182 1 33 (dk_at dksX10_fit_0 1 rfl rfl)
theorem dX10_fit_4 : decode cX10_fit 4 = .ok (.aload_n 0, 1) := dk_42 (dk_at dksX10_fit_0 4 rfl rfl)
theorem dX10_fit_5 : decode cX10_fit 5 = .ok (.getfield 109, 3) := dk_180 0 109 (dk_at dksX10_fit_0 5 rfl rfl)
theorem dX10_fit_8 : decode cX10_fit 8 = .ok (.iconst 2, 1) := dk_5 (dk_at dksX10_fit_0 8 rfl rfl)
theorem dX10_fit_9 : decode cX10_fit 9 = .ok (.irem, 1) := dk_112 (dk_at dksX10_fit_0 9 rfl rfl)
theorem dX10_fit_10 : decode cX10_fit 10 = .ok (.ifCond .ne 7, 3) := dk_154 0 7 (dk_at dksX10_fit_0 10 rfl rfl)
theorem dX10_fit_13 : decode cX10_fit 13 = .ok (.iconst 1, 1) := dk_4 (dk_at dksX10_fit_0 13 rfl rfl)
theorem dX10_fit_14 : decode cX10_fit 14 = .ok (.goto 4, 3) := dk_167 0 4 (dk_at dksX10_fit_0 14 rfl rfl)
theorem dX10_fit_17 : decode cX10_fit 17 = .ok (.iconst 0, 1) := dk_3 (dk_at dksX10_fit_0 17 rfl rfl)
theorem dX10_fit_18 : decode cX10_fit 18 = .ok (.istore_n 1, 1) := dk_60 (dk_at dksX10_fit_0 18 rfl rfl)
theorem dX10_fit_19 : decode cX10_fit 19 = .ok (.iconst 0, 1) := dk_3 (dk_at dksX10_fit_0 19 rfl rfl)
theorem dX10_fit_20 : decode cX10_fit 20 = .ok (.istore_n 2, 1) := dk_61 (dk_at dksX10_fit_0 20 rfl rfl)
theorem dX10_fit_21 : decode cX10_fit 21 = .ok (.iload_n 2, 1) := dk_28 (dk_at dksX10_fit_0 21 rfl rfl)
theorem dX10_fit_22 : decode cX10_fit 22 = .ok (.iconst 1, 1) := dk_4 (dk_at dksX10_fit_0 22 rfl rfl)
theorem dX10_fit_23 : decode cX10_fit 23 = .ok (.iadd, 1) := dk_96 (dk_at dksX10_fit_0 23 rfl rfl)
theorem dX10_fit_24 : decode cX10_fit 24 = .ok (.aload_n 0, 1) := dk_42 (dk_at dksX10_fit_1 0 rfl rfl)
theorem dX10_fit_25 : decode cX10_fit 25 = .ok (.getfield 109, 3) := dk_180 0 109 (dk_at dksX10_fit_1 1 rfl rfl)
theorem dX10_fit_28 : decode cX10_fit 28 = .ok (.if_icmp .ge 49, 3) := dk_162 0 49 (dk_at dksX10_fit_1 4 rfl rfl)
theorem dX10_fit_31 : decode cX10_fit 31 = .ok (.iload_n 1, 1) := dk_27 (dk_at dksX10_fit_1 7 rfl rfl)
theorem dX10_fit_32 : decode cX10_fit 32 = .ok (.ifCond .eq 45, 3) := dk_153 0 45 (dk_at dksX10_fit_1 8 rfl rfl)
theorem dX10_fit_35 : decode cX10_fit 35 = .ok (.aload_n 0, 1) := dk_42 (dk_at dksX10_fit_1 11 rfl rfl)
theorem dX10_fit_36 : decode cX10_fit 36 = .ok (.aload_n 0, 1) := dk_42 (dk_at dksX10_fit_1 12 rfl rfl)
theorem dX10_fit_37 : decode cX10_fit 37 = .ok (.getfield 26, 3) := dk_180 0 26 (dk_at dksX10_fit_1 13 rfl rfl)
theorem dX10_fit_40 : decode cX10_fit 40 = .ok (.iload_n 2, 1) := dk_28 (dk_at dksX10_fit_1 16 rfl rfl)
theorem dX10_fit_41 : decode cX10_fit 41 = .ok (.baload, 1) := dk_51 (dk_at dksX10_fit_1 17 rfl rfl)
theorem dX10_fit_42 : decode cX10_fit 42 = .ok (.invokevirtual 356, 3) := dk_182 1 100 (dk_at dksX10_fit_1 18 rfl rfl)
theorem dX10_fit_45 : decode cX10_fit 45 = .ok (.ifCond .ne 24, 3) := dk_154 0 24 (dk_at dksX10_fit_1 21 rfl rfl)
theorem dX10_fit_48 : decode cX10_fit 48 = .ok (.aload_n 0, 1) := dk_42 (dk_at dksX10_fit_2 0 rfl rfl)
theorem dX10_fit_49 : decode cX10_fit 49 = .ok (.getfield 26, 3) := dk_180 0 26 (dk_at dksX10_fit_2 1 rfl rfl)
theorem dX10_fit_52 : decode cX10_fit 52 = .ok (.iload_n 2, 1) := dk_28 (dk_at dksX10_fit_2 4 rfl rfl)
theorem dX10_fit_53 : decode cX10_fit 53 = .ok (.iconst 1, 1) := dk_4 (dk_at dksX10_fit_2 5 rfl rfl)
theorem dX10_fit_54 : decode cX10_fit 54 = .ok (.iadd, 1) := dk_96 (dk_at dksX10_fit_2 6 rfl rfl)
theorem dX10_fit_55 : decode cX10_fit 55 = .ok (.baload, 1) := dk_51 (dk_at dksX10_fit_2 7 rfl rfl)
theorem dX10_fit_56 : decode cX10_fit 56 = .ok (.iconst 0, 1) := dk_3 (dk_at dksX10_fit_2 8 rfl rfl)
theorem dX10_fit_57 : decode cX10_fit 57 = .ok (.bipush 20, 2) := dk_16 20 (dk_at dksX10_fit_2 9 rfl rfl)
theorem dX10_fit_59 : decode cX10_fit 59 = .ok (.invokestatic 90, 3) := dk_184 0 90 (dk_at dksX10_fit_2 11 rfl rfl)
theorem dX10_fit_62 : decode cX10_fit 62 = .ok (.ifCond .eq 7, 3) := dk_153 0 7 (dk_at dksX10_fit_2 14 rfl rfl)
theorem dX10_fit_65 : decode cX10_fit 65 = .ok (.iconst 1, 1) := dk_4 (dk_at dksX10_fit_2 17 rfl rfl)
theorem dX10_fit_66 : decode cX10_fit 66 = .ok (.goto 4, 3) := dk_167 0 4 (dk_at dksX10_fit_2 18 rfl rfl)
theorem dX10_fit_69 : decode cX10_fit 69 = .ok (.iconst 0, 1) := dk_3 (dk_at dksX10_fit_2 21 rfl rfl)
theorem dX10_fit_70 : decode cX10_fit 70 = .ok (.istore_n 1, 1) := dk_60 (dk_at dksX10_fit_2 22 rfl rfl)
theorem dX10_fit_71 : decode cX10_fit 71 = .ok (.iinc 2 2, 3) := dk_132 2 2 (dk_at dksX10_fit_3 0 rfl rfl)
theorem dX10_fit_74 : decode cX10_fit 74 = .ok (.goto (-53), 3) := dk_167 255 203 (dk_at dksX10_fit_3 3 rfl rfl)
theorem dX10_fit_77 : decode cX10_fit 77 = .ok (.aload_n 0, 1) := dk_42 (dk_at dksX10_fit_3 6 rfl rfl)
theorem dX10_fit_78 : decode cX10_fit 78 = .ok (.iload_n 1, 1) := dk_27 (dk_at dksX10_fit_3 7 rfl rfl)
theorem dX10_fit_79 : decode cX10_fit 79 = .ok (.ifCond .ne 7, 3) := dk_154 0 7 (dk_at dksX10_fit_3 8 rfl rfl)
theorem dX10_fit_82 : decode cX10_fit 82 = .ok (.iconst 1, 1) := dk_4 (dk_at dksX10_fit_3 11 rfl rfl)
theorem dX10_fit_83 : decode cX10_fit 83 = .ok (.goto 4, 3) := dk_167 0 4 (dk_at dksX10_fit_3 12 rfl rfl)
theorem dX10_fit_86 : decode cX10_fit 86 = .ok (.iconst 0, 1) := dk_3 (dk_at dksX10_fit_3 15 rfl rfl)
theorem dX10_fit_87 : decode cX10_fit 87 = .ok (.iconst 1, 1) := dk_4 (dk_at dksX10_fit_3 16 rfl rfl)
theorem dX10_fit_88 : decode cX10_fit 88 = .ok (.invokevirtual 300, 3) := dk_182 1 44 (dk_at dksX10_fit_3 17 rfl rfl)
theorem dX10_fit_91 : decode cX10_fit 91 = .ok (.ifCond .eq 5, 3) := dk_153 0 5 (dk_at dksX10_fit_3 20 rfl rfl)
theorem dX10_fit_94 : decode cX10_fit 94 = .ok (.iconst 0, 1) := dk_3 (dk_at dksX10_fit_3 23 rfl rfl)
theorem dX10_fit_95 : decode cX10_fit 95 = .ok (.ireturn, 1) := dk_172 (dk_at dksX10_fit_4 0 rfl rfl)
theorem dX10_fit_96 : decode cX10_fit 96 = .ok (.iconst 1, 1) := dk_4 (dk_at dksX10_fit_4 1 rfl rfl)
theorem dX10_fit_97 : decode cX10_fit 97 = .ok (.aload_n 0, 1) := dk_42 (dk_at dksX10_fit_4 2 rfl rfl)
theorem dX10_fit_98 : decode cX10_fit 98 = .ok (.getfield 13, 3) := dk_180 0 13 (dk_at dksX10_fit_4 3 rfl rfl)
theorem dX10_fit_101 : decode cX10_fit 101 = .ok (.bipush 6, 2) := dk_16 6 (dk_at dksX10_fit_4 6 rfl rfl)
theorem dX10_fit_103 : decode cX10_fit 103 = .ok (.iaload, 1) := dk_46 (dk_at dksX10_fit_4 8 rfl rfl)
theorem dX10_fit_104 : decode cX10_fit 104 = .ok (.ishl, 1) := dk_120 (dk_at dksX10_fit_4 9 rfl rfl)
theorem dX10_fit_105 : decode cX10_fit 105 = .ok (.iconst 1, 1) := dk_4 (dk_at dksX10_fit_4 10 rfl rfl)
theorem dX10_fit_106 : decode cX10_fit 106 = .ok (.isub, 1) := dk_100 (dk_at dksX10_fit_4 11 rfl rfl)
theorem dX10_fit_107 : decode cX10_fit 107 = .ok (.istore_n 2, 1) := dk_61 (dk_at dksX10_fit_4 12 rfl rfl)
theorem dX10_fit_108 : decode cX10_fit 108 = .ok (.iconst 0, 1) := dk_3 (dk_at dksX10_fit_4 13 rfl rfl)
theorem dX10_fit_109 : decode cX10_fit 109 = .ok (.istore_n 3, 1) := dk_62 (dk_at dksX10_fit_4 14 rfl rfl)
theorem dX10_fit_110 : decode cX10_fit 110 = .ok (.iload_n 3, 1) := dk_29 (dk_at dksX10_fit_4 15 rfl rfl)
theorem dX10_fit_111 : decode cX10_fit 111 = .ok (.aload_n 0, 1) := dk_42 (dk_at dksX10_fit_4 16 rfl rfl)
theorem dX10_fit_112 : decode cX10_fit 112 = .ok (.getfield 13, 3) := dk_180 0 13 (dk_at dksX10_fit_4 17 rfl rfl)
theorem dX10_fit_115 : decode cX10_fit 115 = .ok (.bipush 6, 2) := dk_16 6 (dk_at dksX10_fit_4 20 rfl rfl)
theorem dX10_fit_117 : decode cX10_fit 117 = .ok (.iaload, 1) := dk_46 (dk_at dksX10_fit_4 22 rfl rfl)
theorem dX10_fit_118 : decode cX10_fit 118 = .ok (.if_icmp .ge 59, 3) := dk_162 0 59 (dk_at dksX10_fit_5 0 rfl rfl)
theorem dX10_fit_121 : decode cX10_fit 121 = .ok (.iconst 0, 1) := dk_3 (dk_at dksX10_fit_5 3 rfl rfl)
theorem dX10_fit_122 : decode cX10_fit 122 = .ok (.istore 4, 2) := dk_54 4 (dk_at dksX10_fit_5 4 rfl rfl)
theorem dX10_fit_124 : decode cX10_fit 124 = .ok (.iload 4, 2) := dk_21 4 (dk_at dksX10_fit_5 6 rfl rfl)
theorem dX10_fit_126 : decode cX10_fit 126 = .ok (.aload_n 0, 1) := dk_42 (dk_at dksX10_fit_5 8 rfl rfl)
theorem dX10_fit_127 : decode cX10_fit 127 = .ok (.getfield 109, 3) := dk_180 0 109 (dk_at dksX10_fit_5 9 rfl rfl)
theorem dX10_fit_130 : decode cX10_fit 130 = .ok (.if_icmp .ge 41, 3) := dk_162 0 41 (dk_at dksX10_fit_5 12 rfl rfl)
theorem dX10_fit_133 : decode cX10_fit 133 = .ok (.aload_n 0, 1) := dk_42 (dk_at dksX10_fit_5 15 rfl rfl)
theorem dX10_fit_134 : decode cX10_fit 134 = .ok (.iload_n 3, 1) := dk_29 (dk_at dksX10_fit_5 16 rfl rfl)
theorem dX10_fit_135 : decode cX10_fit 135 = .ok (.aload_n 0, 1) := dk_42 (dk_at dksX10_fit_5 17 rfl rfl)
theorem dX10_fit_136 : decode cX10_fit 136 = .ok (.getfield 26, 3) := dk_180 0 26 (dk_at dksX10_fit_5 18 rfl rfl)
theorem dX10_fit_139 : decode cX10_fit 139 = .ok (.iload 4, 2) := dk_21 4 (dk_at dksX10_fit_5 21 rfl rfl)
theorem dX10_fit_141 : decode cX10_fit 141 = .ok (.baload, 1) := dk_51 (dk_at dksX10_fit_5 23 rfl rfl)
theorem dX10_fit_142 : decode cX10_fit 142 = .ok (.invokevirtual 451, 3) := dk_182 1 195 (dk_at dksX10_fit_6 0 rfl rfl)
theorem dX10_fit_145 : decode cX10_fit 145 = .ok (.aload_n 0, 1) := dk_42 (dk_at dksX10_fit_6 3 rfl rfl)
theorem dX10_fit_146 : decode cX10_fit 146 = .ok (.getfield 26, 3) := dk_180 0 26 (dk_at dksX10_fit_6 4 rfl rfl)
theorem dX10_fit_149 : decode cX10_fit 149 = .ok (.iload 4, 2) := dk_21 4 (dk_at dksX10_fit_6 7 rfl rfl)
theorem dX10_fit_151 : decode cX10_fit 151 = .ok (.iconst 1, 1) := dk_4 (dk_at dksX10_fit_6 9 rfl rfl)
theorem dX10_fit_152 : decode cX10_fit 152 = .ok (.iadd, 1) := dk_96 (dk_at dksX10_fit_6 10 rfl rfl)
theorem dX10_fit_153 : decode cX10_fit 153 = .ok (.baload, 1) := dk_51 (dk_at dksX10_fit_6 11 rfl rfl)
theorem dX10_fit_154 : decode cX10_fit 154 = .ok (.if_icmp .eq 11, 3) := dk_159 0 11 (dk_at dksX10_fit_6 12 rfl rfl)
theorem dX10_fit_157 : decode cX10_fit 157 = .ok (.iload_n 2, 1) := dk_28 (dk_at dksX10_fit_6 15 rfl rfl)
theorem dX10_fit_158 : decode cX10_fit 158 = .ok (.iconst 1, 1) := dk_4 (dk_at dksX10_fit_6 16 rfl rfl)
theorem dX10_fit_159 : decode cX10_fit 159 = .ok (.iload_n 3, 1) := dk_29 (dk_at dksX10_fit_6 17 rfl rfl)
theorem dX10_fit_160 : decode cX10_fit 160 = .ok (.ishl, 1) := dk_120 (dk_at dksX10_fit_6 18 rfl rfl)
theorem dX10_fit_161 : decode cX10_fit 161 = .ok (.iconst (-1), 1) := dk_2 (dk_at dksX10_fit_6 19 rfl rfl)
theorem dX10_fit_162 : decode cX10_fit 162 = .ok (.ixor, 1) := dk_130 (dk_at dksX10_fit_6 20 rfl rfl)
theorem dX10_fit_163 : decode cX10_fit 163 = .ok (.iand, 1) := dk_126 (dk_at dksX10_fit_6 21 rfl rfl)
theorem dX10_fit_164 : decode cX10_fit 164 = .ok (.istore_n 2, 1) := dk_61 (dk_at dksX10_fit_6 22 rfl rfl)
theorem dX10_fit_165 : decode cX10_fit 165 = .ok (.iinc 4 2, 3) := dk_132 4 2 (dk_at dksX10_fit_7 0 rfl rfl)
theorem dX10_fit_168 : decode cX10_fit 168 = .ok (.goto (-44), 3) := dk_167 255 212 (dk_at dksX10_fit_7 3 rfl rfl)
theorem dX10_fit_171 : decode cX10_fit 171 = .ok (.iinc 3 1, 3) := dk_132 3 1 (dk_at dksX10_fit_7 6 rfl rfl)
theorem dX10_fit_174 : decode cX10_fit 174 = .ok (.goto (-64), 3) := dk_167 255 192 (dk_at dksX10_fit_7 9 rfl rfl)
theorem dX10_fit_177 : decode cX10_fit 177 = .ok (.iload_n 2, 1) := dk_28 (dk_at dksX10_fit_7 12 rfl rfl)
theorem dX10_fit_178 : decode cX10_fit 178 = .ok (.ireturn, 1) := dk_172 (dk_at dksX10_fit_7 13 rfl rfl)
abbrev cX10_soonest : ByteArray := prog_20_method_121_code
def yX10_soonest : MethodName := ⟨RX10, "soonest", "(IIZ)I"⟩
def dkwX10_soonest_3 : List UInt8 := [155, 0, 7, 29, 154, 0, 8, 21, 4, 167, 0, 14, 42, 180, 0, 60, 28, 21, 4, 184, 1, 209, 46, 172]
abbrev dktX10_soonest_3 : List UInt8 := dkwX10_soonest_3 ++ []
def dkwX10_soonest_2 : List UInt8 := [182, 1, 44, 153, 0, 5, 3, 172, 42, 27, 182, 1, 215, 42, 28, 182, 1, 218, 54, 4, 21, 4]
abbrev dktX10_soonest_2 : List UInt8 := dkwX10_soonest_2 ++ dktX10_soonest_3
def dkwX10_soonest_1 : List UInt8 := [167, 0, 4, 3, 4, 182, 1, 44, 154, 0, 21, 42, 27, 28, 160, 0, 7, 4, 167, 0, 4, 3, 5]
abbrev dktX10_soonest_1 : List UInt8 := dkwX10_soonest_1 ++ dktX10_soonest_2
def dkwX10_soonest_0 : List UInt8 := [42, 3, 181, 0, 3, 42, 42, 27, 182, 1, 137, 154, 0, 11, 42, 28, 182, 1, 137, 153, 0, 7, 4]
abbrev dktX10_soonest_0 : List UInt8 := dkwX10_soonest_0 ++ dktX10_soonest_1
theorem dksX10_soonest_0 : cX10_soonest.data.toList.drop 0 = dktX10_soonest_0 := by decide +kernel
theorem dksX10_soonest_1 : cX10_soonest.data.toList.drop 23 = dktX10_soonest_1 := dk_seg dksX10_soonest_0 23 rfl rfl
theorem dksX10_soonest_2 : cX10_soonest.data.toList.drop 46 = dktX10_soonest_2 := dk_seg dksX10_soonest_1 23 rfl rfl
theorem dksX10_soonest_3 : cX10_soonest.data.toList.drop 68 = dktX10_soonest_3 := dk_seg dksX10_soonest_2 22 rfl rfl
theorem dX10_soonest_0 : decode cX10_soonest 0 = .ok (.aload_n 0, 1) := dk_42 (dk_at dksX10_soonest_0 0 rfl rfl)
theorem dX10_soonest_1 : decode cX10_soonest 1 = .ok (.iconst 0, 1) := dk_3 (dk_at dksX10_soonest_0 1 rfl rfl)
theorem dX10_soonest_2 : decode cX10_soonest 2 = .ok (.putfield 3, 3) := dk_181 0 3 (dk_at dksX10_soonest_0 2 rfl rfl)
theorem dX10_soonest_5 : decode cX10_soonest 5 = .ok (.aload_n 0, 1) := dk_42 (dk_at dksX10_soonest_0 5 rfl rfl)
theorem dX10_soonest_6 : decode cX10_soonest 6 = .ok (.aload_n 0, 1) := dk_42 (dk_at dksX10_soonest_0 6 rfl rfl)
theorem dX10_soonest_7 : decode cX10_soonest 7 = .ok (.iload_n 1, 1) := dk_27 (dk_at dksX10_soonest_0 7 rfl rfl)
theorem dX10_soonest_8 : decode cX10_soonest 8 = .ok (.invokevirtual 393, 3) := dk_182 1 137 (dk_at dksX10_soonest_0 8 rfl rfl)
theorem dX10_soonest_11 : decode cX10_soonest 11 = .ok (.ifCond .ne 11, 3) := dk_154 0 11 (dk_at dksX10_soonest_0 11 rfl rfl)
theorem dX10_soonest_14 : decode cX10_soonest 14 = .ok (.aload_n 0, 1) := dk_42 (dk_at dksX10_soonest_0 14 rfl rfl)
theorem dX10_soonest_15 : decode cX10_soonest 15 = .ok (.iload_n 2, 1) := dk_28 (dk_at dksX10_soonest_0 15 rfl rfl)
theorem dX10_soonest_16 : decode cX10_soonest 16 = .ok (.invokevirtual 393, 3) := dk_182 1 137 (dk_at dksX10_soonest_0 16 rfl rfl)
theorem dX10_soonest_19 : decode cX10_soonest 19 = .ok (.ifCond .eq 7, 3) := dk_153 0 7 (dk_at dksX10_soonest_0 19 rfl rfl)
theorem dX10_soonest_22 : decode cX10_soonest 22 = .ok (.iconst 1, 1) := dk_4 (dk_at dksX10_soonest_0 22 rfl rfl)
theorem dX10_soonest_23 : decode cX10_soonest 23 = .ok (.goto 4, 3) := dk_167 0 4 (dk_at dksX10_soonest_1 0 rfl rfl)
theorem dX10_soonest_26 : decode cX10_soonest 26 = .ok (.iconst 0, 1) := dk_3 (dk_at dksX10_soonest_1 3 rfl rfl)
theorem dX10_soonest_27 : decode cX10_soonest 27 = .ok (.iconst 1, 1) := dk_4 (dk_at dksX10_soonest_1 4 rfl rfl)
theorem dX10_soonest_28 : decode cX10_soonest 28 = .ok (.invokevirtual 300, 3) := dk_182 1 44 (dk_at dksX10_soonest_1 5 rfl rfl)
theorem dX10_soonest_31 : decode cX10_soonest 31 = .ok (.ifCond .ne 21, 3) := dk_154 0 21 (dk_at dksX10_soonest_1 8 rfl rfl)
theorem dX10_soonest_34 : decode cX10_soonest 34 = .ok (.aload_n 0, 1) := dk_42 (dk_at dksX10_soonest_1 11 rfl rfl)
theorem dX10_soonest_35 : decode cX10_soonest 35 = .ok (.iload_n 1, 1) := dk_27 (dk_at dksX10_soonest_1 12 rfl rfl)
theorem dX10_soonest_36 : decode cX10_soonest 36 = .ok (.iload_n 2, 1) := dk_28 (dk_at dksX10_soonest_1 13 rfl rfl)
theorem dX10_soonest_37 : decode cX10_soonest 37 = .ok (.if_icmp .ne 7, 3) := dk_160 0 7 (dk_at dksX10_soonest_1 14 rfl rfl)
theorem dX10_soonest_40 : decode cX10_soonest 40 = .ok (.iconst 1, 1) := dk_4 (dk_at dksX10_soonest_1 17 rfl rfl)
theorem dX10_soonest_41 : decode cX10_soonest 41 = .ok (.goto 4, 3) := dk_167 0 4 (dk_at dksX10_soonest_1 18 rfl rfl)
theorem dX10_soonest_44 : decode cX10_soonest 44 = .ok (.iconst 0, 1) := dk_3 (dk_at dksX10_soonest_1 21 rfl rfl)
theorem dX10_soonest_45 : decode cX10_soonest 45 = .ok (.iconst 2, 1) := dk_5 (dk_at dksX10_soonest_1 22 rfl rfl)
theorem dX10_soonest_46 : decode cX10_soonest 46 = .ok (.invokevirtual 300, 3) := dk_182 1 44 (dk_at dksX10_soonest_2 0 rfl rfl)
theorem dX10_soonest_49 : decode cX10_soonest 49 = .ok (.ifCond .eq 5, 3) := dk_153 0 5 (dk_at dksX10_soonest_2 3 rfl rfl)
theorem dX10_soonest_52 : decode cX10_soonest 52 = .ok (.iconst 0, 1) := dk_3 (dk_at dksX10_soonest_2 6 rfl rfl)
theorem dX10_soonest_53 : decode cX10_soonest 53 = .ok (.ireturn, 1) := dk_172 (dk_at dksX10_soonest_2 7 rfl rfl)
theorem dX10_soonest_54 : decode cX10_soonest 54 = .ok (.aload_n 0, 1) := dk_42 (dk_at dksX10_soonest_2 8 rfl rfl)
theorem dX10_soonest_55 : decode cX10_soonest 55 = .ok (.iload_n 1, 1) := dk_27 (dk_at dksX10_soonest_2 9 rfl rfl)
theorem dX10_soonest_56 : decode cX10_soonest 56 = .ok (.invokevirtual 471, 3) := dk_182 1 215 (dk_at dksX10_soonest_2 10 rfl rfl)
theorem dX10_soonest_59 : decode cX10_soonest 59 = .ok (.aload_n 0, 1) := dk_42 (dk_at dksX10_soonest_2 13 rfl rfl)
theorem dX10_soonest_60 : decode cX10_soonest 60 = .ok (.iload_n 2, 1) := dk_28 (dk_at dksX10_soonest_2 14 rfl rfl)
theorem dX10_soonest_61 : decode cX10_soonest 61 = .ok (.invokevirtual 474, 3) := dk_182 1 218 (dk_at dksX10_soonest_2 15 rfl rfl)
theorem dX10_soonest_64 : decode cX10_soonest 64 = .ok (.istore 4, 2) := dk_54 4 (dk_at dksX10_soonest_2 18 rfl rfl)
theorem dX10_soonest_66 : decode cX10_soonest 66 = .ok (.iload 4, 2) := dk_21 4 (dk_at dksX10_soonest_2 20 rfl rfl)
theorem dX10_soonest_68 : decode cX10_soonest 68 = .ok (.ifCond .lt 7, 3) := dk_155 0 7 (dk_at dksX10_soonest_3 0 rfl rfl)
theorem dX10_soonest_71 : decode cX10_soonest 71 = .ok (.iload_n 3, 1) := dk_29 (dk_at dksX10_soonest_3 3 rfl rfl)
theorem dX10_soonest_72 : decode cX10_soonest 72 = .ok (.ifCond .ne 8, 3) := dk_154 0 8 (dk_at dksX10_soonest_3 4 rfl rfl)
theorem dX10_soonest_75 : decode cX10_soonest 75 = .ok (.iload 4, 2) := dk_21 4 (dk_at dksX10_soonest_3 7 rfl rfl)
theorem dX10_soonest_77 : decode cX10_soonest 77 = .ok (.goto 14, 3) := dk_167 0 14 (dk_at dksX10_soonest_3 9 rfl rfl)
theorem dX10_soonest_80 : decode cX10_soonest 80 = .ok (.aload_n 0, 1) := dk_42 (dk_at dksX10_soonest_3 12 rfl rfl)
theorem dX10_soonest_81 : decode cX10_soonest 81 = .ok (.getfield 60, 3) := dk_180 0 60 (dk_at dksX10_soonest_3 13 rfl rfl)
theorem dX10_soonest_84 : decode cX10_soonest 84 = .ok (.iload_n 2, 1) := dk_28 (dk_at dksX10_soonest_3 16 rfl rfl)
theorem dX10_soonest_85 : decode cX10_soonest 85 = .ok (.iload 4, 2) := dk_21 4 (dk_at dksX10_soonest_3 17 rfl rfl)
theorem dX10_soonest_87 : decode cX10_soonest 87 = .ok (.invokestatic 465, 3) := dk_184 1 209 (dk_at dksX10_soonest_3 19 rfl rfl)
theorem dX10_soonest_90 : decode cX10_soonest 90 = .ok (.iaload, 1) := dk_46 (dk_at dksX10_soonest_3 22 rfl rfl)
theorem dX10_soonest_91 : decode cX10_soonest 91 = .ok (.ireturn, 1) := dk_172 (dk_at dksX10_soonest_3 23 rfl rfl)
abbrev cX10_answers : ByteArray := prog_20_method_119_code
def yX10_answers : MethodName := ⟨RX10, "answers", "(I)V"⟩
def dkwX10_answers_10 : List UInt8 := [132, 3, 1, 167, 255, 91, 132, 2, 1, 167, 255, 76, 177]
abbrev dktX10_answers_10 : List UInt8 := dkwX10_answers_10 ++ []
def dkwX10_answers_9 : List UInt8 := [21, 5, 4, 96, 184, 1, 209, 46, 21, 4, 4, 96, 184, 1, 89, 79, 132, 6, 1, 167, 255, 162]
abbrev dktX10_answers_9 : List UInt8 := dkwX10_answers_9 ++ dktX10_answers_10
def dkwX10_answers_8 : List UInt8 := [184, 1, 89, 79, 42, 180, 0, 57, 21, 6, 21, 5, 4, 96, 184, 1, 209, 42, 180, 0, 57, 21, 6]
abbrev dktX10_answers_8 : List UInt8 := dkwX10_answers_8 ++ dktX10_answers_9
def dkwX10_answers_7 : List UInt8 := [180, 0, 60, 21, 6, 21, 5, 184, 1, 209, 42, 180, 0, 60, 21, 6, 21, 5, 184, 1, 209, 46, 21, 4]
abbrev dktX10_answers_7 : List UInt8 := dkwX10_answers_7 ++ dktX10_answers_8
def dkwX10_answers_6 : List UInt8 := [162, 0, 91, 21, 5, 155, 0, 86, 42, 21, 6, 29, 182, 1, 212, 154, 0, 6, 167, 0, 67, 42]
abbrev dktX10_answers_6 : List UInt8 := dkwX10_answers_6 ++ dktX10_answers_7
def dkwX10_answers_5 : List UInt8 := [54, 5, 42, 180, 0, 63, 29, 28, 184, 1, 209, 21, 5, 79, 3, 54, 6, 21, 6, 42, 182, 0, 97]
abbrev dktX10_answers_5 : List UInt8 := dkwX10_answers_5 ++ dktX10_answers_6
def dkwX10_answers_4 : List UInt8 := [160, 0, 6, 167, 0, 134, 42, 42, 29, 3, 182, 1, 140, 42, 29, 4, 182, 1, 140, 28, 182, 1, 169]
abbrev dktX10_answers_4 : List UInt8 := dkwX10_answers_4 ++ dktX10_answers_5
def dkwX10_answers_3 : List UInt8 := [182, 0, 97, 162, 0, 163, 42, 180, 0, 57, 29, 28, 184, 1, 209, 46, 54, 4, 21, 4, 17, 3, 232]
abbrev dktX10_answers_3 : List UInt8 := dkwX10_answers_3 ++ dktX10_answers_4
def dkwX10_answers_2 : List UInt8 := [182, 0, 162, 184, 1, 209, 4, 79, 42, 182, 0, 162, 61, 28, 17, 1, 43, 163, 0, 179, 3, 62, 29, 42]
abbrev dktX10_answers_2 : List UInt8 := dkwX10_answers_2 ++ dktX10_answers_3
def dkwX10_answers_1 : List UInt8 := [28, 17, 3, 232, 79, 42, 180, 0, 63, 28, 2, 79, 132, 2, 1, 167, 255, 219, 42, 180, 0, 57, 27, 42]
abbrev dktX10_answers_1 : List UInt8 := dkwX10_answers_1 ++ dktX10_answers_2
def dkwX10_answers_0 : List UInt8 := [3, 61, 28, 42, 180, 0, 57, 190, 162, 0, 34, 42, 180, 0, 57, 28, 17, 3, 232, 79, 42, 180, 0, 60]
abbrev dktX10_answers_0 : List UInt8 := dkwX10_answers_0 ++ dktX10_answers_1
theorem dksX10_answers_0 : cX10_answers.data.toList.drop 0 = dktX10_answers_0 := by decide +kernel
theorem dksX10_answers_1 : cX10_answers.data.toList.drop 24 = dktX10_answers_1 := dk_seg dksX10_answers_0 24 rfl rfl
theorem dksX10_answers_2 : cX10_answers.data.toList.drop 48 = dktX10_answers_2 := dk_seg dksX10_answers_1 24 rfl rfl
theorem dksX10_answers_3 : cX10_answers.data.toList.drop 72 = dktX10_answers_3 := dk_seg dksX10_answers_2 24 rfl rfl
theorem dksX10_answers_4 : cX10_answers.data.toList.drop 95 = dktX10_answers_4 := dk_seg dksX10_answers_3 23 rfl rfl
theorem dksX10_answers_5 : cX10_answers.data.toList.drop 118 = dktX10_answers_5 := dk_seg dksX10_answers_4 23 rfl rfl
theorem dksX10_answers_6 : cX10_answers.data.toList.drop 141 = dktX10_answers_6 := dk_seg dksX10_answers_5 23 rfl rfl
theorem dksX10_answers_7 : cX10_answers.data.toList.drop 163 = dktX10_answers_7 := dk_seg dksX10_answers_6 22 rfl rfl
theorem dksX10_answers_8 : cX10_answers.data.toList.drop 187 = dktX10_answers_8 := dk_seg dksX10_answers_7 24 rfl rfl
theorem dksX10_answers_9 : cX10_answers.data.toList.drop 210 = dktX10_answers_9 := dk_seg dksX10_answers_8 23 rfl rfl
theorem dksX10_answers_10 : cX10_answers.data.toList.drop 232 = dktX10_answers_10 := dk_seg dksX10_answers_9 22 rfl rfl
theorem dX10_answers_0 : decode cX10_answers 0 = .ok (.iconst 0, 1) := dk_3 (dk_at dksX10_answers_0 0 rfl rfl)
theorem dX10_answers_1 : decode cX10_answers 1 = .ok (.istore_n 2, 1) := dk_61 (dk_at dksX10_answers_0 1 rfl rfl)
theorem dX10_answers_2 : decode cX10_answers 2 = .ok (.iload_n 2, 1) := dk_28 (dk_at dksX10_answers_0 2 rfl rfl)
theorem dX10_answers_3 : decode cX10_answers 3 = .ok (.aload_n 0, 1) := dk_42 (dk_at dksX10_answers_0 3 rfl rfl)
theorem dX10_answers_4 : decode cX10_answers 4 = .ok (.getfield 57, 3) := dk_180 0 57 (dk_at dksX10_answers_0 4 rfl rfl)
theorem dX10_answers_7 : decode cX10_answers 7 = .ok (.arraylength, 1) := dk_190 (dk_at dksX10_answers_0 7 rfl rfl)
theorem dX10_answers_8 : decode cX10_answers 8 = .ok (.if_icmp .ge 34, 3) := dk_162 0 34 (dk_at dksX10_answers_0 8 rfl rfl)
theorem dX10_answers_11 : decode cX10_answers 11 = .ok (.aload_n 0, 1) := dk_42 (dk_at dksX10_answers_0 11 rfl rfl)
theorem dX10_answers_12 : decode cX10_answers 12 = .ok (.getfield 57, 3) := dk_180 0 57 (dk_at dksX10_answers_0 12 rfl rfl)
theorem dX10_answers_15 : decode cX10_answers 15 = .ok (.iload_n 2, 1) := dk_28 (dk_at dksX10_answers_0 15 rfl rfl)
theorem dX10_answers_16 : decode cX10_answers 16 = .ok (.sipush 1000, 3) := dk_17 3 232 (dk_at dksX10_answers_0 16 rfl rfl)
theorem dX10_answers_19 : decode cX10_answers 19 = .ok (.iastore, 1) := dk_79 (dk_at dksX10_answers_0 19 rfl rfl)
theorem dX10_answers_20 : decode cX10_answers 20 = .ok (.aload_n 0, 1) := dk_42 (dk_at dksX10_answers_0 20 rfl rfl)
theorem dX10_answers_21 : decode cX10_answers 21 = .ok (.getfield 60, 3) := dk_180 0 60 (dk_at dksX10_answers_0 21 rfl rfl)
theorem dX10_answers_24 : decode cX10_answers 24 = .ok (.iload_n 2, 1) := dk_28 (dk_at dksX10_answers_1 0 rfl rfl)
theorem dX10_answers_25 : decode cX10_answers 25 = .ok (.sipush 1000, 3) := dk_17 3 232 (dk_at dksX10_answers_1 1 rfl rfl)
theorem dX10_answers_28 : decode cX10_answers 28 = .ok (.iastore, 1) := dk_79 (dk_at dksX10_answers_1 4 rfl rfl)
theorem dX10_answers_29 : decode cX10_answers 29 = .ok (.aload_n 0, 1) := dk_42 (dk_at dksX10_answers_1 5 rfl rfl)
theorem dX10_answers_30 : decode cX10_answers 30 = .ok (.getfield 63, 3) := dk_180 0 63 (dk_at dksX10_answers_1 6 rfl rfl)
theorem dX10_answers_33 : decode cX10_answers 33 = .ok (.iload_n 2, 1) := dk_28 (dk_at dksX10_answers_1 9 rfl rfl)
theorem dX10_answers_34 : decode cX10_answers 34 = .ok (.iconst (-1), 1) := dk_2 (dk_at dksX10_answers_1 10 rfl rfl)
theorem dX10_answers_35 : decode cX10_answers 35 = .ok (.iastore, 1) := dk_79 (dk_at dksX10_answers_1 11 rfl rfl)
theorem dX10_answers_36 : decode cX10_answers 36 = .ok (.iinc 2 1, 3) := dk_132 2 1 (dk_at dksX10_answers_1 12 rfl rfl)
theorem dX10_answers_39 : decode cX10_answers 39 = .ok (.goto (-37), 3) := dk_167 255 219 (dk_at dksX10_answers_1 15 rfl rfl)
theorem dX10_answers_42 : decode cX10_answers 42 = .ok (.aload_n 0, 1) := dk_42 (dk_at dksX10_answers_1 18 rfl rfl)
theorem dX10_answers_43 : decode cX10_answers 43 = .ok (.getfield 57, 3) := dk_180 0 57 (dk_at dksX10_answers_1 19 rfl rfl)
theorem dX10_answers_46 : decode cX10_answers 46 = .ok (.iload_n 1, 1) := dk_27 (dk_at dksX10_answers_1 22 rfl rfl)
theorem dX10_answers_47 : decode cX10_answers 47 = .ok (.aload_n 0, 1) := dk_42 (dk_at dksX10_answers_1 23 rfl rfl)
theorem dX10_answers_48 : decode cX10_answers 48 = .ok (.invokevirtual 162, 3) := dk_182 0 162 (dk_at dksX10_answers_2 0 rfl rfl)
theorem dX10_answers_51 : decode cX10_answers 51 = .ok (.invokestatic 465, 3) := dk_184 1 209 (dk_at dksX10_answers_2 3 rfl rfl)
theorem dX10_answers_54 : decode cX10_answers 54 = .ok (.iconst 1, 1) := dk_4 (dk_at dksX10_answers_2 6 rfl rfl)
theorem dX10_answers_55 : decode cX10_answers 55 = .ok (.iastore, 1) := dk_79 (dk_at dksX10_answers_2 7 rfl rfl)
theorem dX10_answers_56 : decode cX10_answers 56 = .ok (.aload_n 0, 1) := dk_42 (dk_at dksX10_answers_2 8 rfl rfl)
theorem dX10_answers_57 : decode cX10_answers 57 = .ok (.invokevirtual 162, 3) := dk_182 0 162 (dk_at dksX10_answers_2 9 rfl rfl)
theorem dX10_answers_60 : decode cX10_answers 60 = .ok (.istore_n 2, 1) := dk_61 (dk_at dksX10_answers_2 12 rfl rfl)
theorem dX10_answers_61 : decode cX10_answers 61 = .ok (.iload_n 2, 1) := dk_28 (dk_at dksX10_answers_2 13 rfl rfl)
theorem dX10_answers_62 : decode cX10_answers 62 = .ok (.sipush 299, 3) := dk_17 1 43 (dk_at dksX10_answers_2 14 rfl rfl)
theorem dX10_answers_65 : decode cX10_answers 65 = .ok (.if_icmp .gt 179, 3) := dk_163 0 179 (dk_at dksX10_answers_2 17 rfl rfl)
theorem dX10_answers_68 : decode cX10_answers 68 = .ok (.iconst 0, 1) := dk_3 (dk_at dksX10_answers_2 20 rfl rfl)
theorem dX10_answers_69 : decode cX10_answers 69 = .ok (.istore_n 3, 1) := dk_62 (dk_at dksX10_answers_2 21 rfl rfl)
theorem dX10_answers_70 : decode cX10_answers 70 = .ok (.iload_n 3, 1) := dk_29 (dk_at dksX10_answers_2 22 rfl rfl)
theorem dX10_answers_71 : decode cX10_answers 71 = .ok (.aload_n 0, 1) := dk_42 (dk_at dksX10_answers_2 23 rfl rfl)
theorem dX10_answers_72 : decode cX10_answers 72 = .ok (.invokevirtual 97, 3) := dk_182 0 97 (dk_at dksX10_answers_3 0 rfl rfl)
theorem dX10_answers_75 : decode cX10_answers 75 = .ok (.if_icmp .ge 163, 3) := dk_162 0 163 (dk_at dksX10_answers_3 3 rfl rfl)
theorem dX10_answers_78 : decode cX10_answers 78 = .ok (.aload_n 0, 1) := dk_42 (dk_at dksX10_answers_3 6 rfl rfl)
theorem dX10_answers_79 : decode cX10_answers 79 = .ok (.getfield 57, 3) := dk_180 0 57 (dk_at dksX10_answers_3 7 rfl rfl)
theorem dX10_answers_82 : decode cX10_answers 82 = .ok (.iload_n 3, 1) := dk_29 (dk_at dksX10_answers_3 10 rfl rfl)
theorem dX10_answers_83 : decode cX10_answers 83 = .ok (.iload_n 2, 1) := dk_28 (dk_at dksX10_answers_3 11 rfl rfl)
theorem dX10_answers_84 : decode cX10_answers 84 = .ok (.invokestatic 465, 3) := dk_184 1 209 (dk_at dksX10_answers_3 12 rfl rfl)
theorem dX10_answers_87 : decode cX10_answers 87 = .ok (.iaload, 1) := dk_46 (dk_at dksX10_answers_3 15 rfl rfl)
theorem dX10_answers_88 : decode cX10_answers 88 = .ok (.istore 4, 2) := dk_54 4 (dk_at dksX10_answers_3 16 rfl rfl)
theorem dX10_answers_90 : decode cX10_answers 90 = .ok (.iload 4, 2) := dk_21 4 (dk_at dksX10_answers_3 18 rfl rfl)
theorem dX10_answers_92 : decode cX10_answers 92 = .ok (.sipush 1000, 3) := dk_17 3 232 (dk_at dksX10_answers_3 20 rfl rfl)
theorem dX10_answers_95 : decode cX10_answers 95 = .ok (.if_icmp .ne 6, 3) := dk_160 0 6 (dk_at dksX10_answers_4 0 rfl rfl)
theorem dX10_answers_98 : decode cX10_answers 98 = .ok (.goto 134, 3) := dk_167 0 134 (dk_at dksX10_answers_4 3 rfl rfl)
theorem dX10_answers_101 : decode cX10_answers 101 = .ok (.aload_n 0, 1) := dk_42 (dk_at dksX10_answers_4 6 rfl rfl)
theorem dX10_answers_102 : decode cX10_answers 102 = .ok (.aload_n 0, 1) := dk_42 (dk_at dksX10_answers_4 7 rfl rfl)
theorem dX10_answers_103 : decode cX10_answers 103 = .ok (.iload_n 3, 1) := dk_29 (dk_at dksX10_answers_4 8 rfl rfl)
theorem dX10_answers_104 : decode cX10_answers 104 = .ok (.iconst 0, 1) := dk_3 (dk_at dksX10_answers_4 9 rfl rfl)
theorem dX10_answers_105 : decode cX10_answers 105 = .ok (.invokevirtual 396, 3) := dk_182 1 140 (dk_at dksX10_answers_4 10 rfl rfl)
theorem dX10_answers_108 : decode cX10_answers 108 = .ok (.aload_n 0, 1) := dk_42 (dk_at dksX10_answers_4 13 rfl rfl)
theorem dX10_answers_109 : decode cX10_answers 109 = .ok (.iload_n 3, 1) := dk_29 (dk_at dksX10_answers_4 14 rfl rfl)
theorem dX10_answers_110 : decode cX10_answers 110 = .ok (.iconst 1, 1) := dk_4 (dk_at dksX10_answers_4 15 rfl rfl)
theorem dX10_answers_111 : decode cX10_answers 111 = .ok (.invokevirtual 396, 3) := dk_182 1 140 (dk_at dksX10_answers_4 16 rfl rfl)
theorem dX10_answers_114 : decode cX10_answers 114 = .ok (.iload_n 2, 1) := dk_28 (dk_at dksX10_answers_4 19 rfl rfl)
theorem dX10_answers_115 : decode cX10_answers 115 = .ok (.invokevirtual 425, 3) := dk_182 1 169 (dk_at dksX10_answers_4 20 rfl rfl)
theorem dX10_answers_118 : decode cX10_answers 118 = .ok (.istore 5, 2) := dk_54 5 (dk_at dksX10_answers_5 0 rfl rfl)
theorem dX10_answers_120 : decode cX10_answers 120 = .ok (.aload_n 0, 1) := dk_42 (dk_at dksX10_answers_5 2 rfl rfl)
theorem dX10_answers_121 : decode cX10_answers 121 = .ok (.getfield 63, 3) := dk_180 0 63 (dk_at dksX10_answers_5 3 rfl rfl)
theorem dX10_answers_124 : decode cX10_answers 124 = .ok (.iload_n 3, 1) := dk_29 (dk_at dksX10_answers_5 6 rfl rfl)
theorem dX10_answers_125 : decode cX10_answers 125 = .ok (.iload_n 2, 1) := dk_28 (dk_at dksX10_answers_5 7 rfl rfl)
theorem dX10_answers_126 : decode cX10_answers 126 = .ok (.invokestatic 465, 3) := dk_184 1 209 (dk_at dksX10_answers_5 8 rfl rfl)
theorem dX10_answers_129 : decode cX10_answers 129 = .ok (.iload 5, 2) := dk_21 5 (dk_at dksX10_answers_5 11 rfl rfl)
theorem dX10_answers_131 : decode cX10_answers 131 = .ok (.iastore, 1) := dk_79 (dk_at dksX10_answers_5 13 rfl rfl)
theorem dX10_answers_132 : decode cX10_answers 132 = .ok (.iconst 0, 1) := dk_3 (dk_at dksX10_answers_5 14 rfl rfl)
theorem dX10_answers_133 : decode cX10_answers 133 = .ok (.istore 6, 2) := dk_54 6 (dk_at dksX10_answers_5 15 rfl rfl)
theorem dX10_answers_135 : decode cX10_answers 135 = .ok (.iload 6, 2) := dk_21 6 (dk_at dksX10_answers_5 17 rfl rfl)
theorem dX10_answers_137 : decode cX10_answers 137 = .ok (.aload_n 0, 1) := dk_42 (dk_at dksX10_answers_5 19 rfl rfl)
theorem dX10_answers_138 : decode cX10_answers 138 = .ok (.invokevirtual 97, 3) := dk_182 0 97 (dk_at dksX10_answers_5 20 rfl rfl)
theorem dX10_answers_141 : decode cX10_answers 141 = .ok (.if_icmp .ge 91, 3) := dk_162 0 91 (dk_at dksX10_answers_6 0 rfl rfl)
theorem dX10_answers_144 : decode cX10_answers 144 = .ok (.iload 5, 2) := dk_21 5 (dk_at dksX10_answers_6 3 rfl rfl)
theorem dX10_answers_146 : decode cX10_answers 146 = .ok (.ifCond .lt 86, 3) := dk_155 0 86 (dk_at dksX10_answers_6 5 rfl rfl)
theorem dX10_answers_149 : decode cX10_answers 149 = .ok (.aload_n 0, 1) := dk_42 (dk_at dksX10_answers_6 8 rfl rfl)
theorem dX10_answers_150 : decode cX10_answers 150 = .ok (.iload 6, 2) := dk_21 6 (dk_at dksX10_answers_6 9 rfl rfl)
theorem dX10_answers_152 : decode cX10_answers 152 = .ok (.iload_n 3, 1) := dk_29 (dk_at dksX10_answers_6 11 rfl rfl)
theorem dX10_answers_153 : decode cX10_answers 153 = .ok (.invokevirtual 468, 3) := dk_182 1 212 (dk_at dksX10_answers_6 12 rfl rfl)
theorem dX10_answers_156 : decode cX10_answers 156 = .ok (.ifCond .ne 6, 3) := dk_154 0 6 (dk_at dksX10_answers_6 15 rfl rfl)
theorem dX10_answers_159 : decode cX10_answers 159 = .ok (.goto 67, 3) := dk_167 0 67 (dk_at dksX10_answers_6 18 rfl rfl)
theorem dX10_answers_162 : decode cX10_answers 162 = .ok (.aload_n 0, 1) := dk_42 (dk_at dksX10_answers_6 21 rfl rfl)
theorem dX10_answers_163 : decode cX10_answers 163 = .ok (.getfield 60, 3) := dk_180 0 60 (dk_at dksX10_answers_7 0 rfl rfl)
theorem dX10_answers_166 : decode cX10_answers 166 = .ok (.iload 6, 2) := dk_21 6 (dk_at dksX10_answers_7 3 rfl rfl)
theorem dX10_answers_168 : decode cX10_answers 168 = .ok (.iload 5, 2) := dk_21 5 (dk_at dksX10_answers_7 5 rfl rfl)
theorem dX10_answers_170 : decode cX10_answers 170 = .ok (.invokestatic 465, 3) := dk_184 1 209 (dk_at dksX10_answers_7 7 rfl rfl)
theorem dX10_answers_173 : decode cX10_answers 173 = .ok (.aload_n 0, 1) := dk_42 (dk_at dksX10_answers_7 10 rfl rfl)
theorem dX10_answers_174 : decode cX10_answers 174 = .ok (.getfield 60, 3) := dk_180 0 60 (dk_at dksX10_answers_7 11 rfl rfl)
theorem dX10_answers_177 : decode cX10_answers 177 = .ok (.iload 6, 2) := dk_21 6 (dk_at dksX10_answers_7 14 rfl rfl)
theorem dX10_answers_179 : decode cX10_answers 179 = .ok (.iload 5, 2) := dk_21 5 (dk_at dksX10_answers_7 16 rfl rfl)
theorem dX10_answers_181 : decode cX10_answers 181 = .ok (.invokestatic 465, 3) := dk_184 1 209 (dk_at dksX10_answers_7 18 rfl rfl)
theorem dX10_answers_184 : decode cX10_answers 184 = .ok (.iaload, 1) := dk_46 (dk_at dksX10_answers_7 21 rfl rfl)
theorem dX10_answers_185 : decode cX10_answers 185 = .ok (.iload 4, 2) := dk_21 4 (dk_at dksX10_answers_7 22 rfl rfl)
theorem dX10_answers_187 : decode cX10_answers 187 = .ok (.invokestatic 345, 3) := dk_184 1 89 (dk_at dksX10_answers_8 0 rfl rfl)
theorem dX10_answers_190 : decode cX10_answers 190 = .ok (.iastore, 1) := dk_79 (dk_at dksX10_answers_8 3 rfl rfl)
theorem dX10_answers_191 : decode cX10_answers 191 = .ok (.aload_n 0, 1) := dk_42 (dk_at dksX10_answers_8 4 rfl rfl)
theorem dX10_answers_192 : decode cX10_answers 192 = .ok (.getfield 57, 3) := dk_180 0 57 (dk_at dksX10_answers_8 5 rfl rfl)
theorem dX10_answers_195 : decode cX10_answers 195 = .ok (.iload 6, 2) := dk_21 6 (dk_at dksX10_answers_8 8 rfl rfl)
theorem dX10_answers_197 : decode cX10_answers 197 = .ok (.iload 5, 2) := dk_21 5 (dk_at dksX10_answers_8 10 rfl rfl)
theorem dX10_answers_199 : decode cX10_answers 199 = .ok (.iconst 1, 1) := dk_4 (dk_at dksX10_answers_8 12 rfl rfl)
theorem dX10_answers_200 : decode cX10_answers 200 = .ok (.iadd, 1) := dk_96 (dk_at dksX10_answers_8 13 rfl rfl)
theorem dX10_answers_201 : decode cX10_answers 201 = .ok (.invokestatic 465, 3) := dk_184 1 209 (dk_at dksX10_answers_8 14 rfl rfl)
theorem dX10_answers_204 : decode cX10_answers 204 = .ok (.aload_n 0, 1) := dk_42 (dk_at dksX10_answers_8 17 rfl rfl)
theorem dX10_answers_205 : decode cX10_answers 205 = .ok (.getfield 57, 3) := dk_180 0 57 (dk_at dksX10_answers_8 18 rfl rfl)
theorem dX10_answers_208 : decode cX10_answers 208 = .ok (.iload 6, 2) := dk_21 6 (dk_at dksX10_answers_8 21 rfl rfl)
theorem dX10_answers_210 : decode cX10_answers 210 = .ok (.iload 5, 2) := dk_21 5 (dk_at dksX10_answers_9 0 rfl rfl)
theorem dX10_answers_212 : decode cX10_answers 212 = .ok (.iconst 1, 1) := dk_4 (dk_at dksX10_answers_9 2 rfl rfl)
theorem dX10_answers_213 : decode cX10_answers 213 = .ok (.iadd, 1) := dk_96 (dk_at dksX10_answers_9 3 rfl rfl)
theorem dX10_answers_214 : decode cX10_answers 214 = .ok (.invokestatic 465, 3) := dk_184 1 209 (dk_at dksX10_answers_9 4 rfl rfl)
theorem dX10_answers_217 : decode cX10_answers 217 = .ok (.iaload, 1) := dk_46 (dk_at dksX10_answers_9 7 rfl rfl)
theorem dX10_answers_218 : decode cX10_answers 218 = .ok (.iload 4, 2) := dk_21 4 (dk_at dksX10_answers_9 8 rfl rfl)
theorem dX10_answers_220 : decode cX10_answers 220 = .ok (.iconst 1, 1) := dk_4 (dk_at dksX10_answers_9 10 rfl rfl)
theorem dX10_answers_221 : decode cX10_answers 221 = .ok (.iadd, 1) := dk_96 (dk_at dksX10_answers_9 11 rfl rfl)
theorem dX10_answers_222 : decode cX10_answers 222 = .ok (.invokestatic 345, 3) := dk_184 1 89 (dk_at dksX10_answers_9 12 rfl rfl)
theorem dX10_answers_225 : decode cX10_answers 225 = .ok (.iastore, 1) := dk_79 (dk_at dksX10_answers_9 15 rfl rfl)
theorem dX10_answers_226 : decode cX10_answers 226 = .ok (.iinc 6 1, 3) := dk_132 6 1 (dk_at dksX10_answers_9 16 rfl rfl)
theorem dX10_answers_229 : decode cX10_answers 229 = .ok (.goto (-94), 3) := dk_167 255 162 (dk_at dksX10_answers_9 19 rfl rfl)
theorem dX10_answers_232 : decode cX10_answers 232 = .ok (.iinc 3 1, 3) := dk_132 3 1 (dk_at dksX10_answers_10 0 rfl rfl)
theorem dX10_answers_235 : decode cX10_answers 235 = .ok (.goto (-165), 3) := dk_167 255 91 (dk_at dksX10_answers_10 3 rfl rfl)
theorem dX10_answers_238 : decode cX10_answers 238 = .ok (.iinc 2 1, 3) := dk_132 2 1 (dk_at dksX10_answers_10 6 rfl rfl)
theorem dX10_answers_241 : decode cX10_answers 241 = .ok (.goto (-180), 3) := dk_167 255 76 (dk_at dksX10_answers_10 9 rfl rfl)
theorem dX10_answers_244 : decode cX10_answers 244 = .ok (.return_, 1) := dk_177 (dk_at dksX10_answers_10 12 rfl rfl)
abbrev cX10_at : ByteArray := prog_20_method_117_code
def yX10_at : MethodName := ⟨RX10, "at", "(II)I"⟩
def dkwX10_at_0 : List UInt8 := [17, 1, 45, 26, 104, 27, 96, 172]
abbrev dktX10_at_0 : List UInt8 := dkwX10_at_0 ++ []
theorem dksX10_at_0 : cX10_at.data.toList.drop 0 = dktX10_at_0 := by decide +kernel
theorem dX10_at_0 : decode cX10_at 0 = .ok (.sipush 301, 3) := dk_17 1 45 (dk_at dksX10_at_0 0 rfl rfl)
theorem dX10_at_3 : decode cX10_at 3 = .ok (.iload_n 0, 1) := dk_26 (dk_at dksX10_at_0 3 rfl rfl)
theorem dX10_at_4 : decode cX10_at 4 = .ok (.imul, 1) := dk_104 (dk_at dksX10_at_0 4 rfl rfl)
theorem dX10_at_5 : decode cX10_at 5 = .ok (.iload_n 1, 1) := dk_27 (dk_at dksX10_at_0 5 rfl rfl)
theorem dX10_at_6 : decode cX10_at 6 = .ok (.iadd, 1) := dk_96 (dk_at dksX10_at_0 6 rfl rfl)
theorem dX10_at_7 : decode cX10_at 7 = .ok (.ireturn, 1) := dk_172 (dk_at dksX10_at_0 7 rfl rfl)
abbrev cX10_isWatching : ByteArray := prog_20_method_118_code
def yX10_isWatching : MethodName := ⟨RX10, "isWatching", "(II)Z"⟩
def dkwX10_isWatching_0 : List UInt8 := [42, 27, 5, 182, 1, 140, 42, 28, 3, 182, 1, 140, 160, 0, 7, 4, 167, 0, 4, 3, 172]
abbrev dktX10_isWatching_0 : List UInt8 := dkwX10_isWatching_0 ++ []
theorem dksX10_isWatching_0 : cX10_isWatching.data.toList.drop 0 = dktX10_isWatching_0 := by decide +kernel
theorem dX10_isWatching_0 : decode cX10_isWatching 0 = .ok (.aload_n 0, 1) := dk_42 (dk_at dksX10_isWatching_0 0 rfl rfl)
theorem dX10_isWatching_1 : decode cX10_isWatching 1 = .ok (.iload_n 1, 1) := dk_27 (dk_at dksX10_isWatching_0 1 rfl rfl)
theorem dX10_isWatching_2 : decode cX10_isWatching 2 = .ok (.iconst 2, 1) := dk_5 (dk_at dksX10_isWatching_0 2 rfl rfl)
theorem dX10_isWatching_3 : decode cX10_isWatching 3 = .ok (.invokevirtual 396, 3) := dk_182 1 140 (dk_at dksX10_isWatching_0 3 rfl rfl)
theorem dX10_isWatching_6 : decode cX10_isWatching 6 = .ok (.aload_n 0, 1) := dk_42 (dk_at dksX10_isWatching_0 6 rfl rfl)
theorem dX10_isWatching_7 : decode cX10_isWatching 7 = .ok (.iload_n 2, 1) := dk_28 (dk_at dksX10_isWatching_0 7 rfl rfl)
theorem dX10_isWatching_8 : decode cX10_isWatching 8 = .ok (.iconst 0, 1) := dk_3 (dk_at dksX10_isWatching_0 8 rfl rfl)
theorem dX10_isWatching_9 : decode cX10_isWatching 9 = .ok (.invokevirtual 396, 3) := dk_182 1 140 (dk_at dksX10_isWatching_0 9 rfl rfl)
theorem dX10_isWatching_12 : decode cX10_isWatching 12 = .ok (.if_icmp .ne 7, 3) := dk_160 0 7 (dk_at dksX10_isWatching_0 12 rfl rfl)
theorem dX10_isWatching_15 : decode cX10_isWatching 15 = .ok (.iconst 1, 1) := dk_4 (dk_at dksX10_isWatching_0 15 rfl rfl)
theorem dX10_isWatching_16 : decode cX10_isWatching 16 = .ok (.goto 4, 3) := dk_167 0 4 (dk_at dksX10_isWatching_0 16 rfl rfl)
theorem dX10_isWatching_19 : decode cX10_isWatching 19 = .ok (.iconst 0, 1) := dk_3 (dk_at dksX10_isWatching_0 19 rfl rfl)
theorem dX10_isWatching_20 : decode cX10_isWatching 20 = .ok (.ireturn, 1) := dk_172 (dk_at dksX10_isWatching_0 20 rfl rfl)
abbrev cX10_hasIn : ByteArray := prog_20_method_120_code
def yX10_hasIn : MethodName := ⟨RX10, "hasIn", "(I)I"⟩
def dkwX10_hasIn_1 : List UInt8 := [162, 0, 5, 28, 172, 132, 2, 1, 167, 255, 228, 2, 172]
abbrev dktX10_hasIn_1 : List UInt8 := dkwX10_hasIn_1 ++ []
def dkwX10_hasIn_0 : List UInt8 := [3, 61, 28, 17, 1, 44, 162, 0, 27, 42, 180, 0, 60, 27, 28, 184, 1, 209, 46, 17, 3, 232]
abbrev dktX10_hasIn_0 : List UInt8 := dkwX10_hasIn_0 ++ dktX10_hasIn_1
theorem dksX10_hasIn_0 : cX10_hasIn.data.toList.drop 0 = dktX10_hasIn_0 := by decide +kernel
theorem dksX10_hasIn_1 : cX10_hasIn.data.toList.drop 22 = dktX10_hasIn_1 := dk_seg dksX10_hasIn_0 22 rfl rfl
theorem dX10_hasIn_0 : decode cX10_hasIn 0 = .ok (.iconst 0, 1) := dk_3 (dk_at dksX10_hasIn_0 0 rfl rfl)
theorem dX10_hasIn_1 : decode cX10_hasIn 1 = .ok (.istore_n 2, 1) := dk_61 (dk_at dksX10_hasIn_0 1 rfl rfl)
theorem dX10_hasIn_2 : decode cX10_hasIn 2 = .ok (.iload_n 2, 1) := dk_28 (dk_at dksX10_hasIn_0 2 rfl rfl)
theorem dX10_hasIn_3 : decode cX10_hasIn 3 = .ok (.sipush 300, 3) := dk_17 1 44 (dk_at dksX10_hasIn_0 3 rfl rfl)
theorem dX10_hasIn_6 : decode cX10_hasIn 6 = .ok (.if_icmp .ge 27, 3) := dk_162 0 27 (dk_at dksX10_hasIn_0 6 rfl rfl)
theorem dX10_hasIn_9 : decode cX10_hasIn 9 = .ok (.aload_n 0, 1) := dk_42 (dk_at dksX10_hasIn_0 9 rfl rfl)
theorem dX10_hasIn_10 : decode cX10_hasIn 10 = .ok (.getfield 60, 3) := dk_180 0 60 (dk_at dksX10_hasIn_0 10 rfl rfl)
theorem dX10_hasIn_13 : decode cX10_hasIn 13 = .ok (.iload_n 1, 1) := dk_27 (dk_at dksX10_hasIn_0 13 rfl rfl)
theorem dX10_hasIn_14 : decode cX10_hasIn 14 = .ok (.iload_n 2, 1) := dk_28 (dk_at dksX10_hasIn_0 14 rfl rfl)
theorem dX10_hasIn_15 : decode cX10_hasIn 15 = .ok (.invokestatic 465, 3) := dk_184 1 209 (dk_at dksX10_hasIn_0 15 rfl rfl)
theorem dX10_hasIn_18 : decode cX10_hasIn 18 = .ok (.iaload, 1) := dk_46 (dk_at dksX10_hasIn_0 18 rfl rfl)
theorem dX10_hasIn_19 : decode cX10_hasIn 19 = .ok (.sipush 1000, 3) := dk_17 3 232 (dk_at dksX10_hasIn_0 19 rfl rfl)
theorem dX10_hasIn_22 : decode cX10_hasIn 22 = .ok (.if_icmp .ge 5, 3) := dk_162 0 5 (dk_at dksX10_hasIn_1 0 rfl rfl)
theorem dX10_hasIn_25 : decode cX10_hasIn 25 = .ok (.iload_n 2, 1) := dk_28 (dk_at dksX10_hasIn_1 3 rfl rfl)
theorem dX10_hasIn_26 : decode cX10_hasIn 26 = .ok (.ireturn, 1) := dk_172 (dk_at dksX10_hasIn_1 4 rfl rfl)
theorem dX10_hasIn_27 : decode cX10_hasIn 27 = .ok (.iinc 2 1, 3) := dk_132 2 1 (dk_at dksX10_hasIn_1 5 rfl rfl)
theorem dX10_hasIn_30 : decode cX10_hasIn 30 = .ok (.goto (-28), 3) := dk_167 255 228 (dk_at dksX10_hasIn_1 8 rfl rfl)
theorem dX10_hasIn_33 : decode cX10_hasIn 33 = .ok (.iconst (-1), 1) := dk_2 (dk_at dksX10_hasIn_1 11 rfl rfl)
theorem dX10_hasIn_34 : decode cX10_hasIn 34 = .ok (.ireturn, 1) := dk_172 (dk_at dksX10_hasIn_1 12 rfl rfl)
abbrev cX10_chain : ByteArray := prog_20_method_123_code
def yX10_chain : MethodName := ⟨RX10, "chain", "(III)I"⟩
def dkwX10_chain_6 : List UInt8 := [167, 255, 227, 21, 5, 172]
abbrev dktX10_chain_6 : List UInt8 := dkwX10_chain_6 ++ []
def dkwX10_chain_5 : List UInt8 := [21, 5, 21, 4, 21, 6, 182, 1, 224, 54, 5, 42, 180, 1, 221, 4, 100, 54, 4, 132, 6, 255]
abbrev dktX10_chain_5 : List UInt8 := dkwX10_chain_5 ++ dktX10_chain_6
def dkwX10_chain_4 : List UInt8 := [28, 54, 5, 42, 180, 0, 60, 28, 21, 4, 184, 1, 209, 46, 54, 6, 21, 6, 29, 164, 0, 29, 42]
abbrev dktX10_chain_4 : List UInt8 := dkwX10_chain_4 ++ dktX10_chain_5
def dkwX10_chain_3 : List UInt8 := [54, 4, 21, 4, 155, 0, 18, 29, 42, 180, 0, 60, 28, 21, 4, 184, 1, 209, 46, 164, 0, 5, 2, 172]
abbrev dktX10_chain_3 : List UInt8 := dkwX10_chain_3 ++ dktX10_chain_4
def dkwX10_chain_2 : List UInt8 := [167, 0, 4, 3, 5, 182, 1, 44, 153, 0, 5, 3, 172, 42, 27, 182, 1, 215, 42, 28, 182, 1, 218]
abbrev dktX10_chain_2 : List UInt8 := dkwX10_chain_2 ++ dktX10_chain_3
def dkwX10_chain_1 : List UInt8 := [167, 0, 4, 3, 4, 182, 1, 44, 154, 0, 25, 42, 27, 28, 159, 0, 7, 29, 156, 0, 7, 4]
abbrev dktX10_chain_1 : List UInt8 := dkwX10_chain_1 ++ dktX10_chain_2
def dkwX10_chain_0 : List UInt8 := [42, 3, 181, 0, 3, 42, 42, 27, 182, 1, 137, 154, 0, 11, 42, 28, 182, 1, 137, 153, 0, 7, 4]
abbrev dktX10_chain_0 : List UInt8 := dkwX10_chain_0 ++ dktX10_chain_1
theorem dksX10_chain_0 : cX10_chain.data.toList.drop 0 = dktX10_chain_0 := by decide +kernel
theorem dksX10_chain_1 : cX10_chain.data.toList.drop 23 = dktX10_chain_1 := dk_seg dksX10_chain_0 23 rfl rfl
theorem dksX10_chain_2 : cX10_chain.data.toList.drop 45 = dktX10_chain_2 := dk_seg dksX10_chain_1 22 rfl rfl
theorem dksX10_chain_3 : cX10_chain.data.toList.drop 68 = dktX10_chain_3 := dk_seg dksX10_chain_2 23 rfl rfl
theorem dksX10_chain_4 : cX10_chain.data.toList.drop 92 = dktX10_chain_4 := dk_seg dksX10_chain_3 24 rfl rfl
theorem dksX10_chain_5 : cX10_chain.data.toList.drop 115 = dktX10_chain_5 := dk_seg dksX10_chain_4 23 rfl rfl
theorem dksX10_chain_6 : cX10_chain.data.toList.drop 137 = dktX10_chain_6 := dk_seg dksX10_chain_5 22 rfl rfl
theorem dX10_chain_0 : decode cX10_chain 0 = .ok (.aload_n 0, 1) := dk_42 (dk_at dksX10_chain_0 0 rfl rfl)
theorem dX10_chain_1 : decode cX10_chain 1 = .ok (.iconst 0, 1) := dk_3 (dk_at dksX10_chain_0 1 rfl rfl)
theorem dX10_chain_2 : decode cX10_chain 2 = .ok (.putfield 3, 3) := dk_181 0 3 (dk_at dksX10_chain_0 2 rfl rfl)
theorem dX10_chain_5 : decode cX10_chain 5 = .ok (.aload_n 0, 1) := dk_42 (dk_at dksX10_chain_0 5 rfl rfl)
theorem dX10_chain_6 : decode cX10_chain 6 = .ok (.aload_n 0, 1) := dk_42 (dk_at dksX10_chain_0 6 rfl rfl)
theorem dX10_chain_7 : decode cX10_chain 7 = .ok (.iload_n 1, 1) := dk_27 (dk_at dksX10_chain_0 7 rfl rfl)
theorem dX10_chain_8 : decode cX10_chain 8 = .ok (.invokevirtual 393, 3) := dk_182 1 137 (dk_at dksX10_chain_0 8 rfl rfl)
theorem dX10_chain_11 : decode cX10_chain 11 = .ok (.ifCond .ne 11, 3) := dk_154 0 11 (dk_at dksX10_chain_0 11 rfl rfl)
theorem dX10_chain_14 : decode cX10_chain 14 = .ok (.aload_n 0, 1) := dk_42 (dk_at dksX10_chain_0 14 rfl rfl)
theorem dX10_chain_15 : decode cX10_chain 15 = .ok (.iload_n 2, 1) := dk_28 (dk_at dksX10_chain_0 15 rfl rfl)
theorem dX10_chain_16 : decode cX10_chain 16 = .ok (.invokevirtual 393, 3) := dk_182 1 137 (dk_at dksX10_chain_0 16 rfl rfl)
theorem dX10_chain_19 : decode cX10_chain 19 = .ok (.ifCond .eq 7, 3) := dk_153 0 7 (dk_at dksX10_chain_0 19 rfl rfl)
theorem dX10_chain_22 : decode cX10_chain 22 = .ok (.iconst 1, 1) := dk_4 (dk_at dksX10_chain_0 22 rfl rfl)
theorem dX10_chain_23 : decode cX10_chain 23 = .ok (.goto 4, 3) := dk_167 0 4 (dk_at dksX10_chain_1 0 rfl rfl)
theorem dX10_chain_26 : decode cX10_chain 26 = .ok (.iconst 0, 1) := dk_3 (dk_at dksX10_chain_1 3 rfl rfl)
theorem dX10_chain_27 : decode cX10_chain 27 = .ok (.iconst 1, 1) := dk_4 (dk_at dksX10_chain_1 4 rfl rfl)
theorem dX10_chain_28 : decode cX10_chain 28 = .ok (.invokevirtual 300, 3) := dk_182 1 44 (dk_at dksX10_chain_1 5 rfl rfl)
theorem dX10_chain_31 : decode cX10_chain 31 = .ok (.ifCond .ne 25, 3) := dk_154 0 25 (dk_at dksX10_chain_1 8 rfl rfl)
theorem dX10_chain_34 : decode cX10_chain 34 = .ok (.aload_n 0, 1) := dk_42 (dk_at dksX10_chain_1 11 rfl rfl)
theorem dX10_chain_35 : decode cX10_chain 35 = .ok (.iload_n 1, 1) := dk_27 (dk_at dksX10_chain_1 12 rfl rfl)
theorem dX10_chain_36 : decode cX10_chain 36 = .ok (.iload_n 2, 1) := dk_28 (dk_at dksX10_chain_1 13 rfl rfl)
theorem dX10_chain_37 : decode cX10_chain 37 = .ok (.if_icmp .eq 7, 3) := dk_159 0 7 (dk_at dksX10_chain_1 14 rfl rfl)
theorem dX10_chain_40 : decode cX10_chain 40 = .ok (.iload_n 3, 1) := dk_29 (dk_at dksX10_chain_1 17 rfl rfl)
theorem dX10_chain_41 : decode cX10_chain 41 = .ok (.ifCond .ge 7, 3) := dk_156 0 7 (dk_at dksX10_chain_1 18 rfl rfl)
theorem dX10_chain_44 : decode cX10_chain 44 = .ok (.iconst 1, 1) := dk_4 (dk_at dksX10_chain_1 21 rfl rfl)
theorem dX10_chain_45 : decode cX10_chain 45 = .ok (.goto 4, 3) := dk_167 0 4 (dk_at dksX10_chain_2 0 rfl rfl)
theorem dX10_chain_48 : decode cX10_chain 48 = .ok (.iconst 0, 1) := dk_3 (dk_at dksX10_chain_2 3 rfl rfl)
theorem dX10_chain_49 : decode cX10_chain 49 = .ok (.iconst 2, 1) := dk_5 (dk_at dksX10_chain_2 4 rfl rfl)
theorem dX10_chain_50 : decode cX10_chain 50 = .ok (.invokevirtual 300, 3) := dk_182 1 44 (dk_at dksX10_chain_2 5 rfl rfl)
theorem dX10_chain_53 : decode cX10_chain 53 = .ok (.ifCond .eq 5, 3) := dk_153 0 5 (dk_at dksX10_chain_2 8 rfl rfl)
theorem dX10_chain_56 : decode cX10_chain 56 = .ok (.iconst 0, 1) := dk_3 (dk_at dksX10_chain_2 11 rfl rfl)
theorem dX10_chain_57 : decode cX10_chain 57 = .ok (.ireturn, 1) := dk_172 (dk_at dksX10_chain_2 12 rfl rfl)
theorem dX10_chain_58 : decode cX10_chain 58 = .ok (.aload_n 0, 1) := dk_42 (dk_at dksX10_chain_2 13 rfl rfl)
theorem dX10_chain_59 : decode cX10_chain 59 = .ok (.iload_n 1, 1) := dk_27 (dk_at dksX10_chain_2 14 rfl rfl)
theorem dX10_chain_60 : decode cX10_chain 60 = .ok (.invokevirtual 471, 3) := dk_182 1 215 (dk_at dksX10_chain_2 15 rfl rfl)
theorem dX10_chain_63 : decode cX10_chain 63 = .ok (.aload_n 0, 1) := dk_42 (dk_at dksX10_chain_2 18 rfl rfl)
theorem dX10_chain_64 : decode cX10_chain 64 = .ok (.iload_n 2, 1) := dk_28 (dk_at dksX10_chain_2 19 rfl rfl)
theorem dX10_chain_65 : decode cX10_chain 65 = .ok (.invokevirtual 474, 3) := dk_182 1 218 (dk_at dksX10_chain_2 20 rfl rfl)
theorem dX10_chain_68 : decode cX10_chain 68 = .ok (.istore 4, 2) := dk_54 4 (dk_at dksX10_chain_3 0 rfl rfl)
theorem dX10_chain_70 : decode cX10_chain 70 = .ok (.iload 4, 2) := dk_21 4 (dk_at dksX10_chain_3 2 rfl rfl)
theorem dX10_chain_72 : decode cX10_chain 72 = .ok (.ifCond .lt 18, 3) := dk_155 0 18 (dk_at dksX10_chain_3 4 rfl rfl)
theorem dX10_chain_75 : decode cX10_chain 75 = .ok (.iload_n 3, 1) := dk_29 (dk_at dksX10_chain_3 7 rfl rfl)
theorem dX10_chain_76 : decode cX10_chain 76 = .ok (.aload_n 0, 1) := dk_42 (dk_at dksX10_chain_3 8 rfl rfl)
theorem dX10_chain_77 : decode cX10_chain 77 = .ok (.getfield 60, 3) := dk_180 0 60 (dk_at dksX10_chain_3 9 rfl rfl)
theorem dX10_chain_80 : decode cX10_chain 80 = .ok (.iload_n 2, 1) := dk_28 (dk_at dksX10_chain_3 12 rfl rfl)
theorem dX10_chain_81 : decode cX10_chain 81 = .ok (.iload 4, 2) := dk_21 4 (dk_at dksX10_chain_3 13 rfl rfl)
theorem dX10_chain_83 : decode cX10_chain 83 = .ok (.invokestatic 465, 3) := dk_184 1 209 (dk_at dksX10_chain_3 15 rfl rfl)
theorem dX10_chain_86 : decode cX10_chain 86 = .ok (.iaload, 1) := dk_46 (dk_at dksX10_chain_3 18 rfl rfl)
theorem dX10_chain_87 : decode cX10_chain 87 = .ok (.if_icmp .le 5, 3) := dk_164 0 5 (dk_at dksX10_chain_3 19 rfl rfl)
theorem dX10_chain_90 : decode cX10_chain 90 = .ok (.iconst (-1), 1) := dk_2 (dk_at dksX10_chain_3 22 rfl rfl)
theorem dX10_chain_91 : decode cX10_chain 91 = .ok (.ireturn, 1) := dk_172 (dk_at dksX10_chain_3 23 rfl rfl)
theorem dX10_chain_92 : decode cX10_chain 92 = .ok (.iload_n 2, 1) := dk_28 (dk_at dksX10_chain_4 0 rfl rfl)
theorem dX10_chain_93 : decode cX10_chain 93 = .ok (.istore 5, 2) := dk_54 5 (dk_at dksX10_chain_4 1 rfl rfl)
theorem dX10_chain_95 : decode cX10_chain 95 = .ok (.aload_n 0, 1) := dk_42 (dk_at dksX10_chain_4 3 rfl rfl)
theorem dX10_chain_96 : decode cX10_chain 96 = .ok (.getfield 60, 3) := dk_180 0 60 (dk_at dksX10_chain_4 4 rfl rfl)
theorem dX10_chain_99 : decode cX10_chain 99 = .ok (.iload_n 2, 1) := dk_28 (dk_at dksX10_chain_4 7 rfl rfl)
theorem dX10_chain_100 : decode cX10_chain 100 = .ok (.iload 4, 2) := dk_21 4 (dk_at dksX10_chain_4 8 rfl rfl)
theorem dX10_chain_102 : decode cX10_chain 102 = .ok (.invokestatic 465, 3) := dk_184 1 209 (dk_at dksX10_chain_4 10 rfl rfl)
theorem dX10_chain_105 : decode cX10_chain 105 = .ok (.iaload, 1) := dk_46 (dk_at dksX10_chain_4 13 rfl rfl)
theorem dX10_chain_106 : decode cX10_chain 106 = .ok (.istore 6, 2) := dk_54 6 (dk_at dksX10_chain_4 14 rfl rfl)
theorem dX10_chain_108 : decode cX10_chain 108 = .ok (.iload 6, 2) := dk_21 6 (dk_at dksX10_chain_4 16 rfl rfl)
theorem dX10_chain_110 : decode cX10_chain 110 = .ok (.iload_n 3, 1) := dk_29 (dk_at dksX10_chain_4 18 rfl rfl)
theorem dX10_chain_111 : decode cX10_chain 111 = .ok (.if_icmp .le 29, 3) := dk_164 0 29 (dk_at dksX10_chain_4 19 rfl rfl)
theorem dX10_chain_114 : decode cX10_chain 114 = .ok (.aload_n 0, 1) := dk_42 (dk_at dksX10_chain_4 22 rfl rfl)
theorem dX10_chain_115 : decode cX10_chain 115 = .ok (.iload 5, 2) := dk_21 5 (dk_at dksX10_chain_5 0 rfl rfl)
theorem dX10_chain_117 : decode cX10_chain 117 = .ok (.iload 4, 2) := dk_21 4 (dk_at dksX10_chain_5 2 rfl rfl)
theorem dX10_chain_119 : decode cX10_chain 119 = .ok (.iload 6, 2) := dk_21 6 (dk_at dksX10_chain_5 4 rfl rfl)
theorem dX10_chain_121 : decode cX10_chain 121 = .ok (.invokevirtual 480, 3) := dk_182 1 224 (dk_at dksX10_chain_5 6 rfl rfl)
theorem dX10_chain_124 : decode cX10_chain 124 = .ok (.istore 5, 2) := dk_54 5 (dk_at dksX10_chain_5 9 rfl rfl)
theorem dX10_chain_126 : decode cX10_chain 126 = .ok (.aload_n 0, 1) := dk_42 (dk_at dksX10_chain_5 11 rfl rfl)
theorem dX10_chain_127 : decode cX10_chain 127 = .ok (.getfield 477, 3) := dk_180 1 221 (dk_at dksX10_chain_5 12 rfl rfl)
theorem dX10_chain_130 : decode cX10_chain 130 = .ok (.iconst 1, 1) := dk_4 (dk_at dksX10_chain_5 15 rfl rfl)
theorem dX10_chain_131 : decode cX10_chain 131 = .ok (.isub, 1) := dk_100 (dk_at dksX10_chain_5 16 rfl rfl)
theorem dX10_chain_132 : decode cX10_chain 132 = .ok (.istore 4, 2) := dk_54 4 (dk_at dksX10_chain_5 17 rfl rfl)
theorem dX10_chain_134 : decode cX10_chain 134 = .ok (.iinc 6 (-1), 3) := dk_132 6 255 (dk_at dksX10_chain_5 19 rfl rfl)
theorem dX10_chain_137 : decode cX10_chain 137 = .ok (.goto (-29), 3) := dk_167 255 227 (dk_at dksX10_chain_6 0 rfl rfl)
theorem dX10_chain_140 : decode cX10_chain 140 = .ok (.iload 5, 2) := dk_21 5 (dk_at dksX10_chain_6 3 rfl rfl)
theorem dX10_chain_142 : decode cX10_chain 142 = .ok (.ireturn, 1) := dk_172 (dk_at dksX10_chain_6 5 rfl rfl)
abbrev cX10_thrower : ByteArray := prog_20_method_122_code
def yX10_thrower : MethodName := ⟨RX10, "thrower", "(III)I"⟩
def dkwX10_thrower_3 : List UInt8 := [21, 5, 181, 1, 221, 21, 4, 172, 132, 5, 1, 167, 255, 193, 132, 4, 1, 167, 255, 172, 2, 172]
abbrev dktX10_thrower_3 : List UInt8 := dkwX10_thrower_3 ++ []
def dkwX10_thrower_2 : List UInt8 := [160, 0, 31, 42, 180, 0, 63, 21, 4, 21, 5, 184, 1, 209, 46, 28, 159, 0, 6, 167, 0, 12, 42]
abbrev dktX10_thrower_2 : List UInt8 := dkwX10_thrower_2 ++ dktX10_thrower_3
def dkwX10_thrower_1 : List UInt8 := [42, 27, 21, 4, 182, 1, 212, 153, 0, 47, 42, 180, 0, 57, 21, 4, 21, 5, 184, 1, 209, 46, 29]
abbrev dktX10_thrower_1 : List UInt8 := dkwX10_thrower_1 ++ dktX10_thrower_2
def dkwX10_thrower_0 : List UInt8 := [3, 54, 4, 21, 4, 42, 182, 0, 97, 162, 0, 81, 42, 182, 0, 162, 54, 5, 21, 5, 28, 162, 0, 63]
abbrev dktX10_thrower_0 : List UInt8 := dkwX10_thrower_0 ++ dktX10_thrower_1
theorem dksX10_thrower_0 : cX10_thrower.data.toList.drop 0 = dktX10_thrower_0 := by decide +kernel
theorem dksX10_thrower_1 : cX10_thrower.data.toList.drop 24 = dktX10_thrower_1 := dk_seg dksX10_thrower_0 24 rfl rfl
theorem dksX10_thrower_2 : cX10_thrower.data.toList.drop 47 = dktX10_thrower_2 := dk_seg dksX10_thrower_1 23 rfl rfl
theorem dksX10_thrower_3 : cX10_thrower.data.toList.drop 70 = dktX10_thrower_3 := dk_seg dksX10_thrower_2 23 rfl rfl
theorem dX10_thrower_0 : decode cX10_thrower 0 = .ok (.iconst 0, 1) := dk_3 (dk_at dksX10_thrower_0 0 rfl rfl)
theorem dX10_thrower_1 : decode cX10_thrower 1 = .ok (.istore 4, 2) := dk_54 4 (dk_at dksX10_thrower_0 1 rfl rfl)
theorem dX10_thrower_3 : decode cX10_thrower 3 = .ok (.iload 4, 2) := dk_21 4 (dk_at dksX10_thrower_0 3 rfl rfl)
theorem dX10_thrower_5 : decode cX10_thrower 5 = .ok (.aload_n 0, 1) := dk_42 (dk_at dksX10_thrower_0 5 rfl rfl)
theorem dX10_thrower_6 : decode cX10_thrower 6 = .ok (.invokevirtual 97, 3) := dk_182 0 97 (dk_at dksX10_thrower_0 6 rfl rfl)
theorem dX10_thrower_9 : decode cX10_thrower 9 = .ok (.if_icmp .ge 81, 3) := dk_162 0 81 (dk_at dksX10_thrower_0 9 rfl rfl)
theorem dX10_thrower_12 : decode cX10_thrower 12 = .ok (.aload_n 0, 1) := dk_42 (dk_at dksX10_thrower_0 12 rfl rfl)
theorem dX10_thrower_13 : decode cX10_thrower 13 = .ok (.invokevirtual 162, 3) := dk_182 0 162 (dk_at dksX10_thrower_0 13 rfl rfl)
theorem dX10_thrower_16 : decode cX10_thrower 16 = .ok (.istore 5, 2) := dk_54 5 (dk_at dksX10_thrower_0 16 rfl rfl)
theorem dX10_thrower_18 : decode cX10_thrower 18 = .ok (.iload 5, 2) := dk_21 5 (dk_at dksX10_thrower_0 18 rfl rfl)
theorem dX10_thrower_20 : decode cX10_thrower 20 = .ok (.iload_n 2, 1) := dk_28 (dk_at dksX10_thrower_0 20 rfl rfl)
theorem dX10_thrower_21 : decode cX10_thrower 21 = .ok (.if_icmp .ge 63, 3) := dk_162 0 63 (dk_at dksX10_thrower_0 21 rfl rfl)
theorem dX10_thrower_24 : decode cX10_thrower 24 = .ok (.aload_n 0, 1) := dk_42 (dk_at dksX10_thrower_1 0 rfl rfl)
theorem dX10_thrower_25 : decode cX10_thrower 25 = .ok (.iload_n 1, 1) := dk_27 (dk_at dksX10_thrower_1 1 rfl rfl)
theorem dX10_thrower_26 : decode cX10_thrower 26 = .ok (.iload 4, 2) := dk_21 4 (dk_at dksX10_thrower_1 2 rfl rfl)
theorem dX10_thrower_28 : decode cX10_thrower 28 = .ok (.invokevirtual 468, 3) := dk_182 1 212 (dk_at dksX10_thrower_1 4 rfl rfl)
theorem dX10_thrower_31 : decode cX10_thrower 31 = .ok (.ifCond .eq 47, 3) := dk_153 0 47 (dk_at dksX10_thrower_1 7 rfl rfl)
theorem dX10_thrower_34 : decode cX10_thrower 34 = .ok (.aload_n 0, 1) := dk_42 (dk_at dksX10_thrower_1 10 rfl rfl)
theorem dX10_thrower_35 : decode cX10_thrower 35 = .ok (.getfield 57, 3) := dk_180 0 57 (dk_at dksX10_thrower_1 11 rfl rfl)
theorem dX10_thrower_38 : decode cX10_thrower 38 = .ok (.iload 4, 2) := dk_21 4 (dk_at dksX10_thrower_1 14 rfl rfl)
theorem dX10_thrower_40 : decode cX10_thrower 40 = .ok (.iload 5, 2) := dk_21 5 (dk_at dksX10_thrower_1 16 rfl rfl)
theorem dX10_thrower_42 : decode cX10_thrower 42 = .ok (.invokestatic 465, 3) := dk_184 1 209 (dk_at dksX10_thrower_1 18 rfl rfl)
theorem dX10_thrower_45 : decode cX10_thrower 45 = .ok (.iaload, 1) := dk_46 (dk_at dksX10_thrower_1 21 rfl rfl)
theorem dX10_thrower_46 : decode cX10_thrower 46 = .ok (.iload_n 3, 1) := dk_29 (dk_at dksX10_thrower_1 22 rfl rfl)
theorem dX10_thrower_47 : decode cX10_thrower 47 = .ok (.if_icmp .ne 31, 3) := dk_160 0 31 (dk_at dksX10_thrower_2 0 rfl rfl)
theorem dX10_thrower_50 : decode cX10_thrower 50 = .ok (.aload_n 0, 1) := dk_42 (dk_at dksX10_thrower_2 3 rfl rfl)
theorem dX10_thrower_51 : decode cX10_thrower 51 = .ok (.getfield 63, 3) := dk_180 0 63 (dk_at dksX10_thrower_2 4 rfl rfl)
theorem dX10_thrower_54 : decode cX10_thrower 54 = .ok (.iload 4, 2) := dk_21 4 (dk_at dksX10_thrower_2 7 rfl rfl)
theorem dX10_thrower_56 : decode cX10_thrower 56 = .ok (.iload 5, 2) := dk_21 5 (dk_at dksX10_thrower_2 9 rfl rfl)
theorem dX10_thrower_58 : decode cX10_thrower 58 = .ok (.invokestatic 465, 3) := dk_184 1 209 (dk_at dksX10_thrower_2 11 rfl rfl)
theorem dX10_thrower_61 : decode cX10_thrower 61 = .ok (.iaload, 1) := dk_46 (dk_at dksX10_thrower_2 14 rfl rfl)
theorem dX10_thrower_62 : decode cX10_thrower 62 = .ok (.iload_n 2, 1) := dk_28 (dk_at dksX10_thrower_2 15 rfl rfl)
theorem dX10_thrower_63 : decode cX10_thrower 63 = .ok (.if_icmp .eq 6, 3) := dk_159 0 6 (dk_at dksX10_thrower_2 16 rfl rfl)
theorem dX10_thrower_66 : decode cX10_thrower 66 = .ok (.goto 12, 3) := dk_167 0 12 (dk_at dksX10_thrower_2 19 rfl rfl)
theorem dX10_thrower_69 : decode cX10_thrower 69 = .ok (.aload_n 0, 1) := dk_42 (dk_at dksX10_thrower_2 22 rfl rfl)
theorem dX10_thrower_70 : decode cX10_thrower 70 = .ok (.iload 5, 2) := dk_21 5 (dk_at dksX10_thrower_3 0 rfl rfl)
theorem dX10_thrower_72 : decode cX10_thrower 72 = .ok (.putfield 477, 3) := dk_181 1 221 (dk_at dksX10_thrower_3 2 rfl rfl)
theorem dX10_thrower_75 : decode cX10_thrower 75 = .ok (.iload 4, 2) := dk_21 4 (dk_at dksX10_thrower_3 5 rfl rfl)
theorem dX10_thrower_77 : decode cX10_thrower 77 = .ok (.ireturn, 1) := dk_172 (dk_at dksX10_thrower_3 7 rfl rfl)
theorem dX10_thrower_78 : decode cX10_thrower 78 = .ok (.iinc 5 1, 3) := dk_132 5 1 (dk_at dksX10_thrower_3 8 rfl rfl)
theorem dX10_thrower_81 : decode cX10_thrower 81 = .ok (.goto (-63), 3) := dk_167 255 193 (dk_at dksX10_thrower_3 11 rfl rfl)
theorem dX10_thrower_84 : decode cX10_thrower 84 = .ok (.iinc 4 1, 3) := dk_132 4 1 (dk_at dksX10_thrower_3 14 rfl rfl)
theorem dX10_thrower_87 : decode cX10_thrower 87 = .ok (.goto (-84), 3) := dk_167 255 172 (dk_at dksX10_thrower_3 17 rfl rfl)
theorem dX10_thrower_90 : decode cX10_thrower 90 = .ok (.iconst (-1), 1) := dk_2 (dk_at dksX10_thrower_3 20 rfl rfl)
theorem dX10_thrower_91 : decode cX10_thrower 91 = .ok (.ireturn, 1) := dk_172 (dk_at dksX10_thrower_3 21 rfl rfl)
abbrev cX10_reached : ByteArray := prog_20_method_124_code
def yX10_reached : MethodName := ⟨RX10, "reached", "(II)I"⟩
def dkwX10_reached_3 : List UInt8 := [163, 0, 10, 4, 21, 4, 120, 167, 0, 4, 3, 128, 62, 132, 4, 1, 167, 255, 214, 29, 172]
abbrev dktX10_reached_3 : List UInt8 := dkwX10_reached_3 ++ []
def dkwX10_reached_2 : List UInt8 := [182, 0, 97, 162, 0, 39, 42, 21, 4, 182, 1, 218, 54, 5, 29, 21, 5, 155, 0, 16, 21, 5, 28]
abbrev dktX10_reached_2 : List UInt8 := dkwX10_reached_2 ++ dktX10_reached_3
def dkwX10_reached_1 : List UInt8 := [182, 1, 44, 153, 0, 5, 3, 172, 42, 27, 182, 1, 215, 4, 27, 120, 62, 3, 54, 4, 21, 4, 42]
abbrev dktX10_reached_1 : List UInt8 := dkwX10_reached_1 ++ dktX10_reached_2
def dkwX10_reached_0 : List UInt8 := [42, 3, 181, 0, 3, 42, 42, 27, 182, 1, 137, 4, 182, 1, 44, 154, 0, 15, 42, 28, 184, 1, 97, 5]
abbrev dktX10_reached_0 : List UInt8 := dkwX10_reached_0 ++ dktX10_reached_1
theorem dksX10_reached_0 : cX10_reached.data.toList.drop 0 = dktX10_reached_0 := by decide +kernel
theorem dksX10_reached_1 : cX10_reached.data.toList.drop 24 = dktX10_reached_1 := dk_seg dksX10_reached_0 24 rfl rfl
theorem dksX10_reached_2 : cX10_reached.data.toList.drop 47 = dktX10_reached_2 := dk_seg dksX10_reached_1 23 rfl rfl
theorem dksX10_reached_3 : cX10_reached.data.toList.drop 70 = dktX10_reached_3 := dk_seg dksX10_reached_2 23 rfl rfl
theorem dX10_reached_0 : decode cX10_reached 0 = .ok (.aload_n 0, 1) := dk_42 (dk_at dksX10_reached_0 0 rfl rfl)
theorem dX10_reached_1 : decode cX10_reached 1 = .ok (.iconst 0, 1) := dk_3 (dk_at dksX10_reached_0 1 rfl rfl)
theorem dX10_reached_2 : decode cX10_reached 2 = .ok (.putfield 3, 3) := dk_181 0 3 (dk_at dksX10_reached_0 2 rfl rfl)
theorem dX10_reached_5 : decode cX10_reached 5 = .ok (.aload_n 0, 1) := dk_42 (dk_at dksX10_reached_0 5 rfl rfl)
theorem dX10_reached_6 : decode cX10_reached 6 = .ok (.aload_n 0, 1) := dk_42 (dk_at dksX10_reached_0 6 rfl rfl)
theorem dX10_reached_7 : decode cX10_reached 7 = .ok (.iload_n 1, 1) := dk_27 (dk_at dksX10_reached_0 7 rfl rfl)
theorem dX10_reached_8 : decode cX10_reached 8 = .ok (.invokevirtual 393, 3) := dk_182 1 137 (dk_at dksX10_reached_0 8 rfl rfl)
theorem dX10_reached_11 : decode cX10_reached 11 = .ok (.iconst 1, 1) := dk_4 (dk_at dksX10_reached_0 11 rfl rfl)
theorem dX10_reached_12 : decode cX10_reached 12 = .ok (.invokevirtual 300, 3) := dk_182 1 44 (dk_at dksX10_reached_0 12 rfl rfl)
theorem dX10_reached_15 : decode cX10_reached 15 = .ok (.ifCond .ne 15, 3) := dk_154 0 15 (dk_at dksX10_reached_0 15 rfl rfl)
theorem dX10_reached_18 : decode cX10_reached 18 = .ok (.aload_n 0, 1) := dk_42 (dk_at dksX10_reached_0 18 rfl rfl)
theorem dX10_reached_19 : decode cX10_reached 19 = .ok (.iload_n 2, 1) := dk_28 (dk_at dksX10_reached_0 19 rfl rfl)
theorem dX10_reached_20 : decode cX10_reached 20 = .ok (.invokestatic 353, 3) := dk_184 1 97 (dk_at dksX10_reached_0 20 rfl rfl)
theorem dX10_reached_23 : decode cX10_reached 23 = .ok (.iconst 2, 1) := dk_5 (dk_at dksX10_reached_0 23 rfl rfl)
theorem dX10_reached_24 : decode cX10_reached 24 = .ok (.invokevirtual 300, 3) := dk_182 1 44 (dk_at dksX10_reached_1 0 rfl rfl)
theorem dX10_reached_27 : decode cX10_reached 27 = .ok (.ifCond .eq 5, 3) := dk_153 0 5 (dk_at dksX10_reached_1 3 rfl rfl)
theorem dX10_reached_30 : decode cX10_reached 30 = .ok (.iconst 0, 1) := dk_3 (dk_at dksX10_reached_1 6 rfl rfl)
theorem dX10_reached_31 : decode cX10_reached 31 = .ok (.ireturn, 1) := dk_172 (dk_at dksX10_reached_1 7 rfl rfl)
theorem dX10_reached_32 : decode cX10_reached 32 = .ok (.aload_n 0, 1) := dk_42 (dk_at dksX10_reached_1 8 rfl rfl)
theorem dX10_reached_33 : decode cX10_reached 33 = .ok (.iload_n 1, 1) := dk_27 (dk_at dksX10_reached_1 9 rfl rfl)
theorem dX10_reached_34 : decode cX10_reached 34 = .ok (.invokevirtual 471, 3) := dk_182 1 215 (dk_at dksX10_reached_1 10 rfl rfl)
theorem dX10_reached_37 : decode cX10_reached 37 = .ok (.iconst 1, 1) := dk_4 (dk_at dksX10_reached_1 13 rfl rfl)
theorem dX10_reached_38 : decode cX10_reached 38 = .ok (.iload_n 1, 1) := dk_27 (dk_at dksX10_reached_1 14 rfl rfl)
theorem dX10_reached_39 : decode cX10_reached 39 = .ok (.ishl, 1) := dk_120 (dk_at dksX10_reached_1 15 rfl rfl)
theorem dX10_reached_40 : decode cX10_reached 40 = .ok (.istore_n 3, 1) := dk_62 (dk_at dksX10_reached_1 16 rfl rfl)
theorem dX10_reached_41 : decode cX10_reached 41 = .ok (.iconst 0, 1) := dk_3 (dk_at dksX10_reached_1 17 rfl rfl)
theorem dX10_reached_42 : decode cX10_reached 42 = .ok (.istore 4, 2) := dk_54 4 (dk_at dksX10_reached_1 18 rfl rfl)
theorem dX10_reached_44 : decode cX10_reached 44 = .ok (.iload 4, 2) := dk_21 4 (dk_at dksX10_reached_1 20 rfl rfl)
theorem dX10_reached_46 : decode cX10_reached 46 = .ok (.aload_n 0, 1) := dk_42 (dk_at dksX10_reached_1 22 rfl rfl)
theorem dX10_reached_47 : decode cX10_reached 47 = .ok (.invokevirtual 97, 3) := dk_182 0 97 (dk_at dksX10_reached_2 0 rfl rfl)
theorem dX10_reached_50 : decode cX10_reached 50 = .ok (.if_icmp .ge 39, 3) := dk_162 0 39 (dk_at dksX10_reached_2 3 rfl rfl)
theorem dX10_reached_53 : decode cX10_reached 53 = .ok (.aload_n 0, 1) := dk_42 (dk_at dksX10_reached_2 6 rfl rfl)
theorem dX10_reached_54 : decode cX10_reached 54 = .ok (.iload 4, 2) := dk_21 4 (dk_at dksX10_reached_2 7 rfl rfl)
theorem dX10_reached_56 : decode cX10_reached 56 = .ok (.invokevirtual 474, 3) := dk_182 1 218 (dk_at dksX10_reached_2 9 rfl rfl)
theorem dX10_reached_59 : decode cX10_reached 59 = .ok (.istore 5, 2) := dk_54 5 (dk_at dksX10_reached_2 12 rfl rfl)
theorem dX10_reached_61 : decode cX10_reached 61 = .ok (.iload_n 3, 1) := dk_29 (dk_at dksX10_reached_2 14 rfl rfl)
theorem dX10_reached_62 : decode cX10_reached 62 = .ok (.iload 5, 2) := dk_21 5 (dk_at dksX10_reached_2 15 rfl rfl)
theorem dX10_reached_64 : decode cX10_reached 64 = .ok (.ifCond .lt 16, 3) := dk_155 0 16 (dk_at dksX10_reached_2 17 rfl rfl)
theorem dX10_reached_67 : decode cX10_reached 67 = .ok (.iload 5, 2) := dk_21 5 (dk_at dksX10_reached_2 20 rfl rfl)
theorem dX10_reached_69 : decode cX10_reached 69 = .ok (.iload_n 2, 1) := dk_28 (dk_at dksX10_reached_2 22 rfl rfl)
theorem dX10_reached_70 : decode cX10_reached 70 = .ok (.if_icmp .gt 10, 3) := dk_163 0 10 (dk_at dksX10_reached_3 0 rfl rfl)
theorem dX10_reached_73 : decode cX10_reached 73 = .ok (.iconst 1, 1) := dk_4 (dk_at dksX10_reached_3 3 rfl rfl)
theorem dX10_reached_74 : decode cX10_reached 74 = .ok (.iload 4, 2) := dk_21 4 (dk_at dksX10_reached_3 4 rfl rfl)
theorem dX10_reached_76 : decode cX10_reached 76 = .ok (.ishl, 1) := dk_120 (dk_at dksX10_reached_3 6 rfl rfl)
theorem dX10_reached_77 : decode cX10_reached 77 = .ok (.goto 4, 3) := dk_167 0 4 (dk_at dksX10_reached_3 7 rfl rfl)
theorem dX10_reached_80 : decode cX10_reached 80 = .ok (.iconst 0, 1) := dk_3 (dk_at dksX10_reached_3 10 rfl rfl)
theorem dX10_reached_81 : decode cX10_reached 81 = .ok (.ior, 1) := dk_128 (dk_at dksX10_reached_3 11 rfl rfl)
theorem dX10_reached_82 : decode cX10_reached 82 = .ok (.istore_n 3, 1) := dk_62 (dk_at dksX10_reached_3 12 rfl rfl)
theorem dX10_reached_83 : decode cX10_reached 83 = .ok (.iinc 4 1, 3) := dk_132 4 1 (dk_at dksX10_reached_3 13 rfl rfl)
theorem dX10_reached_86 : decode cX10_reached 86 = .ok (.goto (-42), 3) := dk_167 255 214 (dk_at dksX10_reached_3 16 rfl rfl)
theorem dX10_reached_89 : decode cX10_reached 89 = .ok (.iload_n 3, 1) := dk_29 (dk_at dksX10_reached_3 19 rfl rfl)
theorem dX10_reached_90 : decode cX10_reached 90 = .ok (.ireturn, 1) := dk_172 (dk_at dksX10_reached_3 20 rfl rfl)
abbrev cX10_thieves : ByteArray := prog_20_method_126_code
def yX10_thieves : MethodName := ⟨RX10, "thieves", "(IZ)I"⟩
def dkwX10_thieves_3 : List UInt8 := [29, 62, 132, 4, 1, 167, 255, 221, 28, 153, 0, 7, 29, 167, 0, 9, 42, 180, 0, 66, 29, 46, 172]
abbrev dktX10_thieves_3 : List UInt8 := dkwX10_thieves_3 ++ []
def dkwX10_thieves_2 : List UInt8 := [162, 0, 32, 42, 180, 0, 66, 21, 4, 46, 42, 180, 0, 66, 29, 46, 164, 0, 8, 21, 4, 167, 0, 4]
abbrev dktX10_thieves_2 : List UInt8 := dkwX10_thieves_2 ++ dktX10_thieves_3
def dkwX10_thieves_1 : List UInt8 := [182, 1, 44, 153, 0, 5, 3, 172, 42, 27, 182, 1, 227, 3, 62, 4, 54, 4, 21, 4, 42, 182, 0, 86]
abbrev dktX10_thieves_1 : List UInt8 := dkwX10_thieves_1 ++ dktX10_thieves_2
def dkwX10_thieves_0 : List UInt8 := [42, 3, 181, 0, 3, 42, 27, 4, 16, 30, 184, 0, 90, 154, 0, 7, 4, 167, 0, 4, 3, 4]
abbrev dktX10_thieves_0 : List UInt8 := dkwX10_thieves_0 ++ dktX10_thieves_1
theorem dksX10_thieves_0 : cX10_thieves.data.toList.drop 0 = dktX10_thieves_0 := by decide +kernel
theorem dksX10_thieves_1 : cX10_thieves.data.toList.drop 22 = dktX10_thieves_1 := dk_seg dksX10_thieves_0 22 rfl rfl
theorem dksX10_thieves_2 : cX10_thieves.data.toList.drop 46 = dktX10_thieves_2 := dk_seg dksX10_thieves_1 24 rfl rfl
theorem dksX10_thieves_3 : cX10_thieves.data.toList.drop 70 = dktX10_thieves_3 := dk_seg dksX10_thieves_2 24 rfl rfl
theorem dX10_thieves_0 : decode cX10_thieves 0 = .ok (.aload_n 0, 1) := dk_42 (dk_at dksX10_thieves_0 0 rfl rfl)
theorem dX10_thieves_1 : decode cX10_thieves 1 = .ok (.iconst 0, 1) := dk_3 (dk_at dksX10_thieves_0 1 rfl rfl)
theorem dX10_thieves_2 : decode cX10_thieves 2 = .ok (.putfield 3, 3) := dk_181 0 3 (dk_at dksX10_thieves_0 2 rfl rfl)
theorem dX10_thieves_5 : decode cX10_thieves 5 = .ok (.aload_n 0, 1) := dk_42 (dk_at dksX10_thieves_0 5 rfl rfl)
theorem dX10_thieves_6 : decode cX10_thieves 6 = .ok (.iload_n 1, 1) := dk_27 (dk_at dksX10_thieves_0 6 rfl rfl)
theorem dX10_thieves_7 : decode cX10_thieves 7 = .ok (.iconst 1, 1) := dk_4 (dk_at dksX10_thieves_0 7 rfl rfl)
theorem dX10_thieves_8 : decode cX10_thieves 8 = .ok (.bipush 30, 2) := dk_16 30 (dk_at dksX10_thieves_0 8 rfl rfl)
theorem dX10_thieves_10 : decode cX10_thieves 10 = .ok (.invokestatic 90, 3) := dk_184 0 90 (dk_at dksX10_thieves_0 10 rfl rfl)
theorem dX10_thieves_13 : decode cX10_thieves 13 = .ok (.ifCond .ne 7, 3) := dk_154 0 7 (dk_at dksX10_thieves_0 13 rfl rfl)
theorem dX10_thieves_16 : decode cX10_thieves 16 = .ok (.iconst 1, 1) := dk_4 (dk_at dksX10_thieves_0 16 rfl rfl)
theorem dX10_thieves_17 : decode cX10_thieves 17 = .ok (.goto 4, 3) := dk_167 0 4 (dk_at dksX10_thieves_0 17 rfl rfl)
theorem dX10_thieves_20 : decode cX10_thieves 20 = .ok (.iconst 0, 1) := dk_3 (dk_at dksX10_thieves_0 20 rfl rfl)
theorem dX10_thieves_21 : decode cX10_thieves 21 = .ok (.iconst 1, 1) := dk_4 (dk_at dksX10_thieves_0 21 rfl rfl)
theorem dX10_thieves_22 : decode cX10_thieves 22 = .ok (.invokevirtual 300, 3) := dk_182 1 44 (dk_at dksX10_thieves_1 0 rfl rfl)
theorem dX10_thieves_25 : decode cX10_thieves 25 = .ok (.ifCond .eq 5, 3) := dk_153 0 5 (dk_at dksX10_thieves_1 3 rfl rfl)
theorem dX10_thieves_28 : decode cX10_thieves 28 = .ok (.iconst 0, 1) := dk_3 (dk_at dksX10_thieves_1 6 rfl rfl)
theorem dX10_thieves_29 : decode cX10_thieves 29 = .ok (.ireturn, 1) := dk_172 (dk_at dksX10_thieves_1 7 rfl rfl)
theorem dX10_thieves_30 : decode cX10_thieves 30 = .ok (.aload_n 0, 1) := dk_42 (dk_at dksX10_thieves_1 8 rfl rfl)
theorem dX10_thieves_31 : decode cX10_thieves 31 = .ok (.iload_n 1, 1) := dk_27 (dk_at dksX10_thieves_1 9 rfl rfl)
theorem dX10_thieves_32 : decode cX10_thieves 32 = .ok (.invokevirtual 483, 3) := dk_182 1 227 (dk_at dksX10_thieves_1 10 rfl rfl)
theorem dX10_thieves_35 : decode cX10_thieves 35 = .ok (.iconst 0, 1) := dk_3 (dk_at dksX10_thieves_1 13 rfl rfl)
theorem dX10_thieves_36 : decode cX10_thieves 36 = .ok (.istore_n 3, 1) := dk_62 (dk_at dksX10_thieves_1 14 rfl rfl)
theorem dX10_thieves_37 : decode cX10_thieves 37 = .ok (.iconst 1, 1) := dk_4 (dk_at dksX10_thieves_1 15 rfl rfl)
theorem dX10_thieves_38 : decode cX10_thieves 38 = .ok (.istore 4, 2) := dk_54 4 (dk_at dksX10_thieves_1 16 rfl rfl)
theorem dX10_thieves_40 : decode cX10_thieves 40 = .ok (.iload 4, 2) := dk_21 4 (dk_at dksX10_thieves_1 18 rfl rfl)
theorem dX10_thieves_42 : decode cX10_thieves 42 = .ok (.aload_n 0, 1) := dk_42 (dk_at dksX10_thieves_1 20 rfl rfl)
theorem dX10_thieves_43 : decode cX10_thieves 43 = .ok (.invokevirtual 86, 3) := dk_182 0 86 (dk_at dksX10_thieves_1 21 rfl rfl)
theorem dX10_thieves_46 : decode cX10_thieves 46 = .ok (.if_icmp .ge 32, 3) := dk_162 0 32 (dk_at dksX10_thieves_2 0 rfl rfl)
theorem dX10_thieves_49 : decode cX10_thieves 49 = .ok (.aload_n 0, 1) := dk_42 (dk_at dksX10_thieves_2 3 rfl rfl)
theorem dX10_thieves_50 : decode cX10_thieves 50 = .ok (.getfield 66, 3) := dk_180 0 66 (dk_at dksX10_thieves_2 4 rfl rfl)
theorem dX10_thieves_53 : decode cX10_thieves 53 = .ok (.iload 4, 2) := dk_21 4 (dk_at dksX10_thieves_2 7 rfl rfl)
theorem dX10_thieves_55 : decode cX10_thieves 55 = .ok (.iaload, 1) := dk_46 (dk_at dksX10_thieves_2 9 rfl rfl)
theorem dX10_thieves_56 : decode cX10_thieves 56 = .ok (.aload_n 0, 1) := dk_42 (dk_at dksX10_thieves_2 10 rfl rfl)
theorem dX10_thieves_57 : decode cX10_thieves 57 = .ok (.getfield 66, 3) := dk_180 0 66 (dk_at dksX10_thieves_2 11 rfl rfl)
theorem dX10_thieves_60 : decode cX10_thieves 60 = .ok (.iload_n 3, 1) := dk_29 (dk_at dksX10_thieves_2 14 rfl rfl)
theorem dX10_thieves_61 : decode cX10_thieves 61 = .ok (.iaload, 1) := dk_46 (dk_at dksX10_thieves_2 15 rfl rfl)
theorem dX10_thieves_62 : decode cX10_thieves 62 = .ok (.if_icmp .le 8, 3) := dk_164 0 8 (dk_at dksX10_thieves_2 16 rfl rfl)
theorem dX10_thieves_65 : decode cX10_thieves 65 = .ok (.iload 4, 2) := dk_21 4 (dk_at dksX10_thieves_2 19 rfl rfl)
theorem dX10_thieves_67 : decode cX10_thieves 67 = .ok (.goto 4, 3) := dk_167 0 4 (dk_at dksX10_thieves_2 21 rfl rfl)
theorem dX10_thieves_70 : decode cX10_thieves 70 = .ok (.iload_n 3, 1) := dk_29 (dk_at dksX10_thieves_3 0 rfl rfl)
theorem dX10_thieves_71 : decode cX10_thieves 71 = .ok (.istore_n 3, 1) := dk_62 (dk_at dksX10_thieves_3 1 rfl rfl)
theorem dX10_thieves_72 : decode cX10_thieves 72 = .ok (.iinc 4 1, 3) := dk_132 4 1 (dk_at dksX10_thieves_3 2 rfl rfl)
theorem dX10_thieves_75 : decode cX10_thieves 75 = .ok (.goto (-35), 3) := dk_167 255 221 (dk_at dksX10_thieves_3 5 rfl rfl)
theorem dX10_thieves_78 : decode cX10_thieves 78 = .ok (.iload_n 2, 1) := dk_28 (dk_at dksX10_thieves_3 8 rfl rfl)
theorem dX10_thieves_79 : decode cX10_thieves 79 = .ok (.ifCond .eq 7, 3) := dk_153 0 7 (dk_at dksX10_thieves_3 9 rfl rfl)
theorem dX10_thieves_82 : decode cX10_thieves 82 = .ok (.iload_n 3, 1) := dk_29 (dk_at dksX10_thieves_3 12 rfl rfl)
theorem dX10_thieves_83 : decode cX10_thieves 83 = .ok (.goto 9, 3) := dk_167 0 9 (dk_at dksX10_thieves_3 13 rfl rfl)
theorem dX10_thieves_86 : decode cX10_thieves 86 = .ok (.aload_n 0, 1) := dk_42 (dk_at dksX10_thieves_3 16 rfl rfl)
theorem dX10_thieves_87 : decode cX10_thieves 87 = .ok (.getfield 66, 3) := dk_180 0 66 (dk_at dksX10_thieves_3 17 rfl rfl)
theorem dX10_thieves_90 : decode cX10_thieves 90 = .ok (.iload_n 3, 1) := dk_29 (dk_at dksX10_thieves_3 20 rfl rfl)
theorem dX10_thieves_91 : decode cX10_thieves 91 = .ok (.iaload, 1) := dk_46 (dk_at dksX10_thieves_3 21 rfl rfl)
theorem dX10_thieves_92 : decode cX10_thieves 92 = .ok (.ireturn, 1) := dk_172 (dk_at dksX10_thieves_3 22 rfl rfl)
abbrev cX10_steals : ByteArray := prog_20_method_125_code
def yX10_steals : MethodName := ⟨RX10, "steals", "(I)V"⟩
def dkwX10_steals_7 : List UInt8 := [180, 0, 66, 29, 42, 180, 0, 69, 29, 46, 79, 132, 3, 1, 167, 255, 233, 132, 2, 255, 167, 255, 109, 177]
abbrev dktX10_steals_7 : List UInt8 := dkwX10_steals_7 ++ []
def dkwX10_steals_6 : List UInt8 := [182, 1, 175, 96, 79, 132, 3, 1, 167, 255, 153, 3, 62, 29, 42, 182, 0, 86, 162, 0, 21, 42]
abbrev dktX10_steals_6 : List UInt8 := dkwX10_steals_6 ++ dktX10_steals_7
def dkwX10_steals_5 : List UInt8 := [180, 0, 66, 29, 4, 96, 46, 184, 1, 94, 54, 4, 42, 180, 0, 69, 29, 21, 4, 42, 28, 29, 3]
abbrev dktX10_steals_5 : List UInt8 := dkwX10_steals_5 ++ dktX10_steals_6
def dkwX10_steals_4 : List UInt8 := [182, 0, 162, 27, 96, 4, 100, 162, 0, 28, 29, 4, 96, 42, 182, 0, 86, 162, 0, 18, 21, 4, 42]
abbrev dktX10_steals_4 : List UInt8 := dkwX10_steals_4 ++ dktX10_steals_5
def dkwX10_steals_3 : List UInt8 := [162, 0, 22, 29, 158, 0, 18, 21, 4, 42, 180, 0, 66, 29, 4, 100, 46, 184, 1, 94, 54, 4, 28, 42]
abbrev dktX10_steals_3 : List UInt8 := dkwX10_steals_3 ++ dktX10_steals_4
def dkwX10_steals_2 : List UInt8 := [182, 0, 86, 162, 0, 101, 42, 180, 0, 66, 29, 46, 54, 4, 28, 42, 182, 0, 162, 27, 96, 4, 100]
abbrev dktX10_steals_2 : List UInt8 := dkwX10_steals_2 ++ dktX10_steals_3
def dkwX10_steals_1 : List UInt8 := [167, 255, 240, 42, 182, 0, 162, 27, 96, 4, 100, 61, 28, 42, 182, 0, 162, 161, 0, 145, 3, 62, 29, 42]
abbrev dktX10_steals_1 : List UInt8 := dkwX10_steals_1 ++ dktX10_steals_2
def dkwX10_steals_0 : List UInt8 := [42, 182, 1, 172, 3, 61, 28, 16, 6, 162, 0, 16, 42, 180, 0, 66, 28, 3, 79, 132, 2, 1]
abbrev dktX10_steals_0 : List UInt8 := dkwX10_steals_0 ++ dktX10_steals_1
theorem dksX10_steals_0 : cX10_steals.data.toList.drop 0 = dktX10_steals_0 := by decide +kernel
theorem dksX10_steals_1 : cX10_steals.data.toList.drop 22 = dktX10_steals_1 := dk_seg dksX10_steals_0 22 rfl rfl
theorem dksX10_steals_2 : cX10_steals.data.toList.drop 46 = dktX10_steals_2 := dk_seg dksX10_steals_1 24 rfl rfl
theorem dksX10_steals_3 : cX10_steals.data.toList.drop 69 = dktX10_steals_3 := dk_seg dksX10_steals_2 23 rfl rfl
theorem dksX10_steals_4 : cX10_steals.data.toList.drop 93 = dktX10_steals_4 := dk_seg dksX10_steals_3 24 rfl rfl
theorem dksX10_steals_5 : cX10_steals.data.toList.drop 116 = dktX10_steals_5 := dk_seg dksX10_steals_4 23 rfl rfl
theorem dksX10_steals_6 : cX10_steals.data.toList.drop 139 = dktX10_steals_6 := dk_seg dksX10_steals_5 23 rfl rfl
theorem dksX10_steals_7 : cX10_steals.data.toList.drop 161 = dktX10_steals_7 := dk_seg dksX10_steals_6 22 rfl rfl
theorem dX10_steals_0 : decode cX10_steals 0 = .ok (.aload_n 0, 1) := dk_42 (dk_at dksX10_steals_0 0 rfl rfl)
theorem dX10_steals_1 : decode cX10_steals 1 = .ok (.invokevirtual 428, 3) := dk_182 1 172 (dk_at dksX10_steals_0 1 rfl rfl)
theorem dX10_steals_4 : decode cX10_steals 4 = .ok (.iconst 0, 1) := dk_3 (dk_at dksX10_steals_0 4 rfl rfl)
theorem dX10_steals_5 : decode cX10_steals 5 = .ok (.istore_n 2, 1) := dk_61 (dk_at dksX10_steals_0 5 rfl rfl)
theorem dX10_steals_6 : decode cX10_steals 6 = .ok (.iload_n 2, 1) := dk_28 (dk_at dksX10_steals_0 6 rfl rfl)
theorem dX10_steals_7 : decode cX10_steals 7 = .ok (.bipush 6, 2) := dk_16 6 (dk_at dksX10_steals_0 7 rfl rfl)
theorem dX10_steals_9 : decode cX10_steals 9 = .ok (.if_icmp .ge 16, 3) := dk_162 0 16 (dk_at dksX10_steals_0 9 rfl rfl)
theorem dX10_steals_12 : decode cX10_steals 12 = .ok (.aload_n 0, 1) := dk_42 (dk_at dksX10_steals_0 12 rfl rfl)
theorem dX10_steals_13 : decode cX10_steals 13 = .ok (.getfield 66, 3) := dk_180 0 66 (dk_at dksX10_steals_0 13 rfl rfl)
theorem dX10_steals_16 : decode cX10_steals 16 = .ok (.iload_n 2, 1) := dk_28 (dk_at dksX10_steals_0 16 rfl rfl)
theorem dX10_steals_17 : decode cX10_steals 17 = .ok (.iconst 0, 1) := dk_3 (dk_at dksX10_steals_0 17 rfl rfl)
theorem dX10_steals_18 : decode cX10_steals 18 = .ok (.iastore, 1) := dk_79 (dk_at dksX10_steals_0 18 rfl rfl)
theorem dX10_steals_19 : decode cX10_steals 19 = .ok (.iinc 2 1, 3) := dk_132 2 1 (dk_at dksX10_steals_0 19 rfl rfl)
theorem dX10_steals_22 : decode cX10_steals 22 = .ok (.goto (-16), 3) := dk_167 255 240 (dk_at dksX10_steals_1 0 rfl rfl)
theorem dX10_steals_25 : decode cX10_steals 25 = .ok (.aload_n 0, 1) := dk_42 (dk_at dksX10_steals_1 3 rfl rfl)
theorem dX10_steals_26 : decode cX10_steals 26 = .ok (.invokevirtual 162, 3) := dk_182 0 162 (dk_at dksX10_steals_1 4 rfl rfl)
theorem dX10_steals_29 : decode cX10_steals 29 = .ok (.iload_n 1, 1) := dk_27 (dk_at dksX10_steals_1 7 rfl rfl)
theorem dX10_steals_30 : decode cX10_steals 30 = .ok (.iadd, 1) := dk_96 (dk_at dksX10_steals_1 8 rfl rfl)
theorem dX10_steals_31 : decode cX10_steals 31 = .ok (.iconst 1, 1) := dk_4 (dk_at dksX10_steals_1 9 rfl rfl)
theorem dX10_steals_32 : decode cX10_steals 32 = .ok (.isub, 1) := dk_100 (dk_at dksX10_steals_1 10 rfl rfl)
theorem dX10_steals_33 : decode cX10_steals 33 = .ok (.istore_n 2, 1) := dk_61 (dk_at dksX10_steals_1 11 rfl rfl)
theorem dX10_steals_34 : decode cX10_steals 34 = .ok (.iload_n 2, 1) := dk_28 (dk_at dksX10_steals_1 12 rfl rfl)
theorem dX10_steals_35 : decode cX10_steals 35 = .ok (.aload_n 0, 1) := dk_42 (dk_at dksX10_steals_1 13 rfl rfl)
theorem dX10_steals_36 : decode cX10_steals 36 = .ok (.invokevirtual 162, 3) := dk_182 0 162 (dk_at dksX10_steals_1 14 rfl rfl)
theorem dX10_steals_39 : decode cX10_steals 39 = .ok (.if_icmp .lt 145, 3) := dk_161 0 145 (dk_at dksX10_steals_1 17 rfl rfl)
theorem dX10_steals_42 : decode cX10_steals 42 = .ok (.iconst 0, 1) := dk_3 (dk_at dksX10_steals_1 20 rfl rfl)
theorem dX10_steals_43 : decode cX10_steals 43 = .ok (.istore_n 3, 1) := dk_62 (dk_at dksX10_steals_1 21 rfl rfl)
theorem dX10_steals_44 : decode cX10_steals 44 = .ok (.iload_n 3, 1) := dk_29 (dk_at dksX10_steals_1 22 rfl rfl)
theorem dX10_steals_45 : decode cX10_steals 45 = .ok (.aload_n 0, 1) := dk_42 (dk_at dksX10_steals_1 23 rfl rfl)
theorem dX10_steals_46 : decode cX10_steals 46 = .ok (.invokevirtual 86, 3) := dk_182 0 86 (dk_at dksX10_steals_2 0 rfl rfl)
theorem dX10_steals_49 : decode cX10_steals 49 = .ok (.if_icmp .ge 101, 3) := dk_162 0 101 (dk_at dksX10_steals_2 3 rfl rfl)
theorem dX10_steals_52 : decode cX10_steals 52 = .ok (.aload_n 0, 1) := dk_42 (dk_at dksX10_steals_2 6 rfl rfl)
theorem dX10_steals_53 : decode cX10_steals 53 = .ok (.getfield 66, 3) := dk_180 0 66 (dk_at dksX10_steals_2 7 rfl rfl)
theorem dX10_steals_56 : decode cX10_steals 56 = .ok (.iload_n 3, 1) := dk_29 (dk_at dksX10_steals_2 10 rfl rfl)
theorem dX10_steals_57 : decode cX10_steals 57 = .ok (.iaload, 1) := dk_46 (dk_at dksX10_steals_2 11 rfl rfl)
theorem dX10_steals_58 : decode cX10_steals 58 = .ok (.istore 4, 2) := dk_54 4 (dk_at dksX10_steals_2 12 rfl rfl)
theorem dX10_steals_60 : decode cX10_steals 60 = .ok (.iload_n 2, 1) := dk_28 (dk_at dksX10_steals_2 14 rfl rfl)
theorem dX10_steals_61 : decode cX10_steals 61 = .ok (.aload_n 0, 1) := dk_42 (dk_at dksX10_steals_2 15 rfl rfl)
theorem dX10_steals_62 : decode cX10_steals 62 = .ok (.invokevirtual 162, 3) := dk_182 0 162 (dk_at dksX10_steals_2 16 rfl rfl)
theorem dX10_steals_65 : decode cX10_steals 65 = .ok (.iload_n 1, 1) := dk_27 (dk_at dksX10_steals_2 19 rfl rfl)
theorem dX10_steals_66 : decode cX10_steals 66 = .ok (.iadd, 1) := dk_96 (dk_at dksX10_steals_2 20 rfl rfl)
theorem dX10_steals_67 : decode cX10_steals 67 = .ok (.iconst 1, 1) := dk_4 (dk_at dksX10_steals_2 21 rfl rfl)
theorem dX10_steals_68 : decode cX10_steals 68 = .ok (.isub, 1) := dk_100 (dk_at dksX10_steals_2 22 rfl rfl)
theorem dX10_steals_69 : decode cX10_steals 69 = .ok (.if_icmp .ge 22, 3) := dk_162 0 22 (dk_at dksX10_steals_3 0 rfl rfl)
theorem dX10_steals_72 : decode cX10_steals 72 = .ok (.iload_n 3, 1) := dk_29 (dk_at dksX10_steals_3 3 rfl rfl)
theorem dX10_steals_73 : decode cX10_steals 73 = .ok (.ifCond .le 18, 3) := dk_158 0 18 (dk_at dksX10_steals_3 4 rfl rfl)
theorem dX10_steals_76 : decode cX10_steals 76 = .ok (.iload 4, 2) := dk_21 4 (dk_at dksX10_steals_3 7 rfl rfl)
theorem dX10_steals_78 : decode cX10_steals 78 = .ok (.aload_n 0, 1) := dk_42 (dk_at dksX10_steals_3 9 rfl rfl)
theorem dX10_steals_79 : decode cX10_steals 79 = .ok (.getfield 66, 3) := dk_180 0 66 (dk_at dksX10_steals_3 10 rfl rfl)
theorem dX10_steals_82 : decode cX10_steals 82 = .ok (.iload_n 3, 1) := dk_29 (dk_at dksX10_steals_3 13 rfl rfl)
theorem dX10_steals_83 : decode cX10_steals 83 = .ok (.iconst 1, 1) := dk_4 (dk_at dksX10_steals_3 14 rfl rfl)
theorem dX10_steals_84 : decode cX10_steals 84 = .ok (.isub, 1) := dk_100 (dk_at dksX10_steals_3 15 rfl rfl)
theorem dX10_steals_85 : decode cX10_steals 85 = .ok (.iaload, 1) := dk_46 (dk_at dksX10_steals_3 16 rfl rfl)
theorem dX10_steals_86 : decode cX10_steals 86 = .ok (.invokestatic 350, 3) := dk_184 1 94 (dk_at dksX10_steals_3 17 rfl rfl)
theorem dX10_steals_89 : decode cX10_steals 89 = .ok (.istore 4, 2) := dk_54 4 (dk_at dksX10_steals_3 20 rfl rfl)
theorem dX10_steals_91 : decode cX10_steals 91 = .ok (.iload_n 2, 1) := dk_28 (dk_at dksX10_steals_3 22 rfl rfl)
theorem dX10_steals_92 : decode cX10_steals 92 = .ok (.aload_n 0, 1) := dk_42 (dk_at dksX10_steals_3 23 rfl rfl)
theorem dX10_steals_93 : decode cX10_steals 93 = .ok (.invokevirtual 162, 3) := dk_182 0 162 (dk_at dksX10_steals_4 0 rfl rfl)
theorem dX10_steals_96 : decode cX10_steals 96 = .ok (.iload_n 1, 1) := dk_27 (dk_at dksX10_steals_4 3 rfl rfl)
theorem dX10_steals_97 : decode cX10_steals 97 = .ok (.iadd, 1) := dk_96 (dk_at dksX10_steals_4 4 rfl rfl)
theorem dX10_steals_98 : decode cX10_steals 98 = .ok (.iconst 1, 1) := dk_4 (dk_at dksX10_steals_4 5 rfl rfl)
theorem dX10_steals_99 : decode cX10_steals 99 = .ok (.isub, 1) := dk_100 (dk_at dksX10_steals_4 6 rfl rfl)
theorem dX10_steals_100 : decode cX10_steals 100 = .ok (.if_icmp .ge 28, 3) := dk_162 0 28 (dk_at dksX10_steals_4 7 rfl rfl)
theorem dX10_steals_103 : decode cX10_steals 103 = .ok (.iload_n 3, 1) := dk_29 (dk_at dksX10_steals_4 10 rfl rfl)
theorem dX10_steals_104 : decode cX10_steals 104 = .ok (.iconst 1, 1) := dk_4 (dk_at dksX10_steals_4 11 rfl rfl)
theorem dX10_steals_105 : decode cX10_steals 105 = .ok (.iadd, 1) := dk_96 (dk_at dksX10_steals_4 12 rfl rfl)
theorem dX10_steals_106 : decode cX10_steals 106 = .ok (.aload_n 0, 1) := dk_42 (dk_at dksX10_steals_4 13 rfl rfl)
theorem dX10_steals_107 : decode cX10_steals 107 = .ok (.invokevirtual 86, 3) := dk_182 0 86 (dk_at dksX10_steals_4 14 rfl rfl)
theorem dX10_steals_110 : decode cX10_steals 110 = .ok (.if_icmp .ge 18, 3) := dk_162 0 18 (dk_at dksX10_steals_4 17 rfl rfl)
theorem dX10_steals_113 : decode cX10_steals 113 = .ok (.iload 4, 2) := dk_21 4 (dk_at dksX10_steals_4 20 rfl rfl)
theorem dX10_steals_115 : decode cX10_steals 115 = .ok (.aload_n 0, 1) := dk_42 (dk_at dksX10_steals_4 22 rfl rfl)
theorem dX10_steals_116 : decode cX10_steals 116 = .ok (.getfield 66, 3) := dk_180 0 66 (dk_at dksX10_steals_5 0 rfl rfl)
theorem dX10_steals_119 : decode cX10_steals 119 = .ok (.iload_n 3, 1) := dk_29 (dk_at dksX10_steals_5 3 rfl rfl)
theorem dX10_steals_120 : decode cX10_steals 120 = .ok (.iconst 1, 1) := dk_4 (dk_at dksX10_steals_5 4 rfl rfl)
theorem dX10_steals_121 : decode cX10_steals 121 = .ok (.iadd, 1) := dk_96 (dk_at dksX10_steals_5 5 rfl rfl)
theorem dX10_steals_122 : decode cX10_steals 122 = .ok (.iaload, 1) := dk_46 (dk_at dksX10_steals_5 6 rfl rfl)
theorem dX10_steals_123 : decode cX10_steals 123 = .ok (.invokestatic 350, 3) := dk_184 1 94 (dk_at dksX10_steals_5 7 rfl rfl)
theorem dX10_steals_126 : decode cX10_steals 126 = .ok (.istore 4, 2) := dk_54 4 (dk_at dksX10_steals_5 10 rfl rfl)
theorem dX10_steals_128 : decode cX10_steals 128 = .ok (.aload_n 0, 1) := dk_42 (dk_at dksX10_steals_5 12 rfl rfl)
theorem dX10_steals_129 : decode cX10_steals 129 = .ok (.getfield 69, 3) := dk_180 0 69 (dk_at dksX10_steals_5 13 rfl rfl)
theorem dX10_steals_132 : decode cX10_steals 132 = .ok (.iload_n 3, 1) := dk_29 (dk_at dksX10_steals_5 16 rfl rfl)
theorem dX10_steals_133 : decode cX10_steals 133 = .ok (.iload 4, 2) := dk_21 4 (dk_at dksX10_steals_5 17 rfl rfl)
theorem dX10_steals_135 : decode cX10_steals 135 = .ok (.aload_n 0, 1) := dk_42 (dk_at dksX10_steals_5 19 rfl rfl)
theorem dX10_steals_136 : decode cX10_steals 136 = .ok (.iload_n 2, 1) := dk_28 (dk_at dksX10_steals_5 20 rfl rfl)
theorem dX10_steals_137 : decode cX10_steals 137 = .ok (.iload_n 3, 1) := dk_29 (dk_at dksX10_steals_5 21 rfl rfl)
theorem dX10_steals_138 : decode cX10_steals 138 = .ok (.iconst 0, 1) := dk_3 (dk_at dksX10_steals_5 22 rfl rfl)
theorem dX10_steals_139 : decode cX10_steals 139 = .ok (.invokevirtual 431, 3) := dk_182 1 175 (dk_at dksX10_steals_6 0 rfl rfl)
theorem dX10_steals_142 : decode cX10_steals 142 = .ok (.iadd, 1) := dk_96 (dk_at dksX10_steals_6 3 rfl rfl)
theorem dX10_steals_143 : decode cX10_steals 143 = .ok (.iastore, 1) := dk_79 (dk_at dksX10_steals_6 4 rfl rfl)
theorem dX10_steals_144 : decode cX10_steals 144 = .ok (.iinc 3 1, 3) := dk_132 3 1 (dk_at dksX10_steals_6 5 rfl rfl)
theorem dX10_steals_147 : decode cX10_steals 147 = .ok (.goto (-103), 3) := dk_167 255 153 (dk_at dksX10_steals_6 8 rfl rfl)
theorem dX10_steals_150 : decode cX10_steals 150 = .ok (.iconst 0, 1) := dk_3 (dk_at dksX10_steals_6 11 rfl rfl)
theorem dX10_steals_151 : decode cX10_steals 151 = .ok (.istore_n 3, 1) := dk_62 (dk_at dksX10_steals_6 12 rfl rfl)
theorem dX10_steals_152 : decode cX10_steals 152 = .ok (.iload_n 3, 1) := dk_29 (dk_at dksX10_steals_6 13 rfl rfl)
theorem dX10_steals_153 : decode cX10_steals 153 = .ok (.aload_n 0, 1) := dk_42 (dk_at dksX10_steals_6 14 rfl rfl)
theorem dX10_steals_154 : decode cX10_steals 154 = .ok (.invokevirtual 86, 3) := dk_182 0 86 (dk_at dksX10_steals_6 15 rfl rfl)
theorem dX10_steals_157 : decode cX10_steals 157 = .ok (.if_icmp .ge 21, 3) := dk_162 0 21 (dk_at dksX10_steals_6 18 rfl rfl)
theorem dX10_steals_160 : decode cX10_steals 160 = .ok (.aload_n 0, 1) := dk_42 (dk_at dksX10_steals_6 21 rfl rfl)
theorem dX10_steals_161 : decode cX10_steals 161 = .ok (.getfield 66, 3) := dk_180 0 66 (dk_at dksX10_steals_7 0 rfl rfl)
theorem dX10_steals_164 : decode cX10_steals 164 = .ok (.iload_n 3, 1) := dk_29 (dk_at dksX10_steals_7 3 rfl rfl)
theorem dX10_steals_165 : decode cX10_steals 165 = .ok (.aload_n 0, 1) := dk_42 (dk_at dksX10_steals_7 4 rfl rfl)
theorem dX10_steals_166 : decode cX10_steals 166 = .ok (.getfield 69, 3) := dk_180 0 69 (dk_at dksX10_steals_7 5 rfl rfl)
theorem dX10_steals_169 : decode cX10_steals 169 = .ok (.iload_n 3, 1) := dk_29 (dk_at dksX10_steals_7 8 rfl rfl)
theorem dX10_steals_170 : decode cX10_steals 170 = .ok (.iaload, 1) := dk_46 (dk_at dksX10_steals_7 9 rfl rfl)
theorem dX10_steals_171 : decode cX10_steals 171 = .ok (.iastore, 1) := dk_79 (dk_at dksX10_steals_7 10 rfl rfl)
theorem dX10_steals_172 : decode cX10_steals 172 = .ok (.iinc 3 1, 3) := dk_132 3 1 (dk_at dksX10_steals_7 11 rfl rfl)
theorem dX10_steals_175 : decode cX10_steals 175 = .ok (.goto (-23), 3) := dk_167 255 233 (dk_at dksX10_steals_7 14 rfl rfl)
theorem dX10_steals_178 : decode cX10_steals 178 = .ok (.iinc 2 (-1), 3) := dk_132 2 255 (dk_at dksX10_steals_7 17 rfl rfl)
theorem dX10_steals_181 : decode cX10_steals 181 = .ok (.goto (-147), 3) := dk_167 255 109 (dk_at dksX10_steals_7 20 rfl rfl)
theorem dX10_steals_184 : decode cX10_steals 184 = .ok (.return_, 1) := dk_177 (dk_at dksX10_steals_7 23 rfl rfl)
abbrev cX10_watchman : ByteArray := prog_20_method_127_code
def yX10_watchman : MethodName := ⟨RX10, "watchman", "(IZ)I"⟩
def dkwX10_watchman_8 : List UInt8 := [167, 255, 176, 28, 153, 0, 8, 21, 4, 167, 0, 4, 29, 172]
abbrev dktX10_watchman_8 : List UInt8 := dkwX10_watchman_8 ++ []
def dkwX10_watchman_7 : List UInt8 := [155, 0, 13, 21, 6, 21, 4, 161, 0, 6, 167, 0, 10, 21, 5, 62, 21, 6, 54, 4, 132, 5, 1]
abbrev dktX10_watchman_7 : List UInt8 := dkwX10_watchman_7 ++ dktX10_watchman_8
def dkwX10_watchman_6 : List UInt8 := [167, 0, 15, 21, 6, 42, 180, 0, 66, 21, 7, 46, 184, 1, 94, 54, 6, 132, 7, 1, 167, 255, 218, 29]
abbrev dktX10_watchman_6 : List UInt8 := dkwX10_watchman_6 ++ dktX10_watchman_7
def dkwX10_watchman_5 : List UInt8 := [54, 6, 3, 54, 7, 21, 7, 42, 182, 0, 86, 162, 0, 35, 21, 7, 21, 5, 160, 0, 8, 21, 6]
abbrev dktX10_watchman_5 : List UInt8 := dkwX10_watchman_5 ++ dktX10_watchman_6
def dkwX10_watchman_4 : List UInt8 := [132, 3, 1, 167, 255, 198, 2, 62, 3, 54, 4, 3, 54, 5, 21, 5, 42, 182, 0, 86, 162, 0, 77, 3]
abbrev dktX10_watchman_4 : List UInt8 := dkwX10_watchman_4 ++ dktX10_watchman_5
def dkwX10_watchman_3 : List UInt8 := [180, 0, 66, 29, 92, 46, 42, 21, 4, 29, 3, 182, 1, 175, 96, 79, 132, 4, 1, 167, 255, 225]
abbrev dktX10_watchman_3 : List UInt8 := dkwX10_watchman_3 ++ dktX10_watchman_4
def dkwX10_watchman_2 : List UInt8 := [180, 0, 66, 29, 3, 79, 42, 182, 0, 162, 54, 4, 21, 4, 42, 182, 0, 162, 27, 96, 162, 0, 26, 42]
abbrev dktX10_watchman_2 : List UInt8 := dkwX10_watchman_2 ++ dktX10_watchman_3
def dkwX10_watchman_1 : List UInt8 := [182, 1, 44, 153, 0, 5, 3, 172, 42, 182, 1, 172, 3, 62, 29, 42, 182, 0, 86, 162, 0, 56, 42]
abbrev dktX10_watchman_1 : List UInt8 := dkwX10_watchman_1 ++ dktX10_watchman_2
def dkwX10_watchman_0 : List UInt8 := [42, 3, 181, 0, 3, 42, 27, 4, 16, 30, 184, 0, 90, 154, 0, 7, 4, 167, 0, 4, 3, 4]
abbrev dktX10_watchman_0 : List UInt8 := dkwX10_watchman_0 ++ dktX10_watchman_1
theorem dksX10_watchman_0 : cX10_watchman.data.toList.drop 0 = dktX10_watchman_0 := by decide +kernel
theorem dksX10_watchman_1 : cX10_watchman.data.toList.drop 22 = dktX10_watchman_1 := dk_seg dksX10_watchman_0 22 rfl rfl
theorem dksX10_watchman_2 : cX10_watchman.data.toList.drop 45 = dktX10_watchman_2 := dk_seg dksX10_watchman_1 23 rfl rfl
theorem dksX10_watchman_3 : cX10_watchman.data.toList.drop 69 = dktX10_watchman_3 := dk_seg dksX10_watchman_2 24 rfl rfl
theorem dksX10_watchman_4 : cX10_watchman.data.toList.drop 91 = dktX10_watchman_4 := dk_seg dksX10_watchman_3 22 rfl rfl
theorem dksX10_watchman_5 : cX10_watchman.data.toList.drop 115 = dktX10_watchman_5 := dk_seg dksX10_watchman_4 24 rfl rfl
theorem dksX10_watchman_6 : cX10_watchman.data.toList.drop 138 = dktX10_watchman_6 := dk_seg dksX10_watchman_5 23 rfl rfl
theorem dksX10_watchman_7 : cX10_watchman.data.toList.drop 162 = dktX10_watchman_7 := dk_seg dksX10_watchman_6 24 rfl rfl
theorem dksX10_watchman_8 : cX10_watchman.data.toList.drop 185 = dktX10_watchman_8 := dk_seg dksX10_watchman_7 23 rfl rfl
theorem dX10_watchman_0 : decode cX10_watchman 0 = .ok (.aload_n 0, 1) := dk_42 (dk_at dksX10_watchman_0 0 rfl rfl)
theorem dX10_watchman_1 : decode cX10_watchman 1 = .ok (.iconst 0, 1) := dk_3 (dk_at dksX10_watchman_0 1 rfl rfl)
theorem dX10_watchman_2 : decode cX10_watchman 2 = .ok (.putfield 3, 3) := dk_181 0 3 (dk_at dksX10_watchman_0 2 rfl rfl)
theorem dX10_watchman_5 : decode cX10_watchman 5 = .ok (.aload_n 0, 1) := dk_42 (dk_at dksX10_watchman_0 5 rfl rfl)
theorem dX10_watchman_6 : decode cX10_watchman 6 = .ok (.iload_n 1, 1) := dk_27 (dk_at dksX10_watchman_0 6 rfl rfl)
theorem dX10_watchman_7 : decode cX10_watchman 7 = .ok (.iconst 1, 1) := dk_4 (dk_at dksX10_watchman_0 7 rfl rfl)
theorem dX10_watchman_8 : decode cX10_watchman 8 = .ok (.bipush 30, 2) := dk_16 30 (dk_at dksX10_watchman_0 8 rfl rfl)
theorem dX10_watchman_10 : decode cX10_watchman 10 = .ok (.invokestatic 90, 3) := dk_184 0 90 (dk_at dksX10_watchman_0 10 rfl rfl)
theorem dX10_watchman_13 : decode cX10_watchman 13 = .ok (.ifCond .ne 7, 3) := dk_154 0 7 (dk_at dksX10_watchman_0 13 rfl rfl)
theorem dX10_watchman_16 : decode cX10_watchman 16 = .ok (.iconst 1, 1) := dk_4 (dk_at dksX10_watchman_0 16 rfl rfl)
theorem dX10_watchman_17 : decode cX10_watchman 17 = .ok (.goto 4, 3) := dk_167 0 4 (dk_at dksX10_watchman_0 17 rfl rfl)
theorem dX10_watchman_20 : decode cX10_watchman 20 = .ok (.iconst 0, 1) := dk_3 (dk_at dksX10_watchman_0 20 rfl rfl)
theorem dX10_watchman_21 : decode cX10_watchman 21 = .ok (.iconst 1, 1) := dk_4 (dk_at dksX10_watchman_0 21 rfl rfl)
theorem dX10_watchman_22 : decode cX10_watchman 22 = .ok (.invokevirtual 300, 3) := dk_182 1 44 (dk_at dksX10_watchman_1 0 rfl rfl)
theorem dX10_watchman_25 : decode cX10_watchman 25 = .ok (.ifCond .eq 5, 3) := dk_153 0 5 (dk_at dksX10_watchman_1 3 rfl rfl)
theorem dX10_watchman_28 : decode cX10_watchman 28 = .ok (.iconst 0, 1) := dk_3 (dk_at dksX10_watchman_1 6 rfl rfl)
theorem dX10_watchman_29 : decode cX10_watchman 29 = .ok (.ireturn, 1) := dk_172 (dk_at dksX10_watchman_1 7 rfl rfl)
theorem dX10_watchman_30 : decode cX10_watchman 30 = .ok (.aload_n 0, 1) := dk_42 (dk_at dksX10_watchman_1 8 rfl rfl)
theorem dX10_watchman_31 : decode cX10_watchman 31 = .ok (.invokevirtual 428, 3) := dk_182 1 172 (dk_at dksX10_watchman_1 9 rfl rfl)
theorem dX10_watchman_34 : decode cX10_watchman 34 = .ok (.iconst 0, 1) := dk_3 (dk_at dksX10_watchman_1 12 rfl rfl)
theorem dX10_watchman_35 : decode cX10_watchman 35 = .ok (.istore_n 3, 1) := dk_62 (dk_at dksX10_watchman_1 13 rfl rfl)
theorem dX10_watchman_36 : decode cX10_watchman 36 = .ok (.iload_n 3, 1) := dk_29 (dk_at dksX10_watchman_1 14 rfl rfl)
theorem dX10_watchman_37 : decode cX10_watchman 37 = .ok (.aload_n 0, 1) := dk_42 (dk_at dksX10_watchman_1 15 rfl rfl)
theorem dX10_watchman_38 : decode cX10_watchman 38 = .ok (.invokevirtual 86, 3) := dk_182 0 86 (dk_at dksX10_watchman_1 16 rfl rfl)
theorem dX10_watchman_41 : decode cX10_watchman 41 = .ok (.if_icmp .ge 56, 3) := dk_162 0 56 (dk_at dksX10_watchman_1 19 rfl rfl)
theorem dX10_watchman_44 : decode cX10_watchman 44 = .ok (.aload_n 0, 1) := dk_42 (dk_at dksX10_watchman_1 22 rfl rfl)
theorem dX10_watchman_45 : decode cX10_watchman 45 = .ok (.getfield 66, 3) := dk_180 0 66 (dk_at dksX10_watchman_2 0 rfl rfl)
theorem dX10_watchman_48 : decode cX10_watchman 48 = .ok (.iload_n 3, 1) := dk_29 (dk_at dksX10_watchman_2 3 rfl rfl)
theorem dX10_watchman_49 : decode cX10_watchman 49 = .ok (.iconst 0, 1) := dk_3 (dk_at dksX10_watchman_2 4 rfl rfl)
theorem dX10_watchman_50 : decode cX10_watchman 50 = .ok (.iastore, 1) := dk_79 (dk_at dksX10_watchman_2 5 rfl rfl)
theorem dX10_watchman_51 : decode cX10_watchman 51 = .ok (.aload_n 0, 1) := dk_42 (dk_at dksX10_watchman_2 6 rfl rfl)
theorem dX10_watchman_52 : decode cX10_watchman 52 = .ok (.invokevirtual 162, 3) := dk_182 0 162 (dk_at dksX10_watchman_2 7 rfl rfl)
theorem dX10_watchman_55 : decode cX10_watchman 55 = .ok (.istore 4, 2) := dk_54 4 (dk_at dksX10_watchman_2 10 rfl rfl)
theorem dX10_watchman_57 : decode cX10_watchman 57 = .ok (.iload 4, 2) := dk_21 4 (dk_at dksX10_watchman_2 12 rfl rfl)
theorem dX10_watchman_59 : decode cX10_watchman 59 = .ok (.aload_n 0, 1) := dk_42 (dk_at dksX10_watchman_2 14 rfl rfl)
theorem dX10_watchman_60 : decode cX10_watchman 60 = .ok (.invokevirtual 162, 3) := dk_182 0 162 (dk_at dksX10_watchman_2 15 rfl rfl)
theorem dX10_watchman_63 : decode cX10_watchman 63 = .ok (.iload_n 1, 1) := dk_27 (dk_at dksX10_watchman_2 18 rfl rfl)
theorem dX10_watchman_64 : decode cX10_watchman 64 = .ok (.iadd, 1) := dk_96 (dk_at dksX10_watchman_2 19 rfl rfl)
theorem dX10_watchman_65 : decode cX10_watchman 65 = .ok (.if_icmp .ge 26, 3) := dk_162 0 26 (dk_at dksX10_watchman_2 20 rfl rfl)
theorem dX10_watchman_68 : decode cX10_watchman 68 = .ok (.aload_n 0, 1) := dk_42 (dk_at dksX10_watchman_2 23 rfl rfl)
theorem dX10_watchman_69 : decode cX10_watchman 69 = .ok (.getfield 66, 3) := dk_180 0 66 (dk_at dksX10_watchman_3 0 rfl rfl)
theorem dX10_watchman_72 : decode cX10_watchman 72 = .ok (.iload_n 3, 1) := dk_29 (dk_at dksX10_watchman_3 3 rfl rfl)
theorem dX10_watchman_73 : decode cX10_watchman 73 = .ok (.dup2, 1) := dk_92 (dk_at dksX10_watchman_3 4 rfl rfl)
theorem dX10_watchman_74 : decode cX10_watchman 74 = .ok (.iaload, 1) := dk_46 (dk_at dksX10_watchman_3 5 rfl rfl)
theorem dX10_watchman_75 : decode cX10_watchman 75 = .ok (.aload_n 0, 1) := dk_42 (dk_at dksX10_watchman_3 6 rfl rfl)
theorem dX10_watchman_76 : decode cX10_watchman 76 = .ok (.iload 4, 2) := dk_21 4 (dk_at dksX10_watchman_3 7 rfl rfl)
theorem dX10_watchman_78 : decode cX10_watchman 78 = .ok (.iload_n 3, 1) := dk_29 (dk_at dksX10_watchman_3 9 rfl rfl)
theorem dX10_watchman_79 : decode cX10_watchman 79 = .ok (.iconst 0, 1) := dk_3 (dk_at dksX10_watchman_3 10 rfl rfl)
theorem dX10_watchman_80 : decode cX10_watchman 80 = .ok (.invokevirtual 431, 3) := dk_182 1 175 (dk_at dksX10_watchman_3 11 rfl rfl)
theorem dX10_watchman_83 : decode cX10_watchman 83 = .ok (.iadd, 1) := dk_96 (dk_at dksX10_watchman_3 14 rfl rfl)
theorem dX10_watchman_84 : decode cX10_watchman 84 = .ok (.iastore, 1) := dk_79 (dk_at dksX10_watchman_3 15 rfl rfl)
theorem dX10_watchman_85 : decode cX10_watchman 85 = .ok (.iinc 4 1, 3) := dk_132 4 1 (dk_at dksX10_watchman_3 16 rfl rfl)
theorem dX10_watchman_88 : decode cX10_watchman 88 = .ok (.goto (-31), 3) := dk_167 255 225 (dk_at dksX10_watchman_3 19 rfl rfl)
theorem dX10_watchman_91 : decode cX10_watchman 91 = .ok (.iinc 3 1, 3) := dk_132 3 1 (dk_at dksX10_watchman_4 0 rfl rfl)
theorem dX10_watchman_94 : decode cX10_watchman 94 = .ok (.goto (-58), 3) := dk_167 255 198 (dk_at dksX10_watchman_4 3 rfl rfl)
theorem dX10_watchman_97 : decode cX10_watchman 97 = .ok (.iconst (-1), 1) := dk_2 (dk_at dksX10_watchman_4 6 rfl rfl)
theorem dX10_watchman_98 : decode cX10_watchman 98 = .ok (.istore_n 3, 1) := dk_62 (dk_at dksX10_watchman_4 7 rfl rfl)
theorem dX10_watchman_99 : decode cX10_watchman 99 = .ok (.iconst 0, 1) := dk_3 (dk_at dksX10_watchman_4 8 rfl rfl)
theorem dX10_watchman_100 : decode cX10_watchman 100 = .ok (.istore 4, 2) := dk_54 4 (dk_at dksX10_watchman_4 9 rfl rfl)
theorem dX10_watchman_102 : decode cX10_watchman 102 = .ok (.iconst 0, 1) := dk_3 (dk_at dksX10_watchman_4 11 rfl rfl)
theorem dX10_watchman_103 : decode cX10_watchman 103 = .ok (.istore 5, 2) := dk_54 5 (dk_at dksX10_watchman_4 12 rfl rfl)
theorem dX10_watchman_105 : decode cX10_watchman 105 = .ok (.iload 5, 2) := dk_21 5 (dk_at dksX10_watchman_4 14 rfl rfl)
theorem dX10_watchman_107 : decode cX10_watchman 107 = .ok (.aload_n 0, 1) := dk_42 (dk_at dksX10_watchman_4 16 rfl rfl)
theorem dX10_watchman_108 : decode cX10_watchman 108 = .ok (.invokevirtual 86, 3) := dk_182 0 86 (dk_at dksX10_watchman_4 17 rfl rfl)
theorem dX10_watchman_111 : decode cX10_watchman 111 = .ok (.if_icmp .ge 77, 3) := dk_162 0 77 (dk_at dksX10_watchman_4 20 rfl rfl)
theorem dX10_watchman_114 : decode cX10_watchman 114 = .ok (.iconst 0, 1) := dk_3 (dk_at dksX10_watchman_4 23 rfl rfl)
theorem dX10_watchman_115 : decode cX10_watchman 115 = .ok (.istore 6, 2) := dk_54 6 (dk_at dksX10_watchman_5 0 rfl rfl)
theorem dX10_watchman_117 : decode cX10_watchman 117 = .ok (.iconst 0, 1) := dk_3 (dk_at dksX10_watchman_5 2 rfl rfl)
theorem dX10_watchman_118 : decode cX10_watchman 118 = .ok (.istore 7, 2) := dk_54 7 (dk_at dksX10_watchman_5 3 rfl rfl)
theorem dX10_watchman_120 : decode cX10_watchman 120 = .ok (.iload 7, 2) := dk_21 7 (dk_at dksX10_watchman_5 5 rfl rfl)
theorem dX10_watchman_122 : decode cX10_watchman 122 = .ok (.aload_n 0, 1) := dk_42 (dk_at dksX10_watchman_5 7 rfl rfl)
theorem dX10_watchman_123 : decode cX10_watchman 123 = .ok (.invokevirtual 86, 3) := dk_182 0 86 (dk_at dksX10_watchman_5 8 rfl rfl)
theorem dX10_watchman_126 : decode cX10_watchman 126 = .ok (.if_icmp .ge 35, 3) := dk_162 0 35 (dk_at dksX10_watchman_5 11 rfl rfl)
theorem dX10_watchman_129 : decode cX10_watchman 129 = .ok (.iload 7, 2) := dk_21 7 (dk_at dksX10_watchman_5 14 rfl rfl)
theorem dX10_watchman_131 : decode cX10_watchman 131 = .ok (.iload 5, 2) := dk_21 5 (dk_at dksX10_watchman_5 16 rfl rfl)
theorem dX10_watchman_133 : decode cX10_watchman 133 = .ok (.if_icmp .ne 8, 3) := dk_160 0 8 (dk_at dksX10_watchman_5 18 rfl rfl)
theorem dX10_watchman_136 : decode cX10_watchman 136 = .ok (.iload 6, 2) := dk_21 6 (dk_at dksX10_watchman_5 21 rfl rfl)
theorem dX10_watchman_138 : decode cX10_watchman 138 = .ok (.goto 15, 3) := dk_167 0 15 (dk_at dksX10_watchman_6 0 rfl rfl)
theorem dX10_watchman_141 : decode cX10_watchman 141 = .ok (.iload 6, 2) := dk_21 6 (dk_at dksX10_watchman_6 3 rfl rfl)
theorem dX10_watchman_143 : decode cX10_watchman 143 = .ok (.aload_n 0, 1) := dk_42 (dk_at dksX10_watchman_6 5 rfl rfl)
theorem dX10_watchman_144 : decode cX10_watchman 144 = .ok (.getfield 66, 3) := dk_180 0 66 (dk_at dksX10_watchman_6 6 rfl rfl)
theorem dX10_watchman_147 : decode cX10_watchman 147 = .ok (.iload 7, 2) := dk_21 7 (dk_at dksX10_watchman_6 9 rfl rfl)
theorem dX10_watchman_149 : decode cX10_watchman 149 = .ok (.iaload, 1) := dk_46 (dk_at dksX10_watchman_6 11 rfl rfl)
theorem dX10_watchman_150 : decode cX10_watchman 150 = .ok (.invokestatic 350, 3) := dk_184 1 94 (dk_at dksX10_watchman_6 12 rfl rfl)
theorem dX10_watchman_153 : decode cX10_watchman 153 = .ok (.istore 6, 2) := dk_54 6 (dk_at dksX10_watchman_6 15 rfl rfl)
theorem dX10_watchman_155 : decode cX10_watchman 155 = .ok (.iinc 7 1, 3) := dk_132 7 1 (dk_at dksX10_watchman_6 17 rfl rfl)
theorem dX10_watchman_158 : decode cX10_watchman 158 = .ok (.goto (-38), 3) := dk_167 255 218 (dk_at dksX10_watchman_6 20 rfl rfl)
theorem dX10_watchman_161 : decode cX10_watchman 161 = .ok (.iload_n 3, 1) := dk_29 (dk_at dksX10_watchman_6 23 rfl rfl)
theorem dX10_watchman_162 : decode cX10_watchman 162 = .ok (.ifCond .lt 13, 3) := dk_155 0 13 (dk_at dksX10_watchman_7 0 rfl rfl)
theorem dX10_watchman_165 : decode cX10_watchman 165 = .ok (.iload 6, 2) := dk_21 6 (dk_at dksX10_watchman_7 3 rfl rfl)
theorem dX10_watchman_167 : decode cX10_watchman 167 = .ok (.iload 4, 2) := dk_21 4 (dk_at dksX10_watchman_7 5 rfl rfl)
theorem dX10_watchman_169 : decode cX10_watchman 169 = .ok (.if_icmp .lt 6, 3) := dk_161 0 6 (dk_at dksX10_watchman_7 7 rfl rfl)
theorem dX10_watchman_172 : decode cX10_watchman 172 = .ok (.goto 10, 3) := dk_167 0 10 (dk_at dksX10_watchman_7 10 rfl rfl)
theorem dX10_watchman_175 : decode cX10_watchman 175 = .ok (.iload 5, 2) := dk_21 5 (dk_at dksX10_watchman_7 13 rfl rfl)
theorem dX10_watchman_177 : decode cX10_watchman 177 = .ok (.istore_n 3, 1) := dk_62 (dk_at dksX10_watchman_7 15 rfl rfl)
theorem dX10_watchman_178 : decode cX10_watchman 178 = .ok (.iload 6, 2) := dk_21 6 (dk_at dksX10_watchman_7 16 rfl rfl)
theorem dX10_watchman_180 : decode cX10_watchman 180 = .ok (.istore 4, 2) := dk_54 4 (dk_at dksX10_watchman_7 18 rfl rfl)
theorem dX10_watchman_182 : decode cX10_watchman 182 = .ok (.iinc 5 1, 3) := dk_132 5 1 (dk_at dksX10_watchman_7 20 rfl rfl)
theorem dX10_watchman_185 : decode cX10_watchman 185 = .ok (.goto (-80), 3) := dk_167 255 176 (dk_at dksX10_watchman_8 0 rfl rfl)
theorem dX10_watchman_188 : decode cX10_watchman 188 = .ok (.iload_n 2, 1) := dk_28 (dk_at dksX10_watchman_8 3 rfl rfl)
theorem dX10_watchman_189 : decode cX10_watchman 189 = .ok (.ifCond .eq 8, 3) := dk_153 0 8 (dk_at dksX10_watchman_8 4 rfl rfl)
theorem dX10_watchman_192 : decode cX10_watchman 192 = .ok (.iload 4, 2) := dk_21 4 (dk_at dksX10_watchman_8 7 rfl rfl)
theorem dX10_watchman_194 : decode cX10_watchman 194 = .ok (.goto 4, 3) := dk_167 0 4 (dk_at dksX10_watchman_8 9 rfl rfl)
theorem dX10_watchman_197 : decode cX10_watchman 197 = .ok (.iload_n 3, 1) := dk_29 (dk_at dksX10_watchman_8 12 rfl rfl)
theorem dX10_watchman_198 : decode cX10_watchman 198 = .ok (.ireturn, 1) := dk_172 (dk_at dksX10_watchman_8 13 rfl rfl)
abbrev cX10_meeting : ByteArray := prog_20_method_128_code
def yX10_meeting : MethodName := ⟨RX10, "meeting", "(II)I"⟩
def dkwX10_meeting_5 : List UInt8 := [180, 0, 45, 29, 46, 42, 180, 0, 54, 29, 46, 160, 0, 5, 29, 172, 132, 3, 1, 167, 255, 213, 2, 172]
abbrev dktX10_meeting_5 : List UInt8 := dkwX10_meeting_5 ++ []
def dkwX10_meeting_4 : List UInt8 := [17, 1, 44, 162, 0, 42, 42, 29, 182, 1, 128, 153, 0, 28, 42, 29, 182, 1, 179, 153, 0, 20, 42]
abbrev dktX10_meeting_4 : List UInt8 := dkwX10_meeting_4 ++ dktX10_meeting_5
def dkwX10_meeting_3 : List UInt8 := [172, 42, 27, 2, 182, 1, 125, 42, 182, 1, 182, 42, 28, 2, 182, 1, 125, 42, 182, 0, 162, 62, 29]
abbrev dktX10_meeting_3 : List UInt8 := dkwX10_meeting_3 ++ dktX10_meeting_4
def dkwX10_meeting_2 : List UInt8 := [182, 1, 44, 153, 0, 5, 3, 172, 42, 27, 5, 182, 0, 82, 42, 28, 5, 182, 0, 82, 159, 0, 5, 2]
abbrev dktX10_meeting_2 : List UInt8 := dkwX10_meeting_2 ++ dktX10_meeting_3
def dkwX10_meeting_1 : List UInt8 := [167, 0, 4, 3, 4, 182, 1, 44, 154, 0, 21, 42, 27, 28, 160, 0, 7, 4, 167, 0, 4, 3, 5]
abbrev dktX10_meeting_1 : List UInt8 := dkwX10_meeting_1 ++ dktX10_meeting_2
def dkwX10_meeting_0 : List UInt8 := [42, 3, 181, 0, 3, 42, 42, 27, 182, 1, 149, 154, 0, 11, 42, 28, 182, 1, 149, 153, 0, 7, 4]
abbrev dktX10_meeting_0 : List UInt8 := dkwX10_meeting_0 ++ dktX10_meeting_1
theorem dksX10_meeting_0 : cX10_meeting.data.toList.drop 0 = dktX10_meeting_0 := by decide +kernel
theorem dksX10_meeting_1 : cX10_meeting.data.toList.drop 23 = dktX10_meeting_1 := dk_seg dksX10_meeting_0 23 rfl rfl
theorem dksX10_meeting_2 : cX10_meeting.data.toList.drop 46 = dktX10_meeting_2 := dk_seg dksX10_meeting_1 23 rfl rfl
theorem dksX10_meeting_3 : cX10_meeting.data.toList.drop 70 = dktX10_meeting_3 := dk_seg dksX10_meeting_2 24 rfl rfl
theorem dksX10_meeting_4 : cX10_meeting.data.toList.drop 93 = dktX10_meeting_4 := dk_seg dksX10_meeting_3 23 rfl rfl
theorem dksX10_meeting_5 : cX10_meeting.data.toList.drop 116 = dktX10_meeting_5 := dk_seg dksX10_meeting_4 23 rfl rfl
theorem dX10_meeting_0 : decode cX10_meeting 0 = .ok (.aload_n 0, 1) := dk_42 (dk_at dksX10_meeting_0 0 rfl rfl)
theorem dX10_meeting_1 : decode cX10_meeting 1 = .ok (.iconst 0, 1) := dk_3 (dk_at dksX10_meeting_0 1 rfl rfl)
theorem dX10_meeting_2 : decode cX10_meeting 2 = .ok (.putfield 3, 3) := dk_181 0 3 (dk_at dksX10_meeting_0 2 rfl rfl)
theorem dX10_meeting_5 : decode cX10_meeting 5 = .ok (.aload_n 0, 1) := dk_42 (dk_at dksX10_meeting_0 5 rfl rfl)
theorem dX10_meeting_6 : decode cX10_meeting 6 = .ok (.aload_n 0, 1) := dk_42 (dk_at dksX10_meeting_0 6 rfl rfl)
theorem dX10_meeting_7 : decode cX10_meeting 7 = .ok (.iload_n 1, 1) := dk_27 (dk_at dksX10_meeting_0 7 rfl rfl)
theorem dX10_meeting_8 : decode cX10_meeting 8 = .ok (.invokevirtual 405, 3) := dk_182 1 149 (dk_at dksX10_meeting_0 8 rfl rfl)
theorem dX10_meeting_11 : decode cX10_meeting 11 = .ok (.ifCond .ne 11, 3) := dk_154 0 11 (dk_at dksX10_meeting_0 11 rfl rfl)
theorem dX10_meeting_14 : decode cX10_meeting 14 = .ok (.aload_n 0, 1) := dk_42 (dk_at dksX10_meeting_0 14 rfl rfl)
theorem dX10_meeting_15 : decode cX10_meeting 15 = .ok (.iload_n 2, 1) := dk_28 (dk_at dksX10_meeting_0 15 rfl rfl)
theorem dX10_meeting_16 : decode cX10_meeting 16 = .ok (.invokevirtual 405, 3) := dk_182 1 149 (dk_at dksX10_meeting_0 16 rfl rfl)
theorem dX10_meeting_19 : decode cX10_meeting 19 = .ok (.ifCond .eq 7, 3) := dk_153 0 7 (dk_at dksX10_meeting_0 19 rfl rfl)
theorem dX10_meeting_22 : decode cX10_meeting 22 = .ok (.iconst 1, 1) := dk_4 (dk_at dksX10_meeting_0 22 rfl rfl)
theorem dX10_meeting_23 : decode cX10_meeting 23 = .ok (.goto 4, 3) := dk_167 0 4 (dk_at dksX10_meeting_1 0 rfl rfl)
theorem dX10_meeting_26 : decode cX10_meeting 26 = .ok (.iconst 0, 1) := dk_3 (dk_at dksX10_meeting_1 3 rfl rfl)
theorem dX10_meeting_27 : decode cX10_meeting 27 = .ok (.iconst 1, 1) := dk_4 (dk_at dksX10_meeting_1 4 rfl rfl)
theorem dX10_meeting_28 : decode cX10_meeting 28 = .ok (.invokevirtual 300, 3) := dk_182 1 44 (dk_at dksX10_meeting_1 5 rfl rfl)
theorem dX10_meeting_31 : decode cX10_meeting 31 = .ok (.ifCond .ne 21, 3) := dk_154 0 21 (dk_at dksX10_meeting_1 8 rfl rfl)
theorem dX10_meeting_34 : decode cX10_meeting 34 = .ok (.aload_n 0, 1) := dk_42 (dk_at dksX10_meeting_1 11 rfl rfl)
theorem dX10_meeting_35 : decode cX10_meeting 35 = .ok (.iload_n 1, 1) := dk_27 (dk_at dksX10_meeting_1 12 rfl rfl)
theorem dX10_meeting_36 : decode cX10_meeting 36 = .ok (.iload_n 2, 1) := dk_28 (dk_at dksX10_meeting_1 13 rfl rfl)
theorem dX10_meeting_37 : decode cX10_meeting 37 = .ok (.if_icmp .ne 7, 3) := dk_160 0 7 (dk_at dksX10_meeting_1 14 rfl rfl)
theorem dX10_meeting_40 : decode cX10_meeting 40 = .ok (.iconst 1, 1) := dk_4 (dk_at dksX10_meeting_1 17 rfl rfl)
theorem dX10_meeting_41 : decode cX10_meeting 41 = .ok (.goto 4, 3) := dk_167 0 4 (dk_at dksX10_meeting_1 18 rfl rfl)
theorem dX10_meeting_44 : decode cX10_meeting 44 = .ok (.iconst 0, 1) := dk_3 (dk_at dksX10_meeting_1 21 rfl rfl)
theorem dX10_meeting_45 : decode cX10_meeting 45 = .ok (.iconst 2, 1) := dk_5 (dk_at dksX10_meeting_1 22 rfl rfl)
theorem dX10_meeting_46 : decode cX10_meeting 46 = .ok (.invokevirtual 300, 3) := dk_182 1 44 (dk_at dksX10_meeting_2 0 rfl rfl)
theorem dX10_meeting_49 : decode cX10_meeting 49 = .ok (.ifCond .eq 5, 3) := dk_153 0 5 (dk_at dksX10_meeting_2 3 rfl rfl)
theorem dX10_meeting_52 : decode cX10_meeting 52 = .ok (.iconst 0, 1) := dk_3 (dk_at dksX10_meeting_2 6 rfl rfl)
theorem dX10_meeting_53 : decode cX10_meeting 53 = .ok (.ireturn, 1) := dk_172 (dk_at dksX10_meeting_2 7 rfl rfl)
theorem dX10_meeting_54 : decode cX10_meeting 54 = .ok (.aload_n 0, 1) := dk_42 (dk_at dksX10_meeting_2 8 rfl rfl)
theorem dX10_meeting_55 : decode cX10_meeting 55 = .ok (.iload_n 1, 1) := dk_27 (dk_at dksX10_meeting_2 9 rfl rfl)
theorem dX10_meeting_56 : decode cX10_meeting 56 = .ok (.iconst 2, 1) := dk_5 (dk_at dksX10_meeting_2 10 rfl rfl)
theorem dX10_meeting_57 : decode cX10_meeting 57 = .ok (.invokevirtual 82, 3) := dk_182 0 82 (dk_at dksX10_meeting_2 11 rfl rfl)
theorem dX10_meeting_60 : decode cX10_meeting 60 = .ok (.aload_n 0, 1) := dk_42 (dk_at dksX10_meeting_2 14 rfl rfl)
theorem dX10_meeting_61 : decode cX10_meeting 61 = .ok (.iload_n 2, 1) := dk_28 (dk_at dksX10_meeting_2 15 rfl rfl)
theorem dX10_meeting_62 : decode cX10_meeting 62 = .ok (.iconst 2, 1) := dk_5 (dk_at dksX10_meeting_2 16 rfl rfl)
theorem dX10_meeting_63 : decode cX10_meeting 63 = .ok (.invokevirtual 82, 3) := dk_182 0 82 (dk_at dksX10_meeting_2 17 rfl rfl)
theorem dX10_meeting_66 : decode cX10_meeting 66 = .ok (.if_icmp .eq 5, 3) := dk_159 0 5 (dk_at dksX10_meeting_2 20 rfl rfl)
theorem dX10_meeting_69 : decode cX10_meeting 69 = .ok (.iconst (-1), 1) := dk_2 (dk_at dksX10_meeting_2 23 rfl rfl)
theorem dX10_meeting_70 : decode cX10_meeting 70 = .ok (.ireturn, 1) := dk_172 (dk_at dksX10_meeting_3 0 rfl rfl)
theorem dX10_meeting_71 : decode cX10_meeting 71 = .ok (.aload_n 0, 1) := dk_42 (dk_at dksX10_meeting_3 1 rfl rfl)
theorem dX10_meeting_72 : decode cX10_meeting 72 = .ok (.iload_n 1, 1) := dk_27 (dk_at dksX10_meeting_3 2 rfl rfl)
theorem dX10_meeting_73 : decode cX10_meeting 73 = .ok (.iconst (-1), 1) := dk_2 (dk_at dksX10_meeting_3 3 rfl rfl)
theorem dX10_meeting_74 : decode cX10_meeting 74 = .ok (.invokevirtual 381, 3) := dk_182 1 125 (dk_at dksX10_meeting_3 4 rfl rfl)
theorem dX10_meeting_77 : decode cX10_meeting 77 = .ok (.aload_n 0, 1) := dk_42 (dk_at dksX10_meeting_3 7 rfl rfl)
theorem dX10_meeting_78 : decode cX10_meeting 78 = .ok (.invokevirtual 438, 3) := dk_182 1 182 (dk_at dksX10_meeting_3 8 rfl rfl)
theorem dX10_meeting_81 : decode cX10_meeting 81 = .ok (.aload_n 0, 1) := dk_42 (dk_at dksX10_meeting_3 11 rfl rfl)
theorem dX10_meeting_82 : decode cX10_meeting 82 = .ok (.iload_n 2, 1) := dk_28 (dk_at dksX10_meeting_3 12 rfl rfl)
theorem dX10_meeting_83 : decode cX10_meeting 83 = .ok (.iconst (-1), 1) := dk_2 (dk_at dksX10_meeting_3 13 rfl rfl)
theorem dX10_meeting_84 : decode cX10_meeting 84 = .ok (.invokevirtual 381, 3) := dk_182 1 125 (dk_at dksX10_meeting_3 14 rfl rfl)
theorem dX10_meeting_87 : decode cX10_meeting 87 = .ok (.aload_n 0, 1) := dk_42 (dk_at dksX10_meeting_3 17 rfl rfl)
theorem dX10_meeting_88 : decode cX10_meeting 88 = .ok (.invokevirtual 162, 3) := dk_182 0 162 (dk_at dksX10_meeting_3 18 rfl rfl)
theorem dX10_meeting_91 : decode cX10_meeting 91 = .ok (.istore_n 3, 1) := dk_62 (dk_at dksX10_meeting_3 21 rfl rfl)
theorem dX10_meeting_92 : decode cX10_meeting 92 = .ok (.iload_n 3, 1) := dk_29 (dk_at dksX10_meeting_3 22 rfl rfl)
theorem dX10_meeting_93 : decode cX10_meeting 93 = .ok (.sipush 300, 3) := dk_17 1 44 (dk_at dksX10_meeting_4 0 rfl rfl)
theorem dX10_meeting_96 : decode cX10_meeting 96 = .ok (.if_icmp .ge 42, 3) := dk_162 0 42 (dk_at dksX10_meeting_4 3 rfl rfl)
theorem dX10_meeting_99 : decode cX10_meeting 99 = .ok (.aload_n 0, 1) := dk_42 (dk_at dksX10_meeting_4 6 rfl rfl)
theorem dX10_meeting_100 : decode cX10_meeting 100 = .ok (.iload_n 3, 1) := dk_29 (dk_at dksX10_meeting_4 7 rfl rfl)
theorem dX10_meeting_101 : decode cX10_meeting 101 = .ok (.invokevirtual 384, 3) := dk_182 1 128 (dk_at dksX10_meeting_4 8 rfl rfl)
theorem dX10_meeting_104 : decode cX10_meeting 104 = .ok (.ifCond .eq 28, 3) := dk_153 0 28 (dk_at dksX10_meeting_4 11 rfl rfl)
theorem dX10_meeting_107 : decode cX10_meeting 107 = .ok (.aload_n 0, 1) := dk_42 (dk_at dksX10_meeting_4 14 rfl rfl)
theorem dX10_meeting_108 : decode cX10_meeting 108 = .ok (.iload_n 3, 1) := dk_29 (dk_at dksX10_meeting_4 15 rfl rfl)
theorem dX10_meeting_109 : decode cX10_meeting 109 = .ok (.invokevirtual 435, 3) := dk_182 1 179 (dk_at dksX10_meeting_4 16 rfl rfl)
theorem dX10_meeting_112 : decode cX10_meeting 112 = .ok (.ifCond .eq 20, 3) := dk_153 0 20 (dk_at dksX10_meeting_4 19 rfl rfl)
theorem dX10_meeting_115 : decode cX10_meeting 115 = .ok (.aload_n 0, 1) := dk_42 (dk_at dksX10_meeting_4 22 rfl rfl)
theorem dX10_meeting_116 : decode cX10_meeting 116 = .ok (.getfield 45, 3) := dk_180 0 45 (dk_at dksX10_meeting_5 0 rfl rfl)
theorem dX10_meeting_119 : decode cX10_meeting 119 = .ok (.iload_n 3, 1) := dk_29 (dk_at dksX10_meeting_5 3 rfl rfl)
theorem dX10_meeting_120 : decode cX10_meeting 120 = .ok (.iaload, 1) := dk_46 (dk_at dksX10_meeting_5 4 rfl rfl)
theorem dX10_meeting_121 : decode cX10_meeting 121 = .ok (.aload_n 0, 1) := dk_42 (dk_at dksX10_meeting_5 5 rfl rfl)
theorem dX10_meeting_122 : decode cX10_meeting 122 = .ok (.getfield 54, 3) := dk_180 0 54 (dk_at dksX10_meeting_5 6 rfl rfl)
theorem dX10_meeting_125 : decode cX10_meeting 125 = .ok (.iload_n 3, 1) := dk_29 (dk_at dksX10_meeting_5 9 rfl rfl)
theorem dX10_meeting_126 : decode cX10_meeting 126 = .ok (.iaload, 1) := dk_46 (dk_at dksX10_meeting_5 10 rfl rfl)
theorem dX10_meeting_127 : decode cX10_meeting 127 = .ok (.if_icmp .ne 5, 3) := dk_160 0 5 (dk_at dksX10_meeting_5 11 rfl rfl)
theorem dX10_meeting_130 : decode cX10_meeting 130 = .ok (.iload_n 3, 1) := dk_29 (dk_at dksX10_meeting_5 14 rfl rfl)
theorem dX10_meeting_131 : decode cX10_meeting 131 = .ok (.ireturn, 1) := dk_172 (dk_at dksX10_meeting_5 15 rfl rfl)
theorem dX10_meeting_132 : decode cX10_meeting 132 = .ok (.iinc 3 1, 3) := dk_132 3 1 (dk_at dksX10_meeting_5 16 rfl rfl)
theorem dX10_meeting_135 : decode cX10_meeting 135 = .ok (.goto (-43), 3) := dk_167 255 213 (dk_at dksX10_meeting_5 19 rfl rfl)
theorem dX10_meeting_138 : decode cX10_meeting 138 = .ok (.iconst (-1), 1) := dk_2 (dk_at dksX10_meeting_5 22 rfl rfl)
theorem dX10_meeting_139 : decode cX10_meeting 139 = .ok (.ireturn, 1) := dk_172 (dk_at dksX10_meeting_5 23 rfl rfl)
abbrev cX10_outs : ByteArray := prog_20_method_129_code
def yX10_outs : MethodName := ⟨RX10, "outs", "(I)I"⟩
def dkwX10_outs_1 : List UInt8 := [27, 2, 4, 182, 1, 175, 172]
abbrev dktX10_outs_1 : List UInt8 := dkwX10_outs_1 ++ []
def dkwX10_outs_0 : List UInt8 := [42, 3, 181, 0, 3, 42, 27, 184, 1, 97, 4, 182, 1, 44, 153, 0, 5, 3, 172, 42, 182, 1, 172, 42]
abbrev dktX10_outs_0 : List UInt8 := dkwX10_outs_0 ++ dktX10_outs_1
theorem dksX10_outs_0 : cX10_outs.data.toList.drop 0 = dktX10_outs_0 := by decide +kernel
theorem dksX10_outs_1 : cX10_outs.data.toList.drop 24 = dktX10_outs_1 := dk_seg dksX10_outs_0 24 rfl rfl
theorem dX10_outs_0 : decode cX10_outs 0 = .ok (.aload_n 0, 1) := dk_42 (dk_at dksX10_outs_0 0 rfl rfl)
theorem dX10_outs_1 : decode cX10_outs 1 = .ok (.iconst 0, 1) := dk_3 (dk_at dksX10_outs_0 1 rfl rfl)
theorem dX10_outs_2 : decode cX10_outs 2 = .ok (.putfield 3, 3) := dk_181 0 3 (dk_at dksX10_outs_0 2 rfl rfl)
theorem dX10_outs_5 : decode cX10_outs 5 = .ok (.aload_n 0, 1) := dk_42 (dk_at dksX10_outs_0 5 rfl rfl)
theorem dX10_outs_6 : decode cX10_outs 6 = .ok (.iload_n 1, 1) := dk_27 (dk_at dksX10_outs_0 6 rfl rfl)
theorem dX10_outs_7 : decode cX10_outs 7 = .ok (.invokestatic 353, 3) := dk_184 1 97 (dk_at dksX10_outs_0 7 rfl rfl)
theorem dX10_outs_10 : decode cX10_outs 10 = .ok (.iconst 1, 1) := dk_4 (dk_at dksX10_outs_0 10 rfl rfl)
theorem dX10_outs_11 : decode cX10_outs 11 = .ok (.invokevirtual 300, 3) := dk_182 1 44 (dk_at dksX10_outs_0 11 rfl rfl)
theorem dX10_outs_14 : decode cX10_outs 14 = .ok (.ifCond .eq 5, 3) := dk_153 0 5 (dk_at dksX10_outs_0 14 rfl rfl)
theorem dX10_outs_17 : decode cX10_outs 17 = .ok (.iconst 0, 1) := dk_3 (dk_at dksX10_outs_0 17 rfl rfl)
theorem dX10_outs_18 : decode cX10_outs 18 = .ok (.ireturn, 1) := dk_172 (dk_at dksX10_outs_0 18 rfl rfl)
theorem dX10_outs_19 : decode cX10_outs 19 = .ok (.aload_n 0, 1) := dk_42 (dk_at dksX10_outs_0 19 rfl rfl)
theorem dX10_outs_20 : decode cX10_outs 20 = .ok (.invokevirtual 428, 3) := dk_182 1 172 (dk_at dksX10_outs_0 20 rfl rfl)
theorem dX10_outs_23 : decode cX10_outs 23 = .ok (.aload_n 0, 1) := dk_42 (dk_at dksX10_outs_0 23 rfl rfl)
theorem dX10_outs_24 : decode cX10_outs 24 = .ok (.iload_n 1, 1) := dk_27 (dk_at dksX10_outs_1 0 rfl rfl)
theorem dX10_outs_25 : decode cX10_outs 25 = .ok (.iconst (-1), 1) := dk_2 (dk_at dksX10_outs_1 1 rfl rfl)
theorem dX10_outs_26 : decode cX10_outs 26 = .ok (.iconst 1, 1) := dk_4 (dk_at dksX10_outs_1 2 rfl rfl)
theorem dX10_outs_27 : decode cX10_outs 27 = .ok (.invokevirtual 431, 3) := dk_182 1 175 (dk_at dksX10_outs_1 3 rfl rfl)
theorem dX10_outs_30 : decode cX10_outs 30 = .ok (.ireturn, 1) := dk_172 (dk_at dksX10_outs_1 6 rfl rfl)
abbrev cX10_order : ByteArray := prog_20_method_130_code
def yX10_order : MethodName := ⟨RX10, "order", "(I)I"⟩
def dkwX10_order_3 : List UInt8 := [167, 255, 200, 2, 172]
abbrev dktX10_order_3 : List UInt8 := dkwX10_order_3 ++ []
def dkwX10_order_2 : List UInt8 := [167, 0, 13, 28, 154, 0, 6, 21, 4, 172, 132, 2, 255, 132, 4, 1, 167, 255, 220, 132, 3, 1]
abbrev dktX10_order_2 : List UInt8 := dkwX10_order_2 ++ dktX10_order_3
def dkwX10_order_1 : List UInt8 := [3, 54, 4, 21, 4, 42, 182, 0, 100, 162, 0, 33, 42, 180, 0, 51, 21, 4, 46, 29, 159, 0, 6]
abbrev dktX10_order_1 : List UInt8 := dkwX10_order_1 ++ dktX10_order_2
def dkwX10_order_0 : List UInt8 := [42, 3, 181, 0, 3, 42, 182, 1, 172, 27, 61, 3, 62, 29, 17, 1, 44, 162, 0, 55, 27, 155, 0, 51]
abbrev dktX10_order_0 : List UInt8 := dkwX10_order_0 ++ dktX10_order_1
theorem dksX10_order_0 : cX10_order.data.toList.drop 0 = dktX10_order_0 := by decide +kernel
theorem dksX10_order_1 : cX10_order.data.toList.drop 24 = dktX10_order_1 := dk_seg dksX10_order_0 24 rfl rfl
theorem dksX10_order_2 : cX10_order.data.toList.drop 47 = dktX10_order_2 := dk_seg dksX10_order_1 23 rfl rfl
theorem dksX10_order_3 : cX10_order.data.toList.drop 69 = dktX10_order_3 := dk_seg dksX10_order_2 22 rfl rfl
theorem dX10_order_0 : decode cX10_order 0 = .ok (.aload_n 0, 1) := dk_42 (dk_at dksX10_order_0 0 rfl rfl)
theorem dX10_order_1 : decode cX10_order 1 = .ok (.iconst 0, 1) := dk_3 (dk_at dksX10_order_0 1 rfl rfl)
theorem dX10_order_2 : decode cX10_order 2 = .ok (.putfield 3, 3) := dk_181 0 3 (dk_at dksX10_order_0 2 rfl rfl)
theorem dX10_order_5 : decode cX10_order 5 = .ok (.aload_n 0, 1) := dk_42 (dk_at dksX10_order_0 5 rfl rfl)
theorem dX10_order_6 : decode cX10_order 6 = .ok (.invokevirtual 428, 3) := dk_182 1 172 (dk_at dksX10_order_0 6 rfl rfl)
theorem dX10_order_9 : decode cX10_order 9 = .ok (.iload_n 1, 1) := dk_27 (dk_at dksX10_order_0 9 rfl rfl)
theorem dX10_order_10 : decode cX10_order 10 = .ok (.istore_n 2, 1) := dk_61 (dk_at dksX10_order_0 10 rfl rfl)
theorem dX10_order_11 : decode cX10_order 11 = .ok (.iconst 0, 1) := dk_3 (dk_at dksX10_order_0 11 rfl rfl)
theorem dX10_order_12 : decode cX10_order 12 = .ok (.istore_n 3, 1) := dk_62 (dk_at dksX10_order_0 12 rfl rfl)
theorem dX10_order_13 : decode cX10_order 13 = .ok (.iload_n 3, 1) := dk_29 (dk_at dksX10_order_0 13 rfl rfl)
theorem dX10_order_14 : decode cX10_order 14 = .ok (.sipush 300, 3) := dk_17 1 44 (dk_at dksX10_order_0 14 rfl rfl)
theorem dX10_order_17 : decode cX10_order 17 = .ok (.if_icmp .ge 55, 3) := dk_162 0 55 (dk_at dksX10_order_0 17 rfl rfl)
theorem dX10_order_20 : decode cX10_order 20 = .ok (.iload_n 1, 1) := dk_27 (dk_at dksX10_order_0 20 rfl rfl)
theorem dX10_order_21 : decode cX10_order 21 = .ok (.ifCond .lt 51, 3) := dk_155 0 51 (dk_at dksX10_order_0 21 rfl rfl)
theorem dX10_order_24 : decode cX10_order 24 = .ok (.iconst 0, 1) := dk_3 (dk_at dksX10_order_1 0 rfl rfl)
theorem dX10_order_25 : decode cX10_order 25 = .ok (.istore 4, 2) := dk_54 4 (dk_at dksX10_order_1 1 rfl rfl)
theorem dX10_order_27 : decode cX10_order 27 = .ok (.iload 4, 2) := dk_21 4 (dk_at dksX10_order_1 3 rfl rfl)
theorem dX10_order_29 : decode cX10_order 29 = .ok (.aload_n 0, 1) := dk_42 (dk_at dksX10_order_1 5 rfl rfl)
theorem dX10_order_30 : decode cX10_order 30 = .ok (.invokevirtual 100, 3) := dk_182 0 100 (dk_at dksX10_order_1 6 rfl rfl)
theorem dX10_order_33 : decode cX10_order 33 = .ok (.if_icmp .ge 33, 3) := dk_162 0 33 (dk_at dksX10_order_1 9 rfl rfl)
theorem dX10_order_36 : decode cX10_order 36 = .ok (.aload_n 0, 1) := dk_42 (dk_at dksX10_order_1 12 rfl rfl)
theorem dX10_order_37 : decode cX10_order 37 = .ok (.getfield 51, 3) := dk_180 0 51 (dk_at dksX10_order_1 13 rfl rfl)
theorem dX10_order_40 : decode cX10_order 40 = .ok (.iload 4, 2) := dk_21 4 (dk_at dksX10_order_1 16 rfl rfl)
theorem dX10_order_42 : decode cX10_order 42 = .ok (.iaload, 1) := dk_46 (dk_at dksX10_order_1 18 rfl rfl)
theorem dX10_order_43 : decode cX10_order 43 = .ok (.iload_n 3, 1) := dk_29 (dk_at dksX10_order_1 19 rfl rfl)
theorem dX10_order_44 : decode cX10_order 44 = .ok (.if_icmp .eq 6, 3) := dk_159 0 6 (dk_at dksX10_order_1 20 rfl rfl)
theorem dX10_order_47 : decode cX10_order 47 = .ok (.goto 13, 3) := dk_167 0 13 (dk_at dksX10_order_2 0 rfl rfl)
theorem dX10_order_50 : decode cX10_order 50 = .ok (.iload_n 2, 1) := dk_28 (dk_at dksX10_order_2 3 rfl rfl)
theorem dX10_order_51 : decode cX10_order 51 = .ok (.ifCond .ne 6, 3) := dk_154 0 6 (dk_at dksX10_order_2 4 rfl rfl)
theorem dX10_order_54 : decode cX10_order 54 = .ok (.iload 4, 2) := dk_21 4 (dk_at dksX10_order_2 7 rfl rfl)
theorem dX10_order_56 : decode cX10_order 56 = .ok (.ireturn, 1) := dk_172 (dk_at dksX10_order_2 9 rfl rfl)
theorem dX10_order_57 : decode cX10_order 57 = .ok (.iinc 2 (-1), 3) := dk_132 2 255 (dk_at dksX10_order_2 10 rfl rfl)
theorem dX10_order_60 : decode cX10_order 60 = .ok (.iinc 4 1, 3) := dk_132 4 1 (dk_at dksX10_order_2 13 rfl rfl)
theorem dX10_order_63 : decode cX10_order 63 = .ok (.goto (-36), 3) := dk_167 255 220 (dk_at dksX10_order_2 16 rfl rfl)
theorem dX10_order_66 : decode cX10_order 66 = .ok (.iinc 3 1, 3) := dk_132 3 1 (dk_at dksX10_order_2 19 rfl rfl)
theorem dX10_order_69 : decode cX10_order 69 = .ok (.goto (-56), 3) := dk_167 255 200 (dk_at dksX10_order_3 0 rfl rfl)
theorem dX10_order_72 : decode cX10_order 72 = .ok (.iconst (-1), 1) := dk_2 (dk_at dksX10_order_3 3 rfl rfl)
theorem dX10_order_73 : decode cX10_order 73 = .ok (.ireturn, 1) := dk_172 (dk_at dksX10_order_3 4 rfl rfl)
abbrev cX10_streams : ByteArray := prog_20_method_131_code
def yX10_streams : MethodName := ⟨RX10, "streams", "(IZ)I"⟩
def dkwX10_streams_4 : List UInt8 := [167, 255, 189, 29, 172]
abbrev dktX10_streams_4 : List UInt8 := dkwX10_streams_4 ++ []
def dkwX10_streams_3 : List UInt8 := [46, 161, 0, 7, 4, 167, 0, 4, 3, 28, 160, 0, 7, 4, 167, 0, 4, 3, 96, 62, 132, 4, 1]
abbrev dktX10_streams_3 : List UInt8 := dkwX10_streams_3 ++ dktX10_streams_4
def dkwX10_streams_2 : List UInt8 := [42, 180, 0, 51, 21, 4, 46, 27, 163, 0, 33, 42, 21, 4, 5, 182, 0, 82, 42, 180, 0, 13, 16, 12]
abbrev dktX10_streams_2 : List UInt8 := dkwX10_streams_2 ++ dktX10_streams_3
def dkwX10_streams_1 : List UInt8 := [62, 3, 54, 4, 21, 4, 42, 182, 0, 100, 162, 0, 64, 29, 42, 180, 0, 51, 21, 4, 46, 155, 0, 44]
abbrev dktX10_streams_1 : List UInt8 := dkwX10_streams_1 ++ dktX10_streams_2
def dkwX10_streams_0 : List UInt8 := [42, 3, 181, 0, 3, 42, 27, 184, 1, 97, 4, 182, 1, 44, 153, 0, 5, 3, 172, 42, 182, 1, 172, 3]
abbrev dktX10_streams_0 : List UInt8 := dkwX10_streams_0 ++ dktX10_streams_1
theorem dksX10_streams_0 : cX10_streams.data.toList.drop 0 = dktX10_streams_0 := by decide +kernel
theorem dksX10_streams_1 : cX10_streams.data.toList.drop 24 = dktX10_streams_1 := dk_seg dksX10_streams_0 24 rfl rfl
theorem dksX10_streams_2 : cX10_streams.data.toList.drop 48 = dktX10_streams_2 := dk_seg dksX10_streams_1 24 rfl rfl
theorem dksX10_streams_3 : cX10_streams.data.toList.drop 72 = dktX10_streams_3 := dk_seg dksX10_streams_2 24 rfl rfl
theorem dksX10_streams_4 : cX10_streams.data.toList.drop 95 = dktX10_streams_4 := dk_seg dksX10_streams_3 23 rfl rfl
theorem dX10_streams_0 : decode cX10_streams 0 = .ok (.aload_n 0, 1) := dk_42 (dk_at dksX10_streams_0 0 rfl rfl)
theorem dX10_streams_1 : decode cX10_streams 1 = .ok (.iconst 0, 1) := dk_3 (dk_at dksX10_streams_0 1 rfl rfl)
theorem dX10_streams_2 : decode cX10_streams 2 = .ok (.putfield 3, 3) := dk_181 0 3 (dk_at dksX10_streams_0 2 rfl rfl)
theorem dX10_streams_5 : decode cX10_streams 5 = .ok (.aload_n 0, 1) := dk_42 (dk_at dksX10_streams_0 5 rfl rfl)
theorem dX10_streams_6 : decode cX10_streams 6 = .ok (.iload_n 1, 1) := dk_27 (dk_at dksX10_streams_0 6 rfl rfl)
theorem dX10_streams_7 : decode cX10_streams 7 = .ok (.invokestatic 353, 3) := dk_184 1 97 (dk_at dksX10_streams_0 7 rfl rfl)
theorem dX10_streams_10 : decode cX10_streams 10 = .ok (.iconst 1, 1) := dk_4 (dk_at dksX10_streams_0 10 rfl rfl)
theorem dX10_streams_11 : decode cX10_streams 11 = .ok (.invokevirtual 300, 3) := dk_182 1 44 (dk_at dksX10_streams_0 11 rfl rfl)
theorem dX10_streams_14 : decode cX10_streams 14 = .ok (.ifCond .eq 5, 3) := dk_153 0 5 (dk_at dksX10_streams_0 14 rfl rfl)
theorem dX10_streams_17 : decode cX10_streams 17 = .ok (.iconst 0, 1) := dk_3 (dk_at dksX10_streams_0 17 rfl rfl)
theorem dX10_streams_18 : decode cX10_streams 18 = .ok (.ireturn, 1) := dk_172 (dk_at dksX10_streams_0 18 rfl rfl)
theorem dX10_streams_19 : decode cX10_streams 19 = .ok (.aload_n 0, 1) := dk_42 (dk_at dksX10_streams_0 19 rfl rfl)
theorem dX10_streams_20 : decode cX10_streams 20 = .ok (.invokevirtual 428, 3) := dk_182 1 172 (dk_at dksX10_streams_0 20 rfl rfl)
theorem dX10_streams_23 : decode cX10_streams 23 = .ok (.iconst 0, 1) := dk_3 (dk_at dksX10_streams_0 23 rfl rfl)
theorem dX10_streams_24 : decode cX10_streams 24 = .ok (.istore_n 3, 1) := dk_62 (dk_at dksX10_streams_1 0 rfl rfl)
theorem dX10_streams_25 : decode cX10_streams 25 = .ok (.iconst 0, 1) := dk_3 (dk_at dksX10_streams_1 1 rfl rfl)
theorem dX10_streams_26 : decode cX10_streams 26 = .ok (.istore 4, 2) := dk_54 4 (dk_at dksX10_streams_1 2 rfl rfl)
theorem dX10_streams_28 : decode cX10_streams 28 = .ok (.iload 4, 2) := dk_21 4 (dk_at dksX10_streams_1 4 rfl rfl)
theorem dX10_streams_30 : decode cX10_streams 30 = .ok (.aload_n 0, 1) := dk_42 (dk_at dksX10_streams_1 6 rfl rfl)
theorem dX10_streams_31 : decode cX10_streams 31 = .ok (.invokevirtual 100, 3) := dk_182 0 100 (dk_at dksX10_streams_1 7 rfl rfl)
theorem dX10_streams_34 : decode cX10_streams 34 = .ok (.if_icmp .ge 64, 3) := dk_162 0 64 (dk_at dksX10_streams_1 10 rfl rfl)
theorem dX10_streams_37 : decode cX10_streams 37 = .ok (.iload_n 3, 1) := dk_29 (dk_at dksX10_streams_1 13 rfl rfl)
theorem dX10_streams_38 : decode cX10_streams 38 = .ok (.aload_n 0, 1) := dk_42 (dk_at dksX10_streams_1 14 rfl rfl)
theorem dX10_streams_39 : decode cX10_streams 39 = .ok (.getfield 51, 3) := dk_180 0 51 (dk_at dksX10_streams_1 15 rfl rfl)
theorem dX10_streams_42 : decode cX10_streams 42 = .ok (.iload 4, 2) := dk_21 4 (dk_at dksX10_streams_1 18 rfl rfl)
theorem dX10_streams_44 : decode cX10_streams 44 = .ok (.iaload, 1) := dk_46 (dk_at dksX10_streams_1 20 rfl rfl)
theorem dX10_streams_45 : decode cX10_streams 45 = .ok (.ifCond .lt 44, 3) := dk_155 0 44 (dk_at dksX10_streams_1 21 rfl rfl)
theorem dX10_streams_48 : decode cX10_streams 48 = .ok (.aload_n 0, 1) := dk_42 (dk_at dksX10_streams_2 0 rfl rfl)
theorem dX10_streams_49 : decode cX10_streams 49 = .ok (.getfield 51, 3) := dk_180 0 51 (dk_at dksX10_streams_2 1 rfl rfl)
theorem dX10_streams_52 : decode cX10_streams 52 = .ok (.iload 4, 2) := dk_21 4 (dk_at dksX10_streams_2 4 rfl rfl)
theorem dX10_streams_54 : decode cX10_streams 54 = .ok (.iaload, 1) := dk_46 (dk_at dksX10_streams_2 6 rfl rfl)
theorem dX10_streams_55 : decode cX10_streams 55 = .ok (.iload_n 1, 1) := dk_27 (dk_at dksX10_streams_2 7 rfl rfl)
theorem dX10_streams_56 : decode cX10_streams 56 = .ok (.if_icmp .gt 33, 3) := dk_163 0 33 (dk_at dksX10_streams_2 8 rfl rfl)
theorem dX10_streams_59 : decode cX10_streams 59 = .ok (.aload_n 0, 1) := dk_42 (dk_at dksX10_streams_2 11 rfl rfl)
theorem dX10_streams_60 : decode cX10_streams 60 = .ok (.iload 4, 2) := dk_21 4 (dk_at dksX10_streams_2 12 rfl rfl)
theorem dX10_streams_62 : decode cX10_streams 62 = .ok (.iconst 2, 1) := dk_5 (dk_at dksX10_streams_2 14 rfl rfl)
theorem dX10_streams_63 : decode cX10_streams 63 = .ok (.invokevirtual 82, 3) := dk_182 0 82 (dk_at dksX10_streams_2 15 rfl rfl)
theorem dX10_streams_66 : decode cX10_streams 66 = .ok (.aload_n 0, 1) := dk_42 (dk_at dksX10_streams_2 18 rfl rfl)
theorem dX10_streams_67 : decode cX10_streams 67 = .ok (.getfield 13, 3) := dk_180 0 13 (dk_at dksX10_streams_2 19 rfl rfl)
theorem dX10_streams_70 : decode cX10_streams 70 = .ok (.bipush 12, 2) := dk_16 12 (dk_at dksX10_streams_2 22 rfl rfl)
theorem dX10_streams_72 : decode cX10_streams 72 = .ok (.iaload, 1) := dk_46 (dk_at dksX10_streams_3 0 rfl rfl)
theorem dX10_streams_73 : decode cX10_streams 73 = .ok (.if_icmp .lt 7, 3) := dk_161 0 7 (dk_at dksX10_streams_3 1 rfl rfl)
theorem dX10_streams_76 : decode cX10_streams 76 = .ok (.iconst 1, 1) := dk_4 (dk_at dksX10_streams_3 4 rfl rfl)
theorem dX10_streams_77 : decode cX10_streams 77 = .ok (.goto 4, 3) := dk_167 0 4 (dk_at dksX10_streams_3 5 rfl rfl)
theorem dX10_streams_80 : decode cX10_streams 80 = .ok (.iconst 0, 1) := dk_3 (dk_at dksX10_streams_3 8 rfl rfl)
theorem dX10_streams_81 : decode cX10_streams 81 = .ok (.iload_n 2, 1) := dk_28 (dk_at dksX10_streams_3 9 rfl rfl)
theorem dX10_streams_82 : decode cX10_streams 82 = .ok (.if_icmp .ne 7, 3) := dk_160 0 7 (dk_at dksX10_streams_3 10 rfl rfl)
theorem dX10_streams_85 : decode cX10_streams 85 = .ok (.iconst 1, 1) := dk_4 (dk_at dksX10_streams_3 13 rfl rfl)
theorem dX10_streams_86 : decode cX10_streams 86 = .ok (.goto 4, 3) := dk_167 0 4 (dk_at dksX10_streams_3 14 rfl rfl)
theorem dX10_streams_89 : decode cX10_streams 89 = .ok (.iconst 0, 1) := dk_3 (dk_at dksX10_streams_3 17 rfl rfl)
theorem dX10_streams_90 : decode cX10_streams 90 = .ok (.iadd, 1) := dk_96 (dk_at dksX10_streams_3 18 rfl rfl)
theorem dX10_streams_91 : decode cX10_streams 91 = .ok (.istore_n 3, 1) := dk_62 (dk_at dksX10_streams_3 19 rfl rfl)
theorem dX10_streams_92 : decode cX10_streams 92 = .ok (.iinc 4 1, 3) := dk_132 4 1 (dk_at dksX10_streams_3 20 rfl rfl)
theorem dX10_streams_95 : decode cX10_streams 95 = .ok (.goto (-67), 3) := dk_167 255 189 (dk_at dksX10_streams_4 0 rfl rfl)
theorem dX10_streams_98 : decode cX10_streams 98 = .ok (.iload_n 3, 1) := dk_29 (dk_at dksX10_streams_4 3 rfl rfl)
theorem dX10_streams_99 : decode cX10_streams 99 = .ok (.ireturn, 1) := dk_172 (dk_at dksX10_streams_4 4 rfl rfl)
abbrev cX10_range : ByteArray := prog_20_method_132_code
def yX10_range : MethodName := ⟨RX10, "range", "(II)I"⟩
def dkwX10_range_2 : List UInt8 := [29, 28, 100, 172]
abbrev dktX10_range_2 : List UInt8 := dkwX10_range_2 ++ []
def dkwX10_range_1 : List UInt8 := [182, 1, 44, 153, 0, 5, 3, 172, 42, 27, 3, 28, 182, 1, 169, 62, 29, 156, 0, 7, 2, 167, 0, 6]
abbrev dktX10_range_1 : List UInt8 := dkwX10_range_1 ++ dktX10_range_2
def dkwX10_range_0 : List UInt8 := [42, 3, 181, 0, 3, 42, 42, 27, 182, 1, 100, 4, 182, 1, 44, 154, 0, 15, 42, 28, 184, 1, 97, 5]
abbrev dktX10_range_0 : List UInt8 := dkwX10_range_0 ++ dktX10_range_1
theorem dksX10_range_0 : cX10_range.data.toList.drop 0 = dktX10_range_0 := by decide +kernel
theorem dksX10_range_1 : cX10_range.data.toList.drop 24 = dktX10_range_1 := dk_seg dksX10_range_0 24 rfl rfl
theorem dksX10_range_2 : cX10_range.data.toList.drop 48 = dktX10_range_2 := dk_seg dksX10_range_1 24 rfl rfl
theorem dX10_range_0 : decode cX10_range 0 = .ok (.aload_n 0, 1) := dk_42 (dk_at dksX10_range_0 0 rfl rfl)
theorem dX10_range_1 : decode cX10_range 1 = .ok (.iconst 0, 1) := dk_3 (dk_at dksX10_range_0 1 rfl rfl)
theorem dX10_range_2 : decode cX10_range 2 = .ok (.putfield 3, 3) := dk_181 0 3 (dk_at dksX10_range_0 2 rfl rfl)
theorem dX10_range_5 : decode cX10_range 5 = .ok (.aload_n 0, 1) := dk_42 (dk_at dksX10_range_0 5 rfl rfl)
theorem dX10_range_6 : decode cX10_range 6 = .ok (.aload_n 0, 1) := dk_42 (dk_at dksX10_range_0 6 rfl rfl)
theorem dX10_range_7 : decode cX10_range 7 = .ok (.iload_n 1, 1) := dk_27 (dk_at dksX10_range_0 7 rfl rfl)
theorem dX10_range_8 : decode cX10_range 8 = .ok (.invokevirtual 356, 3) := dk_182 1 100 (dk_at dksX10_range_0 8 rfl rfl)
theorem dX10_range_11 : decode cX10_range 11 = .ok (.iconst 1, 1) := dk_4 (dk_at dksX10_range_0 11 rfl rfl)
theorem dX10_range_12 : decode cX10_range 12 = .ok (.invokevirtual 300, 3) := dk_182 1 44 (dk_at dksX10_range_0 12 rfl rfl)
theorem dX10_range_15 : decode cX10_range 15 = .ok (.ifCond .ne 15, 3) := dk_154 0 15 (dk_at dksX10_range_0 15 rfl rfl)
theorem dX10_range_18 : decode cX10_range 18 = .ok (.aload_n 0, 1) := dk_42 (dk_at dksX10_range_0 18 rfl rfl)
theorem dX10_range_19 : decode cX10_range 19 = .ok (.iload_n 2, 1) := dk_28 (dk_at dksX10_range_0 19 rfl rfl)
theorem dX10_range_20 : decode cX10_range 20 = .ok (.invokestatic 353, 3) := dk_184 1 97 (dk_at dksX10_range_0 20 rfl rfl)
theorem dX10_range_23 : decode cX10_range 23 = .ok (.iconst 2, 1) := dk_5 (dk_at dksX10_range_0 23 rfl rfl)
theorem dX10_range_24 : decode cX10_range 24 = .ok (.invokevirtual 300, 3) := dk_182 1 44 (dk_at dksX10_range_1 0 rfl rfl)
theorem dX10_range_27 : decode cX10_range 27 = .ok (.ifCond .eq 5, 3) := dk_153 0 5 (dk_at dksX10_range_1 3 rfl rfl)
theorem dX10_range_30 : decode cX10_range 30 = .ok (.iconst 0, 1) := dk_3 (dk_at dksX10_range_1 6 rfl rfl)
theorem dX10_range_31 : decode cX10_range 31 = .ok (.ireturn, 1) := dk_172 (dk_at dksX10_range_1 7 rfl rfl)
theorem dX10_range_32 : decode cX10_range 32 = .ok (.aload_n 0, 1) := dk_42 (dk_at dksX10_range_1 8 rfl rfl)
theorem dX10_range_33 : decode cX10_range 33 = .ok (.iload_n 1, 1) := dk_27 (dk_at dksX10_range_1 9 rfl rfl)
theorem dX10_range_34 : decode cX10_range 34 = .ok (.iconst 0, 1) := dk_3 (dk_at dksX10_range_1 10 rfl rfl)
theorem dX10_range_35 : decode cX10_range 35 = .ok (.iload_n 2, 1) := dk_28 (dk_at dksX10_range_1 11 rfl rfl)
theorem dX10_range_36 : decode cX10_range 36 = .ok (.invokevirtual 425, 3) := dk_182 1 169 (dk_at dksX10_range_1 12 rfl rfl)
theorem dX10_range_39 : decode cX10_range 39 = .ok (.istore_n 3, 1) := dk_62 (dk_at dksX10_range_1 15 rfl rfl)
theorem dX10_range_40 : decode cX10_range 40 = .ok (.iload_n 3, 1) := dk_29 (dk_at dksX10_range_1 16 rfl rfl)
theorem dX10_range_41 : decode cX10_range 41 = .ok (.ifCond .ge 7, 3) := dk_156 0 7 (dk_at dksX10_range_1 17 rfl rfl)
theorem dX10_range_44 : decode cX10_range 44 = .ok (.iconst (-1), 1) := dk_2 (dk_at dksX10_range_1 20 rfl rfl)
theorem dX10_range_45 : decode cX10_range 45 = .ok (.goto 6, 3) := dk_167 0 6 (dk_at dksX10_range_1 21 rfl rfl)
theorem dX10_range_48 : decode cX10_range 48 = .ok (.iload_n 3, 1) := dk_29 (dk_at dksX10_range_2 0 rfl rfl)
theorem dX10_range_49 : decode cX10_range 49 = .ok (.iload_n 2, 1) := dk_28 (dk_at dksX10_range_2 1 rfl rfl)
theorem dX10_range_50 : decode cX10_range 50 = .ok (.isub, 1) := dk_100 (dk_at dksX10_range_2 2 rfl rfl)
theorem dX10_range_51 : decode cX10_range 51 = .ok (.ireturn, 1) := dk_172 (dk_at dksX10_range_2 3 rfl rfl)
abbrev cX10_swiftest : ByteArray := prog_20_method_133_code
def yX10_swiftest : MethodName := ⟨RX10, "swiftest", "(II)I"⟩
def dkwX10_swiftest_3 : List UInt8 := [161, 0, 6, 167, 0, 10, 21, 5, 62, 21, 6, 54, 4, 132, 5, 1, 167, 255, 212, 29, 172]
abbrev dktX10_swiftest_3 : List UInt8 := dkwX10_swiftest_3 ++ []
def dkwX10_swiftest_2 : List UInt8 := [162, 0, 41, 42, 21, 5, 27, 28, 182, 1, 169, 54, 6, 21, 6, 155, 0, 20, 21, 6, 21, 4]
abbrev dktX10_swiftest_2 : List UInt8 := dkwX10_swiftest_2 ++ dktX10_swiftest_3
def dkwX10_swiftest_1 : List UInt8 := [182, 1, 44, 153, 0, 5, 3, 172, 2, 62, 17, 3, 232, 54, 4, 3, 54, 5, 21, 5, 42, 182, 0, 86]
abbrev dktX10_swiftest_1 : List UInt8 := dkwX10_swiftest_1 ++ dktX10_swiftest_2
def dkwX10_swiftest_0 : List UInt8 := [42, 3, 181, 0, 3, 42, 42, 27, 182, 1, 103, 4, 182, 1, 44, 154, 0, 15, 42, 28, 184, 1, 97, 5]
abbrev dktX10_swiftest_0 : List UInt8 := dkwX10_swiftest_0 ++ dktX10_swiftest_1
theorem dksX10_swiftest_0 : cX10_swiftest.data.toList.drop 0 = dktX10_swiftest_0 := by decide +kernel
theorem dksX10_swiftest_1 : cX10_swiftest.data.toList.drop 24 = dktX10_swiftest_1 := dk_seg dksX10_swiftest_0 24 rfl rfl
theorem dksX10_swiftest_2 : cX10_swiftest.data.toList.drop 48 = dktX10_swiftest_2 := dk_seg dksX10_swiftest_1 24 rfl rfl
theorem dksX10_swiftest_3 : cX10_swiftest.data.toList.drop 70 = dktX10_swiftest_3 := dk_seg dksX10_swiftest_2 22 rfl rfl
theorem dX10_swiftest_0 : decode cX10_swiftest 0 = .ok (.aload_n 0, 1) := dk_42 (dk_at dksX10_swiftest_0 0 rfl rfl)
theorem dX10_swiftest_1 : decode cX10_swiftest 1 = .ok (.iconst 0, 1) := dk_3 (dk_at dksX10_swiftest_0 1 rfl rfl)
theorem dX10_swiftest_2 : decode cX10_swiftest 2 = .ok (.putfield 3, 3) := dk_181 0 3 (dk_at dksX10_swiftest_0 2 rfl rfl)
theorem dX10_swiftest_5 : decode cX10_swiftest 5 = .ok (.aload_n 0, 1) := dk_42 (dk_at dksX10_swiftest_0 5 rfl rfl)
theorem dX10_swiftest_6 : decode cX10_swiftest 6 = .ok (.aload_n 0, 1) := dk_42 (dk_at dksX10_swiftest_0 6 rfl rfl)
theorem dX10_swiftest_7 : decode cX10_swiftest 7 = .ok (.iload_n 1, 1) := dk_27 (dk_at dksX10_swiftest_0 7 rfl rfl)
theorem dX10_swiftest_8 : decode cX10_swiftest 8 = .ok (.invokevirtual 359, 3) := dk_182 1 103 (dk_at dksX10_swiftest_0 8 rfl rfl)
theorem dX10_swiftest_11 : decode cX10_swiftest 11 = .ok (.iconst 1, 1) := dk_4 (dk_at dksX10_swiftest_0 11 rfl rfl)
theorem dX10_swiftest_12 : decode cX10_swiftest 12 = .ok (.invokevirtual 300, 3) := dk_182 1 44 (dk_at dksX10_swiftest_0 12 rfl rfl)
theorem dX10_swiftest_15 : decode cX10_swiftest 15 = .ok (.ifCond .ne 15, 3) := dk_154 0 15 (dk_at dksX10_swiftest_0 15 rfl rfl)
theorem dX10_swiftest_18 : decode cX10_swiftest 18 = .ok (.aload_n 0, 1) := dk_42 (dk_at dksX10_swiftest_0 18 rfl rfl)
theorem dX10_swiftest_19 : decode cX10_swiftest 19 = .ok (.iload_n 2, 1) := dk_28 (dk_at dksX10_swiftest_0 19 rfl rfl)
theorem dX10_swiftest_20 : decode cX10_swiftest 20 = .ok (.invokestatic 353, 3) := dk_184 1 97 (dk_at dksX10_swiftest_0 20 rfl rfl)
theorem dX10_swiftest_23 : decode cX10_swiftest 23 = .ok (.iconst 2, 1) := dk_5 (dk_at dksX10_swiftest_0 23 rfl rfl)
theorem dX10_swiftest_24 : decode cX10_swiftest 24 = .ok (.invokevirtual 300, 3) := dk_182 1 44 (dk_at dksX10_swiftest_1 0 rfl rfl)
theorem dX10_swiftest_27 : decode cX10_swiftest 27 = .ok (.ifCond .eq 5, 3) := dk_153 0 5 (dk_at dksX10_swiftest_1 3 rfl rfl)
theorem dX10_swiftest_30 : decode cX10_swiftest 30 = .ok (.iconst 0, 1) := dk_3 (dk_at dksX10_swiftest_1 6 rfl rfl)
theorem dX10_swiftest_31 : decode cX10_swiftest 31 = .ok (.ireturn, 1) := dk_172 (dk_at dksX10_swiftest_1 7 rfl rfl)
theorem dX10_swiftest_32 : decode cX10_swiftest 32 = .ok (.iconst (-1), 1) := dk_2 (dk_at dksX10_swiftest_1 8 rfl rfl)
theorem dX10_swiftest_33 : decode cX10_swiftest 33 = .ok (.istore_n 3, 1) := dk_62 (dk_at dksX10_swiftest_1 9 rfl rfl)
theorem dX10_swiftest_34 : decode cX10_swiftest 34 = .ok (.sipush 1000, 3) := dk_17 3 232 (dk_at dksX10_swiftest_1 10 rfl rfl)
theorem dX10_swiftest_37 : decode cX10_swiftest 37 = .ok (.istore 4, 2) := dk_54 4 (dk_at dksX10_swiftest_1 13 rfl rfl)
theorem dX10_swiftest_39 : decode cX10_swiftest 39 = .ok (.iconst 0, 1) := dk_3 (dk_at dksX10_swiftest_1 15 rfl rfl)
theorem dX10_swiftest_40 : decode cX10_swiftest 40 = .ok (.istore 5, 2) := dk_54 5 (dk_at dksX10_swiftest_1 16 rfl rfl)
theorem dX10_swiftest_42 : decode cX10_swiftest 42 = .ok (.iload 5, 2) := dk_21 5 (dk_at dksX10_swiftest_1 18 rfl rfl)
theorem dX10_swiftest_44 : decode cX10_swiftest 44 = .ok (.aload_n 0, 1) := dk_42 (dk_at dksX10_swiftest_1 20 rfl rfl)
theorem dX10_swiftest_45 : decode cX10_swiftest 45 = .ok (.invokevirtual 86, 3) := dk_182 0 86 (dk_at dksX10_swiftest_1 21 rfl rfl)
theorem dX10_swiftest_48 : decode cX10_swiftest 48 = .ok (.if_icmp .ge 41, 3) := dk_162 0 41 (dk_at dksX10_swiftest_2 0 rfl rfl)
theorem dX10_swiftest_51 : decode cX10_swiftest 51 = .ok (.aload_n 0, 1) := dk_42 (dk_at dksX10_swiftest_2 3 rfl rfl)
theorem dX10_swiftest_52 : decode cX10_swiftest 52 = .ok (.iload 5, 2) := dk_21 5 (dk_at dksX10_swiftest_2 4 rfl rfl)
theorem dX10_swiftest_54 : decode cX10_swiftest 54 = .ok (.iload_n 1, 1) := dk_27 (dk_at dksX10_swiftest_2 6 rfl rfl)
theorem dX10_swiftest_55 : decode cX10_swiftest 55 = .ok (.iload_n 2, 1) := dk_28 (dk_at dksX10_swiftest_2 7 rfl rfl)
theorem dX10_swiftest_56 : decode cX10_swiftest 56 = .ok (.invokevirtual 425, 3) := dk_182 1 169 (dk_at dksX10_swiftest_2 8 rfl rfl)
theorem dX10_swiftest_59 : decode cX10_swiftest 59 = .ok (.istore 6, 2) := dk_54 6 (dk_at dksX10_swiftest_2 11 rfl rfl)
theorem dX10_swiftest_61 : decode cX10_swiftest 61 = .ok (.iload 6, 2) := dk_21 6 (dk_at dksX10_swiftest_2 13 rfl rfl)
theorem dX10_swiftest_63 : decode cX10_swiftest 63 = .ok (.ifCond .lt 20, 3) := dk_155 0 20 (dk_at dksX10_swiftest_2 15 rfl rfl)
theorem dX10_swiftest_66 : decode cX10_swiftest 66 = .ok (.iload 6, 2) := dk_21 6 (dk_at dksX10_swiftest_2 18 rfl rfl)
theorem dX10_swiftest_68 : decode cX10_swiftest 68 = .ok (.iload 4, 2) := dk_21 4 (dk_at dksX10_swiftest_2 20 rfl rfl)
theorem dX10_swiftest_70 : decode cX10_swiftest 70 = .ok (.if_icmp .lt 6, 3) := dk_161 0 6 (dk_at dksX10_swiftest_3 0 rfl rfl)
theorem dX10_swiftest_73 : decode cX10_swiftest 73 = .ok (.goto 10, 3) := dk_167 0 10 (dk_at dksX10_swiftest_3 3 rfl rfl)
theorem dX10_swiftest_76 : decode cX10_swiftest 76 = .ok (.iload 5, 2) := dk_21 5 (dk_at dksX10_swiftest_3 6 rfl rfl)
theorem dX10_swiftest_78 : decode cX10_swiftest 78 = .ok (.istore_n 3, 1) := dk_62 (dk_at dksX10_swiftest_3 8 rfl rfl)
theorem dX10_swiftest_79 : decode cX10_swiftest 79 = .ok (.iload 6, 2) := dk_21 6 (dk_at dksX10_swiftest_3 9 rfl rfl)
theorem dX10_swiftest_81 : decode cX10_swiftest 81 = .ok (.istore 4, 2) := dk_54 4 (dk_at dksX10_swiftest_3 11 rfl rfl)
theorem dX10_swiftest_83 : decode cX10_swiftest 83 = .ok (.iinc 5 1, 3) := dk_132 5 1 (dk_at dksX10_swiftest_3 13 rfl rfl)
theorem dX10_swiftest_86 : decode cX10_swiftest 86 = .ok (.goto (-44), 3) := dk_167 255 212 (dk_at dksX10_swiftest_3 16 rfl rfl)
theorem dX10_swiftest_89 : decode cX10_swiftest 89 = .ok (.iload_n 3, 1) := dk_29 (dk_at dksX10_swiftest_3 19 rfl rfl)
theorem dX10_swiftest_90 : decode cX10_swiftest 90 = .ok (.ireturn, 1) := dk_172 (dk_at dksX10_swiftest_3 20 rfl rfl)
abbrev cX10_bare : ByteArray := prog_20_method_134_code
def yX10_bare : MethodName := ⟨RX10, "bare", "(I)I"⟩
def dkwX10_bare_2 : List UInt8 := [29, 120, 167, 0, 4, 3, 128, 61, 132, 3, 1, 167, 255, 220, 28, 172]
abbrev dktX10_bare_2 : List UInt8 := dkwX10_bare_2 ++ []
def dkwX10_bare_1 : List UInt8 := [42, 182, 0, 100, 162, 0, 34, 42, 29, 2, 182, 1, 125, 28, 42, 29, 27, 182, 1, 146, 153, 0, 9, 4]
abbrev dktX10_bare_1 : List UInt8 := dkwX10_bare_1 ++ dktX10_bare_2
def dkwX10_bare_0 : List UInt8 := [42, 3, 181, 0, 3, 42, 27, 184, 1, 97, 4, 182, 1, 44, 153, 0, 5, 3, 172, 3, 61, 3, 62, 29]
abbrev dktX10_bare_0 : List UInt8 := dkwX10_bare_0 ++ dktX10_bare_1
theorem dksX10_bare_0 : cX10_bare.data.toList.drop 0 = dktX10_bare_0 := by decide +kernel
theorem dksX10_bare_1 : cX10_bare.data.toList.drop 24 = dktX10_bare_1 := dk_seg dksX10_bare_0 24 rfl rfl
theorem dksX10_bare_2 : cX10_bare.data.toList.drop 48 = dktX10_bare_2 := dk_seg dksX10_bare_1 24 rfl rfl
theorem dX10_bare_0 : decode cX10_bare 0 = .ok (.aload_n 0, 1) := dk_42 (dk_at dksX10_bare_0 0 rfl rfl)
theorem dX10_bare_1 : decode cX10_bare 1 = .ok (.iconst 0, 1) := dk_3 (dk_at dksX10_bare_0 1 rfl rfl)
theorem dX10_bare_2 : decode cX10_bare 2 = .ok (.putfield 3, 3) := dk_181 0 3 (dk_at dksX10_bare_0 2 rfl rfl)
theorem dX10_bare_5 : decode cX10_bare 5 = .ok (.aload_n 0, 1) := dk_42 (dk_at dksX10_bare_0 5 rfl rfl)
theorem dX10_bare_6 : decode cX10_bare 6 = .ok (.iload_n 1, 1) := dk_27 (dk_at dksX10_bare_0 6 rfl rfl)
theorem dX10_bare_7 : decode cX10_bare 7 = .ok (.invokestatic 353, 3) := dk_184 1 97 (dk_at dksX10_bare_0 7 rfl rfl)
theorem dX10_bare_10 : decode cX10_bare 10 = .ok (.iconst 1, 1) := dk_4 (dk_at dksX10_bare_0 10 rfl rfl)
theorem dX10_bare_11 : decode cX10_bare 11 = .ok (.invokevirtual 300, 3) := dk_182 1 44 (dk_at dksX10_bare_0 11 rfl rfl)
theorem dX10_bare_14 : decode cX10_bare 14 = .ok (.ifCond .eq 5, 3) := dk_153 0 5 (dk_at dksX10_bare_0 14 rfl rfl)
theorem dX10_bare_17 : decode cX10_bare 17 = .ok (.iconst 0, 1) := dk_3 (dk_at dksX10_bare_0 17 rfl rfl)
theorem dX10_bare_18 : decode cX10_bare 18 = .ok (.ireturn, 1) := dk_172 (dk_at dksX10_bare_0 18 rfl rfl)
theorem dX10_bare_19 : decode cX10_bare 19 = .ok (.iconst 0, 1) := dk_3 (dk_at dksX10_bare_0 19 rfl rfl)
theorem dX10_bare_20 : decode cX10_bare 20 = .ok (.istore_n 2, 1) := dk_61 (dk_at dksX10_bare_0 20 rfl rfl)
theorem dX10_bare_21 : decode cX10_bare 21 = .ok (.iconst 0, 1) := dk_3 (dk_at dksX10_bare_0 21 rfl rfl)
theorem dX10_bare_22 : decode cX10_bare 22 = .ok (.istore_n 3, 1) := dk_62 (dk_at dksX10_bare_0 22 rfl rfl)
theorem dX10_bare_23 : decode cX10_bare 23 = .ok (.iload_n 3, 1) := dk_29 (dk_at dksX10_bare_0 23 rfl rfl)
theorem dX10_bare_24 : decode cX10_bare 24 = .ok (.aload_n 0, 1) := dk_42 (dk_at dksX10_bare_1 0 rfl rfl)
theorem dX10_bare_25 : decode cX10_bare 25 = .ok (.invokevirtual 100, 3) := dk_182 0 100 (dk_at dksX10_bare_1 1 rfl rfl)
theorem dX10_bare_28 : decode cX10_bare 28 = .ok (.if_icmp .ge 34, 3) := dk_162 0 34 (dk_at dksX10_bare_1 4 rfl rfl)
theorem dX10_bare_31 : decode cX10_bare 31 = .ok (.aload_n 0, 1) := dk_42 (dk_at dksX10_bare_1 7 rfl rfl)
theorem dX10_bare_32 : decode cX10_bare 32 = .ok (.iload_n 3, 1) := dk_29 (dk_at dksX10_bare_1 8 rfl rfl)
theorem dX10_bare_33 : decode cX10_bare 33 = .ok (.iconst (-1), 1) := dk_2 (dk_at dksX10_bare_1 9 rfl rfl)
theorem dX10_bare_34 : decode cX10_bare 34 = .ok (.invokevirtual 381, 3) := dk_182 1 125 (dk_at dksX10_bare_1 10 rfl rfl)
theorem dX10_bare_37 : decode cX10_bare 37 = .ok (.iload_n 2, 1) := dk_28 (dk_at dksX10_bare_1 13 rfl rfl)
theorem dX10_bare_38 : decode cX10_bare 38 = .ok (.aload_n 0, 1) := dk_42 (dk_at dksX10_bare_1 14 rfl rfl)
theorem dX10_bare_39 : decode cX10_bare 39 = .ok (.iload_n 3, 1) := dk_29 (dk_at dksX10_bare_1 15 rfl rfl)
theorem dX10_bare_40 : decode cX10_bare 40 = .ok (.iload_n 1, 1) := dk_27 (dk_at dksX10_bare_1 16 rfl rfl)
theorem dX10_bare_41 : decode cX10_bare 41 = .ok (.invokevirtual 402, 3) := dk_182 1 146 (dk_at dksX10_bare_1 17 rfl rfl)
theorem dX10_bare_44 : decode cX10_bare 44 = .ok (.ifCond .eq 9, 3) := dk_153 0 9 (dk_at dksX10_bare_1 20 rfl rfl)
theorem dX10_bare_47 : decode cX10_bare 47 = .ok (.iconst 1, 1) := dk_4 (dk_at dksX10_bare_1 23 rfl rfl)
theorem dX10_bare_48 : decode cX10_bare 48 = .ok (.iload_n 3, 1) := dk_29 (dk_at dksX10_bare_2 0 rfl rfl)
theorem dX10_bare_49 : decode cX10_bare 49 = .ok (.ishl, 1) := dk_120 (dk_at dksX10_bare_2 1 rfl rfl)
theorem dX10_bare_50 : decode cX10_bare 50 = .ok (.goto 4, 3) := dk_167 0 4 (dk_at dksX10_bare_2 2 rfl rfl)
theorem dX10_bare_53 : decode cX10_bare 53 = .ok (.iconst 0, 1) := dk_3 (dk_at dksX10_bare_2 5 rfl rfl)
theorem dX10_bare_54 : decode cX10_bare 54 = .ok (.ior, 1) := dk_128 (dk_at dksX10_bare_2 6 rfl rfl)
theorem dX10_bare_55 : decode cX10_bare 55 = .ok (.istore_n 2, 1) := dk_61 (dk_at dksX10_bare_2 7 rfl rfl)
theorem dX10_bare_56 : decode cX10_bare 56 = .ok (.iinc 3 1, 3) := dk_132 3 1 (dk_at dksX10_bare_2 8 rfl rfl)
theorem dX10_bare_59 : decode cX10_bare 59 = .ok (.goto (-36), 3) := dk_167 255 220 (dk_at dksX10_bare_2 11 rfl rfl)
theorem dX10_bare_62 : decode cX10_bare 62 = .ok (.iload_n 2, 1) := dk_28 (dk_at dksX10_bare_2 14 rfl rfl)
theorem dX10_bare_63 : decode cX10_bare 63 = .ok (.ireturn, 1) := dk_172 (dk_at dksX10_bare_2 15 rfl rfl)
abbrev cX10_log : ByteArray := prog_20_method_135_code
def yX10_log : MethodName := ⟨RX10, "log", "(II)I"⟩
def dkwX10_log_2 : List UInt8 := [180, 0, 13, 17, 1, 67, 6, 27, 104, 96, 28, 96, 46, 167, 0, 4, 2, 172]
abbrev dktX10_log_2 : List UInt8 := dkwX10_log_2 ++ []
def dkwX10_log_1 : List UInt8 := [153, 0, 5, 3, 172, 27, 3, 42, 180, 0, 13, 16, 14, 46, 4, 100, 184, 0, 90, 153, 0, 20, 42]
abbrev dktX10_log_1 : List UInt8 := dkwX10_log_1 ++ dktX10_log_2
def dkwX10_log_0 : List UInt8 := [42, 3, 181, 0, 3, 42, 28, 3, 5, 184, 0, 90, 154, 0, 7, 4, 167, 0, 4, 3, 4, 182, 1, 44]
abbrev dktX10_log_0 : List UInt8 := dkwX10_log_0 ++ dktX10_log_1
theorem dksX10_log_0 : cX10_log.data.toList.drop 0 = dktX10_log_0 := by decide +kernel
theorem dksX10_log_1 : cX10_log.data.toList.drop 24 = dktX10_log_1 := dk_seg dksX10_log_0 24 rfl rfl
theorem dksX10_log_2 : cX10_log.data.toList.drop 47 = dktX10_log_2 := dk_seg dksX10_log_1 23 rfl rfl
theorem dX10_log_0 : decode cX10_log 0 = .ok (.aload_n 0, 1) := dk_42 (dk_at dksX10_log_0 0 rfl rfl)
theorem dX10_log_1 : decode cX10_log 1 = .ok (.iconst 0, 1) := dk_3 (dk_at dksX10_log_0 1 rfl rfl)
theorem dX10_log_2 : decode cX10_log 2 = .ok (.putfield 3, 3) := dk_181 0 3 (dk_at dksX10_log_0 2 rfl rfl)
theorem dX10_log_5 : decode cX10_log 5 = .ok (.aload_n 0, 1) := dk_42 (dk_at dksX10_log_0 5 rfl rfl)
theorem dX10_log_6 : decode cX10_log 6 = .ok (.iload_n 2, 1) := dk_28 (dk_at dksX10_log_0 6 rfl rfl)
theorem dX10_log_7 : decode cX10_log 7 = .ok (.iconst 0, 1) := dk_3 (dk_at dksX10_log_0 7 rfl rfl)
theorem dX10_log_8 : decode cX10_log 8 = .ok (.iconst 2, 1) := dk_5 (dk_at dksX10_log_0 8 rfl rfl)
theorem dX10_log_9 : decode cX10_log 9 = .ok (.invokestatic 90, 3) := dk_184 0 90 (dk_at dksX10_log_0 9 rfl rfl)
theorem dX10_log_12 : decode cX10_log 12 = .ok (.ifCond .ne 7, 3) := dk_154 0 7 (dk_at dksX10_log_0 12 rfl rfl)
theorem dX10_log_15 : decode cX10_log 15 = .ok (.iconst 1, 1) := dk_4 (dk_at dksX10_log_0 15 rfl rfl)
theorem dX10_log_16 : decode cX10_log 16 = .ok (.goto 4, 3) := dk_167 0 4 (dk_at dksX10_log_0 16 rfl rfl)
theorem dX10_log_19 : decode cX10_log 19 = .ok (.iconst 0, 1) := dk_3 (dk_at dksX10_log_0 19 rfl rfl)
theorem dX10_log_20 : decode cX10_log 20 = .ok (.iconst 1, 1) := dk_4 (dk_at dksX10_log_0 20 rfl rfl)
theorem dX10_log_21 : decode cX10_log 21 = .ok (.invokevirtual 300, 3) := dk_182 1 44 (dk_at dksX10_log_0 21 rfl rfl)
theorem dX10_log_24 : decode cX10_log 24 = .ok (.ifCond .eq 5, 3) := dk_153 0 5 (dk_at dksX10_log_1 0 rfl rfl)
theorem dX10_log_27 : decode cX10_log 27 = .ok (.iconst 0, 1) := dk_3 (dk_at dksX10_log_1 3 rfl rfl)
theorem dX10_log_28 : decode cX10_log 28 = .ok (.ireturn, 1) := dk_172 (dk_at dksX10_log_1 4 rfl rfl)
theorem dX10_log_29 : decode cX10_log 29 = .ok (.iload_n 1, 1) := dk_27 (dk_at dksX10_log_1 5 rfl rfl)
theorem dX10_log_30 : decode cX10_log 30 = .ok (.iconst 0, 1) := dk_3 (dk_at dksX10_log_1 6 rfl rfl)
theorem dX10_log_31 : decode cX10_log 31 = .ok (.aload_n 0, 1) := dk_42 (dk_at dksX10_log_1 7 rfl rfl)
theorem dX10_log_32 : decode cX10_log 32 = .ok (.getfield 13, 3) := dk_180 0 13 (dk_at dksX10_log_1 8 rfl rfl)
theorem dX10_log_35 : decode cX10_log 35 = .ok (.bipush 14, 2) := dk_16 14 (dk_at dksX10_log_1 11 rfl rfl)
theorem dX10_log_37 : decode cX10_log 37 = .ok (.iaload, 1) := dk_46 (dk_at dksX10_log_1 13 rfl rfl)
theorem dX10_log_38 : decode cX10_log 38 = .ok (.iconst 1, 1) := dk_4 (dk_at dksX10_log_1 14 rfl rfl)
theorem dX10_log_39 : decode cX10_log 39 = .ok (.isub, 1) := dk_100 (dk_at dksX10_log_1 15 rfl rfl)
theorem dX10_log_40 : decode cX10_log 40 = .ok (.invokestatic 90, 3) := dk_184 0 90 (dk_at dksX10_log_1 16 rfl rfl)
theorem dX10_log_43 : decode cX10_log 43 = .ok (.ifCond .eq 20, 3) := dk_153 0 20 (dk_at dksX10_log_1 19 rfl rfl)
theorem dX10_log_46 : decode cX10_log 46 = .ok (.aload_n 0, 1) := dk_42 (dk_at dksX10_log_1 22 rfl rfl)
theorem dX10_log_47 : decode cX10_log 47 = .ok (.getfield 13, 3) := dk_180 0 13 (dk_at dksX10_log_2 0 rfl rfl)
theorem dX10_log_50 : decode cX10_log 50 = .ok (.sipush 323, 3) := dk_17 1 67 (dk_at dksX10_log_2 3 rfl rfl)
theorem dX10_log_53 : decode cX10_log 53 = .ok (.iconst 3, 1) := dk_6 (dk_at dksX10_log_2 6 rfl rfl)
theorem dX10_log_54 : decode cX10_log 54 = .ok (.iload_n 1, 1) := dk_27 (dk_at dksX10_log_2 7 rfl rfl)
theorem dX10_log_55 : decode cX10_log 55 = .ok (.imul, 1) := dk_104 (dk_at dksX10_log_2 8 rfl rfl)
theorem dX10_log_56 : decode cX10_log 56 = .ok (.iadd, 1) := dk_96 (dk_at dksX10_log_2 9 rfl rfl)
theorem dX10_log_57 : decode cX10_log 57 = .ok (.iload_n 2, 1) := dk_28 (dk_at dksX10_log_2 10 rfl rfl)
theorem dX10_log_58 : decode cX10_log 58 = .ok (.iadd, 1) := dk_96 (dk_at dksX10_log_2 11 rfl rfl)
theorem dX10_log_59 : decode cX10_log 59 = .ok (.iaload, 1) := dk_46 (dk_at dksX10_log_2 12 rfl rfl)
theorem dX10_log_60 : decode cX10_log 60 = .ok (.goto 4, 3) := dk_167 0 4 (dk_at dksX10_log_2 13 rfl rfl)
theorem dX10_log_63 : decode cX10_log 63 = .ok (.iconst (-1), 1) := dk_2 (dk_at dksX10_log_2 16 rfl rfl)
theorem dX10_log_64 : decode cX10_log 64 = .ok (.ireturn, 1) := dk_172 (dk_at dksX10_log_2 17 rfl rfl)
abbrev cX10_count : ByteArray := prog_20_method_136_code
def yX10_count : MethodName := ⟨RX10, "count", "(I)I"⟩
def dkwX10_count_8 : List UInt8 := [172]
abbrev dktX10_count_8 : List UInt8 := dkwX10_count_8 ++ []
def dkwX10_count_7 : List UInt8 := [180, 0, 79, 172, 27, 3, 16, 13, 184, 0, 90, 153, 0, 12, 42, 180, 0, 13, 27, 46, 167, 0, 4, 2]
abbrev dktX10_count_7 : List UInt8 := dkwX10_count_7 ++ dktX10_count_8
def dkwX10_count_6 : List UInt8 := [182, 0, 162, 164, 0, 7, 4, 167, 0, 4, 3, 96, 61, 132, 3, 1, 167, 255, 216, 28, 172, 42]
abbrev dktX10_count_6 : List UInt8 := dkwX10_count_6 ++ dktX10_count_7
def dkwX10_count_5 : List UInt8 := [182, 0, 100, 162, 0, 38, 42, 29, 182, 1, 131, 54, 4, 28, 21, 4, 155, 0, 12, 21, 4, 42]
abbrev dktX10_count_5 : List UInt8 := dkwX10_count_5 ++ dktX10_count_6
def dkwX10_count_4 : List UInt8 := [153, 0, 7, 4, 167, 0, 4, 3, 96, 61, 132, 3, 1, 167, 255, 229, 28, 172, 3, 62, 29, 42]
abbrev dktX10_count_4 : List UInt8 := dkwX10_count_4 ++ dktX10_count_5
def dkwX10_count_3 : List UInt8 := [42, 180, 0, 13, 16, 14, 46, 172, 3, 62, 29, 42, 182, 0, 100, 162, 0, 25, 28, 42, 29, 182, 1, 134]
abbrev dktX10_count_3 : List UInt8 := dkwX10_count_3 ++ dktX10_count_4
def dkwX10_count_2 : List UInt8 := [42, 180, 0, 13, 16, 8, 46, 4, 160, 0, 14, 42, 180, 0, 13, 17, 1, 139, 46, 167, 0, 4, 2, 172]
abbrev dktX10_count_2 : List UInt8 := dkwX10_count_2 ++ dktX10_count_3
def dkwX10_count_1 : List UInt8 := [170, 0, 0, 0, 0, 0, 0, 174, 0, 0, 0, 8, 0, 0, 0, 17, 0, 0, 0, 56, 0, 0, 0, 174, 0, 0, 0, 174, 0, 0, 0, 174, 0, 0, 0, 174, 0, 0, 0, 174, 0, 0, 0, 80, 0, 0, 0, 88, 0, 0, 0, 122, 0, 0, 0, 169]
abbrev dktX10_count_1 : List UInt8 := dkwX10_count_1 ++ dktX10_count_2
def dkwX10_count_0 : List UInt8 := [42, 3, 181, 0, 3, 3, 61, 27]
abbrev dktX10_count_0 : List UInt8 := dkwX10_count_0 ++ dktX10_count_1
theorem dksX10_count_0 : cX10_count.data.toList.drop 0 = dktX10_count_0 := by decide +kernel
theorem dksX10_count_1 : cX10_count.data.toList.drop 8 = dktX10_count_1 := dk_seg dksX10_count_0 8 rfl rfl
theorem dksX10_count_2 : cX10_count.data.toList.drop 64 = dktX10_count_2 := dk_seg dksX10_count_1 56 rfl rfl
theorem dksX10_count_3 : cX10_count.data.toList.drop 88 = dktX10_count_3 := dk_seg dksX10_count_2 24 rfl rfl
theorem dksX10_count_4 : cX10_count.data.toList.drop 112 = dktX10_count_4 := dk_seg dksX10_count_3 24 rfl rfl
theorem dksX10_count_5 : cX10_count.data.toList.drop 134 = dktX10_count_5 := dk_seg dksX10_count_4 22 rfl rfl
theorem dksX10_count_6 : cX10_count.data.toList.drop 156 = dktX10_count_6 := dk_seg dksX10_count_5 22 rfl rfl
theorem dksX10_count_7 : cX10_count.data.toList.drop 178 = dktX10_count_7 := dk_seg dksX10_count_6 22 rfl rfl
theorem dksX10_count_8 : cX10_count.data.toList.drop 202 = dktX10_count_8 := dk_seg dksX10_count_7 24 rfl rfl
theorem dX10_count_0 : decode cX10_count 0 = .ok (.aload_n 0, 1) := dk_42 (dk_at dksX10_count_0 0 rfl rfl)
theorem dX10_count_1 : decode cX10_count 1 = .ok (.iconst 0, 1) := dk_3 (dk_at dksX10_count_0 1 rfl rfl)
theorem dX10_count_2 : decode cX10_count 2 = .ok (.putfield 3, 3) := dk_181 0 3 (dk_at dksX10_count_0 2 rfl rfl)
theorem dX10_count_5 : decode cX10_count 5 = .ok (.iconst 0, 1) := dk_3 (dk_at dksX10_count_0 5 rfl rfl)
theorem dX10_count_6 : decode cX10_count 6 = .ok (.istore_n 2, 1) := dk_61 (dk_at dksX10_count_0 6 rfl rfl)
theorem dX10_count_7 : decode cX10_count 7 = .ok (.iload_n 1, 1) := dk_27 (dk_at dksX10_count_0 7 rfl rfl)
theorem dX10_count_8 : decode cX10_count 8 = .ok (.tableswitch 174 8 17 #[56, 174, 174, 174, 174, 174, 80, 88, 122, 169], 56) := by decide +kernel
theorem dX10_count_64 : decode cX10_count 64 = .ok (.aload_n 0, 1) := dk_42 (dk_at dksX10_count_2 0 rfl rfl)
theorem dX10_count_65 : decode cX10_count 65 = .ok (.getfield 13, 3) := dk_180 0 13 (dk_at dksX10_count_2 1 rfl rfl)
theorem dX10_count_68 : decode cX10_count 68 = .ok (.bipush 8, 2) := dk_16 8 (dk_at dksX10_count_2 4 rfl rfl)
theorem dX10_count_70 : decode cX10_count 70 = .ok (.iaload, 1) := dk_46 (dk_at dksX10_count_2 6 rfl rfl)
theorem dX10_count_71 : decode cX10_count 71 = .ok (.iconst 1, 1) := dk_4 (dk_at dksX10_count_2 7 rfl rfl)
theorem dX10_count_72 : decode cX10_count 72 = .ok (.if_icmp .ne 14, 3) := dk_160 0 14 (dk_at dksX10_count_2 8 rfl rfl)
theorem dX10_count_75 : decode cX10_count 75 = .ok (.aload_n 0, 1) := dk_42 (dk_at dksX10_count_2 11 rfl rfl)
theorem dX10_count_76 : decode cX10_count 76 = .ok (.getfield 13, 3) := dk_180 0 13 (dk_at dksX10_count_2 12 rfl rfl)
theorem dX10_count_79 : decode cX10_count 79 = .ok (.sipush 395, 3) := dk_17 1 139 (dk_at dksX10_count_2 15 rfl rfl)
theorem dX10_count_82 : decode cX10_count 82 = .ok (.iaload, 1) := dk_46 (dk_at dksX10_count_2 18 rfl rfl)
theorem dX10_count_83 : decode cX10_count 83 = .ok (.goto 4, 3) := dk_167 0 4 (dk_at dksX10_count_2 19 rfl rfl)
theorem dX10_count_86 : decode cX10_count 86 = .ok (.iconst (-1), 1) := dk_2 (dk_at dksX10_count_2 22 rfl rfl)
theorem dX10_count_87 : decode cX10_count 87 = .ok (.ireturn, 1) := dk_172 (dk_at dksX10_count_2 23 rfl rfl)
theorem dX10_count_88 : decode cX10_count 88 = .ok (.aload_n 0, 1) := dk_42 (dk_at dksX10_count_3 0 rfl rfl)
theorem dX10_count_89 : decode cX10_count 89 = .ok (.getfield 13, 3) := dk_180 0 13 (dk_at dksX10_count_3 1 rfl rfl)
theorem dX10_count_92 : decode cX10_count 92 = .ok (.bipush 14, 2) := dk_16 14 (dk_at dksX10_count_3 4 rfl rfl)
theorem dX10_count_94 : decode cX10_count 94 = .ok (.iaload, 1) := dk_46 (dk_at dksX10_count_3 6 rfl rfl)
theorem dX10_count_95 : decode cX10_count 95 = .ok (.ireturn, 1) := dk_172 (dk_at dksX10_count_3 7 rfl rfl)
theorem dX10_count_96 : decode cX10_count 96 = .ok (.iconst 0, 1) := dk_3 (dk_at dksX10_count_3 8 rfl rfl)
theorem dX10_count_97 : decode cX10_count 97 = .ok (.istore_n 3, 1) := dk_62 (dk_at dksX10_count_3 9 rfl rfl)
theorem dX10_count_98 : decode cX10_count 98 = .ok (.iload_n 3, 1) := dk_29 (dk_at dksX10_count_3 10 rfl rfl)
theorem dX10_count_99 : decode cX10_count 99 = .ok (.aload_n 0, 1) := dk_42 (dk_at dksX10_count_3 11 rfl rfl)
theorem dX10_count_100 : decode cX10_count 100 = .ok (.invokevirtual 100, 3) := dk_182 0 100 (dk_at dksX10_count_3 12 rfl rfl)
theorem dX10_count_103 : decode cX10_count 103 = .ok (.if_icmp .ge 25, 3) := dk_162 0 25 (dk_at dksX10_count_3 15 rfl rfl)
theorem dX10_count_106 : decode cX10_count 106 = .ok (.iload_n 2, 1) := dk_28 (dk_at dksX10_count_3 18 rfl rfl)
theorem dX10_count_107 : decode cX10_count 107 = .ok (.aload_n 0, 1) := dk_42 (dk_at dksX10_count_3 19 rfl rfl)
theorem dX10_count_108 : decode cX10_count 108 = .ok (.iload_n 3, 1) := dk_29 (dk_at dksX10_count_3 20 rfl rfl)
theorem dX10_count_109 : decode cX10_count 109 = .ok (.invokevirtual 390, 3) := dk_182 1 134 (dk_at dksX10_count_3 21 rfl rfl)
theorem dX10_count_112 : decode cX10_count 112 = .ok (.ifCond .eq 7, 3) := dk_153 0 7 (dk_at dksX10_count_4 0 rfl rfl)
theorem dX10_count_115 : decode cX10_count 115 = .ok (.iconst 1, 1) := dk_4 (dk_at dksX10_count_4 3 rfl rfl)
theorem dX10_count_116 : decode cX10_count 116 = .ok (.goto 4, 3) := dk_167 0 4 (dk_at dksX10_count_4 4 rfl rfl)
theorem dX10_count_119 : decode cX10_count 119 = .ok (.iconst 0, 1) := dk_3 (dk_at dksX10_count_4 7 rfl rfl)
theorem dX10_count_120 : decode cX10_count 120 = .ok (.iadd, 1) := dk_96 (dk_at dksX10_count_4 8 rfl rfl)
theorem dX10_count_121 : decode cX10_count 121 = .ok (.istore_n 2, 1) := dk_61 (dk_at dksX10_count_4 9 rfl rfl)
theorem dX10_count_122 : decode cX10_count 122 = .ok (.iinc 3 1, 3) := dk_132 3 1 (dk_at dksX10_count_4 10 rfl rfl)
theorem dX10_count_125 : decode cX10_count 125 = .ok (.goto (-27), 3) := dk_167 255 229 (dk_at dksX10_count_4 13 rfl rfl)
theorem dX10_count_128 : decode cX10_count 128 = .ok (.iload_n 2, 1) := dk_28 (dk_at dksX10_count_4 16 rfl rfl)
theorem dX10_count_129 : decode cX10_count 129 = .ok (.ireturn, 1) := dk_172 (dk_at dksX10_count_4 17 rfl rfl)
theorem dX10_count_130 : decode cX10_count 130 = .ok (.iconst 0, 1) := dk_3 (dk_at dksX10_count_4 18 rfl rfl)
theorem dX10_count_131 : decode cX10_count 131 = .ok (.istore_n 3, 1) := dk_62 (dk_at dksX10_count_4 19 rfl rfl)
theorem dX10_count_132 : decode cX10_count 132 = .ok (.iload_n 3, 1) := dk_29 (dk_at dksX10_count_4 20 rfl rfl)
theorem dX10_count_133 : decode cX10_count 133 = .ok (.aload_n 0, 1) := dk_42 (dk_at dksX10_count_4 21 rfl rfl)
theorem dX10_count_134 : decode cX10_count 134 = .ok (.invokevirtual 100, 3) := dk_182 0 100 (dk_at dksX10_count_5 0 rfl rfl)
theorem dX10_count_137 : decode cX10_count 137 = .ok (.if_icmp .ge 38, 3) := dk_162 0 38 (dk_at dksX10_count_5 3 rfl rfl)
theorem dX10_count_140 : decode cX10_count 140 = .ok (.aload_n 0, 1) := dk_42 (dk_at dksX10_count_5 6 rfl rfl)
theorem dX10_count_141 : decode cX10_count 141 = .ok (.iload_n 3, 1) := dk_29 (dk_at dksX10_count_5 7 rfl rfl)
theorem dX10_count_142 : decode cX10_count 142 = .ok (.invokevirtual 387, 3) := dk_182 1 131 (dk_at dksX10_count_5 8 rfl rfl)
theorem dX10_count_145 : decode cX10_count 145 = .ok (.istore 4, 2) := dk_54 4 (dk_at dksX10_count_5 11 rfl rfl)
theorem dX10_count_147 : decode cX10_count 147 = .ok (.iload_n 2, 1) := dk_28 (dk_at dksX10_count_5 13 rfl rfl)
theorem dX10_count_148 : decode cX10_count 148 = .ok (.iload 4, 2) := dk_21 4 (dk_at dksX10_count_5 14 rfl rfl)
theorem dX10_count_150 : decode cX10_count 150 = .ok (.ifCond .lt 12, 3) := dk_155 0 12 (dk_at dksX10_count_5 16 rfl rfl)
theorem dX10_count_153 : decode cX10_count 153 = .ok (.iload 4, 2) := dk_21 4 (dk_at dksX10_count_5 19 rfl rfl)
theorem dX10_count_155 : decode cX10_count 155 = .ok (.aload_n 0, 1) := dk_42 (dk_at dksX10_count_5 21 rfl rfl)
theorem dX10_count_156 : decode cX10_count 156 = .ok (.invokevirtual 162, 3) := dk_182 0 162 (dk_at dksX10_count_6 0 rfl rfl)
theorem dX10_count_159 : decode cX10_count 159 = .ok (.if_icmp .le 7, 3) := dk_164 0 7 (dk_at dksX10_count_6 3 rfl rfl)
theorem dX10_count_162 : decode cX10_count 162 = .ok (.iconst 1, 1) := dk_4 (dk_at dksX10_count_6 6 rfl rfl)
theorem dX10_count_163 : decode cX10_count 163 = .ok (.goto 4, 3) := dk_167 0 4 (dk_at dksX10_count_6 7 rfl rfl)
theorem dX10_count_166 : decode cX10_count 166 = .ok (.iconst 0, 1) := dk_3 (dk_at dksX10_count_6 10 rfl rfl)
theorem dX10_count_167 : decode cX10_count 167 = .ok (.iadd, 1) := dk_96 (dk_at dksX10_count_6 11 rfl rfl)
theorem dX10_count_168 : decode cX10_count 168 = .ok (.istore_n 2, 1) := dk_61 (dk_at dksX10_count_6 12 rfl rfl)
theorem dX10_count_169 : decode cX10_count 169 = .ok (.iinc 3 1, 3) := dk_132 3 1 (dk_at dksX10_count_6 13 rfl rfl)
theorem dX10_count_172 : decode cX10_count 172 = .ok (.goto (-40), 3) := dk_167 255 216 (dk_at dksX10_count_6 16 rfl rfl)
theorem dX10_count_175 : decode cX10_count 175 = .ok (.iload_n 2, 1) := dk_28 (dk_at dksX10_count_6 19 rfl rfl)
theorem dX10_count_176 : decode cX10_count 176 = .ok (.ireturn, 1) := dk_172 (dk_at dksX10_count_6 20 rfl rfl)
theorem dX10_count_177 : decode cX10_count 177 = .ok (.aload_n 0, 1) := dk_42 (dk_at dksX10_count_6 21 rfl rfl)
theorem dX10_count_178 : decode cX10_count 178 = .ok (.getfield 79, 3) := dk_180 0 79 (dk_at dksX10_count_7 0 rfl rfl)
theorem dX10_count_181 : decode cX10_count 181 = .ok (.ireturn, 1) := dk_172 (dk_at dksX10_count_7 3 rfl rfl)
theorem dX10_count_182 : decode cX10_count 182 = .ok (.iload_n 1, 1) := dk_27 (dk_at dksX10_count_7 4 rfl rfl)
theorem dX10_count_183 : decode cX10_count 183 = .ok (.iconst 0, 1) := dk_3 (dk_at dksX10_count_7 5 rfl rfl)
theorem dX10_count_184 : decode cX10_count 184 = .ok (.bipush 13, 2) := dk_16 13 (dk_at dksX10_count_7 6 rfl rfl)
theorem dX10_count_186 : decode cX10_count 186 = .ok (.invokestatic 90, 3) := dk_184 0 90 (dk_at dksX10_count_7 8 rfl rfl)
theorem dX10_count_189 : decode cX10_count 189 = .ok (.ifCond .eq 12, 3) := dk_153 0 12 (dk_at dksX10_count_7 11 rfl rfl)
theorem dX10_count_192 : decode cX10_count 192 = .ok (.aload_n 0, 1) := dk_42 (dk_at dksX10_count_7 14 rfl rfl)
theorem dX10_count_193 : decode cX10_count 193 = .ok (.getfield 13, 3) := dk_180 0 13 (dk_at dksX10_count_7 15 rfl rfl)
theorem dX10_count_196 : decode cX10_count 196 = .ok (.iload_n 1, 1) := dk_27 (dk_at dksX10_count_7 18 rfl rfl)
theorem dX10_count_197 : decode cX10_count 197 = .ok (.iaload, 1) := dk_46 (dk_at dksX10_count_7 19 rfl rfl)
theorem dX10_count_198 : decode cX10_count 198 = .ok (.goto 4, 3) := dk_167 0 4 (dk_at dksX10_count_7 20 rfl rfl)
theorem dX10_count_201 : decode cX10_count 201 = .ok (.iconst (-1), 1) := dk_2 (dk_at dksX10_count_7 23 rfl rfl)
theorem dX10_count_202 : decode cX10_count 202 = .ok (.ireturn, 1) := dk_172 (dk_at dksX10_count_8 0 rfl rfl)
theorem q147 : (Jvm.Cond.initialized "GlacierMailModel") ∈ lw_all := lw_g (lw_at lw_m1 13 rfl) rfl
theorem q1583 : (Jvm.Cond.instanceMethod ({ cls := "GlacierMailModel", name := "thrown", desc := "()I" } : Jvm.MethodName)) ∈ lw_all := lw_g (lw_at lw_m7 9 rfl) rfl
theorem q1584 : (Jvm.Cond.selects "GlacierMailModel" ({ cls := "GlacierMailModel", name := "thrown", desc := "()I" } : Jvm.MethodName) ({ cls := "GlacierMailModel", name := "thrown", desc := "()I" } : Jvm.MethodName)) ∈ lw_all := lw_g (lw_at lw_m7 10 rfl) rfl
theorem q1585 : (Jvm.Cond.code ({ cls := "GlacierMailModel", name := "thrown", desc := "()I" } : Jvm.MethodName) prog_20_method_1_code (1 : Nat) (Option.some Jvm.ClassFile.FieldType.int)) ∈ lw_all := lw_g (lw_at lw_m7 11 rfl) rfl
theorem q1587 : (Jvm.Cond.instantiable "GlacierMailModel" (39 : Nat)) ∈ lw_all := lw_g (lw_at lw_m7 13 rfl) rfl
theorem q1589 : (Jvm.Cond.instanceMethod ({ cls := "GlacierMailModel", name := "<init>", desc := "()V" } : Jvm.MethodName)) ∈ lw_all := lw_g (lw_at lw_m7 15 rfl) rfl
theorem q1590 : (Jvm.Cond.code ({ cls := "GlacierMailModel", name := "<init>", desc := "()V" } : Jvm.MethodName) prog_20_method_5_code (1 : Nat) (Option.none : Option Jvm.ClassFile.FieldType)) ∈ lw_all := lw_g (lw_at lw_m7 16 rfl) rfl
theorem q1591 : (Jvm.Cond.methodLink "GlacierMailModel" (7 : Nat) ({ cls := "java/lang/Object", name := "<init>", desc := "()V" } : Jvm.MethodName)) ∈ lw_all := lw_g (lw_at lw_m7 17 rfl) rfl
theorem q1592 : (Jvm.Cond.methodLink "GlacierMailModel" (72 : Nat) ({ cls := "GlacierMailModel", name := "warms", desc := "()V" } : Jvm.MethodName)) ∈ lw_all := lw_g (lw_at lw_m7 18 rfl) rfl
theorem q1593 : (Jvm.Cond.privateMethod ({ cls := "GlacierMailModel", name := "warms", desc := "()V" } : Jvm.MethodName)) ∈ lw_tbl := lw_at lw_m7 19 rfl
theorem q1594 : (Jvm.Cond.instanceMethod ({ cls := "GlacierMailModel", name := "warms", desc := "()V" } : Jvm.MethodName)) ∈ lw_all := lw_g (lw_at lw_m7 20 rfl) rfl
theorem q1595 : (Jvm.Cond.code ({ cls := "GlacierMailModel", name := "warms", desc := "()V" } : Jvm.MethodName) prog_20_method_65_code (3 : Nat) (Option.none : Option Jvm.ClassFile.FieldType)) ∈ lw_all := lw_g (lw_at lw_m7 21 rfl) rfl
theorem q1596 : (Jvm.Cond.constant "GlacierMailModel" (330 : Nat) (1103515245 : Int32)) ∈ lw_all := lw_g (lw_at lw_m7 22 rfl) rfl
theorem q1597 : (Jvm.Cond.fieldLink "GlacierMailModel" (3 : Nat) "GlacierMailModel" "thrown" "I") ∈ lw_all := lw_g (lw_at lw_m7 23 rfl) rfl
theorem q1598 : (Jvm.Cond.fieldLink "GlacierMailModel" (13 : Nat) "GlacierMailModel" "world" "[I") ∈ lw_all := lw_g (lw_at lw_m7 24 rfl) rfl
theorem q1599 : (Jvm.Cond.fieldLink "GlacierMailModel" (17 : Nat) "GlacierMailModel" "image" "[I") ∈ lw_all := lw_g (lw_at lw_m7 25 rfl) rfl
theorem q1600 : (Jvm.Cond.fieldLink "GlacierMailModel" (20 : Nat) "GlacierMailModel" "before" "[I") ∈ lw_all := lw_g (lw_at lw_m7 26 rfl) rfl
theorem q1601 : (Jvm.Cond.fieldLink "GlacierMailModel" (23 : Nat) "GlacierMailModel" "acts" "[I") ∈ lw_all := lw_g (lw_at lw_m7 27 rfl) rfl
theorem q1602 : (Jvm.Cond.fieldLink "GlacierMailModel" (75 : Nat) "GlacierMailModel" "hasImage" "Z") ∈ lw_all := lw_g (lw_at lw_m7 28 rfl) rfl
theorem q1603 : (Jvm.Cond.fieldLink "GlacierMailModel" (79 : Nat) "GlacierMailModel" "remembered" "I") ∈ lw_all := lw_g (lw_at lw_m7 29 rfl) rfl
theorem q1604 : (Jvm.Cond.fieldLink "GlacierMailModel" (26 : Nat) "GlacierMailModel" "tape" "[B") ∈ lw_all := lw_g (lw_at lw_m7 30 rfl) rfl
theorem q1605 : (Jvm.Cond.fieldLink "GlacierMailModel" (103 : Nat) "GlacierMailModel" "taped" "I") ∈ lw_all := lw_g (lw_at lw_m7 31 rfl) rfl
theorem q1606 : (Jvm.Cond.fieldLink "GlacierMailModel" (106 : Nat) "GlacierMailModel" "point" "I") ∈ lw_all := lw_g (lw_at lw_m7 32 rfl) rfl
theorem q1607 : (Jvm.Cond.fieldLink "GlacierMailModel" (109 : Nat) "GlacierMailModel" "end" "I") ∈ lw_all := lw_g (lw_at lw_m7 33 rfl) rfl
theorem q1608 : (Jvm.Cond.fieldLink "GlacierMailModel" (116 : Nat) "GlacierMailModel" "begin" "I") ∈ lw_all := lw_g (lw_at lw_m7 34 rfl) rfl
theorem q1609 : (Jvm.Cond.fieldLink "GlacierMailModel" (251 : Nat) "GlacierMailModel" "deep" "I") ∈ lw_all := lw_g (lw_at lw_m7 35 rfl) rfl
theorem q1610 : (Jvm.Cond.fieldLink "GlacierMailModel" (30 : Nat) "GlacierMailModel" "faultAt" "I") ∈ lw_all := lw_g (lw_at lw_m7 36 rfl) rfl
theorem q1611 : (Jvm.Cond.fieldLink "GlacierMailModel" (33 : Nat) "GlacierMailModel" "five" "[I") ∈ lw_all := lw_g (lw_at lw_m7 37 rfl) rfl
theorem q1612 : (Jvm.Cond.fieldLink "GlacierMailModel" (224 : Nat) "GlacierMailModel" "steps" "I") ∈ lw_all := lw_g (lw_at lw_m7 38 rfl) rfl
theorem q1613 : (Jvm.Cond.fieldLink "GlacierMailModel" (36 : Nat) "GlacierMailModel" "value" "[I") ∈ lw_all := lw_g (lw_at lw_m7 39 rfl) rfl
theorem q1614 : (Jvm.Cond.fieldLink "GlacierMailModel" (303 : Nat) "GlacierMailModel" "itsLane" "I") ∈ lw_all := lw_g (lw_at lw_m7 40 rfl) rfl
theorem q1615 : (Jvm.Cond.fieldLink "GlacierMailModel" (306 : Nat) "GlacierMailModel" "itsRow" "I") ∈ lw_all := lw_g (lw_at lw_m7 41 rfl) rfl
theorem q1616 : (Jvm.Cond.fieldLink "GlacierMailModel" (309 : Nat) "GlacierMailModel" "itsYear" "I") ∈ lw_all := lw_g (lw_at lw_m7 42 rfl) rfl
theorem q1617 : (Jvm.Cond.fieldLink "GlacierMailModel" (312 : Nat) "GlacierMailModel" "itsSpeed" "I") ∈ lw_all := lw_g (lw_at lw_m7 43 rfl) rfl
theorem q1618 : (Jvm.Cond.fieldLink "GlacierMailModel" (315 : Nat) "GlacierMailModel" "itsPerson" "I") ∈ lw_all := lw_g (lw_at lw_m7 44 rfl) rfl
theorem q1619 : (Jvm.Cond.fieldLink "GlacierMailModel" (318 : Nat) "GlacierMailModel" "itsAge" "I") ∈ lw_all := lw_g (lw_at lw_m7 45 rfl) rfl
theorem q1620 : (Jvm.Cond.fieldLink "GlacierMailModel" (321 : Nat) "GlacierMailModel" "itsDepth" "I") ∈ lw_all := lw_g (lw_at lw_m7 46 rfl) rfl
theorem q1621 : (Jvm.Cond.fieldLink "GlacierMailModel" (39 : Nat) "GlacierMailModel" "heats" "[I") ∈ lw_all := lw_g (lw_at lw_m7 47 rfl) rfl
theorem q1622 : (Jvm.Cond.fieldLink "GlacierMailModel" (42 : Nat) "GlacierMailModel" "flows" "[B") ∈ lw_all := lw_g (lw_at lw_m7 48 rfl) rfl
theorem q1623 : (Jvm.Cond.fieldLink "GlacierMailModel" (331 : Nat) "GlacierMailModel" "flowing" "I") ∈ lw_all := lw_g (lw_at lw_m7 49 rfl) rfl
theorem q1624 : (Jvm.Cond.fieldLink "GlacierMailModel" (45 : Nat) "GlacierMailModel" "rows" "[I") ∈ lw_all := lw_g (lw_at lw_m7 50 rfl) rfl
theorem q1625 : (Jvm.Cond.fieldLink "GlacierMailModel" (48 : Nat) "GlacierMailModel" "depths" "[I") ∈ lw_all := lw_g (lw_at lw_m7 51 rfl) rfl
theorem q1626 : (Jvm.Cond.fieldLink "GlacierMailModel" (368 : Nat) "GlacierMailModel" "out" "I") ∈ lw_all := lw_g (lw_at lw_m7 52 rfl) rfl
theorem q1627 : (Jvm.Cond.fieldLink "GlacierMailModel" (365 : Nat) "GlacierMailModel" "moved" "I") ∈ lw_all := lw_g (lw_at lw_m7 53 rfl) rfl
theorem q1628 : (Jvm.Cond.fieldLink "GlacierMailModel" (51 : Nat) "GlacierMailModel" "outs" "[I") ∈ lw_all := lw_g (lw_at lw_m7 54 rfl) rfl
theorem q1629 : (Jvm.Cond.fieldLink "GlacierMailModel" (54 : Nat) "GlacierMailModel" "otherRows" "[I") ∈ lw_all := lw_g (lw_at lw_m7 55 rfl) rfl
theorem q1630 : (Jvm.Cond.fieldLink "GlacierMailModel" (57 : Nat) "GlacierMailModel" "throwing" "[I") ∈ lw_all := lw_g (lw_at lw_m7 56 rfl) rfl
theorem q1631 : (Jvm.Cond.fieldLink "GlacierMailModel" (60 : Nat) "GlacierMailModel" "having" "[I") ∈ lw_all := lw_g (lw_at lw_m7 57 rfl) rfl
theorem q1632 : (Jvm.Cond.fieldLink "GlacierMailModel" (63 : Nat) "GlacierMailModel" "outYear" "[I") ∈ lw_all := lw_g (lw_at lw_m7 58 rfl) rfl
theorem q1633 : (Jvm.Cond.fieldLink "GlacierMailModel" (477 : Nat) "GlacierMailModel" "backYear" "I") ∈ lw_all := lw_g (lw_at lw_m7 59 rfl) rfl
theorem q1634 : (Jvm.Cond.fieldLink "GlacierMailModel" (66 : Nat) "GlacierMailModel" "loot" "[I") ∈ lw_all := lw_g (lw_at lw_m7 60 rfl) rfl
theorem q1635 : (Jvm.Cond.fieldLink "GlacierMailModel" (69 : Nat) "GlacierMailModel" "more" "[I") ∈ lw_all := lw_g (lw_at lw_m7 61 rfl) rfl
theorem q1636 : (Jvm.Cond.lays "GlacierMailModel" "GlacierMailModel" "thrown" "I") ∈ lw_all := lw_g (lw_at lw_m7 62 rfl) rfl
theorem q1637 : (Jvm.Cond.soleField "GlacierMailModel" "thrown") ∈ lw_all := lw_g (lw_at lw_m7 63 rfl) rfl
theorem q1638 : (Jvm.Cond.laysFinal "GlacierMailModel" "GlacierMailModel" "world" "[I") ∈ lw_all := lw_g (lw_at lw_m7 64 rfl) rfl
theorem q1639 : (Jvm.Cond.soleField "GlacierMailModel" "world") ∈ lw_all := lw_g (lw_at lw_m7 65 rfl) rfl
theorem q1640 : (Jvm.Cond.laysFinal "GlacierMailModel" "GlacierMailModel" "image" "[I") ∈ lw_all := lw_g (lw_at lw_m7 66 rfl) rfl
theorem q1641 : (Jvm.Cond.soleField "GlacierMailModel" "image") ∈ lw_all := lw_g (lw_at lw_m7 67 rfl) rfl
theorem q1642 : (Jvm.Cond.laysFinal "GlacierMailModel" "GlacierMailModel" "before" "[I") ∈ lw_all := lw_g (lw_at lw_m7 68 rfl) rfl
theorem q1643 : (Jvm.Cond.soleField "GlacierMailModel" "before") ∈ lw_all := lw_g (lw_at lw_m7 69 rfl) rfl
theorem q1644 : (Jvm.Cond.laysFinal "GlacierMailModel" "GlacierMailModel" "acts" "[I") ∈ lw_all := lw_g (lw_at lw_m7 70 rfl) rfl
theorem q1645 : (Jvm.Cond.soleField "GlacierMailModel" "acts") ∈ lw_all := lw_g (lw_at lw_m7 71 rfl) rfl
theorem q1646 : (Jvm.Cond.lays "GlacierMailModel" "GlacierMailModel" "hasImage" "Z") ∈ lw_all := lw_g (lw_at lw_m7 72 rfl) rfl
theorem q1647 : (Jvm.Cond.soleField "GlacierMailModel" "hasImage") ∈ lw_all := lw_g (lw_at lw_m7 73 rfl) rfl
theorem q1648 : (Jvm.Cond.lays "GlacierMailModel" "GlacierMailModel" "remembered" "I") ∈ lw_all := lw_g (lw_at lw_m7 74 rfl) rfl
theorem q1649 : (Jvm.Cond.soleField "GlacierMailModel" "remembered") ∈ lw_all := lw_g (lw_at lw_m7 75 rfl) rfl
theorem q1650 : (Jvm.Cond.laysFinal "GlacierMailModel" "GlacierMailModel" "tape" "[B") ∈ lw_all := lw_g (lw_at lw_m7 76 rfl) rfl
theorem q1651 : (Jvm.Cond.soleField "GlacierMailModel" "tape") ∈ lw_all := lw_g (lw_at lw_m7 77 rfl) rfl
theorem q1652 : (Jvm.Cond.lays "GlacierMailModel" "GlacierMailModel" "taped" "I") ∈ lw_all := lw_g (lw_at lw_m7 78 rfl) rfl
theorem q1653 : (Jvm.Cond.soleField "GlacierMailModel" "taped") ∈ lw_all := lw_g (lw_at lw_m7 79 rfl) rfl
theorem q1654 : (Jvm.Cond.lays "GlacierMailModel" "GlacierMailModel" "point" "I") ∈ lw_all := lw_g (lw_at lw_m7 80 rfl) rfl
theorem q1655 : (Jvm.Cond.soleField "GlacierMailModel" "point") ∈ lw_all := lw_g (lw_at lw_m7 81 rfl) rfl
theorem q1656 : (Jvm.Cond.lays "GlacierMailModel" "GlacierMailModel" "end" "I") ∈ lw_all := lw_g (lw_at lw_m7 82 rfl) rfl
theorem q1657 : (Jvm.Cond.soleField "GlacierMailModel" "end") ∈ lw_all := lw_g (lw_at lw_m7 83 rfl) rfl
theorem q1658 : (Jvm.Cond.lays "GlacierMailModel" "GlacierMailModel" "begin" "I") ∈ lw_all := lw_g (lw_at lw_m7 84 rfl) rfl
theorem q1659 : (Jvm.Cond.soleField "GlacierMailModel" "begin") ∈ lw_all := lw_g (lw_at lw_m7 85 rfl) rfl
theorem q1660 : (Jvm.Cond.lays "GlacierMailModel" "GlacierMailModel" "deep" "I") ∈ lw_all := lw_g (lw_at lw_m7 86 rfl) rfl
theorem q1661 : (Jvm.Cond.soleField "GlacierMailModel" "deep") ∈ lw_all := lw_g (lw_at lw_m7 87 rfl) rfl
theorem q1662 : (Jvm.Cond.lays "GlacierMailModel" "GlacierMailModel" "faultAt" "I") ∈ lw_all := lw_g (lw_at lw_m7 88 rfl) rfl
theorem q1663 : (Jvm.Cond.soleField "GlacierMailModel" "faultAt") ∈ lw_all := lw_g (lw_at lw_m7 89 rfl) rfl
theorem q1664 : (Jvm.Cond.laysFinal "GlacierMailModel" "GlacierMailModel" "five" "[I") ∈ lw_all := lw_g (lw_at lw_m7 90 rfl) rfl
theorem q1665 : (Jvm.Cond.soleField "GlacierMailModel" "five") ∈ lw_all := lw_g (lw_at lw_m7 91 rfl) rfl
theorem q1666 : (Jvm.Cond.lays "GlacierMailModel" "GlacierMailModel" "steps" "I") ∈ lw_all := lw_g (lw_at lw_m7 92 rfl) rfl
theorem q1667 : (Jvm.Cond.soleField "GlacierMailModel" "steps") ∈ lw_all := lw_g (lw_at lw_m7 93 rfl) rfl
theorem q1668 : (Jvm.Cond.laysFinal "GlacierMailModel" "GlacierMailModel" "value" "[I") ∈ lw_all := lw_g (lw_at lw_m7 94 rfl) rfl
theorem q1669 : (Jvm.Cond.soleField "GlacierMailModel" "value") ∈ lw_all := lw_g (lw_at lw_m7 95 rfl) rfl
theorem q1670 : (Jvm.Cond.lays "GlacierMailModel" "GlacierMailModel" "itsLane" "I") ∈ lw_all := lw_g (lw_at lw_m7 96 rfl) rfl
theorem q1671 : (Jvm.Cond.soleField "GlacierMailModel" "itsLane") ∈ lw_all := lw_g (lw_at lw_m7 97 rfl) rfl
theorem q1672 : (Jvm.Cond.lays "GlacierMailModel" "GlacierMailModel" "itsRow" "I") ∈ lw_all := lw_g (lw_at lw_m7 98 rfl) rfl
theorem q1673 : (Jvm.Cond.soleField "GlacierMailModel" "itsRow") ∈ lw_all := lw_g (lw_at lw_m7 99 rfl) rfl
theorem q1674 : (Jvm.Cond.lays "GlacierMailModel" "GlacierMailModel" "itsYear" "I") ∈ lw_all := lw_g (lw_at lw_m7 100 rfl) rfl
theorem q1675 : (Jvm.Cond.soleField "GlacierMailModel" "itsYear") ∈ lw_all := lw_g (lw_at lw_m7 101 rfl) rfl
theorem q1676 : (Jvm.Cond.lays "GlacierMailModel" "GlacierMailModel" "itsSpeed" "I") ∈ lw_all := lw_g (lw_at lw_m7 102 rfl) rfl
theorem q1677 : (Jvm.Cond.soleField "GlacierMailModel" "itsSpeed") ∈ lw_all := lw_g (lw_at lw_m7 103 rfl) rfl
theorem q1678 : (Jvm.Cond.lays "GlacierMailModel" "GlacierMailModel" "itsPerson" "I") ∈ lw_all := lw_g (lw_at lw_m7 104 rfl) rfl
theorem q1679 : (Jvm.Cond.soleField "GlacierMailModel" "itsPerson") ∈ lw_all := lw_g (lw_at lw_m7 105 rfl) rfl
theorem q1680 : (Jvm.Cond.lays "GlacierMailModel" "GlacierMailModel" "itsAge" "I") ∈ lw_all := lw_g (lw_at lw_m7 106 rfl) rfl
theorem q1681 : (Jvm.Cond.soleField "GlacierMailModel" "itsAge") ∈ lw_all := lw_g (lw_at lw_m7 107 rfl) rfl
theorem q1682 : (Jvm.Cond.lays "GlacierMailModel" "GlacierMailModel" "itsDepth" "I") ∈ lw_all := lw_g (lw_at lw_m7 108 rfl) rfl
theorem q1683 : (Jvm.Cond.soleField "GlacierMailModel" "itsDepth") ∈ lw_all := lw_g (lw_at lw_m7 109 rfl) rfl
theorem q1684 : (Jvm.Cond.laysFinal "GlacierMailModel" "GlacierMailModel" "heats" "[I") ∈ lw_all := lw_g (lw_at lw_m7 110 rfl) rfl
theorem q1685 : (Jvm.Cond.soleField "GlacierMailModel" "heats") ∈ lw_all := lw_g (lw_at lw_m7 111 rfl) rfl
theorem q1686 : (Jvm.Cond.laysFinal "GlacierMailModel" "GlacierMailModel" "flows" "[B") ∈ lw_all := lw_g (lw_at lw_m7 112 rfl) rfl
theorem q1687 : (Jvm.Cond.soleField "GlacierMailModel" "flows") ∈ lw_all := lw_g (lw_at lw_m7 113 rfl) rfl
theorem q1688 : (Jvm.Cond.lays "GlacierMailModel" "GlacierMailModel" "flowing" "I") ∈ lw_all := lw_g (lw_at lw_m7 114 rfl) rfl
theorem q1689 : (Jvm.Cond.soleField "GlacierMailModel" "flowing") ∈ lw_all := lw_g (lw_at lw_m7 115 rfl) rfl
theorem q1690 : (Jvm.Cond.laysFinal "GlacierMailModel" "GlacierMailModel" "rows" "[I") ∈ lw_all := lw_g (lw_at lw_m7 116 rfl) rfl
theorem q1691 : (Jvm.Cond.soleField "GlacierMailModel" "rows") ∈ lw_all := lw_g (lw_at lw_m7 117 rfl) rfl
theorem q1692 : (Jvm.Cond.laysFinal "GlacierMailModel" "GlacierMailModel" "depths" "[I") ∈ lw_all := lw_g (lw_at lw_m7 118 rfl) rfl
theorem q1693 : (Jvm.Cond.soleField "GlacierMailModel" "depths") ∈ lw_all := lw_g (lw_at lw_m7 119 rfl) rfl
theorem q1694 : (Jvm.Cond.lays "GlacierMailModel" "GlacierMailModel" "out" "I") ∈ lw_all := lw_g (lw_at lw_m7 120 rfl) rfl
theorem q1695 : (Jvm.Cond.soleField "GlacierMailModel" "out") ∈ lw_all := lw_g (lw_at lw_m7 121 rfl) rfl
theorem q1696 : (Jvm.Cond.lays "GlacierMailModel" "GlacierMailModel" "moved" "I") ∈ lw_all := lw_g (lw_at lw_m7 122 rfl) rfl
theorem q1697 : (Jvm.Cond.soleField "GlacierMailModel" "moved") ∈ lw_all := lw_g (lw_at lw_m7 123 rfl) rfl
theorem q1698 : (Jvm.Cond.laysFinal "GlacierMailModel" "GlacierMailModel" "outs" "[I") ∈ lw_all := lw_g (lw_at lw_m7 124 rfl) rfl
theorem q1699 : (Jvm.Cond.soleField "GlacierMailModel" "outs") ∈ lw_all := lw_g (lw_at lw_m7 125 rfl) rfl
theorem q1700 : (Jvm.Cond.laysFinal "GlacierMailModel" "GlacierMailModel" "otherRows" "[I") ∈ lw_all := lw_g (lw_at lw_m7 126 rfl) rfl
theorem q1701 : (Jvm.Cond.soleField "GlacierMailModel" "otherRows") ∈ lw_all := lw_g (lw_at lw_m7 127 rfl) rfl
theorem q1702 : (Jvm.Cond.laysFinal "GlacierMailModel" "GlacierMailModel" "throwing" "[I") ∈ lw_all := lw_g (lw_at lw_m7 128 rfl) rfl
theorem q1703 : (Jvm.Cond.soleField "GlacierMailModel" "throwing") ∈ lw_all := lw_g (lw_at lw_m7 129 rfl) rfl
theorem q1704 : (Jvm.Cond.laysFinal "GlacierMailModel" "GlacierMailModel" "having" "[I") ∈ lw_all := lw_g (lw_at lw_m7 130 rfl) rfl
theorem q1705 : (Jvm.Cond.soleField "GlacierMailModel" "having") ∈ lw_all := lw_g (lw_at lw_m7 131 rfl) rfl
theorem q1706 : (Jvm.Cond.laysFinal "GlacierMailModel" "GlacierMailModel" "outYear" "[I") ∈ lw_all := lw_g (lw_at lw_m7 132 rfl) rfl
theorem q1707 : (Jvm.Cond.soleField "GlacierMailModel" "outYear") ∈ lw_all := lw_g (lw_at lw_m7 133 rfl) rfl
theorem q1708 : (Jvm.Cond.lays "GlacierMailModel" "GlacierMailModel" "backYear" "I") ∈ lw_all := lw_g (lw_at lw_m7 134 rfl) rfl
theorem q1709 : (Jvm.Cond.soleField "GlacierMailModel" "backYear") ∈ lw_all := lw_g (lw_at lw_m7 135 rfl) rfl
theorem q1710 : (Jvm.Cond.laysFinal "GlacierMailModel" "GlacierMailModel" "loot" "[I") ∈ lw_all := lw_g (lw_at lw_m7 136 rfl) rfl
theorem q1711 : (Jvm.Cond.soleField "GlacierMailModel" "loot") ∈ lw_all := lw_g (lw_at lw_m7 137 rfl) rfl
theorem q1712 : (Jvm.Cond.laysFinal "GlacierMailModel" "GlacierMailModel" "more" "[I") ∈ lw_all := lw_g (lw_at lw_m7 138 rfl) rfl
theorem q1713 : (Jvm.Cond.soleField "GlacierMailModel" "more") ∈ lw_all := lw_g (lw_at lw_m7 139 rfl) rfl
theorem q1714 : (Jvm.Cond.superclass "GlacierMailModel" "java/lang/Object") ∈ lw_all := lw_g (lw_at lw_m7 140 rfl) rfl
theorem q1716 : (Jvm.Cond.instanceMethod ({ cls := "GlacierMailModel", name := "image", desc := "()V" } : Jvm.MethodName)) ∈ lw_all := lw_g (lw_at lw_m7 142 rfl) rfl
theorem q1717 : (Jvm.Cond.selects "GlacierMailModel" ({ cls := "GlacierMailModel", name := "image", desc := "()V" } : Jvm.MethodName) ({ cls := "GlacierMailModel", name := "image", desc := "()V" } : Jvm.MethodName)) ∈ lw_all := lw_g (lw_at lw_m7 143 rfl) rfl
theorem q1718 : (Jvm.Cond.code ({ cls := "GlacierMailModel", name := "image", desc := "()V" } : Jvm.MethodName) prog_20_method_6_code (2 : Nat) (Option.none : Option Jvm.ClassFile.FieldType)) ∈ lw_all := lw_g (lw_at lw_m7 144 rfl) rfl
theorem q1720 : (Jvm.Cond.instanceMethod ({ cls := "GlacierMailModel", name := "back", desc := "()Z" } : Jvm.MethodName)) ∈ lw_all := lw_g (lw_at lw_m7 146 rfl) rfl
theorem q1721 : (Jvm.Cond.selects "GlacierMailModel" ({ cls := "GlacierMailModel", name := "back", desc := "()Z" } : Jvm.MethodName) ({ cls := "GlacierMailModel", name := "back", desc := "()Z" } : Jvm.MethodName)) ∈ lw_all := lw_g (lw_at lw_m7 147 rfl) rfl
theorem q1722 : (Jvm.Cond.code ({ cls := "GlacierMailModel", name := "back", desc := "()Z" } : Jvm.MethodName) prog_20_method_7_code (2 : Nat) (Option.some Jvm.ClassFile.FieldType.boolean)) ∈ lw_all := lw_g (lw_at lw_m7 148 rfl) rfl
theorem q1724 : (Jvm.Cond.instanceMethod ({ cls := "GlacierMailModel", name := "undo", desc := "()Z" } : Jvm.MethodName)) ∈ lw_all := lw_g (lw_at lw_m7 150 rfl) rfl
theorem q1725 : (Jvm.Cond.selects "GlacierMailModel" ({ cls := "GlacierMailModel", name := "undo", desc := "()Z" } : Jvm.MethodName) ({ cls := "GlacierMailModel", name := "undo", desc := "()Z" } : Jvm.MethodName)) ∈ lw_all := lw_g (lw_at lw_m7 151 rfl) rfl
theorem q1726 : (Jvm.Cond.code ({ cls := "GlacierMailModel", name := "undo", desc := "()Z" } : Jvm.MethodName) prog_20_method_9_code (2 : Nat) (Option.some Jvm.ClassFile.FieldType.boolean)) ∈ lw_all := lw_g (lw_at lw_m7 152 rfl) rfl
theorem q1728 : (Jvm.Cond.instanceMethod ({ cls := "GlacierMailModel", name := "feed", desc := "(IIIII)I" } : Jvm.MethodName)) ∈ lw_all := lw_g (lw_at lw_m7 154 rfl) rfl
theorem q1729 : (Jvm.Cond.selects "GlacierMailModel" ({ cls := "GlacierMailModel", name := "feed", desc := "(IIIII)I" } : Jvm.MethodName) ({ cls := "GlacierMailModel", name := "feed", desc := "(IIIII)I" } : Jvm.MethodName)) ∈ lw_all := lw_g (lw_at lw_m7 155 rfl) rfl
theorem q1730 : (Jvm.Cond.code ({ cls := "GlacierMailModel", name := "feed", desc := "(IIIII)I" } : Jvm.MethodName) prog_20_method_24_code (7 : Nat) (Option.some Jvm.ClassFile.FieldType.int)) ∈ lw_all := lw_g (lw_at lw_m7 156 rfl) rfl
theorem q1732 : (Jvm.Cond.instanceMethod ({ cls := "GlacierMailModel", name := "end", desc := "(I)Z" } : Jvm.MethodName)) ∈ lw_all := lw_g (lw_at lw_m7 158 rfl) rfl
theorem q1733 : (Jvm.Cond.selects "GlacierMailModel" ({ cls := "GlacierMailModel", name := "end", desc := "(I)Z" } : Jvm.MethodName) ({ cls := "GlacierMailModel", name := "end", desc := "(I)Z" } : Jvm.MethodName)) ∈ lw_all := lw_g (lw_at lw_m7 159 rfl) rfl
theorem q1734 : (Jvm.Cond.code ({ cls := "GlacierMailModel", name := "end", desc := "(I)Z" } : Jvm.MethodName) prog_20_method_25_code (2 : Nat) (Option.some Jvm.ClassFile.FieldType.boolean)) ∈ lw_all := lw_g (lw_at lw_m7 160 rfl) rfl
theorem q1736 : (Jvm.Cond.instanceMethod ({ cls := "GlacierMailModel", name := "fault", desc := "()I" } : Jvm.MethodName)) ∈ lw_all := lw_g (lw_at lw_m7 162 rfl) rfl
theorem q1737 : (Jvm.Cond.selects "GlacierMailModel" ({ cls := "GlacierMailModel", name := "fault", desc := "()I" } : Jvm.MethodName) ({ cls := "GlacierMailModel", name := "fault", desc := "()I" } : Jvm.MethodName)) ∈ lw_all := lw_g (lw_at lw_m7 163 rfl) rfl
theorem q1738 : (Jvm.Cond.code ({ cls := "GlacierMailModel", name := "fault", desc := "()I" } : Jvm.MethodName) prog_20_method_35_code (1 : Nat) (Option.some Jvm.ClassFile.FieldType.int)) ∈ lw_all := lw_g (lw_at lw_m7 164 rfl) rfl
theorem q1740 : (Jvm.Cond.instanceMethod ({ cls := "GlacierMailModel", name := "valley", desc := "()I" } : Jvm.MethodName)) ∈ lw_all := lw_g (lw_at lw_m7 166 rfl) rfl
theorem q1741 : (Jvm.Cond.selects "GlacierMailModel" ({ cls := "GlacierMailModel", name := "valley", desc := "()I" } : Jvm.MethodName) ({ cls := "GlacierMailModel", name := "valley", desc := "()I" } : Jvm.MethodName)) ∈ lw_all := lw_g (lw_at lw_m7 167 rfl) rfl
theorem q1742 : (Jvm.Cond.code ({ cls := "GlacierMailModel", name := "valley", desc := "()I" } : Jvm.MethodName) prog_20_method_60_code (3 : Nat) (Option.some Jvm.ClassFile.FieldType.int)) ∈ lw_all := lw_g (lw_at lw_m7 168 rfl) rfl
theorem q1743 : (Jvm.Cond.methodLink "GlacierMailModel" (296 : Nat) ({ cls := "GlacierMailModel", name := "readAll", desc := "(Z)I" } : Jvm.MethodName)) ∈ lw_all := lw_g (lw_at lw_m7 169 rfl) rfl
theorem q1744 : (Jvm.Cond.privateMethod ({ cls := "GlacierMailModel", name := "readAll", desc := "(Z)I" } : Jvm.MethodName)) ∈ lw_tbl := lw_at lw_m7 170 rfl
theorem q1745 : (Jvm.Cond.instanceMethod ({ cls := "GlacierMailModel", name := "readAll", desc := "(Z)I" } : Jvm.MethodName)) ∈ lw_all := lw_g (lw_at lw_m7 171 rfl) rfl
theorem q1746 : (Jvm.Cond.code ({ cls := "GlacierMailModel", name := "readAll", desc := "(Z)I" } : Jvm.MethodName) prog_20_method_59_code (3 : Nat) (Option.some Jvm.ClassFile.FieldType.int)) ∈ lw_all := lw_g (lw_at lw_m7 172 rfl) rfl
theorem q1747 : (Jvm.Cond.methodLink "GlacierMailModel" (289 : Nat) ({ cls := "GlacierMailModel", name := "uses", desc := "()V" } : Jvm.MethodName)) ∈ lw_all := lw_g (lw_at lw_m7 173 rfl) rfl
theorem q1748 : (Jvm.Cond.privateMethod ({ cls := "GlacierMailModel", name := "uses", desc := "()V" } : Jvm.MethodName)) ∈ lw_tbl := lw_at lw_m7 174 rfl
theorem q1749 : (Jvm.Cond.instanceMethod ({ cls := "GlacierMailModel", name := "uses", desc := "()V" } : Jvm.MethodName)) ∈ lw_all := lw_g (lw_at lw_m7 175 rfl) rfl
theorem q1750 : (Jvm.Cond.code ({ cls := "GlacierMailModel", name := "uses", desc := "()V" } : Jvm.MethodName) prog_20_method_36_code (1 : Nat) (Option.none : Option Jvm.ClassFile.FieldType)) ∈ lw_all := lw_g (lw_at lw_m7 176 rfl) rfl
theorem q1751 : (Jvm.Cond.methodLink "GlacierMailModel" (119 : Nat) ({ cls := "GlacierMailModel", name := "blanks", desc := "()V" } : Jvm.MethodName)) ∈ lw_all := lw_g (lw_at lw_m7 177 rfl) rfl
theorem q1752 : (Jvm.Cond.privateMethod ({ cls := "GlacierMailModel", name := "blanks", desc := "()V" } : Jvm.MethodName)) ∈ lw_tbl := lw_at lw_m7 178 rfl
theorem q1753 : (Jvm.Cond.instanceMethod ({ cls := "GlacierMailModel", name := "blanks", desc := "()V" } : Jvm.MethodName)) ∈ lw_all := lw_g (lw_at lw_m7 179 rfl) rfl
theorem q1754 : (Jvm.Cond.code ({ cls := "GlacierMailModel", name := "blanks", desc := "()V" } : Jvm.MethodName) prog_20_method_27_code (1 : Nat) (Option.none : Option Jvm.ClassFile.FieldType)) ∈ lw_all := lw_g (lw_at lw_m7 180 rfl) rfl
theorem q1755 : (Jvm.Cond.methodLink "GlacierMailModel" (112 : Nat) ({ cls := "GlacierMailModel", name := "isAt", desc := "(II)Z" } : Jvm.MethodName)) ∈ lw_all := lw_g (lw_at lw_m7 181 rfl) rfl
theorem q1756 : (Jvm.Cond.privateMethod ({ cls := "GlacierMailModel", name := "isAt", desc := "(II)Z" } : Jvm.MethodName)) ∈ lw_tbl := lw_at lw_m7 182 rfl
theorem q1757 : (Jvm.Cond.instanceMethod ({ cls := "GlacierMailModel", name := "isAt", desc := "(II)Z" } : Jvm.MethodName)) ∈ lw_all := lw_g (lw_at lw_m7 183 rfl) rfl
theorem q1758 : (Jvm.Cond.code ({ cls := "GlacierMailModel", name := "isAt", desc := "(II)Z" } : Jvm.MethodName) prog_20_method_26_code (3 : Nat) (Option.some Jvm.ClassFile.FieldType.boolean)) ∈ lw_all := lw_g (lw_at lw_m7 184 rfl) rfl
theorem q1759 : (Jvm.Cond.methodLink "GlacierMailModel" (292 : Nat) ({ cls := "GlacierMailModel", name := "readLine", desc := "(ZI)Z" } : Jvm.MethodName)) ∈ lw_all := lw_g (lw_at lw_m7 185 rfl) rfl
theorem q1760 : (Jvm.Cond.privateMethod ({ cls := "GlacierMailModel", name := "readLine", desc := "(ZI)Z" } : Jvm.MethodName)) ∈ lw_tbl := lw_at lw_m7 186 rfl
theorem q1761 : (Jvm.Cond.instanceMethod ({ cls := "GlacierMailModel", name := "readLine", desc := "(ZI)Z" } : Jvm.MethodName)) ∈ lw_all := lw_g (lw_at lw_m7 187 rfl) rfl
theorem q1762 : (Jvm.Cond.code ({ cls := "GlacierMailModel", name := "readLine", desc := "(ZI)Z" } : Jvm.MethodName) prog_20_method_58_code (3 : Nat) (Option.some Jvm.ClassFile.FieldType.boolean)) ∈ lw_all := lw_g (lw_at lw_m7 188 rfl) rfl
theorem q1763 : (Jvm.Cond.methodLink "GlacierMailModel" (131 : Nat) ({ cls := "GlacierMailModel", name := "letterRow", desc := "()V" } : Jvm.MethodName)) ∈ lw_all := lw_g (lw_at lw_m7 189 rfl) rfl
theorem q1764 : (Jvm.Cond.privateMethod ({ cls := "GlacierMailModel", name := "letterRow", desc := "()V" } : Jvm.MethodName)) ∈ lw_tbl := lw_at lw_m7 190 rfl
theorem q1765 : (Jvm.Cond.instanceMethod ({ cls := "GlacierMailModel", name := "letterRow", desc := "()V" } : Jvm.MethodName)) ∈ lw_all := lw_g (lw_at lw_m7 191 rfl) rfl
theorem q1766 : (Jvm.Cond.code ({ cls := "GlacierMailModel", name := "letterRow", desc := "()V" } : Jvm.MethodName) prog_20_method_28_code (1 : Nat) (Option.none : Option Jvm.ClassFile.FieldType)) ∈ lw_all := lw_g (lw_at lw_m7 192 rfl) rfl
theorem q1767 : (Jvm.Cond.methodLink "GlacierMailModel" (283 : Nat) ({ cls := "GlacierMailModel", name := "readValleyLine", desc := "()Z" } : Jvm.MethodName)) ∈ lw_all := lw_g (lw_at lw_m7 193 rfl) rfl
theorem q1768 : (Jvm.Cond.privateMethod ({ cls := "GlacierMailModel", name := "readValleyLine", desc := "()Z" } : Jvm.MethodName)) ∈ lw_tbl := lw_at lw_m7 194 rfl
theorem q1769 : (Jvm.Cond.instanceMethod ({ cls := "GlacierMailModel", name := "readValleyLine", desc := "()Z" } : Jvm.MethodName)) ∈ lw_all := lw_g (lw_at lw_m7 195 rfl) rfl
theorem q1770 : (Jvm.Cond.code ({ cls := "GlacierMailModel", name := "readValleyLine", desc := "()Z" } : Jvm.MethodName) prog_20_method_50_code (3 : Nat) (Option.some Jvm.ClassFile.FieldType.boolean)) ∈ lw_all := lw_g (lw_at lw_m7 196 rfl) rfl
theorem q1771 : (Jvm.Cond.stringRef "GlacierMailModel" (181 : Nat) "lanes") ∈ lw_tbl := lw_at lw_m7 197 rfl
theorem q1772 : (Jvm.Cond.methodLink "GlacierMailModel" (134 : Nat) ({ cls := "GlacierMailModel", name := "isWord", desc := "(Ljava/lang/String;)Z" } : Jvm.MethodName)) ∈ lw_all := lw_g (lw_at lw_m7 198 rfl) rfl
theorem q1773 : (Jvm.Cond.privateMethod ({ cls := "GlacierMailModel", name := "isWord", desc := "(Ljava/lang/String;)Z" } : Jvm.MethodName)) ∈ lw_tbl := lw_at lw_m7 199 rfl
theorem q1774 : (Jvm.Cond.instanceMethod ({ cls := "GlacierMailModel", name := "isWord", desc := "(Ljava/lang/String;)Z" } : Jvm.MethodName)) ∈ lw_all := lw_g (lw_at lw_m7 200 rfl) rfl
theorem q1775 : (Jvm.Cond.code ({ cls := "GlacierMailModel", name := "isWord", desc := "(Ljava/lang/String;)Z" } : Jvm.MethodName) prog_20_method_29_code (4 : Nat) (Option.some Jvm.ClassFile.FieldType.boolean)) ∈ lw_all := lw_g (lw_at lw_m7 201 rfl) rfl
theorem q1776 : (Jvm.Cond.methodLink "GlacierMailModel" (122 : Nat) ({ cls := "java/lang/String", name := "length", desc := "()I" } : Jvm.MethodName)) ∈ lw_all := lw_g (lw_at lw_m7 202 rfl) rfl
theorem q1777 : (Jvm.Cond.methodLink "GlacierMailModel" (127 : Nat) ({ cls := "java/lang/String", name := "charAt", desc := "(I)C" } : Jvm.MethodName)) ∈ lw_all := lw_g (lw_at lw_m7 203 rfl) rfl
theorem q1778 : (Jvm.Cond.methodLink "GlacierMailModel" (182 : Nat) ({ cls := "GlacierMailModel", name := "readLanes", desc := "()Z" } : Jvm.MethodName)) ∈ lw_all := lw_g (lw_at lw_m7 204 rfl) rfl
theorem q1779 : (Jvm.Cond.privateMethod ({ cls := "GlacierMailModel", name := "readLanes", desc := "()Z" } : Jvm.MethodName)) ∈ lw_tbl := lw_at lw_m7 205 rfl
theorem q1780 : (Jvm.Cond.instanceMethod ({ cls := "GlacierMailModel", name := "readLanes", desc := "()Z" } : Jvm.MethodName)) ∈ lw_all := lw_g (lw_at lw_m7 206 rfl) rfl
theorem q1781 : (Jvm.Cond.code ({ cls := "GlacierMailModel", name := "readLanes", desc := "()Z" } : Jvm.MethodName) prog_20_method_40_code (2 : Nat) (Option.some Jvm.ClassFile.FieldType.boolean)) ∈ lw_all := lw_g (lw_at lw_m7 207 rfl) rfl
theorem q1782 : (Jvm.Cond.methodLink "GlacierMailModel" (145 : Nat) ({ cls := "GlacierMailModel", name := "isEmpty", desc := "()Z" } : Jvm.MethodName)) ∈ lw_all := lw_g (lw_at lw_m7 208 rfl) rfl
theorem q1783 : (Jvm.Cond.privateMethod ({ cls := "GlacierMailModel", name := "isEmpty", desc := "()Z" } : Jvm.MethodName)) ∈ lw_tbl := lw_at lw_m7 209 rfl
theorem q1784 : (Jvm.Cond.instanceMethod ({ cls := "GlacierMailModel", name := "isEmpty", desc := "()Z" } : Jvm.MethodName)) ∈ lw_all := lw_g (lw_at lw_m7 210 rfl) rfl
theorem q1785 : (Jvm.Cond.code ({ cls := "GlacierMailModel", name := "isEmpty", desc := "()Z" } : Jvm.MethodName) prog_20_method_39_code (1 : Nat) (Option.some Jvm.ClassFile.FieldType.boolean)) ∈ lw_all := lw_g (lw_at lw_m7 211 rfl) rfl
theorem q1786 : (Jvm.Cond.methodLink "GlacierMailModel" (97 : Nat) ({ cls := "GlacierMailModel", name := "people", desc := "()I" } : Jvm.MethodName)) ∈ lw_all := lw_g (lw_at lw_m7 212 rfl) rfl
theorem q1787 : (Jvm.Cond.privateMethod ({ cls := "GlacierMailModel", name := "people", desc := "()I" } : Jvm.MethodName)) ∈ lw_tbl := lw_at lw_m7 213 rfl
theorem q1788 : (Jvm.Cond.instanceMethod ({ cls := "GlacierMailModel", name := "people", desc := "()I" } : Jvm.MethodName)) ∈ lw_all := lw_g (lw_at lw_m7 214 rfl) rfl
theorem q1789 : (Jvm.Cond.code ({ cls := "GlacierMailModel", name := "people", desc := "()I" } : Jvm.MethodName) prog_20_method_12_code (1 : Nat) (Option.some Jvm.ClassFile.FieldType.int)) ∈ lw_all := lw_g (lw_at lw_m7 215 rfl) rfl
theorem q1790 : (Jvm.Cond.methodLink "GlacierMailModel" (100 : Nat) ({ cls := "GlacierMailModel", name := "letters", desc := "()I" } : Jvm.MethodName)) ∈ lw_all := lw_g (lw_at lw_m7 216 rfl) rfl
theorem q1791 : (Jvm.Cond.privateMethod ({ cls := "GlacierMailModel", name := "letters", desc := "()I" } : Jvm.MethodName)) ∈ lw_tbl := lw_at lw_m7 217 rfl
theorem q1792 : (Jvm.Cond.instanceMethod ({ cls := "GlacierMailModel", name := "letters", desc := "()I" } : Jvm.MethodName)) ∈ lw_all := lw_g (lw_at lw_m7 218 rfl) rfl
theorem q1793 : (Jvm.Cond.code ({ cls := "GlacierMailModel", name := "letters", desc := "()I" } : Jvm.MethodName) prog_20_method_13_code (1 : Nat) (Option.some Jvm.ClassFile.FieldType.int)) ∈ lw_all := lw_g (lw_at lw_m7 219 rfl) rfl
theorem q1794 : (Jvm.Cond.methodLink "GlacierMailModel" (142 : Nat) ({ cls := "GlacierMailModel", name := "number", desc := "(II)I" } : Jvm.MethodName)) ∈ lw_all := lw_g (lw_at lw_m7 220 rfl) rfl
theorem q1795 : (Jvm.Cond.privateMethod ({ cls := "GlacierMailModel", name := "number", desc := "(II)I" } : Jvm.MethodName)) ∈ lw_tbl := lw_at lw_m7 221 rfl
theorem q1796 : (Jvm.Cond.instanceMethod ({ cls := "GlacierMailModel", name := "number", desc := "(II)I" } : Jvm.MethodName)) ∈ lw_all := lw_g (lw_at lw_m7 222 rfl) rfl
theorem q1797 : (Jvm.Cond.code ({ cls := "GlacierMailModel", name := "number", desc := "(II)I" } : Jvm.MethodName) prog_20_method_33_code (3 : Nat) (Option.some Jvm.ClassFile.FieldType.int)) ∈ lw_all := lw_g (lw_at lw_m7 223 rfl) rfl
theorem q1798 : (Jvm.Cond.methodLink "GlacierMailModel" (138 : Nat) ({ cls := "GlacierMailModel", name := "figures", desc := "(III)I" } : Jvm.MethodName)) ∈ lw_all := lw_g (lw_at lw_m7 224 rfl) rfl
theorem q1799 : (Jvm.Cond.privateMethod ({ cls := "GlacierMailModel", name := "figures", desc := "(III)I" } : Jvm.MethodName)) ∈ lw_tbl := lw_at lw_m7 225 rfl
theorem q1800 : (Jvm.Cond.instanceMethod ({ cls := "GlacierMailModel", name := "figures", desc := "(III)I" } : Jvm.MethodName)) ∈ lw_all := lw_g (lw_at lw_m7 226 rfl) rfl
theorem q1801 : (Jvm.Cond.code ({ cls := "GlacierMailModel", name := "figures", desc := "(III)I" } : Jvm.MethodName) prog_20_method_32_code (5 : Nat) (Option.some Jvm.ClassFile.FieldType.int)) ∈ lw_all := lw_g (lw_at lw_m7 227 rfl) rfl
theorem q1802 : (Jvm.Cond.stringRef "GlacierMailModel" (185 : Nat) "last") ∈ lw_tbl := lw_at lw_m7 228 rfl
theorem q1803 : (Jvm.Cond.methodLink "GlacierMailModel" (187 : Nat) ({ cls := "GlacierMailModel", name := "readLast", desc := "()Z" } : Jvm.MethodName)) ∈ lw_all := lw_g (lw_at lw_m7 229 rfl) rfl
theorem q1804 : (Jvm.Cond.privateMethod ({ cls := "GlacierMailModel", name := "readLast", desc := "()Z" } : Jvm.MethodName)) ∈ lw_tbl := lw_at lw_m7 230 rfl
theorem q1805 : (Jvm.Cond.instanceMethod ({ cls := "GlacierMailModel", name := "readLast", desc := "()Z" } : Jvm.MethodName)) ∈ lw_all := lw_g (lw_at lw_m7 231 rfl) rfl
theorem q1806 : (Jvm.Cond.code ({ cls := "GlacierMailModel", name := "readLast", desc := "()Z" } : Jvm.MethodName) prog_20_method_41_code (2 : Nat) (Option.some Jvm.ClassFile.FieldType.boolean)) ∈ lw_all := lw_g (lw_at lw_m7 232 rfl) rfl
theorem q1807 : (Jvm.Cond.stringRef "GlacierMailModel" (190 : Nat) "section") ∈ lw_tbl := lw_at lw_m7 233 rfl
theorem q1808 : (Jvm.Cond.methodLink "GlacierMailModel" (192 : Nat) ({ cls := "GlacierMailModel", name := "readSection", desc := "()Z" } : Jvm.MethodName)) ∈ lw_all := lw_g (lw_at lw_m7 234 rfl) rfl
theorem q1809 : (Jvm.Cond.privateMethod ({ cls := "GlacierMailModel", name := "readSection", desc := "()Z" } : Jvm.MethodName)) ∈ lw_tbl := lw_at lw_m7 235 rfl
theorem q1810 : (Jvm.Cond.instanceMethod ({ cls := "GlacierMailModel", name := "readSection", desc := "()Z" } : Jvm.MethodName)) ∈ lw_all := lw_g (lw_at lw_m7 236 rfl) rfl
theorem q1811 : (Jvm.Cond.code ({ cls := "GlacierMailModel", name := "readSection", desc := "()Z" } : Jvm.MethodName) prog_20_method_43_code (4 : Nat) (Option.some Jvm.ClassFile.FieldType.boolean)) ∈ lw_all := lw_g (lw_at lw_m7 237 rfl) rfl
theorem q1812 : (Jvm.Cond.methodLink "GlacierMailModel" (94 : Nat) ({ cls := "GlacierMailModel", name := "lip", desc := "()I" } : Jvm.MethodName)) ∈ lw_all := lw_g (lw_at lw_m7 238 rfl) rfl
theorem q1813 : (Jvm.Cond.privateMethod ({ cls := "GlacierMailModel", name := "lip", desc := "()I" } : Jvm.MethodName)) ∈ lw_tbl := lw_at lw_m7 239 rfl
theorem q1814 : (Jvm.Cond.instanceMethod ({ cls := "GlacierMailModel", name := "lip", desc := "()I" } : Jvm.MethodName)) ∈ lw_all := lw_g (lw_at lw_m8 0 rfl) rfl
theorem q1815 : (Jvm.Cond.code ({ cls := "GlacierMailModel", name := "lip", desc := "()I" } : Jvm.MethodName) prog_20_method_11_code (1 : Nat) (Option.some Jvm.ClassFile.FieldType.int)) ∈ lw_all := lw_g (lw_at lw_m8 1 rfl) rfl
theorem q1816 : (Jvm.Cond.methodLink "GlacierMailModel" (149 : Nat) ({ cls := "GlacierMailModel", name := "readSpeeds", desc := "(I)Z" } : Jvm.MethodName)) ∈ lw_all := lw_g (lw_at lw_m8 2 rfl) rfl
theorem q1817 : (Jvm.Cond.privateMethod ({ cls := "GlacierMailModel", name := "readSpeeds", desc := "(I)Z" } : Jvm.MethodName)) ∈ lw_tbl := lw_at lw_m8 3 rfl
theorem q1818 : (Jvm.Cond.instanceMethod ({ cls := "GlacierMailModel", name := "readSpeeds", desc := "(I)Z" } : Jvm.MethodName)) ∈ lw_all := lw_g (lw_at lw_m8 4 rfl) rfl
theorem q1819 : (Jvm.Cond.code ({ cls := "GlacierMailModel", name := "readSpeeds", desc := "(I)Z" } : Jvm.MethodName) prog_20_method_42_code (4 : Nat) (Option.some Jvm.ClassFile.FieldType.boolean)) ∈ lw_all := lw_g (lw_at lw_m8 5 rfl) rfl
theorem q1820 : (Jvm.Cond.methodLink "GlacierMailModel" (86 : Nat) ({ cls := "GlacierMailModel", name := "lanes", desc := "()I" } : Jvm.MethodName)) ∈ lw_all := lw_g (lw_at lw_m8 6 rfl) rfl
theorem q1821 : (Jvm.Cond.privateMethod ({ cls := "GlacierMailModel", name := "lanes", desc := "()I" } : Jvm.MethodName)) ∈ lw_tbl := lw_at lw_m8 7 rfl
theorem q1822 : (Jvm.Cond.instanceMethod ({ cls := "GlacierMailModel", name := "lanes", desc := "()I" } : Jvm.MethodName)) ∈ lw_all := lw_g (lw_at lw_m8 8 rfl) rfl
theorem q1823 : (Jvm.Cond.code ({ cls := "GlacierMailModel", name := "lanes", desc := "()I" } : Jvm.MethodName) prog_20_method_10_code (1 : Nat) (Option.some Jvm.ClassFile.FieldType.int)) ∈ lw_all := lw_g (lw_at lw_m8 9 rfl) rfl
theorem q1824 : (Jvm.Cond.stringRef "GlacierMailModel" (195 : Nat) "snow") ∈ lw_tbl := lw_at lw_m8 10 rfl
theorem q1825 : (Jvm.Cond.methodLink "GlacierMailModel" (197 : Nat) ({ cls := "GlacierMailModel", name := "readSnow", desc := "()Z" } : Jvm.MethodName)) ∈ lw_all := lw_g (lw_at lw_m8 11 rfl) rfl
theorem q1826 : (Jvm.Cond.privateMethod ({ cls := "GlacierMailModel", name := "readSnow", desc := "()Z" } : Jvm.MethodName)) ∈ lw_tbl := lw_at lw_m8 12 rfl
theorem q1827 : (Jvm.Cond.instanceMethod ({ cls := "GlacierMailModel", name := "readSnow", desc := "()Z" } : Jvm.MethodName)) ∈ lw_all := lw_g (lw_at lw_m8 13 rfl) rfl
theorem q1828 : (Jvm.Cond.code ({ cls := "GlacierMailModel", name := "readSnow", desc := "()Z" } : Jvm.MethodName) prog_20_method_44_code (3 : Nat) (Option.some Jvm.ClassFile.FieldType.boolean)) ∈ lw_all := lw_g (lw_at lw_m8 14 rfl) rfl
theorem q1829 : (Jvm.Cond.methodLink "GlacierMailModel" (153 : Nat) ({ cls := "GlacierMailModel", name := "rowTold", desc := "()I" } : Jvm.MethodName)) ∈ lw_all := lw_g (lw_at lw_m8 15 rfl) rfl
theorem q1830 : (Jvm.Cond.privateMethod ({ cls := "GlacierMailModel", name := "rowTold", desc := "()I" } : Jvm.MethodName)) ∈ lw_tbl := lw_at lw_m8 16 rfl
theorem q1831 : (Jvm.Cond.instanceMethod ({ cls := "GlacierMailModel", name := "rowTold", desc := "()I" } : Jvm.MethodName)) ∈ lw_all := lw_g (lw_at lw_m8 17 rfl) rfl
theorem q1832 : (Jvm.Cond.code ({ cls := "GlacierMailModel", name := "rowTold", desc := "()I" } : Jvm.MethodName) prog_20_method_38_code (1 : Nat) (Option.some Jvm.ClassFile.FieldType.int)) ∈ lw_all := lw_g (lw_at lw_m8 18 rfl) rfl
theorem q1833 : (Jvm.Cond.stringRef "GlacierMailModel" (156 : Nat) "fall") ∈ lw_tbl := lw_at lw_m8 19 rfl
theorem q1834 : (Jvm.Cond.methodLink "GlacierMailModel" (158 : Nat) ({ cls := "GlacierMailModel", name := "after", desc := "(Ljava/lang/String;II)I" } : Jvm.MethodName)) ∈ lw_all := lw_g (lw_at lw_m8 20 rfl) rfl
theorem q1835 : (Jvm.Cond.privateMethod ({ cls := "GlacierMailModel", name := "after", desc := "(Ljava/lang/String;II)I" } : Jvm.MethodName)) ∈ lw_tbl := lw_at lw_m8 21 rfl
theorem q1836 : (Jvm.Cond.instanceMethod ({ cls := "GlacierMailModel", name := "after", desc := "(Ljava/lang/String;II)I" } : Jvm.MethodName)) ∈ lw_all := lw_g (lw_at lw_m8 22 rfl) rfl
theorem q1837 : (Jvm.Cond.code ({ cls := "GlacierMailModel", name := "after", desc := "(Ljava/lang/String;II)I" } : Jvm.MethodName) prog_20_method_34_code (4 : Nat) (Option.some Jvm.ClassFile.FieldType.int)) ∈ lw_all := lw_g (lw_at lw_m8 23 rfl) rfl
theorem q1838 : (Jvm.Cond.stringRef "GlacierMailModel" (200 : Nat) "flood") ∈ lw_tbl := lw_at lw_m8 24 rfl
theorem q1839 : (Jvm.Cond.methodLink "GlacierMailModel" (202 : Nat) ({ cls := "GlacierMailModel", name := "readFlood", desc := "()Z" } : Jvm.MethodName)) ∈ lw_all := lw_g (lw_at lw_m8 25 rfl) rfl
theorem q1840 : (Jvm.Cond.privateMethod ({ cls := "GlacierMailModel", name := "readFlood", desc := "()Z" } : Jvm.MethodName)) ∈ lw_tbl := lw_at lw_m8 26 rfl
theorem q1841 : (Jvm.Cond.instanceMethod ({ cls := "GlacierMailModel", name := "readFlood", desc := "()Z" } : Jvm.MethodName)) ∈ lw_all := lw_g (lw_at lw_m8 27 rfl) rfl
theorem q1842 : (Jvm.Cond.code ({ cls := "GlacierMailModel", name := "readFlood", desc := "()Z" } : Jvm.MethodName) prog_20_method_45_code (5 : Nat) (Option.some Jvm.ClassFile.FieldType.boolean)) ∈ lw_all := lw_g (lw_at lw_m8 28 rfl) rfl
theorem q1843 : (Jvm.Cond.methodLink "GlacierMailModel" (162 : Nat) ({ cls := "GlacierMailModel", name := "now", desc := "()I" } : Jvm.MethodName)) ∈ lw_all := lw_g (lw_at lw_m8 29 rfl) rfl
theorem q1844 : (Jvm.Cond.privateMethod ({ cls := "GlacierMailModel", name := "now", desc := "()I" } : Jvm.MethodName)) ∈ lw_tbl := lw_at lw_m8 30 rfl
theorem q1845 : (Jvm.Cond.instanceMethod ({ cls := "GlacierMailModel", name := "now", desc := "()I" } : Jvm.MethodName)) ∈ lw_all := lw_g (lw_at lw_m8 31 rfl) rfl
theorem q1846 : (Jvm.Cond.code ({ cls := "GlacierMailModel", name := "now", desc := "()I" } : Jvm.MethodName) prog_20_method_14_code (1 : Nat) (Option.some Jvm.ClassFile.FieldType.int)) ∈ lw_all := lw_g (lw_at lw_m8 32 rfl) rfl
theorem q1847 : (Jvm.Cond.stringRef "GlacierMailModel" (205 : Nat) "person") ∈ lw_tbl := lw_at lw_m8 33 rfl
theorem q1848 : (Jvm.Cond.methodLink "GlacierMailModel" (207 : Nat) ({ cls := "GlacierMailModel", name := "readPerson", desc := "()Z" } : Jvm.MethodName)) ∈ lw_all := lw_g (lw_at lw_m8 34 rfl) rfl
theorem q1849 : (Jvm.Cond.privateMethod ({ cls := "GlacierMailModel", name := "readPerson", desc := "()Z" } : Jvm.MethodName)) ∈ lw_tbl := lw_at lw_m8 35 rfl
theorem q1850 : (Jvm.Cond.instanceMethod ({ cls := "GlacierMailModel", name := "readPerson", desc := "()Z" } : Jvm.MethodName)) ∈ lw_all := lw_g (lw_at lw_m8 36 rfl) rfl
theorem q1851 : (Jvm.Cond.code ({ cls := "GlacierMailModel", name := "readPerson", desc := "()Z" } : Jvm.MethodName) prog_20_method_46_code (5 : Nat) (Option.some Jvm.ClassFile.FieldType.boolean)) ∈ lw_all := lw_g (lw_at lw_m8 37 rfl) rfl
theorem q1852 : (Jvm.Cond.methodLink "GlacierMailModel" (165 : Nat) ({ cls := "GlacierMailModel", name := "laneTold", desc := "()I" } : Jvm.MethodName)) ∈ lw_all := lw_g (lw_at lw_m8 38 rfl) rfl
theorem q1853 : (Jvm.Cond.privateMethod ({ cls := "GlacierMailModel", name := "laneTold", desc := "()I" } : Jvm.MethodName)) ∈ lw_tbl := lw_at lw_m8 39 rfl
theorem q1854 : (Jvm.Cond.instanceMethod ({ cls := "GlacierMailModel", name := "laneTold", desc := "()I" } : Jvm.MethodName)) ∈ lw_all := lw_g (lw_at lw_m8 40 rfl) rfl
theorem q1855 : (Jvm.Cond.code ({ cls := "GlacierMailModel", name := "laneTold", desc := "()I" } : Jvm.MethodName) prog_20_method_37_code (1 : Nat) (Option.some Jvm.ClassFile.FieldType.int)) ∈ lw_all := lw_g (lw_at lw_m8 41 rfl) rfl
theorem q1856 : (Jvm.Cond.stringRef "GlacierMailModel" (168 : Nat) "watch") ∈ lw_tbl := lw_at lw_m8 42 rfl
theorem q1857 : (Jvm.Cond.methodLink "GlacierMailModel" (170 : Nat) ({ cls := "GlacierMailModel", name := "isNext", desc := "(Ljava/lang/String;)Z" } : Jvm.MethodName)) ∈ lw_all := lw_g (lw_at lw_m8 43 rfl) rfl
theorem q1858 : (Jvm.Cond.privateMethod ({ cls := "GlacierMailModel", name := "isNext", desc := "(Ljava/lang/String;)Z" } : Jvm.MethodName)) ∈ lw_tbl := lw_at lw_m8 44 rfl
theorem q1859 : (Jvm.Cond.instanceMethod ({ cls := "GlacierMailModel", name := "isNext", desc := "(Ljava/lang/String;)Z" } : Jvm.MethodName)) ∈ lw_all := lw_g (lw_at lw_m8 45 rfl) rfl
theorem q1860 : (Jvm.Cond.code ({ cls := "GlacierMailModel", name := "isNext", desc := "(Ljava/lang/String;)Z" } : Jvm.MethodName) prog_20_method_30_code (2 : Nat) (Option.some Jvm.ClassFile.FieldType.boolean)) ∈ lw_all := lw_g (lw_at lw_m8 46 rfl) rfl
theorem q1861 : (Jvm.Cond.stringRef "GlacierMailModel" (210 : Nat) "rock") ∈ lw_tbl := lw_at lw_m8 47 rfl
theorem q1862 : (Jvm.Cond.methodLink "GlacierMailModel" (212 : Nat) ({ cls := "GlacierMailModel", name := "readRock", desc := "()Z" } : Jvm.MethodName)) ∈ lw_all := lw_g (lw_at lw_m8 48 rfl) rfl
theorem q1863 : (Jvm.Cond.privateMethod ({ cls := "GlacierMailModel", name := "readRock", desc := "()Z" } : Jvm.MethodName)) ∈ lw_tbl := lw_at lw_m8 49 rfl
theorem q1864 : (Jvm.Cond.instanceMethod ({ cls := "GlacierMailModel", name := "readRock", desc := "()Z" } : Jvm.MethodName)) ∈ lw_all := lw_g (lw_at lw_m8 50 rfl) rfl
theorem q1865 : (Jvm.Cond.code ({ cls := "GlacierMailModel", name := "readRock", desc := "()Z" } : Jvm.MethodName) prog_20_method_48_code (3 : Nat) (Option.some Jvm.ClassFile.FieldType.boolean)) ∈ lw_all := lw_g (lw_at lw_m8 51 rfl) rfl
theorem q1866 : (Jvm.Cond.methodLink "GlacierMailModel" (177 : Nat) ({ cls := "GlacierMailModel", name := "throwsIn", desc := "(IIII)V" } : Jvm.MethodName)) ∈ lw_all := lw_g (lw_at lw_m8 52 rfl) rfl
theorem q1867 : (Jvm.Cond.privateMethod ({ cls := "GlacierMailModel", name := "throwsIn", desc := "(IIII)V" } : Jvm.MethodName)) ∈ lw_tbl := lw_at lw_m8 53 rfl
theorem q1868 : (Jvm.Cond.instanceMethod ({ cls := "GlacierMailModel", name := "throwsIn", desc := "(IIII)V" } : Jvm.MethodName)) ∈ lw_all := lw_g (lw_at lw_m8 54 rfl) rfl
theorem q1869 : (Jvm.Cond.code ({ cls := "GlacierMailModel", name := "throwsIn", desc := "(IIII)V" } : Jvm.MethodName) prog_20_method_47_code (6 : Nat) (Option.none : Option Jvm.ClassFile.FieldType)) ∈ lw_all := lw_g (lw_at lw_m8 55 rfl) rfl
theorem q1870 : (Jvm.Cond.methodLink "GlacierMailModel" (173 : Nat) ({ cls := "GlacierMailModel", name := "setsLetter", desc := "(III)V" } : Jvm.MethodName)) ∈ lw_all := lw_g (lw_at lw_m8 56 rfl) rfl
theorem q1871 : (Jvm.Cond.privateMethod ({ cls := "GlacierMailModel", name := "setsLetter", desc := "(III)V" } : Jvm.MethodName)) ∈ lw_tbl := lw_at lw_m8 57 rfl
theorem q1872 : (Jvm.Cond.instanceMethod ({ cls := "GlacierMailModel", name := "setsLetter", desc := "(III)V" } : Jvm.MethodName)) ∈ lw_all := lw_g (lw_at lw_m8 58 rfl) rfl
theorem q1873 : (Jvm.Cond.code ({ cls := "GlacierMailModel", name := "setsLetter", desc := "(III)V" } : Jvm.MethodName) prog_20_method_17_code (4 : Nat) (Option.none : Option Jvm.ClassFile.FieldType)) ∈ lw_all := lw_g (lw_at lw_m8 59 rfl) rfl
theorem q1874 : (Jvm.Cond.stringRef "GlacierMailModel" (215 : Nat) "table") ∈ lw_tbl := lw_at lw_m8 60 rfl
theorem q1875 : (Jvm.Cond.methodLink "GlacierMailModel" (217 : Nat) ({ cls := "GlacierMailModel", name := "readTable", desc := "()Z" } : Jvm.MethodName)) ∈ lw_all := lw_g (lw_at lw_m8 61 rfl) rfl
theorem q1876 : (Jvm.Cond.privateMethod ({ cls := "GlacierMailModel", name := "readTable", desc := "()Z" } : Jvm.MethodName)) ∈ lw_tbl := lw_at lw_m8 62 rfl
theorem q1877 : (Jvm.Cond.instanceMethod ({ cls := "GlacierMailModel", name := "readTable", desc := "()Z" } : Jvm.MethodName)) ∈ lw_all := lw_g (lw_at lw_m8 63 rfl) rfl
theorem q1878 : (Jvm.Cond.code ({ cls := "GlacierMailModel", name := "readTable", desc := "()Z" } : Jvm.MethodName) prog_20_method_49_code (2 : Nat) (Option.some Jvm.ClassFile.FieldType.boolean)) ∈ lw_all := lw_g (lw_at lw_m8 64 rfl) rfl
theorem q1879 : (Jvm.Cond.stringRef "GlacierMailModel" (220 : Nat) "stripe") ∈ lw_tbl := lw_at lw_m8 65 rfl
theorem q1880 : (Jvm.Cond.stringRef "GlacierMailModel" (222 : Nat) "seed") ∈ lw_tbl := lw_at lw_m8 66 rfl
theorem q1881 : (Jvm.Cond.methodLink "GlacierMailModel" (286 : Nat) ({ cls := "GlacierMailModel", name := "readLawLine", desc := "(I)Z" } : Jvm.MethodName)) ∈ lw_all := lw_g (lw_at lw_m8 67 rfl) rfl
theorem q1882 : (Jvm.Cond.privateMethod ({ cls := "GlacierMailModel", name := "readLawLine", desc := "(I)Z" } : Jvm.MethodName)) ∈ lw_tbl := lw_at lw_m8 68 rfl
theorem q1883 : (Jvm.Cond.instanceMethod ({ cls := "GlacierMailModel", name := "readLawLine", desc := "(I)Z" } : Jvm.MethodName)) ∈ lw_all := lw_g (lw_at lw_m8 69 rfl) rfl
theorem q1884 : (Jvm.Cond.code ({ cls := "GlacierMailModel", name := "readLawLine", desc := "(I)Z" } : Jvm.MethodName) prog_20_method_57_code (3 : Nat) (Option.some Jvm.ClassFile.FieldType.boolean)) ∈ lw_all := lw_g (lw_at lw_m8 70 rfl) rfl
theorem q1885 : (Jvm.Cond.stringRef "GlacierMailModel" (275 : Nat) "fast") ∈ lw_tbl := lw_at lw_m8 71 rfl
theorem q1886 : (Jvm.Cond.stringRef "GlacierMailModel" (277 : Nat) "slow") ∈ lw_tbl := lw_at lw_m8 72 rfl
theorem q1887 : (Jvm.Cond.stringRef "GlacierMailModel" (279 : Nat) "open") ∈ lw_tbl := lw_at lw_m8 73 rfl
theorem q1888 : (Jvm.Cond.stringRef "GlacierMailModel" (281 : Nat) "if") ∈ lw_tbl := lw_at lw_m8 74 rfl
theorem q1889 : (Jvm.Cond.methodLink "GlacierMailModel" (253 : Nat) ({ cls := "GlacierMailModel", name := "readCond", desc := "()Z" } : Jvm.MethodName)) ∈ lw_all := lw_g (lw_at lw_m8 75 rfl) rfl
theorem q1890 : (Jvm.Cond.privateMethod ({ cls := "GlacierMailModel", name := "readCond", desc := "()Z" } : Jvm.MethodName)) ∈ lw_tbl := lw_at lw_m8 76 rfl
theorem q1891 : (Jvm.Cond.instanceMethod ({ cls := "GlacierMailModel", name := "readCond", desc := "()Z" } : Jvm.MethodName)) ∈ lw_all := lw_g (lw_at lw_m8 77 rfl) rfl
theorem q1892 : (Jvm.Cond.code ({ cls := "GlacierMailModel", name := "readCond", desc := "()Z" } : Jvm.MethodName) prog_20_method_56_code (1 : Nat) (Option.some Jvm.ClassFile.FieldType.boolean)) ∈ lw_all := lw_g (lw_at lw_m8 78 rfl) rfl
theorem q1893 : (Jvm.Cond.methodLink "GlacierMailModel" (270 : Nat) ({ cls := "GlacierMailModel", name := "readAllOf", desc := "()Z" } : Jvm.MethodName)) ∈ lw_all := lw_g (lw_at lw_m8 79 rfl) rfl
theorem q1894 : (Jvm.Cond.privateMethod ({ cls := "GlacierMailModel", name := "readAllOf", desc := "()Z" } : Jvm.MethodName)) ∈ lw_tbl := lw_at lw_m8 80 rfl
theorem q1895 : (Jvm.Cond.instanceMethod ({ cls := "GlacierMailModel", name := "readAllOf", desc := "()Z" } : Jvm.MethodName)) ∈ lw_all := lw_g (lw_at lw_m8 81 rfl) rfl
theorem q1896 : (Jvm.Cond.code ({ cls := "GlacierMailModel", name := "readAllOf", desc := "()Z" } : Jvm.MethodName) prog_20_method_55_code (1 : Nat) (Option.some Jvm.ClassFile.FieldType.boolean)) ∈ lw_all := lw_g (lw_at lw_m8 82 rfl) rfl
theorem q1897 : (Jvm.Cond.methodLink "GlacierMailModel" (258 : Nat) ({ cls := "GlacierMailModel", name := "readAtom", desc := "()Z" } : Jvm.MethodName)) ∈ lw_all := lw_g (lw_at lw_m8 83 rfl) rfl
theorem q1898 : (Jvm.Cond.privateMethod ({ cls := "GlacierMailModel", name := "readAtom", desc := "()Z" } : Jvm.MethodName)) ∈ lw_tbl := lw_at lw_m8 84 rfl
theorem q1899 : (Jvm.Cond.instanceMethod ({ cls := "GlacierMailModel", name := "readAtom", desc := "()Z" } : Jvm.MethodName)) ∈ lw_all := lw_g (lw_at lw_m8 85 rfl) rfl
theorem q1900 : (Jvm.Cond.code ({ cls := "GlacierMailModel", name := "readAtom", desc := "()Z" } : Jvm.MethodName) prog_20_method_54_code (3 : Nat) (Option.some Jvm.ClassFile.FieldType.boolean)) ∈ lw_all := lw_g (lw_at lw_m8 86 rfl) rfl
theorem q1901 : (Jvm.Cond.methodLink "GlacierMailModel" (248 : Nat) ({ cls := "GlacierMailModel", name := "sign", desc := "(I)Z" } : Jvm.MethodName)) ∈ lw_all := lw_g (lw_at lw_m8 87 rfl) rfl
theorem q1902 : (Jvm.Cond.privateMethod ({ cls := "GlacierMailModel", name := "sign", desc := "(I)Z" } : Jvm.MethodName)) ∈ lw_tbl := lw_at lw_m8 88 rfl
theorem q1903 : (Jvm.Cond.instanceMethod ({ cls := "GlacierMailModel", name := "sign", desc := "(I)Z" } : Jvm.MethodName)) ∈ lw_all := lw_g (lw_at lw_m8 89 rfl) rfl
theorem q1904 : (Jvm.Cond.code ({ cls := "GlacierMailModel", name := "sign", desc := "(I)Z" } : Jvm.MethodName) prog_20_method_31_code (2 : Nat) (Option.some Jvm.ClassFile.FieldType.boolean)) ∈ lw_all := lw_g (lw_at lw_m8 90 rfl) rfl
theorem q1905 : (Jvm.Cond.stringRef "GlacierMailModel" (256 : Nat) "not") ∈ lw_tbl := lw_at lw_m8 91 rfl
theorem q1906 : (Jvm.Cond.methodLink "GlacierMailModel" (227 : Nat) ({ cls := "GlacierMailModel", name := "emits", desc := "(II)V" } : Jvm.MethodName)) ∈ lw_all := lw_g (lw_at lw_m8 92 rfl) rfl
theorem q1907 : (Jvm.Cond.privateMethod ({ cls := "GlacierMailModel", name := "emits", desc := "(II)V" } : Jvm.MethodName)) ∈ lw_tbl := lw_at lw_m8 93 rfl
theorem q1908 : (Jvm.Cond.instanceMethod ({ cls := "GlacierMailModel", name := "emits", desc := "(II)V" } : Jvm.MethodName)) ∈ lw_all := lw_g (lw_at lw_m8 94 rfl) rfl
theorem q1909 : (Jvm.Cond.code ({ cls := "GlacierMailModel", name := "emits", desc := "(II)V" } : Jvm.MethodName) prog_20_method_51_code (3 : Nat) (Option.none : Option Jvm.ClassFile.FieldType)) ∈ lw_all := lw_g (lw_at lw_m8 95 rfl) rfl
theorem q1910 : (Jvm.Cond.stringRef "GlacierMailModel" (261 : Nat) "side") ∈ lw_tbl := lw_at lw_m8 96 rfl
theorem q1911 : (Jvm.Cond.stringRef "GlacierMailModel" (263 : Nat) "first") ∈ lw_tbl := lw_at lw_m8 97 rfl
theorem q1912 : (Jvm.Cond.methodLink "GlacierMailModel" (265 : Nat) ({ cls := "GlacierMailModel", name := "readSum", desc := "()Z" } : Jvm.MethodName)) ∈ lw_all := lw_g (lw_at lw_m8 98 rfl) rfl
theorem q1913 : (Jvm.Cond.privateMethod ({ cls := "GlacierMailModel", name := "readSum", desc := "()Z" } : Jvm.MethodName)) ∈ lw_tbl := lw_at lw_m8 99 rfl
theorem q1914 : (Jvm.Cond.instanceMethod ({ cls := "GlacierMailModel", name := "readSum", desc := "()Z" } : Jvm.MethodName)) ∈ lw_all := lw_g (lw_at lw_m8 100 rfl) rfl
theorem q1915 : (Jvm.Cond.code ({ cls := "GlacierMailModel", name := "readSum", desc := "()Z" } : Jvm.MethodName) prog_20_method_53_code (1 : Nat) (Option.some Jvm.ClassFile.FieldType.boolean)) ∈ lw_all := lw_g (lw_at lw_m8 101 rfl) rfl
theorem q1916 : (Jvm.Cond.methodLink "GlacierMailModel" (245 : Nat) ({ cls := "GlacierMailModel", name := "readPart", desc := "()Z" } : Jvm.MethodName)) ∈ lw_all := lw_g (lw_at lw_m8 102 rfl) rfl
theorem q1917 : (Jvm.Cond.privateMethod ({ cls := "GlacierMailModel", name := "readPart", desc := "()Z" } : Jvm.MethodName)) ∈ lw_tbl := lw_at lw_m8 103 rfl
theorem q1918 : (Jvm.Cond.instanceMethod ({ cls := "GlacierMailModel", name := "readPart", desc := "()Z" } : Jvm.MethodName)) ∈ lw_all := lw_g (lw_at lw_m8 104 rfl) rfl
theorem q1919 : (Jvm.Cond.code ({ cls := "GlacierMailModel", name := "readPart", desc := "()Z" } : Jvm.MethodName) prog_20_method_52_code (2 : Nat) (Option.some Jvm.ClassFile.FieldType.boolean)) ∈ lw_all := lw_g (lw_at lw_m8 105 rfl) rfl
theorem q1920 : (Jvm.Cond.stringRef "GlacierMailModel" (231 : Nat) "lane") ∈ lw_tbl := lw_at lw_m8 106 rfl
theorem q1921 : (Jvm.Cond.stringRef "GlacierMailModel" (233 : Nat) "row") ∈ lw_tbl := lw_at lw_m8 107 rfl
theorem q1922 : (Jvm.Cond.stringRef "GlacierMailModel" (235 : Nat) "year") ∈ lw_tbl := lw_at lw_m8 108 rfl
theorem q1923 : (Jvm.Cond.stringRef "GlacierMailModel" (237 : Nat) "heat") ∈ lw_tbl := lw_at lw_m8 109 rfl
theorem q1924 : (Jvm.Cond.stringRef "GlacierMailModel" (239 : Nat) "speed") ∈ lw_tbl := lw_at lw_m8 110 rfl
theorem q1925 : (Jvm.Cond.stringRef "GlacierMailModel" (241 : Nat) "age") ∈ lw_tbl := lw_at lw_m8 111 rfl
theorem q1926 : (Jvm.Cond.stringRef "GlacierMailModel" (243 : Nat) "deep") ∈ lw_tbl := lw_at lw_m8 112 rfl
theorem q1927 : (Jvm.Cond.stringRef "GlacierMailModel" (268 : Nat) "and") ∈ lw_tbl := lw_at lw_m8 113 rfl
theorem q1928 : (Jvm.Cond.stringRef "GlacierMailModel" (273 : Nat) "or") ∈ lw_tbl := lw_at lw_m8 114 rfl
theorem q1929 : (Jvm.Cond.methodLink "GlacierMailModel" (300 : Nat) ({ cls := "GlacierMailModel", name := "throwsIf", desc := "(ZI)Z" } : Jvm.MethodName)) ∈ lw_all := lw_g (lw_at lw_m8 115 rfl) rfl
theorem q1930 : (Jvm.Cond.privateMethod ({ cls := "GlacierMailModel", name := "throwsIf", desc := "(ZI)Z" } : Jvm.MethodName)) ∈ lw_tbl := lw_at lw_m8 116 rfl
theorem q1931 : (Jvm.Cond.instanceMethod ({ cls := "GlacierMailModel", name := "throwsIf", desc := "(ZI)Z" } : Jvm.MethodName)) ∈ lw_all := lw_g (lw_at lw_m8 117 rfl) rfl
theorem q1932 : (Jvm.Cond.code ({ cls := "GlacierMailModel", name := "throwsIf", desc := "(ZI)Z" } : Jvm.MethodName) prog_20_method_2_code (3 : Nat) (Option.some Jvm.ClassFile.FieldType.boolean)) ∈ lw_all := lw_g (lw_at lw_m8 118 rfl) rfl
theorem q1934 : (Jvm.Cond.instanceMethod ({ cls := "GlacierMailModel", name := "law", desc := "()I" } : Jvm.MethodName)) ∈ lw_all := lw_g (lw_at lw_m8 120 rfl) rfl
theorem q1935 : (Jvm.Cond.selects "GlacierMailModel" ({ cls := "GlacierMailModel", name := "law", desc := "()I" } : Jvm.MethodName) ({ cls := "GlacierMailModel", name := "law", desc := "()I" } : Jvm.MethodName)) ∈ lw_all := lw_g (lw_at lw_m8 121 rfl) rfl
theorem q1936 : (Jvm.Cond.code ({ cls := "GlacierMailModel", name := "law", desc := "()I" } : Jvm.MethodName) prog_20_method_61_code (3 : Nat) (Option.some Jvm.ClassFile.FieldType.int)) ∈ lw_all := lw_g (lw_at lw_m8 122 rfl) rfl
theorem q1938 : (Jvm.Cond.instanceMethod ({ cls := "GlacierMailModel", name := "heat", desc := "(I)I" } : Jvm.MethodName)) ∈ lw_all := lw_g (lw_at lw_m8 124 rfl) rfl
theorem q1939 : (Jvm.Cond.selects "GlacierMailModel" ({ cls := "GlacierMailModel", name := "heat", desc := "(I)I" } : Jvm.MethodName) ({ cls := "GlacierMailModel", name := "heat", desc := "(I)I" } : Jvm.MethodName)) ∈ lw_all := lw_g (lw_at lw_m8 125 rfl) rfl
theorem q1940 : (Jvm.Cond.code ({ cls := "GlacierMailModel", name := "heat", desc := "(I)I" } : Jvm.MethodName) prog_20_method_69_code (2 : Nat) (Option.some Jvm.ClassFile.FieldType.int)) ∈ lw_all := lw_g (lw_at lw_m8 126 rfl) rfl
theorem q1941 : (Jvm.Cond.methodLink "GlacierMailModel" (353 : Nat) ({ cls := "GlacierMailModel", name := "noYear", desc := "(I)Z" } : Jvm.MethodName)) ∈ lw_all := lw_g (lw_at lw_m8 127 rfl) rfl
theorem q1942 : (Jvm.Cond.static ({ cls := "GlacierMailModel", name := "noYear", desc := "(I)Z" } : Jvm.MethodName)) ∈ lw_all := lw_g (lw_at lw_m8 128 rfl) rfl
theorem q1943 : (Jvm.Cond.code ({ cls := "GlacierMailModel", name := "noYear", desc := "(I)Z" } : Jvm.MethodName) prog_20_method_23_code (1 : Nat) (Option.some Jvm.ClassFile.FieldType.boolean)) ∈ lw_all := lw_g (lw_at lw_m8 129 rfl) rfl
theorem q1944 : (Jvm.Cond.methodLink "GlacierMailModel" (90 : Nat) ({ cls := "GlacierMailModel", name := "in", desc := "(III)Z" } : Jvm.MethodName)) ∈ lw_all := lw_g (lw_at lw_m8 130 rfl) rfl
theorem q1945 : (Jvm.Cond.static ({ cls := "GlacierMailModel", name := "in", desc := "(III)Z" } : Jvm.MethodName)) ∈ lw_all := lw_g (lw_at lw_m8 131 rfl) rfl
theorem q1946 : (Jvm.Cond.code ({ cls := "GlacierMailModel", name := "in", desc := "(III)Z" } : Jvm.MethodName) prog_20_method_3_code (3 : Nat) (Option.some Jvm.ClassFile.FieldType.boolean)) ∈ lw_all := lw_g (lw_at lw_m8 132 rfl) rfl
theorem q1948 : (Jvm.Cond.instanceMethod ({ cls := "GlacierMailModel", name := "speed", desc := "(II)I" } : Jvm.MethodName)) ∈ lw_all := lw_g (lw_at lw_m8 134 rfl) rfl
theorem q1949 : (Jvm.Cond.selects "GlacierMailModel" ({ cls := "GlacierMailModel", name := "speed", desc := "(II)I" } : Jvm.MethodName) ({ cls := "GlacierMailModel", name := "speed", desc := "(II)I" } : Jvm.MethodName)) ∈ lw_all := lw_g (lw_at lw_m8 135 rfl) rfl
theorem q1950 : (Jvm.Cond.code ({ cls := "GlacierMailModel", name := "speed", desc := "(II)I" } : Jvm.MethodName) prog_20_method_70_code (3 : Nat) (Option.some Jvm.ClassFile.FieldType.int)) ∈ lw_all := lw_g (lw_at lw_m8 136 rfl) rfl
theorem q1951 : (Jvm.Cond.methodLink "GlacierMailModel" (356 : Nat) ({ cls := "GlacierMailModel", name := "noLane", desc := "(I)Z" } : Jvm.MethodName)) ∈ lw_all := lw_g (lw_at lw_m8 137 rfl) rfl
theorem q1952 : (Jvm.Cond.privateMethod ({ cls := "GlacierMailModel", name := "noLane", desc := "(I)Z" } : Jvm.MethodName)) ∈ lw_tbl := lw_at lw_m8 138 rfl
theorem q1953 : (Jvm.Cond.instanceMethod ({ cls := "GlacierMailModel", name := "noLane", desc := "(I)Z" } : Jvm.MethodName)) ∈ lw_all := lw_g (lw_at lw_m8 139 rfl) rfl
theorem q1954 : (Jvm.Cond.code ({ cls := "GlacierMailModel", name := "noLane", desc := "(I)Z" } : Jvm.MethodName) prog_20_method_19_code (2 : Nat) (Option.some Jvm.ClassFile.FieldType.boolean)) ∈ lw_all := lw_g (lw_at lw_m8 140 rfl) rfl
theorem q1955 : (Jvm.Cond.methodLink "GlacierMailModel" (359 : Nat) ({ cls := "GlacierMailModel", name := "noRow", desc := "(I)Z" } : Jvm.MethodName)) ∈ lw_all := lw_g (lw_at lw_m8 141 rfl) rfl
theorem q1956 : (Jvm.Cond.privateMethod ({ cls := "GlacierMailModel", name := "noRow", desc := "(I)Z" } : Jvm.MethodName)) ∈ lw_tbl := lw_at lw_m8 142 rfl
theorem q1957 : (Jvm.Cond.instanceMethod ({ cls := "GlacierMailModel", name := "noRow", desc := "(I)Z" } : Jvm.MethodName)) ∈ lw_all := lw_g (lw_at lw_m8 143 rfl) rfl
theorem q1958 : (Jvm.Cond.code ({ cls := "GlacierMailModel", name := "noRow", desc := "(I)Z" } : Jvm.MethodName) prog_20_method_20_code (2 : Nat) (Option.some Jvm.ClassFile.FieldType.boolean)) ∈ lw_all := lw_g (lw_at lw_m8 144 rfl) rfl
theorem q1959 : (Jvm.Cond.methodLink "GlacierMailModel" (338 : Nat) ({ cls := "GlacierMailModel", name := "speedAt", desc := "(II)I" } : Jvm.MethodName)) ∈ lw_all := lw_g (lw_at lw_m8 145 rfl) rfl
theorem q1960 : (Jvm.Cond.privateMethod ({ cls := "GlacierMailModel", name := "speedAt", desc := "(II)I" } : Jvm.MethodName)) ∈ lw_tbl := lw_at lw_m8 146 rfl
theorem q1961 : (Jvm.Cond.instanceMethod ({ cls := "GlacierMailModel", name := "speedAt", desc := "(II)I" } : Jvm.MethodName)) ∈ lw_all := lw_g (lw_at lw_m8 147 rfl) rfl
theorem q1962 : (Jvm.Cond.code ({ cls := "GlacierMailModel", name := "speedAt", desc := "(II)I" } : Jvm.MethodName) prog_20_method_67_code (5 : Nat) (Option.some Jvm.ClassFile.FieldType.int)) ∈ lw_all := lw_g (lw_at lw_m8 148 rfl) rfl
theorem q1964 : (Jvm.Cond.instanceMethod ({ cls := "GlacierMailModel", name := "flow", desc := "(III)I" } : Jvm.MethodName)) ∈ lw_all := lw_g (lw_at lw_m8 150 rfl) rfl
theorem q1965 : (Jvm.Cond.selects "GlacierMailModel" ({ cls := "GlacierMailModel", name := "flow", desc := "(III)I" } : Jvm.MethodName) ({ cls := "GlacierMailModel", name := "flow", desc := "(III)I" } : Jvm.MethodName)) ∈ lw_all := lw_g (lw_at lw_m8 151 rfl) rfl
theorem q1966 : (Jvm.Cond.code ({ cls := "GlacierMailModel", name := "flow", desc := "(III)I" } : Jvm.MethodName) prog_20_method_71_code (4 : Nat) (Option.some Jvm.ClassFile.FieldType.int)) ∈ lw_all := lw_g (lw_at lw_m8 152 rfl) rfl
theorem q1967 : (Jvm.Cond.methodLink "GlacierMailModel" (362 : Nat) ({ cls := "GlacierMailModel", name := "flowAt", desc := "(III)I" } : Jvm.MethodName)) ∈ lw_all := lw_g (lw_at lw_m8 153 rfl) rfl
theorem q1968 : (Jvm.Cond.privateMethod ({ cls := "GlacierMailModel", name := "flowAt", desc := "(III)I" } : Jvm.MethodName)) ∈ lw_tbl := lw_at lw_m8 154 rfl
theorem q1969 : (Jvm.Cond.instanceMethod ({ cls := "GlacierMailModel", name := "flowAt", desc := "(III)I" } : Jvm.MethodName)) ∈ lw_all := lw_g (lw_at lw_m8 155 rfl) rfl
theorem q1970 : (Jvm.Cond.code ({ cls := "GlacierMailModel", name := "flowAt", desc := "(III)I" } : Jvm.MethodName) prog_20_method_68_code (6 : Nat) (Option.some Jvm.ClassFile.FieldType.int)) ∈ lw_all := lw_g (lw_at lw_m8 156 rfl) rfl
theorem q1971 : (Jvm.Cond.methodLink "GlacierMailModel" (334 : Nat) ({ cls := "GlacierMailModel", name := "turnsTo", desc := "(I)V" } : Jvm.MethodName)) ∈ lw_all := lw_g (lw_at lw_m8 157 rfl) rfl
theorem q1972 : (Jvm.Cond.privateMethod ({ cls := "GlacierMailModel", name := "turnsTo", desc := "(I)V" } : Jvm.MethodName)) ∈ lw_tbl := lw_at lw_m8 158 rfl
theorem q1973 : (Jvm.Cond.instanceMethod ({ cls := "GlacierMailModel", name := "turnsTo", desc := "(I)V" } : Jvm.MethodName)) ∈ lw_all := lw_g (lw_at lw_m8 159 rfl) rfl
theorem q1974 : (Jvm.Cond.code ({ cls := "GlacierMailModel", name := "turnsTo", desc := "(I)V" } : Jvm.MethodName) prog_20_method_66_code (3 : Nat) (Option.none : Option Jvm.ClassFile.FieldType)) ∈ lw_all := lw_g (lw_at lw_m8 160 rfl) rfl
theorem q1975 : (Jvm.Cond.methodLink "GlacierMailModel" (341 : Nat) ({ cls := "GlacierMailModel", name := "sumOf", desc := "(I)I" } : Jvm.MethodName)) ∈ lw_all := lw_g (lw_at lw_m8 161 rfl) rfl
theorem q1976 : (Jvm.Cond.privateMethod ({ cls := "GlacierMailModel", name := "sumOf", desc := "(I)I" } : Jvm.MethodName)) ∈ lw_tbl := lw_at lw_m8 162 rfl
theorem q1977 : (Jvm.Cond.instanceMethod ({ cls := "GlacierMailModel", name := "sumOf", desc := "(I)I" } : Jvm.MethodName)) ∈ lw_all := lw_g (lw_at lw_m8 163 rfl) rfl
theorem q1978 : (Jvm.Cond.code ({ cls := "GlacierMailModel", name := "sumOf", desc := "(I)I" } : Jvm.MethodName) prog_20_method_64_code (4 : Nat) (Option.some Jvm.ClassFile.FieldType.int)) ∈ lw_all := lw_g (lw_at lw_m8 164 rfl) rfl
theorem q1979 : (Jvm.Cond.methodLink "GlacierMailModel" (327 : Nat) ({ cls := "GlacierMailModel", name := "holdsLine", desc := "(I)Z" } : Jvm.MethodName)) ∈ lw_all := lw_g (lw_at lw_m8 165 rfl) rfl
theorem q1980 : (Jvm.Cond.privateMethod ({ cls := "GlacierMailModel", name := "holdsLine", desc := "(I)Z" } : Jvm.MethodName)) ∈ lw_tbl := lw_at lw_m8 166 rfl
theorem q1981 : (Jvm.Cond.instanceMethod ({ cls := "GlacierMailModel", name := "holdsLine", desc := "(I)Z" } : Jvm.MethodName)) ∈ lw_all := lw_g (lw_at lw_m8 167 rfl) rfl
theorem q1982 : (Jvm.Cond.code ({ cls := "GlacierMailModel", name := "holdsLine", desc := "(I)Z" } : Jvm.MethodName) prog_20_method_63_code (9 : Nat) (Option.some Jvm.ClassFile.FieldType.boolean)) ∈ lw_all := lw_g (lw_at lw_m8 168 rfl) rfl
theorem q1983 : (Jvm.Cond.methodLink "GlacierMailModel" (324 : Nat) ({ cls := "GlacierMailModel", name := "factOf", desc := "(II)I" } : Jvm.MethodName)) ∈ lw_all := lw_g (lw_at lw_m8 169 rfl) rfl
theorem q1984 : (Jvm.Cond.privateMethod ({ cls := "GlacierMailModel", name := "factOf", desc := "(II)I" } : Jvm.MethodName)) ∈ lw_tbl := lw_at lw_m8 170 rfl
theorem q1985 : (Jvm.Cond.instanceMethod ({ cls := "GlacierMailModel", name := "factOf", desc := "(II)I" } : Jvm.MethodName)) ∈ lw_all := lw_g (lw_at lw_m8 171 rfl) rfl
theorem q1986 : (Jvm.Cond.code ({ cls := "GlacierMailModel", name := "factOf", desc := "(II)I" } : Jvm.MethodName) prog_20_method_62_code (3 : Nat) (Option.some Jvm.ClassFile.FieldType.int)) ∈ lw_all := lw_g (lw_at lw_m8 172 rfl) rfl
theorem q1987 : (Jvm.Cond.methodLink "GlacierMailModel" (345 : Nat) ({ cls := "java/lang/Math", name := "min", desc := "(II)I" } : Jvm.MethodName)) ∈ lw_all := lw_g (lw_at lw_m8 173 rfl) rfl
theorem q1988 : (Jvm.Cond.methodLink "GlacierMailModel" (350 : Nat) ({ cls := "java/lang/Math", name := "max", desc := "(II)I" } : Jvm.MethodName)) ∈ lw_all := lw_g (lw_at lw_m8 174 rfl) rfl
theorem q1990 : (Jvm.Cond.instanceMethod ({ cls := "GlacierMailModel", name := "person", desc := "(II)I" } : Jvm.MethodName)) ∈ lw_all := lw_g (lw_at lw_m8 176 rfl) rfl
theorem q1991 : (Jvm.Cond.selects "GlacierMailModel" ({ cls := "GlacierMailModel", name := "person", desc := "(II)I" } : Jvm.MethodName) ({ cls := "GlacierMailModel", name := "person", desc := "(II)I" } : Jvm.MethodName)) ∈ lw_all := lw_g (lw_at lw_m8 177 rfl) rfl
theorem q1992 : (Jvm.Cond.code ({ cls := "GlacierMailModel", name := "person", desc := "(II)I" } : Jvm.MethodName) prog_20_method_81_code (3 : Nat) (Option.some Jvm.ClassFile.FieldType.int)) ∈ lw_all := lw_g (lw_at lw_m8 178 rfl) rfl
theorem q1993 : (Jvm.Cond.methodLink "GlacierMailModel" (393 : Nat) ({ cls := "GlacierMailModel", name := "noPerson", desc := "(I)Z" } : Jvm.MethodName)) ∈ lw_all := lw_g (lw_at lw_m8 179 rfl) rfl
theorem q1994 : (Jvm.Cond.privateMethod ({ cls := "GlacierMailModel", name := "noPerson", desc := "(I)Z" } : Jvm.MethodName)) ∈ lw_tbl := lw_at lw_m8 180 rfl
theorem q1995 : (Jvm.Cond.instanceMethod ({ cls := "GlacierMailModel", name := "noPerson", desc := "(I)Z" } : Jvm.MethodName)) ∈ lw_all := lw_g (lw_at lw_m8 181 rfl) rfl
theorem q1996 : (Jvm.Cond.code ({ cls := "GlacierMailModel", name := "noPerson", desc := "(I)Z" } : Jvm.MethodName) prog_20_method_21_code (2 : Nat) (Option.some Jvm.ClassFile.FieldType.boolean)) ∈ lw_all := lw_g (lw_at lw_m8 182 rfl) rfl
theorem q1997 : (Jvm.Cond.methodLink "GlacierMailModel" (396 : Nat) ({ cls := "GlacierMailModel", name := "of", desc := "(II)I" } : Jvm.MethodName)) ∈ lw_all := lw_g (lw_at lw_m8 183 rfl) rfl
theorem q1998 : (Jvm.Cond.privateMethod ({ cls := "GlacierMailModel", name := "of", desc := "(II)I" } : Jvm.MethodName)) ∈ lw_tbl := lw_at lw_m8 184 rfl
theorem q1999 : (Jvm.Cond.instanceMethod ({ cls := "GlacierMailModel", name := "of", desc := "(II)I" } : Jvm.MethodName)) ∈ lw_all := lw_g (lw_at lw_m8 185 rfl) rfl
theorem q2000 : (Jvm.Cond.code ({ cls := "GlacierMailModel", name := "of", desc := "(II)I" } : Jvm.MethodName) prog_20_method_15_code (3 : Nat) (Option.some Jvm.ClassFile.FieldType.int)) ∈ lw_all := lw_g (lw_at lw_m8 186 rfl) rfl
theorem q2001 : (Jvm.Cond.methodLink "GlacierMailModel" (399 : Nat) ({ cls := "GlacierMailModel", name := "countOf", desc := "(II)I" } : Jvm.MethodName)) ∈ lw_all := lw_g (lw_at lw_m8 187 rfl) rfl
theorem q2002 : (Jvm.Cond.privateMethod ({ cls := "GlacierMailModel", name := "countOf", desc := "(II)I" } : Jvm.MethodName)) ∈ lw_tbl := lw_at lw_m8 188 rfl
theorem q2003 : (Jvm.Cond.instanceMethod ({ cls := "GlacierMailModel", name := "countOf", desc := "(II)I" } : Jvm.MethodName)) ∈ lw_all := lw_g (lw_at lw_m8 189 rfl) rfl
theorem q2004 : (Jvm.Cond.code ({ cls := "GlacierMailModel", name := "countOf", desc := "(II)I" } : Jvm.MethodName) prog_20_method_80_code (6 : Nat) (Option.some Jvm.ClassFile.FieldType.int)) ∈ lw_all := lw_g (lw_at lw_m8 190 rfl) rfl
theorem q2005 : (Jvm.Cond.methodLink "GlacierMailModel" (82 : Nat) ({ cls := "GlacierMailModel", name := "ofLetter", desc := "(II)I" } : Jvm.MethodName)) ∈ lw_all := lw_g (lw_at lw_m8 191 rfl) rfl
theorem q2006 : (Jvm.Cond.privateMethod ({ cls := "GlacierMailModel", name := "ofLetter", desc := "(II)I" } : Jvm.MethodName)) ∈ lw_tbl := lw_at lw_m8 192 rfl
theorem q2007 : (Jvm.Cond.instanceMethod ({ cls := "GlacierMailModel", name := "ofLetter", desc := "(II)I" } : Jvm.MethodName)) ∈ lw_all := lw_g (lw_at lw_m8 193 rfl) rfl
theorem q2008 : (Jvm.Cond.code ({ cls := "GlacierMailModel", name := "ofLetter", desc := "(II)I" } : Jvm.MethodName) prog_20_method_16_code (3 : Nat) (Option.some Jvm.ClassFile.FieldType.int)) ∈ lw_all := lw_g (lw_at lw_m8 194 rfl) rfl
theorem q2009 : (Jvm.Cond.methodLink "GlacierMailModel" (390 : Nat) ({ cls := "GlacierMailModel", name := "isWaiting", desc := "(I)Z" } : Jvm.MethodName)) ∈ lw_all := lw_g (lw_at lw_m8 195 rfl) rfl
theorem q2010 : (Jvm.Cond.privateMethod ({ cls := "GlacierMailModel", name := "isWaiting", desc := "(I)Z" } : Jvm.MethodName)) ∈ lw_tbl := lw_at lw_m8 196 rfl
theorem q2011 : (Jvm.Cond.instanceMethod ({ cls := "GlacierMailModel", name := "isWaiting", desc := "(I)Z" } : Jvm.MethodName)) ∈ lw_all := lw_g (lw_at lw_m8 197 rfl) rfl
theorem q2012 : (Jvm.Cond.code ({ cls := "GlacierMailModel", name := "isWaiting", desc := "(I)Z" } : Jvm.MethodName) prog_20_method_79_code (3 : Nat) (Option.some Jvm.ClassFile.FieldType.boolean)) ∈ lw_all := lw_g (lw_at lw_m8 198 rfl) rfl
theorem q2013 : (Jvm.Cond.methodLink "GlacierMailModel" (374 : Nat) ({ cls := "GlacierMailModel", name := "isRock", desc := "(I)Z" } : Jvm.MethodName)) ∈ lw_all := lw_g (lw_at lw_m8 199 rfl) rfl
theorem q2014 : (Jvm.Cond.privateMethod ({ cls := "GlacierMailModel", name := "isRock", desc := "(I)Z" } : Jvm.MethodName)) ∈ lw_tbl := lw_at lw_m8 200 rfl
theorem q2015 : (Jvm.Cond.instanceMethod ({ cls := "GlacierMailModel", name := "isRock", desc := "(I)Z" } : Jvm.MethodName)) ∈ lw_all := lw_g (lw_at lw_m8 201 rfl) rfl
theorem q2016 : (Jvm.Cond.code ({ cls := "GlacierMailModel", name := "isRock", desc := "(I)Z" } : Jvm.MethodName) prog_20_method_18_code (2 : Nat) (Option.some Jvm.ClassFile.FieldType.boolean)) ∈ lw_all := lw_g (lw_at lw_m8 202 rfl) rfl
theorem q2017 : (Jvm.Cond.methodLink "GlacierMailModel" (387 : Nat) ({ cls := "GlacierMailModel", name := "outOf", desc := "(I)I" } : Jvm.MethodName)) ∈ lw_all := lw_g (lw_at lw_m8 203 rfl) rfl
theorem q2018 : (Jvm.Cond.privateMethod ({ cls := "GlacierMailModel", name := "outOf", desc := "(I)I" } : Jvm.MethodName)) ∈ lw_tbl := lw_at lw_m8 204 rfl
theorem q2019 : (Jvm.Cond.instanceMethod ({ cls := "GlacierMailModel", name := "outOf", desc := "(I)I" } : Jvm.MethodName)) ∈ lw_all := lw_g (lw_at lw_m8 205 rfl) rfl
theorem q2020 : (Jvm.Cond.code ({ cls := "GlacierMailModel", name := "outOf", desc := "(I)I" } : Jvm.MethodName) prog_20_method_75_code (2 : Nat) (Option.some Jvm.ClassFile.FieldType.int)) ∈ lw_all := lw_g (lw_at lw_m8 206 rfl) rfl
theorem q2021 : (Jvm.Cond.methodLink "GlacierMailModel" (381 : Nat) ({ cls := "GlacierMailModel", name := "runsLetter", desc := "(II)V" } : Jvm.MethodName)) ∈ lw_all := lw_g (lw_at lw_m8 207 rfl) rfl
theorem q2022 : (Jvm.Cond.privateMethod ({ cls := "GlacierMailModel", name := "runsLetter", desc := "(II)V" } : Jvm.MethodName)) ∈ lw_tbl := lw_at lw_m8 208 rfl
theorem q2023 : (Jvm.Cond.instanceMethod ({ cls := "GlacierMailModel", name := "runsLetter", desc := "(II)V" } : Jvm.MethodName)) ∈ lw_all := lw_g (lw_at lw_m8 209 rfl) rfl
theorem q2024 : (Jvm.Cond.code ({ cls := "GlacierMailModel", name := "runsLetter", desc := "(II)V" } : Jvm.MethodName) prog_20_method_74_code (3 : Nat) (Option.none : Option Jvm.ClassFile.FieldType)) ∈ lw_all := lw_g (lw_at lw_m8 210 rfl) rfl
theorem q2025 : (Jvm.Cond.methodLink "GlacierMailModel" (377 : Nat) ({ cls := "GlacierMailModel", name := "runs", desc := "(IIIZI)V" } : Jvm.MethodName)) ∈ lw_all := lw_g (lw_at lw_m8 211 rfl) rfl
theorem q2026 : (Jvm.Cond.privateMethod ({ cls := "GlacierMailModel", name := "runs", desc := "(IIIZI)V" } : Jvm.MethodName)) ∈ lw_tbl := lw_at lw_m8 212 rfl
theorem q2027 : (Jvm.Cond.instanceMethod ({ cls := "GlacierMailModel", name := "runs", desc := "(IIIZI)V" } : Jvm.MethodName)) ∈ lw_all := lw_g (lw_at lw_m8 213 rfl) rfl
theorem q2028 : (Jvm.Cond.code ({ cls := "GlacierMailModel", name := "runs", desc := "(IIIZI)V" } : Jvm.MethodName) prog_20_method_73_code (9 : Nat) (Option.none : Option Jvm.ClassFile.FieldType)) ∈ lw_all := lw_g (lw_at lw_m8 214 rfl) rfl
theorem q2029 : (Jvm.Cond.methodLink "GlacierMailModel" (371 : Nat) ({ cls := "GlacierMailModel", name := "floods", desc := "(III)I" } : Jvm.MethodName)) ∈ lw_all := lw_g (lw_at lw_m8 215 rfl) rfl
theorem q2030 : (Jvm.Cond.privateMethod ({ cls := "GlacierMailModel", name := "floods", desc := "(III)I" } : Jvm.MethodName)) ∈ lw_tbl := lw_at lw_m8 216 rfl
theorem q2031 : (Jvm.Cond.instanceMethod ({ cls := "GlacierMailModel", name := "floods", desc := "(III)I" } : Jvm.MethodName)) ∈ lw_all := lw_g (lw_at lw_m8 217 rfl) rfl
theorem q2032 : (Jvm.Cond.code ({ cls := "GlacierMailModel", name := "floods", desc := "(III)I" } : Jvm.MethodName) prog_20_method_72_code (7 : Nat) (Option.some Jvm.ClassFile.FieldType.int)) ∈ lw_all := lw_g (lw_at lw_m8 218 rfl) rfl
theorem q2034 : (Jvm.Cond.instanceMethod ({ cls := "GlacierMailModel", name := "letter", desc := "(II)I" } : Jvm.MethodName)) ∈ lw_all := lw_g (lw_at lw_m8 220 rfl) rfl
theorem q2035 : (Jvm.Cond.selects "GlacierMailModel" ({ cls := "GlacierMailModel", name := "letter", desc := "(II)I" } : Jvm.MethodName) ({ cls := "GlacierMailModel", name := "letter", desc := "(II)I" } : Jvm.MethodName)) ∈ lw_all := lw_g (lw_at lw_m8 221 rfl) rfl
theorem q2036 : (Jvm.Cond.code ({ cls := "GlacierMailModel", name := "letter", desc := "(II)I" } : Jvm.MethodName) prog_20_method_83_code (4 : Nat) (Option.some Jvm.ClassFile.FieldType.int)) ∈ lw_all := lw_g (lw_at lw_m8 222 rfl) rfl
theorem q2037 : (Jvm.Cond.methodLink "GlacierMailModel" (405 : Nat) ({ cls := "GlacierMailModel", name := "noLetter", desc := "(I)Z" } : Jvm.MethodName)) ∈ lw_all := lw_g (lw_at lw_m8 223 rfl) rfl
theorem q2038 : (Jvm.Cond.privateMethod ({ cls := "GlacierMailModel", name := "noLetter", desc := "(I)Z" } : Jvm.MethodName)) ∈ lw_tbl := lw_at lw_m8 224 rfl
theorem q2039 : (Jvm.Cond.instanceMethod ({ cls := "GlacierMailModel", name := "noLetter", desc := "(I)Z" } : Jvm.MethodName)) ∈ lw_all := lw_g (lw_at lw_m8 225 rfl) rfl
theorem q2040 : (Jvm.Cond.code ({ cls := "GlacierMailModel", name := "noLetter", desc := "(I)Z" } : Jvm.MethodName) prog_20_method_22_code (2 : Nat) (Option.some Jvm.ClassFile.FieldType.boolean)) ∈ lw_all := lw_g (lw_at lw_m8 226 rfl) rfl
theorem q2041 : (Jvm.Cond.methodLink "GlacierMailModel" (408 : Nat) ({ cls := "GlacierMailModel", name := "bareFrom", desc := "(I)I" } : Jvm.MethodName)) ∈ lw_all := lw_g (lw_at lw_m8 227 rfl) rfl
theorem q2042 : (Jvm.Cond.privateMethod ({ cls := "GlacierMailModel", name := "bareFrom", desc := "(I)I" } : Jvm.MethodName)) ∈ lw_tbl := lw_at lw_m8 228 rfl
theorem q2043 : (Jvm.Cond.instanceMethod ({ cls := "GlacierMailModel", name := "bareFrom", desc := "(I)I" } : Jvm.MethodName)) ∈ lw_all := lw_g (lw_at lw_m8 229 rfl) rfl
theorem q2044 : (Jvm.Cond.code ({ cls := "GlacierMailModel", name := "bareFrom", desc := "(I)I" } : Jvm.MethodName) prog_20_method_82_code (3 : Nat) (Option.some Jvm.ClassFile.FieldType.int)) ∈ lw_all := lw_g (lw_at lw_m8 230 rfl) rfl
theorem q2045 : (Jvm.Cond.methodLink "GlacierMailModel" (402 : Nat) ({ cls := "GlacierMailModel", name := "isBare", desc := "(II)Z" } : Jvm.MethodName)) ∈ lw_all := lw_g (lw_at lw_m8 231 rfl) rfl
theorem q2046 : (Jvm.Cond.privateMethod ({ cls := "GlacierMailModel", name := "isBare", desc := "(II)Z" } : Jvm.MethodName)) ∈ lw_tbl := lw_at lw_m8 232 rfl
theorem q2047 : (Jvm.Cond.instanceMethod ({ cls := "GlacierMailModel", name := "isBare", desc := "(II)Z" } : Jvm.MethodName)) ∈ lw_all := lw_g (lw_at lw_m8 233 rfl) rfl
theorem q2048 : (Jvm.Cond.code ({ cls := "GlacierMailModel", name := "isBare", desc := "(II)Z" } : Jvm.MethodName) prog_20_method_78_code (3 : Nat) (Option.some Jvm.ClassFile.FieldType.boolean)) ∈ lw_all := lw_g (lw_at lw_m8 234 rfl) rfl
theorem q2049 : (Jvm.Cond.methodLink "GlacierMailModel" (384 : Nat) ({ cls := "GlacierMailModel", name := "isInIce", desc := "(I)Z" } : Jvm.MethodName)) ∈ lw_all := lw_g (lw_at lw_m8 235 rfl) rfl
theorem q2050 : (Jvm.Cond.privateMethod ({ cls := "GlacierMailModel", name := "isInIce", desc := "(I)Z" } : Jvm.MethodName)) ∈ lw_tbl := lw_at lw_m8 236 rfl
theorem q2051 : (Jvm.Cond.instanceMethod ({ cls := "GlacierMailModel", name := "isInIce", desc := "(I)Z" } : Jvm.MethodName)) ∈ lw_all := lw_g (lw_at lw_m8 237 rfl) rfl
theorem q2052 : (Jvm.Cond.code ({ cls := "GlacierMailModel", name := "isInIce", desc := "(I)Z" } : Jvm.MethodName) prog_20_method_77_code (2 : Nat) (Option.some Jvm.ClassFile.FieldType.boolean)) ∈ lw_all := lw_g (lw_at lw_m8 238 rfl) rfl
theorem q2054 : (Jvm.Cond.instanceMethod ({ cls := "GlacierMailModel", name := "where", desc := "(II)I" } : Jvm.MethodName)) ∈ lw_all := lw_g (lw_at lw_m9 0 rfl) rfl
theorem q2055 : (Jvm.Cond.selects "GlacierMailModel" ({ cls := "GlacierMailModel", name := "where", desc := "(II)I" } : Jvm.MethodName) ({ cls := "GlacierMailModel", name := "where", desc := "(II)I" } : Jvm.MethodName)) ∈ lw_all := lw_g (lw_at lw_m9 1 rfl) rfl
theorem q2056 : (Jvm.Cond.code ({ cls := "GlacierMailModel", name := "where", desc := "(II)I" } : Jvm.MethodName) prog_20_method_84_code (3 : Nat) (Option.some Jvm.ClassFile.FieldType.int)) ∈ lw_all := lw_g (lw_at lw_m9 2 rfl) rfl
theorem q2058 : (Jvm.Cond.instanceMethod ({ cls := "GlacierMailModel", name := "deep", desc := "(II)I" } : Jvm.MethodName)) ∈ lw_all := lw_g (lw_at lw_m9 4 rfl) rfl
theorem q2059 : (Jvm.Cond.selects "GlacierMailModel" ({ cls := "GlacierMailModel", name := "deep", desc := "(II)I" } : Jvm.MethodName) ({ cls := "GlacierMailModel", name := "deep", desc := "(II)I" } : Jvm.MethodName)) ∈ lw_all := lw_g (lw_at lw_m9 5 rfl) rfl
theorem q2060 : (Jvm.Cond.code ({ cls := "GlacierMailModel", name := "deep", desc := "(II)I" } : Jvm.MethodName) prog_20_method_85_code (3 : Nat) (Option.some Jvm.ClassFile.FieldType.int)) ∈ lw_all := lw_g (lw_at lw_m9 6 rfl) rfl
theorem q2062 : (Jvm.Cond.instanceMethod ({ cls := "GlacierMailModel", name := "post", desc := "(II)I" } : Jvm.MethodName)) ∈ lw_all := lw_g (lw_at lw_m9 8 rfl) rfl
theorem q2063 : (Jvm.Cond.selects "GlacierMailModel" ({ cls := "GlacierMailModel", name := "post", desc := "(II)I" } : Jvm.MethodName) ({ cls := "GlacierMailModel", name := "post", desc := "(II)I" } : Jvm.MethodName)) ∈ lw_all := lw_g (lw_at lw_m9 9 rfl) rfl
theorem q2064 : (Jvm.Cond.code ({ cls := "GlacierMailModel", name := "post", desc := "(II)I" } : Jvm.MethodName) prog_20_method_86_code (3 : Nat) (Option.some Jvm.ClassFile.FieldType.int)) ∈ lw_all := lw_g (lw_at lw_m9 10 rfl) rfl
theorem q2065 : (Jvm.Cond.methodLink "GlacierMailModel" (411 : Nat) ({ cls := "GlacierMailModel", name := "remembers", desc := "()V" } : Jvm.MethodName)) ∈ lw_all := lw_g (lw_at lw_m9 11 rfl) rfl
theorem q2066 : (Jvm.Cond.privateMethod ({ cls := "GlacierMailModel", name := "remembers", desc := "()V" } : Jvm.MethodName)) ∈ lw_tbl := lw_at lw_m9 12 rfl
theorem q2067 : (Jvm.Cond.instanceMethod ({ cls := "GlacierMailModel", name := "remembers", desc := "()V" } : Jvm.MethodName)) ∈ lw_all := lw_g (lw_at lw_m9 13 rfl) rfl
theorem q2068 : (Jvm.Cond.code ({ cls := "GlacierMailModel", name := "remembers", desc := "()V" } : Jvm.MethodName) prog_20_method_8_code (2 : Nat) (Option.none : Option Jvm.ClassFile.FieldType)) ∈ lw_all := lw_g (lw_at lw_m9 14 rfl) rfl
theorem q2070 : (Jvm.Cond.instanceMethod ({ cls := "GlacierMailModel", name := "watch", desc := "(II)I" } : Jvm.MethodName)) ∈ lw_all := lw_g (lw_at lw_m9 16 rfl) rfl
theorem q2071 : (Jvm.Cond.selects "GlacierMailModel" ({ cls := "GlacierMailModel", name := "watch", desc := "(II)I" } : Jvm.MethodName) ({ cls := "GlacierMailModel", name := "watch", desc := "(II)I" } : Jvm.MethodName)) ∈ lw_all := lw_g (lw_at lw_m9 17 rfl) rfl
theorem q2072 : (Jvm.Cond.code ({ cls := "GlacierMailModel", name := "watch", desc := "(II)I" } : Jvm.MethodName) prog_20_method_87_code (4 : Nat) (Option.some Jvm.ClassFile.FieldType.int)) ∈ lw_all := lw_g (lw_at lw_m9 18 rfl) rfl
theorem q2074 : (Jvm.Cond.instanceMethod ({ cls := "GlacierMailModel", name := "open", desc := "(I)I" } : Jvm.MethodName)) ∈ lw_all := lw_g (lw_at lw_m9 20 rfl) rfl
theorem q2075 : (Jvm.Cond.selects "GlacierMailModel" ({ cls := "GlacierMailModel", name := "open", desc := "(I)I" } : Jvm.MethodName) ({ cls := "GlacierMailModel", name := "open", desc := "(I)I" } : Jvm.MethodName)) ∈ lw_all := lw_g (lw_at lw_m9 21 rfl) rfl
theorem q2076 : (Jvm.Cond.code ({ cls := "GlacierMailModel", name := "open", desc := "(I)I" } : Jvm.MethodName) prog_20_method_89_code (2 : Nat) (Option.some Jvm.ClassFile.FieldType.int)) ∈ lw_all := lw_g (lw_at lw_m9 22 rfl) rfl
theorem q2077 : (Jvm.Cond.methodLink "GlacierMailModel" (414 : Nat) ({ cls := "GlacierMailModel", name := "opens", desc := "(II)V" } : Jvm.MethodName)) ∈ lw_all := lw_g (lw_at lw_m9 23 rfl) rfl
theorem q2078 : (Jvm.Cond.privateMethod ({ cls := "GlacierMailModel", name := "opens", desc := "(II)V" } : Jvm.MethodName)) ∈ lw_tbl := lw_at lw_m9 24 rfl
theorem q2079 : (Jvm.Cond.instanceMethod ({ cls := "GlacierMailModel", name := "opens", desc := "(II)V" } : Jvm.MethodName)) ∈ lw_all := lw_g (lw_at lw_m9 25 rfl) rfl
theorem q2080 : (Jvm.Cond.code ({ cls := "GlacierMailModel", name := "opens", desc := "(II)V" } : Jvm.MethodName) prog_20_method_88_code (4 : Nat) (Option.none : Option Jvm.ClassFile.FieldType)) ∈ lw_all := lw_g (lw_at lw_m9 26 rfl) rfl
theorem q2082 : (Jvm.Cond.instanceMethod ({ cls := "GlacierMailModel", name := "years", desc := "(I)I" } : Jvm.MethodName)) ∈ lw_all := lw_g (lw_at lw_m9 28 rfl) rfl
theorem q2083 : (Jvm.Cond.selects "GlacierMailModel" ({ cls := "GlacierMailModel", name := "years", desc := "(I)I" } : Jvm.MethodName) ({ cls := "GlacierMailModel", name := "years", desc := "(I)I" } : Jvm.MethodName)) ∈ lw_all := lw_g (lw_at lw_m9 29 rfl) rfl
theorem q2084 : (Jvm.Cond.code ({ cls := "GlacierMailModel", name := "years", desc := "(I)I" } : Jvm.MethodName) prog_20_method_93_code (4 : Nat) (Option.some Jvm.ClassFile.FieldType.int)) ∈ lw_all := lw_g (lw_at lw_m9 30 rfl) rfl
theorem q2085 : (Jvm.Cond.methodLink "GlacierMailModel" (423 : Nat) ({ cls := "GlacierMailModel", name := "year", desc := "()I" } : Jvm.MethodName)) ∈ lw_all := lw_g (lw_at lw_m9 31 rfl) rfl
theorem q2086 : (Jvm.Cond.privateMethod ({ cls := "GlacierMailModel", name := "year", desc := "()I" } : Jvm.MethodName)) ∈ lw_tbl := lw_at lw_m9 32 rfl
theorem q2087 : (Jvm.Cond.instanceMethod ({ cls := "GlacierMailModel", name := "year", desc := "()I" } : Jvm.MethodName)) ∈ lw_all := lw_g (lw_at lw_m9 33 rfl) rfl
theorem q2088 : (Jvm.Cond.code ({ cls := "GlacierMailModel", name := "year", desc := "()I" } : Jvm.MethodName) prog_20_method_92_code (4 : Nat) (Option.some Jvm.ClassFile.FieldType.int)) ∈ lw_all := lw_g (lw_at lw_m9 34 rfl) rfl
theorem q2089 : (Jvm.Cond.methodLink "GlacierMailModel" (420 : Nat) ({ cls := "GlacierMailModel", name := "opener", desc := "(I)I" } : Jvm.MethodName)) ∈ lw_all := lw_g (lw_at lw_m9 35 rfl) rfl
theorem q2090 : (Jvm.Cond.privateMethod ({ cls := "GlacierMailModel", name := "opener", desc := "(I)I" } : Jvm.MethodName)) ∈ lw_tbl := lw_at lw_m9 36 rfl
theorem q2091 : (Jvm.Cond.instanceMethod ({ cls := "GlacierMailModel", name := "opener", desc := "(I)I" } : Jvm.MethodName)) ∈ lw_all := lw_g (lw_at lw_m9 37 rfl) rfl
theorem q2092 : (Jvm.Cond.code ({ cls := "GlacierMailModel", name := "opener", desc := "(I)I" } : Jvm.MethodName) prog_20_method_91_code (4 : Nat) (Option.some Jvm.ClassFile.FieldType.int)) ∈ lw_all := lw_g (lw_at lw_m9 38 rfl) rfl
theorem q2093 : (Jvm.Cond.methodLink "GlacierMailModel" (417 : Nat) ({ cls := "GlacierMailModel", name := "mayOpen", desc := "(II)Z" } : Jvm.MethodName)) ∈ lw_all := lw_g (lw_at lw_m9 39 rfl) rfl
theorem q2094 : (Jvm.Cond.privateMethod ({ cls := "GlacierMailModel", name := "mayOpen", desc := "(II)Z" } : Jvm.MethodName)) ∈ lw_tbl := lw_at lw_m9 40 rfl
theorem q2095 : (Jvm.Cond.instanceMethod ({ cls := "GlacierMailModel", name := "mayOpen", desc := "(II)Z" } : Jvm.MethodName)) ∈ lw_all := lw_g (lw_at lw_m9 41 rfl) rfl
theorem q2096 : (Jvm.Cond.code ({ cls := "GlacierMailModel", name := "mayOpen", desc := "(II)Z" } : Jvm.MethodName) prog_20_method_90_code (3 : Nat) (Option.some Jvm.ClassFile.FieldType.boolean)) ∈ lw_all := lw_g (lw_at lw_m9 42 rfl) rfl
theorem q2098 : (Jvm.Cond.instanceMethod ({ cls := "GlacierMailModel", name := "throwsFor", desc := "(IIII)I" } : Jvm.MethodName)) ∈ lw_all := lw_g (lw_at lw_m9 44 rfl) rfl
theorem q2099 : (Jvm.Cond.selects "GlacierMailModel" ({ cls := "GlacierMailModel", name := "throwsFor", desc := "(IIII)I" } : Jvm.MethodName) ({ cls := "GlacierMailModel", name := "throwsFor", desc := "(IIII)I" } : Jvm.MethodName)) ∈ lw_all := lw_g (lw_at lw_m9 45 rfl) rfl
theorem q2100 : (Jvm.Cond.code ({ cls := "GlacierMailModel", name := "throwsFor", desc := "(IIII)I" } : Jvm.MethodName) prog_20_method_94_code (9 : Nat) (Option.some Jvm.ClassFile.FieldType.int)) ∈ lw_all := lw_g (lw_at lw_m9 46 rfl) rfl
theorem q2101 : (Jvm.Cond.methodLink "GlacierMailModel" (425 : Nat) ({ cls := "GlacierMailModel", name := "outFrom", desc := "(III)I" } : Jvm.MethodName)) ∈ lw_all := lw_g (lw_at lw_m9 47 rfl) rfl
theorem q2102 : (Jvm.Cond.privateMethod ({ cls := "GlacierMailModel", name := "outFrom", desc := "(III)I" } : Jvm.MethodName)) ∈ lw_tbl := lw_at lw_m9 48 rfl
theorem q2103 : (Jvm.Cond.instanceMethod ({ cls := "GlacierMailModel", name := "outFrom", desc := "(III)I" } : Jvm.MethodName)) ∈ lw_all := lw_g (lw_at lw_m9 49 rfl) rfl
theorem q2104 : (Jvm.Cond.code ({ cls := "GlacierMailModel", name := "outFrom", desc := "(III)I" } : Jvm.MethodName) prog_20_method_76_code (4 : Nat) (Option.some Jvm.ClassFile.FieldType.int)) ∈ lw_all := lw_g (lw_at lw_m9 50 rfl) rfl
theorem q2106 : (Jvm.Cond.instanceMethod ({ cls := "GlacierMailModel", name := "latest", desc := "(II)I" } : Jvm.MethodName)) ∈ lw_all := lw_g (lw_at lw_m9 52 rfl) rfl
theorem q2107 : (Jvm.Cond.selects "GlacierMailModel" ({ cls := "GlacierMailModel", name := "latest", desc := "(II)I" } : Jvm.MethodName) ({ cls := "GlacierMailModel", name := "latest", desc := "(II)I" } : Jvm.MethodName)) ∈ lw_all := lw_g (lw_at lw_m9 53 rfl) rfl
theorem q2108 : (Jvm.Cond.code ({ cls := "GlacierMailModel", name := "latest", desc := "(II)I" } : Jvm.MethodName) prog_20_method_95_code (5 : Nat) (Option.some Jvm.ClassFile.FieldType.int)) ∈ lw_all := lw_g (lw_at lw_m9 54 rfl) rfl
theorem q2110 : (Jvm.Cond.instanceMethod ({ cls := "GlacierMailModel", name := "hut", desc := "(II)I" } : Jvm.MethodName)) ∈ lw_all := lw_g (lw_at lw_m9 56 rfl) rfl
theorem q2111 : (Jvm.Cond.selects "GlacierMailModel" ({ cls := "GlacierMailModel", name := "hut", desc := "(II)I" } : Jvm.MethodName) ({ cls := "GlacierMailModel", name := "hut", desc := "(II)I" } : Jvm.MethodName)) ∈ lw_all := lw_g (lw_at lw_m9 57 rfl) rfl
theorem q2112 : (Jvm.Cond.code ({ cls := "GlacierMailModel", name := "hut", desc := "(II)I" } : Jvm.MethodName) prog_20_method_96_code (5 : Nat) (Option.some Jvm.ClassFile.FieldType.int)) ∈ lw_all := lw_g (lw_at lw_m9 58 rfl) rfl
theorem q2114 : (Jvm.Cond.instanceMethod ({ cls := "GlacierMailModel", name := "without", desc := "(II)I" } : Jvm.MethodName)) ∈ lw_all := lw_g (lw_at lw_m9 60 rfl) rfl
theorem q2115 : (Jvm.Cond.selects "GlacierMailModel" ({ cls := "GlacierMailModel", name := "without", desc := "(II)I" } : Jvm.MethodName) ({ cls := "GlacierMailModel", name := "without", desc := "(II)I" } : Jvm.MethodName)) ∈ lw_all := lw_g (lw_at lw_m9 61 rfl) rfl
theorem q2116 : (Jvm.Cond.code ({ cls := "GlacierMailModel", name := "without", desc := "(II)I" } : Jvm.MethodName) prog_20_method_97_code (3 : Nat) (Option.some Jvm.ClassFile.FieldType.int)) ∈ lw_all := lw_g (lw_at lw_m9 62 rfl) rfl
theorem q2118 : (Jvm.Cond.instanceMethod ({ cls := "GlacierMailModel", name := "moved", desc := "(I)I" } : Jvm.MethodName)) ∈ lw_all := lw_g (lw_at lw_m9 64 rfl) rfl
theorem q2119 : (Jvm.Cond.selects "GlacierMailModel" ({ cls := "GlacierMailModel", name := "moved", desc := "(I)I" } : Jvm.MethodName) ({ cls := "GlacierMailModel", name := "moved", desc := "(I)I" } : Jvm.MethodName)) ∈ lw_all := lw_g (lw_at lw_m9 65 rfl) rfl
theorem q2120 : (Jvm.Cond.code ({ cls := "GlacierMailModel", name := "moved", desc := "(I)I" } : Jvm.MethodName) prog_20_method_98_code (2 : Nat) (Option.some Jvm.ClassFile.FieldType.int)) ∈ lw_all := lw_g (lw_at lw_m9 66 rfl) rfl
theorem q2122 : (Jvm.Cond.instanceMethod ({ cls := "GlacierMailModel", name := "lost", desc := "()I" } : Jvm.MethodName)) ∈ lw_all := lw_g (lw_at lw_m9 68 rfl) rfl
theorem q2123 : (Jvm.Cond.selects "GlacierMailModel" ({ cls := "GlacierMailModel", name := "lost", desc := "()I" } : Jvm.MethodName) ({ cls := "GlacierMailModel", name := "lost", desc := "()I" } : Jvm.MethodName)) ∈ lw_all := lw_g (lw_at lw_m9 69 rfl) rfl
theorem q2124 : (Jvm.Cond.code ({ cls := "GlacierMailModel", name := "lost", desc := "()I" } : Jvm.MethodName) prog_20_method_99_code (3 : Nat) (Option.some Jvm.ClassFile.FieldType.int)) ∈ lw_all := lw_g (lw_at lw_m9 70 rfl) rfl
theorem q2126 : (Jvm.Cond.instanceMethod ({ cls := "GlacierMailModel", name := "market", desc := "(Z)I" } : Jvm.MethodName)) ∈ lw_all := lw_g (lw_at lw_m9 72 rfl) rfl
theorem q2127 : (Jvm.Cond.selects "GlacierMailModel" ({ cls := "GlacierMailModel", name := "market", desc := "(Z)I" } : Jvm.MethodName) ({ cls := "GlacierMailModel", name := "market", desc := "(Z)I" } : Jvm.MethodName)) ∈ lw_all := lw_g (lw_at lw_m9 73 rfl) rfl
theorem q2128 : (Jvm.Cond.code ({ cls := "GlacierMailModel", name := "market", desc := "(Z)I" } : Jvm.MethodName) prog_20_method_102_code (6 : Nat) (Option.some Jvm.ClassFile.FieldType.int)) ∈ lw_all := lw_g (lw_at lw_m9 74 rfl) rfl
theorem q2129 : (Jvm.Cond.methodLink "GlacierMailModel" (428 : Nat) ({ cls := "GlacierMailModel", name := "outsAll", desc := "()V" } : Jvm.MethodName)) ∈ lw_all := lw_g (lw_at lw_m9 75 rfl) rfl
theorem q2130 : (Jvm.Cond.privateMethod ({ cls := "GlacierMailModel", name := "outsAll", desc := "()V" } : Jvm.MethodName)) ∈ lw_tbl := lw_at lw_m9 76 rfl
theorem q2131 : (Jvm.Cond.instanceMethod ({ cls := "GlacierMailModel", name := "outsAll", desc := "()V" } : Jvm.MethodName)) ∈ lw_all := lw_g (lw_at lw_m9 77 rfl) rfl
theorem q2132 : (Jvm.Cond.code ({ cls := "GlacierMailModel", name := "outsAll", desc := "()V" } : Jvm.MethodName) prog_20_method_100_code (2 : Nat) (Option.none : Option Jvm.ClassFile.FieldType)) ∈ lw_all := lw_g (lw_at lw_m9 78 rfl) rfl
theorem q2133 : (Jvm.Cond.methodLink "GlacierMailModel" (431 : Nat) ({ cls := "GlacierMailModel", name := "outsIn", desc := "(IIZ)I" } : Jvm.MethodName)) ∈ lw_all := lw_g (lw_at lw_m9 79 rfl) rfl
theorem q2134 : (Jvm.Cond.privateMethod ({ cls := "GlacierMailModel", name := "outsIn", desc := "(IIZ)I" } : Jvm.MethodName)) ∈ lw_tbl := lw_at lw_m9 80 rfl
theorem q2135 : (Jvm.Cond.instanceMethod ({ cls := "GlacierMailModel", name := "outsIn", desc := "(IIZ)I" } : Jvm.MethodName)) ∈ lw_all := lw_g (lw_at lw_m9 81 rfl) rfl
theorem q2136 : (Jvm.Cond.code ({ cls := "GlacierMailModel", name := "outsIn", desc := "(IIZ)I" } : Jvm.MethodName) prog_20_method_101_code (6 : Nat) (Option.some Jvm.ClassFile.FieldType.int)) ∈ lw_all := lw_g (lw_at lw_m9 82 rfl) rfl
theorem q2138 : (Jvm.Cond.instanceMethod ({ cls := "GlacierMailModel", name := "passes", desc := "(I)I" } : Jvm.MethodName)) ∈ lw_all := lw_g (lw_at lw_m9 84 rfl) rfl
theorem q2139 : (Jvm.Cond.selects "GlacierMailModel" ({ cls := "GlacierMailModel", name := "passes", desc := "(I)I" } : Jvm.MethodName) ({ cls := "GlacierMailModel", name := "passes", desc := "(I)I" } : Jvm.MethodName)) ∈ lw_all := lw_g (lw_at lw_m9 85 rfl) rfl
theorem q2140 : (Jvm.Cond.code ({ cls := "GlacierMailModel", name := "passes", desc := "(I)I" } : Jvm.MethodName) prog_20_method_106_code (4 : Nat) (Option.some Jvm.ClassFile.FieldType.int)) ∈ lw_all := lw_g (lw_at lw_m9 86 rfl) rfl
theorem q2141 : (Jvm.Cond.methodLink "GlacierMailModel" (438 : Nat) ({ cls := "GlacierMailModel", name := "keepsRows", desc := "()V" } : Jvm.MethodName)) ∈ lw_all := lw_g (lw_at lw_m9 87 rfl) rfl
theorem q2142 : (Jvm.Cond.privateMethod ({ cls := "GlacierMailModel", name := "keepsRows", desc := "()V" } : Jvm.MethodName)) ∈ lw_tbl := lw_at lw_m9 88 rfl
theorem q2143 : (Jvm.Cond.instanceMethod ({ cls := "GlacierMailModel", name := "keepsRows", desc := "()V" } : Jvm.MethodName)) ∈ lw_all := lw_g (lw_at lw_m9 89 rfl) rfl
theorem q2144 : (Jvm.Cond.code ({ cls := "GlacierMailModel", name := "keepsRows", desc := "()V" } : Jvm.MethodName) prog_20_method_103_code (2 : Nat) (Option.none : Option Jvm.ClassFile.FieldType)) ∈ lw_all := lw_g (lw_at lw_m9 90 rfl) rfl
theorem q2145 : (Jvm.Cond.methodLink "GlacierMailModel" (441 : Nat) ({ cls := "GlacierMailModel", name := "isPassing", desc := "(I)Z" } : Jvm.MethodName)) ∈ lw_all := lw_g (lw_at lw_m9 91 rfl) rfl
theorem q2146 : (Jvm.Cond.privateMethod ({ cls := "GlacierMailModel", name := "isPassing", desc := "(I)Z" } : Jvm.MethodName)) ∈ lw_tbl := lw_at lw_m9 92 rfl
theorem q2147 : (Jvm.Cond.instanceMethod ({ cls := "GlacierMailModel", name := "isPassing", desc := "(I)Z" } : Jvm.MethodName)) ∈ lw_all := lw_g (lw_at lw_m9 93 rfl) rfl
theorem q2148 : (Jvm.Cond.code ({ cls := "GlacierMailModel", name := "isPassing", desc := "(I)Z" } : Jvm.MethodName) prog_20_method_105_code (3 : Nat) (Option.some Jvm.ClassFile.FieldType.boolean)) ∈ lw_all := lw_g (lw_at lw_m9 94 rfl) rfl
theorem q2149 : (Jvm.Cond.methodLink "GlacierMailModel" (435 : Nat) ({ cls := "GlacierMailModel", name := "isOtherInIce", desc := "(I)Z" } : Jvm.MethodName)) ∈ lw_all := lw_g (lw_at lw_m9 95 rfl) rfl
theorem q2150 : (Jvm.Cond.privateMethod ({ cls := "GlacierMailModel", name := "isOtherInIce", desc := "(I)Z" } : Jvm.MethodName)) ∈ lw_tbl := lw_at lw_m9 96 rfl
theorem q2151 : (Jvm.Cond.instanceMethod ({ cls := "GlacierMailModel", name := "isOtherInIce", desc := "(I)Z" } : Jvm.MethodName)) ∈ lw_all := lw_g (lw_at lw_m9 97 rfl) rfl
theorem q2152 : (Jvm.Cond.code ({ cls := "GlacierMailModel", name := "isOtherInIce", desc := "(I)Z" } : Jvm.MethodName) prog_20_method_104_code (2 : Nat) (Option.some Jvm.ClassFile.FieldType.boolean)) ∈ lw_all := lw_g (lw_at lw_m9 98 rfl) rfl
theorem q2154 : (Jvm.Cond.instanceMethod ({ cls := "GlacierMailModel", name := "writers", desc := "(III)I" } : Jvm.MethodName)) ∈ lw_all := lw_g (lw_at lw_m9 100 rfl) rfl
theorem q2155 : (Jvm.Cond.selects "GlacierMailModel" ({ cls := "GlacierMailModel", name := "writers", desc := "(III)I" } : Jvm.MethodName) ({ cls := "GlacierMailModel", name := "writers", desc := "(III)I" } : Jvm.MethodName)) ∈ lw_all := lw_g (lw_at lw_m9 101 rfl) rfl
theorem q2156 : (Jvm.Cond.code ({ cls := "GlacierMailModel", name := "writers", desc := "(III)I" } : Jvm.MethodName) prog_20_method_108_code (6 : Nat) (Option.some Jvm.ClassFile.FieldType.int)) ∈ lw_all := lw_g (lw_at lw_m9 102 rfl) rfl
theorem q2157 : (Jvm.Cond.methodLink "GlacierMailModel" (444 : Nat) ({ cls := "GlacierMailModel", name := "wroteIn", desc := "(IIII)I" } : Jvm.MethodName)) ∈ lw_all := lw_g (lw_at lw_m9 103 rfl) rfl
theorem q2158 : (Jvm.Cond.privateMethod ({ cls := "GlacierMailModel", name := "wroteIn", desc := "(IIII)I" } : Jvm.MethodName)) ∈ lw_tbl := lw_at lw_m9 104 rfl
theorem q2159 : (Jvm.Cond.instanceMethod ({ cls := "GlacierMailModel", name := "wroteIn", desc := "(IIII)I" } : Jvm.MethodName)) ∈ lw_all := lw_g (lw_at lw_m9 105 rfl) rfl
theorem q2160 : (Jvm.Cond.code ({ cls := "GlacierMailModel", name := "wroteIn", desc := "(IIII)I" } : Jvm.MethodName) prog_20_method_107_code (6 : Nat) (Option.some Jvm.ClassFile.FieldType.int)) ∈ lw_all := lw_g (lw_at lw_m9 106 rfl) rfl
theorem q2162 : (Jvm.Cond.instanceMethod ({ cls := "GlacierMailModel", name := "wrote", desc := "(IIII)I" } : Jvm.MethodName)) ∈ lw_all := lw_g (lw_at lw_m9 108 rfl) rfl
theorem q2163 : (Jvm.Cond.selects "GlacierMailModel" ({ cls := "GlacierMailModel", name := "wrote", desc := "(IIII)I" } : Jvm.MethodName) ({ cls := "GlacierMailModel", name := "wrote", desc := "(IIII)I" } : Jvm.MethodName)) ∈ lw_all := lw_g (lw_at lw_m9 109 rfl) rfl
theorem q2164 : (Jvm.Cond.code ({ cls := "GlacierMailModel", name := "wrote", desc := "(IIII)I" } : Jvm.MethodName) prog_20_method_109_code (5 : Nat) (Option.some Jvm.ClassFile.FieldType.int)) ∈ lw_all := lw_g (lw_at lw_m9 110 rfl) rfl
theorem q2166 : (Jvm.Cond.instanceMethod ({ cls := "GlacierMailModel", name := "table", desc := "(II)I" } : Jvm.MethodName)) ∈ lw_all := lw_g (lw_at lw_m9 112 rfl) rfl
theorem q2167 : (Jvm.Cond.selects "GlacierMailModel" ({ cls := "GlacierMailModel", name := "table", desc := "(II)I" } : Jvm.MethodName) ({ cls := "GlacierMailModel", name := "table", desc := "(II)I" } : Jvm.MethodName)) ∈ lw_all := lw_g (lw_at lw_m9 113 rfl) rfl
theorem q2168 : (Jvm.Cond.code ({ cls := "GlacierMailModel", name := "table", desc := "(II)I" } : Jvm.MethodName) prog_20_method_112_code (3 : Nat) (Option.some Jvm.ClassFile.FieldType.int)) ∈ lw_all := lw_g (lw_at lw_m9 114 rfl) rfl
theorem q2169 : (Jvm.Cond.methodLink "GlacierMailModel" (448 : Nat) ({ cls := "GlacierMailModel", name := "noTable", desc := "(I)Z" } : Jvm.MethodName)) ∈ lw_all := lw_g (lw_at lw_m9 115 rfl) rfl
theorem q2170 : (Jvm.Cond.privateMethod ({ cls := "GlacierMailModel", name := "noTable", desc := "(I)Z" } : Jvm.MethodName)) ∈ lw_tbl := lw_at lw_m9 116 rfl
theorem q2171 : (Jvm.Cond.instanceMethod ({ cls := "GlacierMailModel", name := "noTable", desc := "(I)Z" } : Jvm.MethodName)) ∈ lw_all := lw_g (lw_at lw_m9 117 rfl) rfl
theorem q2172 : (Jvm.Cond.code ({ cls := "GlacierMailModel", name := "noTable", desc := "(I)Z" } : Jvm.MethodName) prog_20_method_111_code (2 : Nat) (Option.some Jvm.ClassFile.FieldType.boolean)) ∈ lw_all := lw_g (lw_at lw_m9 118 rfl) rfl
theorem q2173 : (Jvm.Cond.methodLink "GlacierMailModel" (451 : Nat) ({ cls := "GlacierMailModel", name := "ofTable", desc := "(II)I" } : Jvm.MethodName)) ∈ lw_all := lw_g (lw_at lw_m9 119 rfl) rfl
theorem q2174 : (Jvm.Cond.privateMethod ({ cls := "GlacierMailModel", name := "ofTable", desc := "(II)I" } : Jvm.MethodName)) ∈ lw_tbl := lw_at lw_m9 120 rfl
theorem q2175 : (Jvm.Cond.instanceMethod ({ cls := "GlacierMailModel", name := "ofTable", desc := "(II)I" } : Jvm.MethodName)) ∈ lw_all := lw_g (lw_at lw_m9 121 rfl) rfl
theorem q2176 : (Jvm.Cond.code ({ cls := "GlacierMailModel", name := "ofTable", desc := "(II)I" } : Jvm.MethodName) prog_20_method_110_code (3 : Nat) (Option.some Jvm.ClassFile.FieldType.int)) ∈ lw_all := lw_g (lw_at lw_m9 122 rfl) rfl
theorem q2178 : (Jvm.Cond.instanceMethod ({ cls := "GlacierMailModel", name := "apart", desc := "(III)Z" } : Jvm.MethodName)) ∈ lw_all := lw_g (lw_at lw_m9 124 rfl) rfl
theorem q2179 : (Jvm.Cond.selects "GlacierMailModel" ({ cls := "GlacierMailModel", name := "apart", desc := "(III)Z" } : Jvm.MethodName) ({ cls := "GlacierMailModel", name := "apart", desc := "(III)Z" } : Jvm.MethodName)) ∈ lw_all := lw_g (lw_at lw_m9 125 rfl) rfl
theorem q2180 : (Jvm.Cond.code ({ cls := "GlacierMailModel", name := "apart", desc := "(III)Z" } : Jvm.MethodName) prog_20_method_114_code (4 : Nat) (Option.some Jvm.ClassFile.FieldType.boolean)) ∈ lw_all := lw_g (lw_at lw_m9 126 rfl) rfl
theorem q2181 : (Jvm.Cond.methodLink "GlacierMailModel" (457 : Nat) ({ cls := "GlacierMailModel", name := "areApart", desc := "(III)Z" } : Jvm.MethodName)) ∈ lw_all := lw_g (lw_at lw_m9 127 rfl) rfl
theorem q2182 : (Jvm.Cond.privateMethod ({ cls := "GlacierMailModel", name := "areApart", desc := "(III)Z" } : Jvm.MethodName)) ∈ lw_tbl := lw_at lw_m9 128 rfl
theorem q2183 : (Jvm.Cond.instanceMethod ({ cls := "GlacierMailModel", name := "areApart", desc := "(III)Z" } : Jvm.MethodName)) ∈ lw_all := lw_g (lw_at lw_m9 129 rfl) rfl
theorem q2184 : (Jvm.Cond.code ({ cls := "GlacierMailModel", name := "areApart", desc := "(III)Z" } : Jvm.MethodName) prog_20_method_113_code (6 : Nat) (Option.some Jvm.ClassFile.FieldType.boolean)) ∈ lw_all := lw_g (lw_at lw_m9 130 rfl) rfl
theorem q2185 : (Jvm.Cond.methodLink "GlacierMailModel" (454 : Nat) ({ cls := "GlacierMailModel", name := "has", desc := "(II)Z" } : Jvm.MethodName)) ∈ lw_all := lw_g (lw_at lw_m9 131 rfl) rfl
theorem q2186 : (Jvm.Cond.static ({ cls := "GlacierMailModel", name := "has", desc := "(II)Z" } : Jvm.MethodName)) ∈ lw_all := lw_g (lw_at lw_m9 132 rfl) rfl
theorem q2187 : (Jvm.Cond.code ({ cls := "GlacierMailModel", name := "has", desc := "(II)Z" } : Jvm.MethodName) prog_20_method_4_code (2 : Nat) (Option.some Jvm.ClassFile.FieldType.boolean)) ∈ lw_all := lw_g (lw_at lw_m9 133 rfl) rfl
theorem q2189 : (Jvm.Cond.instanceMethod ({ cls := "GlacierMailModel", name := "poles", desc := "()I" } : Jvm.MethodName)) ∈ lw_all := lw_g (lw_at lw_m9 135 rfl) rfl
theorem q2190 : (Jvm.Cond.selects "GlacierMailModel" ({ cls := "GlacierMailModel", name := "poles", desc := "()I" } : Jvm.MethodName) ({ cls := "GlacierMailModel", name := "poles", desc := "()I" } : Jvm.MethodName)) ∈ lw_all := lw_g (lw_at lw_m9 136 rfl) rfl
theorem q2191 : (Jvm.Cond.code ({ cls := "GlacierMailModel", name := "poles", desc := "()I" } : Jvm.MethodName) prog_20_method_115_code (6 : Nat) (Option.some Jvm.ClassFile.FieldType.int)) ∈ lw_all := lw_g (lw_at lw_m9 137 rfl) rfl
theorem q2192 : (Jvm.Cond.methodLink "GlacierMailModel" (460 : Nat) ({ cls := "java/lang/Integer", name := "bitCount", desc := "(I)I" } : Jvm.MethodName)) ∈ lw_all := lw_g (lw_at lw_m9 138 rfl) rfl
theorem q2194 : (Jvm.Cond.instanceMethod ({ cls := "GlacierMailModel", name := "fit", desc := "()I" } : Jvm.MethodName)) ∈ lw_all := lw_g (lw_at lw_m9 140 rfl) rfl
theorem q2195 : (Jvm.Cond.selects "GlacierMailModel" ({ cls := "GlacierMailModel", name := "fit", desc := "()I" } : Jvm.MethodName) ({ cls := "GlacierMailModel", name := "fit", desc := "()I" } : Jvm.MethodName)) ∈ lw_all := lw_g (lw_at lw_m9 141 rfl) rfl
theorem q2196 : (Jvm.Cond.code ({ cls := "GlacierMailModel", name := "fit", desc := "()I" } : Jvm.MethodName) prog_20_method_116_code (5 : Nat) (Option.some Jvm.ClassFile.FieldType.int)) ∈ lw_all := lw_g (lw_at lw_m9 142 rfl) rfl
theorem q2198 : (Jvm.Cond.instanceMethod ({ cls := "GlacierMailModel", name := "soonest", desc := "(IIZ)I" } : Jvm.MethodName)) ∈ lw_all := lw_g (lw_at lw_m9 144 rfl) rfl
theorem q2199 : (Jvm.Cond.selects "GlacierMailModel" ({ cls := "GlacierMailModel", name := "soonest", desc := "(IIZ)I" } : Jvm.MethodName) ({ cls := "GlacierMailModel", name := "soonest", desc := "(IIZ)I" } : Jvm.MethodName)) ∈ lw_all := lw_g (lw_at lw_m9 145 rfl) rfl
theorem q2200 : (Jvm.Cond.code ({ cls := "GlacierMailModel", name := "soonest", desc := "(IIZ)I" } : Jvm.MethodName) prog_20_method_121_code (5 : Nat) (Option.some Jvm.ClassFile.FieldType.int)) ∈ lw_all := lw_g (lw_at lw_m9 146 rfl) rfl
theorem q2201 : (Jvm.Cond.methodLink "GlacierMailModel" (471 : Nat) ({ cls := "GlacierMailModel", name := "answers", desc := "(I)V" } : Jvm.MethodName)) ∈ lw_all := lw_g (lw_at lw_m9 147 rfl) rfl
theorem q2202 : (Jvm.Cond.privateMethod ({ cls := "GlacierMailModel", name := "answers", desc := "(I)V" } : Jvm.MethodName)) ∈ lw_tbl := lw_at lw_m9 148 rfl
theorem q2203 : (Jvm.Cond.instanceMethod ({ cls := "GlacierMailModel", name := "answers", desc := "(I)V" } : Jvm.MethodName)) ∈ lw_all := lw_g (lw_at lw_m9 149 rfl) rfl
theorem q2204 : (Jvm.Cond.code ({ cls := "GlacierMailModel", name := "answers", desc := "(I)V" } : Jvm.MethodName) prog_20_method_119_code (7 : Nat) (Option.none : Option Jvm.ClassFile.FieldType)) ∈ lw_all := lw_g (lw_at lw_m9 150 rfl) rfl
theorem q2205 : (Jvm.Cond.methodLink "GlacierMailModel" (465 : Nat) ({ cls := "GlacierMailModel", name := "at", desc := "(II)I" } : Jvm.MethodName)) ∈ lw_all := lw_g (lw_at lw_m9 151 rfl) rfl
theorem q2206 : (Jvm.Cond.static ({ cls := "GlacierMailModel", name := "at", desc := "(II)I" } : Jvm.MethodName)) ∈ lw_all := lw_g (lw_at lw_m9 152 rfl) rfl
theorem q2207 : (Jvm.Cond.code ({ cls := "GlacierMailModel", name := "at", desc := "(II)I" } : Jvm.MethodName) prog_20_method_117_code (2 : Nat) (Option.some Jvm.ClassFile.FieldType.int)) ∈ lw_all := lw_g (lw_at lw_m9 153 rfl) rfl
theorem q2208 : (Jvm.Cond.methodLink "GlacierMailModel" (468 : Nat) ({ cls := "GlacierMailModel", name := "isWatching", desc := "(II)Z" } : Jvm.MethodName)) ∈ lw_all := lw_g (lw_at lw_m9 154 rfl) rfl
theorem q2209 : (Jvm.Cond.privateMethod ({ cls := "GlacierMailModel", name := "isWatching", desc := "(II)Z" } : Jvm.MethodName)) ∈ lw_tbl := lw_at lw_m9 155 rfl
theorem q2210 : (Jvm.Cond.instanceMethod ({ cls := "GlacierMailModel", name := "isWatching", desc := "(II)Z" } : Jvm.MethodName)) ∈ lw_all := lw_g (lw_at lw_m9 156 rfl) rfl
theorem q2211 : (Jvm.Cond.code ({ cls := "GlacierMailModel", name := "isWatching", desc := "(II)Z" } : Jvm.MethodName) prog_20_method_118_code (3 : Nat) (Option.some Jvm.ClassFile.FieldType.boolean)) ∈ lw_all := lw_g (lw_at lw_m9 157 rfl) rfl
theorem q2212 : (Jvm.Cond.methodLink "GlacierMailModel" (474 : Nat) ({ cls := "GlacierMailModel", name := "hasIn", desc := "(I)I" } : Jvm.MethodName)) ∈ lw_all := lw_g (lw_at lw_m9 158 rfl) rfl
theorem q2213 : (Jvm.Cond.privateMethod ({ cls := "GlacierMailModel", name := "hasIn", desc := "(I)I" } : Jvm.MethodName)) ∈ lw_tbl := lw_at lw_m9 159 rfl
theorem q2214 : (Jvm.Cond.instanceMethod ({ cls := "GlacierMailModel", name := "hasIn", desc := "(I)I" } : Jvm.MethodName)) ∈ lw_all := lw_g (lw_at lw_m9 160 rfl) rfl
theorem q2215 : (Jvm.Cond.code ({ cls := "GlacierMailModel", name := "hasIn", desc := "(I)I" } : Jvm.MethodName) prog_20_method_120_code (3 : Nat) (Option.some Jvm.ClassFile.FieldType.int)) ∈ lw_all := lw_g (lw_at lw_m9 161 rfl) rfl
theorem q2217 : (Jvm.Cond.instanceMethod ({ cls := "GlacierMailModel", name := "chain", desc := "(III)I" } : Jvm.MethodName)) ∈ lw_all := lw_g (lw_at lw_m9 163 rfl) rfl
theorem q2218 : (Jvm.Cond.selects "GlacierMailModel" ({ cls := "GlacierMailModel", name := "chain", desc := "(III)I" } : Jvm.MethodName) ({ cls := "GlacierMailModel", name := "chain", desc := "(III)I" } : Jvm.MethodName)) ∈ lw_all := lw_g (lw_at lw_m9 164 rfl) rfl
theorem q2219 : (Jvm.Cond.code ({ cls := "GlacierMailModel", name := "chain", desc := "(III)I" } : Jvm.MethodName) prog_20_method_123_code (7 : Nat) (Option.some Jvm.ClassFile.FieldType.int)) ∈ lw_all := lw_g (lw_at lw_m9 165 rfl) rfl
theorem q2220 : (Jvm.Cond.methodLink "GlacierMailModel" (480 : Nat) ({ cls := "GlacierMailModel", name := "thrower", desc := "(III)I" } : Jvm.MethodName)) ∈ lw_all := lw_g (lw_at lw_m9 166 rfl) rfl
theorem q2221 : (Jvm.Cond.privateMethod ({ cls := "GlacierMailModel", name := "thrower", desc := "(III)I" } : Jvm.MethodName)) ∈ lw_tbl := lw_at lw_m9 167 rfl
theorem q2222 : (Jvm.Cond.instanceMethod ({ cls := "GlacierMailModel", name := "thrower", desc := "(III)I" } : Jvm.MethodName)) ∈ lw_all := lw_g (lw_at lw_m9 168 rfl) rfl
theorem q2223 : (Jvm.Cond.code ({ cls := "GlacierMailModel", name := "thrower", desc := "(III)I" } : Jvm.MethodName) prog_20_method_122_code (6 : Nat) (Option.some Jvm.ClassFile.FieldType.int)) ∈ lw_all := lw_g (lw_at lw_m9 169 rfl) rfl
theorem q2225 : (Jvm.Cond.instanceMethod ({ cls := "GlacierMailModel", name := "reached", desc := "(II)I" } : Jvm.MethodName)) ∈ lw_all := lw_g (lw_at lw_m9 171 rfl) rfl
theorem q2226 : (Jvm.Cond.selects "GlacierMailModel" ({ cls := "GlacierMailModel", name := "reached", desc := "(II)I" } : Jvm.MethodName) ({ cls := "GlacierMailModel", name := "reached", desc := "(II)I" } : Jvm.MethodName)) ∈ lw_all := lw_g (lw_at lw_m9 172 rfl) rfl
theorem q2227 : (Jvm.Cond.code ({ cls := "GlacierMailModel", name := "reached", desc := "(II)I" } : Jvm.MethodName) prog_20_method_124_code (6 : Nat) (Option.some Jvm.ClassFile.FieldType.int)) ∈ lw_all := lw_g (lw_at lw_m9 173 rfl) rfl
theorem q2229 : (Jvm.Cond.instanceMethod ({ cls := "GlacierMailModel", name := "thieves", desc := "(IZ)I" } : Jvm.MethodName)) ∈ lw_all := lw_g (lw_at lw_m9 175 rfl) rfl
theorem q2230 : (Jvm.Cond.selects "GlacierMailModel" ({ cls := "GlacierMailModel", name := "thieves", desc := "(IZ)I" } : Jvm.MethodName) ({ cls := "GlacierMailModel", name := "thieves", desc := "(IZ)I" } : Jvm.MethodName)) ∈ lw_all := lw_g (lw_at lw_m9 176 rfl) rfl
theorem q2231 : (Jvm.Cond.code ({ cls := "GlacierMailModel", name := "thieves", desc := "(IZ)I" } : Jvm.MethodName) prog_20_method_126_code (5 : Nat) (Option.some Jvm.ClassFile.FieldType.int)) ∈ lw_all := lw_g (lw_at lw_m9 177 rfl) rfl
theorem q2232 : (Jvm.Cond.methodLink "GlacierMailModel" (483 : Nat) ({ cls := "GlacierMailModel", name := "steals", desc := "(I)V" } : Jvm.MethodName)) ∈ lw_all := lw_g (lw_at lw_m9 178 rfl) rfl
theorem q2233 : (Jvm.Cond.privateMethod ({ cls := "GlacierMailModel", name := "steals", desc := "(I)V" } : Jvm.MethodName)) ∈ lw_tbl := lw_at lw_m9 179 rfl
theorem q2234 : (Jvm.Cond.instanceMethod ({ cls := "GlacierMailModel", name := "steals", desc := "(I)V" } : Jvm.MethodName)) ∈ lw_all := lw_g (lw_at lw_m9 180 rfl) rfl
theorem q2235 : (Jvm.Cond.code ({ cls := "GlacierMailModel", name := "steals", desc := "(I)V" } : Jvm.MethodName) prog_20_method_125_code (5 : Nat) (Option.none : Option Jvm.ClassFile.FieldType)) ∈ lw_all := lw_g (lw_at lw_m9 181 rfl) rfl
theorem q2237 : (Jvm.Cond.instanceMethod ({ cls := "GlacierMailModel", name := "watchman", desc := "(IZ)I" } : Jvm.MethodName)) ∈ lw_all := lw_g (lw_at lw_m9 183 rfl) rfl
theorem q2238 : (Jvm.Cond.selects "GlacierMailModel" ({ cls := "GlacierMailModel", name := "watchman", desc := "(IZ)I" } : Jvm.MethodName) ({ cls := "GlacierMailModel", name := "watchman", desc := "(IZ)I" } : Jvm.MethodName)) ∈ lw_all := lw_g (lw_at lw_m9 184 rfl) rfl
theorem q2239 : (Jvm.Cond.code ({ cls := "GlacierMailModel", name := "watchman", desc := "(IZ)I" } : Jvm.MethodName) prog_20_method_127_code (8 : Nat) (Option.some Jvm.ClassFile.FieldType.int)) ∈ lw_all := lw_g (lw_at lw_m9 185 rfl) rfl
theorem q2241 : (Jvm.Cond.instanceMethod ({ cls := "GlacierMailModel", name := "meeting", desc := "(II)I" } : Jvm.MethodName)) ∈ lw_all := lw_g (lw_at lw_m9 187 rfl) rfl
theorem q2242 : (Jvm.Cond.selects "GlacierMailModel" ({ cls := "GlacierMailModel", name := "meeting", desc := "(II)I" } : Jvm.MethodName) ({ cls := "GlacierMailModel", name := "meeting", desc := "(II)I" } : Jvm.MethodName)) ∈ lw_all := lw_g (lw_at lw_m9 188 rfl) rfl
theorem q2243 : (Jvm.Cond.code ({ cls := "GlacierMailModel", name := "meeting", desc := "(II)I" } : Jvm.MethodName) prog_20_method_128_code (4 : Nat) (Option.some Jvm.ClassFile.FieldType.int)) ∈ lw_all := lw_g (lw_at lw_m9 189 rfl) rfl
theorem q2245 : (Jvm.Cond.instanceMethod ({ cls := "GlacierMailModel", name := "outs", desc := "(I)I" } : Jvm.MethodName)) ∈ lw_all := lw_g (lw_at lw_m9 191 rfl) rfl
theorem q2246 : (Jvm.Cond.selects "GlacierMailModel" ({ cls := "GlacierMailModel", name := "outs", desc := "(I)I" } : Jvm.MethodName) ({ cls := "GlacierMailModel", name := "outs", desc := "(I)I" } : Jvm.MethodName)) ∈ lw_all := lw_g (lw_at lw_m9 192 rfl) rfl
theorem q2247 : (Jvm.Cond.code ({ cls := "GlacierMailModel", name := "outs", desc := "(I)I" } : Jvm.MethodName) prog_20_method_129_code (2 : Nat) (Option.some Jvm.ClassFile.FieldType.int)) ∈ lw_all := lw_g (lw_at lw_m9 193 rfl) rfl
theorem q2249 : (Jvm.Cond.instanceMethod ({ cls := "GlacierMailModel", name := "order", desc := "(I)I" } : Jvm.MethodName)) ∈ lw_all := lw_g (lw_at lw_m9 195 rfl) rfl
theorem q2250 : (Jvm.Cond.selects "GlacierMailModel" ({ cls := "GlacierMailModel", name := "order", desc := "(I)I" } : Jvm.MethodName) ({ cls := "GlacierMailModel", name := "order", desc := "(I)I" } : Jvm.MethodName)) ∈ lw_all := lw_g (lw_at lw_m9 196 rfl) rfl
theorem q2251 : (Jvm.Cond.code ({ cls := "GlacierMailModel", name := "order", desc := "(I)I" } : Jvm.MethodName) prog_20_method_130_code (5 : Nat) (Option.some Jvm.ClassFile.FieldType.int)) ∈ lw_all := lw_g (lw_at lw_m9 197 rfl) rfl
theorem q2253 : (Jvm.Cond.instanceMethod ({ cls := "GlacierMailModel", name := "streams", desc := "(IZ)I" } : Jvm.MethodName)) ∈ lw_all := lw_g (lw_at lw_m9 199 rfl) rfl
theorem q2254 : (Jvm.Cond.selects "GlacierMailModel" ({ cls := "GlacierMailModel", name := "streams", desc := "(IZ)I" } : Jvm.MethodName) ({ cls := "GlacierMailModel", name := "streams", desc := "(IZ)I" } : Jvm.MethodName)) ∈ lw_all := lw_g (lw_at lw_m9 200 rfl) rfl
theorem q2255 : (Jvm.Cond.code ({ cls := "GlacierMailModel", name := "streams", desc := "(IZ)I" } : Jvm.MethodName) prog_20_method_131_code (5 : Nat) (Option.some Jvm.ClassFile.FieldType.int)) ∈ lw_all := lw_g (lw_at lw_m9 201 rfl) rfl
theorem q2257 : (Jvm.Cond.instanceMethod ({ cls := "GlacierMailModel", name := "range", desc := "(II)I" } : Jvm.MethodName)) ∈ lw_all := lw_g (lw_at lw_m9 203 rfl) rfl
theorem q2258 : (Jvm.Cond.selects "GlacierMailModel" ({ cls := "GlacierMailModel", name := "range", desc := "(II)I" } : Jvm.MethodName) ({ cls := "GlacierMailModel", name := "range", desc := "(II)I" } : Jvm.MethodName)) ∈ lw_all := lw_g (lw_at lw_m9 204 rfl) rfl
theorem q2259 : (Jvm.Cond.code ({ cls := "GlacierMailModel", name := "range", desc := "(II)I" } : Jvm.MethodName) prog_20_method_132_code (4 : Nat) (Option.some Jvm.ClassFile.FieldType.int)) ∈ lw_all := lw_g (lw_at lw_m9 205 rfl) rfl
theorem q2261 : (Jvm.Cond.instanceMethod ({ cls := "GlacierMailModel", name := "swiftest", desc := "(II)I" } : Jvm.MethodName)) ∈ lw_all := lw_g (lw_at lw_m9 207 rfl) rfl
theorem q2262 : (Jvm.Cond.selects "GlacierMailModel" ({ cls := "GlacierMailModel", name := "swiftest", desc := "(II)I" } : Jvm.MethodName) ({ cls := "GlacierMailModel", name := "swiftest", desc := "(II)I" } : Jvm.MethodName)) ∈ lw_all := lw_g (lw_at lw_m9 208 rfl) rfl
theorem q2263 : (Jvm.Cond.code ({ cls := "GlacierMailModel", name := "swiftest", desc := "(II)I" } : Jvm.MethodName) prog_20_method_133_code (7 : Nat) (Option.some Jvm.ClassFile.FieldType.int)) ∈ lw_all := lw_g (lw_at lw_m9 209 rfl) rfl
theorem q2265 : (Jvm.Cond.instanceMethod ({ cls := "GlacierMailModel", name := "bare", desc := "(I)I" } : Jvm.MethodName)) ∈ lw_all := lw_g (lw_at lw_m9 211 rfl) rfl
theorem q2266 : (Jvm.Cond.selects "GlacierMailModel" ({ cls := "GlacierMailModel", name := "bare", desc := "(I)I" } : Jvm.MethodName) ({ cls := "GlacierMailModel", name := "bare", desc := "(I)I" } : Jvm.MethodName)) ∈ lw_all := lw_g (lw_at lw_m9 212 rfl) rfl
theorem q2267 : (Jvm.Cond.code ({ cls := "GlacierMailModel", name := "bare", desc := "(I)I" } : Jvm.MethodName) prog_20_method_134_code (4 : Nat) (Option.some Jvm.ClassFile.FieldType.int)) ∈ lw_all := lw_g (lw_at lw_m9 213 rfl) rfl
theorem q2269 : (Jvm.Cond.instanceMethod ({ cls := "GlacierMailModel", name := "log", desc := "(II)I" } : Jvm.MethodName)) ∈ lw_all := lw_g (lw_at lw_m9 215 rfl) rfl
theorem q2270 : (Jvm.Cond.selects "GlacierMailModel" ({ cls := "GlacierMailModel", name := "log", desc := "(II)I" } : Jvm.MethodName) ({ cls := "GlacierMailModel", name := "log", desc := "(II)I" } : Jvm.MethodName)) ∈ lw_all := lw_g (lw_at lw_m9 216 rfl) rfl
theorem q2271 : (Jvm.Cond.code ({ cls := "GlacierMailModel", name := "log", desc := "(II)I" } : Jvm.MethodName) prog_20_method_135_code (3 : Nat) (Option.some Jvm.ClassFile.FieldType.int)) ∈ lw_all := lw_g (lw_at lw_m9 217 rfl) rfl
theorem q2273 : (Jvm.Cond.instanceMethod ({ cls := "GlacierMailModel", name := "count", desc := "(I)I" } : Jvm.MethodName)) ∈ lw_all := lw_g (lw_at lw_m9 219 rfl) rfl
theorem q2274 : (Jvm.Cond.selects "GlacierMailModel" ({ cls := "GlacierMailModel", name := "count", desc := "(I)I" } : Jvm.MethodName) ({ cls := "GlacierMailModel", name := "count", desc := "(I)I" } : Jvm.MethodName)) ∈ lw_all := lw_g (lw_at lw_m9 220 rfl) rfl
theorem q2275 : (Jvm.Cond.code ({ cls := "GlacierMailModel", name := "count", desc := "(I)I" } : Jvm.MethodName) prog_20_method_136_code (5 : Nat) (Option.some Jvm.ClassFile.FieldType.int)) ∈ lw_all := lw_g (lw_at lw_m9 221 rfl) rfl
theorem q2288 : (Jvm.Cond.castable "GlacierMailModel" "java/lang/Object") ∈ lw_tbl := lw_at lw_m9 234 rfl
theorem in_X10 : ∀ w ∈ wsX100, w ∈ lw_all := lw_in wsX100 [1636, 1638, 1640, 1642, 1644, 1646, 1648, 1650, 1652, 1654, 1656, 1658, 1660, 1662, 1664, 1666, 1668, 1670, 1672, 1674, 1676, 1678, 1680, 1682, 1684, 1686, 1688, 1690, 1692, 1694, 1696, 1698, 1700, 1702, 1704, 1706, 1708, 1710, 1712] (by decide +kernel) (by decide +kernel)
