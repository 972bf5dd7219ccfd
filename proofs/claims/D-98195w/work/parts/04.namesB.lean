/-! GlacierMail -/
set_option maxRecDepth 100000
def RX1 : String := "GlacierMail"
def TX1 : u_T := fun k => match k with
  | 0 => ("GlacierMail", "reader", "LGlacierMail$Reader;", true)
  | 1 => ("GlacierMail", "now", "LGlacierMail$State;", true)
  | 2 => ("GlacierMail", "image", "LGlacierMail$State;", true)
  | 3 => ("GlacierMail", "acts", "[LGlacierMail$State;", true)
  | 4 => ("GlacierMail", "trip", "LGlacierMail$Trip;", true)
  | 5 => ("GlacierMail", "other", "LGlacierMail$Trip;", true)
  | 6 => ("GlacierMail", "flows", "[I", true)
  | 7 => ("GlacierMail", "outs", "[I", true)
  | 8 => ("GlacierMail", "throwsTo", "[I", true)
  | 9 => ("GlacierMail", "loot", "[I", true)
  | 10 => ("GlacierMail", "takes", "[I", true)
  | 11 => ("GlacierMail", "wrongAt", "I", false)
  | 12 => ("GlacierMail", "actMany", "I", false)
  | 13 => ("GlacierMail", "actAt", "I", false)
  | 14 => ("GlacierMail", "flowLane", "I", false)
  | _ => ("GlacierMail", "kept", "Z", false)
def tyX1 : Nat → FieldType := fun k => match k with
  | 0 => .object "GlacierMail$Reader"
  | 1 => .object "GlacierMail$State"
  | 2 => .object "GlacierMail$State"
  | 3 => .array (.object "GlacierMail$State")
  | 4 => .object "GlacierMail$Trip"
  | 5 => .object "GlacierMail$Trip"
  | 6 => .array .int
  | 7 => .array .int
  | 8 => .array .int
  | 9 => .array .int
  | 10 => .array .int
  | 11 => .int
  | 12 => .int
  | 13 => .int
  | 14 => .int
  | _ => .boolean
abbrev wsX10 : List Cond := u_ws RX1 TX1 16
set_option maxRecDepth 100000 in
theorem nmX1 : ∀ a, a < 16 → ∀ b, b < 16 → a ≠ b → (TX1 a).2.1 ≠ (TX1 b).2.1 := by decide +kernel
set_option maxRecDepth 100000 in
theorem tyX1_ok : ∀ k, k < 16 → parseFieldDescriptor (TX1 k).2.2.1 = some (tyX1 k) := by decide +kernel
abbrev cX1_init : ByteArray := prog_1_method_1_code
def yX1_init : MethodName := ⟨RX1, "<init>", "()V"⟩
def dkwX1_init_6 : List UInt8 := [89, 183, 0, 20, 83, 132, 1, 1, 167, 255, 234, 177]
abbrev dktX1_init_6 : List UInt8 := dkwX1_init_6 ++ []
def dkwX1_init_5 : List UInt8 := [181, 0, 60, 42, 2, 181, 0, 64, 3, 60, 27, 16, 12, 162, 0, 22, 42, 180, 0, 28, 27, 187, 0, 18]
abbrev dktX1_init_5 : List UInt8 := dkwX1_init_5 ++ dktX1_init_6
def dkwX1_init_4 : List UInt8 := [181, 0, 51, 42, 17, 0, 180, 188, 10, 181, 0, 54, 42, 17, 0, 186, 188, 10, 181, 0, 57, 42, 2]
abbrev dktX1_init_4 : List UInt8 := dkwX1_init_4 ++ dktX1_init_5
def dkwX1_init_3 : List UInt8 := [17, 116, 4, 188, 10, 181, 0, 44, 42, 17, 9, 96, 188, 10, 181, 0, 48, 42, 17, 9, 96, 188, 10]
abbrev dktX1_init_3 : List UInt8 := dkwX1_init_3 ++ dktX1_init_4
def dkwX1_init_2 : List UInt8 := [187, 0, 32, 89, 42, 183, 0, 34, 181, 0, 37, 42, 187, 0, 32, 89, 42, 183, 0, 34, 181, 0, 41, 42]
abbrev dktX1_init_2 : List UInt8 := dkwX1_init_2 ++ dktX1_init_3
def dkwX1_init_1 : List UInt8 := [181, 0, 21, 42, 187, 0, 18, 89, 183, 0, 20, 181, 0, 25, 42, 16, 12, 189, 0, 18, 181, 0, 28, 42]
abbrev dktX1_init_1 : List UInt8 := dkwX1_init_1 ++ dktX1_init_2
def dkwX1_init_0 : List UInt8 := [42, 183, 0, 3, 42, 187, 0, 9, 89, 183, 0, 11, 181, 0, 12, 42, 187, 0, 18, 89, 183, 0, 20]
abbrev dktX1_init_0 : List UInt8 := dkwX1_init_0 ++ dktX1_init_1
theorem dksX1_init_0 : cX1_init.data.toList.drop 0 = dktX1_init_0 := by decide +kernel
theorem dksX1_init_1 : cX1_init.data.toList.drop 23 = dktX1_init_1 := dk_seg dksX1_init_0 23 rfl rfl
theorem dksX1_init_2 : cX1_init.data.toList.drop 47 = dktX1_init_2 := dk_seg dksX1_init_1 24 rfl rfl
theorem dksX1_init_3 : cX1_init.data.toList.drop 71 = dktX1_init_3 := dk_seg dksX1_init_2 24 rfl rfl
theorem dksX1_init_4 : cX1_init.data.toList.drop 94 = dktX1_init_4 := dk_seg dksX1_init_3 23 rfl rfl
theorem dksX1_init_5 : cX1_init.data.toList.drop 117 = dktX1_init_5 := dk_seg dksX1_init_4 23 rfl rfl
theorem dksX1_init_6 : cX1_init.data.toList.drop 141 = dktX1_init_6 := dk_seg dksX1_init_5 24 rfl rfl
theorem dX1_init_0 : decode cX1_init 0 = .ok (.aload_n 0, 1) := dk_42 (dk_at dksX1_init_0 0 rfl rfl)
theorem dX1_init_1 : decode cX1_init 1 = .ok (.invokespecial 3, 3) := dk_183 0 3 (dk_at dksX1_init_0 1 rfl rfl)
theorem dX1_init_4 : decode cX1_init 4 = .ok (.aload_n 0, 1) := dk_42 (dk_at dksX1_init_0 4 rfl rfl)
theorem dX1_init_5 : decode cX1_init 5 = .ok (.new 9, 3) := dk_187 0 9 (dk_at dksX1_init_0 5 rfl rfl)
theorem dX1_init_8 : decode cX1_init 8 = .ok (.dup, 1) := dk_89 (dk_at dksX1_init_0 8 rfl rfl)
theorem dX1_init_9 : decode cX1_init 9 = .ok (.invokespecial 11, 3) := dk_183 0 11 (dk_at dksX1_init_0 9 rfl rfl)
theorem dX1_init_12 : decode cX1_init 12 = .ok (.putfield 12, 3) := dk_181 0 12 (dk_at dksX1_init_0 12 rfl rfl)
theorem dX1_init_15 : decode cX1_init 15 = .ok (.aload_n 0, 1) := dk_42 (dk_at dksX1_init_0 15 rfl rfl)
theorem dX1_init_16 : decode cX1_init 16 = .ok (.new 18, 3) := dk_187 0 18 (dk_at dksX1_init_0 16 rfl rfl)
theorem dX1_init_19 : decode cX1_init 19 = .ok (.dup, 1) := dk_89 (dk_at dksX1_init_0 19 rfl rfl)
theorem dX1_init_20 : decode cX1_init 20 = .ok (.invokespecial 20, 3) := dk_183 0 20 (dk_at dksX1_init_0 20 rfl rfl)
theorem dX1_init_23 : decode cX1_init 23 = .ok (.putfield 21, 3) := dk_181 0 21 (dk_at dksX1_init_1 0 rfl rfl)
theorem dX1_init_26 : decode cX1_init 26 = .ok (.aload_n 0, 1) := dk_42 (dk_at dksX1_init_1 3 rfl rfl)
theorem dX1_init_27 : decode cX1_init 27 = .ok (.new 18, 3) := dk_187 0 18 (dk_at dksX1_init_1 4 rfl rfl)
theorem dX1_init_30 : decode cX1_init 30 = .ok (.dup, 1) := dk_89 (dk_at dksX1_init_1 7 rfl rfl)
theorem dX1_init_31 : decode cX1_init 31 = .ok (.invokespecial 20, 3) := dk_183 0 20 (dk_at dksX1_init_1 8 rfl rfl)
theorem dX1_init_34 : decode cX1_init 34 = .ok (.putfield 25, 3) := dk_181 0 25 (dk_at dksX1_init_1 11 rfl rfl)
theorem dX1_init_37 : decode cX1_init 37 = .ok (.aload_n 0, 1) := dk_42 (dk_at dksX1_init_1 14 rfl rfl)
theorem dX1_init_38 : decode cX1_init 38 = .ok (.bipush 12, 2) := dk_16 12 (dk_at dksX1_init_1 15 rfl rfl)
theorem dX1_init_40 : decode cX1_init 40 = .ok (.anewarray 18, 3) := dk_189 0 18 (dk_at dksX1_init_1 17 rfl rfl)
theorem dX1_init_43 : decode cX1_init 43 = .ok (.putfield 28, 3) := dk_181 0 28 (dk_at dksX1_init_1 20 rfl rfl)
theorem dX1_init_46 : decode cX1_init 46 = .ok (.aload_n 0, 1) := dk_42 (dk_at dksX1_init_1 23 rfl rfl)
theorem dX1_init_47 : decode cX1_init 47 = .ok (.new 32, 3) := dk_187 0 32 (dk_at dksX1_init_2 0 rfl rfl)
theorem dX1_init_50 : decode cX1_init 50 = .ok (.dup, 1) := dk_89 (dk_at dksX1_init_2 3 rfl rfl)
theorem dX1_init_51 : decode cX1_init 51 = .ok (.aload_n 0, 1) := dk_42 (dk_at dksX1_init_2 4 rfl rfl)
theorem dX1_init_52 : decode cX1_init 52 = .ok (.invokespecial 34, 3) := dk_183 0 34 (dk_at dksX1_init_2 5 rfl rfl)
theorem dX1_init_55 : decode cX1_init 55 = .ok (.putfield 37, 3) := dk_181 0 37 (dk_at dksX1_init_2 8 rfl rfl)
theorem dX1_init_58 : decode cX1_init 58 = .ok (.aload_n 0, 1) := dk_42 (dk_at dksX1_init_2 11 rfl rfl)
theorem dX1_init_59 : decode cX1_init 59 = .ok (.new 32, 3) := dk_187 0 32 (dk_at dksX1_init_2 12 rfl rfl)
theorem dX1_init_62 : decode cX1_init 62 = .ok (.dup, 1) := dk_89 (dk_at dksX1_init_2 15 rfl rfl)
theorem dX1_init_63 : decode cX1_init 63 = .ok (.aload_n 0, 1) := dk_42 (dk_at dksX1_init_2 16 rfl rfl)
theorem dX1_init_64 : decode cX1_init 64 = .ok (.invokespecial 34, 3) := dk_183 0 34 (dk_at dksX1_init_2 17 rfl rfl)
theorem dX1_init_67 : decode cX1_init 67 = .ok (.putfield 41, 3) := dk_181 0 41 (dk_at dksX1_init_2 20 rfl rfl)
theorem dX1_init_70 : decode cX1_init 70 = .ok (.aload_n 0, 1) := dk_42 (dk_at dksX1_init_2 23 rfl rfl)
theorem dX1_init_71 : decode cX1_init 71 = .ok (.sipush 29700, 3) := dk_17 116 4 (dk_at dksX1_init_3 0 rfl rfl)
theorem dX1_init_74 : decode cX1_init 74 = .ok (.newarray .int, 2) := dk_188_10 (dk_at dksX1_init_3 3 rfl rfl)
theorem dX1_init_76 : decode cX1_init 76 = .ok (.putfield 44, 3) := dk_181 0 44 (dk_at dksX1_init_3 5 rfl rfl)
theorem dX1_init_79 : decode cX1_init 79 = .ok (.aload_n 0, 1) := dk_42 (dk_at dksX1_init_3 8 rfl rfl)
theorem dX1_init_80 : decode cX1_init 80 = .ok (.sipush 2400, 3) := dk_17 9 96 (dk_at dksX1_init_3 9 rfl rfl)
theorem dX1_init_83 : decode cX1_init 83 = .ok (.newarray .int, 2) := dk_188_10 (dk_at dksX1_init_3 12 rfl rfl)
theorem dX1_init_85 : decode cX1_init 85 = .ok (.putfield 48, 3) := dk_181 0 48 (dk_at dksX1_init_3 14 rfl rfl)
theorem dX1_init_88 : decode cX1_init 88 = .ok (.aload_n 0, 1) := dk_42 (dk_at dksX1_init_3 17 rfl rfl)
theorem dX1_init_89 : decode cX1_init 89 = .ok (.sipush 2400, 3) := dk_17 9 96 (dk_at dksX1_init_3 18 rfl rfl)
theorem dX1_init_92 : decode cX1_init 92 = .ok (.newarray .int, 2) := dk_188_10 (dk_at dksX1_init_3 21 rfl rfl)
theorem dX1_init_94 : decode cX1_init 94 = .ok (.putfield 51, 3) := dk_181 0 51 (dk_at dksX1_init_4 0 rfl rfl)
theorem dX1_init_97 : decode cX1_init 97 = .ok (.aload_n 0, 1) := dk_42 (dk_at dksX1_init_4 3 rfl rfl)
theorem dX1_init_98 : decode cX1_init 98 = .ok (.sipush 180, 3) := dk_17 0 180 (dk_at dksX1_init_4 4 rfl rfl)
theorem dX1_init_101 : decode cX1_init 101 = .ok (.newarray .int, 2) := dk_188_10 (dk_at dksX1_init_4 7 rfl rfl)
theorem dX1_init_103 : decode cX1_init 103 = .ok (.putfield 54, 3) := dk_181 0 54 (dk_at dksX1_init_4 9 rfl rfl)
theorem dX1_init_106 : decode cX1_init 106 = .ok (.aload_n 0, 1) := dk_42 (dk_at dksX1_init_4 12 rfl rfl)
theorem dX1_init_107 : decode cX1_init 107 = .ok (.sipush 186, 3) := dk_17 0 186 (dk_at dksX1_init_4 13 rfl rfl)
theorem dX1_init_110 : decode cX1_init 110 = .ok (.newarray .int, 2) := dk_188_10 (dk_at dksX1_init_4 16 rfl rfl)
theorem dX1_init_112 : decode cX1_init 112 = .ok (.putfield 57, 3) := dk_181 0 57 (dk_at dksX1_init_4 18 rfl rfl)
theorem dX1_init_115 : decode cX1_init 115 = .ok (.aload_n 0, 1) := dk_42 (dk_at dksX1_init_4 21 rfl rfl)
theorem dX1_init_116 : decode cX1_init 116 = .ok (.iconst (-1), 1) := dk_2 (dk_at dksX1_init_4 22 rfl rfl)
theorem dX1_init_117 : decode cX1_init 117 = .ok (.putfield 60, 3) := dk_181 0 60 (dk_at dksX1_init_5 0 rfl rfl)
theorem dX1_init_120 : decode cX1_init 120 = .ok (.aload_n 0, 1) := dk_42 (dk_at dksX1_init_5 3 rfl rfl)
theorem dX1_init_121 : decode cX1_init 121 = .ok (.iconst (-1), 1) := dk_2 (dk_at dksX1_init_5 4 rfl rfl)
theorem dX1_init_122 : decode cX1_init 122 = .ok (.putfield 64, 3) := dk_181 0 64 (dk_at dksX1_init_5 5 rfl rfl)
theorem dX1_init_125 : decode cX1_init 125 = .ok (.iconst 0, 1) := dk_3 (dk_at dksX1_init_5 8 rfl rfl)
theorem dX1_init_126 : decode cX1_init 126 = .ok (.istore_n 1, 1) := dk_60 (dk_at dksX1_init_5 9 rfl rfl)
theorem dX1_init_127 : decode cX1_init 127 = .ok (.iload_n 1, 1) := dk_27 (dk_at dksX1_init_5 10 rfl rfl)
theorem dX1_init_128 : decode cX1_init 128 = .ok (.bipush 12, 2) := dk_16 12 (dk_at dksX1_init_5 11 rfl rfl)
theorem dX1_init_130 : decode cX1_init 130 = .ok (.if_icmp .ge 22, 3) := dk_162 0 22 (dk_at dksX1_init_5 13 rfl rfl)
theorem dX1_init_133 : decode cX1_init 133 = .ok (.aload_n 0, 1) := dk_42 (dk_at dksX1_init_5 16 rfl rfl)
theorem dX1_init_134 : decode cX1_init 134 = .ok (.getfield 28, 3) := dk_180 0 28 (dk_at dksX1_init_5 17 rfl rfl)
theorem dX1_init_137 : decode cX1_init 137 = .ok (.iload_n 1, 1) := dk_27 (dk_at dksX1_init_5 20 rfl rfl)
theorem dX1_init_138 : decode cX1_init 138 = .ok (.new 18, 3) := dk_187 0 18 (dk_at dksX1_init_5 21 rfl rfl)
theorem dX1_init_141 : decode cX1_init 141 = .ok (.dup, 1) := dk_89 (dk_at dksX1_init_6 0 rfl rfl)
theorem dX1_init_142 : decode cX1_init 142 = .ok (.invokespecial 20, 3) := dk_183 0 20 (dk_at dksX1_init_6 1 rfl rfl)
theorem dX1_init_145 : decode cX1_init 145 = .ok (.aastore, 1) := dk_83 (dk_at dksX1_init_6 4 rfl rfl)
theorem dX1_init_146 : decode cX1_init 146 = .ok (.iinc 1 1, 3) := dk_132 1 1 (dk_at dksX1_init_6 5 rfl rfl)
theorem dX1_init_149 : decode cX1_init 149 = .ok (.goto (-22), 3) := dk_167 255 234 (dk_at dksX1_init_6 8 rfl rfl)
theorem dX1_init_152 : decode cX1_init 152 = .ok (.return_, 1) := dk_177 (dk_at dksX1_init_6 11 rfl rfl)
abbrev cX1_feed : ByteArray := prog_1_method_14_code
def yX1_feed : MethodName := ⟨RX1, "feed", "(IIIII)I"⟩
def dkwX1_feed_2 : List UInt8 := [180, 0, 12, 180, 0, 118, 172]
abbrev dktX1_feed_2 : List UInt8 := dkwX1_feed_2 ++ []
def dkwX1_feed_1 : List UInt8 := [28, 182, 0, 121, 42, 29, 182, 0, 121, 42, 21, 4, 182, 0, 121, 42, 21, 5, 182, 0, 121, 42]
abbrev dktX1_feed_1 : List UInt8 := dkwX1_feed_1 ++ dktX1_feed_2
def dkwX1_feed_0 : List UInt8 := [42, 180, 0, 12, 180, 0, 118, 16, 20, 96, 17, 1, 144, 164, 0, 5, 2, 172, 42, 27, 182, 0, 121, 42]
abbrev dktX1_feed_0 : List UInt8 := dkwX1_feed_0 ++ dktX1_feed_1
theorem dksX1_feed_0 : cX1_feed.data.toList.drop 0 = dktX1_feed_0 := by decide +kernel
theorem dksX1_feed_1 : cX1_feed.data.toList.drop 24 = dktX1_feed_1 := dk_seg dksX1_feed_0 24 rfl rfl
theorem dksX1_feed_2 : cX1_feed.data.toList.drop 46 = dktX1_feed_2 := dk_seg dksX1_feed_1 22 rfl rfl
theorem dX1_feed_0 : decode cX1_feed 0 = .ok (.aload_n 0, 1) := dk_42 (dk_at dksX1_feed_0 0 rfl rfl)
theorem dX1_feed_1 : decode cX1_feed 1 = .ok (.getfield 12, 3) := dk_180 0 12 (dk_at dksX1_feed_0 1 rfl rfl)
theorem dX1_feed_4 : decode cX1_feed 4 = .ok (.getfield 118, 3) := dk_180 0 118 (dk_at dksX1_feed_0 4 rfl rfl)
theorem dX1_feed_7 : decode cX1_feed 7 = .ok (.bipush 20, 2) := dk_16 20 (dk_at dksX1_feed_0 7 rfl rfl)
theorem dX1_feed_9 : decode cX1_feed 9 = .ok (.iadd, 1) := dk_96 (dk_at dksX1_feed_0 9 rfl rfl)
theorem dX1_feed_10 : decode cX1_feed 10 = .ok (.sipush 400, 3) := dk_17 1 144 (dk_at dksX1_feed_0 10 rfl rfl)
theorem dX1_feed_13 : decode cX1_feed 13 = .ok (.if_icmp .le 5, 3) := dk_164 0 5 (dk_at dksX1_feed_0 13 rfl rfl)
theorem dX1_feed_16 : decode cX1_feed 16 = .ok (.iconst (-1), 1) := dk_2 (dk_at dksX1_feed_0 16 rfl rfl)
theorem dX1_feed_17 : decode cX1_feed 17 = .ok (.ireturn, 1) := dk_172 (dk_at dksX1_feed_0 17 rfl rfl)
theorem dX1_feed_18 : decode cX1_feed 18 = .ok (.aload_n 0, 1) := dk_42 (dk_at dksX1_feed_0 18 rfl rfl)
theorem dX1_feed_19 : decode cX1_feed 19 = .ok (.iload_n 1, 1) := dk_27 (dk_at dksX1_feed_0 19 rfl rfl)
theorem dX1_feed_20 : decode cX1_feed 20 = .ok (.invokevirtual 121, 3) := dk_182 0 121 (dk_at dksX1_feed_0 20 rfl rfl)
theorem dX1_feed_23 : decode cX1_feed 23 = .ok (.aload_n 0, 1) := dk_42 (dk_at dksX1_feed_0 23 rfl rfl)
theorem dX1_feed_24 : decode cX1_feed 24 = .ok (.iload_n 2, 1) := dk_28 (dk_at dksX1_feed_1 0 rfl rfl)
theorem dX1_feed_25 : decode cX1_feed 25 = .ok (.invokevirtual 121, 3) := dk_182 0 121 (dk_at dksX1_feed_1 1 rfl rfl)
theorem dX1_feed_28 : decode cX1_feed 28 = .ok (.aload_n 0, 1) := dk_42 (dk_at dksX1_feed_1 4 rfl rfl)
theorem dX1_feed_29 : decode cX1_feed 29 = .ok (.iload_n 3, 1) := dk_29 (dk_at dksX1_feed_1 5 rfl rfl)
theorem dX1_feed_30 : decode cX1_feed 30 = .ok (.invokevirtual 121, 3) := dk_182 0 121 (dk_at dksX1_feed_1 6 rfl rfl)
theorem dX1_feed_33 : decode cX1_feed 33 = .ok (.aload_n 0, 1) := dk_42 (dk_at dksX1_feed_1 9 rfl rfl)
theorem dX1_feed_34 : decode cX1_feed 34 = .ok (.iload 4, 2) := dk_21 4 (dk_at dksX1_feed_1 10 rfl rfl)
theorem dX1_feed_36 : decode cX1_feed 36 = .ok (.invokevirtual 121, 3) := dk_182 0 121 (dk_at dksX1_feed_1 12 rfl rfl)
theorem dX1_feed_39 : decode cX1_feed 39 = .ok (.aload_n 0, 1) := dk_42 (dk_at dksX1_feed_1 15 rfl rfl)
theorem dX1_feed_40 : decode cX1_feed 40 = .ok (.iload 5, 2) := dk_21 5 (dk_at dksX1_feed_1 16 rfl rfl)
theorem dX1_feed_42 : decode cX1_feed 42 = .ok (.invokevirtual 121, 3) := dk_182 0 121 (dk_at dksX1_feed_1 18 rfl rfl)
theorem dX1_feed_45 : decode cX1_feed 45 = .ok (.aload_n 0, 1) := dk_42 (dk_at dksX1_feed_1 21 rfl rfl)
theorem dX1_feed_46 : decode cX1_feed 46 = .ok (.getfield 12, 3) := dk_180 0 12 (dk_at dksX1_feed_2 0 rfl rfl)
theorem dX1_feed_49 : decode cX1_feed 49 = .ok (.getfield 118, 3) := dk_180 0 118 (dk_at dksX1_feed_2 3 rfl rfl)
theorem dX1_feed_52 : decode cX1_feed 52 = .ok (.ireturn, 1) := dk_172 (dk_at dksX1_feed_2 6 rfl rfl)
abbrev cX1_four : ByteArray := prog_1_method_13_code
def yX1_four : MethodName := ⟨RX1, "four", "(I)V"⟩
def dkwX1_four_1 : List UInt8 := [145, 84, 42, 180, 0, 12, 89, 180, 0, 118, 4, 96, 181, 0, 118, 132, 2, 248, 167, 255, 217, 177]
abbrev dktX1_four_1 : List UInt8 := dkwX1_four_1 ++ []
def dkwX1_four_0 : List UInt8 := [16, 24, 61, 28, 155, 0, 41, 42, 180, 0, 12, 180, 0, 114, 42, 180, 0, 12, 180, 0, 118, 27, 28, 122]
abbrev dktX1_four_0 : List UInt8 := dkwX1_four_0 ++ dktX1_four_1
theorem dksX1_four_0 : cX1_four.data.toList.drop 0 = dktX1_four_0 := by decide +kernel
theorem dksX1_four_1 : cX1_four.data.toList.drop 24 = dktX1_four_1 := dk_seg dksX1_four_0 24 rfl rfl
theorem dX1_four_0 : decode cX1_four 0 = .ok (.bipush 24, 2) := dk_16 24 (dk_at dksX1_four_0 0 rfl rfl)
theorem dX1_four_2 : decode cX1_four 2 = .ok (.istore_n 2, 1) := dk_61 (dk_at dksX1_four_0 2 rfl rfl)
theorem dX1_four_3 : decode cX1_four 3 = .ok (.iload_n 2, 1) := dk_28 (dk_at dksX1_four_0 3 rfl rfl)
theorem dX1_four_4 : decode cX1_four 4 = .ok (.ifCond .lt 41, 3) := dk_155 0 41 (dk_at dksX1_four_0 4 rfl rfl)
theorem dX1_four_7 : decode cX1_four 7 = .ok (.aload_n 0, 1) := dk_42 (dk_at dksX1_four_0 7 rfl rfl)
theorem dX1_four_8 : decode cX1_four 8 = .ok (.getfield 12, 3) := dk_180 0 12 (dk_at dksX1_four_0 8 rfl rfl)
theorem dX1_four_11 : decode cX1_four 11 = .ok (.getfield 114, 3) := dk_180 0 114 (dk_at dksX1_four_0 11 rfl rfl)
theorem dX1_four_14 : decode cX1_four 14 = .ok (.aload_n 0, 1) := dk_42 (dk_at dksX1_four_0 14 rfl rfl)
theorem dX1_four_15 : decode cX1_four 15 = .ok (.getfield 12, 3) := dk_180 0 12 (dk_at dksX1_four_0 15 rfl rfl)
theorem dX1_four_18 : decode cX1_four 18 = .ok (.getfield 118, 3) := dk_180 0 118 (dk_at dksX1_four_0 18 rfl rfl)
theorem dX1_four_21 : decode cX1_four 21 = .ok (.iload_n 1, 1) := dk_27 (dk_at dksX1_four_0 21 rfl rfl)
theorem dX1_four_22 : decode cX1_four 22 = .ok (.iload_n 2, 1) := dk_28 (dk_at dksX1_four_0 22 rfl rfl)
theorem dX1_four_23 : decode cX1_four 23 = .ok (.ishr, 1) := dk_122 (dk_at dksX1_four_0 23 rfl rfl)
theorem dX1_four_24 : decode cX1_four 24 = .ok (.i2b, 1) := dk_145 (dk_at dksX1_four_1 0 rfl rfl)
theorem dX1_four_25 : decode cX1_four 25 = .ok (.bastore, 1) := dk_84 (dk_at dksX1_four_1 1 rfl rfl)
theorem dX1_four_26 : decode cX1_four 26 = .ok (.aload_n 0, 1) := dk_42 (dk_at dksX1_four_1 2 rfl rfl)
theorem dX1_four_27 : decode cX1_four 27 = .ok (.getfield 12, 3) := dk_180 0 12 (dk_at dksX1_four_1 3 rfl rfl)
theorem dX1_four_30 : decode cX1_four 30 = .ok (.dup, 1) := dk_89 (dk_at dksX1_four_1 6 rfl rfl)
theorem dX1_four_31 : decode cX1_four 31 = .ok (.getfield 118, 3) := dk_180 0 118 (dk_at dksX1_four_1 7 rfl rfl)
theorem dX1_four_34 : decode cX1_four 34 = .ok (.iconst 1, 1) := dk_4 (dk_at dksX1_four_1 10 rfl rfl)
theorem dX1_four_35 : decode cX1_four 35 = .ok (.iadd, 1) := dk_96 (dk_at dksX1_four_1 11 rfl rfl)
theorem dX1_four_36 : decode cX1_four 36 = .ok (.putfield 118, 3) := dk_181 0 118 (dk_at dksX1_four_1 12 rfl rfl)
theorem dX1_four_39 : decode cX1_four 39 = .ok (.iinc 2 (-8), 3) := dk_132 2 248 (dk_at dksX1_four_1 15 rfl rfl)
theorem dX1_four_42 : decode cX1_four 42 = .ok (.goto (-39), 3) := dk_167 255 217 (dk_at dksX1_four_1 18 rfl rfl)
theorem dX1_four_45 : decode cX1_four 45 = .ok (.return_, 1) := dk_177 (dk_at dksX1_four_1 21 rfl rfl)
abbrev cX1_end : ByteArray := prog_1_method_15_code
def yX1_end : MethodName := ⟨RX1, "end", "(I)Z"⟩
def dkwX1_end_1 : List UInt8 := [181, 0, 118, 4, 172]
abbrev dktX1_end_1 : List UInt8 := dkwX1_end_1 ++ []
def dkwX1_end_0 : List UInt8 := [27, 3, 42, 180, 0, 12, 180, 0, 118, 184, 0, 79, 154, 0, 5, 3, 172, 42, 180, 0, 12, 27]
abbrev dktX1_end_0 : List UInt8 := dkwX1_end_0 ++ dktX1_end_1
theorem dksX1_end_0 : cX1_end.data.toList.drop 0 = dktX1_end_0 := by decide +kernel
theorem dksX1_end_1 : cX1_end.data.toList.drop 22 = dktX1_end_1 := dk_seg dksX1_end_0 22 rfl rfl
theorem dX1_end_0 : decode cX1_end 0 = .ok (.iload_n 1, 1) := dk_27 (dk_at dksX1_end_0 0 rfl rfl)
theorem dX1_end_1 : decode cX1_end 1 = .ok (.iconst 0, 1) := dk_3 (dk_at dksX1_end_0 1 rfl rfl)
theorem dX1_end_2 : decode cX1_end 2 = .ok (.aload_n 0, 1) := dk_42 (dk_at dksX1_end_0 2 rfl rfl)
theorem dX1_end_3 : decode cX1_end 3 = .ok (.getfield 12, 3) := dk_180 0 12 (dk_at dksX1_end_0 3 rfl rfl)
theorem dX1_end_6 : decode cX1_end 6 = .ok (.getfield 118, 3) := dk_180 0 118 (dk_at dksX1_end_0 6 rfl rfl)
theorem dX1_end_9 : decode cX1_end 9 = .ok (.invokestatic 79, 3) := dk_184 0 79 (dk_at dksX1_end_0 9 rfl rfl)
theorem dX1_end_12 : decode cX1_end 12 = .ok (.ifCond .ne 5, 3) := dk_154 0 5 (dk_at dksX1_end_0 12 rfl rfl)
theorem dX1_end_15 : decode cX1_end 15 = .ok (.iconst 0, 1) := dk_3 (dk_at dksX1_end_0 15 rfl rfl)
theorem dX1_end_16 : decode cX1_end 16 = .ok (.ireturn, 1) := dk_172 (dk_at dksX1_end_0 16 rfl rfl)
theorem dX1_end_17 : decode cX1_end 17 = .ok (.aload_n 0, 1) := dk_42 (dk_at dksX1_end_0 17 rfl rfl)
theorem dX1_end_18 : decode cX1_end 18 = .ok (.getfield 12, 3) := dk_180 0 12 (dk_at dksX1_end_0 18 rfl rfl)
theorem dX1_end_21 : decode cX1_end 21 = .ok (.iload_n 1, 1) := dk_27 (dk_at dksX1_end_0 21 rfl rfl)
theorem dX1_end_22 : decode cX1_end 22 = .ok (.putfield 118, 3) := dk_181 0 118 (dk_at dksX1_end_1 0 rfl rfl)
theorem dX1_end_25 : decode cX1_end 25 = .ok (.iconst 1, 1) := dk_4 (dk_at dksX1_end_1 3 rfl rfl)
theorem dX1_end_26 : decode cX1_end 26 = .ok (.ireturn, 1) := dk_172 (dk_at dksX1_end_1 4 rfl rfl)
abbrev cX1_isIn : ByteArray := prog_1_method_6_code
def yX1_isIn : MethodName := ⟨RX1, "isIn", "(III)Z"⟩
def dkwX1_isIn_0 : List UInt8 := [26, 27, 161, 0, 12, 26, 28, 163, 0, 7, 4, 167, 0, 4, 3, 172]
abbrev dktX1_isIn_0 : List UInt8 := dkwX1_isIn_0 ++ []
theorem dksX1_isIn_0 : cX1_isIn.data.toList.drop 0 = dktX1_isIn_0 := by decide +kernel
theorem dX1_isIn_0 : decode cX1_isIn 0 = .ok (.iload_n 0, 1) := dk_26 (dk_at dksX1_isIn_0 0 rfl rfl)
theorem dX1_isIn_1 : decode cX1_isIn 1 = .ok (.iload_n 1, 1) := dk_27 (dk_at dksX1_isIn_0 1 rfl rfl)
theorem dX1_isIn_2 : decode cX1_isIn 2 = .ok (.if_icmp .lt 12, 3) := dk_161 0 12 (dk_at dksX1_isIn_0 2 rfl rfl)
theorem dX1_isIn_5 : decode cX1_isIn 5 = .ok (.iload_n 0, 1) := dk_26 (dk_at dksX1_isIn_0 5 rfl rfl)
theorem dX1_isIn_6 : decode cX1_isIn 6 = .ok (.iload_n 2, 1) := dk_28 (dk_at dksX1_isIn_0 6 rfl rfl)
theorem dX1_isIn_7 : decode cX1_isIn 7 = .ok (.if_icmp .gt 7, 3) := dk_163 0 7 (dk_at dksX1_isIn_0 7 rfl rfl)
theorem dX1_isIn_10 : decode cX1_isIn 10 = .ok (.iconst 1, 1) := dk_4 (dk_at dksX1_isIn_0 10 rfl rfl)
theorem dX1_isIn_11 : decode cX1_isIn 11 = .ok (.goto 4, 3) := dk_167 0 4 (dk_at dksX1_isIn_0 11 rfl rfl)
theorem dX1_isIn_14 : decode cX1_isIn 14 = .ok (.iconst 0, 1) := dk_3 (dk_at dksX1_isIn_0 14 rfl rfl)
theorem dX1_isIn_15 : decode cX1_isIn 15 = .ok (.ireturn, 1) := dk_172 (dk_at dksX1_isIn_0 15 rfl rfl)
abbrev cX1_fault : ByteArray := prog_1_method_20_code
def yX1_fault : MethodName := ⟨RX1, "fault", "()I"⟩
theorem dX1_fault_0 : decode cX1_fault 0 = .ok (.aload_n 0, 1) := by decide +kernel
theorem dX1_fault_1 : decode cX1_fault 1 = .ok (.getfield 60, 3) := by decide +kernel
theorem dX1_fault_4 : decode cX1_fault 4 = .ok (.ireturn, 1) := by decide +kernel
abbrev cX1_lost : ByteArray := prog_1_method_46_code
def yX1_lost : MethodName := ⟨RX1, "lost", "()I"⟩
def dkwX1_lost_1 : List UInt8 := [160, 0, 9, 4, 28, 120, 167, 0, 4, 3, 128, 60, 132, 2, 1, 167, 255, 222, 27, 172]
abbrev dktX1_lost_1 : List UInt8 := dkwX1_lost_1 ++ []
def dkwX1_lost_0 : List UInt8 := [3, 60, 3, 61, 28, 42, 180, 0, 21, 180, 0, 103, 162, 0, 29, 27, 42, 28, 182, 1, 79, 18, 246]
abbrev dktX1_lost_0 : List UInt8 := dkwX1_lost_0 ++ dktX1_lost_1
theorem dksX1_lost_0 : cX1_lost.data.toList.drop 0 = dktX1_lost_0 := by decide +kernel
theorem dksX1_lost_1 : cX1_lost.data.toList.drop 23 = dktX1_lost_1 := dk_seg dksX1_lost_0 23 rfl rfl
theorem dX1_lost_0 : decode cX1_lost 0 = .ok (.iconst 0, 1) := dk_3 (dk_at dksX1_lost_0 0 rfl rfl)
theorem dX1_lost_1 : decode cX1_lost 1 = .ok (.istore_n 1, 1) := dk_60 (dk_at dksX1_lost_0 1 rfl rfl)
theorem dX1_lost_2 : decode cX1_lost 2 = .ok (.iconst 0, 1) := dk_3 (dk_at dksX1_lost_0 2 rfl rfl)
theorem dX1_lost_3 : decode cX1_lost 3 = .ok (.istore_n 2, 1) := dk_61 (dk_at dksX1_lost_0 3 rfl rfl)
theorem dX1_lost_4 : decode cX1_lost 4 = .ok (.iload_n 2, 1) := dk_28 (dk_at dksX1_lost_0 4 rfl rfl)
theorem dX1_lost_5 : decode cX1_lost 5 = .ok (.aload_n 0, 1) := dk_42 (dk_at dksX1_lost_0 5 rfl rfl)
theorem dX1_lost_6 : decode cX1_lost 6 = .ok (.getfield 21, 3) := dk_180 0 21 (dk_at dksX1_lost_0 6 rfl rfl)
theorem dX1_lost_9 : decode cX1_lost 9 = .ok (.getfield 103, 3) := dk_180 0 103 (dk_at dksX1_lost_0 9 rfl rfl)
theorem dX1_lost_12 : decode cX1_lost 12 = .ok (.if_icmp .ge 29, 3) := dk_162 0 29 (dk_at dksX1_lost_0 12 rfl rfl)
theorem dX1_lost_15 : decode cX1_lost 15 = .ok (.iload_n 1, 1) := dk_27 (dk_at dksX1_lost_0 15 rfl rfl)
theorem dX1_lost_16 : decode cX1_lost 16 = .ok (.aload_n 0, 1) := dk_42 (dk_at dksX1_lost_0 16 rfl rfl)
theorem dX1_lost_17 : decode cX1_lost 17 = .ok (.iload_n 2, 1) := dk_28 (dk_at dksX1_lost_0 17 rfl rfl)
theorem dX1_lost_18 : decode cX1_lost 18 = .ok (.invokevirtual 335, 3) := dk_182 1 79 (dk_at dksX1_lost_0 18 rfl rfl)
theorem dX1_lost_21 : decode cX1_lost 21 = .ok (.ldc 246, 2) := dk_18 246 (dk_at dksX1_lost_0 21 rfl rfl)
theorem dX1_lost_23 : decode cX1_lost 23 = .ok (.if_icmp .ne 9, 3) := dk_160 0 9 (dk_at dksX1_lost_1 0 rfl rfl)
theorem dX1_lost_26 : decode cX1_lost 26 = .ok (.iconst 1, 1) := dk_4 (dk_at dksX1_lost_1 3 rfl rfl)
theorem dX1_lost_27 : decode cX1_lost 27 = .ok (.iload_n 2, 1) := dk_28 (dk_at dksX1_lost_1 4 rfl rfl)
theorem dX1_lost_28 : decode cX1_lost 28 = .ok (.ishl, 1) := dk_120 (dk_at dksX1_lost_1 5 rfl rfl)
theorem dX1_lost_29 : decode cX1_lost 29 = .ok (.goto 4, 3) := dk_167 0 4 (dk_at dksX1_lost_1 6 rfl rfl)
theorem dX1_lost_32 : decode cX1_lost 32 = .ok (.iconst 0, 1) := dk_3 (dk_at dksX1_lost_1 9 rfl rfl)
theorem dX1_lost_33 : decode cX1_lost 33 = .ok (.ior, 1) := dk_128 (dk_at dksX1_lost_1 10 rfl rfl)
theorem dX1_lost_34 : decode cX1_lost 34 = .ok (.istore_n 1, 1) := dk_60 (dk_at dksX1_lost_1 11 rfl rfl)
theorem dX1_lost_35 : decode cX1_lost 35 = .ok (.iinc 2 1, 3) := dk_132 2 1 (dk_at dksX1_lost_1 12 rfl rfl)
theorem dX1_lost_38 : decode cX1_lost 38 = .ok (.goto (-34), 3) := dk_167 255 222 (dk_at dksX1_lost_1 15 rfl rfl)
theorem dX1_lost_41 : decode cX1_lost 41 = .ok (.iload_n 1, 1) := dk_27 (dk_at dksX1_lost_1 18 rfl rfl)
theorem dX1_lost_42 : decode cX1_lost 42 = .ok (.ireturn, 1) := dk_172 (dk_at dksX1_lost_1 19 rfl rfl)
abbrev cX1_outOf : ByteArray := prog_1_method_72_code
def yX1_outOf : MethodName := ⟨RX1, "outOf", "(I)I"⟩
def dkwX1_outOf_0 : List UInt8 := [42, 180, 0, 37, 42, 180, 0, 21, 180, 0, 106, 27, 50, 182, 0, 195, 180, 0, 199, 172]
abbrev dktX1_outOf_0 : List UInt8 := dkwX1_outOf_0 ++ []
theorem dksX1_outOf_0 : cX1_outOf.data.toList.drop 0 = dktX1_outOf_0 := by decide +kernel
theorem dX1_outOf_0 : decode cX1_outOf 0 = .ok (.aload_n 0, 1) := dk_42 (dk_at dksX1_outOf_0 0 rfl rfl)
theorem dX1_outOf_1 : decode cX1_outOf 1 = .ok (.getfield 37, 3) := dk_180 0 37 (dk_at dksX1_outOf_0 1 rfl rfl)
theorem dX1_outOf_4 : decode cX1_outOf 4 = .ok (.aload_n 0, 1) := dk_42 (dk_at dksX1_outOf_0 4 rfl rfl)
theorem dX1_outOf_5 : decode cX1_outOf 5 = .ok (.getfield 21, 3) := dk_180 0 21 (dk_at dksX1_outOf_0 5 rfl rfl)
theorem dX1_outOf_8 : decode cX1_outOf 8 = .ok (.getfield 106, 3) := dk_180 0 106 (dk_at dksX1_outOf_0 8 rfl rfl)
theorem dX1_outOf_11 : decode cX1_outOf 11 = .ok (.iload_n 1, 1) := dk_27 (dk_at dksX1_outOf_0 11 rfl rfl)
theorem dX1_outOf_12 : decode cX1_outOf 12 = .ok (.aaload, 1) := dk_50 (dk_at dksX1_outOf_0 12 rfl rfl)
theorem dX1_outOf_13 : decode cX1_outOf 13 = .ok (.invokevirtual 195, 3) := dk_182 0 195 (dk_at dksX1_outOf_0 13 rfl rfl)
theorem dX1_outOf_16 : decode cX1_outOf 16 = .ok (.getfield 199, 3) := dk_180 0 199 (dk_at dksX1_outOf_0 16 rfl rfl)
theorem dX1_outOf_19 : decode cX1_outOf 19 = .ok (.ireturn, 1) := dk_172 (dk_at dksX1_outOf_0 19 rfl rfl)
abbrev cX1_flowOf : ByteArray := prog_1_method_12_code
def yX1_flowOf : MethodName := ⟨RX1, "flowOf", "(III)I"⟩
def dkwX1_flowOf_3 : List UInt8 := [28, 29, 182, 0, 110, 79, 42, 180, 0, 44, 21, 4, 46, 172]
abbrev dktX1_flowOf_3 : List UInt8 := dkwX1_flowOf_3 ++ []
def dkwX1_flowOf_2 : List UInt8 := [54, 4, 42, 180, 0, 44, 21, 4, 46, 2, 160, 0, 20, 42, 180, 0, 44, 21, 4, 42, 180, 0, 21, 27]
abbrev dktX1_flowOf_2 : List UInt8 := dkwX1_flowOf_2 ++ dktX1_flowOf_3
def dkwX1_flowOf_1 : List UInt8 := [180, 0, 44, 21, 4, 2, 79, 132, 4, 1, 167, 255, 235, 42, 27, 181, 0, 64, 16, 99, 29, 104, 28, 96]
abbrev dktX1_flowOf_1 : List UInt8 := dkwX1_flowOf_1 ++ dktX1_flowOf_2
def dkwX1_flowOf_0 : List UInt8 := [42, 180, 0, 64, 27, 159, 0, 35, 3, 54, 4, 21, 4, 42, 180, 0, 44, 190, 162, 0, 17, 42]
abbrev dktX1_flowOf_0 : List UInt8 := dkwX1_flowOf_0 ++ dktX1_flowOf_1
theorem dksX1_flowOf_0 : cX1_flowOf.data.toList.drop 0 = dktX1_flowOf_0 := by decide +kernel
theorem dksX1_flowOf_1 : cX1_flowOf.data.toList.drop 22 = dktX1_flowOf_1 := dk_seg dksX1_flowOf_0 22 rfl rfl
theorem dksX1_flowOf_2 : cX1_flowOf.data.toList.drop 46 = dktX1_flowOf_2 := dk_seg dksX1_flowOf_1 24 rfl rfl
theorem dksX1_flowOf_3 : cX1_flowOf.data.toList.drop 70 = dktX1_flowOf_3 := dk_seg dksX1_flowOf_2 24 rfl rfl
theorem dX1_flowOf_0 : decode cX1_flowOf 0 = .ok (.aload_n 0, 1) := dk_42 (dk_at dksX1_flowOf_0 0 rfl rfl)
theorem dX1_flowOf_1 : decode cX1_flowOf 1 = .ok (.getfield 64, 3) := dk_180 0 64 (dk_at dksX1_flowOf_0 1 rfl rfl)
theorem dX1_flowOf_4 : decode cX1_flowOf 4 = .ok (.iload_n 1, 1) := dk_27 (dk_at dksX1_flowOf_0 4 rfl rfl)
theorem dX1_flowOf_5 : decode cX1_flowOf 5 = .ok (.if_icmp .eq 35, 3) := dk_159 0 35 (dk_at dksX1_flowOf_0 5 rfl rfl)
theorem dX1_flowOf_8 : decode cX1_flowOf 8 = .ok (.iconst 0, 1) := dk_3 (dk_at dksX1_flowOf_0 8 rfl rfl)
theorem dX1_flowOf_9 : decode cX1_flowOf 9 = .ok (.istore 4, 2) := dk_54 4 (dk_at dksX1_flowOf_0 9 rfl rfl)
theorem dX1_flowOf_11 : decode cX1_flowOf 11 = .ok (.iload 4, 2) := dk_21 4 (dk_at dksX1_flowOf_0 11 rfl rfl)
theorem dX1_flowOf_13 : decode cX1_flowOf 13 = .ok (.aload_n 0, 1) := dk_42 (dk_at dksX1_flowOf_0 13 rfl rfl)
theorem dX1_flowOf_14 : decode cX1_flowOf 14 = .ok (.getfield 44, 3) := dk_180 0 44 (dk_at dksX1_flowOf_0 14 rfl rfl)
theorem dX1_flowOf_17 : decode cX1_flowOf 17 = .ok (.arraylength, 1) := dk_190 (dk_at dksX1_flowOf_0 17 rfl rfl)
theorem dX1_flowOf_18 : decode cX1_flowOf 18 = .ok (.if_icmp .ge 17, 3) := dk_162 0 17 (dk_at dksX1_flowOf_0 18 rfl rfl)
theorem dX1_flowOf_21 : decode cX1_flowOf 21 = .ok (.aload_n 0, 1) := dk_42 (dk_at dksX1_flowOf_0 21 rfl rfl)
theorem dX1_flowOf_22 : decode cX1_flowOf 22 = .ok (.getfield 44, 3) := dk_180 0 44 (dk_at dksX1_flowOf_1 0 rfl rfl)
theorem dX1_flowOf_25 : decode cX1_flowOf 25 = .ok (.iload 4, 2) := dk_21 4 (dk_at dksX1_flowOf_1 3 rfl rfl)
theorem dX1_flowOf_27 : decode cX1_flowOf 27 = .ok (.iconst (-1), 1) := dk_2 (dk_at dksX1_flowOf_1 5 rfl rfl)
theorem dX1_flowOf_28 : decode cX1_flowOf 28 = .ok (.iastore, 1) := dk_79 (dk_at dksX1_flowOf_1 6 rfl rfl)
theorem dX1_flowOf_29 : decode cX1_flowOf 29 = .ok (.iinc 4 1, 3) := dk_132 4 1 (dk_at dksX1_flowOf_1 7 rfl rfl)
theorem dX1_flowOf_32 : decode cX1_flowOf 32 = .ok (.goto (-21), 3) := dk_167 255 235 (dk_at dksX1_flowOf_1 10 rfl rfl)
theorem dX1_flowOf_35 : decode cX1_flowOf 35 = .ok (.aload_n 0, 1) := dk_42 (dk_at dksX1_flowOf_1 13 rfl rfl)
theorem dX1_flowOf_36 : decode cX1_flowOf 36 = .ok (.iload_n 1, 1) := dk_27 (dk_at dksX1_flowOf_1 14 rfl rfl)
theorem dX1_flowOf_37 : decode cX1_flowOf 37 = .ok (.putfield 64, 3) := dk_181 0 64 (dk_at dksX1_flowOf_1 15 rfl rfl)
theorem dX1_flowOf_40 : decode cX1_flowOf 40 = .ok (.bipush 99, 2) := dk_16 99 (dk_at dksX1_flowOf_1 18 rfl rfl)
theorem dX1_flowOf_42 : decode cX1_flowOf 42 = .ok (.iload_n 3, 1) := dk_29 (dk_at dksX1_flowOf_1 20 rfl rfl)
theorem dX1_flowOf_43 : decode cX1_flowOf 43 = .ok (.imul, 1) := dk_104 (dk_at dksX1_flowOf_1 21 rfl rfl)
theorem dX1_flowOf_44 : decode cX1_flowOf 44 = .ok (.iload_n 2, 1) := dk_28 (dk_at dksX1_flowOf_1 22 rfl rfl)
theorem dX1_flowOf_45 : decode cX1_flowOf 45 = .ok (.iadd, 1) := dk_96 (dk_at dksX1_flowOf_1 23 rfl rfl)
theorem dX1_flowOf_46 : decode cX1_flowOf 46 = .ok (.istore 4, 2) := dk_54 4 (dk_at dksX1_flowOf_2 0 rfl rfl)
theorem dX1_flowOf_48 : decode cX1_flowOf 48 = .ok (.aload_n 0, 1) := dk_42 (dk_at dksX1_flowOf_2 2 rfl rfl)
theorem dX1_flowOf_49 : decode cX1_flowOf 49 = .ok (.getfield 44, 3) := dk_180 0 44 (dk_at dksX1_flowOf_2 3 rfl rfl)
theorem dX1_flowOf_52 : decode cX1_flowOf 52 = .ok (.iload 4, 2) := dk_21 4 (dk_at dksX1_flowOf_2 6 rfl rfl)
theorem dX1_flowOf_54 : decode cX1_flowOf 54 = .ok (.iaload, 1) := dk_46 (dk_at dksX1_flowOf_2 8 rfl rfl)
theorem dX1_flowOf_55 : decode cX1_flowOf 55 = .ok (.iconst (-1), 1) := dk_2 (dk_at dksX1_flowOf_2 9 rfl rfl)
theorem dX1_flowOf_56 : decode cX1_flowOf 56 = .ok (.if_icmp .ne 20, 3) := dk_160 0 20 (dk_at dksX1_flowOf_2 10 rfl rfl)
theorem dX1_flowOf_59 : decode cX1_flowOf 59 = .ok (.aload_n 0, 1) := dk_42 (dk_at dksX1_flowOf_2 13 rfl rfl)
theorem dX1_flowOf_60 : decode cX1_flowOf 60 = .ok (.getfield 44, 3) := dk_180 0 44 (dk_at dksX1_flowOf_2 14 rfl rfl)
theorem dX1_flowOf_63 : decode cX1_flowOf 63 = .ok (.iload 4, 2) := dk_21 4 (dk_at dksX1_flowOf_2 17 rfl rfl)
theorem dX1_flowOf_65 : decode cX1_flowOf 65 = .ok (.aload_n 0, 1) := dk_42 (dk_at dksX1_flowOf_2 19 rfl rfl)
theorem dX1_flowOf_66 : decode cX1_flowOf 66 = .ok (.getfield 21, 3) := dk_180 0 21 (dk_at dksX1_flowOf_2 20 rfl rfl)
theorem dX1_flowOf_69 : decode cX1_flowOf 69 = .ok (.iload_n 1, 1) := dk_27 (dk_at dksX1_flowOf_2 23 rfl rfl)
theorem dX1_flowOf_70 : decode cX1_flowOf 70 = .ok (.iload_n 2, 1) := dk_28 (dk_at dksX1_flowOf_3 0 rfl rfl)
theorem dX1_flowOf_71 : decode cX1_flowOf 71 = .ok (.iload_n 3, 1) := dk_29 (dk_at dksX1_flowOf_3 1 rfl rfl)
theorem dX1_flowOf_72 : decode cX1_flowOf 72 = .ok (.invokevirtual 110, 3) := dk_182 0 110 (dk_at dksX1_flowOf_3 2 rfl rfl)
theorem dX1_flowOf_75 : decode cX1_flowOf 75 = .ok (.iastore, 1) := dk_79 (dk_at dksX1_flowOf_3 5 rfl rfl)
theorem dX1_flowOf_76 : decode cX1_flowOf 76 = .ok (.aload_n 0, 1) := dk_42 (dk_at dksX1_flowOf_3 6 rfl rfl)
theorem dX1_flowOf_77 : decode cX1_flowOf 77 = .ok (.getfield 44, 3) := dk_180 0 44 (dk_at dksX1_flowOf_3 7 rfl rfl)
theorem dX1_flowOf_80 : decode cX1_flowOf 80 = .ok (.iload 4, 2) := dk_21 4 (dk_at dksX1_flowOf_3 10 rfl rfl)
theorem dX1_flowOf_82 : decode cX1_flowOf 82 = .ok (.iaload, 1) := dk_46 (dk_at dksX1_flowOf_3 12 rfl rfl)
theorem dX1_flowOf_83 : decode cX1_flowOf 83 = .ok (.ireturn, 1) := dk_172 (dk_at dksX1_flowOf_3 13 rfl rfl)
abbrev cX1_market : ByteArray := prog_1_method_47_code
def yX1_market : MethodName := ⟨RX1, "market", "(Z)I"⟩
def dkwX1_market_6 : List UInt8 := [167, 0, 4, 28, 172]
abbrev dktX1_market_6 : List UInt8 := dkwX1_market_6 ++ []
def dkwX1_market_5 : List UInt8 := [163, 0, 6, 167, 0, 9, 21, 5, 62, 21, 4, 61, 132, 4, 1, 167, 255, 184, 27, 153, 0, 7, 29]
abbrev dktX1_market_5 : List UInt8 := dkwX1_market_5 ++ dktX1_market_6
def dkwX1_market_4 : List UInt8 := [21, 4, 160, 0, 7, 4, 167, 0, 4, 3, 96, 54, 5, 132, 6, 1, 167, 255, 219, 21, 5, 29]
abbrev dktX1_market_4 : List UInt8 := dkwX1_market_4 ++ dktX1_market_5
def dkwX1_market_3 : List UInt8 := [3, 54, 6, 21, 6, 42, 180, 0, 21, 180, 0, 103, 162, 0, 31, 21, 5, 42, 180, 0, 48, 21, 6, 46]
abbrev dktX1_market_3 : List UInt8 := dkwX1_market_3 ++ dktX1_market_4
def dkwX1_market_2 : List UInt8 := [132, 2, 1, 167, 255, 211, 2, 61, 3, 62, 3, 54, 4, 21, 4, 17, 1, 44, 162, 0, 70, 3, 54, 5]
abbrev dktX1_market_2 : List UInt8 := dkwX1_market_2 ++ dktX1_market_3
def dkwX1_market_1 : List UInt8 := [180, 0, 106, 28, 50, 182, 0, 202, 153, 0, 8, 18, 246, 167, 0, 8, 42, 28, 182, 1, 79, 79]
abbrev dktX1_market_1 : List UInt8 := dkwX1_market_1 ++ dktX1_market_2
def dkwX1_market_0 : List UInt8 := [3, 61, 28, 42, 180, 0, 21, 180, 0, 103, 162, 0, 40, 42, 180, 0, 48, 28, 42, 180, 0, 21]
abbrev dktX1_market_0 : List UInt8 := dkwX1_market_0 ++ dktX1_market_1
theorem dksX1_market_0 : cX1_market.data.toList.drop 0 = dktX1_market_0 := by decide +kernel
theorem dksX1_market_1 : cX1_market.data.toList.drop 22 = dktX1_market_1 := dk_seg dksX1_market_0 22 rfl rfl
theorem dksX1_market_2 : cX1_market.data.toList.drop 44 = dktX1_market_2 := dk_seg dksX1_market_1 22 rfl rfl
theorem dksX1_market_3 : cX1_market.data.toList.drop 68 = dktX1_market_3 := dk_seg dksX1_market_2 24 rfl rfl
theorem dksX1_market_4 : cX1_market.data.toList.drop 92 = dktX1_market_4 := dk_seg dksX1_market_3 24 rfl rfl
theorem dksX1_market_5 : cX1_market.data.toList.drop 114 = dktX1_market_5 := dk_seg dksX1_market_4 22 rfl rfl
theorem dksX1_market_6 : cX1_market.data.toList.drop 137 = dktX1_market_6 := dk_seg dksX1_market_5 23 rfl rfl
theorem dX1_market_0 : decode cX1_market 0 = .ok (.iconst 0, 1) := dk_3 (dk_at dksX1_market_0 0 rfl rfl)
theorem dX1_market_1 : decode cX1_market 1 = .ok (.istore_n 2, 1) := dk_61 (dk_at dksX1_market_0 1 rfl rfl)
theorem dX1_market_2 : decode cX1_market 2 = .ok (.iload_n 2, 1) := dk_28 (dk_at dksX1_market_0 2 rfl rfl)
theorem dX1_market_3 : decode cX1_market 3 = .ok (.aload_n 0, 1) := dk_42 (dk_at dksX1_market_0 3 rfl rfl)
theorem dX1_market_4 : decode cX1_market 4 = .ok (.getfield 21, 3) := dk_180 0 21 (dk_at dksX1_market_0 4 rfl rfl)
theorem dX1_market_7 : decode cX1_market 7 = .ok (.getfield 103, 3) := dk_180 0 103 (dk_at dksX1_market_0 7 rfl rfl)
theorem dX1_market_10 : decode cX1_market 10 = .ok (.if_icmp .ge 40, 3) := dk_162 0 40 (dk_at dksX1_market_0 10 rfl rfl)
theorem dX1_market_13 : decode cX1_market 13 = .ok (.aload_n 0, 1) := dk_42 (dk_at dksX1_market_0 13 rfl rfl)
theorem dX1_market_14 : decode cX1_market 14 = .ok (.getfield 48, 3) := dk_180 0 48 (dk_at dksX1_market_0 14 rfl rfl)
theorem dX1_market_17 : decode cX1_market 17 = .ok (.iload_n 2, 1) := dk_28 (dk_at dksX1_market_0 17 rfl rfl)
theorem dX1_market_18 : decode cX1_market 18 = .ok (.aload_n 0, 1) := dk_42 (dk_at dksX1_market_0 18 rfl rfl)
theorem dX1_market_19 : decode cX1_market 19 = .ok (.getfield 21, 3) := dk_180 0 21 (dk_at dksX1_market_0 19 rfl rfl)
theorem dX1_market_22 : decode cX1_market 22 = .ok (.getfield 106, 3) := dk_180 0 106 (dk_at dksX1_market_1 0 rfl rfl)
theorem dX1_market_25 : decode cX1_market 25 = .ok (.iload_n 2, 1) := dk_28 (dk_at dksX1_market_1 3 rfl rfl)
theorem dX1_market_26 : decode cX1_market 26 = .ok (.aaload, 1) := dk_50 (dk_at dksX1_market_1 4 rfl rfl)
theorem dX1_market_27 : decode cX1_market 27 = .ok (.invokevirtual 202, 3) := dk_182 0 202 (dk_at dksX1_market_1 5 rfl rfl)
theorem dX1_market_30 : decode cX1_market 30 = .ok (.ifCond .eq 8, 3) := dk_153 0 8 (dk_at dksX1_market_1 8 rfl rfl)
theorem dX1_market_33 : decode cX1_market 33 = .ok (.ldc 246, 2) := dk_18 246 (dk_at dksX1_market_1 11 rfl rfl)
theorem dX1_market_35 : decode cX1_market 35 = .ok (.goto 8, 3) := dk_167 0 8 (dk_at dksX1_market_1 13 rfl rfl)
theorem dX1_market_38 : decode cX1_market 38 = .ok (.aload_n 0, 1) := dk_42 (dk_at dksX1_market_1 16 rfl rfl)
theorem dX1_market_39 : decode cX1_market 39 = .ok (.iload_n 2, 1) := dk_28 (dk_at dksX1_market_1 17 rfl rfl)
theorem dX1_market_40 : decode cX1_market 40 = .ok (.invokevirtual 335, 3) := dk_182 1 79 (dk_at dksX1_market_1 18 rfl rfl)
theorem dX1_market_43 : decode cX1_market 43 = .ok (.iastore, 1) := dk_79 (dk_at dksX1_market_1 21 rfl rfl)
theorem dX1_market_44 : decode cX1_market 44 = .ok (.iinc 2 1, 3) := dk_132 2 1 (dk_at dksX1_market_2 0 rfl rfl)
theorem dX1_market_47 : decode cX1_market 47 = .ok (.goto (-45), 3) := dk_167 255 211 (dk_at dksX1_market_2 3 rfl rfl)
theorem dX1_market_50 : decode cX1_market 50 = .ok (.iconst (-1), 1) := dk_2 (dk_at dksX1_market_2 6 rfl rfl)
theorem dX1_market_51 : decode cX1_market 51 = .ok (.istore_n 2, 1) := dk_61 (dk_at dksX1_market_2 7 rfl rfl)
theorem dX1_market_52 : decode cX1_market 52 = .ok (.iconst 0, 1) := dk_3 (dk_at dksX1_market_2 8 rfl rfl)
theorem dX1_market_53 : decode cX1_market 53 = .ok (.istore_n 3, 1) := dk_62 (dk_at dksX1_market_2 9 rfl rfl)
theorem dX1_market_54 : decode cX1_market 54 = .ok (.iconst 0, 1) := dk_3 (dk_at dksX1_market_2 10 rfl rfl)
theorem dX1_market_55 : decode cX1_market 55 = .ok (.istore 4, 2) := dk_54 4 (dk_at dksX1_market_2 11 rfl rfl)
theorem dX1_market_57 : decode cX1_market 57 = .ok (.iload 4, 2) := dk_21 4 (dk_at dksX1_market_2 13 rfl rfl)
theorem dX1_market_59 : decode cX1_market 59 = .ok (.sipush 300, 3) := dk_17 1 44 (dk_at dksX1_market_2 15 rfl rfl)
theorem dX1_market_62 : decode cX1_market 62 = .ok (.if_icmp .ge 70, 3) := dk_162 0 70 (dk_at dksX1_market_2 18 rfl rfl)
theorem dX1_market_65 : decode cX1_market 65 = .ok (.iconst 0, 1) := dk_3 (dk_at dksX1_market_2 21 rfl rfl)
theorem dX1_market_66 : decode cX1_market 66 = .ok (.istore 5, 2) := dk_54 5 (dk_at dksX1_market_2 22 rfl rfl)
theorem dX1_market_68 : decode cX1_market 68 = .ok (.iconst 0, 1) := dk_3 (dk_at dksX1_market_3 0 rfl rfl)
theorem dX1_market_69 : decode cX1_market 69 = .ok (.istore 6, 2) := dk_54 6 (dk_at dksX1_market_3 1 rfl rfl)
theorem dX1_market_71 : decode cX1_market 71 = .ok (.iload 6, 2) := dk_21 6 (dk_at dksX1_market_3 3 rfl rfl)
theorem dX1_market_73 : decode cX1_market 73 = .ok (.aload_n 0, 1) := dk_42 (dk_at dksX1_market_3 5 rfl rfl)
theorem dX1_market_74 : decode cX1_market 74 = .ok (.getfield 21, 3) := dk_180 0 21 (dk_at dksX1_market_3 6 rfl rfl)
theorem dX1_market_77 : decode cX1_market 77 = .ok (.getfield 103, 3) := dk_180 0 103 (dk_at dksX1_market_3 9 rfl rfl)
theorem dX1_market_80 : decode cX1_market 80 = .ok (.if_icmp .ge 31, 3) := dk_162 0 31 (dk_at dksX1_market_3 12 rfl rfl)
theorem dX1_market_83 : decode cX1_market 83 = .ok (.iload 5, 2) := dk_21 5 (dk_at dksX1_market_3 15 rfl rfl)
theorem dX1_market_85 : decode cX1_market 85 = .ok (.aload_n 0, 1) := dk_42 (dk_at dksX1_market_3 17 rfl rfl)
theorem dX1_market_86 : decode cX1_market 86 = .ok (.getfield 48, 3) := dk_180 0 48 (dk_at dksX1_market_3 18 rfl rfl)
theorem dX1_market_89 : decode cX1_market 89 = .ok (.iload 6, 2) := dk_21 6 (dk_at dksX1_market_3 21 rfl rfl)
theorem dX1_market_91 : decode cX1_market 91 = .ok (.iaload, 1) := dk_46 (dk_at dksX1_market_3 23 rfl rfl)
theorem dX1_market_92 : decode cX1_market 92 = .ok (.iload 4, 2) := dk_21 4 (dk_at dksX1_market_4 0 rfl rfl)
theorem dX1_market_94 : decode cX1_market 94 = .ok (.if_icmp .ne 7, 3) := dk_160 0 7 (dk_at dksX1_market_4 2 rfl rfl)
theorem dX1_market_97 : decode cX1_market 97 = .ok (.iconst 1, 1) := dk_4 (dk_at dksX1_market_4 5 rfl rfl)
theorem dX1_market_98 : decode cX1_market 98 = .ok (.goto 4, 3) := dk_167 0 4 (dk_at dksX1_market_4 6 rfl rfl)
theorem dX1_market_101 : decode cX1_market 101 = .ok (.iconst 0, 1) := dk_3 (dk_at dksX1_market_4 9 rfl rfl)
theorem dX1_market_102 : decode cX1_market 102 = .ok (.iadd, 1) := dk_96 (dk_at dksX1_market_4 10 rfl rfl)
theorem dX1_market_103 : decode cX1_market 103 = .ok (.istore 5, 2) := dk_54 5 (dk_at dksX1_market_4 11 rfl rfl)
theorem dX1_market_105 : decode cX1_market 105 = .ok (.iinc 6 1, 3) := dk_132 6 1 (dk_at dksX1_market_4 13 rfl rfl)
theorem dX1_market_108 : decode cX1_market 108 = .ok (.goto (-37), 3) := dk_167 255 219 (dk_at dksX1_market_4 16 rfl rfl)
theorem dX1_market_111 : decode cX1_market 111 = .ok (.iload 5, 2) := dk_21 5 (dk_at dksX1_market_4 19 rfl rfl)
theorem dX1_market_113 : decode cX1_market 113 = .ok (.iload_n 3, 1) := dk_29 (dk_at dksX1_market_4 21 rfl rfl)
theorem dX1_market_114 : decode cX1_market 114 = .ok (.if_icmp .gt 6, 3) := dk_163 0 6 (dk_at dksX1_market_5 0 rfl rfl)
theorem dX1_market_117 : decode cX1_market 117 = .ok (.goto 9, 3) := dk_167 0 9 (dk_at dksX1_market_5 3 rfl rfl)
theorem dX1_market_120 : decode cX1_market 120 = .ok (.iload 5, 2) := dk_21 5 (dk_at dksX1_market_5 6 rfl rfl)
theorem dX1_market_122 : decode cX1_market 122 = .ok (.istore_n 3, 1) := dk_62 (dk_at dksX1_market_5 8 rfl rfl)
theorem dX1_market_123 : decode cX1_market 123 = .ok (.iload 4, 2) := dk_21 4 (dk_at dksX1_market_5 9 rfl rfl)
theorem dX1_market_125 : decode cX1_market 125 = .ok (.istore_n 2, 1) := dk_61 (dk_at dksX1_market_5 11 rfl rfl)
theorem dX1_market_126 : decode cX1_market 126 = .ok (.iinc 4 1, 3) := dk_132 4 1 (dk_at dksX1_market_5 12 rfl rfl)
theorem dX1_market_129 : decode cX1_market 129 = .ok (.goto (-72), 3) := dk_167 255 184 (dk_at dksX1_market_5 15 rfl rfl)
theorem dX1_market_132 : decode cX1_market 132 = .ok (.iload_n 1, 1) := dk_27 (dk_at dksX1_market_5 18 rfl rfl)
theorem dX1_market_133 : decode cX1_market 133 = .ok (.ifCond .eq 7, 3) := dk_153 0 7 (dk_at dksX1_market_5 19 rfl rfl)
theorem dX1_market_136 : decode cX1_market 136 = .ok (.iload_n 3, 1) := dk_29 (dk_at dksX1_market_5 22 rfl rfl)
theorem dX1_market_137 : decode cX1_market 137 = .ok (.goto 4, 3) := dk_167 0 4 (dk_at dksX1_market_6 0 rfl rfl)
theorem dX1_market_140 : decode cX1_market 140 = .ok (.iload_n 2, 1) := dk_28 (dk_at dksX1_market_6 3 rfl rfl)
theorem dX1_market_141 : decode cX1_market 141 = .ok (.ireturn, 1) := dk_172 (dk_at dksX1_market_6 4 rfl rfl)
abbrev cX1_poles : ByteArray := prog_1_method_58_code
def yX1_poles : MethodName := ⟨RX1, "poles", "()I"⟩
def dkwX1_poles_5 : List UInt8 := [153, 0, 5, 28, 60, 132, 2, 1, 167, 255, 138, 27, 172]
abbrev dktX1_poles_5 : List UInt8 := dkwX1_poles_5 ++ []
def dkwX1_poles_4 : List UInt8 := [153, 0, 7, 4, 167, 0, 4, 3, 62, 132, 5, 1, 167, 255, 208, 132, 4, 1, 167, 255, 187, 29]
abbrev dktX1_poles_4 : List UInt8 := dkwX1_poles_4 ++ dktX1_poles_5
def dkwX1_poles_3 : List UInt8 := [180, 0, 21, 180, 1, 100, 21, 4, 50, 42, 180, 0, 21, 180, 1, 100, 21, 5, 50, 28, 182, 1, 113]
abbrev dktX1_poles_3 : List UInt8 := dkwX1_poles_3 ++ dktX1_poles_4
def dkwX1_poles_2 : List UInt8 := [180, 1, 97, 162, 0, 63, 3, 54, 5, 21, 5, 21, 4, 162, 0, 47, 29, 153, 0, 35, 42, 42]
abbrev dktX1_poles_2 : List UInt8 := dkwX1_poles_2 ++ dktX1_poles_3
def dkwX1_poles_1 : List UInt8 := [184, 1, 117, 27, 184, 1, 117, 161, 0, 6, 167, 0, 86, 4, 62, 3, 54, 4, 21, 4, 42, 180, 0, 21]
abbrev dktX1_poles_1 : List UInt8 := dkwX1_poles_1 ++ dktX1_poles_2
def dkwX1_poles_0 : List UInt8 := [2, 60, 3, 61, 28, 4, 42, 180, 0, 21, 180, 0, 87, 120, 162, 0, 111, 27, 2, 159, 0, 17, 28]
abbrev dktX1_poles_0 : List UInt8 := dkwX1_poles_0 ++ dktX1_poles_1
theorem dksX1_poles_0 : cX1_poles.data.toList.drop 0 = dktX1_poles_0 := by decide +kernel
theorem dksX1_poles_1 : cX1_poles.data.toList.drop 23 = dktX1_poles_1 := dk_seg dksX1_poles_0 23 rfl rfl
theorem dksX1_poles_2 : cX1_poles.data.toList.drop 47 = dktX1_poles_2 := dk_seg dksX1_poles_1 24 rfl rfl
theorem dksX1_poles_3 : cX1_poles.data.toList.drop 69 = dktX1_poles_3 := dk_seg dksX1_poles_2 22 rfl rfl
theorem dksX1_poles_4 : cX1_poles.data.toList.drop 92 = dktX1_poles_4 := dk_seg dksX1_poles_3 23 rfl rfl
theorem dksX1_poles_5 : cX1_poles.data.toList.drop 114 = dktX1_poles_5 := dk_seg dksX1_poles_4 22 rfl rfl
theorem dX1_poles_0 : decode cX1_poles 0 = .ok (.iconst (-1), 1) := dk_2 (dk_at dksX1_poles_0 0 rfl rfl)
theorem dX1_poles_1 : decode cX1_poles 1 = .ok (.istore_n 1, 1) := dk_60 (dk_at dksX1_poles_0 1 rfl rfl)
theorem dX1_poles_2 : decode cX1_poles 2 = .ok (.iconst 0, 1) := dk_3 (dk_at dksX1_poles_0 2 rfl rfl)
theorem dX1_poles_3 : decode cX1_poles 3 = .ok (.istore_n 2, 1) := dk_61 (dk_at dksX1_poles_0 3 rfl rfl)
theorem dX1_poles_4 : decode cX1_poles 4 = .ok (.iload_n 2, 1) := dk_28 (dk_at dksX1_poles_0 4 rfl rfl)
theorem dX1_poles_5 : decode cX1_poles 5 = .ok (.iconst 1, 1) := dk_4 (dk_at dksX1_poles_0 5 rfl rfl)
theorem dX1_poles_6 : decode cX1_poles 6 = .ok (.aload_n 0, 1) := dk_42 (dk_at dksX1_poles_0 6 rfl rfl)
theorem dX1_poles_7 : decode cX1_poles 7 = .ok (.getfield 21, 3) := dk_180 0 21 (dk_at dksX1_poles_0 7 rfl rfl)
theorem dX1_poles_10 : decode cX1_poles 10 = .ok (.getfield 87, 3) := dk_180 0 87 (dk_at dksX1_poles_0 10 rfl rfl)
theorem dX1_poles_13 : decode cX1_poles 13 = .ok (.ishl, 1) := dk_120 (dk_at dksX1_poles_0 13 rfl rfl)
theorem dX1_poles_14 : decode cX1_poles 14 = .ok (.if_icmp .ge 111, 3) := dk_162 0 111 (dk_at dksX1_poles_0 14 rfl rfl)
theorem dX1_poles_17 : decode cX1_poles 17 = .ok (.iload_n 1, 1) := dk_27 (dk_at dksX1_poles_0 17 rfl rfl)
theorem dX1_poles_18 : decode cX1_poles 18 = .ok (.iconst (-1), 1) := dk_2 (dk_at dksX1_poles_0 18 rfl rfl)
theorem dX1_poles_19 : decode cX1_poles 19 = .ok (.if_icmp .eq 17, 3) := dk_159 0 17 (dk_at dksX1_poles_0 19 rfl rfl)
theorem dX1_poles_22 : decode cX1_poles 22 = .ok (.iload_n 2, 1) := dk_28 (dk_at dksX1_poles_0 22 rfl rfl)
theorem dX1_poles_23 : decode cX1_poles 23 = .ok (.invokestatic 373, 3) := dk_184 1 117 (dk_at dksX1_poles_1 0 rfl rfl)
theorem dX1_poles_26 : decode cX1_poles 26 = .ok (.iload_n 1, 1) := dk_27 (dk_at dksX1_poles_1 3 rfl rfl)
theorem dX1_poles_27 : decode cX1_poles 27 = .ok (.invokestatic 373, 3) := dk_184 1 117 (dk_at dksX1_poles_1 4 rfl rfl)
theorem dX1_poles_30 : decode cX1_poles 30 = .ok (.if_icmp .lt 6, 3) := dk_161 0 6 (dk_at dksX1_poles_1 7 rfl rfl)
theorem dX1_poles_33 : decode cX1_poles 33 = .ok (.goto 86, 3) := dk_167 0 86 (dk_at dksX1_poles_1 10 rfl rfl)
theorem dX1_poles_36 : decode cX1_poles 36 = .ok (.iconst 1, 1) := dk_4 (dk_at dksX1_poles_1 13 rfl rfl)
theorem dX1_poles_37 : decode cX1_poles 37 = .ok (.istore_n 3, 1) := dk_62 (dk_at dksX1_poles_1 14 rfl rfl)
theorem dX1_poles_38 : decode cX1_poles 38 = .ok (.iconst 0, 1) := dk_3 (dk_at dksX1_poles_1 15 rfl rfl)
theorem dX1_poles_39 : decode cX1_poles 39 = .ok (.istore 4, 2) := dk_54 4 (dk_at dksX1_poles_1 16 rfl rfl)
theorem dX1_poles_41 : decode cX1_poles 41 = .ok (.iload 4, 2) := dk_21 4 (dk_at dksX1_poles_1 18 rfl rfl)
theorem dX1_poles_43 : decode cX1_poles 43 = .ok (.aload_n 0, 1) := dk_42 (dk_at dksX1_poles_1 20 rfl rfl)
theorem dX1_poles_44 : decode cX1_poles 44 = .ok (.getfield 21, 3) := dk_180 0 21 (dk_at dksX1_poles_1 21 rfl rfl)
theorem dX1_poles_47 : decode cX1_poles 47 = .ok (.getfield 353, 3) := dk_180 1 97 (dk_at dksX1_poles_2 0 rfl rfl)
theorem dX1_poles_50 : decode cX1_poles 50 = .ok (.if_icmp .ge 63, 3) := dk_162 0 63 (dk_at dksX1_poles_2 3 rfl rfl)
theorem dX1_poles_53 : decode cX1_poles 53 = .ok (.iconst 0, 1) := dk_3 (dk_at dksX1_poles_2 6 rfl rfl)
theorem dX1_poles_54 : decode cX1_poles 54 = .ok (.istore 5, 2) := dk_54 5 (dk_at dksX1_poles_2 7 rfl rfl)
theorem dX1_poles_56 : decode cX1_poles 56 = .ok (.iload 5, 2) := dk_21 5 (dk_at dksX1_poles_2 9 rfl rfl)
theorem dX1_poles_58 : decode cX1_poles 58 = .ok (.iload 4, 2) := dk_21 4 (dk_at dksX1_poles_2 11 rfl rfl)
theorem dX1_poles_60 : decode cX1_poles 60 = .ok (.if_icmp .ge 47, 3) := dk_162 0 47 (dk_at dksX1_poles_2 13 rfl rfl)
theorem dX1_poles_63 : decode cX1_poles 63 = .ok (.iload_n 3, 1) := dk_29 (dk_at dksX1_poles_2 16 rfl rfl)
theorem dX1_poles_64 : decode cX1_poles 64 = .ok (.ifCond .eq 35, 3) := dk_153 0 35 (dk_at dksX1_poles_2 17 rfl rfl)
theorem dX1_poles_67 : decode cX1_poles 67 = .ok (.aload_n 0, 1) := dk_42 (dk_at dksX1_poles_2 20 rfl rfl)
theorem dX1_poles_68 : decode cX1_poles 68 = .ok (.aload_n 0, 1) := dk_42 (dk_at dksX1_poles_2 21 rfl rfl)
theorem dX1_poles_69 : decode cX1_poles 69 = .ok (.getfield 21, 3) := dk_180 0 21 (dk_at dksX1_poles_3 0 rfl rfl)
theorem dX1_poles_72 : decode cX1_poles 72 = .ok (.getfield 356, 3) := dk_180 1 100 (dk_at dksX1_poles_3 3 rfl rfl)
theorem dX1_poles_75 : decode cX1_poles 75 = .ok (.iload 4, 2) := dk_21 4 (dk_at dksX1_poles_3 6 rfl rfl)
theorem dX1_poles_77 : decode cX1_poles 77 = .ok (.aaload, 1) := dk_50 (dk_at dksX1_poles_3 8 rfl rfl)
theorem dX1_poles_78 : decode cX1_poles 78 = .ok (.aload_n 0, 1) := dk_42 (dk_at dksX1_poles_3 9 rfl rfl)
theorem dX1_poles_79 : decode cX1_poles 79 = .ok (.getfield 21, 3) := dk_180 0 21 (dk_at dksX1_poles_3 10 rfl rfl)
theorem dX1_poles_82 : decode cX1_poles 82 = .ok (.getfield 356, 3) := dk_180 1 100 (dk_at dksX1_poles_3 13 rfl rfl)
theorem dX1_poles_85 : decode cX1_poles 85 = .ok (.iload 5, 2) := dk_21 5 (dk_at dksX1_poles_3 16 rfl rfl)
theorem dX1_poles_87 : decode cX1_poles 87 = .ok (.aaload, 1) := dk_50 (dk_at dksX1_poles_3 18 rfl rfl)
theorem dX1_poles_88 : decode cX1_poles 88 = .ok (.iload_n 2, 1) := dk_28 (dk_at dksX1_poles_3 19 rfl rfl)
theorem dX1_poles_89 : decode cX1_poles 89 = .ok (.invokevirtual 369, 3) := dk_182 1 113 (dk_at dksX1_poles_3 20 rfl rfl)
theorem dX1_poles_92 : decode cX1_poles 92 = .ok (.ifCond .eq 7, 3) := dk_153 0 7 (dk_at dksX1_poles_4 0 rfl rfl)
theorem dX1_poles_95 : decode cX1_poles 95 = .ok (.iconst 1, 1) := dk_4 (dk_at dksX1_poles_4 3 rfl rfl)
theorem dX1_poles_96 : decode cX1_poles 96 = .ok (.goto 4, 3) := dk_167 0 4 (dk_at dksX1_poles_4 4 rfl rfl)
theorem dX1_poles_99 : decode cX1_poles 99 = .ok (.iconst 0, 1) := dk_3 (dk_at dksX1_poles_4 7 rfl rfl)
theorem dX1_poles_100 : decode cX1_poles 100 = .ok (.istore_n 3, 1) := dk_62 (dk_at dksX1_poles_4 8 rfl rfl)
theorem dX1_poles_101 : decode cX1_poles 101 = .ok (.iinc 5 1, 3) := dk_132 5 1 (dk_at dksX1_poles_4 9 rfl rfl)
theorem dX1_poles_104 : decode cX1_poles 104 = .ok (.goto (-48), 3) := dk_167 255 208 (dk_at dksX1_poles_4 12 rfl rfl)
theorem dX1_poles_107 : decode cX1_poles 107 = .ok (.iinc 4 1, 3) := dk_132 4 1 (dk_at dksX1_poles_4 15 rfl rfl)
theorem dX1_poles_110 : decode cX1_poles 110 = .ok (.goto (-69), 3) := dk_167 255 187 (dk_at dksX1_poles_4 18 rfl rfl)
theorem dX1_poles_113 : decode cX1_poles 113 = .ok (.iload_n 3, 1) := dk_29 (dk_at dksX1_poles_4 21 rfl rfl)
theorem dX1_poles_114 : decode cX1_poles 114 = .ok (.ifCond .eq 5, 3) := dk_153 0 5 (dk_at dksX1_poles_5 0 rfl rfl)
theorem dX1_poles_117 : decode cX1_poles 117 = .ok (.iload_n 2, 1) := dk_28 (dk_at dksX1_poles_5 3 rfl rfl)
theorem dX1_poles_118 : decode cX1_poles 118 = .ok (.istore_n 1, 1) := dk_60 (dk_at dksX1_poles_5 4 rfl rfl)
theorem dX1_poles_119 : decode cX1_poles 119 = .ok (.iinc 2 1, 3) := dk_132 2 1 (dk_at dksX1_poles_5 5 rfl rfl)
theorem dX1_poles_122 : decode cX1_poles 122 = .ok (.goto (-118), 3) := dk_167 255 138 (dk_at dksX1_poles_5 8 rfl rfl)
theorem dX1_poles_125 : decode cX1_poles 125 = .ok (.iload_n 1, 1) := dk_27 (dk_at dksX1_poles_5 11 rfl rfl)
theorem dX1_poles_126 : decode cX1_poles 126 = .ok (.ireturn, 1) := dk_172 (dk_at dksX1_poles_5 12 rfl rfl)
abbrev cX1_areApart : ByteArray := prog_1_method_56_code
def yX1_areApart : MethodName := ⟨RX1, "areApart", "(LGlacierMail$Section;LGlacierMail$Section;I)Z"⟩
def dkwX1_areApart_2 : List UInt8 := [132, 4, 1, 167, 255, 212, 3, 172]
abbrev dktX1_areApart_2 : List UInt8 := dkwX1_areApart_2 ++ []
def dkwX1_areApart_1 : List UInt8 := [160, 0, 22, 43, 180, 1, 108, 21, 4, 46, 44, 180, 1, 108, 21, 4, 46, 159, 0, 5, 4, 172]
abbrev dktX1_areApart_1 : List UInt8 := dkwX1_areApart_1 ++ dktX1_areApart_2
def dkwX1_areApart_0 : List UInt8 := [3, 54, 4, 21, 4, 42, 180, 0, 21, 180, 0, 87, 162, 0, 38, 29, 21, 4, 122, 4, 126, 4]
abbrev dktX1_areApart_0 : List UInt8 := dkwX1_areApart_0 ++ dktX1_areApart_1
theorem dksX1_areApart_0 : cX1_areApart.data.toList.drop 0 = dktX1_areApart_0 := by decide +kernel
theorem dksX1_areApart_1 : cX1_areApart.data.toList.drop 22 = dktX1_areApart_1 := dk_seg dksX1_areApart_0 22 rfl rfl
theorem dksX1_areApart_2 : cX1_areApart.data.toList.drop 44 = dktX1_areApart_2 := dk_seg dksX1_areApart_1 22 rfl rfl
theorem dX1_areApart_0 : decode cX1_areApart 0 = .ok (.iconst 0, 1) := dk_3 (dk_at dksX1_areApart_0 0 rfl rfl)
theorem dX1_areApart_1 : decode cX1_areApart 1 = .ok (.istore 4, 2) := dk_54 4 (dk_at dksX1_areApart_0 1 rfl rfl)
theorem dX1_areApart_3 : decode cX1_areApart 3 = .ok (.iload 4, 2) := dk_21 4 (dk_at dksX1_areApart_0 3 rfl rfl)
theorem dX1_areApart_5 : decode cX1_areApart 5 = .ok (.aload_n 0, 1) := dk_42 (dk_at dksX1_areApart_0 5 rfl rfl)
theorem dX1_areApart_6 : decode cX1_areApart 6 = .ok (.getfield 21, 3) := dk_180 0 21 (dk_at dksX1_areApart_0 6 rfl rfl)
theorem dX1_areApart_9 : decode cX1_areApart 9 = .ok (.getfield 87, 3) := dk_180 0 87 (dk_at dksX1_areApart_0 9 rfl rfl)
theorem dX1_areApart_12 : decode cX1_areApart 12 = .ok (.if_icmp .ge 38, 3) := dk_162 0 38 (dk_at dksX1_areApart_0 12 rfl rfl)
theorem dX1_areApart_15 : decode cX1_areApart 15 = .ok (.iload_n 3, 1) := dk_29 (dk_at dksX1_areApart_0 15 rfl rfl)
theorem dX1_areApart_16 : decode cX1_areApart 16 = .ok (.iload 4, 2) := dk_21 4 (dk_at dksX1_areApart_0 16 rfl rfl)
theorem dX1_areApart_18 : decode cX1_areApart 18 = .ok (.ishr, 1) := dk_122 (dk_at dksX1_areApart_0 18 rfl rfl)
theorem dX1_areApart_19 : decode cX1_areApart 19 = .ok (.iconst 1, 1) := dk_4 (dk_at dksX1_areApart_0 19 rfl rfl)
theorem dX1_areApart_20 : decode cX1_areApart 20 = .ok (.iand, 1) := dk_126 (dk_at dksX1_areApart_0 20 rfl rfl)
theorem dX1_areApart_21 : decode cX1_areApart 21 = .ok (.iconst 1, 1) := dk_4 (dk_at dksX1_areApart_0 21 rfl rfl)
theorem dX1_areApart_22 : decode cX1_areApart 22 = .ok (.if_icmp .ne 22, 3) := dk_160 0 22 (dk_at dksX1_areApart_1 0 rfl rfl)
theorem dX1_areApart_25 : decode cX1_areApart 25 = .ok (.aload_n 1, 1) := dk_43 (dk_at dksX1_areApart_1 3 rfl rfl)
theorem dX1_areApart_26 : decode cX1_areApart 26 = .ok (.getfield 364, 3) := dk_180 1 108 (dk_at dksX1_areApart_1 4 rfl rfl)
theorem dX1_areApart_29 : decode cX1_areApart 29 = .ok (.iload 4, 2) := dk_21 4 (dk_at dksX1_areApart_1 7 rfl rfl)
theorem dX1_areApart_31 : decode cX1_areApart 31 = .ok (.iaload, 1) := dk_46 (dk_at dksX1_areApart_1 9 rfl rfl)
theorem dX1_areApart_32 : decode cX1_areApart 32 = .ok (.aload_n 2, 1) := dk_44 (dk_at dksX1_areApart_1 10 rfl rfl)
theorem dX1_areApart_33 : decode cX1_areApart 33 = .ok (.getfield 364, 3) := dk_180 1 108 (dk_at dksX1_areApart_1 11 rfl rfl)
theorem dX1_areApart_36 : decode cX1_areApart 36 = .ok (.iload 4, 2) := dk_21 4 (dk_at dksX1_areApart_1 14 rfl rfl)
theorem dX1_areApart_38 : decode cX1_areApart 38 = .ok (.iaload, 1) := dk_46 (dk_at dksX1_areApart_1 16 rfl rfl)
theorem dX1_areApart_39 : decode cX1_areApart 39 = .ok (.if_icmp .eq 5, 3) := dk_159 0 5 (dk_at dksX1_areApart_1 17 rfl rfl)
theorem dX1_areApart_42 : decode cX1_areApart 42 = .ok (.iconst 1, 1) := dk_4 (dk_at dksX1_areApart_1 20 rfl rfl)
theorem dX1_areApart_43 : decode cX1_areApart 43 = .ok (.ireturn, 1) := dk_172 (dk_at dksX1_areApart_1 21 rfl rfl)
theorem dX1_areApart_44 : decode cX1_areApart 44 = .ok (.iinc 4 1, 3) := dk_132 4 1 (dk_at dksX1_areApart_2 0 rfl rfl)
theorem dX1_areApart_47 : decode cX1_areApart 47 = .ok (.goto (-44), 3) := dk_167 255 212 (dk_at dksX1_areApart_2 3 rfl rfl)
theorem dX1_areApart_50 : decode cX1_areApart 50 = .ok (.iconst 0, 1) := dk_3 (dk_at dksX1_areApart_2 6 rfl rfl)
theorem dX1_areApart_51 : decode cX1_areApart 51 = .ok (.ireturn, 1) := dk_172 (dk_at dksX1_areApart_2 7 rfl rfl)
abbrev cX1_order : ByteArray := prog_1_method_74_code
def yX1_order : MethodName := ⟨RX1, "order", "(I)I"⟩
def dkwX1_order_4 : List UInt8 := [167, 255, 197, 2, 172]
abbrev dktX1_order_4 : List UInt8 := dkwX1_order_4 ++ []
def dkwX1_order_3 : List UInt8 := [167, 0, 13, 28, 154, 0, 6, 21, 4, 172, 132, 2, 255, 132, 4, 1, 167, 255, 217, 132, 3, 1]
abbrev dktX1_order_3 : List UInt8 := dkwX1_order_3 ++ dktX1_order_4
def dkwX1_order_2 : List UInt8 := [21, 4, 42, 180, 0, 21, 180, 0, 103, 162, 0, 33, 42, 180, 0, 48, 21, 4, 46, 29, 159, 0, 6]
abbrev dktX1_order_2 : List UInt8 := dkwX1_order_2 ++ dktX1_order_3
def dkwX1_order_1 : List UInt8 := [132, 2, 1, 167, 255, 231, 27, 61, 4, 62, 29, 17, 1, 44, 162, 0, 58, 28, 155, 0, 54, 3, 54, 4]
abbrev dktX1_order_1 : List UInt8 := dkwX1_order_1 ++ dktX1_order_2
def dkwX1_order_0 : List UInt8 := [3, 61, 28, 42, 180, 0, 21, 180, 0, 103, 162, 0, 20, 42, 180, 0, 48, 28, 42, 28, 182, 1, 79, 79]
abbrev dktX1_order_0 : List UInt8 := dkwX1_order_0 ++ dktX1_order_1
theorem dksX1_order_0 : cX1_order.data.toList.drop 0 = dktX1_order_0 := by decide +kernel
theorem dksX1_order_1 : cX1_order.data.toList.drop 24 = dktX1_order_1 := dk_seg dksX1_order_0 24 rfl rfl
theorem dksX1_order_2 : cX1_order.data.toList.drop 48 = dktX1_order_2 := dk_seg dksX1_order_1 24 rfl rfl
theorem dksX1_order_3 : cX1_order.data.toList.drop 71 = dktX1_order_3 := dk_seg dksX1_order_2 23 rfl rfl
theorem dksX1_order_4 : cX1_order.data.toList.drop 93 = dktX1_order_4 := dk_seg dksX1_order_3 22 rfl rfl
theorem dX1_order_0 : decode cX1_order 0 = .ok (.iconst 0, 1) := dk_3 (dk_at dksX1_order_0 0 rfl rfl)
theorem dX1_order_1 : decode cX1_order 1 = .ok (.istore_n 2, 1) := dk_61 (dk_at dksX1_order_0 1 rfl rfl)
theorem dX1_order_2 : decode cX1_order 2 = .ok (.iload_n 2, 1) := dk_28 (dk_at dksX1_order_0 2 rfl rfl)
theorem dX1_order_3 : decode cX1_order 3 = .ok (.aload_n 0, 1) := dk_42 (dk_at dksX1_order_0 3 rfl rfl)
theorem dX1_order_4 : decode cX1_order 4 = .ok (.getfield 21, 3) := dk_180 0 21 (dk_at dksX1_order_0 4 rfl rfl)
theorem dX1_order_7 : decode cX1_order 7 = .ok (.getfield 103, 3) := dk_180 0 103 (dk_at dksX1_order_0 7 rfl rfl)
theorem dX1_order_10 : decode cX1_order 10 = .ok (.if_icmp .ge 20, 3) := dk_162 0 20 (dk_at dksX1_order_0 10 rfl rfl)
theorem dX1_order_13 : decode cX1_order 13 = .ok (.aload_n 0, 1) := dk_42 (dk_at dksX1_order_0 13 rfl rfl)
theorem dX1_order_14 : decode cX1_order 14 = .ok (.getfield 48, 3) := dk_180 0 48 (dk_at dksX1_order_0 14 rfl rfl)
theorem dX1_order_17 : decode cX1_order 17 = .ok (.iload_n 2, 1) := dk_28 (dk_at dksX1_order_0 17 rfl rfl)
theorem dX1_order_18 : decode cX1_order 18 = .ok (.aload_n 0, 1) := dk_42 (dk_at dksX1_order_0 18 rfl rfl)
theorem dX1_order_19 : decode cX1_order 19 = .ok (.iload_n 2, 1) := dk_28 (dk_at dksX1_order_0 19 rfl rfl)
theorem dX1_order_20 : decode cX1_order 20 = .ok (.invokevirtual 335, 3) := dk_182 1 79 (dk_at dksX1_order_0 20 rfl rfl)
theorem dX1_order_23 : decode cX1_order 23 = .ok (.iastore, 1) := dk_79 (dk_at dksX1_order_0 23 rfl rfl)
theorem dX1_order_24 : decode cX1_order 24 = .ok (.iinc 2 1, 3) := dk_132 2 1 (dk_at dksX1_order_1 0 rfl rfl)
theorem dX1_order_27 : decode cX1_order 27 = .ok (.goto (-25), 3) := dk_167 255 231 (dk_at dksX1_order_1 3 rfl rfl)
theorem dX1_order_30 : decode cX1_order 30 = .ok (.iload_n 1, 1) := dk_27 (dk_at dksX1_order_1 6 rfl rfl)
theorem dX1_order_31 : decode cX1_order 31 = .ok (.istore_n 2, 1) := dk_61 (dk_at dksX1_order_1 7 rfl rfl)
theorem dX1_order_32 : decode cX1_order 32 = .ok (.iconst 1, 1) := dk_4 (dk_at dksX1_order_1 8 rfl rfl)
theorem dX1_order_33 : decode cX1_order 33 = .ok (.istore_n 3, 1) := dk_62 (dk_at dksX1_order_1 9 rfl rfl)
theorem dX1_order_34 : decode cX1_order 34 = .ok (.iload_n 3, 1) := dk_29 (dk_at dksX1_order_1 10 rfl rfl)
theorem dX1_order_35 : decode cX1_order 35 = .ok (.sipush 300, 3) := dk_17 1 44 (dk_at dksX1_order_1 11 rfl rfl)
theorem dX1_order_38 : decode cX1_order 38 = .ok (.if_icmp .ge 58, 3) := dk_162 0 58 (dk_at dksX1_order_1 14 rfl rfl)
theorem dX1_order_41 : decode cX1_order 41 = .ok (.iload_n 2, 1) := dk_28 (dk_at dksX1_order_1 17 rfl rfl)
theorem dX1_order_42 : decode cX1_order 42 = .ok (.ifCond .lt 54, 3) := dk_155 0 54 (dk_at dksX1_order_1 18 rfl rfl)
theorem dX1_order_45 : decode cX1_order 45 = .ok (.iconst 0, 1) := dk_3 (dk_at dksX1_order_1 21 rfl rfl)
theorem dX1_order_46 : decode cX1_order 46 = .ok (.istore 4, 2) := dk_54 4 (dk_at dksX1_order_1 22 rfl rfl)
theorem dX1_order_48 : decode cX1_order 48 = .ok (.iload 4, 2) := dk_21 4 (dk_at dksX1_order_2 0 rfl rfl)
theorem dX1_order_50 : decode cX1_order 50 = .ok (.aload_n 0, 1) := dk_42 (dk_at dksX1_order_2 2 rfl rfl)
theorem dX1_order_51 : decode cX1_order 51 = .ok (.getfield 21, 3) := dk_180 0 21 (dk_at dksX1_order_2 3 rfl rfl)
theorem dX1_order_54 : decode cX1_order 54 = .ok (.getfield 103, 3) := dk_180 0 103 (dk_at dksX1_order_2 6 rfl rfl)
theorem dX1_order_57 : decode cX1_order 57 = .ok (.if_icmp .ge 33, 3) := dk_162 0 33 (dk_at dksX1_order_2 9 rfl rfl)
theorem dX1_order_60 : decode cX1_order 60 = .ok (.aload_n 0, 1) := dk_42 (dk_at dksX1_order_2 12 rfl rfl)
theorem dX1_order_61 : decode cX1_order 61 = .ok (.getfield 48, 3) := dk_180 0 48 (dk_at dksX1_order_2 13 rfl rfl)
theorem dX1_order_64 : decode cX1_order 64 = .ok (.iload 4, 2) := dk_21 4 (dk_at dksX1_order_2 16 rfl rfl)
theorem dX1_order_66 : decode cX1_order 66 = .ok (.iaload, 1) := dk_46 (dk_at dksX1_order_2 18 rfl rfl)
theorem dX1_order_67 : decode cX1_order 67 = .ok (.iload_n 3, 1) := dk_29 (dk_at dksX1_order_2 19 rfl rfl)
theorem dX1_order_68 : decode cX1_order 68 = .ok (.if_icmp .eq 6, 3) := dk_159 0 6 (dk_at dksX1_order_2 20 rfl rfl)
theorem dX1_order_71 : decode cX1_order 71 = .ok (.goto 13, 3) := dk_167 0 13 (dk_at dksX1_order_3 0 rfl rfl)
theorem dX1_order_74 : decode cX1_order 74 = .ok (.iload_n 2, 1) := dk_28 (dk_at dksX1_order_3 3 rfl rfl)
theorem dX1_order_75 : decode cX1_order 75 = .ok (.ifCond .ne 6, 3) := dk_154 0 6 (dk_at dksX1_order_3 4 rfl rfl)
theorem dX1_order_78 : decode cX1_order 78 = .ok (.iload 4, 2) := dk_21 4 (dk_at dksX1_order_3 7 rfl rfl)
theorem dX1_order_80 : decode cX1_order 80 = .ok (.ireturn, 1) := dk_172 (dk_at dksX1_order_3 9 rfl rfl)
theorem dX1_order_81 : decode cX1_order 81 = .ok (.iinc 2 (-1), 3) := dk_132 2 255 (dk_at dksX1_order_3 10 rfl rfl)
theorem dX1_order_84 : decode cX1_order 84 = .ok (.iinc 4 1, 3) := dk_132 4 1 (dk_at dksX1_order_3 13 rfl rfl)
theorem dX1_order_87 : decode cX1_order 87 = .ok (.goto (-39), 3) := dk_167 255 217 (dk_at dksX1_order_3 16 rfl rfl)
theorem dX1_order_90 : decode cX1_order 90 = .ok (.iinc 3 1, 3) := dk_132 3 1 (dk_at dksX1_order_3 19 rfl rfl)
theorem dX1_order_93 : decode cX1_order 93 = .ok (.goto (-59), 3) := dk_167 255 197 (dk_at dksX1_order_4 0 rfl rfl)
theorem dX1_order_96 : decode cX1_order 96 = .ok (.iconst (-1), 1) := dk_2 (dk_at dksX1_order_4 3 rfl rfl)
theorem dX1_order_97 : decode cX1_order 97 = .ok (.ireturn, 1) := dk_172 (dk_at dksX1_order_4 4 rfl rfl)
abbrev cX1_undo : ByteArray := prog_1_method_80_code
def yX1_undo : MethodName := ⟨RX1, "undo", "()Z"⟩
def dkwX1_undo_2 : List UInt8 := [182, 0, 148, 4, 172]
abbrev dktX1_undo_2 : List UInt8 := dkwX1_undo_2 ++ []
def dkwX1_undo_1 : List UInt8 := [16, 12, 96, 4, 100, 16, 12, 112, 181, 1, 16, 42, 180, 0, 21, 42, 180, 0, 28, 42, 180, 1, 16, 50]
abbrev dktX1_undo_1 : List UInt8 := dkwX1_undo_1 ++ dktX1_undo_2
def dkwX1_undo_0 : List UInt8 := [42, 180, 0, 152, 154, 0, 5, 3, 172, 42, 89, 180, 0, 152, 4, 100, 181, 0, 152, 42, 42, 180, 1, 16]
abbrev dktX1_undo_0 : List UInt8 := dkwX1_undo_0 ++ dktX1_undo_1
theorem dksX1_undo_0 : cX1_undo.data.toList.drop 0 = dktX1_undo_0 := by decide +kernel
theorem dksX1_undo_1 : cX1_undo.data.toList.drop 24 = dktX1_undo_1 := dk_seg dksX1_undo_0 24 rfl rfl
theorem dksX1_undo_2 : cX1_undo.data.toList.drop 48 = dktX1_undo_2 := dk_seg dksX1_undo_1 24 rfl rfl
theorem dX1_undo_0 : decode cX1_undo 0 = .ok (.aload_n 0, 1) := dk_42 (dk_at dksX1_undo_0 0 rfl rfl)
theorem dX1_undo_1 : decode cX1_undo 1 = .ok (.getfield 152, 3) := dk_180 0 152 (dk_at dksX1_undo_0 1 rfl rfl)
theorem dX1_undo_4 : decode cX1_undo 4 = .ok (.ifCond .ne 5, 3) := dk_154 0 5 (dk_at dksX1_undo_0 4 rfl rfl)
theorem dX1_undo_7 : decode cX1_undo 7 = .ok (.iconst 0, 1) := dk_3 (dk_at dksX1_undo_0 7 rfl rfl)
theorem dX1_undo_8 : decode cX1_undo 8 = .ok (.ireturn, 1) := dk_172 (dk_at dksX1_undo_0 8 rfl rfl)
theorem dX1_undo_9 : decode cX1_undo 9 = .ok (.aload_n 0, 1) := dk_42 (dk_at dksX1_undo_0 9 rfl rfl)
theorem dX1_undo_10 : decode cX1_undo 10 = .ok (.dup, 1) := dk_89 (dk_at dksX1_undo_0 10 rfl rfl)
theorem dX1_undo_11 : decode cX1_undo 11 = .ok (.getfield 152, 3) := dk_180 0 152 (dk_at dksX1_undo_0 11 rfl rfl)
theorem dX1_undo_14 : decode cX1_undo 14 = .ok (.iconst 1, 1) := dk_4 (dk_at dksX1_undo_0 14 rfl rfl)
theorem dX1_undo_15 : decode cX1_undo 15 = .ok (.isub, 1) := dk_100 (dk_at dksX1_undo_0 15 rfl rfl)
theorem dX1_undo_16 : decode cX1_undo 16 = .ok (.putfield 152, 3) := dk_181 0 152 (dk_at dksX1_undo_0 16 rfl rfl)
theorem dX1_undo_19 : decode cX1_undo 19 = .ok (.aload_n 0, 1) := dk_42 (dk_at dksX1_undo_0 19 rfl rfl)
theorem dX1_undo_20 : decode cX1_undo 20 = .ok (.aload_n 0, 1) := dk_42 (dk_at dksX1_undo_0 20 rfl rfl)
theorem dX1_undo_21 : decode cX1_undo 21 = .ok (.getfield 272, 3) := dk_180 1 16 (dk_at dksX1_undo_0 21 rfl rfl)
theorem dX1_undo_24 : decode cX1_undo 24 = .ok (.bipush 12, 2) := dk_16 12 (dk_at dksX1_undo_1 0 rfl rfl)
theorem dX1_undo_26 : decode cX1_undo 26 = .ok (.iadd, 1) := dk_96 (dk_at dksX1_undo_1 2 rfl rfl)
theorem dX1_undo_27 : decode cX1_undo 27 = .ok (.iconst 1, 1) := dk_4 (dk_at dksX1_undo_1 3 rfl rfl)
theorem dX1_undo_28 : decode cX1_undo 28 = .ok (.isub, 1) := dk_100 (dk_at dksX1_undo_1 4 rfl rfl)
theorem dX1_undo_29 : decode cX1_undo 29 = .ok (.bipush 12, 2) := dk_16 12 (dk_at dksX1_undo_1 5 rfl rfl)
theorem dX1_undo_31 : decode cX1_undo 31 = .ok (.irem, 1) := dk_112 (dk_at dksX1_undo_1 7 rfl rfl)
theorem dX1_undo_32 : decode cX1_undo 32 = .ok (.putfield 272, 3) := dk_181 1 16 (dk_at dksX1_undo_1 8 rfl rfl)
theorem dX1_undo_35 : decode cX1_undo 35 = .ok (.aload_n 0, 1) := dk_42 (dk_at dksX1_undo_1 11 rfl rfl)
theorem dX1_undo_36 : decode cX1_undo 36 = .ok (.getfield 21, 3) := dk_180 0 21 (dk_at dksX1_undo_1 12 rfl rfl)
theorem dX1_undo_39 : decode cX1_undo 39 = .ok (.aload_n 0, 1) := dk_42 (dk_at dksX1_undo_1 15 rfl rfl)
theorem dX1_undo_40 : decode cX1_undo 40 = .ok (.getfield 28, 3) := dk_180 0 28 (dk_at dksX1_undo_1 16 rfl rfl)
theorem dX1_undo_43 : decode cX1_undo 43 = .ok (.aload_n 0, 1) := dk_42 (dk_at dksX1_undo_1 19 rfl rfl)
theorem dX1_undo_44 : decode cX1_undo 44 = .ok (.getfield 272, 3) := dk_180 1 16 (dk_at dksX1_undo_1 20 rfl rfl)
theorem dX1_undo_47 : decode cX1_undo 47 = .ok (.aaload, 1) := dk_50 (dk_at dksX1_undo_1 23 rfl rfl)
theorem dX1_undo_48 : decode cX1_undo 48 = .ok (.invokevirtual 148, 3) := dk_182 0 148 (dk_at dksX1_undo_2 0 rfl rfl)
theorem dX1_undo_51 : decode cX1_undo 51 = .ok (.iconst 1, 1) := dk_4 (dk_at dksX1_undo_2 3 rfl rfl)
theorem dX1_undo_52 : decode cX1_undo 52 = .ok (.ireturn, 1) := dk_172 (dk_at dksX1_undo_2 4 rfl rfl)
abbrev cX1_image : ByteArray := prog_1_method_81_code
def yX1_image : MethodName := ⟨RX1, "image", "()V"⟩
def dkwX1_image_0 : List UInt8 := [42, 180, 0, 25, 42, 180, 0, 21, 182, 0, 148, 42, 4, 181, 1, 145, 177]
abbrev dktX1_image_0 : List UInt8 := dkwX1_image_0 ++ []
theorem dksX1_image_0 : cX1_image.data.toList.drop 0 = dktX1_image_0 := by decide +kernel
theorem dX1_image_0 : decode cX1_image 0 = .ok (.aload_n 0, 1) := dk_42 (dk_at dksX1_image_0 0 rfl rfl)
theorem dX1_image_1 : decode cX1_image 1 = .ok (.getfield 25, 3) := dk_180 0 25 (dk_at dksX1_image_0 1 rfl rfl)
theorem dX1_image_4 : decode cX1_image 4 = .ok (.aload_n 0, 1) := dk_42 (dk_at dksX1_image_0 4 rfl rfl)
theorem dX1_image_5 : decode cX1_image 5 = .ok (.getfield 21, 3) := dk_180 0 21 (dk_at dksX1_image_0 5 rfl rfl)
theorem dX1_image_8 : decode cX1_image 8 = .ok (.invokevirtual 148, 3) := dk_182 0 148 (dk_at dksX1_image_0 8 rfl rfl)
theorem dX1_image_11 : decode cX1_image 11 = .ok (.aload_n 0, 1) := dk_42 (dk_at dksX1_image_0 11 rfl rfl)
theorem dX1_image_12 : decode cX1_image 12 = .ok (.iconst 1, 1) := dk_4 (dk_at dksX1_image_0 12 rfl rfl)
theorem dX1_image_13 : decode cX1_image 13 = .ok (.putfield 401, 3) := dk_181 1 145 (dk_at dksX1_image_0 13 rfl rfl)
theorem dX1_image_16 : decode cX1_image 16 = .ok (.return_, 1) := dk_177 (dk_at dksX1_image_0 16 rfl rfl)
abbrev cX1_back : ByteArray := prog_1_method_82_code
def yX1_back : MethodName := ⟨RX1, "back", "()Z"⟩
def dkwX1_back_1 : List UInt8 := [181, 0, 152, 42, 2, 181, 0, 64, 4, 172]
abbrev dktX1_back_1 : List UInt8 := dkwX1_back_1 ++ []
def dkwX1_back_0 : List UInt8 := [42, 180, 1, 145, 154, 0, 5, 3, 172, 42, 180, 0, 21, 42, 180, 0, 25, 182, 0, 148, 42, 3]
abbrev dktX1_back_0 : List UInt8 := dkwX1_back_0 ++ dktX1_back_1
theorem dksX1_back_0 : cX1_back.data.toList.drop 0 = dktX1_back_0 := by decide +kernel
theorem dksX1_back_1 : cX1_back.data.toList.drop 22 = dktX1_back_1 := dk_seg dksX1_back_0 22 rfl rfl
theorem dX1_back_0 : decode cX1_back 0 = .ok (.aload_n 0, 1) := dk_42 (dk_at dksX1_back_0 0 rfl rfl)
theorem dX1_back_1 : decode cX1_back 1 = .ok (.getfield 401, 3) := dk_180 1 145 (dk_at dksX1_back_0 1 rfl rfl)
theorem dX1_back_4 : decode cX1_back 4 = .ok (.ifCond .ne 5, 3) := dk_154 0 5 (dk_at dksX1_back_0 4 rfl rfl)
theorem dX1_back_7 : decode cX1_back 7 = .ok (.iconst 0, 1) := dk_3 (dk_at dksX1_back_0 7 rfl rfl)
theorem dX1_back_8 : decode cX1_back 8 = .ok (.ireturn, 1) := dk_172 (dk_at dksX1_back_0 8 rfl rfl)
theorem dX1_back_9 : decode cX1_back 9 = .ok (.aload_n 0, 1) := dk_42 (dk_at dksX1_back_0 9 rfl rfl)
theorem dX1_back_10 : decode cX1_back 10 = .ok (.getfield 21, 3) := dk_180 0 21 (dk_at dksX1_back_0 10 rfl rfl)
theorem dX1_back_13 : decode cX1_back 13 = .ok (.aload_n 0, 1) := dk_42 (dk_at dksX1_back_0 13 rfl rfl)
theorem dX1_back_14 : decode cX1_back 14 = .ok (.getfield 25, 3) := dk_180 0 25 (dk_at dksX1_back_0 14 rfl rfl)
theorem dX1_back_17 : decode cX1_back 17 = .ok (.invokevirtual 148, 3) := dk_182 0 148 (dk_at dksX1_back_0 17 rfl rfl)
theorem dX1_back_20 : decode cX1_back 20 = .ok (.aload_n 0, 1) := dk_42 (dk_at dksX1_back_0 20 rfl rfl)
theorem dX1_back_21 : decode cX1_back 21 = .ok (.iconst 0, 1) := dk_3 (dk_at dksX1_back_0 21 rfl rfl)
theorem dX1_back_22 : decode cX1_back 22 = .ok (.putfield 152, 3) := dk_181 0 152 (dk_at dksX1_back_1 0 rfl rfl)
theorem dX1_back_25 : decode cX1_back 25 = .ok (.aload_n 0, 1) := dk_42 (dk_at dksX1_back_1 3 rfl rfl)
theorem dX1_back_26 : decode cX1_back 26 = .ok (.iconst (-1), 1) := dk_2 (dk_at dksX1_back_1 4 rfl rfl)
theorem dX1_back_27 : decode cX1_back 27 = .ok (.putfield 64, 3) := dk_181 0 64 (dk_at dksX1_back_1 5 rfl rfl)
theorem dX1_back_30 : decode cX1_back 30 = .ok (.iconst 1, 1) := dk_4 (dk_at dksX1_back_1 8 rfl rfl)
theorem dX1_back_31 : decode cX1_back 31 = .ok (.ireturn, 1) := dk_172 (dk_at dksX1_back_1 9 rfl rfl)
abbrev cX1_count : ByteArray := prog_1_method_83_code
def yX1_count : MethodName := ⟨RX1, "count", "(I)I"⟩
def dkwX1_count_11 : List UInt8 := [132, 3, 1, 167, 255, 205, 28, 172, 42, 180, 0, 152, 172, 2, 172]
abbrev dktX1_count_11 : List UInt8 := dkwX1_count_11 ++ []
def dkwX1_count_10 : List UInt8 := [182, 0, 195, 42, 180, 0, 21, 180, 0, 209, 182, 1, 71, 153, 0, 7, 4, 167, 0, 4, 3, 96, 61]
abbrev dktX1_count_10 : List UInt8 := dkwX1_count_10 ++ dktX1_count_11
def dkwX1_count_9 : List UInt8 := [42, 180, 0, 21, 180, 0, 103, 162, 0, 46, 28, 42, 180, 0, 37, 42, 180, 0, 21, 180, 0, 106, 29, 50]
abbrev dktX1_count_9 : List UInt8 := dkwX1_count_9 ++ dktX1_count_10
def dkwX1_count_8 : List UInt8 := [182, 0, 221, 153, 0, 7, 4, 167, 0, 4, 3, 96, 61, 132, 3, 1, 167, 255, 218, 28, 172, 3, 62, 29]
abbrev dktX1_count_8 : List UInt8 := dkwX1_count_8 ++ dktX1_count_9
def dkwX1_count_7 : List UInt8 := [3, 62, 29, 42, 180, 0, 21, 180, 0, 103, 162, 0, 33, 28, 42, 42, 180, 0, 21, 180, 0, 106, 29, 50]
abbrev dktX1_count_7 : List UInt8 := dkwX1_count_7 ++ dktX1_count_8
def dkwX1_count_6 : List UInt8 := [42, 180, 0, 21, 180, 1, 139, 172, 42, 180, 0, 21, 180, 1, 158, 172, 42, 180, 0, 21, 180, 1, 45, 172]
abbrev dktX1_count_6 : List UInt8 := dkwX1_count_6 ++ dktX1_count_7
def dkwX1_count_5 : List UInt8 := [42, 180, 0, 21, 180, 0, 209, 172, 42, 180, 0, 21, 180, 1, 152, 172, 42, 180, 0, 21, 180, 1, 155, 172]
abbrev dktX1_count_5 : List UInt8 := dkwX1_count_5 ++ dktX1_count_6
def dkwX1_count_4 : List UInt8 := [42, 180, 0, 21, 180, 1, 97, 172, 42, 180, 0, 21, 180, 0, 142, 172, 42, 180, 0, 21, 180, 0, 159, 172]
abbrev dktX1_count_4 : List UInt8 := dkwX1_count_4 ++ dktX1_count_5
def dkwX1_count_3 : List UInt8 := [42, 180, 0, 21, 180, 0, 96, 172, 42, 180, 0, 21, 180, 0, 103, 172, 42, 180, 0, 21, 180, 1, 58, 172]
abbrev dktX1_count_3 : List UInt8 := dkwX1_count_3 ++ dktX1_count_4
def dkwX1_count_2 : List UInt8 := [42, 180, 0, 21, 180, 0, 87, 172, 42, 180, 0, 21, 180, 0, 93, 172, 42, 180, 0, 21, 180, 1, 149, 172]
abbrev dktX1_count_2 : List UInt8 := dkwX1_count_2 ++ dktX1_count_3
def dkwX1_count_1 : List UInt8 := [170, 0, 0, 1, 57, 0, 0, 0, 0, 0, 0, 0, 17, 0, 0, 0, 85, 0, 0, 0, 93, 0, 0, 0, 101, 0, 0, 0, 109, 0, 0, 0, 117, 0, 0, 0, 125, 0, 0, 0, 133, 0, 0, 0, 141, 0, 0, 0, 149, 0, 0, 0, 157, 0, 0, 0, 165, 0, 0, 0, 173, 0, 0, 0, 181, 0, 0, 0, 189, 0, 0, 0, 197, 0, 0, 0, 205, 0, 0, 0, 250, 0, 0, 1, 52]
abbrev dktX1_count_1 : List UInt8 := dkwX1_count_1 ++ dktX1_count_2
def dkwX1_count_0 : List UInt8 := [3, 61, 27]
abbrev dktX1_count_0 : List UInt8 := dkwX1_count_0 ++ dktX1_count_1
theorem dksX1_count_0 : cX1_count.data.toList.drop 0 = dktX1_count_0 := by decide +kernel
theorem dksX1_count_1 : cX1_count.data.toList.drop 3 = dktX1_count_1 := dk_seg dksX1_count_0 3 rfl rfl
theorem dksX1_count_2 : cX1_count.data.toList.drop 88 = dktX1_count_2 := dk_seg dksX1_count_1 85 rfl rfl
theorem dksX1_count_3 : cX1_count.data.toList.drop 112 = dktX1_count_3 := dk_seg dksX1_count_2 24 rfl rfl
theorem dksX1_count_4 : cX1_count.data.toList.drop 136 = dktX1_count_4 := dk_seg dksX1_count_3 24 rfl rfl
theorem dksX1_count_5 : cX1_count.data.toList.drop 160 = dktX1_count_5 := dk_seg dksX1_count_4 24 rfl rfl
theorem dksX1_count_6 : cX1_count.data.toList.drop 184 = dktX1_count_6 := dk_seg dksX1_count_5 24 rfl rfl
theorem dksX1_count_7 : cX1_count.data.toList.drop 208 = dktX1_count_7 := dk_seg dksX1_count_6 24 rfl rfl
theorem dksX1_count_8 : cX1_count.data.toList.drop 232 = dktX1_count_8 := dk_seg dksX1_count_7 24 rfl rfl
theorem dksX1_count_9 : cX1_count.data.toList.drop 256 = dktX1_count_9 := dk_seg dksX1_count_8 24 rfl rfl
theorem dksX1_count_10 : cX1_count.data.toList.drop 280 = dktX1_count_10 := dk_seg dksX1_count_9 24 rfl rfl
theorem dksX1_count_11 : cX1_count.data.toList.drop 303 = dktX1_count_11 := dk_seg dksX1_count_10 23 rfl rfl
theorem dX1_count_0 : decode cX1_count 0 = .ok (.iconst 0, 1) := dk_3 (dk_at dksX1_count_0 0 rfl rfl)
theorem dX1_count_1 : decode cX1_count 1 = .ok (.istore_n 2, 1) := dk_61 (dk_at dksX1_count_0 1 rfl rfl)
theorem dX1_count_2 : decode cX1_count 2 = .ok (.iload_n 1, 1) := dk_27 (dk_at dksX1_count_0 2 rfl rfl)
theorem dX1_count_3 : decode cX1_count 3 = .ok (.tableswitch 313 0 17 #[85, 93, 101, 109, 117, 125, 133, 141, 149, 157, 165, 173, 181, 189, 197, 205, 250, 308], 85) := by decide +kernel
theorem dX1_count_88 : decode cX1_count 88 = .ok (.aload_n 0, 1) := dk_42 (dk_at dksX1_count_2 0 rfl rfl)
theorem dX1_count_89 : decode cX1_count 89 = .ok (.getfield 21, 3) := dk_180 0 21 (dk_at dksX1_count_2 1 rfl rfl)
theorem dX1_count_92 : decode cX1_count 92 = .ok (.getfield 87, 3) := dk_180 0 87 (dk_at dksX1_count_2 4 rfl rfl)
theorem dX1_count_95 : decode cX1_count 95 = .ok (.ireturn, 1) := dk_172 (dk_at dksX1_count_2 7 rfl rfl)
theorem dX1_count_96 : decode cX1_count 96 = .ok (.aload_n 0, 1) := dk_42 (dk_at dksX1_count_2 8 rfl rfl)
theorem dX1_count_97 : decode cX1_count 97 = .ok (.getfield 21, 3) := dk_180 0 21 (dk_at dksX1_count_2 9 rfl rfl)
theorem dX1_count_100 : decode cX1_count 100 = .ok (.getfield 93, 3) := dk_180 0 93 (dk_at dksX1_count_2 12 rfl rfl)
theorem dX1_count_103 : decode cX1_count 103 = .ok (.ireturn, 1) := dk_172 (dk_at dksX1_count_2 15 rfl rfl)
theorem dX1_count_104 : decode cX1_count 104 = .ok (.aload_n 0, 1) := dk_42 (dk_at dksX1_count_2 16 rfl rfl)
theorem dX1_count_105 : decode cX1_count 105 = .ok (.getfield 21, 3) := dk_180 0 21 (dk_at dksX1_count_2 17 rfl rfl)
theorem dX1_count_108 : decode cX1_count 108 = .ok (.getfield 405, 3) := dk_180 1 149 (dk_at dksX1_count_2 20 rfl rfl)
theorem dX1_count_111 : decode cX1_count 111 = .ok (.ireturn, 1) := dk_172 (dk_at dksX1_count_2 23 rfl rfl)
theorem dX1_count_112 : decode cX1_count 112 = .ok (.aload_n 0, 1) := dk_42 (dk_at dksX1_count_3 0 rfl rfl)
theorem dX1_count_113 : decode cX1_count 113 = .ok (.getfield 21, 3) := dk_180 0 21 (dk_at dksX1_count_3 1 rfl rfl)
theorem dX1_count_116 : decode cX1_count 116 = .ok (.getfield 96, 3) := dk_180 0 96 (dk_at dksX1_count_3 4 rfl rfl)
theorem dX1_count_119 : decode cX1_count 119 = .ok (.ireturn, 1) := dk_172 (dk_at dksX1_count_3 7 rfl rfl)
theorem dX1_count_120 : decode cX1_count 120 = .ok (.aload_n 0, 1) := dk_42 (dk_at dksX1_count_3 8 rfl rfl)
theorem dX1_count_121 : decode cX1_count 121 = .ok (.getfield 21, 3) := dk_180 0 21 (dk_at dksX1_count_3 9 rfl rfl)
theorem dX1_count_124 : decode cX1_count 124 = .ok (.getfield 103, 3) := dk_180 0 103 (dk_at dksX1_count_3 12 rfl rfl)
theorem dX1_count_127 : decode cX1_count 127 = .ok (.ireturn, 1) := dk_172 (dk_at dksX1_count_3 15 rfl rfl)
theorem dX1_count_128 : decode cX1_count 128 = .ok (.aload_n 0, 1) := dk_42 (dk_at dksX1_count_3 16 rfl rfl)
theorem dX1_count_129 : decode cX1_count 129 = .ok (.getfield 21, 3) := dk_180 0 21 (dk_at dksX1_count_3 17 rfl rfl)
theorem dX1_count_132 : decode cX1_count 132 = .ok (.getfield 314, 3) := dk_180 1 58 (dk_at dksX1_count_3 20 rfl rfl)
theorem dX1_count_135 : decode cX1_count 135 = .ok (.ireturn, 1) := dk_172 (dk_at dksX1_count_3 23 rfl rfl)
theorem dX1_count_136 : decode cX1_count 136 = .ok (.aload_n 0, 1) := dk_42 (dk_at dksX1_count_4 0 rfl rfl)
theorem dX1_count_137 : decode cX1_count 137 = .ok (.getfield 21, 3) := dk_180 0 21 (dk_at dksX1_count_4 1 rfl rfl)
theorem dX1_count_140 : decode cX1_count 140 = .ok (.getfield 353, 3) := dk_180 1 97 (dk_at dksX1_count_4 4 rfl rfl)
theorem dX1_count_143 : decode cX1_count 143 = .ok (.ireturn, 1) := dk_172 (dk_at dksX1_count_4 7 rfl rfl)
theorem dX1_count_144 : decode cX1_count 144 = .ok (.aload_n 0, 1) := dk_42 (dk_at dksX1_count_4 8 rfl rfl)
theorem dX1_count_145 : decode cX1_count 145 = .ok (.getfield 21, 3) := dk_180 0 21 (dk_at dksX1_count_4 9 rfl rfl)
theorem dX1_count_148 : decode cX1_count 148 = .ok (.getfield 142, 3) := dk_180 0 142 (dk_at dksX1_count_4 12 rfl rfl)
theorem dX1_count_151 : decode cX1_count 151 = .ok (.ireturn, 1) := dk_172 (dk_at dksX1_count_4 15 rfl rfl)
theorem dX1_count_152 : decode cX1_count 152 = .ok (.aload_n 0, 1) := dk_42 (dk_at dksX1_count_4 16 rfl rfl)
theorem dX1_count_153 : decode cX1_count 153 = .ok (.getfield 21, 3) := dk_180 0 21 (dk_at dksX1_count_4 17 rfl rfl)
theorem dX1_count_156 : decode cX1_count 156 = .ok (.getfield 159, 3) := dk_180 0 159 (dk_at dksX1_count_4 20 rfl rfl)
theorem dX1_count_159 : decode cX1_count 159 = .ok (.ireturn, 1) := dk_172 (dk_at dksX1_count_4 23 rfl rfl)
theorem dX1_count_160 : decode cX1_count 160 = .ok (.aload_n 0, 1) := dk_42 (dk_at dksX1_count_5 0 rfl rfl)
theorem dX1_count_161 : decode cX1_count 161 = .ok (.getfield 21, 3) := dk_180 0 21 (dk_at dksX1_count_5 1 rfl rfl)
theorem dX1_count_164 : decode cX1_count 164 = .ok (.getfield 209, 3) := dk_180 0 209 (dk_at dksX1_count_5 4 rfl rfl)
theorem dX1_count_167 : decode cX1_count 167 = .ok (.ireturn, 1) := dk_172 (dk_at dksX1_count_5 7 rfl rfl)
theorem dX1_count_168 : decode cX1_count 168 = .ok (.aload_n 0, 1) := dk_42 (dk_at dksX1_count_5 8 rfl rfl)
theorem dX1_count_169 : decode cX1_count 169 = .ok (.getfield 21, 3) := dk_180 0 21 (dk_at dksX1_count_5 9 rfl rfl)
theorem dX1_count_172 : decode cX1_count 172 = .ok (.getfield 408, 3) := dk_180 1 152 (dk_at dksX1_count_5 12 rfl rfl)
theorem dX1_count_175 : decode cX1_count 175 = .ok (.ireturn, 1) := dk_172 (dk_at dksX1_count_5 15 rfl rfl)
theorem dX1_count_176 : decode cX1_count 176 = .ok (.aload_n 0, 1) := dk_42 (dk_at dksX1_count_5 16 rfl rfl)
theorem dX1_count_177 : decode cX1_count 177 = .ok (.getfield 21, 3) := dk_180 0 21 (dk_at dksX1_count_5 17 rfl rfl)
theorem dX1_count_180 : decode cX1_count 180 = .ok (.getfield 411, 3) := dk_180 1 155 (dk_at dksX1_count_5 20 rfl rfl)
theorem dX1_count_183 : decode cX1_count 183 = .ok (.ireturn, 1) := dk_172 (dk_at dksX1_count_5 23 rfl rfl)
theorem dX1_count_184 : decode cX1_count 184 = .ok (.aload_n 0, 1) := dk_42 (dk_at dksX1_count_6 0 rfl rfl)
theorem dX1_count_185 : decode cX1_count 185 = .ok (.getfield 21, 3) := dk_180 0 21 (dk_at dksX1_count_6 1 rfl rfl)
theorem dX1_count_188 : decode cX1_count 188 = .ok (.getfield 395, 3) := dk_180 1 139 (dk_at dksX1_count_6 4 rfl rfl)
theorem dX1_count_191 : decode cX1_count 191 = .ok (.ireturn, 1) := dk_172 (dk_at dksX1_count_6 7 rfl rfl)
theorem dX1_count_192 : decode cX1_count 192 = .ok (.aload_n 0, 1) := dk_42 (dk_at dksX1_count_6 8 rfl rfl)
theorem dX1_count_193 : decode cX1_count 193 = .ok (.getfield 21, 3) := dk_180 0 21 (dk_at dksX1_count_6 9 rfl rfl)
theorem dX1_count_196 : decode cX1_count 196 = .ok (.getfield 414, 3) := dk_180 1 158 (dk_at dksX1_count_6 12 rfl rfl)
theorem dX1_count_199 : decode cX1_count 199 = .ok (.ireturn, 1) := dk_172 (dk_at dksX1_count_6 15 rfl rfl)
theorem dX1_count_200 : decode cX1_count 200 = .ok (.aload_n 0, 1) := dk_42 (dk_at dksX1_count_6 16 rfl rfl)
theorem dX1_count_201 : decode cX1_count 201 = .ok (.getfield 21, 3) := dk_180 0 21 (dk_at dksX1_count_6 17 rfl rfl)
theorem dX1_count_204 : decode cX1_count 204 = .ok (.getfield 301, 3) := dk_180 1 45 (dk_at dksX1_count_6 20 rfl rfl)
theorem dX1_count_207 : decode cX1_count 207 = .ok (.ireturn, 1) := dk_172 (dk_at dksX1_count_6 23 rfl rfl)
theorem dX1_count_208 : decode cX1_count 208 = .ok (.iconst 0, 1) := dk_3 (dk_at dksX1_count_7 0 rfl rfl)
theorem dX1_count_209 : decode cX1_count 209 = .ok (.istore_n 3, 1) := dk_62 (dk_at dksX1_count_7 1 rfl rfl)
theorem dX1_count_210 : decode cX1_count 210 = .ok (.iload_n 3, 1) := dk_29 (dk_at dksX1_count_7 2 rfl rfl)
theorem dX1_count_211 : decode cX1_count 211 = .ok (.aload_n 0, 1) := dk_42 (dk_at dksX1_count_7 3 rfl rfl)
theorem dX1_count_212 : decode cX1_count 212 = .ok (.getfield 21, 3) := dk_180 0 21 (dk_at dksX1_count_7 4 rfl rfl)
theorem dX1_count_215 : decode cX1_count 215 = .ok (.getfield 103, 3) := dk_180 0 103 (dk_at dksX1_count_7 7 rfl rfl)
theorem dX1_count_218 : decode cX1_count 218 = .ok (.if_icmp .ge 33, 3) := dk_162 0 33 (dk_at dksX1_count_7 10 rfl rfl)
theorem dX1_count_221 : decode cX1_count 221 = .ok (.iload_n 2, 1) := dk_28 (dk_at dksX1_count_7 13 rfl rfl)
theorem dX1_count_222 : decode cX1_count 222 = .ok (.aload_n 0, 1) := dk_42 (dk_at dksX1_count_7 14 rfl rfl)
theorem dX1_count_223 : decode cX1_count 223 = .ok (.aload_n 0, 1) := dk_42 (dk_at dksX1_count_7 15 rfl rfl)
theorem dX1_count_224 : decode cX1_count 224 = .ok (.getfield 21, 3) := dk_180 0 21 (dk_at dksX1_count_7 16 rfl rfl)
theorem dX1_count_227 : decode cX1_count 227 = .ok (.getfield 106, 3) := dk_180 0 106 (dk_at dksX1_count_7 19 rfl rfl)
theorem dX1_count_230 : decode cX1_count 230 = .ok (.iload_n 3, 1) := dk_29 (dk_at dksX1_count_7 22 rfl rfl)
theorem dX1_count_231 : decode cX1_count 231 = .ok (.aaload, 1) := dk_50 (dk_at dksX1_count_7 23 rfl rfl)
theorem dX1_count_232 : decode cX1_count 232 = .ok (.invokevirtual 221, 3) := dk_182 0 221 (dk_at dksX1_count_8 0 rfl rfl)
theorem dX1_count_235 : decode cX1_count 235 = .ok (.ifCond .eq 7, 3) := dk_153 0 7 (dk_at dksX1_count_8 3 rfl rfl)
theorem dX1_count_238 : decode cX1_count 238 = .ok (.iconst 1, 1) := dk_4 (dk_at dksX1_count_8 6 rfl rfl)
theorem dX1_count_239 : decode cX1_count 239 = .ok (.goto 4, 3) := dk_167 0 4 (dk_at dksX1_count_8 7 rfl rfl)
theorem dX1_count_242 : decode cX1_count 242 = .ok (.iconst 0, 1) := dk_3 (dk_at dksX1_count_8 10 rfl rfl)
theorem dX1_count_243 : decode cX1_count 243 = .ok (.iadd, 1) := dk_96 (dk_at dksX1_count_8 11 rfl rfl)
theorem dX1_count_244 : decode cX1_count 244 = .ok (.istore_n 2, 1) := dk_61 (dk_at dksX1_count_8 12 rfl rfl)
theorem dX1_count_245 : decode cX1_count 245 = .ok (.iinc 3 1, 3) := dk_132 3 1 (dk_at dksX1_count_8 13 rfl rfl)
theorem dX1_count_248 : decode cX1_count 248 = .ok (.goto (-38), 3) := dk_167 255 218 (dk_at dksX1_count_8 16 rfl rfl)
theorem dX1_count_251 : decode cX1_count 251 = .ok (.iload_n 2, 1) := dk_28 (dk_at dksX1_count_8 19 rfl rfl)
theorem dX1_count_252 : decode cX1_count 252 = .ok (.ireturn, 1) := dk_172 (dk_at dksX1_count_8 20 rfl rfl)
theorem dX1_count_253 : decode cX1_count 253 = .ok (.iconst 0, 1) := dk_3 (dk_at dksX1_count_8 21 rfl rfl)
theorem dX1_count_254 : decode cX1_count 254 = .ok (.istore_n 3, 1) := dk_62 (dk_at dksX1_count_8 22 rfl rfl)
theorem dX1_count_255 : decode cX1_count 255 = .ok (.iload_n 3, 1) := dk_29 (dk_at dksX1_count_8 23 rfl rfl)
theorem dX1_count_256 : decode cX1_count 256 = .ok (.aload_n 0, 1) := dk_42 (dk_at dksX1_count_9 0 rfl rfl)
theorem dX1_count_257 : decode cX1_count 257 = .ok (.getfield 21, 3) := dk_180 0 21 (dk_at dksX1_count_9 1 rfl rfl)
theorem dX1_count_260 : decode cX1_count 260 = .ok (.getfield 103, 3) := dk_180 0 103 (dk_at dksX1_count_9 4 rfl rfl)
theorem dX1_count_263 : decode cX1_count 263 = .ok (.if_icmp .ge 46, 3) := dk_162 0 46 (dk_at dksX1_count_9 7 rfl rfl)
theorem dX1_count_266 : decode cX1_count 266 = .ok (.iload_n 2, 1) := dk_28 (dk_at dksX1_count_9 10 rfl rfl)
theorem dX1_count_267 : decode cX1_count 267 = .ok (.aload_n 0, 1) := dk_42 (dk_at dksX1_count_9 11 rfl rfl)
theorem dX1_count_268 : decode cX1_count 268 = .ok (.getfield 37, 3) := dk_180 0 37 (dk_at dksX1_count_9 12 rfl rfl)
theorem dX1_count_271 : decode cX1_count 271 = .ok (.aload_n 0, 1) := dk_42 (dk_at dksX1_count_9 15 rfl rfl)
theorem dX1_count_272 : decode cX1_count 272 = .ok (.getfield 21, 3) := dk_180 0 21 (dk_at dksX1_count_9 16 rfl rfl)
theorem dX1_count_275 : decode cX1_count 275 = .ok (.getfield 106, 3) := dk_180 0 106 (dk_at dksX1_count_9 19 rfl rfl)
theorem dX1_count_278 : decode cX1_count 278 = .ok (.iload_n 3, 1) := dk_29 (dk_at dksX1_count_9 22 rfl rfl)
theorem dX1_count_279 : decode cX1_count 279 = .ok (.aaload, 1) := dk_50 (dk_at dksX1_count_9 23 rfl rfl)
theorem dX1_count_280 : decode cX1_count 280 = .ok (.invokevirtual 195, 3) := dk_182 0 195 (dk_at dksX1_count_10 0 rfl rfl)
theorem dX1_count_283 : decode cX1_count 283 = .ok (.aload_n 0, 1) := dk_42 (dk_at dksX1_count_10 3 rfl rfl)
theorem dX1_count_284 : decode cX1_count 284 = .ok (.getfield 21, 3) := dk_180 0 21 (dk_at dksX1_count_10 4 rfl rfl)
theorem dX1_count_287 : decode cX1_count 287 = .ok (.getfield 209, 3) := dk_180 0 209 (dk_at dksX1_count_10 7 rfl rfl)
theorem dX1_count_290 : decode cX1_count 290 = .ok (.invokevirtual 327, 3) := dk_182 1 71 (dk_at dksX1_count_10 10 rfl rfl)
theorem dX1_count_293 : decode cX1_count 293 = .ok (.ifCond .eq 7, 3) := dk_153 0 7 (dk_at dksX1_count_10 13 rfl rfl)
theorem dX1_count_296 : decode cX1_count 296 = .ok (.iconst 1, 1) := dk_4 (dk_at dksX1_count_10 16 rfl rfl)
theorem dX1_count_297 : decode cX1_count 297 = .ok (.goto 4, 3) := dk_167 0 4 (dk_at dksX1_count_10 17 rfl rfl)
theorem dX1_count_300 : decode cX1_count 300 = .ok (.iconst 0, 1) := dk_3 (dk_at dksX1_count_10 20 rfl rfl)
theorem dX1_count_301 : decode cX1_count 301 = .ok (.iadd, 1) := dk_96 (dk_at dksX1_count_10 21 rfl rfl)
theorem dX1_count_302 : decode cX1_count 302 = .ok (.istore_n 2, 1) := dk_61 (dk_at dksX1_count_10 22 rfl rfl)
theorem dX1_count_303 : decode cX1_count 303 = .ok (.iinc 3 1, 3) := dk_132 3 1 (dk_at dksX1_count_11 0 rfl rfl)
theorem dX1_count_306 : decode cX1_count 306 = .ok (.goto (-51), 3) := dk_167 255 205 (dk_at dksX1_count_11 3 rfl rfl)
theorem dX1_count_309 : decode cX1_count 309 = .ok (.iload_n 2, 1) := dk_28 (dk_at dksX1_count_11 6 rfl rfl)
theorem dX1_count_310 : decode cX1_count 310 = .ok (.ireturn, 1) := dk_172 (dk_at dksX1_count_11 7 rfl rfl)
theorem dX1_count_311 : decode cX1_count 311 = .ok (.aload_n 0, 1) := dk_42 (dk_at dksX1_count_11 8 rfl rfl)
theorem dX1_count_312 : decode cX1_count 312 = .ok (.getfield 152, 3) := dk_180 0 152 (dk_at dksX1_count_11 9 rfl rfl)
theorem dX1_count_315 : decode cX1_count 315 = .ok (.ireturn, 1) := dk_172 (dk_at dksX1_count_11 12 rfl rfl)
theorem dX1_count_316 : decode cX1_count 316 = .ok (.iconst (-1), 1) := dk_2 (dk_at dksX1_count_11 13 rfl rfl)
theorem dX1_count_317 : decode cX1_count 317 = .ok (.ireturn, 1) := dk_172 (dk_at dksX1_count_11 14 rfl rfl)
abbrev cX1_waits : ByteArray := prog_1_method_25_code
def yX1_waits : MethodName := ⟨RX1, "waits", "(LGlacierMail$Letter;)Z"⟩
def dkwX1_waits_1 : List UInt8 := [182, 0, 211, 153, 0, 7, 4, 167, 0, 4, 3, 172]
abbrev dktX1_waits_1 : List UInt8 := dkwX1_waits_1 ++ []
def dkwX1_waits_0 : List UInt8 := [43, 182, 0, 202, 154, 0, 30, 43, 180, 0, 206, 2, 160, 0, 22, 42, 43, 42, 180, 0, 21, 180, 0, 209]
abbrev dktX1_waits_0 : List UInt8 := dkwX1_waits_0 ++ dktX1_waits_1
theorem dksX1_waits_0 : cX1_waits.data.toList.drop 0 = dktX1_waits_0 := by decide +kernel
theorem dksX1_waits_1 : cX1_waits.data.toList.drop 24 = dktX1_waits_1 := dk_seg dksX1_waits_0 24 rfl rfl
theorem dX1_waits_0 : decode cX1_waits 0 = .ok (.aload_n 1, 1) := dk_43 (dk_at dksX1_waits_0 0 rfl rfl)
theorem dX1_waits_1 : decode cX1_waits 1 = .ok (.invokevirtual 202, 3) := dk_182 0 202 (dk_at dksX1_waits_0 1 rfl rfl)
theorem dX1_waits_4 : decode cX1_waits 4 = .ok (.ifCond .ne 30, 3) := dk_154 0 30 (dk_at dksX1_waits_0 4 rfl rfl)
theorem dX1_waits_7 : decode cX1_waits 7 = .ok (.aload_n 1, 1) := dk_43 (dk_at dksX1_waits_0 7 rfl rfl)
theorem dX1_waits_8 : decode cX1_waits 8 = .ok (.getfield 206, 3) := dk_180 0 206 (dk_at dksX1_waits_0 8 rfl rfl)
theorem dX1_waits_11 : decode cX1_waits 11 = .ok (.iconst (-1), 1) := dk_2 (dk_at dksX1_waits_0 11 rfl rfl)
theorem dX1_waits_12 : decode cX1_waits 12 = .ok (.if_icmp .ne 22, 3) := dk_160 0 22 (dk_at dksX1_waits_0 12 rfl rfl)
theorem dX1_waits_15 : decode cX1_waits 15 = .ok (.aload_n 0, 1) := dk_42 (dk_at dksX1_waits_0 15 rfl rfl)
theorem dX1_waits_16 : decode cX1_waits 16 = .ok (.aload_n 1, 1) := dk_43 (dk_at dksX1_waits_0 16 rfl rfl)
theorem dX1_waits_17 : decode cX1_waits 17 = .ok (.aload_n 0, 1) := dk_42 (dk_at dksX1_waits_0 17 rfl rfl)
theorem dX1_waits_18 : decode cX1_waits 18 = .ok (.getfield 21, 3) := dk_180 0 21 (dk_at dksX1_waits_0 18 rfl rfl)
theorem dX1_waits_21 : decode cX1_waits 21 = .ok (.getfield 209, 3) := dk_180 0 209 (dk_at dksX1_waits_0 21 rfl rfl)
theorem dX1_waits_24 : decode cX1_waits 24 = .ok (.invokevirtual 211, 3) := dk_182 0 211 (dk_at dksX1_waits_1 0 rfl rfl)
theorem dX1_waits_27 : decode cX1_waits 27 = .ok (.ifCond .eq 7, 3) := dk_153 0 7 (dk_at dksX1_waits_1 3 rfl rfl)
theorem dX1_waits_30 : decode cX1_waits 30 = .ok (.iconst 1, 1) := dk_4 (dk_at dksX1_waits_1 6 rfl rfl)
theorem dX1_waits_31 : decode cX1_waits 31 = .ok (.goto 4, 3) := dk_167 0 4 (dk_at dksX1_waits_1 7 rfl rfl)
theorem dX1_waits_34 : decode cX1_waits 34 = .ok (.iconst 0, 1) := dk_3 (dk_at dksX1_waits_1 10 rfl rfl)
theorem dX1_waits_35 : decode cX1_waits 35 = .ok (.ireturn, 1) := dk_172 (dk_at dksX1_waits_1 11 rfl rfl)
abbrev cX1_isOutBy : ByteArray := prog_1_method_24_code
def yX1_isOutBy : MethodName := ⟨RX1, "isOutBy", "(LGlacierMail$Letter;I)Z"⟩
def dkwX1_isOutBy_1 : List UInt8 := [167, 0, 4, 3, 172]
abbrev dktX1_isOutBy_1 : List UInt8 := dkwX1_isOutBy_1 ++ []
def dkwX1_isOutBy_0 : List UInt8 := [43, 180, 0, 190, 28, 163, 0, 22, 42, 180, 0, 37, 43, 182, 0, 195, 180, 0, 199, 28, 163, 0, 7, 4]
abbrev dktX1_isOutBy_0 : List UInt8 := dkwX1_isOutBy_0 ++ dktX1_isOutBy_1
theorem dksX1_isOutBy_0 : cX1_isOutBy.data.toList.drop 0 = dktX1_isOutBy_0 := by decide +kernel
theorem dksX1_isOutBy_1 : cX1_isOutBy.data.toList.drop 24 = dktX1_isOutBy_1 := dk_seg dksX1_isOutBy_0 24 rfl rfl
theorem dX1_isOutBy_0 : decode cX1_isOutBy 0 = .ok (.aload_n 1, 1) := dk_43 (dk_at dksX1_isOutBy_0 0 rfl rfl)
theorem dX1_isOutBy_1 : decode cX1_isOutBy 1 = .ok (.getfield 190, 3) := dk_180 0 190 (dk_at dksX1_isOutBy_0 1 rfl rfl)
theorem dX1_isOutBy_4 : decode cX1_isOutBy 4 = .ok (.iload_n 2, 1) := dk_28 (dk_at dksX1_isOutBy_0 4 rfl rfl)
theorem dX1_isOutBy_5 : decode cX1_isOutBy 5 = .ok (.if_icmp .gt 22, 3) := dk_163 0 22 (dk_at dksX1_isOutBy_0 5 rfl rfl)
theorem dX1_isOutBy_8 : decode cX1_isOutBy 8 = .ok (.aload_n 0, 1) := dk_42 (dk_at dksX1_isOutBy_0 8 rfl rfl)
theorem dX1_isOutBy_9 : decode cX1_isOutBy 9 = .ok (.getfield 37, 3) := dk_180 0 37 (dk_at dksX1_isOutBy_0 9 rfl rfl)
theorem dX1_isOutBy_12 : decode cX1_isOutBy 12 = .ok (.aload_n 1, 1) := dk_43 (dk_at dksX1_isOutBy_0 12 rfl rfl)
theorem dX1_isOutBy_13 : decode cX1_isOutBy 13 = .ok (.invokevirtual 195, 3) := dk_182 0 195 (dk_at dksX1_isOutBy_0 13 rfl rfl)
theorem dX1_isOutBy_16 : decode cX1_isOutBy 16 = .ok (.getfield 199, 3) := dk_180 0 199 (dk_at dksX1_isOutBy_0 16 rfl rfl)
theorem dX1_isOutBy_19 : decode cX1_isOutBy 19 = .ok (.iload_n 2, 1) := dk_28 (dk_at dksX1_isOutBy_0 19 rfl rfl)
theorem dX1_isOutBy_20 : decode cX1_isOutBy 20 = .ok (.if_icmp .gt 7, 3) := dk_163 0 7 (dk_at dksX1_isOutBy_0 20 rfl rfl)
theorem dX1_isOutBy_23 : decode cX1_isOutBy 23 = .ok (.iconst 1, 1) := dk_4 (dk_at dksX1_isOutBy_0 23 rfl rfl)
theorem dX1_isOutBy_24 : decode cX1_isOutBy 24 = .ok (.goto 4, 3) := dk_167 0 4 (dk_at dksX1_isOutBy_1 0 rfl rfl)
theorem dX1_isOutBy_27 : decode cX1_isOutBy 27 = .ok (.iconst 0, 1) := dk_3 (dk_at dksX1_isOutBy_1 3 rfl rfl)
theorem dX1_isOutBy_28 : decode cX1_isOutBy 28 = .ok (.ireturn, 1) := dk_172 (dk_at dksX1_isOutBy_1 4 rfl rfl)
abbrev cX1_valley : ByteArray := prog_1_method_18_code
def yX1_valley : MethodName := ⟨RX1, "valley", "()I"⟩
def dkwX1_valley_3 : List UInt8 := [96, 181, 0, 142, 42, 3, 181, 0, 152, 42, 2, 181, 0, 64, 42, 180, 0, 21, 180, 0, 142, 172]
abbrev dktX1_valley_3 : List UInt8 := dkwX1_valley_3 ++ []
def dkwX1_valley_2 : List UInt8 := [167, 0, 4, 3, 184, 0, 145, 42, 180, 0, 21, 44, 182, 0, 148, 42, 180, 0, 21, 89, 180, 0, 142, 4]
abbrev dktX1_valley_2 : List UInt8 := dkwX1_valley_2 ++ dktX1_valley_3
def dkwX1_valley_1 : List UInt8 := [167, 0, 10, 78, 42, 45, 182, 0, 138, 191, 42, 180, 0, 21, 180, 0, 142, 16, 12, 162, 0, 7, 4]
abbrev dktX1_valley_1 : List UInt8 := dkwX1_valley_1 ++ dktX1_valley_2
def dkwX1_valley_0 : List UInt8 := [42, 182, 0, 130, 60, 42, 2, 181, 0, 60, 42, 180, 0, 12, 27, 42, 180, 0, 21, 182, 0, 134, 77]
abbrev dktX1_valley_0 : List UInt8 := dkwX1_valley_0 ++ dktX1_valley_1
theorem dksX1_valley_0 : cX1_valley.data.toList.drop 0 = dktX1_valley_0 := by decide +kernel
theorem dksX1_valley_1 : cX1_valley.data.toList.drop 23 = dktX1_valley_1 := dk_seg dksX1_valley_0 23 rfl rfl
theorem dksX1_valley_2 : cX1_valley.data.toList.drop 46 = dktX1_valley_2 := dk_seg dksX1_valley_1 23 rfl rfl
theorem dksX1_valley_3 : cX1_valley.data.toList.drop 70 = dktX1_valley_3 := dk_seg dksX1_valley_2 24 rfl rfl
theorem dX1_valley_0 : decode cX1_valley 0 = .ok (.aload_n 0, 1) := dk_42 (dk_at dksX1_valley_0 0 rfl rfl)
theorem dX1_valley_1 : decode cX1_valley 1 = .ok (.invokevirtual 130, 3) := dk_182 0 130 (dk_at dksX1_valley_0 1 rfl rfl)
theorem dX1_valley_4 : decode cX1_valley 4 = .ok (.istore_n 1, 1) := dk_60 (dk_at dksX1_valley_0 4 rfl rfl)
theorem dX1_valley_5 : decode cX1_valley 5 = .ok (.aload_n 0, 1) := dk_42 (dk_at dksX1_valley_0 5 rfl rfl)
theorem dX1_valley_6 : decode cX1_valley 6 = .ok (.iconst (-1), 1) := dk_2 (dk_at dksX1_valley_0 6 rfl rfl)
theorem dX1_valley_7 : decode cX1_valley 7 = .ok (.putfield 60, 3) := dk_181 0 60 (dk_at dksX1_valley_0 7 rfl rfl)
theorem dX1_valley_10 : decode cX1_valley 10 = .ok (.aload_n 0, 1) := dk_42 (dk_at dksX1_valley_0 10 rfl rfl)
theorem dX1_valley_11 : decode cX1_valley 11 = .ok (.getfield 12, 3) := dk_180 0 12 (dk_at dksX1_valley_0 11 rfl rfl)
theorem dX1_valley_14 : decode cX1_valley 14 = .ok (.iload_n 1, 1) := dk_27 (dk_at dksX1_valley_0 14 rfl rfl)
theorem dX1_valley_15 : decode cX1_valley 15 = .ok (.aload_n 0, 1) := dk_42 (dk_at dksX1_valley_0 15 rfl rfl)
theorem dX1_valley_16 : decode cX1_valley 16 = .ok (.getfield 21, 3) := dk_180 0 21 (dk_at dksX1_valley_0 16 rfl rfl)
theorem dX1_valley_19 : decode cX1_valley 19 = .ok (.invokevirtual 134, 3) := dk_182 0 134 (dk_at dksX1_valley_0 19 rfl rfl)
theorem dX1_valley_22 : decode cX1_valley 22 = .ok (.astore_n 2, 1) := dk_77 (dk_at dksX1_valley_0 22 rfl rfl)
theorem dX1_valley_23 : decode cX1_valley 23 = .ok (.goto 10, 3) := dk_167 0 10 (dk_at dksX1_valley_1 0 rfl rfl)
theorem dX1_valley_26 : decode cX1_valley 26 = .ok (.astore_n 3, 1) := dk_78 (dk_at dksX1_valley_1 3 rfl rfl)
theorem dX1_valley_27 : decode cX1_valley 27 = .ok (.aload_n 0, 1) := dk_42 (dk_at dksX1_valley_1 4 rfl rfl)
theorem dX1_valley_28 : decode cX1_valley 28 = .ok (.aload_n 3, 1) := dk_45 (dk_at dksX1_valley_1 5 rfl rfl)
theorem dX1_valley_29 : decode cX1_valley 29 = .ok (.invokevirtual 138, 3) := dk_182 0 138 (dk_at dksX1_valley_1 6 rfl rfl)
theorem dX1_valley_32 : decode cX1_valley 32 = .ok (.athrow, 1) := dk_191 (dk_at dksX1_valley_1 9 rfl rfl)
theorem dX1_valley_33 : decode cX1_valley 33 = .ok (.aload_n 0, 1) := dk_42 (dk_at dksX1_valley_1 10 rfl rfl)
theorem dX1_valley_34 : decode cX1_valley 34 = .ok (.getfield 21, 3) := dk_180 0 21 (dk_at dksX1_valley_1 11 rfl rfl)
theorem dX1_valley_37 : decode cX1_valley 37 = .ok (.getfield 142, 3) := dk_180 0 142 (dk_at dksX1_valley_1 14 rfl rfl)
theorem dX1_valley_40 : decode cX1_valley 40 = .ok (.bipush 12, 2) := dk_16 12 (dk_at dksX1_valley_1 17 rfl rfl)
theorem dX1_valley_42 : decode cX1_valley 42 = .ok (.if_icmp .ge 7, 3) := dk_162 0 7 (dk_at dksX1_valley_1 19 rfl rfl)
theorem dX1_valley_45 : decode cX1_valley 45 = .ok (.iconst 1, 1) := dk_4 (dk_at dksX1_valley_1 22 rfl rfl)
theorem dX1_valley_46 : decode cX1_valley 46 = .ok (.goto 4, 3) := dk_167 0 4 (dk_at dksX1_valley_2 0 rfl rfl)
theorem dX1_valley_49 : decode cX1_valley 49 = .ok (.iconst 0, 1) := dk_3 (dk_at dksX1_valley_2 3 rfl rfl)
theorem dX1_valley_50 : decode cX1_valley 50 = .ok (.invokestatic 145, 3) := dk_184 0 145 (dk_at dksX1_valley_2 4 rfl rfl)
theorem dX1_valley_53 : decode cX1_valley 53 = .ok (.aload_n 0, 1) := dk_42 (dk_at dksX1_valley_2 7 rfl rfl)
theorem dX1_valley_54 : decode cX1_valley 54 = .ok (.getfield 21, 3) := dk_180 0 21 (dk_at dksX1_valley_2 8 rfl rfl)
theorem dX1_valley_57 : decode cX1_valley 57 = .ok (.aload_n 2, 1) := dk_44 (dk_at dksX1_valley_2 11 rfl rfl)
theorem dX1_valley_58 : decode cX1_valley 58 = .ok (.invokevirtual 148, 3) := dk_182 0 148 (dk_at dksX1_valley_2 12 rfl rfl)
theorem dX1_valley_61 : decode cX1_valley 61 = .ok (.aload_n 0, 1) := dk_42 (dk_at dksX1_valley_2 15 rfl rfl)
theorem dX1_valley_62 : decode cX1_valley 62 = .ok (.getfield 21, 3) := dk_180 0 21 (dk_at dksX1_valley_2 16 rfl rfl)
theorem dX1_valley_65 : decode cX1_valley 65 = .ok (.dup, 1) := dk_89 (dk_at dksX1_valley_2 19 rfl rfl)
theorem dX1_valley_66 : decode cX1_valley 66 = .ok (.getfield 142, 3) := dk_180 0 142 (dk_at dksX1_valley_2 20 rfl rfl)
theorem dX1_valley_69 : decode cX1_valley 69 = .ok (.iconst 1, 1) := dk_4 (dk_at dksX1_valley_2 23 rfl rfl)
theorem dX1_valley_70 : decode cX1_valley 70 = .ok (.iadd, 1) := dk_96 (dk_at dksX1_valley_3 0 rfl rfl)
theorem dX1_valley_71 : decode cX1_valley 71 = .ok (.putfield 142, 3) := dk_181 0 142 (dk_at dksX1_valley_3 1 rfl rfl)
theorem dX1_valley_74 : decode cX1_valley 74 = .ok (.aload_n 0, 1) := dk_42 (dk_at dksX1_valley_3 4 rfl rfl)
theorem dX1_valley_75 : decode cX1_valley 75 = .ok (.iconst 0, 1) := dk_3 (dk_at dksX1_valley_3 5 rfl rfl)
theorem dX1_valley_76 : decode cX1_valley 76 = .ok (.putfield 152, 3) := dk_181 0 152 (dk_at dksX1_valley_3 6 rfl rfl)
theorem dX1_valley_79 : decode cX1_valley 79 = .ok (.aload_n 0, 1) := dk_42 (dk_at dksX1_valley_3 9 rfl rfl)
theorem dX1_valley_80 : decode cX1_valley 80 = .ok (.iconst (-1), 1) := dk_2 (dk_at dksX1_valley_3 10 rfl rfl)
theorem dX1_valley_81 : decode cX1_valley 81 = .ok (.putfield 64, 3) := dk_181 0 64 (dk_at dksX1_valley_3 11 rfl rfl)
theorem dX1_valley_84 : decode cX1_valley 84 = .ok (.aload_n 0, 1) := dk_42 (dk_at dksX1_valley_3 14 rfl rfl)
theorem dX1_valley_85 : decode cX1_valley 85 = .ok (.getfield 21, 3) := dk_180 0 21 (dk_at dksX1_valley_3 15 rfl rfl)
theorem dX1_valley_88 : decode cX1_valley 88 = .ok (.getfield 142, 3) := dk_180 0 142 (dk_at dksX1_valley_3 18 rfl rfl)
theorem dX1_valley_91 : decode cX1_valley 91 = .ok (.ireturn, 1) := dk_172 (dk_at dksX1_valley_3 21 rfl rfl)
abbrev cX1_took : ByteArray := prog_1_method_16_code
def yX1_took : MethodName := ⟨RX1, "took", "()I"⟩
def dkwX1_took_0 : List UInt8 := [42, 180, 0, 12, 180, 0, 118, 60, 42, 180, 0, 12, 3, 181, 0, 118, 27, 172]
abbrev dktX1_took_0 : List UInt8 := dkwX1_took_0 ++ []
theorem dksX1_took_0 : cX1_took.data.toList.drop 0 = dktX1_took_0 := by decide +kernel
theorem dX1_took_0 : decode cX1_took 0 = .ok (.aload_n 0, 1) := dk_42 (dk_at dksX1_took_0 0 rfl rfl)
theorem dX1_took_1 : decode cX1_took 1 = .ok (.getfield 12, 3) := dk_180 0 12 (dk_at dksX1_took_0 1 rfl rfl)
theorem dX1_took_4 : decode cX1_took 4 = .ok (.getfield 118, 3) := dk_180 0 118 (dk_at dksX1_took_0 4 rfl rfl)
theorem dX1_took_7 : decode cX1_took 7 = .ok (.istore_n 1, 1) := dk_60 (dk_at dksX1_took_0 7 rfl rfl)
theorem dX1_took_8 : decode cX1_took 8 = .ok (.aload_n 0, 1) := dk_42 (dk_at dksX1_took_0 8 rfl rfl)
theorem dX1_took_9 : decode cX1_took 9 = .ok (.getfield 12, 3) := dk_180 0 12 (dk_at dksX1_took_0 9 rfl rfl)
theorem dX1_took_12 : decode cX1_took 12 = .ok (.iconst 0, 1) := dk_3 (dk_at dksX1_took_0 12 rfl rfl)
theorem dX1_took_13 : decode cX1_took 13 = .ok (.putfield 118, 3) := dk_181 0 118 (dk_at dksX1_took_0 13 rfl rfl)
theorem dX1_took_16 : decode cX1_took 16 = .ok (.iload_n 1, 1) := dk_27 (dk_at dksX1_took_0 16 rfl rfl)
theorem dX1_took_17 : decode cX1_took 17 = .ok (.ireturn, 1) := dk_172 (dk_at dksX1_took_0 17 rfl rfl)
abbrev cX1_isWrong : ByteArray := prog_1_method_17_code
def yX1_isWrong : MethodName := ⟨RX1, "isWrong", "(LGlacierMail$Wrong;)Ljava/lang/IllegalArgumentException;"⟩
def dkwX1_isWrong_0 : List UInt8 := [42, 43, 180, 0, 125, 181, 0, 60, 187, 0, 67, 89, 183, 0, 69, 176]
abbrev dktX1_isWrong_0 : List UInt8 := dkwX1_isWrong_0 ++ []
theorem dksX1_isWrong_0 : cX1_isWrong.data.toList.drop 0 = dktX1_isWrong_0 := by decide +kernel
theorem dX1_isWrong_0 : decode cX1_isWrong 0 = .ok (.aload_n 0, 1) := dk_42 (dk_at dksX1_isWrong_0 0 rfl rfl)
theorem dX1_isWrong_1 : decode cX1_isWrong 1 = .ok (.aload_n 1, 1) := dk_43 (dk_at dksX1_isWrong_0 1 rfl rfl)
theorem dX1_isWrong_2 : decode cX1_isWrong 2 = .ok (.getfield 125, 3) := dk_180 0 125 (dk_at dksX1_isWrong_0 2 rfl rfl)
theorem dX1_isWrong_5 : decode cX1_isWrong 5 = .ok (.putfield 60, 3) := dk_181 0 60 (dk_at dksX1_isWrong_0 5 rfl rfl)
theorem dX1_isWrong_8 : decode cX1_isWrong 8 = .ok (.new 67, 3) := dk_187 0 67 (dk_at dksX1_isWrong_0 8 rfl rfl)
theorem dX1_isWrong_11 : decode cX1_isWrong 11 = .ok (.dup, 1) := dk_89 (dk_at dksX1_isWrong_0 11 rfl rfl)
theorem dX1_isWrong_12 : decode cX1_isWrong 12 = .ok (.invokespecial 69, 3) := dk_183 0 69 (dk_at dksX1_isWrong_0 12 rfl rfl)
theorem dX1_isWrong_15 : decode cX1_isWrong 15 = .ok (.areturn, 1) := dk_176 (dk_at dksX1_isWrong_0 15 rfl rfl)
abbrev cX1_mayBe : ByteArray := prog_1_method_3_code
def yX1_mayBe : MethodName := ⟨RX1, "mayBe", "(Z)V"⟩
def dkwX1_mayBe_0 : List UInt8 := [26, 154, 0, 11, 187, 0, 70, 89, 183, 0, 72, 191, 177]
abbrev dktX1_mayBe_0 : List UInt8 := dkwX1_mayBe_0 ++ []
theorem dksX1_mayBe_0 : cX1_mayBe.data.toList.drop 0 = dktX1_mayBe_0 := by decide +kernel
theorem dX1_mayBe_0 : decode cX1_mayBe 0 = .ok (.iload_n 0, 1) := dk_26 (dk_at dksX1_mayBe_0 0 rfl rfl)
theorem dX1_mayBe_1 : decode cX1_mayBe 1 = .ok (.ifCond .ne 11, 3) := dk_154 0 11 (dk_at dksX1_mayBe_0 1 rfl rfl)
theorem dX1_mayBe_4 : decode cX1_mayBe 4 = .ok (.new 70, 3) := dk_187 0 70 (dk_at dksX1_mayBe_0 4 rfl rfl)
theorem dX1_mayBe_7 : decode cX1_mayBe 7 = .ok (.dup, 1) := dk_89 (dk_at dksX1_mayBe_0 7 rfl rfl)
theorem dX1_mayBe_8 : decode cX1_mayBe 8 = .ok (.invokespecial 72, 3) := dk_183 0 72 (dk_at dksX1_mayBe_0 8 rfl rfl)
theorem dX1_mayBe_11 : decode cX1_mayBe 11 = .ok (.athrow, 1) := dk_191 (dk_at dksX1_mayBe_0 11 rfl rfl)
theorem dX1_mayBe_12 : decode cX1_mayBe 12 = .ok (.return_, 1) := dk_177 (dk_at dksX1_mayBe_0 12 rfl rfl)
abbrev cX1_law : ByteArray := prog_1_method_19_code
def yX1_law : MethodName := ⟨RX1, "law", "()I"⟩
def dkwX1_law_3 : List UInt8 := [180, 0, 21, 180, 0, 159, 172]
abbrev dktX1_law_3 : List UInt8 := dkwX1_law_3 ++ []
def dkwX1_law_2 : List UInt8 := [180, 0, 21, 180, 0, 166, 3, 16, 12, 184, 0, 168, 42, 3, 181, 0, 152, 42, 2, 181, 0, 64, 42]
abbrev dktX1_law_2 : List UInt8 := dkwX1_law_2 ++ dktX1_law_3
def dkwX1_law_1 : List UInt8 := [181, 0, 159, 167, 0, 10, 77, 42, 44, 182, 0, 138, 191, 42, 180, 0, 12, 180, 0, 162, 3, 42]
abbrev dktX1_law_1 : List UInt8 := dkwX1_law_1 ++ dktX1_law_2
def dkwX1_law_0 : List UInt8 := [42, 182, 0, 130, 60, 42, 2, 181, 0, 60, 42, 180, 0, 21, 42, 180, 0, 12, 27, 182, 0, 155]
abbrev dktX1_law_0 : List UInt8 := dkwX1_law_0 ++ dktX1_law_1
theorem dksX1_law_0 : cX1_law.data.toList.drop 0 = dktX1_law_0 := by decide +kernel
theorem dksX1_law_1 : cX1_law.data.toList.drop 22 = dktX1_law_1 := dk_seg dksX1_law_0 22 rfl rfl
theorem dksX1_law_2 : cX1_law.data.toList.drop 44 = dktX1_law_2 := dk_seg dksX1_law_1 22 rfl rfl
theorem dksX1_law_3 : cX1_law.data.toList.drop 67 = dktX1_law_3 := dk_seg dksX1_law_2 23 rfl rfl
theorem dX1_law_0 : decode cX1_law 0 = .ok (.aload_n 0, 1) := dk_42 (dk_at dksX1_law_0 0 rfl rfl)
theorem dX1_law_1 : decode cX1_law 1 = .ok (.invokevirtual 130, 3) := dk_182 0 130 (dk_at dksX1_law_0 1 rfl rfl)
theorem dX1_law_4 : decode cX1_law 4 = .ok (.istore_n 1, 1) := dk_60 (dk_at dksX1_law_0 4 rfl rfl)
theorem dX1_law_5 : decode cX1_law 5 = .ok (.aload_n 0, 1) := dk_42 (dk_at dksX1_law_0 5 rfl rfl)
theorem dX1_law_6 : decode cX1_law 6 = .ok (.iconst (-1), 1) := dk_2 (dk_at dksX1_law_0 6 rfl rfl)
theorem dX1_law_7 : decode cX1_law 7 = .ok (.putfield 60, 3) := dk_181 0 60 (dk_at dksX1_law_0 7 rfl rfl)
theorem dX1_law_10 : decode cX1_law 10 = .ok (.aload_n 0, 1) := dk_42 (dk_at dksX1_law_0 10 rfl rfl)
theorem dX1_law_11 : decode cX1_law 11 = .ok (.getfield 21, 3) := dk_180 0 21 (dk_at dksX1_law_0 11 rfl rfl)
theorem dX1_law_14 : decode cX1_law 14 = .ok (.aload_n 0, 1) := dk_42 (dk_at dksX1_law_0 14 rfl rfl)
theorem dX1_law_15 : decode cX1_law 15 = .ok (.getfield 12, 3) := dk_180 0 12 (dk_at dksX1_law_0 15 rfl rfl)
theorem dX1_law_18 : decode cX1_law 18 = .ok (.iload_n 1, 1) := dk_27 (dk_at dksX1_law_0 18 rfl rfl)
theorem dX1_law_19 : decode cX1_law 19 = .ok (.invokevirtual 155, 3) := dk_182 0 155 (dk_at dksX1_law_0 19 rfl rfl)
theorem dX1_law_22 : decode cX1_law 22 = .ok (.putfield 159, 3) := dk_181 0 159 (dk_at dksX1_law_1 0 rfl rfl)
theorem dX1_law_25 : decode cX1_law 25 = .ok (.goto 10, 3) := dk_167 0 10 (dk_at dksX1_law_1 3 rfl rfl)
theorem dX1_law_28 : decode cX1_law 28 = .ok (.astore_n 2, 1) := dk_77 (dk_at dksX1_law_1 6 rfl rfl)
theorem dX1_law_29 : decode cX1_law 29 = .ok (.aload_n 0, 1) := dk_42 (dk_at dksX1_law_1 7 rfl rfl)
theorem dX1_law_30 : decode cX1_law 30 = .ok (.aload_n 2, 1) := dk_44 (dk_at dksX1_law_1 8 rfl rfl)
theorem dX1_law_31 : decode cX1_law 31 = .ok (.invokevirtual 138, 3) := dk_182 0 138 (dk_at dksX1_law_1 9 rfl rfl)
theorem dX1_law_34 : decode cX1_law 34 = .ok (.athrow, 1) := dk_191 (dk_at dksX1_law_1 12 rfl rfl)
theorem dX1_law_35 : decode cX1_law 35 = .ok (.aload_n 0, 1) := dk_42 (dk_at dksX1_law_1 13 rfl rfl)
theorem dX1_law_36 : decode cX1_law 36 = .ok (.getfield 12, 3) := dk_180 0 12 (dk_at dksX1_law_1 14 rfl rfl)
theorem dX1_law_39 : decode cX1_law 39 = .ok (.getfield 162, 3) := dk_180 0 162 (dk_at dksX1_law_1 17 rfl rfl)
theorem dX1_law_42 : decode cX1_law 42 = .ok (.iconst 0, 1) := dk_3 (dk_at dksX1_law_1 20 rfl rfl)
theorem dX1_law_43 : decode cX1_law 43 = .ok (.aload_n 0, 1) := dk_42 (dk_at dksX1_law_1 21 rfl rfl)
theorem dX1_law_44 : decode cX1_law 44 = .ok (.getfield 21, 3) := dk_180 0 21 (dk_at dksX1_law_2 0 rfl rfl)
theorem dX1_law_47 : decode cX1_law 47 = .ok (.getfield 166, 3) := dk_180 0 166 (dk_at dksX1_law_2 3 rfl rfl)
theorem dX1_law_50 : decode cX1_law 50 = .ok (.iconst 0, 1) := dk_3 (dk_at dksX1_law_2 6 rfl rfl)
theorem dX1_law_51 : decode cX1_law 51 = .ok (.bipush 12, 2) := dk_16 12 (dk_at dksX1_law_2 7 rfl rfl)
theorem dX1_law_53 : decode cX1_law 53 = .ok (.invokestatic 168, 3) := dk_184 0 168 (dk_at dksX1_law_2 9 rfl rfl)
theorem dX1_law_56 : decode cX1_law 56 = .ok (.aload_n 0, 1) := dk_42 (dk_at dksX1_law_2 12 rfl rfl)
theorem dX1_law_57 : decode cX1_law 57 = .ok (.iconst 0, 1) := dk_3 (dk_at dksX1_law_2 13 rfl rfl)
theorem dX1_law_58 : decode cX1_law 58 = .ok (.putfield 152, 3) := dk_181 0 152 (dk_at dksX1_law_2 14 rfl rfl)
theorem dX1_law_61 : decode cX1_law 61 = .ok (.aload_n 0, 1) := dk_42 (dk_at dksX1_law_2 17 rfl rfl)
theorem dX1_law_62 : decode cX1_law 62 = .ok (.iconst (-1), 1) := dk_2 (dk_at dksX1_law_2 18 rfl rfl)
theorem dX1_law_63 : decode cX1_law 63 = .ok (.putfield 64, 3) := dk_181 0 64 (dk_at dksX1_law_2 19 rfl rfl)
theorem dX1_law_66 : decode cX1_law 66 = .ok (.aload_n 0, 1) := dk_42 (dk_at dksX1_law_2 22 rfl rfl)
theorem dX1_law_67 : decode cX1_law 67 = .ok (.getfield 21, 3) := dk_180 0 21 (dk_at dksX1_law_3 0 rfl rfl)
theorem dX1_law_70 : decode cX1_law 70 = .ok (.getfield 159, 3) := dk_180 0 159 (dk_at dksX1_law_3 3 rfl rfl)
theorem dX1_law_73 : decode cX1_law 73 = .ok (.ireturn, 1) := dk_172 (dk_at dksX1_law_3 6 rfl rfl)
abbrev cX1_heat : ByteArray := prog_1_method_21_code
def yX1_heat : MethodName := ⟨RX1, "heat", "(I)I"⟩
def dkwX1_heat_0 : List UInt8 := [27, 184, 0, 174, 42, 180, 0, 21, 180, 0, 177, 27, 46, 172]
abbrev dktX1_heat_0 : List UInt8 := dkwX1_heat_0 ++ []
theorem dksX1_heat_0 : cX1_heat.data.toList.drop 0 = dktX1_heat_0 := by decide +kernel
theorem dX1_heat_0 : decode cX1_heat 0 = .ok (.iload_n 1, 1) := dk_27 (dk_at dksX1_heat_0 0 rfl rfl)
theorem dX1_heat_1 : decode cX1_heat 1 = .ok (.invokestatic 174, 3) := dk_184 0 174 (dk_at dksX1_heat_0 1 rfl rfl)
theorem dX1_heat_4 : decode cX1_heat 4 = .ok (.aload_n 0, 1) := dk_42 (dk_at dksX1_heat_0 4 rfl rfl)
theorem dX1_heat_5 : decode cX1_heat 5 = .ok (.getfield 21, 3) := dk_180 0 21 (dk_at dksX1_heat_0 5 rfl rfl)
theorem dX1_heat_8 : decode cX1_heat 8 = .ok (.getfield 177, 3) := dk_180 0 177 (dk_at dksX1_heat_0 8 rfl rfl)
theorem dX1_heat_11 : decode cX1_heat 11 = .ok (.iload_n 1, 1) := dk_27 (dk_at dksX1_heat_0 11 rfl rfl)
theorem dX1_heat_12 : decode cX1_heat 12 = .ok (.iaload, 1) := dk_46 (dk_at dksX1_heat_0 12 rfl rfl)
theorem dX1_heat_13 : decode cX1_heat 13 = .ok (.ireturn, 1) := dk_172 (dk_at dksX1_heat_0 13 rfl rfl)
abbrev cX1_isYear : ByteArray := prog_1_method_7_code
def yX1_isYear : MethodName := ⟨RX1, "isYear", "(I)V"⟩
def dkwX1_isYear_0 : List UInt8 := [26, 3, 17, 1, 43, 184, 0, 79, 184, 0, 83, 177]
abbrev dktX1_isYear_0 : List UInt8 := dkwX1_isYear_0 ++ []
theorem dksX1_isYear_0 : cX1_isYear.data.toList.drop 0 = dktX1_isYear_0 := by decide +kernel
theorem dX1_isYear_0 : decode cX1_isYear 0 = .ok (.iload_n 0, 1) := dk_26 (dk_at dksX1_isYear_0 0 rfl rfl)
theorem dX1_isYear_1 : decode cX1_isYear 1 = .ok (.iconst 0, 1) := dk_3 (dk_at dksX1_isYear_0 1 rfl rfl)
theorem dX1_isYear_2 : decode cX1_isYear 2 = .ok (.sipush 299, 3) := dk_17 1 43 (dk_at dksX1_isYear_0 2 rfl rfl)
theorem dX1_isYear_5 : decode cX1_isYear 5 = .ok (.invokestatic 79, 3) := dk_184 0 79 (dk_at dksX1_isYear_0 5 rfl rfl)
theorem dX1_isYear_8 : decode cX1_isYear 8 = .ok (.invokestatic 83, 3) := dk_184 0 83 (dk_at dksX1_isYear_0 8 rfl rfl)
theorem dX1_isYear_11 : decode cX1_isYear 11 = .ok (.return_, 1) := dk_177 (dk_at dksX1_isYear_0 11 rfl rfl)
abbrev cX1_must : ByteArray := prog_1_method_2_code
def yX1_must : MethodName := ⟨RX1, "must", "(Z)V"⟩
def dkwX1_must_0 : List UInt8 := [26, 154, 0, 11, 187, 0, 67, 89, 183, 0, 69, 191, 177]
abbrev dktX1_must_0 : List UInt8 := dkwX1_must_0 ++ []
theorem dksX1_must_0 : cX1_must.data.toList.drop 0 = dktX1_must_0 := by decide +kernel
theorem dX1_must_0 : decode cX1_must 0 = .ok (.iload_n 0, 1) := dk_26 (dk_at dksX1_must_0 0 rfl rfl)
theorem dX1_must_1 : decode cX1_must 1 = .ok (.ifCond .ne 11, 3) := dk_154 0 11 (dk_at dksX1_must_0 1 rfl rfl)
theorem dX1_must_4 : decode cX1_must 4 = .ok (.new 67, 3) := dk_187 0 67 (dk_at dksX1_must_0 4 rfl rfl)
theorem dX1_must_7 : decode cX1_must 7 = .ok (.dup, 1) := dk_89 (dk_at dksX1_must_0 7 rfl rfl)
theorem dX1_must_8 : decode cX1_must 8 = .ok (.invokespecial 69, 3) := dk_183 0 69 (dk_at dksX1_must_0 8 rfl rfl)
theorem dX1_must_11 : decode cX1_must 11 = .ok (.athrow, 1) := dk_191 (dk_at dksX1_must_0 11 rfl rfl)
theorem dX1_must_12 : decode cX1_must 12 = .ok (.return_, 1) := dk_177 (dk_at dksX1_must_0 12 rfl rfl)
abbrev cX1_speed : ByteArray := prog_1_method_22_code
def yX1_speed : MethodName := ⟨RX1, "speed", "(II)I"⟩
def dkwX1_speed_0 : List UInt8 := [42, 27, 182, 0, 180, 42, 28, 182, 0, 183, 42, 180, 0, 21, 27, 28, 182, 0, 186, 172]
abbrev dktX1_speed_0 : List UInt8 := dkwX1_speed_0 ++ []
theorem dksX1_speed_0 : cX1_speed.data.toList.drop 0 = dktX1_speed_0 := by decide +kernel
theorem dX1_speed_0 : decode cX1_speed 0 = .ok (.aload_n 0, 1) := dk_42 (dk_at dksX1_speed_0 0 rfl rfl)
theorem dX1_speed_1 : decode cX1_speed 1 = .ok (.iload_n 1, 1) := dk_27 (dk_at dksX1_speed_0 1 rfl rfl)
theorem dX1_speed_2 : decode cX1_speed 2 = .ok (.invokevirtual 180, 3) := dk_182 0 180 (dk_at dksX1_speed_0 2 rfl rfl)
theorem dX1_speed_5 : decode cX1_speed 5 = .ok (.aload_n 0, 1) := dk_42 (dk_at dksX1_speed_0 5 rfl rfl)
theorem dX1_speed_6 : decode cX1_speed 6 = .ok (.iload_n 2, 1) := dk_28 (dk_at dksX1_speed_0 6 rfl rfl)
theorem dX1_speed_7 : decode cX1_speed 7 = .ok (.invokevirtual 183, 3) := dk_182 0 183 (dk_at dksX1_speed_0 7 rfl rfl)
theorem dX1_speed_10 : decode cX1_speed 10 = .ok (.aload_n 0, 1) := dk_42 (dk_at dksX1_speed_0 10 rfl rfl)
theorem dX1_speed_11 : decode cX1_speed 11 = .ok (.getfield 21, 3) := dk_180 0 21 (dk_at dksX1_speed_0 11 rfl rfl)
theorem dX1_speed_14 : decode cX1_speed 14 = .ok (.iload_n 1, 1) := dk_27 (dk_at dksX1_speed_0 14 rfl rfl)
theorem dX1_speed_15 : decode cX1_speed 15 = .ok (.iload_n 2, 1) := dk_28 (dk_at dksX1_speed_0 15 rfl rfl)
theorem dX1_speed_16 : decode cX1_speed 16 = .ok (.invokevirtual 186, 3) := dk_182 0 186 (dk_at dksX1_speed_0 16 rfl rfl)
theorem dX1_speed_19 : decode cX1_speed 19 = .ok (.ireturn, 1) := dk_172 (dk_at dksX1_speed_0 19 rfl rfl)
abbrev cX1_isLane : ByteArray := prog_1_method_8_code
def yX1_isLane : MethodName := ⟨RX1, "isLane", "(I)V"⟩
def dkwX1_isLane_0 : List UInt8 := [27, 3, 42, 180, 0, 21, 180, 0, 87, 4, 100, 184, 0, 79, 184, 0, 90, 177]
abbrev dktX1_isLane_0 : List UInt8 := dkwX1_isLane_0 ++ []
theorem dksX1_isLane_0 : cX1_isLane.data.toList.drop 0 = dktX1_isLane_0 := by decide +kernel
theorem dX1_isLane_0 : decode cX1_isLane 0 = .ok (.iload_n 1, 1) := dk_27 (dk_at dksX1_isLane_0 0 rfl rfl)
theorem dX1_isLane_1 : decode cX1_isLane 1 = .ok (.iconst 0, 1) := dk_3 (dk_at dksX1_isLane_0 1 rfl rfl)
theorem dX1_isLane_2 : decode cX1_isLane 2 = .ok (.aload_n 0, 1) := dk_42 (dk_at dksX1_isLane_0 2 rfl rfl)
theorem dX1_isLane_3 : decode cX1_isLane 3 = .ok (.getfield 21, 3) := dk_180 0 21 (dk_at dksX1_isLane_0 3 rfl rfl)
theorem dX1_isLane_6 : decode cX1_isLane 6 = .ok (.getfield 87, 3) := dk_180 0 87 (dk_at dksX1_isLane_0 6 rfl rfl)
theorem dX1_isLane_9 : decode cX1_isLane 9 = .ok (.iconst 1, 1) := dk_4 (dk_at dksX1_isLane_0 9 rfl rfl)
theorem dX1_isLane_10 : decode cX1_isLane 10 = .ok (.isub, 1) := dk_100 (dk_at dksX1_isLane_0 10 rfl rfl)
theorem dX1_isLane_11 : decode cX1_isLane 11 = .ok (.invokestatic 79, 3) := dk_184 0 79 (dk_at dksX1_isLane_0 11 rfl rfl)
theorem dX1_isLane_14 : decode cX1_isLane 14 = .ok (.invokestatic 90, 3) := dk_184 0 90 (dk_at dksX1_isLane_0 14 rfl rfl)
theorem dX1_isLane_17 : decode cX1_isLane 17 = .ok (.return_, 1) := dk_177 (dk_at dksX1_isLane_0 17 rfl rfl)
abbrev cX1_mustBe : ByteArray := prog_1_method_4_code
def yX1_mustBe : MethodName := ⟨RX1, "mustBe", "(Z)V"⟩
def dkwX1_mustBe_0 : List UInt8 := [26, 154, 0, 11, 187, 0, 73, 89, 183, 0, 75, 191, 177]
abbrev dktX1_mustBe_0 : List UInt8 := dkwX1_mustBe_0 ++ []
theorem dksX1_mustBe_0 : cX1_mustBe.data.toList.drop 0 = dktX1_mustBe_0 := by decide +kernel
theorem dX1_mustBe_0 : decode cX1_mustBe 0 = .ok (.iload_n 0, 1) := dk_26 (dk_at dksX1_mustBe_0 0 rfl rfl)
theorem dX1_mustBe_1 : decode cX1_mustBe 1 = .ok (.ifCond .ne 11, 3) := dk_154 0 11 (dk_at dksX1_mustBe_0 1 rfl rfl)
theorem dX1_mustBe_4 : decode cX1_mustBe 4 = .ok (.new 73, 3) := dk_187 0 73 (dk_at dksX1_mustBe_0 4 rfl rfl)
theorem dX1_mustBe_7 : decode cX1_mustBe 7 = .ok (.dup, 1) := dk_89 (dk_at dksX1_mustBe_0 7 rfl rfl)
theorem dX1_mustBe_8 : decode cX1_mustBe 8 = .ok (.invokespecial 75, 3) := dk_183 0 75 (dk_at dksX1_mustBe_0 8 rfl rfl)
theorem dX1_mustBe_11 : decode cX1_mustBe 11 = .ok (.athrow, 1) := dk_191 (dk_at dksX1_mustBe_0 11 rfl rfl)
theorem dX1_mustBe_12 : decode cX1_mustBe 12 = .ok (.return_, 1) := dk_177 (dk_at dksX1_mustBe_0 12 rfl rfl)
abbrev cX1_isRow : ByteArray := prog_1_method_9_code
def yX1_isRow : MethodName := ⟨RX1, "isRow", "(I)V"⟩
def dkwX1_isRow_0 : List UInt8 := [27, 3, 42, 180, 0, 21, 180, 0, 93, 4, 100, 184, 0, 79, 184, 0, 90, 177]
abbrev dktX1_isRow_0 : List UInt8 := dkwX1_isRow_0 ++ []
theorem dksX1_isRow_0 : cX1_isRow.data.toList.drop 0 = dktX1_isRow_0 := by decide +kernel
theorem dX1_isRow_0 : decode cX1_isRow 0 = .ok (.iload_n 1, 1) := dk_27 (dk_at dksX1_isRow_0 0 rfl rfl)
theorem dX1_isRow_1 : decode cX1_isRow 1 = .ok (.iconst 0, 1) := dk_3 (dk_at dksX1_isRow_0 1 rfl rfl)
theorem dX1_isRow_2 : decode cX1_isRow 2 = .ok (.aload_n 0, 1) := dk_42 (dk_at dksX1_isRow_0 2 rfl rfl)
theorem dX1_isRow_3 : decode cX1_isRow 3 = .ok (.getfield 21, 3) := dk_180 0 21 (dk_at dksX1_isRow_0 3 rfl rfl)
theorem dX1_isRow_6 : decode cX1_isRow 6 = .ok (.getfield 93, 3) := dk_180 0 93 (dk_at dksX1_isRow_0 6 rfl rfl)
theorem dX1_isRow_9 : decode cX1_isRow 9 = .ok (.iconst 1, 1) := dk_4 (dk_at dksX1_isRow_0 9 rfl rfl)
theorem dX1_isRow_10 : decode cX1_isRow 10 = .ok (.isub, 1) := dk_100 (dk_at dksX1_isRow_0 10 rfl rfl)
theorem dX1_isRow_11 : decode cX1_isRow 11 = .ok (.invokestatic 79, 3) := dk_184 0 79 (dk_at dksX1_isRow_0 11 rfl rfl)
theorem dX1_isRow_14 : decode cX1_isRow 14 = .ok (.invokestatic 90, 3) := dk_184 0 90 (dk_at dksX1_isRow_0 14 rfl rfl)
theorem dX1_isRow_17 : decode cX1_isRow 17 = .ok (.return_, 1) := dk_177 (dk_at dksX1_isRow_0 17 rfl rfl)
abbrev cX1_flow : ByteArray := prog_1_method_23_code
def yX1_flow : MethodName := ⟨RX1, "flow", "(III)I"⟩
def dkwX1_flow_1 : List UInt8 := [172]
abbrev dktX1_flow_1 : List UInt8 := dkwX1_flow_1 ++ []
def dkwX1_flow_0 : List UInt8 := [42, 27, 182, 0, 180, 42, 28, 182, 0, 183, 29, 184, 0, 174, 42, 180, 0, 21, 27, 28, 29, 182, 0, 110]
abbrev dktX1_flow_0 : List UInt8 := dkwX1_flow_0 ++ dktX1_flow_1
theorem dksX1_flow_0 : cX1_flow.data.toList.drop 0 = dktX1_flow_0 := by decide +kernel
theorem dksX1_flow_1 : cX1_flow.data.toList.drop 24 = dktX1_flow_1 := dk_seg dksX1_flow_0 24 rfl rfl
theorem dX1_flow_0 : decode cX1_flow 0 = .ok (.aload_n 0, 1) := dk_42 (dk_at dksX1_flow_0 0 rfl rfl)
theorem dX1_flow_1 : decode cX1_flow 1 = .ok (.iload_n 1, 1) := dk_27 (dk_at dksX1_flow_0 1 rfl rfl)
theorem dX1_flow_2 : decode cX1_flow 2 = .ok (.invokevirtual 180, 3) := dk_182 0 180 (dk_at dksX1_flow_0 2 rfl rfl)
theorem dX1_flow_5 : decode cX1_flow 5 = .ok (.aload_n 0, 1) := dk_42 (dk_at dksX1_flow_0 5 rfl rfl)
theorem dX1_flow_6 : decode cX1_flow 6 = .ok (.iload_n 2, 1) := dk_28 (dk_at dksX1_flow_0 6 rfl rfl)
theorem dX1_flow_7 : decode cX1_flow 7 = .ok (.invokevirtual 183, 3) := dk_182 0 183 (dk_at dksX1_flow_0 7 rfl rfl)
theorem dX1_flow_10 : decode cX1_flow 10 = .ok (.iload_n 3, 1) := dk_29 (dk_at dksX1_flow_0 10 rfl rfl)
theorem dX1_flow_11 : decode cX1_flow 11 = .ok (.invokestatic 174, 3) := dk_184 0 174 (dk_at dksX1_flow_0 11 rfl rfl)
theorem dX1_flow_14 : decode cX1_flow 14 = .ok (.aload_n 0, 1) := dk_42 (dk_at dksX1_flow_0 14 rfl rfl)
theorem dX1_flow_15 : decode cX1_flow 15 = .ok (.getfield 21, 3) := dk_180 0 21 (dk_at dksX1_flow_0 15 rfl rfl)
theorem dX1_flow_18 : decode cX1_flow 18 = .ok (.iload_n 1, 1) := dk_27 (dk_at dksX1_flow_0 18 rfl rfl)
theorem dX1_flow_19 : decode cX1_flow 19 = .ok (.iload_n 2, 1) := dk_28 (dk_at dksX1_flow_0 19 rfl rfl)
theorem dX1_flow_20 : decode cX1_flow 20 = .ok (.iload_n 3, 1) := dk_29 (dk_at dksX1_flow_0 20 rfl rfl)
theorem dX1_flow_21 : decode cX1_flow 21 = .ok (.invokevirtual 110, 3) := dk_182 0 110 (dk_at dksX1_flow_0 21 rfl rfl)
theorem dX1_flow_24 : decode cX1_flow 24 = .ok (.ireturn, 1) := dk_172 (dk_at dksX1_flow_1 0 rfl rfl)
abbrev cX1_person : ByteArray := prog_1_method_27_code
def yX1_person : MethodName := ⟨RX1, "person", "(II)I"⟩
def dkwX1_person_3 : List UInt8 := [187, 0, 76, 89, 183, 0, 78, 191]
abbrev dktX1_person_3 : List UInt8 := dkwX1_person_3 ++ []
def dkwX1_person_2 : List UInt8 := [45, 180, 0, 229, 172, 45, 180, 0, 234, 172, 45, 180, 0, 236, 172, 42, 27, 28, 182, 0, 239, 172]
abbrev dktX1_person_2 : List UInt8 := dkwX1_person_2 ++ dktX1_person_3
def dkwX1_person_1 : List UInt8 := [170, 0, 0, 0, 59, 0, 0, 0, 0, 0, 0, 0, 5, 0, 0, 0, 37, 0, 0, 0, 42, 0, 0, 0, 47, 0, 0, 0, 52, 0, 0, 0, 52, 0, 0, 0, 52]
abbrev dktX1_person_1 : List UInt8 := dkwX1_person_1 ++ dktX1_person_2
def dkwX1_person_0 : List UInt8 := [42, 27, 182, 0, 225, 78, 28]
abbrev dktX1_person_0 : List UInt8 := dkwX1_person_0 ++ dktX1_person_1
theorem dksX1_person_0 : cX1_person.data.toList.drop 0 = dktX1_person_0 := by decide +kernel
theorem dksX1_person_1 : cX1_person.data.toList.drop 7 = dktX1_person_1 := dk_seg dksX1_person_0 7 rfl rfl
theorem dksX1_person_2 : cX1_person.data.toList.drop 44 = dktX1_person_2 := dk_seg dksX1_person_1 37 rfl rfl
theorem dksX1_person_3 : cX1_person.data.toList.drop 66 = dktX1_person_3 := dk_seg dksX1_person_2 22 rfl rfl
theorem dX1_person_0 : decode cX1_person 0 = .ok (.aload_n 0, 1) := dk_42 (dk_at dksX1_person_0 0 rfl rfl)
theorem dX1_person_1 : decode cX1_person 1 = .ok (.iload_n 1, 1) := dk_27 (dk_at dksX1_person_0 1 rfl rfl)
theorem dX1_person_2 : decode cX1_person 2 = .ok (.invokevirtual 225, 3) := dk_182 0 225 (dk_at dksX1_person_0 2 rfl rfl)
theorem dX1_person_5 : decode cX1_person 5 = .ok (.astore_n 3, 1) := dk_78 (dk_at dksX1_person_0 5 rfl rfl)
theorem dX1_person_6 : decode cX1_person 6 = .ok (.iload_n 2, 1) := dk_28 (dk_at dksX1_person_0 6 rfl rfl)
theorem dX1_person_7 : decode cX1_person 7 = .ok (.tableswitch 59 0 5 #[37, 42, 47, 52, 52, 52], 37) := by decide +kernel
theorem dX1_person_44 : decode cX1_person 44 = .ok (.aload_n 3, 1) := dk_45 (dk_at dksX1_person_2 0 rfl rfl)
theorem dX1_person_45 : decode cX1_person 45 = .ok (.getfield 229, 3) := dk_180 0 229 (dk_at dksX1_person_2 1 rfl rfl)
theorem dX1_person_48 : decode cX1_person 48 = .ok (.ireturn, 1) := dk_172 (dk_at dksX1_person_2 4 rfl rfl)
theorem dX1_person_49 : decode cX1_person 49 = .ok (.aload_n 3, 1) := dk_45 (dk_at dksX1_person_2 5 rfl rfl)
theorem dX1_person_50 : decode cX1_person 50 = .ok (.getfield 234, 3) := dk_180 0 234 (dk_at dksX1_person_2 6 rfl rfl)
theorem dX1_person_53 : decode cX1_person 53 = .ok (.ireturn, 1) := dk_172 (dk_at dksX1_person_2 9 rfl rfl)
theorem dX1_person_54 : decode cX1_person 54 = .ok (.aload_n 3, 1) := dk_45 (dk_at dksX1_person_2 10 rfl rfl)
theorem dX1_person_55 : decode cX1_person 55 = .ok (.getfield 236, 3) := dk_180 0 236 (dk_at dksX1_person_2 11 rfl rfl)
theorem dX1_person_58 : decode cX1_person 58 = .ok (.ireturn, 1) := dk_172 (dk_at dksX1_person_2 14 rfl rfl)
theorem dX1_person_59 : decode cX1_person 59 = .ok (.aload_n 0, 1) := dk_42 (dk_at dksX1_person_2 15 rfl rfl)
theorem dX1_person_60 : decode cX1_person 60 = .ok (.iload_n 1, 1) := dk_27 (dk_at dksX1_person_2 16 rfl rfl)
theorem dX1_person_61 : decode cX1_person 61 = .ok (.iload_n 2, 1) := dk_28 (dk_at dksX1_person_2 17 rfl rfl)
theorem dX1_person_62 : decode cX1_person 62 = .ok (.invokevirtual 239, 3) := dk_182 0 239 (dk_at dksX1_person_2 18 rfl rfl)
theorem dX1_person_65 : decode cX1_person 65 = .ok (.ireturn, 1) := dk_172 (dk_at dksX1_person_2 21 rfl rfl)
theorem dX1_person_66 : decode cX1_person 66 = .ok (.new 76, 3) := dk_187 0 76 (dk_at dksX1_person_3 0 rfl rfl)
theorem dX1_person_69 : decode cX1_person 69 = .ok (.dup, 1) := dk_89 (dk_at dksX1_person_3 3 rfl rfl)
theorem dX1_person_70 : decode cX1_person 70 = .ok (.invokespecial 78, 3) := dk_183 0 78 (dk_at dksX1_person_3 4 rfl rfl)
theorem dX1_person_73 : decode cX1_person 73 = .ok (.athrow, 1) := dk_191 (dk_at dksX1_person_3 7 rfl rfl)
abbrev cX1_personAt : ByteArray := prog_1_method_10_code
def yX1_personAt : MethodName := ⟨RX1, "personAt", "(I)LGlacierMail$Person;"⟩
def dkwX1_personAt_1 : List UInt8 := [27, 50, 176]
abbrev dktX1_personAt_1 : List UInt8 := dkwX1_personAt_1 ++ []
def dkwX1_personAt_0 : List UInt8 := [27, 3, 42, 180, 0, 21, 180, 0, 96, 4, 100, 184, 0, 79, 184, 0, 90, 42, 180, 0, 21, 180, 0, 99]
abbrev dktX1_personAt_0 : List UInt8 := dkwX1_personAt_0 ++ dktX1_personAt_1
theorem dksX1_personAt_0 : cX1_personAt.data.toList.drop 0 = dktX1_personAt_0 := by decide +kernel
theorem dksX1_personAt_1 : cX1_personAt.data.toList.drop 24 = dktX1_personAt_1 := dk_seg dksX1_personAt_0 24 rfl rfl
theorem dX1_personAt_0 : decode cX1_personAt 0 = .ok (.iload_n 1, 1) := dk_27 (dk_at dksX1_personAt_0 0 rfl rfl)
theorem dX1_personAt_1 : decode cX1_personAt 1 = .ok (.iconst 0, 1) := dk_3 (dk_at dksX1_personAt_0 1 rfl rfl)
theorem dX1_personAt_2 : decode cX1_personAt 2 = .ok (.aload_n 0, 1) := dk_42 (dk_at dksX1_personAt_0 2 rfl rfl)
theorem dX1_personAt_3 : decode cX1_personAt 3 = .ok (.getfield 21, 3) := dk_180 0 21 (dk_at dksX1_personAt_0 3 rfl rfl)
theorem dX1_personAt_6 : decode cX1_personAt 6 = .ok (.getfield 96, 3) := dk_180 0 96 (dk_at dksX1_personAt_0 6 rfl rfl)
theorem dX1_personAt_9 : decode cX1_personAt 9 = .ok (.iconst 1, 1) := dk_4 (dk_at dksX1_personAt_0 9 rfl rfl)
theorem dX1_personAt_10 : decode cX1_personAt 10 = .ok (.isub, 1) := dk_100 (dk_at dksX1_personAt_0 10 rfl rfl)
theorem dX1_personAt_11 : decode cX1_personAt 11 = .ok (.invokestatic 79, 3) := dk_184 0 79 (dk_at dksX1_personAt_0 11 rfl rfl)
theorem dX1_personAt_14 : decode cX1_personAt 14 = .ok (.invokestatic 90, 3) := dk_184 0 90 (dk_at dksX1_personAt_0 14 rfl rfl)
theorem dX1_personAt_17 : decode cX1_personAt 17 = .ok (.aload_n 0, 1) := dk_42 (dk_at dksX1_personAt_0 17 rfl rfl)
theorem dX1_personAt_18 : decode cX1_personAt 18 = .ok (.getfield 21, 3) := dk_180 0 21 (dk_at dksX1_personAt_0 18 rfl rfl)
theorem dX1_personAt_21 : decode cX1_personAt 21 = .ok (.getfield 99, 3) := dk_180 0 99 (dk_at dksX1_personAt_0 21 rfl rfl)
theorem dX1_personAt_24 : decode cX1_personAt 24 = .ok (.iload_n 1, 1) := dk_27 (dk_at dksX1_personAt_1 0 rfl rfl)
theorem dX1_personAt_25 : decode cX1_personAt 25 = .ok (.aaload, 1) := dk_50 (dk_at dksX1_personAt_1 1 rfl rfl)
theorem dX1_personAt_26 : decode cX1_personAt 26 = .ok (.areturn, 1) := dk_176 (dk_at dksX1_personAt_1 2 rfl rfl)
abbrev cX1_lettersOf : ByteArray := prog_1_method_26_code
def yX1_lettersOf : MethodName := ⟨RX1, "lettersOf", "(II)I"⟩
def dkwX1_lettersOf_4 : List UInt8 := [167, 255, 169, 29, 172]
abbrev dktX1_lettersOf_4 : List UInt8 := dkwX1_lettersOf_4 ++ []
def dkwX1_lettersOf_3 : List UInt8 := [160, 0, 16, 42, 25, 5, 182, 0, 221, 153, 0, 7, 4, 167, 0, 4, 3, 96, 62, 132, 4, 1]
abbrev dktX1_lettersOf_3 : List UInt8 := dkwX1_lettersOf_3 ++ dktX1_lettersOf_4
def dkwX1_lettersOf_2 : List UInt8 := [7, 160, 0, 15, 25, 5, 180, 0, 206, 27, 160, 0, 28, 167, 0, 21, 25, 5, 180, 0, 218, 27]
abbrev dktX1_lettersOf_2 : List UInt8 := dkwX1_lettersOf_2 ++ dktX1_lettersOf_3
def dkwX1_lettersOf_1 : List UInt8 := [21, 4, 50, 58, 5, 29, 28, 6, 160, 0, 15, 25, 5, 180, 0, 215, 27, 160, 0, 45, 167, 0, 38, 28]
abbrev dktX1_lettersOf_1 : List UInt8 := dkwX1_lettersOf_1 ++ dktX1_lettersOf_2
def dkwX1_lettersOf_0 : List UInt8 := [3, 62, 3, 54, 4, 21, 4, 42, 180, 0, 21, 180, 0, 103, 162, 0, 81, 42, 180, 0, 21, 180, 0, 106]
abbrev dktX1_lettersOf_0 : List UInt8 := dkwX1_lettersOf_0 ++ dktX1_lettersOf_1
theorem dksX1_lettersOf_0 : cX1_lettersOf.data.toList.drop 0 = dktX1_lettersOf_0 := by decide +kernel
theorem dksX1_lettersOf_1 : cX1_lettersOf.data.toList.drop 24 = dktX1_lettersOf_1 := dk_seg dksX1_lettersOf_0 24 rfl rfl
theorem dksX1_lettersOf_2 : cX1_lettersOf.data.toList.drop 48 = dktX1_lettersOf_2 := dk_seg dksX1_lettersOf_1 24 rfl rfl
theorem dksX1_lettersOf_3 : cX1_lettersOf.data.toList.drop 70 = dktX1_lettersOf_3 := dk_seg dksX1_lettersOf_2 22 rfl rfl
theorem dksX1_lettersOf_4 : cX1_lettersOf.data.toList.drop 92 = dktX1_lettersOf_4 := dk_seg dksX1_lettersOf_3 22 rfl rfl
theorem dX1_lettersOf_0 : decode cX1_lettersOf 0 = .ok (.iconst 0, 1) := dk_3 (dk_at dksX1_lettersOf_0 0 rfl rfl)
theorem dX1_lettersOf_1 : decode cX1_lettersOf 1 = .ok (.istore_n 3, 1) := dk_62 (dk_at dksX1_lettersOf_0 1 rfl rfl)
theorem dX1_lettersOf_2 : decode cX1_lettersOf 2 = .ok (.iconst 0, 1) := dk_3 (dk_at dksX1_lettersOf_0 2 rfl rfl)
theorem dX1_lettersOf_3 : decode cX1_lettersOf 3 = .ok (.istore 4, 2) := dk_54 4 (dk_at dksX1_lettersOf_0 3 rfl rfl)
theorem dX1_lettersOf_5 : decode cX1_lettersOf 5 = .ok (.iload 4, 2) := dk_21 4 (dk_at dksX1_lettersOf_0 5 rfl rfl)
theorem dX1_lettersOf_7 : decode cX1_lettersOf 7 = .ok (.aload_n 0, 1) := dk_42 (dk_at dksX1_lettersOf_0 7 rfl rfl)
theorem dX1_lettersOf_8 : decode cX1_lettersOf 8 = .ok (.getfield 21, 3) := dk_180 0 21 (dk_at dksX1_lettersOf_0 8 rfl rfl)
theorem dX1_lettersOf_11 : decode cX1_lettersOf 11 = .ok (.getfield 103, 3) := dk_180 0 103 (dk_at dksX1_lettersOf_0 11 rfl rfl)
theorem dX1_lettersOf_14 : decode cX1_lettersOf 14 = .ok (.if_icmp .ge 81, 3) := dk_162 0 81 (dk_at dksX1_lettersOf_0 14 rfl rfl)
theorem dX1_lettersOf_17 : decode cX1_lettersOf 17 = .ok (.aload_n 0, 1) := dk_42 (dk_at dksX1_lettersOf_0 17 rfl rfl)
theorem dX1_lettersOf_18 : decode cX1_lettersOf 18 = .ok (.getfield 21, 3) := dk_180 0 21 (dk_at dksX1_lettersOf_0 18 rfl rfl)
theorem dX1_lettersOf_21 : decode cX1_lettersOf 21 = .ok (.getfield 106, 3) := dk_180 0 106 (dk_at dksX1_lettersOf_0 21 rfl rfl)
theorem dX1_lettersOf_24 : decode cX1_lettersOf 24 = .ok (.iload 4, 2) := dk_21 4 (dk_at dksX1_lettersOf_1 0 rfl rfl)
theorem dX1_lettersOf_26 : decode cX1_lettersOf 26 = .ok (.aaload, 1) := dk_50 (dk_at dksX1_lettersOf_1 2 rfl rfl)
theorem dX1_lettersOf_27 : decode cX1_lettersOf 27 = .ok (.astore 5, 2) := dk_58 5 (dk_at dksX1_lettersOf_1 3 rfl rfl)
theorem dX1_lettersOf_29 : decode cX1_lettersOf 29 = .ok (.iload_n 3, 1) := dk_29 (dk_at dksX1_lettersOf_1 5 rfl rfl)
theorem dX1_lettersOf_30 : decode cX1_lettersOf 30 = .ok (.iload_n 2, 1) := dk_28 (dk_at dksX1_lettersOf_1 6 rfl rfl)
theorem dX1_lettersOf_31 : decode cX1_lettersOf 31 = .ok (.iconst 3, 1) := dk_6 (dk_at dksX1_lettersOf_1 7 rfl rfl)
theorem dX1_lettersOf_32 : decode cX1_lettersOf 32 = .ok (.if_icmp .ne 15, 3) := dk_160 0 15 (dk_at dksX1_lettersOf_1 8 rfl rfl)
theorem dX1_lettersOf_35 : decode cX1_lettersOf 35 = .ok (.aload 5, 2) := dk_25 5 (dk_at dksX1_lettersOf_1 11 rfl rfl)
theorem dX1_lettersOf_37 : decode cX1_lettersOf 37 = .ok (.getfield 215, 3) := dk_180 0 215 (dk_at dksX1_lettersOf_1 13 rfl rfl)
theorem dX1_lettersOf_40 : decode cX1_lettersOf 40 = .ok (.iload_n 1, 1) := dk_27 (dk_at dksX1_lettersOf_1 16 rfl rfl)
theorem dX1_lettersOf_41 : decode cX1_lettersOf 41 = .ok (.if_icmp .ne 45, 3) := dk_160 0 45 (dk_at dksX1_lettersOf_1 17 rfl rfl)
theorem dX1_lettersOf_44 : decode cX1_lettersOf 44 = .ok (.goto 38, 3) := dk_167 0 38 (dk_at dksX1_lettersOf_1 20 rfl rfl)
theorem dX1_lettersOf_47 : decode cX1_lettersOf 47 = .ok (.iload_n 2, 1) := dk_28 (dk_at dksX1_lettersOf_1 23 rfl rfl)
theorem dX1_lettersOf_48 : decode cX1_lettersOf 48 = .ok (.iconst 4, 1) := dk_7 (dk_at dksX1_lettersOf_2 0 rfl rfl)
theorem dX1_lettersOf_49 : decode cX1_lettersOf 49 = .ok (.if_icmp .ne 15, 3) := dk_160 0 15 (dk_at dksX1_lettersOf_2 1 rfl rfl)
theorem dX1_lettersOf_52 : decode cX1_lettersOf 52 = .ok (.aload 5, 2) := dk_25 5 (dk_at dksX1_lettersOf_2 4 rfl rfl)
theorem dX1_lettersOf_54 : decode cX1_lettersOf 54 = .ok (.getfield 206, 3) := dk_180 0 206 (dk_at dksX1_lettersOf_2 6 rfl rfl)
theorem dX1_lettersOf_57 : decode cX1_lettersOf 57 = .ok (.iload_n 1, 1) := dk_27 (dk_at dksX1_lettersOf_2 9 rfl rfl)
theorem dX1_lettersOf_58 : decode cX1_lettersOf 58 = .ok (.if_icmp .ne 28, 3) := dk_160 0 28 (dk_at dksX1_lettersOf_2 10 rfl rfl)
theorem dX1_lettersOf_61 : decode cX1_lettersOf 61 = .ok (.goto 21, 3) := dk_167 0 21 (dk_at dksX1_lettersOf_2 13 rfl rfl)
theorem dX1_lettersOf_64 : decode cX1_lettersOf 64 = .ok (.aload 5, 2) := dk_25 5 (dk_at dksX1_lettersOf_2 16 rfl rfl)
theorem dX1_lettersOf_66 : decode cX1_lettersOf 66 = .ok (.getfield 218, 3) := dk_180 0 218 (dk_at dksX1_lettersOf_2 18 rfl rfl)
theorem dX1_lettersOf_69 : decode cX1_lettersOf 69 = .ok (.iload_n 1, 1) := dk_27 (dk_at dksX1_lettersOf_2 21 rfl rfl)
theorem dX1_lettersOf_70 : decode cX1_lettersOf 70 = .ok (.if_icmp .ne 16, 3) := dk_160 0 16 (dk_at dksX1_lettersOf_3 0 rfl rfl)
theorem dX1_lettersOf_73 : decode cX1_lettersOf 73 = .ok (.aload_n 0, 1) := dk_42 (dk_at dksX1_lettersOf_3 3 rfl rfl)
theorem dX1_lettersOf_74 : decode cX1_lettersOf 74 = .ok (.aload 5, 2) := dk_25 5 (dk_at dksX1_lettersOf_3 4 rfl rfl)
theorem dX1_lettersOf_76 : decode cX1_lettersOf 76 = .ok (.invokevirtual 221, 3) := dk_182 0 221 (dk_at dksX1_lettersOf_3 6 rfl rfl)
theorem dX1_lettersOf_79 : decode cX1_lettersOf 79 = .ok (.ifCond .eq 7, 3) := dk_153 0 7 (dk_at dksX1_lettersOf_3 9 rfl rfl)
theorem dX1_lettersOf_82 : decode cX1_lettersOf 82 = .ok (.iconst 1, 1) := dk_4 (dk_at dksX1_lettersOf_3 12 rfl rfl)
theorem dX1_lettersOf_83 : decode cX1_lettersOf 83 = .ok (.goto 4, 3) := dk_167 0 4 (dk_at dksX1_lettersOf_3 13 rfl rfl)
theorem dX1_lettersOf_86 : decode cX1_lettersOf 86 = .ok (.iconst 0, 1) := dk_3 (dk_at dksX1_lettersOf_3 16 rfl rfl)
theorem dX1_lettersOf_87 : decode cX1_lettersOf 87 = .ok (.iadd, 1) := dk_96 (dk_at dksX1_lettersOf_3 17 rfl rfl)
theorem dX1_lettersOf_88 : decode cX1_lettersOf 88 = .ok (.istore_n 3, 1) := dk_62 (dk_at dksX1_lettersOf_3 18 rfl rfl)
theorem dX1_lettersOf_89 : decode cX1_lettersOf 89 = .ok (.iinc 4 1, 3) := dk_132 4 1 (dk_at dksX1_lettersOf_3 19 rfl rfl)
theorem dX1_lettersOf_92 : decode cX1_lettersOf 92 = .ok (.goto (-87), 3) := dk_167 255 169 (dk_at dksX1_lettersOf_4 0 rfl rfl)
theorem dX1_lettersOf_95 : decode cX1_lettersOf 95 = .ok (.iload_n 3, 1) := dk_29 (dk_at dksX1_lettersOf_4 3 rfl rfl)
theorem dX1_lettersOf_96 : decode cX1_lettersOf 96 = .ok (.ireturn, 1) := dk_172 (dk_at dksX1_lettersOf_4 4 rfl rfl)
abbrev cX1_letter : ByteArray := prog_1_method_30_code
def yX1_letter : MethodName := ⟨RX1, "letter", "(II)I"⟩
def dkwX1_letter_4 : List UInt8 := [45, 182, 1, 6, 172, 42, 45, 182, 1, 10, 172, 187, 0, 76, 89, 183, 0, 78, 191]
abbrev dktX1_letter_4 : List UInt8 := dkwX1_letter_4 ++ []
def dkwX1_letter_3 : List UInt8 := [172, 45, 180, 0, 206, 172, 45, 180, 1, 0, 172, 42, 180, 0, 37, 45, 182, 0, 195, 182, 1, 3, 172, 42]
abbrev dktX1_letter_3 : List UInt8 := dkwX1_letter_3 ++ dktX1_letter_4
def dkwX1_letter_2 : List UInt8 := [45, 180, 0, 215, 172, 45, 180, 0, 218, 172, 45, 180, 0, 254, 172, 45, 180, 0, 190, 172, 45, 180, 0, 255]
abbrev dktX1_letter_2 : List UInt8 := dkwX1_letter_2 ++ dktX1_letter_3
def dkwX1_letter_1 : List UInt8 := [170, 0, 0, 0, 112, 0, 0, 0, 0, 0, 0, 0, 9, 0, 0, 0, 53, 0, 0, 0, 58, 0, 0, 0, 63, 0, 0, 0, 68, 0, 0, 0, 73, 0, 0, 0, 78, 0, 0, 0, 83, 0, 0, 0, 88, 0, 0, 0, 100, 0, 0, 0, 106]
abbrev dktX1_letter_1 : List UInt8 := dkwX1_letter_1 ++ dktX1_letter_2
def dkwX1_letter_0 : List UInt8 := [42, 27, 182, 0, 250, 78, 28]
abbrev dktX1_letter_0 : List UInt8 := dkwX1_letter_0 ++ dktX1_letter_1
theorem dksX1_letter_0 : cX1_letter.data.toList.drop 0 = dktX1_letter_0 := by decide +kernel
theorem dksX1_letter_1 : cX1_letter.data.toList.drop 7 = dktX1_letter_1 := dk_seg dksX1_letter_0 7 rfl rfl
theorem dksX1_letter_2 : cX1_letter.data.toList.drop 60 = dktX1_letter_2 := dk_seg dksX1_letter_1 53 rfl rfl
theorem dksX1_letter_3 : cX1_letter.data.toList.drop 84 = dktX1_letter_3 := dk_seg dksX1_letter_2 24 rfl rfl
theorem dksX1_letter_4 : cX1_letter.data.toList.drop 108 = dktX1_letter_4 := dk_seg dksX1_letter_3 24 rfl rfl
theorem dX1_letter_0 : decode cX1_letter 0 = .ok (.aload_n 0, 1) := dk_42 (dk_at dksX1_letter_0 0 rfl rfl)
theorem dX1_letter_1 : decode cX1_letter 1 = .ok (.iload_n 1, 1) := dk_27 (dk_at dksX1_letter_0 1 rfl rfl)
theorem dX1_letter_2 : decode cX1_letter 2 = .ok (.invokevirtual 250, 3) := dk_182 0 250 (dk_at dksX1_letter_0 2 rfl rfl)
theorem dX1_letter_5 : decode cX1_letter 5 = .ok (.astore_n 3, 1) := dk_78 (dk_at dksX1_letter_0 5 rfl rfl)
theorem dX1_letter_6 : decode cX1_letter 6 = .ok (.iload_n 2, 1) := dk_28 (dk_at dksX1_letter_0 6 rfl rfl)
theorem dX1_letter_7 : decode cX1_letter 7 = .ok (.tableswitch 112 0 9 #[53, 58, 63, 68, 73, 78, 83, 88, 100, 106], 53) := by decide +kernel
theorem dX1_letter_60 : decode cX1_letter 60 = .ok (.aload_n 3, 1) := dk_45 (dk_at dksX1_letter_2 0 rfl rfl)
theorem dX1_letter_61 : decode cX1_letter 61 = .ok (.getfield 215, 3) := dk_180 0 215 (dk_at dksX1_letter_2 1 rfl rfl)
theorem dX1_letter_64 : decode cX1_letter 64 = .ok (.ireturn, 1) := dk_172 (dk_at dksX1_letter_2 4 rfl rfl)
theorem dX1_letter_65 : decode cX1_letter 65 = .ok (.aload_n 3, 1) := dk_45 (dk_at dksX1_letter_2 5 rfl rfl)
theorem dX1_letter_66 : decode cX1_letter 66 = .ok (.getfield 218, 3) := dk_180 0 218 (dk_at dksX1_letter_2 6 rfl rfl)
theorem dX1_letter_69 : decode cX1_letter 69 = .ok (.ireturn, 1) := dk_172 (dk_at dksX1_letter_2 9 rfl rfl)
theorem dX1_letter_70 : decode cX1_letter 70 = .ok (.aload_n 3, 1) := dk_45 (dk_at dksX1_letter_2 10 rfl rfl)
theorem dX1_letter_71 : decode cX1_letter 71 = .ok (.getfield 254, 3) := dk_180 0 254 (dk_at dksX1_letter_2 11 rfl rfl)
theorem dX1_letter_74 : decode cX1_letter 74 = .ok (.ireturn, 1) := dk_172 (dk_at dksX1_letter_2 14 rfl rfl)
theorem dX1_letter_75 : decode cX1_letter 75 = .ok (.aload_n 3, 1) := dk_45 (dk_at dksX1_letter_2 15 rfl rfl)
theorem dX1_letter_76 : decode cX1_letter 76 = .ok (.getfield 190, 3) := dk_180 0 190 (dk_at dksX1_letter_2 16 rfl rfl)
theorem dX1_letter_79 : decode cX1_letter 79 = .ok (.ireturn, 1) := dk_172 (dk_at dksX1_letter_2 19 rfl rfl)
theorem dX1_letter_80 : decode cX1_letter 80 = .ok (.aload_n 3, 1) := dk_45 (dk_at dksX1_letter_2 20 rfl rfl)
theorem dX1_letter_81 : decode cX1_letter 81 = .ok (.getfield 255, 3) := dk_180 0 255 (dk_at dksX1_letter_2 21 rfl rfl)
theorem dX1_letter_84 : decode cX1_letter 84 = .ok (.ireturn, 1) := dk_172 (dk_at dksX1_letter_3 0 rfl rfl)
theorem dX1_letter_85 : decode cX1_letter 85 = .ok (.aload_n 3, 1) := dk_45 (dk_at dksX1_letter_3 1 rfl rfl)
theorem dX1_letter_86 : decode cX1_letter 86 = .ok (.getfield 206, 3) := dk_180 0 206 (dk_at dksX1_letter_3 2 rfl rfl)
theorem dX1_letter_89 : decode cX1_letter 89 = .ok (.ireturn, 1) := dk_172 (dk_at dksX1_letter_3 5 rfl rfl)
theorem dX1_letter_90 : decode cX1_letter 90 = .ok (.aload_n 3, 1) := dk_45 (dk_at dksX1_letter_3 6 rfl rfl)
theorem dX1_letter_91 : decode cX1_letter 91 = .ok (.getfield 256, 3) := dk_180 1 0 (dk_at dksX1_letter_3 7 rfl rfl)
theorem dX1_letter_94 : decode cX1_letter 94 = .ok (.ireturn, 1) := dk_172 (dk_at dksX1_letter_3 10 rfl rfl)
theorem dX1_letter_95 : decode cX1_letter 95 = .ok (.aload_n 0, 1) := dk_42 (dk_at dksX1_letter_3 11 rfl rfl)
theorem dX1_letter_96 : decode cX1_letter 96 = .ok (.getfield 37, 3) := dk_180 0 37 (dk_at dksX1_letter_3 12 rfl rfl)
theorem dX1_letter_99 : decode cX1_letter 99 = .ok (.aload_n 3, 1) := dk_45 (dk_at dksX1_letter_3 15 rfl rfl)
theorem dX1_letter_100 : decode cX1_letter 100 = .ok (.invokevirtual 195, 3) := dk_182 0 195 (dk_at dksX1_letter_3 16 rfl rfl)
theorem dX1_letter_103 : decode cX1_letter 103 = .ok (.invokevirtual 259, 3) := dk_182 1 3 (dk_at dksX1_letter_3 19 rfl rfl)
theorem dX1_letter_106 : decode cX1_letter 106 = .ok (.ireturn, 1) := dk_172 (dk_at dksX1_letter_3 22 rfl rfl)
theorem dX1_letter_107 : decode cX1_letter 107 = .ok (.aload_n 0, 1) := dk_42 (dk_at dksX1_letter_3 23 rfl rfl)
theorem dX1_letter_108 : decode cX1_letter 108 = .ok (.aload_n 3, 1) := dk_45 (dk_at dksX1_letter_4 0 rfl rfl)
theorem dX1_letter_109 : decode cX1_letter 109 = .ok (.invokevirtual 262, 3) := dk_182 1 6 (dk_at dksX1_letter_4 1 rfl rfl)
theorem dX1_letter_112 : decode cX1_letter 112 = .ok (.ireturn, 1) := dk_172 (dk_at dksX1_letter_4 4 rfl rfl)
theorem dX1_letter_113 : decode cX1_letter 113 = .ok (.aload_n 0, 1) := dk_42 (dk_at dksX1_letter_4 5 rfl rfl)
theorem dX1_letter_114 : decode cX1_letter 114 = .ok (.aload_n 3, 1) := dk_45 (dk_at dksX1_letter_4 6 rfl rfl)
theorem dX1_letter_115 : decode cX1_letter 115 = .ok (.invokevirtual 266, 3) := dk_182 1 10 (dk_at dksX1_letter_4 7 rfl rfl)
theorem dX1_letter_118 : decode cX1_letter 118 = .ok (.ireturn, 1) := dk_172 (dk_at dksX1_letter_4 10 rfl rfl)
theorem dX1_letter_119 : decode cX1_letter 119 = .ok (.new 76, 3) := dk_187 0 76 (dk_at dksX1_letter_4 11 rfl rfl)
theorem dX1_letter_122 : decode cX1_letter 122 = .ok (.dup, 1) := dk_89 (dk_at dksX1_letter_4 14 rfl rfl)
theorem dX1_letter_123 : decode cX1_letter 123 = .ok (.invokespecial 78, 3) := dk_183 0 78 (dk_at dksX1_letter_4 15 rfl rfl)
theorem dX1_letter_126 : decode cX1_letter 126 = .ok (.athrow, 1) := dk_191 (dk_at dksX1_letter_4 18 rfl rfl)
abbrev cX1_letterAt : ByteArray := prog_1_method_11_code
def yX1_letterAt : MethodName := ⟨RX1, "letterAt", "(I)LGlacierMail$Letter;"⟩
def dkwX1_letterAt_1 : List UInt8 := [27, 50, 176]
abbrev dktX1_letterAt_1 : List UInt8 := dkwX1_letterAt_1 ++ []
def dkwX1_letterAt_0 : List UInt8 := [27, 3, 42, 180, 0, 21, 180, 0, 103, 4, 100, 184, 0, 79, 184, 0, 90, 42, 180, 0, 21, 180, 0, 106]
abbrev dktX1_letterAt_0 : List UInt8 := dkwX1_letterAt_0 ++ dktX1_letterAt_1
theorem dksX1_letterAt_0 : cX1_letterAt.data.toList.drop 0 = dktX1_letterAt_0 := by decide +kernel
theorem dksX1_letterAt_1 : cX1_letterAt.data.toList.drop 24 = dktX1_letterAt_1 := dk_seg dksX1_letterAt_0 24 rfl rfl
theorem dX1_letterAt_0 : decode cX1_letterAt 0 = .ok (.iload_n 1, 1) := dk_27 (dk_at dksX1_letterAt_0 0 rfl rfl)
theorem dX1_letterAt_1 : decode cX1_letterAt 1 = .ok (.iconst 0, 1) := dk_3 (dk_at dksX1_letterAt_0 1 rfl rfl)
theorem dX1_letterAt_2 : decode cX1_letterAt 2 = .ok (.aload_n 0, 1) := dk_42 (dk_at dksX1_letterAt_0 2 rfl rfl)
theorem dX1_letterAt_3 : decode cX1_letterAt 3 = .ok (.getfield 21, 3) := dk_180 0 21 (dk_at dksX1_letterAt_0 3 rfl rfl)
theorem dX1_letterAt_6 : decode cX1_letterAt 6 = .ok (.getfield 103, 3) := dk_180 0 103 (dk_at dksX1_letterAt_0 6 rfl rfl)
theorem dX1_letterAt_9 : decode cX1_letterAt 9 = .ok (.iconst 1, 1) := dk_4 (dk_at dksX1_letterAt_0 9 rfl rfl)
theorem dX1_letterAt_10 : decode cX1_letterAt 10 = .ok (.isub, 1) := dk_100 (dk_at dksX1_letterAt_0 10 rfl rfl)
theorem dX1_letterAt_11 : decode cX1_letterAt 11 = .ok (.invokestatic 79, 3) := dk_184 0 79 (dk_at dksX1_letterAt_0 11 rfl rfl)
theorem dX1_letterAt_14 : decode cX1_letterAt 14 = .ok (.invokestatic 90, 3) := dk_184 0 90 (dk_at dksX1_letterAt_0 14 rfl rfl)
theorem dX1_letterAt_17 : decode cX1_letterAt 17 = .ok (.aload_n 0, 1) := dk_42 (dk_at dksX1_letterAt_0 17 rfl rfl)
theorem dX1_letterAt_18 : decode cX1_letterAt 18 = .ok (.getfield 21, 3) := dk_180 0 21 (dk_at dksX1_letterAt_0 18 rfl rfl)
theorem dX1_letterAt_21 : decode cX1_letterAt 21 = .ok (.getfield 106, 3) := dk_180 0 106 (dk_at dksX1_letterAt_0 21 rfl rfl)
theorem dX1_letterAt_24 : decode cX1_letterAt 24 = .ok (.iload_n 1, 1) := dk_27 (dk_at dksX1_letterAt_1 0 rfl rfl)
theorem dX1_letterAt_25 : decode cX1_letterAt 25 = .ok (.aaload, 1) := dk_50 (dk_at dksX1_letterAt_1 1 rfl rfl)
theorem dX1_letterAt_26 : decode cX1_letterAt 26 = .ok (.areturn, 1) := dk_176 (dk_at dksX1_letterAt_1 2 rfl rfl)
abbrev cX1_deepOut : ByteArray := prog_1_method_29_code
def yX1_deepOut : MethodName := ⟨RX1, "deepOut", "(LGlacierMail$Letter;)I"⟩
def dkwX1_deepOut_1 : List UInt8 := [180, 0, 247, 44, 180, 0, 199, 46, 172]
abbrev dktX1_deepOut_1 : List UInt8 := dkwX1_deepOut_1 ++ []
def dkwX1_deepOut_0 : List UInt8 := [42, 180, 0, 37, 43, 182, 0, 195, 77, 44, 180, 0, 199, 18, 246, 160, 0, 7, 2, 167, 0, 12, 44]
abbrev dktX1_deepOut_0 : List UInt8 := dkwX1_deepOut_0 ++ dktX1_deepOut_1
theorem dksX1_deepOut_0 : cX1_deepOut.data.toList.drop 0 = dktX1_deepOut_0 := by decide +kernel
theorem dksX1_deepOut_1 : cX1_deepOut.data.toList.drop 23 = dktX1_deepOut_1 := dk_seg dksX1_deepOut_0 23 rfl rfl
theorem dX1_deepOut_0 : decode cX1_deepOut 0 = .ok (.aload_n 0, 1) := dk_42 (dk_at dksX1_deepOut_0 0 rfl rfl)
theorem dX1_deepOut_1 : decode cX1_deepOut 1 = .ok (.getfield 37, 3) := dk_180 0 37 (dk_at dksX1_deepOut_0 1 rfl rfl)
theorem dX1_deepOut_4 : decode cX1_deepOut 4 = .ok (.aload_n 1, 1) := dk_43 (dk_at dksX1_deepOut_0 4 rfl rfl)
theorem dX1_deepOut_5 : decode cX1_deepOut 5 = .ok (.invokevirtual 195, 3) := dk_182 0 195 (dk_at dksX1_deepOut_0 5 rfl rfl)
theorem dX1_deepOut_8 : decode cX1_deepOut 8 = .ok (.astore_n 2, 1) := dk_77 (dk_at dksX1_deepOut_0 8 rfl rfl)
theorem dX1_deepOut_9 : decode cX1_deepOut 9 = .ok (.aload_n 2, 1) := dk_44 (dk_at dksX1_deepOut_0 9 rfl rfl)
theorem dX1_deepOut_10 : decode cX1_deepOut 10 = .ok (.getfield 199, 3) := dk_180 0 199 (dk_at dksX1_deepOut_0 10 rfl rfl)
theorem dX1_deepOut_13 : decode cX1_deepOut 13 = .ok (.ldc 246, 2) := dk_18 246 (dk_at dksX1_deepOut_0 13 rfl rfl)
theorem dX1_deepOut_15 : decode cX1_deepOut 15 = .ok (.if_icmp .ne 7, 3) := dk_160 0 7 (dk_at dksX1_deepOut_0 15 rfl rfl)
theorem dX1_deepOut_18 : decode cX1_deepOut 18 = .ok (.iconst (-1), 1) := dk_2 (dk_at dksX1_deepOut_0 18 rfl rfl)
theorem dX1_deepOut_19 : decode cX1_deepOut 19 = .ok (.goto 12, 3) := dk_167 0 12 (dk_at dksX1_deepOut_0 19 rfl rfl)
theorem dX1_deepOut_22 : decode cX1_deepOut 22 = .ok (.aload_n 2, 1) := dk_44 (dk_at dksX1_deepOut_0 22 rfl rfl)
theorem dX1_deepOut_23 : decode cX1_deepOut 23 = .ok (.getfield 247, 3) := dk_180 0 247 (dk_at dksX1_deepOut_1 0 rfl rfl)
theorem dX1_deepOut_26 : decode cX1_deepOut 26 = .ok (.aload_n 2, 1) := dk_44 (dk_at dksX1_deepOut_1 3 rfl rfl)
theorem dX1_deepOut_27 : decode cX1_deepOut 27 = .ok (.getfield 199, 3) := dk_180 0 199 (dk_at dksX1_deepOut_1 4 rfl rfl)
theorem dX1_deepOut_30 : decode cX1_deepOut 30 = .ok (.iaload, 1) := dk_46 (dk_at dksX1_deepOut_1 7 rfl rfl)
theorem dX1_deepOut_31 : decode cX1_deepOut 31 = .ok (.ireturn, 1) := dk_172 (dk_at dksX1_deepOut_1 8 rfl rfl)
abbrev cX1_bareYear : ByteArray := prog_1_method_28_code
def yX1_bareYear : MethodName := ⟨RX1, "bareYear", "(LGlacierMail$Letter;)I"⟩
def dkwX1_bareYear_1 : List UInt8 := [29, 182, 0, 242, 153, 0, 5, 29, 172, 132, 3, 1, 167, 255, 236, 2, 172]
abbrev dktX1_bareYear_1 : List UInt8 := dkwX1_bareYear_1 ++ []
def dkwX1_bareYear_0 : List UInt8 := [42, 180, 0, 37, 43, 182, 0, 195, 77, 43, 180, 0, 190, 4, 96, 62, 29, 17, 1, 44, 162, 0, 19, 44]
abbrev dktX1_bareYear_0 : List UInt8 := dkwX1_bareYear_0 ++ dktX1_bareYear_1
theorem dksX1_bareYear_0 : cX1_bareYear.data.toList.drop 0 = dktX1_bareYear_0 := by decide +kernel
theorem dksX1_bareYear_1 : cX1_bareYear.data.toList.drop 24 = dktX1_bareYear_1 := dk_seg dksX1_bareYear_0 24 rfl rfl
theorem dX1_bareYear_0 : decode cX1_bareYear 0 = .ok (.aload_n 0, 1) := dk_42 (dk_at dksX1_bareYear_0 0 rfl rfl)
theorem dX1_bareYear_1 : decode cX1_bareYear 1 = .ok (.getfield 37, 3) := dk_180 0 37 (dk_at dksX1_bareYear_0 1 rfl rfl)
theorem dX1_bareYear_4 : decode cX1_bareYear 4 = .ok (.aload_n 1, 1) := dk_43 (dk_at dksX1_bareYear_0 4 rfl rfl)
theorem dX1_bareYear_5 : decode cX1_bareYear 5 = .ok (.invokevirtual 195, 3) := dk_182 0 195 (dk_at dksX1_bareYear_0 5 rfl rfl)
theorem dX1_bareYear_8 : decode cX1_bareYear 8 = .ok (.astore_n 2, 1) := dk_77 (dk_at dksX1_bareYear_0 8 rfl rfl)
theorem dX1_bareYear_9 : decode cX1_bareYear 9 = .ok (.aload_n 1, 1) := dk_43 (dk_at dksX1_bareYear_0 9 rfl rfl)
theorem dX1_bareYear_10 : decode cX1_bareYear 10 = .ok (.getfield 190, 3) := dk_180 0 190 (dk_at dksX1_bareYear_0 10 rfl rfl)
theorem dX1_bareYear_13 : decode cX1_bareYear 13 = .ok (.iconst 1, 1) := dk_4 (dk_at dksX1_bareYear_0 13 rfl rfl)
theorem dX1_bareYear_14 : decode cX1_bareYear 14 = .ok (.iadd, 1) := dk_96 (dk_at dksX1_bareYear_0 14 rfl rfl)
theorem dX1_bareYear_15 : decode cX1_bareYear 15 = .ok (.istore_n 3, 1) := dk_62 (dk_at dksX1_bareYear_0 15 rfl rfl)
theorem dX1_bareYear_16 : decode cX1_bareYear 16 = .ok (.iload_n 3, 1) := dk_29 (dk_at dksX1_bareYear_0 16 rfl rfl)
theorem dX1_bareYear_17 : decode cX1_bareYear 17 = .ok (.sipush 300, 3) := dk_17 1 44 (dk_at dksX1_bareYear_0 17 rfl rfl)
theorem dX1_bareYear_20 : decode cX1_bareYear 20 = .ok (.if_icmp .ge 19, 3) := dk_162 0 19 (dk_at dksX1_bareYear_0 20 rfl rfl)
theorem dX1_bareYear_23 : decode cX1_bareYear 23 = .ok (.aload_n 2, 1) := dk_44 (dk_at dksX1_bareYear_0 23 rfl rfl)
theorem dX1_bareYear_24 : decode cX1_bareYear 24 = .ok (.iload_n 3, 1) := dk_29 (dk_at dksX1_bareYear_1 0 rfl rfl)
theorem dX1_bareYear_25 : decode cX1_bareYear 25 = .ok (.invokevirtual 242, 3) := dk_182 0 242 (dk_at dksX1_bareYear_1 1 rfl rfl)
theorem dX1_bareYear_28 : decode cX1_bareYear 28 = .ok (.ifCond .eq 5, 3) := dk_153 0 5 (dk_at dksX1_bareYear_1 4 rfl rfl)
theorem dX1_bareYear_31 : decode cX1_bareYear 31 = .ok (.iload_n 3, 1) := dk_29 (dk_at dksX1_bareYear_1 7 rfl rfl)
theorem dX1_bareYear_32 : decode cX1_bareYear 32 = .ok (.ireturn, 1) := dk_172 (dk_at dksX1_bareYear_1 8 rfl rfl)
theorem dX1_bareYear_33 : decode cX1_bareYear 33 = .ok (.iinc 3 1, 3) := dk_132 3 1 (dk_at dksX1_bareYear_1 9 rfl rfl)
theorem dX1_bareYear_36 : decode cX1_bareYear 36 = .ok (.goto (-20), 3) := dk_167 255 236 (dk_at dksX1_bareYear_1 12 rfl rfl)
theorem dX1_bareYear_39 : decode cX1_bareYear 39 = .ok (.iconst (-1), 1) := dk_2 (dk_at dksX1_bareYear_1 15 rfl rfl)
theorem dX1_bareYear_40 : decode cX1_bareYear 40 = .ok (.ireturn, 1) := dk_172 (dk_at dksX1_bareYear_1 16 rfl rfl)
abbrev cX1_where : ByteArray := prog_1_method_31_code
def yX1_where : MethodName := ⟨RX1, "where", "(II)I"⟩
def dkwX1_where_1 : List UInt8 := [180, 0, 37, 45, 182, 0, 195, 180, 1, 13, 28, 46, 172]
abbrev dktX1_where_1 : List UInt8 := dkwX1_where_1 ++ []
def dkwX1_where_0 : List UInt8 := [42, 27, 182, 0, 250, 78, 28, 184, 0, 174, 28, 45, 180, 0, 190, 162, 0, 7, 2, 167, 0, 16, 42]
abbrev dktX1_where_0 : List UInt8 := dkwX1_where_0 ++ dktX1_where_1
theorem dksX1_where_0 : cX1_where.data.toList.drop 0 = dktX1_where_0 := by decide +kernel
theorem dksX1_where_1 : cX1_where.data.toList.drop 23 = dktX1_where_1 := dk_seg dksX1_where_0 23 rfl rfl
theorem dX1_where_0 : decode cX1_where 0 = .ok (.aload_n 0, 1) := dk_42 (dk_at dksX1_where_0 0 rfl rfl)
theorem dX1_where_1 : decode cX1_where 1 = .ok (.iload_n 1, 1) := dk_27 (dk_at dksX1_where_0 1 rfl rfl)
theorem dX1_where_2 : decode cX1_where 2 = .ok (.invokevirtual 250, 3) := dk_182 0 250 (dk_at dksX1_where_0 2 rfl rfl)
theorem dX1_where_5 : decode cX1_where 5 = .ok (.astore_n 3, 1) := dk_78 (dk_at dksX1_where_0 5 rfl rfl)
theorem dX1_where_6 : decode cX1_where 6 = .ok (.iload_n 2, 1) := dk_28 (dk_at dksX1_where_0 6 rfl rfl)
theorem dX1_where_7 : decode cX1_where 7 = .ok (.invokestatic 174, 3) := dk_184 0 174 (dk_at dksX1_where_0 7 rfl rfl)
theorem dX1_where_10 : decode cX1_where 10 = .ok (.iload_n 2, 1) := dk_28 (dk_at dksX1_where_0 10 rfl rfl)
theorem dX1_where_11 : decode cX1_where 11 = .ok (.aload_n 3, 1) := dk_45 (dk_at dksX1_where_0 11 rfl rfl)
theorem dX1_where_12 : decode cX1_where 12 = .ok (.getfield 190, 3) := dk_180 0 190 (dk_at dksX1_where_0 12 rfl rfl)
theorem dX1_where_15 : decode cX1_where 15 = .ok (.if_icmp .ge 7, 3) := dk_162 0 7 (dk_at dksX1_where_0 15 rfl rfl)
theorem dX1_where_18 : decode cX1_where 18 = .ok (.iconst (-1), 1) := dk_2 (dk_at dksX1_where_0 18 rfl rfl)
theorem dX1_where_19 : decode cX1_where 19 = .ok (.goto 16, 3) := dk_167 0 16 (dk_at dksX1_where_0 19 rfl rfl)
theorem dX1_where_22 : decode cX1_where 22 = .ok (.aload_n 0, 1) := dk_42 (dk_at dksX1_where_0 22 rfl rfl)
theorem dX1_where_23 : decode cX1_where 23 = .ok (.getfield 37, 3) := dk_180 0 37 (dk_at dksX1_where_1 0 rfl rfl)
theorem dX1_where_26 : decode cX1_where 26 = .ok (.aload_n 3, 1) := dk_45 (dk_at dksX1_where_1 3 rfl rfl)
theorem dX1_where_27 : decode cX1_where 27 = .ok (.invokevirtual 195, 3) := dk_182 0 195 (dk_at dksX1_where_1 4 rfl rfl)
theorem dX1_where_30 : decode cX1_where 30 = .ok (.getfield 269, 3) := dk_180 1 13 (dk_at dksX1_where_1 7 rfl rfl)
theorem dX1_where_33 : decode cX1_where 33 = .ok (.iload_n 2, 1) := dk_28 (dk_at dksX1_where_1 10 rfl rfl)
theorem dX1_where_34 : decode cX1_where 34 = .ok (.iaload, 1) := dk_46 (dk_at dksX1_where_1 11 rfl rfl)
theorem dX1_where_35 : decode cX1_where 35 = .ok (.ireturn, 1) := dk_172 (dk_at dksX1_where_1 12 rfl rfl)
abbrev cX1_deep : ByteArray := prog_1_method_32_code
def yX1_deep : MethodName := ⟨RX1, "deep", "(II)I"⟩
def dkwX1_deep_1 : List UInt8 := [180, 0, 37, 45, 182, 0, 195, 180, 0, 247, 28, 46, 172]
abbrev dktX1_deep_1 : List UInt8 := dkwX1_deep_1 ++ []
def dkwX1_deep_0 : List UInt8 := [42, 27, 182, 0, 250, 78, 28, 184, 0, 174, 28, 45, 180, 0, 190, 162, 0, 7, 2, 167, 0, 16, 42]
abbrev dktX1_deep_0 : List UInt8 := dkwX1_deep_0 ++ dktX1_deep_1
theorem dksX1_deep_0 : cX1_deep.data.toList.drop 0 = dktX1_deep_0 := by decide +kernel
theorem dksX1_deep_1 : cX1_deep.data.toList.drop 23 = dktX1_deep_1 := dk_seg dksX1_deep_0 23 rfl rfl
theorem dX1_deep_0 : decode cX1_deep 0 = .ok (.aload_n 0, 1) := dk_42 (dk_at dksX1_deep_0 0 rfl rfl)
theorem dX1_deep_1 : decode cX1_deep 1 = .ok (.iload_n 1, 1) := dk_27 (dk_at dksX1_deep_0 1 rfl rfl)
theorem dX1_deep_2 : decode cX1_deep 2 = .ok (.invokevirtual 250, 3) := dk_182 0 250 (dk_at dksX1_deep_0 2 rfl rfl)
theorem dX1_deep_5 : decode cX1_deep 5 = .ok (.astore_n 3, 1) := dk_78 (dk_at dksX1_deep_0 5 rfl rfl)
theorem dX1_deep_6 : decode cX1_deep 6 = .ok (.iload_n 2, 1) := dk_28 (dk_at dksX1_deep_0 6 rfl rfl)
theorem dX1_deep_7 : decode cX1_deep 7 = .ok (.invokestatic 174, 3) := dk_184 0 174 (dk_at dksX1_deep_0 7 rfl rfl)
theorem dX1_deep_10 : decode cX1_deep 10 = .ok (.iload_n 2, 1) := dk_28 (dk_at dksX1_deep_0 10 rfl rfl)
theorem dX1_deep_11 : decode cX1_deep 11 = .ok (.aload_n 3, 1) := dk_45 (dk_at dksX1_deep_0 11 rfl rfl)
theorem dX1_deep_12 : decode cX1_deep 12 = .ok (.getfield 190, 3) := dk_180 0 190 (dk_at dksX1_deep_0 12 rfl rfl)
theorem dX1_deep_15 : decode cX1_deep 15 = .ok (.if_icmp .ge 7, 3) := dk_162 0 7 (dk_at dksX1_deep_0 15 rfl rfl)
theorem dX1_deep_18 : decode cX1_deep 18 = .ok (.iconst (-1), 1) := dk_2 (dk_at dksX1_deep_0 18 rfl rfl)
theorem dX1_deep_19 : decode cX1_deep 19 = .ok (.goto 16, 3) := dk_167 0 16 (dk_at dksX1_deep_0 19 rfl rfl)
theorem dX1_deep_22 : decode cX1_deep 22 = .ok (.aload_n 0, 1) := dk_42 (dk_at dksX1_deep_0 22 rfl rfl)
theorem dX1_deep_23 : decode cX1_deep 23 = .ok (.getfield 37, 3) := dk_180 0 37 (dk_at dksX1_deep_1 0 rfl rfl)
theorem dX1_deep_26 : decode cX1_deep 26 = .ok (.aload_n 3, 1) := dk_45 (dk_at dksX1_deep_1 3 rfl rfl)
theorem dX1_deep_27 : decode cX1_deep 27 = .ok (.invokevirtual 195, 3) := dk_182 0 195 (dk_at dksX1_deep_1 4 rfl rfl)
theorem dX1_deep_30 : decode cX1_deep 30 = .ok (.getfield 247, 3) := dk_180 0 247 (dk_at dksX1_deep_1 7 rfl rfl)
theorem dX1_deep_33 : decode cX1_deep 33 = .ok (.iload_n 2, 1) := dk_28 (dk_at dksX1_deep_1 10 rfl rfl)
theorem dX1_deep_34 : decode cX1_deep 34 = .ok (.iaload, 1) := dk_46 (dk_at dksX1_deep_1 11 rfl rfl)
theorem dX1_deep_35 : decode cX1_deep 35 = .ok (.ireturn, 1) := dk_172 (dk_at dksX1_deep_1 12 rfl rfl)
abbrev cX1_post : ByteArray := prog_1_method_34_code
def yX1_post : MethodName := ⟨RX1, "post", "(II)I"⟩
def dkwX1_post_4 : List UInt8 := [4, 96, 181, 0, 103, 42, 180, 0, 21, 180, 0, 103, 4, 100, 172]
abbrev dktX1_post_4 : List UInt8 := dkwX1_post_4 ++ []
def dkwX1_post_3 : List UInt8 := [45, 180, 0, 234, 42, 180, 0, 21, 180, 0, 209, 182, 1, 27, 58, 5, 42, 180, 0, 21, 89, 180, 0, 103]
abbrev dktX1_post_3 : List UInt8 := dkwX1_post_3 ++ dktX1_post_4
def dkwX1_post_2 : List UInt8 := [182, 1, 24, 42, 180, 0, 21, 180, 0, 106, 42, 180, 0, 21, 180, 0, 103, 50, 27, 28, 45, 180, 0, 229]
abbrev dktX1_post_2 : List UInt8 := dkwX1_post_2 ++ dktX1_post_3
def dkwX1_post_1 : List UInt8 := [184, 0, 83, 42, 180, 0, 21, 180, 0, 103, 16, 24, 162, 0, 7, 4, 167, 0, 4, 3, 184, 0, 145, 42]
abbrev dktX1_post_1 : List UInt8 := dkwX1_post_1 ++ dktX1_post_2
def dkwX1_post_0 : List UInt8 := [42, 27, 182, 0, 225, 78, 42, 28, 182, 0, 225, 58, 4, 27, 28, 159, 0, 7, 4, 167, 0, 4, 3]
abbrev dktX1_post_0 : List UInt8 := dkwX1_post_0 ++ dktX1_post_1
theorem dksX1_post_0 : cX1_post.data.toList.drop 0 = dktX1_post_0 := by decide +kernel
theorem dksX1_post_1 : cX1_post.data.toList.drop 23 = dktX1_post_1 := dk_seg dksX1_post_0 23 rfl rfl
theorem dksX1_post_2 : cX1_post.data.toList.drop 47 = dktX1_post_2 := dk_seg dksX1_post_1 24 rfl rfl
theorem dksX1_post_3 : cX1_post.data.toList.drop 71 = dktX1_post_3 := dk_seg dksX1_post_2 24 rfl rfl
theorem dksX1_post_4 : cX1_post.data.toList.drop 95 = dktX1_post_4 := dk_seg dksX1_post_3 24 rfl rfl
theorem dX1_post_0 : decode cX1_post 0 = .ok (.aload_n 0, 1) := dk_42 (dk_at dksX1_post_0 0 rfl rfl)
theorem dX1_post_1 : decode cX1_post 1 = .ok (.iload_n 1, 1) := dk_27 (dk_at dksX1_post_0 1 rfl rfl)
theorem dX1_post_2 : decode cX1_post 2 = .ok (.invokevirtual 225, 3) := dk_182 0 225 (dk_at dksX1_post_0 2 rfl rfl)
theorem dX1_post_5 : decode cX1_post 5 = .ok (.astore_n 3, 1) := dk_78 (dk_at dksX1_post_0 5 rfl rfl)
theorem dX1_post_6 : decode cX1_post 6 = .ok (.aload_n 0, 1) := dk_42 (dk_at dksX1_post_0 6 rfl rfl)
theorem dX1_post_7 : decode cX1_post 7 = .ok (.iload_n 2, 1) := dk_28 (dk_at dksX1_post_0 7 rfl rfl)
theorem dX1_post_8 : decode cX1_post 8 = .ok (.invokevirtual 225, 3) := dk_182 0 225 (dk_at dksX1_post_0 8 rfl rfl)
theorem dX1_post_11 : decode cX1_post 11 = .ok (.astore 4, 2) := dk_58 4 (dk_at dksX1_post_0 11 rfl rfl)
theorem dX1_post_13 : decode cX1_post 13 = .ok (.iload_n 1, 1) := dk_27 (dk_at dksX1_post_0 13 rfl rfl)
theorem dX1_post_14 : decode cX1_post 14 = .ok (.iload_n 2, 1) := dk_28 (dk_at dksX1_post_0 14 rfl rfl)
theorem dX1_post_15 : decode cX1_post 15 = .ok (.if_icmp .eq 7, 3) := dk_159 0 7 (dk_at dksX1_post_0 15 rfl rfl)
theorem dX1_post_18 : decode cX1_post 18 = .ok (.iconst 1, 1) := dk_4 (dk_at dksX1_post_0 18 rfl rfl)
theorem dX1_post_19 : decode cX1_post 19 = .ok (.goto 4, 3) := dk_167 0 4 (dk_at dksX1_post_0 19 rfl rfl)
theorem dX1_post_22 : decode cX1_post 22 = .ok (.iconst 0, 1) := dk_3 (dk_at dksX1_post_0 22 rfl rfl)
theorem dX1_post_23 : decode cX1_post 23 = .ok (.invokestatic 83, 3) := dk_184 0 83 (dk_at dksX1_post_1 0 rfl rfl)
theorem dX1_post_26 : decode cX1_post 26 = .ok (.aload_n 0, 1) := dk_42 (dk_at dksX1_post_1 3 rfl rfl)
theorem dX1_post_27 : decode cX1_post 27 = .ok (.getfield 21, 3) := dk_180 0 21 (dk_at dksX1_post_1 4 rfl rfl)
theorem dX1_post_30 : decode cX1_post 30 = .ok (.getfield 103, 3) := dk_180 0 103 (dk_at dksX1_post_1 7 rfl rfl)
theorem dX1_post_33 : decode cX1_post 33 = .ok (.bipush 24, 2) := dk_16 24 (dk_at dksX1_post_1 10 rfl rfl)
theorem dX1_post_35 : decode cX1_post 35 = .ok (.if_icmp .ge 7, 3) := dk_162 0 7 (dk_at dksX1_post_1 12 rfl rfl)
theorem dX1_post_38 : decode cX1_post 38 = .ok (.iconst 1, 1) := dk_4 (dk_at dksX1_post_1 15 rfl rfl)
theorem dX1_post_39 : decode cX1_post 39 = .ok (.goto 4, 3) := dk_167 0 4 (dk_at dksX1_post_1 16 rfl rfl)
theorem dX1_post_42 : decode cX1_post 42 = .ok (.iconst 0, 1) := dk_3 (dk_at dksX1_post_1 19 rfl rfl)
theorem dX1_post_43 : decode cX1_post 43 = .ok (.invokestatic 145, 3) := dk_184 0 145 (dk_at dksX1_post_1 20 rfl rfl)
theorem dX1_post_46 : decode cX1_post 46 = .ok (.aload_n 0, 1) := dk_42 (dk_at dksX1_post_1 23 rfl rfl)
theorem dX1_post_47 : decode cX1_post 47 = .ok (.invokevirtual 280, 3) := dk_182 1 24 (dk_at dksX1_post_2 0 rfl rfl)
theorem dX1_post_50 : decode cX1_post 50 = .ok (.aload_n 0, 1) := dk_42 (dk_at dksX1_post_2 3 rfl rfl)
theorem dX1_post_51 : decode cX1_post 51 = .ok (.getfield 21, 3) := dk_180 0 21 (dk_at dksX1_post_2 4 rfl rfl)
theorem dX1_post_54 : decode cX1_post 54 = .ok (.getfield 106, 3) := dk_180 0 106 (dk_at dksX1_post_2 7 rfl rfl)
theorem dX1_post_57 : decode cX1_post 57 = .ok (.aload_n 0, 1) := dk_42 (dk_at dksX1_post_2 10 rfl rfl)
theorem dX1_post_58 : decode cX1_post 58 = .ok (.getfield 21, 3) := dk_180 0 21 (dk_at dksX1_post_2 11 rfl rfl)
theorem dX1_post_61 : decode cX1_post 61 = .ok (.getfield 103, 3) := dk_180 0 103 (dk_at dksX1_post_2 14 rfl rfl)
theorem dX1_post_64 : decode cX1_post 64 = .ok (.aaload, 1) := dk_50 (dk_at dksX1_post_2 17 rfl rfl)
theorem dX1_post_65 : decode cX1_post 65 = .ok (.iload_n 1, 1) := dk_27 (dk_at dksX1_post_2 18 rfl rfl)
theorem dX1_post_66 : decode cX1_post 66 = .ok (.iload_n 2, 1) := dk_28 (dk_at dksX1_post_2 19 rfl rfl)
theorem dX1_post_67 : decode cX1_post 67 = .ok (.aload_n 3, 1) := dk_45 (dk_at dksX1_post_2 20 rfl rfl)
theorem dX1_post_68 : decode cX1_post 68 = .ok (.getfield 229, 3) := dk_180 0 229 (dk_at dksX1_post_2 21 rfl rfl)
theorem dX1_post_71 : decode cX1_post 71 = .ok (.aload_n 3, 1) := dk_45 (dk_at dksX1_post_3 0 rfl rfl)
theorem dX1_post_72 : decode cX1_post 72 = .ok (.getfield 234, 3) := dk_180 0 234 (dk_at dksX1_post_3 1 rfl rfl)
theorem dX1_post_75 : decode cX1_post 75 = .ok (.aload_n 0, 1) := dk_42 (dk_at dksX1_post_3 4 rfl rfl)
theorem dX1_post_76 : decode cX1_post 76 = .ok (.getfield 21, 3) := dk_180 0 21 (dk_at dksX1_post_3 5 rfl rfl)
theorem dX1_post_79 : decode cX1_post 79 = .ok (.getfield 209, 3) := dk_180 0 209 (dk_at dksX1_post_3 8 rfl rfl)
theorem dX1_post_82 : decode cX1_post 82 = .ok (.invokevirtual 283, 3) := dk_182 1 27 (dk_at dksX1_post_3 11 rfl rfl)
theorem dX1_post_85 : decode cX1_post 85 = .ok (.astore 5, 2) := dk_58 5 (dk_at dksX1_post_3 14 rfl rfl)
theorem dX1_post_87 : decode cX1_post 87 = .ok (.aload_n 0, 1) := dk_42 (dk_at dksX1_post_3 16 rfl rfl)
theorem dX1_post_88 : decode cX1_post 88 = .ok (.getfield 21, 3) := dk_180 0 21 (dk_at dksX1_post_3 17 rfl rfl)
theorem dX1_post_91 : decode cX1_post 91 = .ok (.dup, 1) := dk_89 (dk_at dksX1_post_3 20 rfl rfl)
theorem dX1_post_92 : decode cX1_post 92 = .ok (.getfield 103, 3) := dk_180 0 103 (dk_at dksX1_post_3 21 rfl rfl)
theorem dX1_post_95 : decode cX1_post 95 = .ok (.iconst 1, 1) := dk_4 (dk_at dksX1_post_4 0 rfl rfl)
theorem dX1_post_96 : decode cX1_post 96 = .ok (.iadd, 1) := dk_96 (dk_at dksX1_post_4 1 rfl rfl)
theorem dX1_post_97 : decode cX1_post 97 = .ok (.putfield 103, 3) := dk_181 0 103 (dk_at dksX1_post_4 2 rfl rfl)
theorem dX1_post_100 : decode cX1_post 100 = .ok (.aload_n 0, 1) := dk_42 (dk_at dksX1_post_4 5 rfl rfl)
theorem dX1_post_101 : decode cX1_post 101 = .ok (.getfield 21, 3) := dk_180 0 21 (dk_at dksX1_post_4 6 rfl rfl)
theorem dX1_post_104 : decode cX1_post 104 = .ok (.getfield 103, 3) := dk_180 0 103 (dk_at dksX1_post_4 9 rfl rfl)
theorem dX1_post_107 : decode cX1_post 107 = .ok (.iconst 1, 1) := dk_4 (dk_at dksX1_post_4 12 rfl rfl)
theorem dX1_post_108 : decode cX1_post 108 = .ok (.isub, 1) := dk_100 (dk_at dksX1_post_4 13 rfl rfl)
theorem dX1_post_109 : decode cX1_post 109 = .ok (.ireturn, 1) := dk_172 (dk_at dksX1_post_4 14 rfl rfl)
abbrev cX1_remembers : ByteArray := prog_1_method_33_code
def yX1_remembers : MethodName := ⟨RX1, "remembers", "()V"⟩
def dkwX1_remembers_1 : List UInt8 := [16, 12, 112, 181, 1, 16, 42, 16, 12, 42, 180, 0, 152, 4, 96, 184, 1, 19, 181, 0, 152, 177]
abbrev dktX1_remembers_1 : List UInt8 := dkwX1_remembers_1 ++ []
def dkwX1_remembers_0 : List UInt8 := [42, 180, 0, 28, 42, 180, 1, 16, 50, 42, 180, 0, 21, 182, 0, 148, 42, 42, 180, 1, 16, 4, 96]
abbrev dktX1_remembers_0 : List UInt8 := dkwX1_remembers_0 ++ dktX1_remembers_1
theorem dksX1_remembers_0 : cX1_remembers.data.toList.drop 0 = dktX1_remembers_0 := by decide +kernel
theorem dksX1_remembers_1 : cX1_remembers.data.toList.drop 23 = dktX1_remembers_1 := dk_seg dksX1_remembers_0 23 rfl rfl
theorem dX1_remembers_0 : decode cX1_remembers 0 = .ok (.aload_n 0, 1) := dk_42 (dk_at dksX1_remembers_0 0 rfl rfl)
theorem dX1_remembers_1 : decode cX1_remembers 1 = .ok (.getfield 28, 3) := dk_180 0 28 (dk_at dksX1_remembers_0 1 rfl rfl)
theorem dX1_remembers_4 : decode cX1_remembers 4 = .ok (.aload_n 0, 1) := dk_42 (dk_at dksX1_remembers_0 4 rfl rfl)
theorem dX1_remembers_5 : decode cX1_remembers 5 = .ok (.getfield 272, 3) := dk_180 1 16 (dk_at dksX1_remembers_0 5 rfl rfl)
theorem dX1_remembers_8 : decode cX1_remembers 8 = .ok (.aaload, 1) := dk_50 (dk_at dksX1_remembers_0 8 rfl rfl)
theorem dX1_remembers_9 : decode cX1_remembers 9 = .ok (.aload_n 0, 1) := dk_42 (dk_at dksX1_remembers_0 9 rfl rfl)
theorem dX1_remembers_10 : decode cX1_remembers 10 = .ok (.getfield 21, 3) := dk_180 0 21 (dk_at dksX1_remembers_0 10 rfl rfl)
theorem dX1_remembers_13 : decode cX1_remembers 13 = .ok (.invokevirtual 148, 3) := dk_182 0 148 (dk_at dksX1_remembers_0 13 rfl rfl)
theorem dX1_remembers_16 : decode cX1_remembers 16 = .ok (.aload_n 0, 1) := dk_42 (dk_at dksX1_remembers_0 16 rfl rfl)
theorem dX1_remembers_17 : decode cX1_remembers 17 = .ok (.aload_n 0, 1) := dk_42 (dk_at dksX1_remembers_0 17 rfl rfl)
theorem dX1_remembers_18 : decode cX1_remembers 18 = .ok (.getfield 272, 3) := dk_180 1 16 (dk_at dksX1_remembers_0 18 rfl rfl)
theorem dX1_remembers_21 : decode cX1_remembers 21 = .ok (.iconst 1, 1) := dk_4 (dk_at dksX1_remembers_0 21 rfl rfl)
theorem dX1_remembers_22 : decode cX1_remembers 22 = .ok (.iadd, 1) := dk_96 (dk_at dksX1_remembers_0 22 rfl rfl)
theorem dX1_remembers_23 : decode cX1_remembers 23 = .ok (.bipush 12, 2) := dk_16 12 (dk_at dksX1_remembers_1 0 rfl rfl)
theorem dX1_remembers_25 : decode cX1_remembers 25 = .ok (.irem, 1) := dk_112 (dk_at dksX1_remembers_1 2 rfl rfl)
theorem dX1_remembers_26 : decode cX1_remembers 26 = .ok (.putfield 272, 3) := dk_181 1 16 (dk_at dksX1_remembers_1 3 rfl rfl)
theorem dX1_remembers_29 : decode cX1_remembers 29 = .ok (.aload_n 0, 1) := dk_42 (dk_at dksX1_remembers_1 6 rfl rfl)
theorem dX1_remembers_30 : decode cX1_remembers 30 = .ok (.bipush 12, 2) := dk_16 12 (dk_at dksX1_remembers_1 7 rfl rfl)
theorem dX1_remembers_32 : decode cX1_remembers 32 = .ok (.aload_n 0, 1) := dk_42 (dk_at dksX1_remembers_1 9 rfl rfl)
theorem dX1_remembers_33 : decode cX1_remembers 33 = .ok (.getfield 152, 3) := dk_180 0 152 (dk_at dksX1_remembers_1 10 rfl rfl)
theorem dX1_remembers_36 : decode cX1_remembers 36 = .ok (.iconst 1, 1) := dk_4 (dk_at dksX1_remembers_1 13 rfl rfl)
theorem dX1_remembers_37 : decode cX1_remembers 37 = .ok (.iadd, 1) := dk_96 (dk_at dksX1_remembers_1 14 rfl rfl)
theorem dX1_remembers_38 : decode cX1_remembers 38 = .ok (.invokestatic 275, 3) := dk_184 1 19 (dk_at dksX1_remembers_1 15 rfl rfl)
theorem dX1_remembers_41 : decode cX1_remembers 41 = .ok (.putfield 152, 3) := dk_181 0 152 (dk_at dksX1_remembers_1 18 rfl rfl)
theorem dX1_remembers_44 : decode cX1_remembers 44 = .ok (.return_, 1) := dk_177 (dk_at dksX1_remembers_1 21 rfl rfl)
abbrev cX1_watch : ByteArray := prog_1_method_35_code
def yX1_watch : MethodName := ⟨RX1, "watch", "(II)I"⟩
def dkwX1_watch_1 : List UInt8 := [54, 4, 45, 28, 181, 0, 236, 21, 4, 172]
abbrev dktX1_watch_1 : List UInt8 := dkwX1_watch_1 ++ []
def dkwX1_watch_0 : List UInt8 := [42, 27, 182, 0, 225, 78, 28, 2, 159, 0, 8, 42, 28, 182, 0, 180, 42, 182, 1, 24, 45, 180, 0, 236]
abbrev dktX1_watch_0 : List UInt8 := dkwX1_watch_0 ++ dktX1_watch_1
theorem dksX1_watch_0 : cX1_watch.data.toList.drop 0 = dktX1_watch_0 := by decide +kernel
theorem dksX1_watch_1 : cX1_watch.data.toList.drop 24 = dktX1_watch_1 := dk_seg dksX1_watch_0 24 rfl rfl
theorem dX1_watch_0 : decode cX1_watch 0 = .ok (.aload_n 0, 1) := dk_42 (dk_at dksX1_watch_0 0 rfl rfl)
theorem dX1_watch_1 : decode cX1_watch 1 = .ok (.iload_n 1, 1) := dk_27 (dk_at dksX1_watch_0 1 rfl rfl)
theorem dX1_watch_2 : decode cX1_watch 2 = .ok (.invokevirtual 225, 3) := dk_182 0 225 (dk_at dksX1_watch_0 2 rfl rfl)
theorem dX1_watch_5 : decode cX1_watch 5 = .ok (.astore_n 3, 1) := dk_78 (dk_at dksX1_watch_0 5 rfl rfl)
theorem dX1_watch_6 : decode cX1_watch 6 = .ok (.iload_n 2, 1) := dk_28 (dk_at dksX1_watch_0 6 rfl rfl)
theorem dX1_watch_7 : decode cX1_watch 7 = .ok (.iconst (-1), 1) := dk_2 (dk_at dksX1_watch_0 7 rfl rfl)
theorem dX1_watch_8 : decode cX1_watch 8 = .ok (.if_icmp .eq 8, 3) := dk_159 0 8 (dk_at dksX1_watch_0 8 rfl rfl)
theorem dX1_watch_11 : decode cX1_watch 11 = .ok (.aload_n 0, 1) := dk_42 (dk_at dksX1_watch_0 11 rfl rfl)
theorem dX1_watch_12 : decode cX1_watch 12 = .ok (.iload_n 2, 1) := dk_28 (dk_at dksX1_watch_0 12 rfl rfl)
theorem dX1_watch_13 : decode cX1_watch 13 = .ok (.invokevirtual 180, 3) := dk_182 0 180 (dk_at dksX1_watch_0 13 rfl rfl)
theorem dX1_watch_16 : decode cX1_watch 16 = .ok (.aload_n 0, 1) := dk_42 (dk_at dksX1_watch_0 16 rfl rfl)
theorem dX1_watch_17 : decode cX1_watch 17 = .ok (.invokevirtual 280, 3) := dk_182 1 24 (dk_at dksX1_watch_0 17 rfl rfl)
theorem dX1_watch_20 : decode cX1_watch 20 = .ok (.aload_n 3, 1) := dk_45 (dk_at dksX1_watch_0 20 rfl rfl)
theorem dX1_watch_21 : decode cX1_watch 21 = .ok (.getfield 236, 3) := dk_180 0 236 (dk_at dksX1_watch_0 21 rfl rfl)
theorem dX1_watch_24 : decode cX1_watch 24 = .ok (.istore 4, 2) := dk_54 4 (dk_at dksX1_watch_1 0 rfl rfl)
theorem dX1_watch_26 : decode cX1_watch 26 = .ok (.aload_n 3, 1) := dk_45 (dk_at dksX1_watch_1 2 rfl rfl)
theorem dX1_watch_27 : decode cX1_watch 27 = .ok (.iload_n 2, 1) := dk_28 (dk_at dksX1_watch_1 3 rfl rfl)
theorem dX1_watch_28 : decode cX1_watch 28 = .ok (.putfield 236, 3) := dk_181 0 236 (dk_at dksX1_watch_1 4 rfl rfl)
theorem dX1_watch_31 : decode cX1_watch 31 = .ok (.iload 4, 2) := dk_21 4 (dk_at dksX1_watch_1 7 rfl rfl)
theorem dX1_watch_33 : decode cX1_watch 33 = .ok (.ireturn, 1) := dk_172 (dk_at dksX1_watch_1 9 rfl rfl)
abbrev cX1_open : ByteArray := prog_1_method_36_code
def yX1_open : MethodName := ⟨RX1, "open", "(I)I"⟩
def dkwX1_open_2 : List UInt8 := [180, 0, 190, 100, 172]
abbrev dktX1_open_2 : List UInt8 := dkwX1_open_2 ++ []
def dkwX1_open_1 : List UInt8 := [182, 1, 24, 42, 180, 0, 21, 27, 44, 180, 0, 218, 182, 1, 34, 42, 180, 0, 21, 180, 0, 209, 44]
abbrev dktX1_open_1 : List UInt8 := dkwX1_open_1 ++ dktX1_open_2
def dkwX1_open_0 : List UInt8 := [42, 27, 182, 0, 250, 77, 42, 44, 182, 0, 221, 154, 0, 11, 187, 1, 31, 89, 183, 1, 33, 191, 42]
abbrev dktX1_open_0 : List UInt8 := dkwX1_open_0 ++ dktX1_open_1
theorem dksX1_open_0 : cX1_open.data.toList.drop 0 = dktX1_open_0 := by decide +kernel
theorem dksX1_open_1 : cX1_open.data.toList.drop 23 = dktX1_open_1 := dk_seg dksX1_open_0 23 rfl rfl
theorem dksX1_open_2 : cX1_open.data.toList.drop 46 = dktX1_open_2 := dk_seg dksX1_open_1 23 rfl rfl
theorem dX1_open_0 : decode cX1_open 0 = .ok (.aload_n 0, 1) := dk_42 (dk_at dksX1_open_0 0 rfl rfl)
theorem dX1_open_1 : decode cX1_open 1 = .ok (.iload_n 1, 1) := dk_27 (dk_at dksX1_open_0 1 rfl rfl)
theorem dX1_open_2 : decode cX1_open 2 = .ok (.invokevirtual 250, 3) := dk_182 0 250 (dk_at dksX1_open_0 2 rfl rfl)
theorem dX1_open_5 : decode cX1_open 5 = .ok (.astore_n 2, 1) := dk_77 (dk_at dksX1_open_0 5 rfl rfl)
theorem dX1_open_6 : decode cX1_open 6 = .ok (.aload_n 0, 1) := dk_42 (dk_at dksX1_open_0 6 rfl rfl)
theorem dX1_open_7 : decode cX1_open 7 = .ok (.aload_n 2, 1) := dk_44 (dk_at dksX1_open_0 7 rfl rfl)
theorem dX1_open_8 : decode cX1_open 8 = .ok (.invokevirtual 221, 3) := dk_182 0 221 (dk_at dksX1_open_0 8 rfl rfl)
theorem dX1_open_11 : decode cX1_open 11 = .ok (.ifCond .ne 11, 3) := dk_154 0 11 (dk_at dksX1_open_0 11 rfl rfl)
theorem dX1_open_14 : decode cX1_open 14 = .ok (.new 287, 3) := dk_187 1 31 (dk_at dksX1_open_0 14 rfl rfl)
theorem dX1_open_17 : decode cX1_open 17 = .ok (.dup, 1) := dk_89 (dk_at dksX1_open_0 17 rfl rfl)
theorem dX1_open_18 : decode cX1_open 18 = .ok (.invokespecial 289, 3) := dk_183 1 33 (dk_at dksX1_open_0 18 rfl rfl)
theorem dX1_open_21 : decode cX1_open 21 = .ok (.athrow, 1) := dk_191 (dk_at dksX1_open_0 21 rfl rfl)
theorem dX1_open_22 : decode cX1_open 22 = .ok (.aload_n 0, 1) := dk_42 (dk_at dksX1_open_0 22 rfl rfl)
theorem dX1_open_23 : decode cX1_open 23 = .ok (.invokevirtual 280, 3) := dk_182 1 24 (dk_at dksX1_open_1 0 rfl rfl)
theorem dX1_open_26 : decode cX1_open 26 = .ok (.aload_n 0, 1) := dk_42 (dk_at dksX1_open_1 3 rfl rfl)
theorem dX1_open_27 : decode cX1_open 27 = .ok (.getfield 21, 3) := dk_180 0 21 (dk_at dksX1_open_1 4 rfl rfl)
theorem dX1_open_30 : decode cX1_open 30 = .ok (.iload_n 1, 1) := dk_27 (dk_at dksX1_open_1 7 rfl rfl)
theorem dX1_open_31 : decode cX1_open 31 = .ok (.aload_n 2, 1) := dk_44 (dk_at dksX1_open_1 8 rfl rfl)
theorem dX1_open_32 : decode cX1_open 32 = .ok (.getfield 218, 3) := dk_180 0 218 (dk_at dksX1_open_1 9 rfl rfl)
theorem dX1_open_35 : decode cX1_open 35 = .ok (.invokevirtual 290, 3) := dk_182 1 34 (dk_at dksX1_open_1 12 rfl rfl)
theorem dX1_open_38 : decode cX1_open 38 = .ok (.aload_n 0, 1) := dk_42 (dk_at dksX1_open_1 15 rfl rfl)
theorem dX1_open_39 : decode cX1_open 39 = .ok (.getfield 21, 3) := dk_180 0 21 (dk_at dksX1_open_1 16 rfl rfl)
theorem dX1_open_42 : decode cX1_open 42 = .ok (.getfield 209, 3) := dk_180 0 209 (dk_at dksX1_open_1 19 rfl rfl)
theorem dX1_open_45 : decode cX1_open 45 = .ok (.aload_n 2, 1) := dk_44 (dk_at dksX1_open_1 22 rfl rfl)
theorem dX1_open_46 : decode cX1_open 46 = .ok (.getfield 190, 3) := dk_180 0 190 (dk_at dksX1_open_2 0 rfl rfl)
theorem dX1_open_49 : decode cX1_open 49 = .ok (.isub, 1) := dk_100 (dk_at dksX1_open_2 3 rfl rfl)
theorem dX1_open_50 : decode cX1_open 50 = .ok (.ireturn, 1) := dk_172 (dk_at dksX1_open_2 4 rfl rfl)
abbrev cX1_years : ByteArray := prog_1_method_39_code
def yX1_years : MethodName := ⟨RX1, "years", "(I)I"⟩
def dkwX1_years_3 : List UInt8 := [100, 172]
abbrev dktX1_years_3 : List UInt8 := dkwX1_years_3 ++ []
def dkwX1_years_2 : List UInt8 := [62, 29, 27, 162, 0, 13, 42, 182, 1, 48, 132, 3, 1, 167, 255, 244, 42, 180, 0, 21, 180, 1, 45, 28]
abbrev dktX1_years_2 : List UInt8 := dkwX1_years_2 ++ dktX1_years_3
def dkwX1_years_1 : List UInt8 := [162, 0, 7, 4, 167, 0, 4, 3, 184, 0, 83, 42, 182, 1, 24, 42, 180, 0, 21, 180, 1, 45, 61, 3]
abbrev dktX1_years_1 : List UInt8 := dkwX1_years_1 ++ dktX1_years_2
def dkwX1_years_0 : List UInt8 := [27, 4, 16, 50, 184, 0, 79, 153, 0, 22, 42, 180, 0, 21, 180, 0, 209, 27, 96, 17, 1, 44]
abbrev dktX1_years_0 : List UInt8 := dkwX1_years_0 ++ dktX1_years_1
theorem dksX1_years_0 : cX1_years.data.toList.drop 0 = dktX1_years_0 := by decide +kernel
theorem dksX1_years_1 : cX1_years.data.toList.drop 22 = dktX1_years_1 := dk_seg dksX1_years_0 22 rfl rfl
theorem dksX1_years_2 : cX1_years.data.toList.drop 46 = dktX1_years_2 := dk_seg dksX1_years_1 24 rfl rfl
theorem dksX1_years_3 : cX1_years.data.toList.drop 70 = dktX1_years_3 := dk_seg dksX1_years_2 24 rfl rfl
theorem dX1_years_0 : decode cX1_years 0 = .ok (.iload_n 1, 1) := dk_27 (dk_at dksX1_years_0 0 rfl rfl)
theorem dX1_years_1 : decode cX1_years 1 = .ok (.iconst 1, 1) := dk_4 (dk_at dksX1_years_0 1 rfl rfl)
theorem dX1_years_2 : decode cX1_years 2 = .ok (.bipush 50, 2) := dk_16 50 (dk_at dksX1_years_0 2 rfl rfl)
theorem dX1_years_4 : decode cX1_years 4 = .ok (.invokestatic 79, 3) := dk_184 0 79 (dk_at dksX1_years_0 4 rfl rfl)
theorem dX1_years_7 : decode cX1_years 7 = .ok (.ifCond .eq 22, 3) := dk_153 0 22 (dk_at dksX1_years_0 7 rfl rfl)
theorem dX1_years_10 : decode cX1_years 10 = .ok (.aload_n 0, 1) := dk_42 (dk_at dksX1_years_0 10 rfl rfl)
theorem dX1_years_11 : decode cX1_years 11 = .ok (.getfield 21, 3) := dk_180 0 21 (dk_at dksX1_years_0 11 rfl rfl)
theorem dX1_years_14 : decode cX1_years 14 = .ok (.getfield 209, 3) := dk_180 0 209 (dk_at dksX1_years_0 14 rfl rfl)
theorem dX1_years_17 : decode cX1_years 17 = .ok (.iload_n 1, 1) := dk_27 (dk_at dksX1_years_0 17 rfl rfl)
theorem dX1_years_18 : decode cX1_years 18 = .ok (.iadd, 1) := dk_96 (dk_at dksX1_years_0 18 rfl rfl)
theorem dX1_years_19 : decode cX1_years 19 = .ok (.sipush 300, 3) := dk_17 1 44 (dk_at dksX1_years_0 19 rfl rfl)
theorem dX1_years_22 : decode cX1_years 22 = .ok (.if_icmp .ge 7, 3) := dk_162 0 7 (dk_at dksX1_years_1 0 rfl rfl)
theorem dX1_years_25 : decode cX1_years 25 = .ok (.iconst 1, 1) := dk_4 (dk_at dksX1_years_1 3 rfl rfl)
theorem dX1_years_26 : decode cX1_years 26 = .ok (.goto 4, 3) := dk_167 0 4 (dk_at dksX1_years_1 4 rfl rfl)
theorem dX1_years_29 : decode cX1_years 29 = .ok (.iconst 0, 1) := dk_3 (dk_at dksX1_years_1 7 rfl rfl)
theorem dX1_years_30 : decode cX1_years 30 = .ok (.invokestatic 83, 3) := dk_184 0 83 (dk_at dksX1_years_1 8 rfl rfl)
theorem dX1_years_33 : decode cX1_years 33 = .ok (.aload_n 0, 1) := dk_42 (dk_at dksX1_years_1 11 rfl rfl)
theorem dX1_years_34 : decode cX1_years 34 = .ok (.invokevirtual 280, 3) := dk_182 1 24 (dk_at dksX1_years_1 12 rfl rfl)
theorem dX1_years_37 : decode cX1_years 37 = .ok (.aload_n 0, 1) := dk_42 (dk_at dksX1_years_1 15 rfl rfl)
theorem dX1_years_38 : decode cX1_years 38 = .ok (.getfield 21, 3) := dk_180 0 21 (dk_at dksX1_years_1 16 rfl rfl)
theorem dX1_years_41 : decode cX1_years 41 = .ok (.getfield 301, 3) := dk_180 1 45 (dk_at dksX1_years_1 19 rfl rfl)
theorem dX1_years_44 : decode cX1_years 44 = .ok (.istore_n 2, 1) := dk_61 (dk_at dksX1_years_1 22 rfl rfl)
theorem dX1_years_45 : decode cX1_years 45 = .ok (.iconst 0, 1) := dk_3 (dk_at dksX1_years_1 23 rfl rfl)
theorem dX1_years_46 : decode cX1_years 46 = .ok (.istore_n 3, 1) := dk_62 (dk_at dksX1_years_2 0 rfl rfl)
theorem dX1_years_47 : decode cX1_years 47 = .ok (.iload_n 3, 1) := dk_29 (dk_at dksX1_years_2 1 rfl rfl)
theorem dX1_years_48 : decode cX1_years 48 = .ok (.iload_n 1, 1) := dk_27 (dk_at dksX1_years_2 2 rfl rfl)
theorem dX1_years_49 : decode cX1_years 49 = .ok (.if_icmp .ge 13, 3) := dk_162 0 13 (dk_at dksX1_years_2 3 rfl rfl)
theorem dX1_years_52 : decode cX1_years 52 = .ok (.aload_n 0, 1) := dk_42 (dk_at dksX1_years_2 6 rfl rfl)
theorem dX1_years_53 : decode cX1_years 53 = .ok (.invokevirtual 304, 3) := dk_182 1 48 (dk_at dksX1_years_2 7 rfl rfl)
theorem dX1_years_56 : decode cX1_years 56 = .ok (.iinc 3 1, 3) := dk_132 3 1 (dk_at dksX1_years_2 10 rfl rfl)
theorem dX1_years_59 : decode cX1_years 59 = .ok (.goto (-12), 3) := dk_167 255 244 (dk_at dksX1_years_2 13 rfl rfl)
theorem dX1_years_62 : decode cX1_years 62 = .ok (.aload_n 0, 1) := dk_42 (dk_at dksX1_years_2 16 rfl rfl)
theorem dX1_years_63 : decode cX1_years 63 = .ok (.getfield 21, 3) := dk_180 0 21 (dk_at dksX1_years_2 17 rfl rfl)
theorem dX1_years_66 : decode cX1_years 66 = .ok (.getfield 301, 3) := dk_180 1 45 (dk_at dksX1_years_2 20 rfl rfl)
theorem dX1_years_69 : decode cX1_years 69 = .ok (.iload_n 2, 1) := dk_28 (dk_at dksX1_years_2 23 rfl rfl)
theorem dX1_years_70 : decode cX1_years 70 = .ok (.isub, 1) := dk_100 (dk_at dksX1_years_3 0 rfl rfl)
theorem dX1_years_71 : decode cX1_years 71 = .ok (.ireturn, 1) := dk_172 (dk_at dksX1_years_3 1 rfl rfl)
abbrev cX1_yearMore : ByteArray := prog_1_method_38_code
def yX1_yearMore : MethodName := ⟨RX1, "yearMore", "()V"⟩
def dkwX1_yearMore_3 : List UInt8 := [182, 1, 34, 132, 1, 1, 167, 255, 195, 177]
abbrev dktX1_yearMore_3 : List UInt8 := dkwX1_yearMore_3 ++ []
def dkwX1_yearMore_2 : List UInt8 := [180, 0, 21, 180, 0, 106, 27, 50, 182, 1, 42, 61, 28, 2, 159, 0, 12, 42, 180, 0, 21, 27, 28]
abbrev dktX1_yearMore_2 : List UInt8 := dkwX1_yearMore_2 ++ dktX1_yearMore_3
def dkwX1_yearMore_1 : List UInt8 := [162, 0, 56, 42, 42, 180, 0, 21, 180, 0, 106, 27, 50, 182, 0, 221, 154, 0, 6, 167, 0, 31, 42, 42]
abbrev dktX1_yearMore_1 : List UInt8 := dkwX1_yearMore_1 ++ dktX1_yearMore_2
def dkwX1_yearMore_0 : List UInt8 := [42, 180, 0, 21, 89, 180, 0, 209, 4, 96, 181, 0, 209, 3, 60, 27, 42, 180, 0, 21, 180, 0, 103]
abbrev dktX1_yearMore_0 : List UInt8 := dkwX1_yearMore_0 ++ dktX1_yearMore_1
theorem dksX1_yearMore_0 : cX1_yearMore.data.toList.drop 0 = dktX1_yearMore_0 := by decide +kernel
theorem dksX1_yearMore_1 : cX1_yearMore.data.toList.drop 23 = dktX1_yearMore_1 := dk_seg dksX1_yearMore_0 23 rfl rfl
theorem dksX1_yearMore_2 : cX1_yearMore.data.toList.drop 47 = dktX1_yearMore_2 := dk_seg dksX1_yearMore_1 24 rfl rfl
theorem dksX1_yearMore_3 : cX1_yearMore.data.toList.drop 70 = dktX1_yearMore_3 := dk_seg dksX1_yearMore_2 23 rfl rfl
theorem dX1_yearMore_0 : decode cX1_yearMore 0 = .ok (.aload_n 0, 1) := dk_42 (dk_at dksX1_yearMore_0 0 rfl rfl)
theorem dX1_yearMore_1 : decode cX1_yearMore 1 = .ok (.getfield 21, 3) := dk_180 0 21 (dk_at dksX1_yearMore_0 1 rfl rfl)
theorem dX1_yearMore_4 : decode cX1_yearMore 4 = .ok (.dup, 1) := dk_89 (dk_at dksX1_yearMore_0 4 rfl rfl)
theorem dX1_yearMore_5 : decode cX1_yearMore 5 = .ok (.getfield 209, 3) := dk_180 0 209 (dk_at dksX1_yearMore_0 5 rfl rfl)
theorem dX1_yearMore_8 : decode cX1_yearMore 8 = .ok (.iconst 1, 1) := dk_4 (dk_at dksX1_yearMore_0 8 rfl rfl)
theorem dX1_yearMore_9 : decode cX1_yearMore 9 = .ok (.iadd, 1) := dk_96 (dk_at dksX1_yearMore_0 9 rfl rfl)
theorem dX1_yearMore_10 : decode cX1_yearMore 10 = .ok (.putfield 209, 3) := dk_181 0 209 (dk_at dksX1_yearMore_0 10 rfl rfl)
theorem dX1_yearMore_13 : decode cX1_yearMore 13 = .ok (.iconst 0, 1) := dk_3 (dk_at dksX1_yearMore_0 13 rfl rfl)
theorem dX1_yearMore_14 : decode cX1_yearMore 14 = .ok (.istore_n 1, 1) := dk_60 (dk_at dksX1_yearMore_0 14 rfl rfl)
theorem dX1_yearMore_15 : decode cX1_yearMore 15 = .ok (.iload_n 1, 1) := dk_27 (dk_at dksX1_yearMore_0 15 rfl rfl)
theorem dX1_yearMore_16 : decode cX1_yearMore 16 = .ok (.aload_n 0, 1) := dk_42 (dk_at dksX1_yearMore_0 16 rfl rfl)
theorem dX1_yearMore_17 : decode cX1_yearMore 17 = .ok (.getfield 21, 3) := dk_180 0 21 (dk_at dksX1_yearMore_0 17 rfl rfl)
theorem dX1_yearMore_20 : decode cX1_yearMore 20 = .ok (.getfield 103, 3) := dk_180 0 103 (dk_at dksX1_yearMore_0 20 rfl rfl)
theorem dX1_yearMore_23 : decode cX1_yearMore 23 = .ok (.if_icmp .ge 56, 3) := dk_162 0 56 (dk_at dksX1_yearMore_1 0 rfl rfl)
theorem dX1_yearMore_26 : decode cX1_yearMore 26 = .ok (.aload_n 0, 1) := dk_42 (dk_at dksX1_yearMore_1 3 rfl rfl)
theorem dX1_yearMore_27 : decode cX1_yearMore 27 = .ok (.aload_n 0, 1) := dk_42 (dk_at dksX1_yearMore_1 4 rfl rfl)
theorem dX1_yearMore_28 : decode cX1_yearMore 28 = .ok (.getfield 21, 3) := dk_180 0 21 (dk_at dksX1_yearMore_1 5 rfl rfl)
theorem dX1_yearMore_31 : decode cX1_yearMore 31 = .ok (.getfield 106, 3) := dk_180 0 106 (dk_at dksX1_yearMore_1 8 rfl rfl)
theorem dX1_yearMore_34 : decode cX1_yearMore 34 = .ok (.iload_n 1, 1) := dk_27 (dk_at dksX1_yearMore_1 11 rfl rfl)
theorem dX1_yearMore_35 : decode cX1_yearMore 35 = .ok (.aaload, 1) := dk_50 (dk_at dksX1_yearMore_1 12 rfl rfl)
theorem dX1_yearMore_36 : decode cX1_yearMore 36 = .ok (.invokevirtual 221, 3) := dk_182 0 221 (dk_at dksX1_yearMore_1 13 rfl rfl)
theorem dX1_yearMore_39 : decode cX1_yearMore 39 = .ok (.ifCond .ne 6, 3) := dk_154 0 6 (dk_at dksX1_yearMore_1 16 rfl rfl)
theorem dX1_yearMore_42 : decode cX1_yearMore 42 = .ok (.goto 31, 3) := dk_167 0 31 (dk_at dksX1_yearMore_1 19 rfl rfl)
theorem dX1_yearMore_45 : decode cX1_yearMore 45 = .ok (.aload_n 0, 1) := dk_42 (dk_at dksX1_yearMore_1 22 rfl rfl)
theorem dX1_yearMore_46 : decode cX1_yearMore 46 = .ok (.aload_n 0, 1) := dk_42 (dk_at dksX1_yearMore_1 23 rfl rfl)
theorem dX1_yearMore_47 : decode cX1_yearMore 47 = .ok (.getfield 21, 3) := dk_180 0 21 (dk_at dksX1_yearMore_2 0 rfl rfl)
theorem dX1_yearMore_50 : decode cX1_yearMore 50 = .ok (.getfield 106, 3) := dk_180 0 106 (dk_at dksX1_yearMore_2 3 rfl rfl)
theorem dX1_yearMore_53 : decode cX1_yearMore 53 = .ok (.iload_n 1, 1) := dk_27 (dk_at dksX1_yearMore_2 6 rfl rfl)
theorem dX1_yearMore_54 : decode cX1_yearMore 54 = .ok (.aaload, 1) := dk_50 (dk_at dksX1_yearMore_2 7 rfl rfl)
theorem dX1_yearMore_55 : decode cX1_yearMore 55 = .ok (.invokevirtual 298, 3) := dk_182 1 42 (dk_at dksX1_yearMore_2 8 rfl rfl)
theorem dX1_yearMore_58 : decode cX1_yearMore 58 = .ok (.istore_n 2, 1) := dk_61 (dk_at dksX1_yearMore_2 11 rfl rfl)
theorem dX1_yearMore_59 : decode cX1_yearMore 59 = .ok (.iload_n 2, 1) := dk_28 (dk_at dksX1_yearMore_2 12 rfl rfl)
theorem dX1_yearMore_60 : decode cX1_yearMore 60 = .ok (.iconst (-1), 1) := dk_2 (dk_at dksX1_yearMore_2 13 rfl rfl)
theorem dX1_yearMore_61 : decode cX1_yearMore 61 = .ok (.if_icmp .eq 12, 3) := dk_159 0 12 (dk_at dksX1_yearMore_2 14 rfl rfl)
theorem dX1_yearMore_64 : decode cX1_yearMore 64 = .ok (.aload_n 0, 1) := dk_42 (dk_at dksX1_yearMore_2 17 rfl rfl)
theorem dX1_yearMore_65 : decode cX1_yearMore 65 = .ok (.getfield 21, 3) := dk_180 0 21 (dk_at dksX1_yearMore_2 18 rfl rfl)
theorem dX1_yearMore_68 : decode cX1_yearMore 68 = .ok (.iload_n 1, 1) := dk_27 (dk_at dksX1_yearMore_2 21 rfl rfl)
theorem dX1_yearMore_69 : decode cX1_yearMore 69 = .ok (.iload_n 2, 1) := dk_28 (dk_at dksX1_yearMore_2 22 rfl rfl)
theorem dX1_yearMore_70 : decode cX1_yearMore 70 = .ok (.invokevirtual 290, 3) := dk_182 1 34 (dk_at dksX1_yearMore_3 0 rfl rfl)
theorem dX1_yearMore_73 : decode cX1_yearMore 73 = .ok (.iinc 1 1, 3) := dk_132 1 1 (dk_at dksX1_yearMore_3 3 rfl rfl)
theorem dX1_yearMore_76 : decode cX1_yearMore 76 = .ok (.goto (-61), 3) := dk_167 255 195 (dk_at dksX1_yearMore_3 6 rfl rfl)
theorem dX1_yearMore_79 : decode cX1_yearMore 79 = .ok (.return_, 1) := dk_177 (dk_at dksX1_yearMore_3 9 rfl rfl)
abbrev cX1_opener : ByteArray := prog_1_method_37_code
def yX1_opener : MethodName := ⟨RX1, "opener", "(LGlacierMail$Letter;)I"⟩
def dkwX1_opener_3 : List UInt8 := [28, 182, 1, 38, 153, 0, 5, 29, 172, 132, 3, 1, 167, 255, 208, 2, 172]
abbrev dktX1_opener_3 : List UInt8 := dkwX1_opener_3 ++ []
def dkwX1_opener_2 : List UInt8 := [180, 0, 21, 180, 0, 99, 29, 50, 180, 0, 236, 43, 180, 0, 254, 160, 0, 18, 42, 180, 0, 21, 29, 43]
abbrev dktX1_opener_2 : List UInt8 := dkwX1_opener_2 ++ dktX1_opener_3
def dkwX1_opener_1 : List UInt8 := [180, 0, 218, 172, 42, 43, 182, 1, 6, 61, 3, 62, 29, 42, 180, 0, 21, 180, 0, 96, 162, 0, 43, 42]
abbrev dktX1_opener_1 : List UInt8 := dkwX1_opener_1 ++ dktX1_opener_2
def dkwX1_opener_0 : List UInt8 := [42, 180, 0, 21, 180, 0, 99, 43, 180, 0, 218, 50, 180, 0, 236, 43, 180, 0, 254, 160, 0, 8, 43]
abbrev dktX1_opener_0 : List UInt8 := dkwX1_opener_0 ++ dktX1_opener_1
theorem dksX1_opener_0 : cX1_opener.data.toList.drop 0 = dktX1_opener_0 := by decide +kernel
theorem dksX1_opener_1 : cX1_opener.data.toList.drop 23 = dktX1_opener_1 := dk_seg dksX1_opener_0 23 rfl rfl
theorem dksX1_opener_2 : cX1_opener.data.toList.drop 47 = dktX1_opener_2 := dk_seg dksX1_opener_1 24 rfl rfl
theorem dksX1_opener_3 : cX1_opener.data.toList.drop 71 = dktX1_opener_3 := dk_seg dksX1_opener_2 24 rfl rfl
theorem dX1_opener_0 : decode cX1_opener 0 = .ok (.aload_n 0, 1) := dk_42 (dk_at dksX1_opener_0 0 rfl rfl)
theorem dX1_opener_1 : decode cX1_opener 1 = .ok (.getfield 21, 3) := dk_180 0 21 (dk_at dksX1_opener_0 1 rfl rfl)
theorem dX1_opener_4 : decode cX1_opener 4 = .ok (.getfield 99, 3) := dk_180 0 99 (dk_at dksX1_opener_0 4 rfl rfl)
theorem dX1_opener_7 : decode cX1_opener 7 = .ok (.aload_n 1, 1) := dk_43 (dk_at dksX1_opener_0 7 rfl rfl)
theorem dX1_opener_8 : decode cX1_opener 8 = .ok (.getfield 218, 3) := dk_180 0 218 (dk_at dksX1_opener_0 8 rfl rfl)
theorem dX1_opener_11 : decode cX1_opener 11 = .ok (.aaload, 1) := dk_50 (dk_at dksX1_opener_0 11 rfl rfl)
theorem dX1_opener_12 : decode cX1_opener 12 = .ok (.getfield 236, 3) := dk_180 0 236 (dk_at dksX1_opener_0 12 rfl rfl)
theorem dX1_opener_15 : decode cX1_opener 15 = .ok (.aload_n 1, 1) := dk_43 (dk_at dksX1_opener_0 15 rfl rfl)
theorem dX1_opener_16 : decode cX1_opener 16 = .ok (.getfield 254, 3) := dk_180 0 254 (dk_at dksX1_opener_0 16 rfl rfl)
theorem dX1_opener_19 : decode cX1_opener 19 = .ok (.if_icmp .ne 8, 3) := dk_160 0 8 (dk_at dksX1_opener_0 19 rfl rfl)
theorem dX1_opener_22 : decode cX1_opener 22 = .ok (.aload_n 1, 1) := dk_43 (dk_at dksX1_opener_0 22 rfl rfl)
theorem dX1_opener_23 : decode cX1_opener 23 = .ok (.getfield 218, 3) := dk_180 0 218 (dk_at dksX1_opener_1 0 rfl rfl)
theorem dX1_opener_26 : decode cX1_opener 26 = .ok (.ireturn, 1) := dk_172 (dk_at dksX1_opener_1 3 rfl rfl)
theorem dX1_opener_27 : decode cX1_opener 27 = .ok (.aload_n 0, 1) := dk_42 (dk_at dksX1_opener_1 4 rfl rfl)
theorem dX1_opener_28 : decode cX1_opener 28 = .ok (.aload_n 1, 1) := dk_43 (dk_at dksX1_opener_1 5 rfl rfl)
theorem dX1_opener_29 : decode cX1_opener 29 = .ok (.invokevirtual 262, 3) := dk_182 1 6 (dk_at dksX1_opener_1 6 rfl rfl)
theorem dX1_opener_32 : decode cX1_opener 32 = .ok (.istore_n 2, 1) := dk_61 (dk_at dksX1_opener_1 9 rfl rfl)
theorem dX1_opener_33 : decode cX1_opener 33 = .ok (.iconst 0, 1) := dk_3 (dk_at dksX1_opener_1 10 rfl rfl)
theorem dX1_opener_34 : decode cX1_opener 34 = .ok (.istore_n 3, 1) := dk_62 (dk_at dksX1_opener_1 11 rfl rfl)
theorem dX1_opener_35 : decode cX1_opener 35 = .ok (.iload_n 3, 1) := dk_29 (dk_at dksX1_opener_1 12 rfl rfl)
theorem dX1_opener_36 : decode cX1_opener 36 = .ok (.aload_n 0, 1) := dk_42 (dk_at dksX1_opener_1 13 rfl rfl)
theorem dX1_opener_37 : decode cX1_opener 37 = .ok (.getfield 21, 3) := dk_180 0 21 (dk_at dksX1_opener_1 14 rfl rfl)
theorem dX1_opener_40 : decode cX1_opener 40 = .ok (.getfield 96, 3) := dk_180 0 96 (dk_at dksX1_opener_1 17 rfl rfl)
theorem dX1_opener_43 : decode cX1_opener 43 = .ok (.if_icmp .ge 43, 3) := dk_162 0 43 (dk_at dksX1_opener_1 20 rfl rfl)
theorem dX1_opener_46 : decode cX1_opener 46 = .ok (.aload_n 0, 1) := dk_42 (dk_at dksX1_opener_1 23 rfl rfl)
theorem dX1_opener_47 : decode cX1_opener 47 = .ok (.getfield 21, 3) := dk_180 0 21 (dk_at dksX1_opener_2 0 rfl rfl)
theorem dX1_opener_50 : decode cX1_opener 50 = .ok (.getfield 99, 3) := dk_180 0 99 (dk_at dksX1_opener_2 3 rfl rfl)
theorem dX1_opener_53 : decode cX1_opener 53 = .ok (.iload_n 3, 1) := dk_29 (dk_at dksX1_opener_2 6 rfl rfl)
theorem dX1_opener_54 : decode cX1_opener 54 = .ok (.aaload, 1) := dk_50 (dk_at dksX1_opener_2 7 rfl rfl)
theorem dX1_opener_55 : decode cX1_opener 55 = .ok (.getfield 236, 3) := dk_180 0 236 (dk_at dksX1_opener_2 8 rfl rfl)
theorem dX1_opener_58 : decode cX1_opener 58 = .ok (.aload_n 1, 1) := dk_43 (dk_at dksX1_opener_2 11 rfl rfl)
theorem dX1_opener_59 : decode cX1_opener 59 = .ok (.getfield 254, 3) := dk_180 0 254 (dk_at dksX1_opener_2 12 rfl rfl)
theorem dX1_opener_62 : decode cX1_opener 62 = .ok (.if_icmp .ne 18, 3) := dk_160 0 18 (dk_at dksX1_opener_2 15 rfl rfl)
theorem dX1_opener_65 : decode cX1_opener 65 = .ok (.aload_n 0, 1) := dk_42 (dk_at dksX1_opener_2 18 rfl rfl)
theorem dX1_opener_66 : decode cX1_opener 66 = .ok (.getfield 21, 3) := dk_180 0 21 (dk_at dksX1_opener_2 19 rfl rfl)
theorem dX1_opener_69 : decode cX1_opener 69 = .ok (.iload_n 3, 1) := dk_29 (dk_at dksX1_opener_2 22 rfl rfl)
theorem dX1_opener_70 : decode cX1_opener 70 = .ok (.aload_n 1, 1) := dk_43 (dk_at dksX1_opener_2 23 rfl rfl)
theorem dX1_opener_71 : decode cX1_opener 71 = .ok (.iload_n 2, 1) := dk_28 (dk_at dksX1_opener_3 0 rfl rfl)
theorem dX1_opener_72 : decode cX1_opener 72 = .ok (.invokevirtual 294, 3) := dk_182 1 38 (dk_at dksX1_opener_3 1 rfl rfl)
theorem dX1_opener_75 : decode cX1_opener 75 = .ok (.ifCond .eq 5, 3) := dk_153 0 5 (dk_at dksX1_opener_3 4 rfl rfl)
theorem dX1_opener_78 : decode cX1_opener 78 = .ok (.iload_n 3, 1) := dk_29 (dk_at dksX1_opener_3 7 rfl rfl)
theorem dX1_opener_79 : decode cX1_opener 79 = .ok (.ireturn, 1) := dk_172 (dk_at dksX1_opener_3 8 rfl rfl)
theorem dX1_opener_80 : decode cX1_opener 80 = .ok (.iinc 3 1, 3) := dk_132 3 1 (dk_at dksX1_opener_3 9 rfl rfl)
theorem dX1_opener_83 : decode cX1_opener 83 = .ok (.goto (-48), 3) := dk_167 255 208 (dk_at dksX1_opener_3 12 rfl rfl)
theorem dX1_opener_86 : decode cX1_opener 86 = .ok (.iconst (-1), 1) := dk_2 (dk_at dksX1_opener_3 15 rfl rfl)
theorem dX1_opener_87 : decode cX1_opener 87 = .ok (.ireturn, 1) := dk_172 (dk_at dksX1_opener_3 16 rfl rfl)
abbrev cX1_throwsFor : ByteArray := prog_1_method_40_code
def yX1_throwsFor : MethodName := ⟨RX1, "throwsFor", "(IIII)I"⟩
def dkwX1_throwsFor_5 : List UInt8 := [154, 0, 8, 21, 5, 167, 0, 16, 21, 4, 4, 160, 0, 8, 21, 6, 167, 0, 5, 21, 7, 172]
abbrev dktX1_throwsFor_5 : List UInt8 := dkwX1_throwsFor_5 ++ []
def dkwX1_throwsFor_4 : List UInt8 := [160, 0, 8, 21, 8, 167, 0, 5, 21, 6, 54, 6, 21, 8, 54, 7, 132, 8, 1, 167, 255, 197, 21, 4]
abbrev dktX1_throwsFor_4 : List UInt8 := dkwX1_throwsFor_4 ++ dktX1_throwsFor_5
def dkwX1_throwsFor_3 : List UInt8 := [21, 8, 28, 3, 182, 1, 54, 180, 0, 199, 29, 159, 0, 6, 167, 0, 25, 132, 5, 1, 21, 6, 2]
abbrev dktX1_throwsFor_3 : List UInt8 := dkwX1_throwsFor_3 ++ dktX1_throwsFor_4
def dkwX1_throwsFor_2 : List UInt8 := [2, 54, 7, 3, 54, 8, 21, 8, 42, 180, 0, 21, 180, 0, 93, 162, 0, 53, 42, 180, 0, 37, 27]
abbrev dktX1_throwsFor_2 : List UInt8 := dkwX1_throwsFor_2 ++ dktX1_throwsFor_3
def dkwX1_throwsFor_1 : List UInt8 := [4, 167, 0, 4, 3, 184, 0, 83, 21, 4, 3, 5, 184, 0, 79, 184, 1, 51, 3, 54, 5, 2, 54, 6]
abbrev dktX1_throwsFor_1 : List UInt8 := dkwX1_throwsFor_1 ++ dktX1_throwsFor_2
def dkwX1_throwsFor_0 : List UInt8 := [42, 27, 182, 0, 180, 28, 184, 0, 174, 29, 184, 0, 174, 28, 42, 180, 0, 21, 180, 0, 209, 161, 0, 7]
abbrev dktX1_throwsFor_0 : List UInt8 := dkwX1_throwsFor_0 ++ dktX1_throwsFor_1
theorem dksX1_throwsFor_0 : cX1_throwsFor.data.toList.drop 0 = dktX1_throwsFor_0 := by decide +kernel
theorem dksX1_throwsFor_1 : cX1_throwsFor.data.toList.drop 24 = dktX1_throwsFor_1 := dk_seg dksX1_throwsFor_0 24 rfl rfl
theorem dksX1_throwsFor_2 : cX1_throwsFor.data.toList.drop 48 = dktX1_throwsFor_2 := dk_seg dksX1_throwsFor_1 24 rfl rfl
theorem dksX1_throwsFor_3 : cX1_throwsFor.data.toList.drop 71 = dktX1_throwsFor_3 := dk_seg dksX1_throwsFor_2 23 rfl rfl
theorem dksX1_throwsFor_4 : cX1_throwsFor.data.toList.drop 94 = dktX1_throwsFor_4 := dk_seg dksX1_throwsFor_3 23 rfl rfl
theorem dksX1_throwsFor_5 : cX1_throwsFor.data.toList.drop 118 = dktX1_throwsFor_5 := dk_seg dksX1_throwsFor_4 24 rfl rfl
theorem dX1_throwsFor_0 : decode cX1_throwsFor 0 = .ok (.aload_n 0, 1) := dk_42 (dk_at dksX1_throwsFor_0 0 rfl rfl)
theorem dX1_throwsFor_1 : decode cX1_throwsFor 1 = .ok (.iload_n 1, 1) := dk_27 (dk_at dksX1_throwsFor_0 1 rfl rfl)
theorem dX1_throwsFor_2 : decode cX1_throwsFor 2 = .ok (.invokevirtual 180, 3) := dk_182 0 180 (dk_at dksX1_throwsFor_0 2 rfl rfl)
theorem dX1_throwsFor_5 : decode cX1_throwsFor 5 = .ok (.iload_n 2, 1) := dk_28 (dk_at dksX1_throwsFor_0 5 rfl rfl)
theorem dX1_throwsFor_6 : decode cX1_throwsFor 6 = .ok (.invokestatic 174, 3) := dk_184 0 174 (dk_at dksX1_throwsFor_0 6 rfl rfl)
theorem dX1_throwsFor_9 : decode cX1_throwsFor 9 = .ok (.iload_n 3, 1) := dk_29 (dk_at dksX1_throwsFor_0 9 rfl rfl)
theorem dX1_throwsFor_10 : decode cX1_throwsFor 10 = .ok (.invokestatic 174, 3) := dk_184 0 174 (dk_at dksX1_throwsFor_0 10 rfl rfl)
theorem dX1_throwsFor_13 : decode cX1_throwsFor 13 = .ok (.iload_n 2, 1) := dk_28 (dk_at dksX1_throwsFor_0 13 rfl rfl)
theorem dX1_throwsFor_14 : decode cX1_throwsFor 14 = .ok (.aload_n 0, 1) := dk_42 (dk_at dksX1_throwsFor_0 14 rfl rfl)
theorem dX1_throwsFor_15 : decode cX1_throwsFor 15 = .ok (.getfield 21, 3) := dk_180 0 21 (dk_at dksX1_throwsFor_0 15 rfl rfl)
theorem dX1_throwsFor_18 : decode cX1_throwsFor 18 = .ok (.getfield 209, 3) := dk_180 0 209 (dk_at dksX1_throwsFor_0 18 rfl rfl)
theorem dX1_throwsFor_21 : decode cX1_throwsFor 21 = .ok (.if_icmp .lt 7, 3) := dk_161 0 7 (dk_at dksX1_throwsFor_0 21 rfl rfl)
theorem dX1_throwsFor_24 : decode cX1_throwsFor 24 = .ok (.iconst 1, 1) := dk_4 (dk_at dksX1_throwsFor_1 0 rfl rfl)
theorem dX1_throwsFor_25 : decode cX1_throwsFor 25 = .ok (.goto 4, 3) := dk_167 0 4 (dk_at dksX1_throwsFor_1 1 rfl rfl)
theorem dX1_throwsFor_28 : decode cX1_throwsFor 28 = .ok (.iconst 0, 1) := dk_3 (dk_at dksX1_throwsFor_1 4 rfl rfl)
theorem dX1_throwsFor_29 : decode cX1_throwsFor 29 = .ok (.invokestatic 83, 3) := dk_184 0 83 (dk_at dksX1_throwsFor_1 5 rfl rfl)
theorem dX1_throwsFor_32 : decode cX1_throwsFor 32 = .ok (.iload 4, 2) := dk_21 4 (dk_at dksX1_throwsFor_1 8 rfl rfl)
theorem dX1_throwsFor_34 : decode cX1_throwsFor 34 = .ok (.iconst 0, 1) := dk_3 (dk_at dksX1_throwsFor_1 10 rfl rfl)
theorem dX1_throwsFor_35 : decode cX1_throwsFor 35 = .ok (.iconst 2, 1) := dk_5 (dk_at dksX1_throwsFor_1 11 rfl rfl)
theorem dX1_throwsFor_36 : decode cX1_throwsFor 36 = .ok (.invokestatic 79, 3) := dk_184 0 79 (dk_at dksX1_throwsFor_1 12 rfl rfl)
theorem dX1_throwsFor_39 : decode cX1_throwsFor 39 = .ok (.invokestatic 307, 3) := dk_184 1 51 (dk_at dksX1_throwsFor_1 15 rfl rfl)
theorem dX1_throwsFor_42 : decode cX1_throwsFor 42 = .ok (.iconst 0, 1) := dk_3 (dk_at dksX1_throwsFor_1 18 rfl rfl)
theorem dX1_throwsFor_43 : decode cX1_throwsFor 43 = .ok (.istore 5, 2) := dk_54 5 (dk_at dksX1_throwsFor_1 19 rfl rfl)
theorem dX1_throwsFor_45 : decode cX1_throwsFor 45 = .ok (.iconst (-1), 1) := dk_2 (dk_at dksX1_throwsFor_1 21 rfl rfl)
theorem dX1_throwsFor_46 : decode cX1_throwsFor 46 = .ok (.istore 6, 2) := dk_54 6 (dk_at dksX1_throwsFor_1 22 rfl rfl)
theorem dX1_throwsFor_48 : decode cX1_throwsFor 48 = .ok (.iconst (-1), 1) := dk_2 (dk_at dksX1_throwsFor_2 0 rfl rfl)
theorem dX1_throwsFor_49 : decode cX1_throwsFor 49 = .ok (.istore 7, 2) := dk_54 7 (dk_at dksX1_throwsFor_2 1 rfl rfl)
theorem dX1_throwsFor_51 : decode cX1_throwsFor 51 = .ok (.iconst 0, 1) := dk_3 (dk_at dksX1_throwsFor_2 3 rfl rfl)
theorem dX1_throwsFor_52 : decode cX1_throwsFor 52 = .ok (.istore 8, 2) := dk_54 8 (dk_at dksX1_throwsFor_2 4 rfl rfl)
theorem dX1_throwsFor_54 : decode cX1_throwsFor 54 = .ok (.iload 8, 2) := dk_21 8 (dk_at dksX1_throwsFor_2 6 rfl rfl)
theorem dX1_throwsFor_56 : decode cX1_throwsFor 56 = .ok (.aload_n 0, 1) := dk_42 (dk_at dksX1_throwsFor_2 8 rfl rfl)
theorem dX1_throwsFor_57 : decode cX1_throwsFor 57 = .ok (.getfield 21, 3) := dk_180 0 21 (dk_at dksX1_throwsFor_2 9 rfl rfl)
theorem dX1_throwsFor_60 : decode cX1_throwsFor 60 = .ok (.getfield 93, 3) := dk_180 0 93 (dk_at dksX1_throwsFor_2 12 rfl rfl)
theorem dX1_throwsFor_63 : decode cX1_throwsFor 63 = .ok (.if_icmp .ge 53, 3) := dk_162 0 53 (dk_at dksX1_throwsFor_2 15 rfl rfl)
theorem dX1_throwsFor_66 : decode cX1_throwsFor 66 = .ok (.aload_n 0, 1) := dk_42 (dk_at dksX1_throwsFor_2 18 rfl rfl)
theorem dX1_throwsFor_67 : decode cX1_throwsFor 67 = .ok (.getfield 37, 3) := dk_180 0 37 (dk_at dksX1_throwsFor_2 19 rfl rfl)
theorem dX1_throwsFor_70 : decode cX1_throwsFor 70 = .ok (.iload_n 1, 1) := dk_27 (dk_at dksX1_throwsFor_2 22 rfl rfl)
theorem dX1_throwsFor_71 : decode cX1_throwsFor 71 = .ok (.iload 8, 2) := dk_21 8 (dk_at dksX1_throwsFor_3 0 rfl rfl)
theorem dX1_throwsFor_73 : decode cX1_throwsFor 73 = .ok (.iload_n 2, 1) := dk_28 (dk_at dksX1_throwsFor_3 2 rfl rfl)
theorem dX1_throwsFor_74 : decode cX1_throwsFor 74 = .ok (.iconst 0, 1) := dk_3 (dk_at dksX1_throwsFor_3 3 rfl rfl)
theorem dX1_throwsFor_75 : decode cX1_throwsFor 75 = .ok (.invokevirtual 310, 3) := dk_182 1 54 (dk_at dksX1_throwsFor_3 4 rfl rfl)
theorem dX1_throwsFor_78 : decode cX1_throwsFor 78 = .ok (.getfield 199, 3) := dk_180 0 199 (dk_at dksX1_throwsFor_3 7 rfl rfl)
theorem dX1_throwsFor_81 : decode cX1_throwsFor 81 = .ok (.iload_n 3, 1) := dk_29 (dk_at dksX1_throwsFor_3 10 rfl rfl)
theorem dX1_throwsFor_82 : decode cX1_throwsFor 82 = .ok (.if_icmp .eq 6, 3) := dk_159 0 6 (dk_at dksX1_throwsFor_3 11 rfl rfl)
theorem dX1_throwsFor_85 : decode cX1_throwsFor 85 = .ok (.goto 25, 3) := dk_167 0 25 (dk_at dksX1_throwsFor_3 14 rfl rfl)
theorem dX1_throwsFor_88 : decode cX1_throwsFor 88 = .ok (.iinc 5 1, 3) := dk_132 5 1 (dk_at dksX1_throwsFor_3 17 rfl rfl)
theorem dX1_throwsFor_91 : decode cX1_throwsFor 91 = .ok (.iload 6, 2) := dk_21 6 (dk_at dksX1_throwsFor_3 20 rfl rfl)
theorem dX1_throwsFor_93 : decode cX1_throwsFor 93 = .ok (.iconst (-1), 1) := dk_2 (dk_at dksX1_throwsFor_3 22 rfl rfl)
theorem dX1_throwsFor_94 : decode cX1_throwsFor 94 = .ok (.if_icmp .ne 8, 3) := dk_160 0 8 (dk_at dksX1_throwsFor_4 0 rfl rfl)
theorem dX1_throwsFor_97 : decode cX1_throwsFor 97 = .ok (.iload 8, 2) := dk_21 8 (dk_at dksX1_throwsFor_4 3 rfl rfl)
theorem dX1_throwsFor_99 : decode cX1_throwsFor 99 = .ok (.goto 5, 3) := dk_167 0 5 (dk_at dksX1_throwsFor_4 5 rfl rfl)
theorem dX1_throwsFor_102 : decode cX1_throwsFor 102 = .ok (.iload 6, 2) := dk_21 6 (dk_at dksX1_throwsFor_4 8 rfl rfl)
theorem dX1_throwsFor_104 : decode cX1_throwsFor 104 = .ok (.istore 6, 2) := dk_54 6 (dk_at dksX1_throwsFor_4 10 rfl rfl)
theorem dX1_throwsFor_106 : decode cX1_throwsFor 106 = .ok (.iload 8, 2) := dk_21 8 (dk_at dksX1_throwsFor_4 12 rfl rfl)
theorem dX1_throwsFor_108 : decode cX1_throwsFor 108 = .ok (.istore 7, 2) := dk_54 7 (dk_at dksX1_throwsFor_4 14 rfl rfl)
theorem dX1_throwsFor_110 : decode cX1_throwsFor 110 = .ok (.iinc 8 1, 3) := dk_132 8 1 (dk_at dksX1_throwsFor_4 16 rfl rfl)
theorem dX1_throwsFor_113 : decode cX1_throwsFor 113 = .ok (.goto (-59), 3) := dk_167 255 197 (dk_at dksX1_throwsFor_4 19 rfl rfl)
theorem dX1_throwsFor_116 : decode cX1_throwsFor 116 = .ok (.iload 4, 2) := dk_21 4 (dk_at dksX1_throwsFor_4 22 rfl rfl)
theorem dX1_throwsFor_118 : decode cX1_throwsFor 118 = .ok (.ifCond .ne 8, 3) := dk_154 0 8 (dk_at dksX1_throwsFor_5 0 rfl rfl)
theorem dX1_throwsFor_121 : decode cX1_throwsFor 121 = .ok (.iload 5, 2) := dk_21 5 (dk_at dksX1_throwsFor_5 3 rfl rfl)
theorem dX1_throwsFor_123 : decode cX1_throwsFor 123 = .ok (.goto 16, 3) := dk_167 0 16 (dk_at dksX1_throwsFor_5 5 rfl rfl)
theorem dX1_throwsFor_126 : decode cX1_throwsFor 126 = .ok (.iload 4, 2) := dk_21 4 (dk_at dksX1_throwsFor_5 8 rfl rfl)
theorem dX1_throwsFor_128 : decode cX1_throwsFor 128 = .ok (.iconst 1, 1) := dk_4 (dk_at dksX1_throwsFor_5 10 rfl rfl)
theorem dX1_throwsFor_129 : decode cX1_throwsFor 129 = .ok (.if_icmp .ne 8, 3) := dk_160 0 8 (dk_at dksX1_throwsFor_5 11 rfl rfl)
theorem dX1_throwsFor_132 : decode cX1_throwsFor 132 = .ok (.iload 6, 2) := dk_21 6 (dk_at dksX1_throwsFor_5 14 rfl rfl)
theorem dX1_throwsFor_134 : decode cX1_throwsFor 134 = .ok (.goto 5, 3) := dk_167 0 5 (dk_at dksX1_throwsFor_5 16 rfl rfl)
theorem dX1_throwsFor_137 : decode cX1_throwsFor 137 = .ok (.iload 7, 2) := dk_21 7 (dk_at dksX1_throwsFor_5 19 rfl rfl)
theorem dX1_throwsFor_139 : decode cX1_throwsFor 139 = .ok (.ireturn, 1) := dk_172 (dk_at dksX1_throwsFor_5 21 rfl rfl)
abbrev cX1_thereIs : ByteArray := prog_1_method_5_code
def yX1_thereIs : MethodName := ⟨RX1, "thereIs", "(Z)V"⟩
def dkwX1_thereIs_0 : List UInt8 := [26, 154, 0, 11, 187, 0, 76, 89, 183, 0, 78, 191, 177]
abbrev dktX1_thereIs_0 : List UInt8 := dkwX1_thereIs_0 ++ []
theorem dksX1_thereIs_0 : cX1_thereIs.data.toList.drop 0 = dktX1_thereIs_0 := by decide +kernel
theorem dX1_thereIs_0 : decode cX1_thereIs 0 = .ok (.iload_n 0, 1) := dk_26 (dk_at dksX1_thereIs_0 0 rfl rfl)
theorem dX1_thereIs_1 : decode cX1_thereIs 1 = .ok (.ifCond .ne 11, 3) := dk_154 0 11 (dk_at dksX1_thereIs_0 1 rfl rfl)
theorem dX1_thereIs_4 : decode cX1_thereIs 4 = .ok (.new 76, 3) := dk_187 0 76 (dk_at dksX1_thereIs_0 4 rfl rfl)
theorem dX1_thereIs_7 : decode cX1_thereIs 7 = .ok (.dup, 1) := dk_89 (dk_at dksX1_thereIs_0 7 rfl rfl)
theorem dX1_thereIs_8 : decode cX1_thereIs 8 = .ok (.invokespecial 78, 3) := dk_183 0 78 (dk_at dksX1_thereIs_0 8 rfl rfl)
theorem dX1_thereIs_11 : decode cX1_thereIs 11 = .ok (.athrow, 1) := dk_191 (dk_at dksX1_thereIs_0 11 rfl rfl)
theorem dX1_thereIs_12 : decode cX1_thereIs 12 = .ok (.return_, 1) := dk_177 (dk_at dksX1_thereIs_0 12 rfl rfl)
abbrev cX1_latest : ByteArray := prog_1_method_41_code
def yX1_latest : MethodName := ⟨RX1, "latest", "(II)I"⟩
def dkwX1_latest_2 : List UInt8 := [28, 163, 0, 6, 21, 4, 172, 132, 4, 255, 167, 255, 213, 2, 172]
abbrev dktX1_latest_2 : List UInt8 := dkwX1_latest_2 ++ []
def dkwX1_latest_1 : List UInt8 := [161, 0, 37, 42, 180, 0, 37, 45, 180, 0, 229, 45, 180, 0, 234, 21, 4, 3, 182, 1, 54, 180, 0, 199]
abbrev dktX1_latest_1 : List UInt8 := dkwX1_latest_1 ++ dktX1_latest_2
def dkwX1_latest_0 : List UInt8 := [42, 27, 182, 0, 225, 78, 28, 184, 0, 174, 28, 4, 100, 54, 4, 21, 4, 42, 180, 0, 21, 180, 0, 209]
abbrev dktX1_latest_0 : List UInt8 := dkwX1_latest_0 ++ dktX1_latest_1
theorem dksX1_latest_0 : cX1_latest.data.toList.drop 0 = dktX1_latest_0 := by decide +kernel
theorem dksX1_latest_1 : cX1_latest.data.toList.drop 24 = dktX1_latest_1 := dk_seg dksX1_latest_0 24 rfl rfl
theorem dksX1_latest_2 : cX1_latest.data.toList.drop 48 = dktX1_latest_2 := dk_seg dksX1_latest_1 24 rfl rfl
theorem dX1_latest_0 : decode cX1_latest 0 = .ok (.aload_n 0, 1) := dk_42 (dk_at dksX1_latest_0 0 rfl rfl)
theorem dX1_latest_1 : decode cX1_latest 1 = .ok (.iload_n 1, 1) := dk_27 (dk_at dksX1_latest_0 1 rfl rfl)
theorem dX1_latest_2 : decode cX1_latest 2 = .ok (.invokevirtual 225, 3) := dk_182 0 225 (dk_at dksX1_latest_0 2 rfl rfl)
theorem dX1_latest_5 : decode cX1_latest 5 = .ok (.astore_n 3, 1) := dk_78 (dk_at dksX1_latest_0 5 rfl rfl)
theorem dX1_latest_6 : decode cX1_latest 6 = .ok (.iload_n 2, 1) := dk_28 (dk_at dksX1_latest_0 6 rfl rfl)
theorem dX1_latest_7 : decode cX1_latest 7 = .ok (.invokestatic 174, 3) := dk_184 0 174 (dk_at dksX1_latest_0 7 rfl rfl)
theorem dX1_latest_10 : decode cX1_latest 10 = .ok (.iload_n 2, 1) := dk_28 (dk_at dksX1_latest_0 10 rfl rfl)
theorem dX1_latest_11 : decode cX1_latest 11 = .ok (.iconst 1, 1) := dk_4 (dk_at dksX1_latest_0 11 rfl rfl)
theorem dX1_latest_12 : decode cX1_latest 12 = .ok (.isub, 1) := dk_100 (dk_at dksX1_latest_0 12 rfl rfl)
theorem dX1_latest_13 : decode cX1_latest 13 = .ok (.istore 4, 2) := dk_54 4 (dk_at dksX1_latest_0 13 rfl rfl)
theorem dX1_latest_15 : decode cX1_latest 15 = .ok (.iload 4, 2) := dk_21 4 (dk_at dksX1_latest_0 15 rfl rfl)
theorem dX1_latest_17 : decode cX1_latest 17 = .ok (.aload_n 0, 1) := dk_42 (dk_at dksX1_latest_0 17 rfl rfl)
theorem dX1_latest_18 : decode cX1_latest 18 = .ok (.getfield 21, 3) := dk_180 0 21 (dk_at dksX1_latest_0 18 rfl rfl)
theorem dX1_latest_21 : decode cX1_latest 21 = .ok (.getfield 209, 3) := dk_180 0 209 (dk_at dksX1_latest_0 21 rfl rfl)
theorem dX1_latest_24 : decode cX1_latest 24 = .ok (.if_icmp .lt 37, 3) := dk_161 0 37 (dk_at dksX1_latest_1 0 rfl rfl)
theorem dX1_latest_27 : decode cX1_latest 27 = .ok (.aload_n 0, 1) := dk_42 (dk_at dksX1_latest_1 3 rfl rfl)
theorem dX1_latest_28 : decode cX1_latest 28 = .ok (.getfield 37, 3) := dk_180 0 37 (dk_at dksX1_latest_1 4 rfl rfl)
theorem dX1_latest_31 : decode cX1_latest 31 = .ok (.aload_n 3, 1) := dk_45 (dk_at dksX1_latest_1 7 rfl rfl)
theorem dX1_latest_32 : decode cX1_latest 32 = .ok (.getfield 229, 3) := dk_180 0 229 (dk_at dksX1_latest_1 8 rfl rfl)
theorem dX1_latest_35 : decode cX1_latest 35 = .ok (.aload_n 3, 1) := dk_45 (dk_at dksX1_latest_1 11 rfl rfl)
theorem dX1_latest_36 : decode cX1_latest 36 = .ok (.getfield 234, 3) := dk_180 0 234 (dk_at dksX1_latest_1 12 rfl rfl)
theorem dX1_latest_39 : decode cX1_latest 39 = .ok (.iload 4, 2) := dk_21 4 (dk_at dksX1_latest_1 15 rfl rfl)
theorem dX1_latest_41 : decode cX1_latest 41 = .ok (.iconst 0, 1) := dk_3 (dk_at dksX1_latest_1 17 rfl rfl)
theorem dX1_latest_42 : decode cX1_latest 42 = .ok (.invokevirtual 310, 3) := dk_182 1 54 (dk_at dksX1_latest_1 18 rfl rfl)
theorem dX1_latest_45 : decode cX1_latest 45 = .ok (.getfield 199, 3) := dk_180 0 199 (dk_at dksX1_latest_1 21 rfl rfl)
theorem dX1_latest_48 : decode cX1_latest 48 = .ok (.iload_n 2, 1) := dk_28 (dk_at dksX1_latest_2 0 rfl rfl)
theorem dX1_latest_49 : decode cX1_latest 49 = .ok (.if_icmp .gt 6, 3) := dk_163 0 6 (dk_at dksX1_latest_2 1 rfl rfl)
theorem dX1_latest_52 : decode cX1_latest 52 = .ok (.iload 4, 2) := dk_21 4 (dk_at dksX1_latest_2 4 rfl rfl)
theorem dX1_latest_54 : decode cX1_latest 54 = .ok (.ireturn, 1) := dk_172 (dk_at dksX1_latest_2 6 rfl rfl)
theorem dX1_latest_55 : decode cX1_latest 55 = .ok (.iinc 4 (-1), 3) := dk_132 4 255 (dk_at dksX1_latest_2 7 rfl rfl)
theorem dX1_latest_58 : decode cX1_latest 58 = .ok (.goto (-43), 3) := dk_167 255 213 (dk_at dksX1_latest_2 10 rfl rfl)
theorem dX1_latest_61 : decode cX1_latest 61 = .ok (.iconst (-1), 1) := dk_2 (dk_at dksX1_latest_2 13 rfl rfl)
theorem dX1_latest_62 : decode cX1_latest 62 = .ok (.ireturn, 1) := dk_172 (dk_at dksX1_latest_2 14 rfl rfl)
abbrev cX1_hut : ByteArray := prog_1_method_42_code
def yX1_hut : MethodName := ⟨RX1, "hut", "(II)I"⟩
def dkwX1_hut_3 : List UInt8 := [163, 0, 5, 29, 172, 132, 3, 1, 167, 255, 197, 2, 172]
abbrev dktX1_hut_3 : List UInt8 := dkwX1_hut_3 ++ []
def dkwX1_hut_2 : List UInt8 := [180, 0, 199, 54, 4, 21, 4, 18, 246, 159, 0, 19, 21, 4, 42, 180, 0, 21, 180, 0, 209, 100, 28]
abbrev dktX1_hut_2 : List UInt8 := dkwX1_hut_2 ++ dktX1_hut_3
def dkwX1_hut_1 : List UInt8 := [180, 0, 93, 162, 0, 54, 42, 180, 0, 37, 27, 29, 42, 180, 0, 21, 180, 0, 209, 3, 182, 1, 54]
abbrev dktX1_hut_1 : List UInt8 := dkwX1_hut_1 ++ dktX1_hut_2
def dkwX1_hut_0 : List UInt8 := [42, 27, 182, 0, 180, 28, 4, 17, 1, 43, 184, 0, 79, 184, 0, 83, 3, 62, 29, 42, 180, 0, 21]
abbrev dktX1_hut_0 : List UInt8 := dkwX1_hut_0 ++ dktX1_hut_1
theorem dksX1_hut_0 : cX1_hut.data.toList.drop 0 = dktX1_hut_0 := by decide +kernel
theorem dksX1_hut_1 : cX1_hut.data.toList.drop 23 = dktX1_hut_1 := dk_seg dksX1_hut_0 23 rfl rfl
theorem dksX1_hut_2 : cX1_hut.data.toList.drop 46 = dktX1_hut_2 := dk_seg dksX1_hut_1 23 rfl rfl
theorem dksX1_hut_3 : cX1_hut.data.toList.drop 69 = dktX1_hut_3 := dk_seg dksX1_hut_2 23 rfl rfl
theorem dX1_hut_0 : decode cX1_hut 0 = .ok (.aload_n 0, 1) := dk_42 (dk_at dksX1_hut_0 0 rfl rfl)
theorem dX1_hut_1 : decode cX1_hut 1 = .ok (.iload_n 1, 1) := dk_27 (dk_at dksX1_hut_0 1 rfl rfl)
theorem dX1_hut_2 : decode cX1_hut 2 = .ok (.invokevirtual 180, 3) := dk_182 0 180 (dk_at dksX1_hut_0 2 rfl rfl)
theorem dX1_hut_5 : decode cX1_hut 5 = .ok (.iload_n 2, 1) := dk_28 (dk_at dksX1_hut_0 5 rfl rfl)
theorem dX1_hut_6 : decode cX1_hut 6 = .ok (.iconst 1, 1) := dk_4 (dk_at dksX1_hut_0 6 rfl rfl)
theorem dX1_hut_7 : decode cX1_hut 7 = .ok (.sipush 299, 3) := dk_17 1 43 (dk_at dksX1_hut_0 7 rfl rfl)
theorem dX1_hut_10 : decode cX1_hut 10 = .ok (.invokestatic 79, 3) := dk_184 0 79 (dk_at dksX1_hut_0 10 rfl rfl)
theorem dX1_hut_13 : decode cX1_hut 13 = .ok (.invokestatic 83, 3) := dk_184 0 83 (dk_at dksX1_hut_0 13 rfl rfl)
theorem dX1_hut_16 : decode cX1_hut 16 = .ok (.iconst 0, 1) := dk_3 (dk_at dksX1_hut_0 16 rfl rfl)
theorem dX1_hut_17 : decode cX1_hut 17 = .ok (.istore_n 3, 1) := dk_62 (dk_at dksX1_hut_0 17 rfl rfl)
theorem dX1_hut_18 : decode cX1_hut 18 = .ok (.iload_n 3, 1) := dk_29 (dk_at dksX1_hut_0 18 rfl rfl)
theorem dX1_hut_19 : decode cX1_hut 19 = .ok (.aload_n 0, 1) := dk_42 (dk_at dksX1_hut_0 19 rfl rfl)
theorem dX1_hut_20 : decode cX1_hut 20 = .ok (.getfield 21, 3) := dk_180 0 21 (dk_at dksX1_hut_0 20 rfl rfl)
theorem dX1_hut_23 : decode cX1_hut 23 = .ok (.getfield 93, 3) := dk_180 0 93 (dk_at dksX1_hut_1 0 rfl rfl)
theorem dX1_hut_26 : decode cX1_hut 26 = .ok (.if_icmp .ge 54, 3) := dk_162 0 54 (dk_at dksX1_hut_1 3 rfl rfl)
theorem dX1_hut_29 : decode cX1_hut 29 = .ok (.aload_n 0, 1) := dk_42 (dk_at dksX1_hut_1 6 rfl rfl)
theorem dX1_hut_30 : decode cX1_hut 30 = .ok (.getfield 37, 3) := dk_180 0 37 (dk_at dksX1_hut_1 7 rfl rfl)
theorem dX1_hut_33 : decode cX1_hut 33 = .ok (.iload_n 1, 1) := dk_27 (dk_at dksX1_hut_1 10 rfl rfl)
theorem dX1_hut_34 : decode cX1_hut 34 = .ok (.iload_n 3, 1) := dk_29 (dk_at dksX1_hut_1 11 rfl rfl)
theorem dX1_hut_35 : decode cX1_hut 35 = .ok (.aload_n 0, 1) := dk_42 (dk_at dksX1_hut_1 12 rfl rfl)
theorem dX1_hut_36 : decode cX1_hut 36 = .ok (.getfield 21, 3) := dk_180 0 21 (dk_at dksX1_hut_1 13 rfl rfl)
theorem dX1_hut_39 : decode cX1_hut 39 = .ok (.getfield 209, 3) := dk_180 0 209 (dk_at dksX1_hut_1 16 rfl rfl)
theorem dX1_hut_42 : decode cX1_hut 42 = .ok (.iconst 0, 1) := dk_3 (dk_at dksX1_hut_1 19 rfl rfl)
theorem dX1_hut_43 : decode cX1_hut 43 = .ok (.invokevirtual 310, 3) := dk_182 1 54 (dk_at dksX1_hut_1 20 rfl rfl)
theorem dX1_hut_46 : decode cX1_hut 46 = .ok (.getfield 199, 3) := dk_180 0 199 (dk_at dksX1_hut_2 0 rfl rfl)
theorem dX1_hut_49 : decode cX1_hut 49 = .ok (.istore 4, 2) := dk_54 4 (dk_at dksX1_hut_2 3 rfl rfl)
theorem dX1_hut_51 : decode cX1_hut 51 = .ok (.iload 4, 2) := dk_21 4 (dk_at dksX1_hut_2 5 rfl rfl)
theorem dX1_hut_53 : decode cX1_hut 53 = .ok (.ldc 246, 2) := dk_18 246 (dk_at dksX1_hut_2 7 rfl rfl)
theorem dX1_hut_55 : decode cX1_hut 55 = .ok (.if_icmp .eq 19, 3) := dk_159 0 19 (dk_at dksX1_hut_2 9 rfl rfl)
theorem dX1_hut_58 : decode cX1_hut 58 = .ok (.iload 4, 2) := dk_21 4 (dk_at dksX1_hut_2 12 rfl rfl)
theorem dX1_hut_60 : decode cX1_hut 60 = .ok (.aload_n 0, 1) := dk_42 (dk_at dksX1_hut_2 14 rfl rfl)
theorem dX1_hut_61 : decode cX1_hut 61 = .ok (.getfield 21, 3) := dk_180 0 21 (dk_at dksX1_hut_2 15 rfl rfl)
theorem dX1_hut_64 : decode cX1_hut 64 = .ok (.getfield 209, 3) := dk_180 0 209 (dk_at dksX1_hut_2 18 rfl rfl)
theorem dX1_hut_67 : decode cX1_hut 67 = .ok (.isub, 1) := dk_100 (dk_at dksX1_hut_2 21 rfl rfl)
theorem dX1_hut_68 : decode cX1_hut 68 = .ok (.iload_n 2, 1) := dk_28 (dk_at dksX1_hut_2 22 rfl rfl)
theorem dX1_hut_69 : decode cX1_hut 69 = .ok (.if_icmp .gt 5, 3) := dk_163 0 5 (dk_at dksX1_hut_3 0 rfl rfl)
theorem dX1_hut_72 : decode cX1_hut 72 = .ok (.iload_n 3, 1) := dk_29 (dk_at dksX1_hut_3 3 rfl rfl)
theorem dX1_hut_73 : decode cX1_hut 73 = .ok (.ireturn, 1) := dk_172 (dk_at dksX1_hut_3 4 rfl rfl)
theorem dX1_hut_74 : decode cX1_hut 74 = .ok (.iinc 3 1, 3) := dk_132 3 1 (dk_at dksX1_hut_3 5 rfl rfl)
theorem dX1_hut_77 : decode cX1_hut 77 = .ok (.goto (-59), 3) := dk_167 255 197 (dk_at dksX1_hut_3 8 rfl rfl)
theorem dX1_hut_80 : decode cX1_hut 80 = .ok (.iconst (-1), 1) := dk_2 (dk_at dksX1_hut_3 11 rfl rfl)
theorem dX1_hut_81 : decode cX1_hut 81 = .ok (.ireturn, 1) := dk_172 (dk_at dksX1_hut_3 12 rfl rfl)
abbrev cX1_without : ByteArray := prog_1_method_44_code
def yX1_without : MethodName := ⟨RX1, "without", "(II)I"⟩
def dkwX1_without_2 : List UInt8 := [25, 4, 21, 5, 181, 1, 68, 21, 6, 172]
abbrev dktX1_without_2 : List UInt8 := dkwX1_without_2 ++ []
def dkwX1_without_1 : List UInt8 := [180, 1, 68, 54, 5, 25, 4, 2, 181, 1, 68, 42, 180, 0, 37, 45, 182, 0, 195, 182, 1, 3, 54, 6]
abbrev dktX1_without_1 : List UInt8 := dkwX1_without_1 ++ dktX1_without_2
def dkwX1_without_0 : List UInt8 := [42, 27, 182, 0, 250, 78, 42, 28, 182, 1, 61, 42, 180, 0, 21, 180, 1, 64, 28, 50, 58, 4, 25, 4]
abbrev dktX1_without_0 : List UInt8 := dkwX1_without_0 ++ dktX1_without_1
theorem dksX1_without_0 : cX1_without.data.toList.drop 0 = dktX1_without_0 := by decide +kernel
theorem dksX1_without_1 : cX1_without.data.toList.drop 24 = dktX1_without_1 := dk_seg dksX1_without_0 24 rfl rfl
theorem dksX1_without_2 : cX1_without.data.toList.drop 48 = dktX1_without_2 := dk_seg dksX1_without_1 24 rfl rfl
theorem dX1_without_0 : decode cX1_without 0 = .ok (.aload_n 0, 1) := dk_42 (dk_at dksX1_without_0 0 rfl rfl)
theorem dX1_without_1 : decode cX1_without 1 = .ok (.iload_n 1, 1) := dk_27 (dk_at dksX1_without_0 1 rfl rfl)
theorem dX1_without_2 : decode cX1_without 2 = .ok (.invokevirtual 250, 3) := dk_182 0 250 (dk_at dksX1_without_0 2 rfl rfl)
theorem dX1_without_5 : decode cX1_without 5 = .ok (.astore_n 3, 1) := dk_78 (dk_at dksX1_without_0 5 rfl rfl)
theorem dX1_without_6 : decode cX1_without 6 = .ok (.aload_n 0, 1) := dk_42 (dk_at dksX1_without_0 6 rfl rfl)
theorem dX1_without_7 : decode cX1_without 7 = .ok (.iload_n 2, 1) := dk_28 (dk_at dksX1_without_0 7 rfl rfl)
theorem dX1_without_8 : decode cX1_without 8 = .ok (.invokevirtual 317, 3) := dk_182 1 61 (dk_at dksX1_without_0 8 rfl rfl)
theorem dX1_without_11 : decode cX1_without 11 = .ok (.aload_n 0, 1) := dk_42 (dk_at dksX1_without_0 11 rfl rfl)
theorem dX1_without_12 : decode cX1_without 12 = .ok (.getfield 21, 3) := dk_180 0 21 (dk_at dksX1_without_0 12 rfl rfl)
theorem dX1_without_15 : decode cX1_without 15 = .ok (.getfield 320, 3) := dk_180 1 64 (dk_at dksX1_without_0 15 rfl rfl)
theorem dX1_without_18 : decode cX1_without 18 = .ok (.iload_n 2, 1) := dk_28 (dk_at dksX1_without_0 18 rfl rfl)
theorem dX1_without_19 : decode cX1_without 19 = .ok (.aaload, 1) := dk_50 (dk_at dksX1_without_0 19 rfl rfl)
theorem dX1_without_20 : decode cX1_without 20 = .ok (.astore 4, 2) := dk_58 4 (dk_at dksX1_without_0 20 rfl rfl)
theorem dX1_without_22 : decode cX1_without 22 = .ok (.aload 4, 2) := dk_25 4 (dk_at dksX1_without_0 22 rfl rfl)
theorem dX1_without_24 : decode cX1_without 24 = .ok (.getfield 324, 3) := dk_180 1 68 (dk_at dksX1_without_1 0 rfl rfl)
theorem dX1_without_27 : decode cX1_without 27 = .ok (.istore 5, 2) := dk_54 5 (dk_at dksX1_without_1 3 rfl rfl)
theorem dX1_without_29 : decode cX1_without 29 = .ok (.aload 4, 2) := dk_25 4 (dk_at dksX1_without_1 5 rfl rfl)
theorem dX1_without_31 : decode cX1_without 31 = .ok (.iconst (-1), 1) := dk_2 (dk_at dksX1_without_1 7 rfl rfl)
theorem dX1_without_32 : decode cX1_without 32 = .ok (.putfield 324, 3) := dk_181 1 68 (dk_at dksX1_without_1 8 rfl rfl)
theorem dX1_without_35 : decode cX1_without 35 = .ok (.aload_n 0, 1) := dk_42 (dk_at dksX1_without_1 11 rfl rfl)
theorem dX1_without_36 : decode cX1_without 36 = .ok (.getfield 37, 3) := dk_180 0 37 (dk_at dksX1_without_1 12 rfl rfl)
theorem dX1_without_39 : decode cX1_without 39 = .ok (.aload_n 3, 1) := dk_45 (dk_at dksX1_without_1 15 rfl rfl)
theorem dX1_without_40 : decode cX1_without 40 = .ok (.invokevirtual 195, 3) := dk_182 0 195 (dk_at dksX1_without_1 16 rfl rfl)
theorem dX1_without_43 : decode cX1_without 43 = .ok (.invokevirtual 259, 3) := dk_182 1 3 (dk_at dksX1_without_1 19 rfl rfl)
theorem dX1_without_46 : decode cX1_without 46 = .ok (.istore 6, 2) := dk_54 6 (dk_at dksX1_without_1 22 rfl rfl)
theorem dX1_without_48 : decode cX1_without 48 = .ok (.aload 4, 2) := dk_25 4 (dk_at dksX1_without_2 0 rfl rfl)
theorem dX1_without_50 : decode cX1_without 50 = .ok (.iload 5, 2) := dk_21 5 (dk_at dksX1_without_2 2 rfl rfl)
theorem dX1_without_52 : decode cX1_without 52 = .ok (.putfield 324, 3) := dk_181 1 68 (dk_at dksX1_without_2 4 rfl rfl)
theorem dX1_without_55 : decode cX1_without 55 = .ok (.iload 6, 2) := dk_21 6 (dk_at dksX1_without_2 7 rfl rfl)
theorem dX1_without_57 : decode cX1_without 57 = .ok (.ireturn, 1) := dk_172 (dk_at dksX1_without_2 9 rfl rfl)
abbrev cX1_isFlood : ByteArray := prog_1_method_43_code
def yX1_isFlood : MethodName := ⟨RX1, "isFlood", "(I)V"⟩
def dkwX1_isFlood_0 : List UInt8 := [27, 3, 42, 180, 0, 21, 180, 1, 58, 4, 100, 184, 0, 79, 184, 0, 90, 177]
abbrev dktX1_isFlood_0 : List UInt8 := dkwX1_isFlood_0 ++ []
theorem dksX1_isFlood_0 : cX1_isFlood.data.toList.drop 0 = dktX1_isFlood_0 := by decide +kernel
theorem dX1_isFlood_0 : decode cX1_isFlood 0 = .ok (.iload_n 1, 1) := dk_27 (dk_at dksX1_isFlood_0 0 rfl rfl)
theorem dX1_isFlood_1 : decode cX1_isFlood 1 = .ok (.iconst 0, 1) := dk_3 (dk_at dksX1_isFlood_0 1 rfl rfl)
theorem dX1_isFlood_2 : decode cX1_isFlood 2 = .ok (.aload_n 0, 1) := dk_42 (dk_at dksX1_isFlood_0 2 rfl rfl)
theorem dX1_isFlood_3 : decode cX1_isFlood 3 = .ok (.getfield 21, 3) := dk_180 0 21 (dk_at dksX1_isFlood_0 3 rfl rfl)
theorem dX1_isFlood_6 : decode cX1_isFlood 6 = .ok (.getfield 314, 3) := dk_180 1 58 (dk_at dksX1_isFlood_0 6 rfl rfl)
theorem dX1_isFlood_9 : decode cX1_isFlood 9 = .ok (.iconst 1, 1) := dk_4 (dk_at dksX1_isFlood_0 9 rfl rfl)
theorem dX1_isFlood_10 : decode cX1_isFlood 10 = .ok (.isub, 1) := dk_100 (dk_at dksX1_isFlood_0 10 rfl rfl)
theorem dX1_isFlood_11 : decode cX1_isFlood 11 = .ok (.invokestatic 79, 3) := dk_184 0 79 (dk_at dksX1_isFlood_0 11 rfl rfl)
theorem dX1_isFlood_14 : decode cX1_isFlood 14 = .ok (.invokestatic 90, 3) := dk_184 0 90 (dk_at dksX1_isFlood_0 14 rfl rfl)
theorem dX1_isFlood_17 : decode cX1_isFlood 17 = .ok (.return_, 1) := dk_177 (dk_at dksX1_isFlood_0 17 rfl rfl)
abbrev cX1_moved : ByteArray := prog_1_method_45_code
def yX1_moved : MethodName := ⟨RX1, "moved", "(I)I"⟩
def dkwX1_moved_4 : List UInt8 := [167, 255, 188, 21, 4, 172]
abbrev dktX1_moved_4 : List UInt8 := dkwX1_moved_4 ++ []
def dkwX1_moved_3 : List UInt8 := [21, 4, 42, 180, 0, 21, 21, 6, 21, 5, 182, 1, 76, 21, 6, 100, 96, 54, 4, 132, 5, 1]
abbrev dktX1_moved_3 : List UInt8 := dkwX1_moved_3 ++ dktX1_moved_4
def dkwX1_moved_2 : List UInt8 := [21, 5, 46, 42, 44, 180, 0, 254, 45, 180, 1, 13, 21, 5, 46, 21, 5, 182, 1, 73, 96, 54, 6]
abbrev dktX1_moved_2 : List UInt8 := dkwX1_moved_2 ++ dktX1_moved_3
def dkwX1_moved_1 : List UInt8 := [21, 5, 4, 96, 17, 1, 44, 162, 0, 64, 45, 21, 5, 182, 1, 71, 153, 0, 55, 45, 180, 1, 13]
abbrev dktX1_moved_1 : List UInt8 := dkwX1_moved_1 ++ dktX1_moved_2
def dkwX1_moved_0 : List UInt8 := [42, 27, 182, 0, 250, 77, 42, 180, 0, 37, 44, 182, 0, 195, 78, 3, 54, 4, 44, 180, 0, 190, 54, 5]
abbrev dktX1_moved_0 : List UInt8 := dkwX1_moved_0 ++ dktX1_moved_1
theorem dksX1_moved_0 : cX1_moved.data.toList.drop 0 = dktX1_moved_0 := by decide +kernel
theorem dksX1_moved_1 : cX1_moved.data.toList.drop 24 = dktX1_moved_1 := dk_seg dksX1_moved_0 24 rfl rfl
theorem dksX1_moved_2 : cX1_moved.data.toList.drop 47 = dktX1_moved_2 := dk_seg dksX1_moved_1 23 rfl rfl
theorem dksX1_moved_3 : cX1_moved.data.toList.drop 70 = dktX1_moved_3 := dk_seg dksX1_moved_2 23 rfl rfl
theorem dksX1_moved_4 : cX1_moved.data.toList.drop 92 = dktX1_moved_4 := dk_seg dksX1_moved_3 22 rfl rfl
theorem dX1_moved_0 : decode cX1_moved 0 = .ok (.aload_n 0, 1) := dk_42 (dk_at dksX1_moved_0 0 rfl rfl)
theorem dX1_moved_1 : decode cX1_moved 1 = .ok (.iload_n 1, 1) := dk_27 (dk_at dksX1_moved_0 1 rfl rfl)
theorem dX1_moved_2 : decode cX1_moved 2 = .ok (.invokevirtual 250, 3) := dk_182 0 250 (dk_at dksX1_moved_0 2 rfl rfl)
theorem dX1_moved_5 : decode cX1_moved 5 = .ok (.astore_n 2, 1) := dk_77 (dk_at dksX1_moved_0 5 rfl rfl)
theorem dX1_moved_6 : decode cX1_moved 6 = .ok (.aload_n 0, 1) := dk_42 (dk_at dksX1_moved_0 6 rfl rfl)
theorem dX1_moved_7 : decode cX1_moved 7 = .ok (.getfield 37, 3) := dk_180 0 37 (dk_at dksX1_moved_0 7 rfl rfl)
theorem dX1_moved_10 : decode cX1_moved 10 = .ok (.aload_n 2, 1) := dk_44 (dk_at dksX1_moved_0 10 rfl rfl)
theorem dX1_moved_11 : decode cX1_moved 11 = .ok (.invokevirtual 195, 3) := dk_182 0 195 (dk_at dksX1_moved_0 11 rfl rfl)
theorem dX1_moved_14 : decode cX1_moved 14 = .ok (.astore_n 3, 1) := dk_78 (dk_at dksX1_moved_0 14 rfl rfl)
theorem dX1_moved_15 : decode cX1_moved 15 = .ok (.iconst 0, 1) := dk_3 (dk_at dksX1_moved_0 15 rfl rfl)
theorem dX1_moved_16 : decode cX1_moved 16 = .ok (.istore 4, 2) := dk_54 4 (dk_at dksX1_moved_0 16 rfl rfl)
theorem dX1_moved_18 : decode cX1_moved 18 = .ok (.aload_n 2, 1) := dk_44 (dk_at dksX1_moved_0 18 rfl rfl)
theorem dX1_moved_19 : decode cX1_moved 19 = .ok (.getfield 190, 3) := dk_180 0 190 (dk_at dksX1_moved_0 19 rfl rfl)
theorem dX1_moved_22 : decode cX1_moved 22 = .ok (.istore 5, 2) := dk_54 5 (dk_at dksX1_moved_0 22 rfl rfl)
theorem dX1_moved_24 : decode cX1_moved 24 = .ok (.iload 5, 2) := dk_21 5 (dk_at dksX1_moved_1 0 rfl rfl)
theorem dX1_moved_26 : decode cX1_moved 26 = .ok (.iconst 1, 1) := dk_4 (dk_at dksX1_moved_1 2 rfl rfl)
theorem dX1_moved_27 : decode cX1_moved 27 = .ok (.iadd, 1) := dk_96 (dk_at dksX1_moved_1 3 rfl rfl)
theorem dX1_moved_28 : decode cX1_moved 28 = .ok (.sipush 300, 3) := dk_17 1 44 (dk_at dksX1_moved_1 4 rfl rfl)
theorem dX1_moved_31 : decode cX1_moved 31 = .ok (.if_icmp .ge 64, 3) := dk_162 0 64 (dk_at dksX1_moved_1 7 rfl rfl)
theorem dX1_moved_34 : decode cX1_moved 34 = .ok (.aload_n 3, 1) := dk_45 (dk_at dksX1_moved_1 10 rfl rfl)
theorem dX1_moved_35 : decode cX1_moved 35 = .ok (.iload 5, 2) := dk_21 5 (dk_at dksX1_moved_1 11 rfl rfl)
theorem dX1_moved_37 : decode cX1_moved 37 = .ok (.invokevirtual 327, 3) := dk_182 1 71 (dk_at dksX1_moved_1 13 rfl rfl)
theorem dX1_moved_40 : decode cX1_moved 40 = .ok (.ifCond .eq 55, 3) := dk_153 0 55 (dk_at dksX1_moved_1 16 rfl rfl)
theorem dX1_moved_43 : decode cX1_moved 43 = .ok (.aload_n 3, 1) := dk_45 (dk_at dksX1_moved_1 19 rfl rfl)
theorem dX1_moved_44 : decode cX1_moved 44 = .ok (.getfield 269, 3) := dk_180 1 13 (dk_at dksX1_moved_1 20 rfl rfl)
theorem dX1_moved_47 : decode cX1_moved 47 = .ok (.iload 5, 2) := dk_21 5 (dk_at dksX1_moved_2 0 rfl rfl)
theorem dX1_moved_49 : decode cX1_moved 49 = .ok (.iaload, 1) := dk_46 (dk_at dksX1_moved_2 2 rfl rfl)
theorem dX1_moved_50 : decode cX1_moved 50 = .ok (.aload_n 0, 1) := dk_42 (dk_at dksX1_moved_2 3 rfl rfl)
theorem dX1_moved_51 : decode cX1_moved 51 = .ok (.aload_n 2, 1) := dk_44 (dk_at dksX1_moved_2 4 rfl rfl)
theorem dX1_moved_52 : decode cX1_moved 52 = .ok (.getfield 254, 3) := dk_180 0 254 (dk_at dksX1_moved_2 5 rfl rfl)
theorem dX1_moved_55 : decode cX1_moved 55 = .ok (.aload_n 3, 1) := dk_45 (dk_at dksX1_moved_2 8 rfl rfl)
theorem dX1_moved_56 : decode cX1_moved 56 = .ok (.getfield 269, 3) := dk_180 1 13 (dk_at dksX1_moved_2 9 rfl rfl)
theorem dX1_moved_59 : decode cX1_moved 59 = .ok (.iload 5, 2) := dk_21 5 (dk_at dksX1_moved_2 12 rfl rfl)
theorem dX1_moved_61 : decode cX1_moved 61 = .ok (.iaload, 1) := dk_46 (dk_at dksX1_moved_2 14 rfl rfl)
theorem dX1_moved_62 : decode cX1_moved 62 = .ok (.iload 5, 2) := dk_21 5 (dk_at dksX1_moved_2 15 rfl rfl)
theorem dX1_moved_64 : decode cX1_moved 64 = .ok (.invokevirtual 329, 3) := dk_182 1 73 (dk_at dksX1_moved_2 17 rfl rfl)
theorem dX1_moved_67 : decode cX1_moved 67 = .ok (.iadd, 1) := dk_96 (dk_at dksX1_moved_2 20 rfl rfl)
theorem dX1_moved_68 : decode cX1_moved 68 = .ok (.istore 6, 2) := dk_54 6 (dk_at dksX1_moved_2 21 rfl rfl)
theorem dX1_moved_70 : decode cX1_moved 70 = .ok (.iload 4, 2) := dk_21 4 (dk_at dksX1_moved_3 0 rfl rfl)
theorem dX1_moved_72 : decode cX1_moved 72 = .ok (.aload_n 0, 1) := dk_42 (dk_at dksX1_moved_3 2 rfl rfl)
theorem dX1_moved_73 : decode cX1_moved 73 = .ok (.getfield 21, 3) := dk_180 0 21 (dk_at dksX1_moved_3 3 rfl rfl)
theorem dX1_moved_76 : decode cX1_moved 76 = .ok (.iload 6, 2) := dk_21 6 (dk_at dksX1_moved_3 6 rfl rfl)
theorem dX1_moved_78 : decode cX1_moved 78 = .ok (.iload 5, 2) := dk_21 5 (dk_at dksX1_moved_3 8 rfl rfl)
theorem dX1_moved_80 : decode cX1_moved 80 = .ok (.invokevirtual 332, 3) := dk_182 1 76 (dk_at dksX1_moved_3 10 rfl rfl)
theorem dX1_moved_83 : decode cX1_moved 83 = .ok (.iload 6, 2) := dk_21 6 (dk_at dksX1_moved_3 13 rfl rfl)
theorem dX1_moved_85 : decode cX1_moved 85 = .ok (.isub, 1) := dk_100 (dk_at dksX1_moved_3 15 rfl rfl)
theorem dX1_moved_86 : decode cX1_moved 86 = .ok (.iadd, 1) := dk_96 (dk_at dksX1_moved_3 16 rfl rfl)
theorem dX1_moved_87 : decode cX1_moved 87 = .ok (.istore 4, 2) := dk_54 4 (dk_at dksX1_moved_3 17 rfl rfl)
theorem dX1_moved_89 : decode cX1_moved 89 = .ok (.iinc 5 1, 3) := dk_132 5 1 (dk_at dksX1_moved_3 19 rfl rfl)
theorem dX1_moved_92 : decode cX1_moved 92 = .ok (.goto (-68), 3) := dk_167 255 188 (dk_at dksX1_moved_4 0 rfl rfl)
theorem dX1_moved_95 : decode cX1_moved 95 = .ok (.iload 4, 2) := dk_21 4 (dk_at dksX1_moved_4 3 rfl rfl)
theorem dX1_moved_97 : decode cX1_moved 97 = .ok (.ireturn, 1) := dk_172 (dk_at dksX1_moved_4 5 rfl rfl)
abbrev cX1_passes : ByteArray := prog_1_method_49_code
def yX1_passes : MethodName := ⟨RX1, "passes", "(I)I"⟩
def dkwX1_passes_4 : List UInt8 := [3, 96, 54, 4, 132, 5, 1, 167, 255, 176, 21, 4, 172]
abbrev dktX1_passes_4 : List UInt8 := dkwX1_passes_4 ++ []
def dkwX1_passes_3 : List UInt8 := [180, 0, 106, 21, 5, 50, 182, 0, 195, 58, 6, 21, 4, 42, 182, 1, 86, 153, 0, 7, 4, 167, 0, 4]
abbrev dktX1_passes_3 : List UInt8 := dkwX1_passes_3 ++ dktX1_passes_4
def dkwX1_passes_2 : List UInt8 := [50, 180, 0, 254, 44, 180, 0, 254, 159, 0, 6, 167, 0, 39, 42, 180, 0, 41, 42, 180, 0, 21]
abbrev dktX1_passes_2 : List UInt8 := dkwX1_passes_2 ++ dktX1_passes_3
def dkwX1_passes_1 : List UInt8 := [180, 0, 21, 180, 0, 103, 162, 0, 74, 21, 5, 27, 159, 0, 62, 42, 180, 0, 21, 180, 0, 106, 21, 5]
abbrev dktX1_passes_1 : List UInt8 := dkwX1_passes_1 ++ dktX1_passes_2
def dkwX1_passes_0 : List UInt8 := [42, 27, 182, 0, 250, 77, 42, 180, 0, 37, 44, 182, 0, 195, 78, 3, 54, 4, 3, 54, 5, 21, 5, 42]
abbrev dktX1_passes_0 : List UInt8 := dkwX1_passes_0 ++ dktX1_passes_1
theorem dksX1_passes_0 : cX1_passes.data.toList.drop 0 = dktX1_passes_0 := by decide +kernel
theorem dksX1_passes_1 : cX1_passes.data.toList.drop 24 = dktX1_passes_1 := dk_seg dksX1_passes_0 24 rfl rfl
theorem dksX1_passes_2 : cX1_passes.data.toList.drop 48 = dktX1_passes_2 := dk_seg dksX1_passes_1 24 rfl rfl
theorem dksX1_passes_3 : cX1_passes.data.toList.drop 70 = dktX1_passes_3 := dk_seg dksX1_passes_2 22 rfl rfl
theorem dksX1_passes_4 : cX1_passes.data.toList.drop 94 = dktX1_passes_4 := dk_seg dksX1_passes_3 24 rfl rfl
theorem dX1_passes_0 : decode cX1_passes 0 = .ok (.aload_n 0, 1) := dk_42 (dk_at dksX1_passes_0 0 rfl rfl)
theorem dX1_passes_1 : decode cX1_passes 1 = .ok (.iload_n 1, 1) := dk_27 (dk_at dksX1_passes_0 1 rfl rfl)
theorem dX1_passes_2 : decode cX1_passes 2 = .ok (.invokevirtual 250, 3) := dk_182 0 250 (dk_at dksX1_passes_0 2 rfl rfl)
theorem dX1_passes_5 : decode cX1_passes 5 = .ok (.astore_n 2, 1) := dk_77 (dk_at dksX1_passes_0 5 rfl rfl)
theorem dX1_passes_6 : decode cX1_passes 6 = .ok (.aload_n 0, 1) := dk_42 (dk_at dksX1_passes_0 6 rfl rfl)
theorem dX1_passes_7 : decode cX1_passes 7 = .ok (.getfield 37, 3) := dk_180 0 37 (dk_at dksX1_passes_0 7 rfl rfl)
theorem dX1_passes_10 : decode cX1_passes 10 = .ok (.aload_n 2, 1) := dk_44 (dk_at dksX1_passes_0 10 rfl rfl)
theorem dX1_passes_11 : decode cX1_passes 11 = .ok (.invokevirtual 195, 3) := dk_182 0 195 (dk_at dksX1_passes_0 11 rfl rfl)
theorem dX1_passes_14 : decode cX1_passes 14 = .ok (.astore_n 3, 1) := dk_78 (dk_at dksX1_passes_0 14 rfl rfl)
theorem dX1_passes_15 : decode cX1_passes 15 = .ok (.iconst 0, 1) := dk_3 (dk_at dksX1_passes_0 15 rfl rfl)
theorem dX1_passes_16 : decode cX1_passes 16 = .ok (.istore 4, 2) := dk_54 4 (dk_at dksX1_passes_0 16 rfl rfl)
theorem dX1_passes_18 : decode cX1_passes 18 = .ok (.iconst 0, 1) := dk_3 (dk_at dksX1_passes_0 18 rfl rfl)
theorem dX1_passes_19 : decode cX1_passes 19 = .ok (.istore 5, 2) := dk_54 5 (dk_at dksX1_passes_0 19 rfl rfl)
theorem dX1_passes_21 : decode cX1_passes 21 = .ok (.iload 5, 2) := dk_21 5 (dk_at dksX1_passes_0 21 rfl rfl)
theorem dX1_passes_23 : decode cX1_passes 23 = .ok (.aload_n 0, 1) := dk_42 (dk_at dksX1_passes_0 23 rfl rfl)
theorem dX1_passes_24 : decode cX1_passes 24 = .ok (.getfield 21, 3) := dk_180 0 21 (dk_at dksX1_passes_1 0 rfl rfl)
theorem dX1_passes_27 : decode cX1_passes 27 = .ok (.getfield 103, 3) := dk_180 0 103 (dk_at dksX1_passes_1 3 rfl rfl)
theorem dX1_passes_30 : decode cX1_passes 30 = .ok (.if_icmp .ge 74, 3) := dk_162 0 74 (dk_at dksX1_passes_1 6 rfl rfl)
theorem dX1_passes_33 : decode cX1_passes 33 = .ok (.iload 5, 2) := dk_21 5 (dk_at dksX1_passes_1 9 rfl rfl)
theorem dX1_passes_35 : decode cX1_passes 35 = .ok (.iload_n 1, 1) := dk_27 (dk_at dksX1_passes_1 11 rfl rfl)
theorem dX1_passes_36 : decode cX1_passes 36 = .ok (.if_icmp .eq 62, 3) := dk_159 0 62 (dk_at dksX1_passes_1 12 rfl rfl)
theorem dX1_passes_39 : decode cX1_passes 39 = .ok (.aload_n 0, 1) := dk_42 (dk_at dksX1_passes_1 15 rfl rfl)
theorem dX1_passes_40 : decode cX1_passes 40 = .ok (.getfield 21, 3) := dk_180 0 21 (dk_at dksX1_passes_1 16 rfl rfl)
theorem dX1_passes_43 : decode cX1_passes 43 = .ok (.getfield 106, 3) := dk_180 0 106 (dk_at dksX1_passes_1 19 rfl rfl)
theorem dX1_passes_46 : decode cX1_passes 46 = .ok (.iload 5, 2) := dk_21 5 (dk_at dksX1_passes_1 22 rfl rfl)
theorem dX1_passes_48 : decode cX1_passes 48 = .ok (.aaload, 1) := dk_50 (dk_at dksX1_passes_2 0 rfl rfl)
theorem dX1_passes_49 : decode cX1_passes 49 = .ok (.getfield 254, 3) := dk_180 0 254 (dk_at dksX1_passes_2 1 rfl rfl)
theorem dX1_passes_52 : decode cX1_passes 52 = .ok (.aload_n 2, 1) := dk_44 (dk_at dksX1_passes_2 4 rfl rfl)
theorem dX1_passes_53 : decode cX1_passes 53 = .ok (.getfield 254, 3) := dk_180 0 254 (dk_at dksX1_passes_2 5 rfl rfl)
theorem dX1_passes_56 : decode cX1_passes 56 = .ok (.if_icmp .eq 6, 3) := dk_159 0 6 (dk_at dksX1_passes_2 8 rfl rfl)
theorem dX1_passes_59 : decode cX1_passes 59 = .ok (.goto 39, 3) := dk_167 0 39 (dk_at dksX1_passes_2 11 rfl rfl)
theorem dX1_passes_62 : decode cX1_passes 62 = .ok (.aload_n 0, 1) := dk_42 (dk_at dksX1_passes_2 14 rfl rfl)
theorem dX1_passes_63 : decode cX1_passes 63 = .ok (.getfield 41, 3) := dk_180 0 41 (dk_at dksX1_passes_2 15 rfl rfl)
theorem dX1_passes_66 : decode cX1_passes 66 = .ok (.aload_n 0, 1) := dk_42 (dk_at dksX1_passes_2 18 rfl rfl)
theorem dX1_passes_67 : decode cX1_passes 67 = .ok (.getfield 21, 3) := dk_180 0 21 (dk_at dksX1_passes_2 19 rfl rfl)
theorem dX1_passes_70 : decode cX1_passes 70 = .ok (.getfield 106, 3) := dk_180 0 106 (dk_at dksX1_passes_3 0 rfl rfl)
theorem dX1_passes_73 : decode cX1_passes 73 = .ok (.iload 5, 2) := dk_21 5 (dk_at dksX1_passes_3 3 rfl rfl)
theorem dX1_passes_75 : decode cX1_passes 75 = .ok (.aaload, 1) := dk_50 (dk_at dksX1_passes_3 5 rfl rfl)
theorem dX1_passes_76 : decode cX1_passes 76 = .ok (.invokevirtual 195, 3) := dk_182 0 195 (dk_at dksX1_passes_3 6 rfl rfl)
theorem dX1_passes_79 : decode cX1_passes 79 = .ok (.astore 6, 2) := dk_58 6 (dk_at dksX1_passes_3 9 rfl rfl)
theorem dX1_passes_81 : decode cX1_passes 81 = .ok (.iload 4, 2) := dk_21 4 (dk_at dksX1_passes_3 11 rfl rfl)
theorem dX1_passes_83 : decode cX1_passes 83 = .ok (.aload_n 0, 1) := dk_42 (dk_at dksX1_passes_3 13 rfl rfl)
theorem dX1_passes_84 : decode cX1_passes 84 = .ok (.invokevirtual 342, 3) := dk_182 1 86 (dk_at dksX1_passes_3 14 rfl rfl)
theorem dX1_passes_87 : decode cX1_passes 87 = .ok (.ifCond .eq 7, 3) := dk_153 0 7 (dk_at dksX1_passes_3 17 rfl rfl)
theorem dX1_passes_90 : decode cX1_passes 90 = .ok (.iconst 1, 1) := dk_4 (dk_at dksX1_passes_3 20 rfl rfl)
theorem dX1_passes_91 : decode cX1_passes 91 = .ok (.goto 4, 3) := dk_167 0 4 (dk_at dksX1_passes_3 21 rfl rfl)
theorem dX1_passes_94 : decode cX1_passes 94 = .ok (.iconst 0, 1) := dk_3 (dk_at dksX1_passes_4 0 rfl rfl)
theorem dX1_passes_95 : decode cX1_passes 95 = .ok (.iadd, 1) := dk_96 (dk_at dksX1_passes_4 1 rfl rfl)
theorem dX1_passes_96 : decode cX1_passes 96 = .ok (.istore 4, 2) := dk_54 4 (dk_at dksX1_passes_4 2 rfl rfl)
theorem dX1_passes_98 : decode cX1_passes 98 = .ok (.iinc 5 1, 3) := dk_132 5 1 (dk_at dksX1_passes_4 4 rfl rfl)
theorem dX1_passes_101 : decode cX1_passes 101 = .ok (.goto (-80), 3) := dk_167 255 176 (dk_at dksX1_passes_4 7 rfl rfl)
theorem dX1_passes_104 : decode cX1_passes 104 = .ok (.iload 4, 2) := dk_21 4 (dk_at dksX1_passes_4 10 rfl rfl)
theorem dX1_passes_106 : decode cX1_passes 106 = .ok (.ireturn, 1) := dk_172 (dk_at dksX1_passes_4 12 rfl rfl)
abbrev cX1_passes_2 : ByteArray := prog_1_method_48_code
def yX1_passes_2 : MethodName := ⟨RX1, "passes", "()Z"⟩
def dkwX1_passes_2_5 : List UInt8 := [4, 172, 132, 2, 1, 167, 255, 201, 3, 172]
abbrev dktX1_passes_2_5 : List UInt8 := dkwX1_passes_2_5 ++ []
def dkwX1_passes_2_4 : List UInt8 := [153, 0, 26, 42, 180, 0, 37, 180, 1, 13, 28, 46, 42, 180, 0, 41, 180, 1, 13, 28, 46, 164, 0, 5]
abbrev dktX1_passes_2_4 : List UInt8 := dkwX1_passes_2_4 ++ dktX1_passes_2_5
def dkwX1_passes_2_3 : List UInt8 := [162, 0, 54, 42, 180, 0, 37, 28, 182, 1, 71, 153, 0, 37, 42, 180, 0, 41, 28, 182, 1, 71]
abbrev dktX1_passes_2_3 : List UInt8 := dkwX1_passes_2_3 ++ dktX1_passes_2_4
def dkwX1_passes_2_2 : List UInt8 := [27, 46, 42, 180, 0, 41, 180, 1, 13, 27, 46, 161, 0, 5, 3, 172, 27, 4, 96, 61, 28, 17, 1, 44]
abbrev dktX1_passes_2_2 : List UInt8 := dkwX1_passes_2_2 ++ dktX1_passes_2_3
def dkwX1_passes_2_1 : List UInt8 := [182, 1, 71, 153, 0, 35, 42, 180, 0, 41, 27, 182, 1, 71, 153, 0, 24, 42, 180, 0, 37, 180, 1, 13]
abbrev dktX1_passes_2_1 : List UInt8 := dkwX1_passes_2_1 ++ dktX1_passes_2_2
def dkwX1_passes_2_0 : List UInt8 := [42, 180, 0, 37, 180, 1, 82, 42, 180, 0, 41, 180, 1, 82, 184, 1, 83, 60, 42, 180, 0, 37, 27]
abbrev dktX1_passes_2_0 : List UInt8 := dkwX1_passes_2_0 ++ dktX1_passes_2_1
theorem dksX1_passes_2_0 : cX1_passes_2.data.toList.drop 0 = dktX1_passes_2_0 := by decide +kernel
theorem dksX1_passes_2_1 : cX1_passes_2.data.toList.drop 23 = dktX1_passes_2_1 := dk_seg dksX1_passes_2_0 23 rfl rfl
theorem dksX1_passes_2_2 : cX1_passes_2.data.toList.drop 47 = dktX1_passes_2_2 := dk_seg dksX1_passes_2_1 24 rfl rfl
theorem dksX1_passes_2_3 : cX1_passes_2.data.toList.drop 71 = dktX1_passes_2_3 := dk_seg dksX1_passes_2_2 24 rfl rfl
theorem dksX1_passes_2_4 : cX1_passes_2.data.toList.drop 93 = dktX1_passes_2_4 := dk_seg dksX1_passes_2_3 22 rfl rfl
theorem dksX1_passes_2_5 : cX1_passes_2.data.toList.drop 117 = dktX1_passes_2_5 := dk_seg dksX1_passes_2_4 24 rfl rfl
theorem dX1_passes_2_0 : decode cX1_passes_2 0 = .ok (.aload_n 0, 1) := dk_42 (dk_at dksX1_passes_2_0 0 rfl rfl)
theorem dX1_passes_2_1 : decode cX1_passes_2 1 = .ok (.getfield 37, 3) := dk_180 0 37 (dk_at dksX1_passes_2_0 1 rfl rfl)
theorem dX1_passes_2_4 : decode cX1_passes_2 4 = .ok (.getfield 338, 3) := dk_180 1 82 (dk_at dksX1_passes_2_0 4 rfl rfl)
theorem dX1_passes_2_7 : decode cX1_passes_2 7 = .ok (.aload_n 0, 1) := dk_42 (dk_at dksX1_passes_2_0 7 rfl rfl)
theorem dX1_passes_2_8 : decode cX1_passes_2 8 = .ok (.getfield 41, 3) := dk_180 0 41 (dk_at dksX1_passes_2_0 8 rfl rfl)
theorem dX1_passes_2_11 : decode cX1_passes_2 11 = .ok (.getfield 338, 3) := dk_180 1 82 (dk_at dksX1_passes_2_0 11 rfl rfl)
theorem dX1_passes_2_14 : decode cX1_passes_2 14 = .ok (.invokestatic 339, 3) := dk_184 1 83 (dk_at dksX1_passes_2_0 14 rfl rfl)
theorem dX1_passes_2_17 : decode cX1_passes_2 17 = .ok (.istore_n 1, 1) := dk_60 (dk_at dksX1_passes_2_0 17 rfl rfl)
theorem dX1_passes_2_18 : decode cX1_passes_2 18 = .ok (.aload_n 0, 1) := dk_42 (dk_at dksX1_passes_2_0 18 rfl rfl)
theorem dX1_passes_2_19 : decode cX1_passes_2 19 = .ok (.getfield 37, 3) := dk_180 0 37 (dk_at dksX1_passes_2_0 19 rfl rfl)
theorem dX1_passes_2_22 : decode cX1_passes_2 22 = .ok (.iload_n 1, 1) := dk_27 (dk_at dksX1_passes_2_0 22 rfl rfl)
theorem dX1_passes_2_23 : decode cX1_passes_2 23 = .ok (.invokevirtual 327, 3) := dk_182 1 71 (dk_at dksX1_passes_2_1 0 rfl rfl)
theorem dX1_passes_2_26 : decode cX1_passes_2 26 = .ok (.ifCond .eq 35, 3) := dk_153 0 35 (dk_at dksX1_passes_2_1 3 rfl rfl)
theorem dX1_passes_2_29 : decode cX1_passes_2 29 = .ok (.aload_n 0, 1) := dk_42 (dk_at dksX1_passes_2_1 6 rfl rfl)
theorem dX1_passes_2_30 : decode cX1_passes_2 30 = .ok (.getfield 41, 3) := dk_180 0 41 (dk_at dksX1_passes_2_1 7 rfl rfl)
theorem dX1_passes_2_33 : decode cX1_passes_2 33 = .ok (.iload_n 1, 1) := dk_27 (dk_at dksX1_passes_2_1 10 rfl rfl)
theorem dX1_passes_2_34 : decode cX1_passes_2 34 = .ok (.invokevirtual 327, 3) := dk_182 1 71 (dk_at dksX1_passes_2_1 11 rfl rfl)
theorem dX1_passes_2_37 : decode cX1_passes_2 37 = .ok (.ifCond .eq 24, 3) := dk_153 0 24 (dk_at dksX1_passes_2_1 14 rfl rfl)
theorem dX1_passes_2_40 : decode cX1_passes_2 40 = .ok (.aload_n 0, 1) := dk_42 (dk_at dksX1_passes_2_1 17 rfl rfl)
theorem dX1_passes_2_41 : decode cX1_passes_2 41 = .ok (.getfield 37, 3) := dk_180 0 37 (dk_at dksX1_passes_2_1 18 rfl rfl)
theorem dX1_passes_2_44 : decode cX1_passes_2 44 = .ok (.getfield 269, 3) := dk_180 1 13 (dk_at dksX1_passes_2_1 21 rfl rfl)
theorem dX1_passes_2_47 : decode cX1_passes_2 47 = .ok (.iload_n 1, 1) := dk_27 (dk_at dksX1_passes_2_2 0 rfl rfl)
theorem dX1_passes_2_48 : decode cX1_passes_2 48 = .ok (.iaload, 1) := dk_46 (dk_at dksX1_passes_2_2 1 rfl rfl)
theorem dX1_passes_2_49 : decode cX1_passes_2 49 = .ok (.aload_n 0, 1) := dk_42 (dk_at dksX1_passes_2_2 2 rfl rfl)
theorem dX1_passes_2_50 : decode cX1_passes_2 50 = .ok (.getfield 41, 3) := dk_180 0 41 (dk_at dksX1_passes_2_2 3 rfl rfl)
theorem dX1_passes_2_53 : decode cX1_passes_2 53 = .ok (.getfield 269, 3) := dk_180 1 13 (dk_at dksX1_passes_2_2 6 rfl rfl)
theorem dX1_passes_2_56 : decode cX1_passes_2 56 = .ok (.iload_n 1, 1) := dk_27 (dk_at dksX1_passes_2_2 9 rfl rfl)
theorem dX1_passes_2_57 : decode cX1_passes_2 57 = .ok (.iaload, 1) := dk_46 (dk_at dksX1_passes_2_2 10 rfl rfl)
theorem dX1_passes_2_58 : decode cX1_passes_2 58 = .ok (.if_icmp .lt 5, 3) := dk_161 0 5 (dk_at dksX1_passes_2_2 11 rfl rfl)
theorem dX1_passes_2_61 : decode cX1_passes_2 61 = .ok (.iconst 0, 1) := dk_3 (dk_at dksX1_passes_2_2 14 rfl rfl)
theorem dX1_passes_2_62 : decode cX1_passes_2 62 = .ok (.ireturn, 1) := dk_172 (dk_at dksX1_passes_2_2 15 rfl rfl)
theorem dX1_passes_2_63 : decode cX1_passes_2 63 = .ok (.iload_n 1, 1) := dk_27 (dk_at dksX1_passes_2_2 16 rfl rfl)
theorem dX1_passes_2_64 : decode cX1_passes_2 64 = .ok (.iconst 1, 1) := dk_4 (dk_at dksX1_passes_2_2 17 rfl rfl)
theorem dX1_passes_2_65 : decode cX1_passes_2 65 = .ok (.iadd, 1) := dk_96 (dk_at dksX1_passes_2_2 18 rfl rfl)
theorem dX1_passes_2_66 : decode cX1_passes_2 66 = .ok (.istore_n 2, 1) := dk_61 (dk_at dksX1_passes_2_2 19 rfl rfl)
theorem dX1_passes_2_67 : decode cX1_passes_2 67 = .ok (.iload_n 2, 1) := dk_28 (dk_at dksX1_passes_2_2 20 rfl rfl)
theorem dX1_passes_2_68 : decode cX1_passes_2 68 = .ok (.sipush 300, 3) := dk_17 1 44 (dk_at dksX1_passes_2_2 21 rfl rfl)
theorem dX1_passes_2_71 : decode cX1_passes_2 71 = .ok (.if_icmp .ge 54, 3) := dk_162 0 54 (dk_at dksX1_passes_2_3 0 rfl rfl)
theorem dX1_passes_2_74 : decode cX1_passes_2 74 = .ok (.aload_n 0, 1) := dk_42 (dk_at dksX1_passes_2_3 3 rfl rfl)
theorem dX1_passes_2_75 : decode cX1_passes_2 75 = .ok (.getfield 37, 3) := dk_180 0 37 (dk_at dksX1_passes_2_3 4 rfl rfl)
theorem dX1_passes_2_78 : decode cX1_passes_2 78 = .ok (.iload_n 2, 1) := dk_28 (dk_at dksX1_passes_2_3 7 rfl rfl)
theorem dX1_passes_2_79 : decode cX1_passes_2 79 = .ok (.invokevirtual 327, 3) := dk_182 1 71 (dk_at dksX1_passes_2_3 8 rfl rfl)
theorem dX1_passes_2_82 : decode cX1_passes_2 82 = .ok (.ifCond .eq 37, 3) := dk_153 0 37 (dk_at dksX1_passes_2_3 11 rfl rfl)
theorem dX1_passes_2_85 : decode cX1_passes_2 85 = .ok (.aload_n 0, 1) := dk_42 (dk_at dksX1_passes_2_3 14 rfl rfl)
theorem dX1_passes_2_86 : decode cX1_passes_2 86 = .ok (.getfield 41, 3) := dk_180 0 41 (dk_at dksX1_passes_2_3 15 rfl rfl)
theorem dX1_passes_2_89 : decode cX1_passes_2 89 = .ok (.iload_n 2, 1) := dk_28 (dk_at dksX1_passes_2_3 18 rfl rfl)
theorem dX1_passes_2_90 : decode cX1_passes_2 90 = .ok (.invokevirtual 327, 3) := dk_182 1 71 (dk_at dksX1_passes_2_3 19 rfl rfl)
theorem dX1_passes_2_93 : decode cX1_passes_2 93 = .ok (.ifCond .eq 26, 3) := dk_153 0 26 (dk_at dksX1_passes_2_4 0 rfl rfl)
theorem dX1_passes_2_96 : decode cX1_passes_2 96 = .ok (.aload_n 0, 1) := dk_42 (dk_at dksX1_passes_2_4 3 rfl rfl)
theorem dX1_passes_2_97 : decode cX1_passes_2 97 = .ok (.getfield 37, 3) := dk_180 0 37 (dk_at dksX1_passes_2_4 4 rfl rfl)
theorem dX1_passes_2_100 : decode cX1_passes_2 100 = .ok (.getfield 269, 3) := dk_180 1 13 (dk_at dksX1_passes_2_4 7 rfl rfl)
theorem dX1_passes_2_103 : decode cX1_passes_2 103 = .ok (.iload_n 2, 1) := dk_28 (dk_at dksX1_passes_2_4 10 rfl rfl)
theorem dX1_passes_2_104 : decode cX1_passes_2 104 = .ok (.iaload, 1) := dk_46 (dk_at dksX1_passes_2_4 11 rfl rfl)
theorem dX1_passes_2_105 : decode cX1_passes_2 105 = .ok (.aload_n 0, 1) := dk_42 (dk_at dksX1_passes_2_4 12 rfl rfl)
theorem dX1_passes_2_106 : decode cX1_passes_2 106 = .ok (.getfield 41, 3) := dk_180 0 41 (dk_at dksX1_passes_2_4 13 rfl rfl)
theorem dX1_passes_2_109 : decode cX1_passes_2 109 = .ok (.getfield 269, 3) := dk_180 1 13 (dk_at dksX1_passes_2_4 16 rfl rfl)
theorem dX1_passes_2_112 : decode cX1_passes_2 112 = .ok (.iload_n 2, 1) := dk_28 (dk_at dksX1_passes_2_4 19 rfl rfl)
theorem dX1_passes_2_113 : decode cX1_passes_2 113 = .ok (.iaload, 1) := dk_46 (dk_at dksX1_passes_2_4 20 rfl rfl)
theorem dX1_passes_2_114 : decode cX1_passes_2 114 = .ok (.if_icmp .le 5, 3) := dk_164 0 5 (dk_at dksX1_passes_2_4 21 rfl rfl)
theorem dX1_passes_2_117 : decode cX1_passes_2 117 = .ok (.iconst 1, 1) := dk_4 (dk_at dksX1_passes_2_5 0 rfl rfl)
theorem dX1_passes_2_118 : decode cX1_passes_2 118 = .ok (.ireturn, 1) := dk_172 (dk_at dksX1_passes_2_5 1 rfl rfl)
theorem dX1_passes_2_119 : decode cX1_passes_2 119 = .ok (.iinc 2 1, 3) := dk_132 2 1 (dk_at dksX1_passes_2_5 2 rfl rfl)
theorem dX1_passes_2_122 : decode cX1_passes_2 122 = .ok (.goto (-55), 3) := dk_167 255 201 (dk_at dksX1_passes_2_5 5 rfl rfl)
theorem dX1_passes_2_125 : decode cX1_passes_2 125 = .ok (.iconst 0, 1) := dk_3 (dk_at dksX1_passes_2_5 8 rfl rfl)
theorem dX1_passes_2_126 : decode cX1_passes_2 126 = .ok (.ireturn, 1) := dk_172 (dk_at dksX1_passes_2_5 9 rfl rfl)
abbrev cX1_writers : ByteArray := prog_1_method_52_code
def yX1_writers : MethodName := ⟨RX1, "writers", "(III)I"⟩
def dkwX1_writers_2 : List UInt8 := [160, 0, 7, 3, 167, 0, 7, 4, 21, 5, 120, 128, 54, 4, 132, 5, 1, 167, 255, 207, 21, 4, 172]
abbrev dktX1_writers_2 : List UInt8 := dkwX1_writers_2 ++ []
def dkwX1_writers_1 : List UInt8 := [162, 0, 43, 21, 4, 42, 42, 180, 0, 21, 180, 0, 99, 21, 5, 50, 27, 28, 29, 182, 1, 93, 2]
abbrev dktX1_writers_1 : List UInt8 := dkwX1_writers_1 ++ dktX1_writers_2
def dkwX1_writers_0 : List UInt8 := [42, 27, 28, 29, 182, 1, 89, 3, 54, 4, 3, 54, 5, 21, 5, 42, 180, 0, 21, 180, 0, 96]
abbrev dktX1_writers_0 : List UInt8 := dkwX1_writers_0 ++ dktX1_writers_1
theorem dksX1_writers_0 : cX1_writers.data.toList.drop 0 = dktX1_writers_0 := by decide +kernel
theorem dksX1_writers_1 : cX1_writers.data.toList.drop 22 = dktX1_writers_1 := dk_seg dksX1_writers_0 22 rfl rfl
theorem dksX1_writers_2 : cX1_writers.data.toList.drop 45 = dktX1_writers_2 := dk_seg dksX1_writers_1 23 rfl rfl
theorem dX1_writers_0 : decode cX1_writers 0 = .ok (.aload_n 0, 1) := dk_42 (dk_at dksX1_writers_0 0 rfl rfl)
theorem dX1_writers_1 : decode cX1_writers 1 = .ok (.iload_n 1, 1) := dk_27 (dk_at dksX1_writers_0 1 rfl rfl)
theorem dX1_writers_2 : decode cX1_writers 2 = .ok (.iload_n 2, 1) := dk_28 (dk_at dksX1_writers_0 2 rfl rfl)
theorem dX1_writers_3 : decode cX1_writers 3 = .ok (.iload_n 3, 1) := dk_29 (dk_at dksX1_writers_0 3 rfl rfl)
theorem dX1_writers_4 : decode cX1_writers 4 = .ok (.invokevirtual 345, 3) := dk_182 1 89 (dk_at dksX1_writers_0 4 rfl rfl)
theorem dX1_writers_7 : decode cX1_writers 7 = .ok (.iconst 0, 1) := dk_3 (dk_at dksX1_writers_0 7 rfl rfl)
theorem dX1_writers_8 : decode cX1_writers 8 = .ok (.istore 4, 2) := dk_54 4 (dk_at dksX1_writers_0 8 rfl rfl)
theorem dX1_writers_10 : decode cX1_writers 10 = .ok (.iconst 0, 1) := dk_3 (dk_at dksX1_writers_0 10 rfl rfl)
theorem dX1_writers_11 : decode cX1_writers 11 = .ok (.istore 5, 2) := dk_54 5 (dk_at dksX1_writers_0 11 rfl rfl)
theorem dX1_writers_13 : decode cX1_writers 13 = .ok (.iload 5, 2) := dk_21 5 (dk_at dksX1_writers_0 13 rfl rfl)
theorem dX1_writers_15 : decode cX1_writers 15 = .ok (.aload_n 0, 1) := dk_42 (dk_at dksX1_writers_0 15 rfl rfl)
theorem dX1_writers_16 : decode cX1_writers 16 = .ok (.getfield 21, 3) := dk_180 0 21 (dk_at dksX1_writers_0 16 rfl rfl)
theorem dX1_writers_19 : decode cX1_writers 19 = .ok (.getfield 96, 3) := dk_180 0 96 (dk_at dksX1_writers_0 19 rfl rfl)
theorem dX1_writers_22 : decode cX1_writers 22 = .ok (.if_icmp .ge 43, 3) := dk_162 0 43 (dk_at dksX1_writers_1 0 rfl rfl)
theorem dX1_writers_25 : decode cX1_writers 25 = .ok (.iload 4, 2) := dk_21 4 (dk_at dksX1_writers_1 3 rfl rfl)
theorem dX1_writers_27 : decode cX1_writers 27 = .ok (.aload_n 0, 1) := dk_42 (dk_at dksX1_writers_1 5 rfl rfl)
theorem dX1_writers_28 : decode cX1_writers 28 = .ok (.aload_n 0, 1) := dk_42 (dk_at dksX1_writers_1 6 rfl rfl)
theorem dX1_writers_29 : decode cX1_writers 29 = .ok (.getfield 21, 3) := dk_180 0 21 (dk_at dksX1_writers_1 7 rfl rfl)
theorem dX1_writers_32 : decode cX1_writers 32 = .ok (.getfield 99, 3) := dk_180 0 99 (dk_at dksX1_writers_1 10 rfl rfl)
theorem dX1_writers_35 : decode cX1_writers 35 = .ok (.iload 5, 2) := dk_21 5 (dk_at dksX1_writers_1 13 rfl rfl)
theorem dX1_writers_37 : decode cX1_writers 37 = .ok (.aaload, 1) := dk_50 (dk_at dksX1_writers_1 15 rfl rfl)
theorem dX1_writers_38 : decode cX1_writers 38 = .ok (.iload_n 1, 1) := dk_27 (dk_at dksX1_writers_1 16 rfl rfl)
theorem dX1_writers_39 : decode cX1_writers 39 = .ok (.iload_n 2, 1) := dk_28 (dk_at dksX1_writers_1 17 rfl rfl)
theorem dX1_writers_40 : decode cX1_writers 40 = .ok (.iload_n 3, 1) := dk_29 (dk_at dksX1_writers_1 18 rfl rfl)
theorem dX1_writers_41 : decode cX1_writers 41 = .ok (.invokevirtual 349, 3) := dk_182 1 93 (dk_at dksX1_writers_1 19 rfl rfl)
theorem dX1_writers_44 : decode cX1_writers 44 = .ok (.iconst (-1), 1) := dk_2 (dk_at dksX1_writers_1 22 rfl rfl)
theorem dX1_writers_45 : decode cX1_writers 45 = .ok (.if_icmp .ne 7, 3) := dk_160 0 7 (dk_at dksX1_writers_2 0 rfl rfl)
theorem dX1_writers_48 : decode cX1_writers 48 = .ok (.iconst 0, 1) := dk_3 (dk_at dksX1_writers_2 3 rfl rfl)
theorem dX1_writers_49 : decode cX1_writers 49 = .ok (.goto 7, 3) := dk_167 0 7 (dk_at dksX1_writers_2 4 rfl rfl)
theorem dX1_writers_52 : decode cX1_writers 52 = .ok (.iconst 1, 1) := dk_4 (dk_at dksX1_writers_2 7 rfl rfl)
theorem dX1_writers_53 : decode cX1_writers 53 = .ok (.iload 5, 2) := dk_21 5 (dk_at dksX1_writers_2 8 rfl rfl)
theorem dX1_writers_55 : decode cX1_writers 55 = .ok (.ishl, 1) := dk_120 (dk_at dksX1_writers_2 10 rfl rfl)
theorem dX1_writers_56 : decode cX1_writers 56 = .ok (.ior, 1) := dk_128 (dk_at dksX1_writers_2 11 rfl rfl)
theorem dX1_writers_57 : decode cX1_writers 57 = .ok (.istore 4, 2) := dk_54 4 (dk_at dksX1_writers_2 12 rfl rfl)
theorem dX1_writers_59 : decode cX1_writers 59 = .ok (.iinc 5 1, 3) := dk_132 5 1 (dk_at dksX1_writers_2 14 rfl rfl)
theorem dX1_writers_62 : decode cX1_writers 62 = .ok (.goto (-49), 3) := dk_167 255 207 (dk_at dksX1_writers_2 17 rfl rfl)
theorem dX1_writers_65 : decode cX1_writers 65 = .ok (.iload 4, 2) := dk_21 4 (dk_at dksX1_writers_2 20 rfl rfl)
theorem dX1_writers_67 : decode cX1_writers 67 = .ok (.ireturn, 1) := dk_172 (dk_at dksX1_writers_2 22 rfl rfl)
abbrev cX1_isFound : ByteArray := prog_1_method_51_code
def yX1_isFound : MethodName := ⟨RX1, "isFound", "(III)V"⟩
def dkwX1_isFound_0 : List UInt8 := [42, 27, 182, 0, 180, 28, 184, 0, 174, 29, 3, 16, 99, 184, 0, 79, 184, 0, 83, 177]
abbrev dktX1_isFound_0 : List UInt8 := dkwX1_isFound_0 ++ []
theorem dksX1_isFound_0 : cX1_isFound.data.toList.drop 0 = dktX1_isFound_0 := by decide +kernel
theorem dX1_isFound_0 : decode cX1_isFound 0 = .ok (.aload_n 0, 1) := dk_42 (dk_at dksX1_isFound_0 0 rfl rfl)
theorem dX1_isFound_1 : decode cX1_isFound 1 = .ok (.iload_n 1, 1) := dk_27 (dk_at dksX1_isFound_0 1 rfl rfl)
theorem dX1_isFound_2 : decode cX1_isFound 2 = .ok (.invokevirtual 180, 3) := dk_182 0 180 (dk_at dksX1_isFound_0 2 rfl rfl)
theorem dX1_isFound_5 : decode cX1_isFound 5 = .ok (.iload_n 2, 1) := dk_28 (dk_at dksX1_isFound_0 5 rfl rfl)
theorem dX1_isFound_6 : decode cX1_isFound 6 = .ok (.invokestatic 174, 3) := dk_184 0 174 (dk_at dksX1_isFound_0 6 rfl rfl)
theorem dX1_isFound_9 : decode cX1_isFound 9 = .ok (.iload_n 3, 1) := dk_29 (dk_at dksX1_isFound_0 9 rfl rfl)
theorem dX1_isFound_10 : decode cX1_isFound 10 = .ok (.iconst 0, 1) := dk_3 (dk_at dksX1_isFound_0 10 rfl rfl)
theorem dX1_isFound_11 : decode cX1_isFound 11 = .ok (.bipush 99, 2) := dk_16 99 (dk_at dksX1_isFound_0 11 rfl rfl)
theorem dX1_isFound_13 : decode cX1_isFound 13 = .ok (.invokestatic 79, 3) := dk_184 0 79 (dk_at dksX1_isFound_0 13 rfl rfl)
theorem dX1_isFound_16 : decode cX1_isFound 16 = .ok (.invokestatic 83, 3) := dk_184 0 83 (dk_at dksX1_isFound_0 16 rfl rfl)
theorem dX1_isFound_19 : decode cX1_isFound 19 = .ok (.return_, 1) := dk_177 (dk_at dksX1_isFound_0 19 rfl rfl)
abbrev cX1_wroteIn : ByteArray := prog_1_method_50_code
def yX1_wroteIn : MethodName := ⟨RX1, "wroteIn", "(LGlacierMail$Person;III)I"⟩
def dkwX1_wroteIn_2 : List UInt8 := [180, 0, 247, 29, 46, 21, 4, 160, 0, 6, 21, 5, 172, 132, 5, 255, 167, 255, 207, 2, 172]
abbrev dktX1_wroteIn_2 : List UInt8 := dkwX1_wroteIn_2 ++ []
def dkwX1_wroteIn_1 : List UInt8 := [28, 43, 180, 0, 234, 21, 5, 3, 182, 1, 54, 58, 6, 25, 6, 180, 0, 199, 29, 160, 0, 18, 25, 6]
abbrev dktX1_wroteIn_1 : List UInt8 := dkwX1_wroteIn_1 ++ dktX1_wroteIn_2
def dkwX1_wroteIn_0 : List UInt8 := [43, 180, 0, 229, 28, 159, 0, 5, 2, 172, 29, 4, 100, 54, 5, 21, 5, 155, 0, 50, 42, 180, 0, 37]
abbrev dktX1_wroteIn_0 : List UInt8 := dkwX1_wroteIn_0 ++ dktX1_wroteIn_1
theorem dksX1_wroteIn_0 : cX1_wroteIn.data.toList.drop 0 = dktX1_wroteIn_0 := by decide +kernel
theorem dksX1_wroteIn_1 : cX1_wroteIn.data.toList.drop 24 = dktX1_wroteIn_1 := dk_seg dksX1_wroteIn_0 24 rfl rfl
theorem dksX1_wroteIn_2 : cX1_wroteIn.data.toList.drop 48 = dktX1_wroteIn_2 := dk_seg dksX1_wroteIn_1 24 rfl rfl
theorem dX1_wroteIn_0 : decode cX1_wroteIn 0 = .ok (.aload_n 1, 1) := dk_43 (dk_at dksX1_wroteIn_0 0 rfl rfl)
theorem dX1_wroteIn_1 : decode cX1_wroteIn 1 = .ok (.getfield 229, 3) := dk_180 0 229 (dk_at dksX1_wroteIn_0 1 rfl rfl)
theorem dX1_wroteIn_4 : decode cX1_wroteIn 4 = .ok (.iload_n 2, 1) := dk_28 (dk_at dksX1_wroteIn_0 4 rfl rfl)
theorem dX1_wroteIn_5 : decode cX1_wroteIn 5 = .ok (.if_icmp .eq 5, 3) := dk_159 0 5 (dk_at dksX1_wroteIn_0 5 rfl rfl)
theorem dX1_wroteIn_8 : decode cX1_wroteIn 8 = .ok (.iconst (-1), 1) := dk_2 (dk_at dksX1_wroteIn_0 8 rfl rfl)
theorem dX1_wroteIn_9 : decode cX1_wroteIn 9 = .ok (.ireturn, 1) := dk_172 (dk_at dksX1_wroteIn_0 9 rfl rfl)
theorem dX1_wroteIn_10 : decode cX1_wroteIn 10 = .ok (.iload_n 3, 1) := dk_29 (dk_at dksX1_wroteIn_0 10 rfl rfl)
theorem dX1_wroteIn_11 : decode cX1_wroteIn 11 = .ok (.iconst 1, 1) := dk_4 (dk_at dksX1_wroteIn_0 11 rfl rfl)
theorem dX1_wroteIn_12 : decode cX1_wroteIn 12 = .ok (.isub, 1) := dk_100 (dk_at dksX1_wroteIn_0 12 rfl rfl)
theorem dX1_wroteIn_13 : decode cX1_wroteIn 13 = .ok (.istore 5, 2) := dk_54 5 (dk_at dksX1_wroteIn_0 13 rfl rfl)
theorem dX1_wroteIn_15 : decode cX1_wroteIn 15 = .ok (.iload 5, 2) := dk_21 5 (dk_at dksX1_wroteIn_0 15 rfl rfl)
theorem dX1_wroteIn_17 : decode cX1_wroteIn 17 = .ok (.ifCond .lt 50, 3) := dk_155 0 50 (dk_at dksX1_wroteIn_0 17 rfl rfl)
theorem dX1_wroteIn_20 : decode cX1_wroteIn 20 = .ok (.aload_n 0, 1) := dk_42 (dk_at dksX1_wroteIn_0 20 rfl rfl)
theorem dX1_wroteIn_21 : decode cX1_wroteIn 21 = .ok (.getfield 37, 3) := dk_180 0 37 (dk_at dksX1_wroteIn_0 21 rfl rfl)
theorem dX1_wroteIn_24 : decode cX1_wroteIn 24 = .ok (.iload_n 2, 1) := dk_28 (dk_at dksX1_wroteIn_1 0 rfl rfl)
theorem dX1_wroteIn_25 : decode cX1_wroteIn 25 = .ok (.aload_n 1, 1) := dk_43 (dk_at dksX1_wroteIn_1 1 rfl rfl)
theorem dX1_wroteIn_26 : decode cX1_wroteIn 26 = .ok (.getfield 234, 3) := dk_180 0 234 (dk_at dksX1_wroteIn_1 2 rfl rfl)
theorem dX1_wroteIn_29 : decode cX1_wroteIn 29 = .ok (.iload 5, 2) := dk_21 5 (dk_at dksX1_wroteIn_1 5 rfl rfl)
theorem dX1_wroteIn_31 : decode cX1_wroteIn 31 = .ok (.iconst 0, 1) := dk_3 (dk_at dksX1_wroteIn_1 7 rfl rfl)
theorem dX1_wroteIn_32 : decode cX1_wroteIn 32 = .ok (.invokevirtual 310, 3) := dk_182 1 54 (dk_at dksX1_wroteIn_1 8 rfl rfl)
theorem dX1_wroteIn_35 : decode cX1_wroteIn 35 = .ok (.astore 6, 2) := dk_58 6 (dk_at dksX1_wroteIn_1 11 rfl rfl)
theorem dX1_wroteIn_37 : decode cX1_wroteIn 37 = .ok (.aload 6, 2) := dk_25 6 (dk_at dksX1_wroteIn_1 13 rfl rfl)
theorem dX1_wroteIn_39 : decode cX1_wroteIn 39 = .ok (.getfield 199, 3) := dk_180 0 199 (dk_at dksX1_wroteIn_1 15 rfl rfl)
theorem dX1_wroteIn_42 : decode cX1_wroteIn 42 = .ok (.iload_n 3, 1) := dk_29 (dk_at dksX1_wroteIn_1 18 rfl rfl)
theorem dX1_wroteIn_43 : decode cX1_wroteIn 43 = .ok (.if_icmp .ne 18, 3) := dk_160 0 18 (dk_at dksX1_wroteIn_1 19 rfl rfl)
theorem dX1_wroteIn_46 : decode cX1_wroteIn 46 = .ok (.aload 6, 2) := dk_25 6 (dk_at dksX1_wroteIn_1 22 rfl rfl)
theorem dX1_wroteIn_48 : decode cX1_wroteIn 48 = .ok (.getfield 247, 3) := dk_180 0 247 (dk_at dksX1_wroteIn_2 0 rfl rfl)
theorem dX1_wroteIn_51 : decode cX1_wroteIn 51 = .ok (.iload_n 3, 1) := dk_29 (dk_at dksX1_wroteIn_2 3 rfl rfl)
theorem dX1_wroteIn_52 : decode cX1_wroteIn 52 = .ok (.iaload, 1) := dk_46 (dk_at dksX1_wroteIn_2 4 rfl rfl)
theorem dX1_wroteIn_53 : decode cX1_wroteIn 53 = .ok (.iload 4, 2) := dk_21 4 (dk_at dksX1_wroteIn_2 5 rfl rfl)
theorem dX1_wroteIn_55 : decode cX1_wroteIn 55 = .ok (.if_icmp .ne 6, 3) := dk_160 0 6 (dk_at dksX1_wroteIn_2 7 rfl rfl)
theorem dX1_wroteIn_58 : decode cX1_wroteIn 58 = .ok (.iload 5, 2) := dk_21 5 (dk_at dksX1_wroteIn_2 10 rfl rfl)
theorem dX1_wroteIn_60 : decode cX1_wroteIn 60 = .ok (.ireturn, 1) := dk_172 (dk_at dksX1_wroteIn_2 12 rfl rfl)
theorem dX1_wroteIn_61 : decode cX1_wroteIn 61 = .ok (.iinc 5 (-1), 3) := dk_132 5 255 (dk_at dksX1_wroteIn_2 13 rfl rfl)
theorem dX1_wroteIn_64 : decode cX1_wroteIn 64 = .ok (.goto (-49), 3) := dk_167 255 207 (dk_at dksX1_wroteIn_2 16 rfl rfl)
theorem dX1_wroteIn_67 : decode cX1_wroteIn 67 = .ok (.iconst (-1), 1) := dk_2 (dk_at dksX1_wroteIn_2 19 rfl rfl)
theorem dX1_wroteIn_68 : decode cX1_wroteIn 68 = .ok (.ireturn, 1) := dk_172 (dk_at dksX1_wroteIn_2 20 rfl rfl)
abbrev cX1_wrote : ByteArray := prog_1_method_53_code
def yX1_wrote : MethodName := ⟨RX1, "wrote", "(IIII)I"⟩
def dkwX1_wrote_1 : List UInt8 := [182, 1, 93, 172]
abbrev dktX1_wrote_1 : List UInt8 := dkwX1_wrote_1 ++ []
def dkwX1_wrote_0 : List UInt8 := [42, 27, 182, 0, 225, 58, 5, 42, 28, 29, 21, 4, 182, 1, 89, 42, 25, 5, 28, 29, 21, 4]
abbrev dktX1_wrote_0 : List UInt8 := dkwX1_wrote_0 ++ dktX1_wrote_1
theorem dksX1_wrote_0 : cX1_wrote.data.toList.drop 0 = dktX1_wrote_0 := by decide +kernel
theorem dksX1_wrote_1 : cX1_wrote.data.toList.drop 22 = dktX1_wrote_1 := dk_seg dksX1_wrote_0 22 rfl rfl
theorem dX1_wrote_0 : decode cX1_wrote 0 = .ok (.aload_n 0, 1) := dk_42 (dk_at dksX1_wrote_0 0 rfl rfl)
theorem dX1_wrote_1 : decode cX1_wrote 1 = .ok (.iload_n 1, 1) := dk_27 (dk_at dksX1_wrote_0 1 rfl rfl)
theorem dX1_wrote_2 : decode cX1_wrote 2 = .ok (.invokevirtual 225, 3) := dk_182 0 225 (dk_at dksX1_wrote_0 2 rfl rfl)
theorem dX1_wrote_5 : decode cX1_wrote 5 = .ok (.astore 5, 2) := dk_58 5 (dk_at dksX1_wrote_0 5 rfl rfl)
theorem dX1_wrote_7 : decode cX1_wrote 7 = .ok (.aload_n 0, 1) := dk_42 (dk_at dksX1_wrote_0 7 rfl rfl)
theorem dX1_wrote_8 : decode cX1_wrote 8 = .ok (.iload_n 2, 1) := dk_28 (dk_at dksX1_wrote_0 8 rfl rfl)
theorem dX1_wrote_9 : decode cX1_wrote 9 = .ok (.iload_n 3, 1) := dk_29 (dk_at dksX1_wrote_0 9 rfl rfl)
theorem dX1_wrote_10 : decode cX1_wrote 10 = .ok (.iload 4, 2) := dk_21 4 (dk_at dksX1_wrote_0 10 rfl rfl)
theorem dX1_wrote_12 : decode cX1_wrote 12 = .ok (.invokevirtual 345, 3) := dk_182 1 89 (dk_at dksX1_wrote_0 12 rfl rfl)
theorem dX1_wrote_15 : decode cX1_wrote 15 = .ok (.aload_n 0, 1) := dk_42 (dk_at dksX1_wrote_0 15 rfl rfl)
theorem dX1_wrote_16 : decode cX1_wrote 16 = .ok (.aload 5, 2) := dk_25 5 (dk_at dksX1_wrote_0 16 rfl rfl)
theorem dX1_wrote_18 : decode cX1_wrote 18 = .ok (.iload_n 2, 1) := dk_28 (dk_at dksX1_wrote_0 18 rfl rfl)
theorem dX1_wrote_19 : decode cX1_wrote 19 = .ok (.iload_n 3, 1) := dk_29 (dk_at dksX1_wrote_0 19 rfl rfl)
theorem dX1_wrote_20 : decode cX1_wrote 20 = .ok (.iload 4, 2) := dk_21 4 (dk_at dksX1_wrote_0 20 rfl rfl)
theorem dX1_wrote_22 : decode cX1_wrote 22 = .ok (.invokevirtual 349, 3) := dk_182 1 93 (dk_at dksX1_wrote_1 0 rfl rfl)
theorem dX1_wrote_25 : decode cX1_wrote 25 = .ok (.ireturn, 1) := dk_172 (dk_at dksX1_wrote_1 3 rfl rfl)
abbrev cX1_table : ByteArray := prog_1_method_55_code
def yX1_table : MethodName := ⟨RX1, "table", "(II)I"⟩
def dkwX1_table_0 : List UInt8 := [42, 27, 182, 1, 104, 78, 42, 28, 182, 0, 180, 45, 180, 1, 108, 28, 46, 172]
abbrev dktX1_table_0 : List UInt8 := dkwX1_table_0 ++ []
theorem dksX1_table_0 : cX1_table.data.toList.drop 0 = dktX1_table_0 := by decide +kernel
theorem dX1_table_0 : decode cX1_table 0 = .ok (.aload_n 0, 1) := dk_42 (dk_at dksX1_table_0 0 rfl rfl)
theorem dX1_table_1 : decode cX1_table 1 = .ok (.iload_n 1, 1) := dk_27 (dk_at dksX1_table_0 1 rfl rfl)
theorem dX1_table_2 : decode cX1_table 2 = .ok (.invokevirtual 360, 3) := dk_182 1 104 (dk_at dksX1_table_0 2 rfl rfl)
theorem dX1_table_5 : decode cX1_table 5 = .ok (.astore_n 3, 1) := dk_78 (dk_at dksX1_table_0 5 rfl rfl)
theorem dX1_table_6 : decode cX1_table 6 = .ok (.aload_n 0, 1) := dk_42 (dk_at dksX1_table_0 6 rfl rfl)
theorem dX1_table_7 : decode cX1_table 7 = .ok (.iload_n 2, 1) := dk_28 (dk_at dksX1_table_0 7 rfl rfl)
theorem dX1_table_8 : decode cX1_table 8 = .ok (.invokevirtual 180, 3) := dk_182 0 180 (dk_at dksX1_table_0 8 rfl rfl)
theorem dX1_table_11 : decode cX1_table 11 = .ok (.aload_n 3, 1) := dk_45 (dk_at dksX1_table_0 11 rfl rfl)
theorem dX1_table_12 : decode cX1_table 12 = .ok (.getfield 364, 3) := dk_180 1 108 (dk_at dksX1_table_0 12 rfl rfl)
theorem dX1_table_15 : decode cX1_table 15 = .ok (.iload_n 2, 1) := dk_28 (dk_at dksX1_table_0 15 rfl rfl)
theorem dX1_table_16 : decode cX1_table 16 = .ok (.iaload, 1) := dk_46 (dk_at dksX1_table_0 16 rfl rfl)
theorem dX1_table_17 : decode cX1_table 17 = .ok (.ireturn, 1) := dk_172 (dk_at dksX1_table_0 17 rfl rfl)
abbrev cX1_tableAt : ByteArray := prog_1_method_54_code
def yX1_tableAt : MethodName := ⟨RX1, "tableAt", "(I)LGlacierMail$Section;"⟩
def dkwX1_tableAt_1 : List UInt8 := [27, 50, 176]
abbrev dktX1_tableAt_1 : List UInt8 := dkwX1_tableAt_1 ++ []
def dkwX1_tableAt_0 : List UInt8 := [27, 3, 42, 180, 0, 21, 180, 1, 97, 4, 100, 184, 0, 79, 184, 0, 90, 42, 180, 0, 21, 180, 1, 100]
abbrev dktX1_tableAt_0 : List UInt8 := dkwX1_tableAt_0 ++ dktX1_tableAt_1
theorem dksX1_tableAt_0 : cX1_tableAt.data.toList.drop 0 = dktX1_tableAt_0 := by decide +kernel
theorem dksX1_tableAt_1 : cX1_tableAt.data.toList.drop 24 = dktX1_tableAt_1 := dk_seg dksX1_tableAt_0 24 rfl rfl
theorem dX1_tableAt_0 : decode cX1_tableAt 0 = .ok (.iload_n 1, 1) := dk_27 (dk_at dksX1_tableAt_0 0 rfl rfl)
theorem dX1_tableAt_1 : decode cX1_tableAt 1 = .ok (.iconst 0, 1) := dk_3 (dk_at dksX1_tableAt_0 1 rfl rfl)
theorem dX1_tableAt_2 : decode cX1_tableAt 2 = .ok (.aload_n 0, 1) := dk_42 (dk_at dksX1_tableAt_0 2 rfl rfl)
theorem dX1_tableAt_3 : decode cX1_tableAt 3 = .ok (.getfield 21, 3) := dk_180 0 21 (dk_at dksX1_tableAt_0 3 rfl rfl)
theorem dX1_tableAt_6 : decode cX1_tableAt 6 = .ok (.getfield 353, 3) := dk_180 1 97 (dk_at dksX1_tableAt_0 6 rfl rfl)
theorem dX1_tableAt_9 : decode cX1_tableAt 9 = .ok (.iconst 1, 1) := dk_4 (dk_at dksX1_tableAt_0 9 rfl rfl)
theorem dX1_tableAt_10 : decode cX1_tableAt 10 = .ok (.isub, 1) := dk_100 (dk_at dksX1_tableAt_0 10 rfl rfl)
theorem dX1_tableAt_11 : decode cX1_tableAt 11 = .ok (.invokestatic 79, 3) := dk_184 0 79 (dk_at dksX1_tableAt_0 11 rfl rfl)
theorem dX1_tableAt_14 : decode cX1_tableAt 14 = .ok (.invokestatic 90, 3) := dk_184 0 90 (dk_at dksX1_tableAt_0 14 rfl rfl)
theorem dX1_tableAt_17 : decode cX1_tableAt 17 = .ok (.aload_n 0, 1) := dk_42 (dk_at dksX1_tableAt_0 17 rfl rfl)
theorem dX1_tableAt_18 : decode cX1_tableAt 18 = .ok (.getfield 21, 3) := dk_180 0 21 (dk_at dksX1_tableAt_0 18 rfl rfl)
theorem dX1_tableAt_21 : decode cX1_tableAt 21 = .ok (.getfield 356, 3) := dk_180 1 100 (dk_at dksX1_tableAt_0 21 rfl rfl)
theorem dX1_tableAt_24 : decode cX1_tableAt 24 = .ok (.iload_n 1, 1) := dk_27 (dk_at dksX1_tableAt_1 0 rfl rfl)
theorem dX1_tableAt_25 : decode cX1_tableAt 25 = .ok (.aaload, 1) := dk_50 (dk_at dksX1_tableAt_1 1 rfl rfl)
theorem dX1_tableAt_26 : decode cX1_tableAt 26 = .ok (.areturn, 1) := dk_176 (dk_at dksX1_tableAt_1 2 rfl rfl)
abbrev cX1_apart : ByteArray := prog_1_method_57_code
def yX1_apart : MethodName := ⟨RX1, "apart", "(III)Z"⟩
def dkwX1_apart_0 : List UInt8 := [42, 42, 27, 182, 1, 104, 42, 28, 182, 1, 104, 29, 182, 1, 113, 172]
abbrev dktX1_apart_0 : List UInt8 := dkwX1_apart_0 ++ []
theorem dksX1_apart_0 : cX1_apart.data.toList.drop 0 = dktX1_apart_0 := by decide +kernel
theorem dX1_apart_0 : decode cX1_apart 0 = .ok (.aload_n 0, 1) := dk_42 (dk_at dksX1_apart_0 0 rfl rfl)
theorem dX1_apart_1 : decode cX1_apart 1 = .ok (.aload_n 0, 1) := dk_42 (dk_at dksX1_apart_0 1 rfl rfl)
theorem dX1_apart_2 : decode cX1_apart 2 = .ok (.iload_n 1, 1) := dk_27 (dk_at dksX1_apart_0 2 rfl rfl)
theorem dX1_apart_3 : decode cX1_apart 3 = .ok (.invokevirtual 360, 3) := dk_182 1 104 (dk_at dksX1_apart_0 3 rfl rfl)
theorem dX1_apart_6 : decode cX1_apart 6 = .ok (.aload_n 0, 1) := dk_42 (dk_at dksX1_apart_0 6 rfl rfl)
theorem dX1_apart_7 : decode cX1_apart 7 = .ok (.iload_n 2, 1) := dk_28 (dk_at dksX1_apart_0 7 rfl rfl)
theorem dX1_apart_8 : decode cX1_apart 8 = .ok (.invokevirtual 360, 3) := dk_182 1 104 (dk_at dksX1_apart_0 8 rfl rfl)
theorem dX1_apart_11 : decode cX1_apart 11 = .ok (.iload_n 3, 1) := dk_29 (dk_at dksX1_apart_0 11 rfl rfl)
theorem dX1_apart_12 : decode cX1_apart 12 = .ok (.invokevirtual 369, 3) := dk_182 1 113 (dk_at dksX1_apart_0 12 rfl rfl)
theorem dX1_apart_15 : decode cX1_apart 15 = .ok (.ireturn, 1) := dk_172 (dk_at dksX1_apart_0 15 rfl rfl)
abbrev cX1_fit : ByteArray := prog_1_method_59_code
def yX1_fit : MethodName := ⟨RX1, "fit", "()I"⟩
def dkwX1_fit_7 : List UInt8 := [167, 255, 193, 132, 4, 2, 167, 255, 119, 28, 184, 0, 83, 29, 172]
abbrev dktX1_fit_7 : List UInt8 := dkwX1_fit_7 ++ []
def dkwX1_fit_6 : List UInt8 := [21, 4, 4, 96, 51, 17, 0, 255, 126, 159, 0, 12, 29, 4, 21, 6, 120, 2, 130, 126, 62, 132, 6, 1]
abbrev dktX1_fit_6 : List UInt8 := dkwX1_fit_6 ++ dktX1_fit_7
def dkwX1_fit_5 : List UInt8 := [42, 180, 0, 21, 180, 1, 100, 21, 6, 50, 180, 1, 108, 21, 5, 46, 42, 180, 0, 12, 180, 0, 114]
abbrev dktX1_fit_5 : List UInt8 := dkwX1_fit_5 ++ dktX1_fit_6
def dkwX1_fit_4 : List UInt8 := [167, 0, 4, 3, 61, 3, 54, 6, 21, 6, 42, 180, 0, 21, 180, 1, 97, 162, 0, 57, 28, 153, 0, 53]
abbrev dktX1_fit_4 : List UInt8 := dkwX1_fit_4 ++ dktX1_fit_5
def dkwX1_fit_3 : List UInt8 := [42, 180, 0, 12, 180, 0, 114, 21, 4, 4, 96, 51, 17, 0, 255, 126, 16, 20, 163, 0, 7, 4]
abbrev dktX1_fit_3 : List UInt8 := dkwX1_fit_3 ++ dktX1_fit_4
def dkwX1_fit_2 : List UInt8 := [180, 0, 114, 21, 4, 51, 17, 0, 255, 126, 54, 5, 21, 5, 42, 180, 0, 21, 180, 0, 87, 162, 0, 28]
abbrev dktX1_fit_2 : List UInt8 := dkwX1_fit_2 ++ dktX1_fit_3
def dkwX1_fit_1 : List UInt8 := [180, 1, 97, 120, 4, 100, 62, 3, 54, 4, 21, 4, 27, 162, 0, 137, 28, 153, 0, 133, 42, 180, 0, 12]
abbrev dktX1_fit_1 : List UInt8 := dkwX1_fit_1 ++ dktX1_fit_2
def dkwX1_fit_0 : List UInt8 := [42, 182, 0, 130, 60, 27, 5, 112, 154, 0, 7, 4, 167, 0, 4, 3, 61, 4, 42, 180, 0, 21]
abbrev dktX1_fit_0 : List UInt8 := dkwX1_fit_0 ++ dktX1_fit_1
theorem dksX1_fit_0 : cX1_fit.data.toList.drop 0 = dktX1_fit_0 := by decide +kernel
theorem dksX1_fit_1 : cX1_fit.data.toList.drop 22 = dktX1_fit_1 := dk_seg dksX1_fit_0 22 rfl rfl
theorem dksX1_fit_2 : cX1_fit.data.toList.drop 46 = dktX1_fit_2 := dk_seg dksX1_fit_1 24 rfl rfl
theorem dksX1_fit_3 : cX1_fit.data.toList.drop 70 = dktX1_fit_3 := dk_seg dksX1_fit_2 24 rfl rfl
theorem dksX1_fit_4 : cX1_fit.data.toList.drop 92 = dktX1_fit_4 := dk_seg dksX1_fit_3 22 rfl rfl
theorem dksX1_fit_5 : cX1_fit.data.toList.drop 116 = dktX1_fit_5 := dk_seg dksX1_fit_4 24 rfl rfl
theorem dksX1_fit_6 : cX1_fit.data.toList.drop 139 = dktX1_fit_6 := dk_seg dksX1_fit_5 23 rfl rfl
theorem dksX1_fit_7 : cX1_fit.data.toList.drop 163 = dktX1_fit_7 := dk_seg dksX1_fit_6 24 rfl rfl
theorem dX1_fit_0 : decode cX1_fit 0 = .ok (.aload_n 0, 1) := dk_42 (dk_at dksX1_fit_0 0 rfl rfl)
theorem dX1_fit_1 : decode cX1_fit 1 = .ok (.invokevirtual 130, 3) := dk_182 0 130 (dk_at dksX1_fit_0 1 rfl rfl)
theorem dX1_fit_4 : decode cX1_fit 4 = .ok (.istore_n 1, 1) := dk_60 (dk_at dksX1_fit_0 4 rfl rfl)
theorem dX1_fit_5 : decode cX1_fit 5 = .ok (.iload_n 1, 1) := dk_27 (dk_at dksX1_fit_0 5 rfl rfl)
theorem dX1_fit_6 : decode cX1_fit 6 = .ok (.iconst 2, 1) := dk_5 (dk_at dksX1_fit_0 6 rfl rfl)
theorem dX1_fit_7 : decode cX1_fit 7 = .ok (.irem, 1) := dk_112 (dk_at dksX1_fit_0 7 rfl rfl)
theorem dX1_fit_8 : decode cX1_fit 8 = .ok (.ifCond .ne 7, 3) := dk_154 0 7 (dk_at dksX1_fit_0 8 rfl rfl)
theorem dX1_fit_11 : decode cX1_fit 11 = .ok (.iconst 1, 1) := dk_4 (dk_at dksX1_fit_0 11 rfl rfl)
theorem dX1_fit_12 : decode cX1_fit 12 = .ok (.goto 4, 3) := dk_167 0 4 (dk_at dksX1_fit_0 12 rfl rfl)
theorem dX1_fit_15 : decode cX1_fit 15 = .ok (.iconst 0, 1) := dk_3 (dk_at dksX1_fit_0 15 rfl rfl)
theorem dX1_fit_16 : decode cX1_fit 16 = .ok (.istore_n 2, 1) := dk_61 (dk_at dksX1_fit_0 16 rfl rfl)
theorem dX1_fit_17 : decode cX1_fit 17 = .ok (.iconst 1, 1) := dk_4 (dk_at dksX1_fit_0 17 rfl rfl)
theorem dX1_fit_18 : decode cX1_fit 18 = .ok (.aload_n 0, 1) := dk_42 (dk_at dksX1_fit_0 18 rfl rfl)
theorem dX1_fit_19 : decode cX1_fit 19 = .ok (.getfield 21, 3) := dk_180 0 21 (dk_at dksX1_fit_0 19 rfl rfl)
theorem dX1_fit_22 : decode cX1_fit 22 = .ok (.getfield 353, 3) := dk_180 1 97 (dk_at dksX1_fit_1 0 rfl rfl)
theorem dX1_fit_25 : decode cX1_fit 25 = .ok (.ishl, 1) := dk_120 (dk_at dksX1_fit_1 3 rfl rfl)
theorem dX1_fit_26 : decode cX1_fit 26 = .ok (.iconst 1, 1) := dk_4 (dk_at dksX1_fit_1 4 rfl rfl)
theorem dX1_fit_27 : decode cX1_fit 27 = .ok (.isub, 1) := dk_100 (dk_at dksX1_fit_1 5 rfl rfl)
theorem dX1_fit_28 : decode cX1_fit 28 = .ok (.istore_n 3, 1) := dk_62 (dk_at dksX1_fit_1 6 rfl rfl)
theorem dX1_fit_29 : decode cX1_fit 29 = .ok (.iconst 0, 1) := dk_3 (dk_at dksX1_fit_1 7 rfl rfl)
theorem dX1_fit_30 : decode cX1_fit 30 = .ok (.istore 4, 2) := dk_54 4 (dk_at dksX1_fit_1 8 rfl rfl)
theorem dX1_fit_32 : decode cX1_fit 32 = .ok (.iload 4, 2) := dk_21 4 (dk_at dksX1_fit_1 10 rfl rfl)
theorem dX1_fit_34 : decode cX1_fit 34 = .ok (.iload_n 1, 1) := dk_27 (dk_at dksX1_fit_1 12 rfl rfl)
theorem dX1_fit_35 : decode cX1_fit 35 = .ok (.if_icmp .ge 137, 3) := dk_162 0 137 (dk_at dksX1_fit_1 13 rfl rfl)
theorem dX1_fit_38 : decode cX1_fit 38 = .ok (.iload_n 2, 1) := dk_28 (dk_at dksX1_fit_1 16 rfl rfl)
theorem dX1_fit_39 : decode cX1_fit 39 = .ok (.ifCond .eq 133, 3) := dk_153 0 133 (dk_at dksX1_fit_1 17 rfl rfl)
theorem dX1_fit_42 : decode cX1_fit 42 = .ok (.aload_n 0, 1) := dk_42 (dk_at dksX1_fit_1 20 rfl rfl)
theorem dX1_fit_43 : decode cX1_fit 43 = .ok (.getfield 12, 3) := dk_180 0 12 (dk_at dksX1_fit_1 21 rfl rfl)
theorem dX1_fit_46 : decode cX1_fit 46 = .ok (.getfield 114, 3) := dk_180 0 114 (dk_at dksX1_fit_2 0 rfl rfl)
theorem dX1_fit_49 : decode cX1_fit 49 = .ok (.iload 4, 2) := dk_21 4 (dk_at dksX1_fit_2 3 rfl rfl)
theorem dX1_fit_51 : decode cX1_fit 51 = .ok (.baload, 1) := dk_51 (dk_at dksX1_fit_2 5 rfl rfl)
theorem dX1_fit_52 : decode cX1_fit 52 = .ok (.sipush 255, 3) := dk_17 0 255 (dk_at dksX1_fit_2 6 rfl rfl)
theorem dX1_fit_55 : decode cX1_fit 55 = .ok (.iand, 1) := dk_126 (dk_at dksX1_fit_2 9 rfl rfl)
theorem dX1_fit_56 : decode cX1_fit 56 = .ok (.istore 5, 2) := dk_54 5 (dk_at dksX1_fit_2 10 rfl rfl)
theorem dX1_fit_58 : decode cX1_fit 58 = .ok (.iload 5, 2) := dk_21 5 (dk_at dksX1_fit_2 12 rfl rfl)
theorem dX1_fit_60 : decode cX1_fit 60 = .ok (.aload_n 0, 1) := dk_42 (dk_at dksX1_fit_2 14 rfl rfl)
theorem dX1_fit_61 : decode cX1_fit 61 = .ok (.getfield 21, 3) := dk_180 0 21 (dk_at dksX1_fit_2 15 rfl rfl)
theorem dX1_fit_64 : decode cX1_fit 64 = .ok (.getfield 87, 3) := dk_180 0 87 (dk_at dksX1_fit_2 18 rfl rfl)
theorem dX1_fit_67 : decode cX1_fit 67 = .ok (.if_icmp .ge 28, 3) := dk_162 0 28 (dk_at dksX1_fit_2 21 rfl rfl)
theorem dX1_fit_70 : decode cX1_fit 70 = .ok (.aload_n 0, 1) := dk_42 (dk_at dksX1_fit_3 0 rfl rfl)
theorem dX1_fit_71 : decode cX1_fit 71 = .ok (.getfield 12, 3) := dk_180 0 12 (dk_at dksX1_fit_3 1 rfl rfl)
theorem dX1_fit_74 : decode cX1_fit 74 = .ok (.getfield 114, 3) := dk_180 0 114 (dk_at dksX1_fit_3 4 rfl rfl)
theorem dX1_fit_77 : decode cX1_fit 77 = .ok (.iload 4, 2) := dk_21 4 (dk_at dksX1_fit_3 7 rfl rfl)
theorem dX1_fit_79 : decode cX1_fit 79 = .ok (.iconst 1, 1) := dk_4 (dk_at dksX1_fit_3 9 rfl rfl)
theorem dX1_fit_80 : decode cX1_fit 80 = .ok (.iadd, 1) := dk_96 (dk_at dksX1_fit_3 10 rfl rfl)
theorem dX1_fit_81 : decode cX1_fit 81 = .ok (.baload, 1) := dk_51 (dk_at dksX1_fit_3 11 rfl rfl)
theorem dX1_fit_82 : decode cX1_fit 82 = .ok (.sipush 255, 3) := dk_17 0 255 (dk_at dksX1_fit_3 12 rfl rfl)
theorem dX1_fit_85 : decode cX1_fit 85 = .ok (.iand, 1) := dk_126 (dk_at dksX1_fit_3 15 rfl rfl)
theorem dX1_fit_86 : decode cX1_fit 86 = .ok (.bipush 20, 2) := dk_16 20 (dk_at dksX1_fit_3 16 rfl rfl)
theorem dX1_fit_88 : decode cX1_fit 88 = .ok (.if_icmp .gt 7, 3) := dk_163 0 7 (dk_at dksX1_fit_3 18 rfl rfl)
theorem dX1_fit_91 : decode cX1_fit 91 = .ok (.iconst 1, 1) := dk_4 (dk_at dksX1_fit_3 21 rfl rfl)
theorem dX1_fit_92 : decode cX1_fit 92 = .ok (.goto 4, 3) := dk_167 0 4 (dk_at dksX1_fit_4 0 rfl rfl)
theorem dX1_fit_95 : decode cX1_fit 95 = .ok (.iconst 0, 1) := dk_3 (dk_at dksX1_fit_4 3 rfl rfl)
theorem dX1_fit_96 : decode cX1_fit 96 = .ok (.istore_n 2, 1) := dk_61 (dk_at dksX1_fit_4 4 rfl rfl)
theorem dX1_fit_97 : decode cX1_fit 97 = .ok (.iconst 0, 1) := dk_3 (dk_at dksX1_fit_4 5 rfl rfl)
theorem dX1_fit_98 : decode cX1_fit 98 = .ok (.istore 6, 2) := dk_54 6 (dk_at dksX1_fit_4 6 rfl rfl)
theorem dX1_fit_100 : decode cX1_fit 100 = .ok (.iload 6, 2) := dk_21 6 (dk_at dksX1_fit_4 8 rfl rfl)
theorem dX1_fit_102 : decode cX1_fit 102 = .ok (.aload_n 0, 1) := dk_42 (dk_at dksX1_fit_4 10 rfl rfl)
theorem dX1_fit_103 : decode cX1_fit 103 = .ok (.getfield 21, 3) := dk_180 0 21 (dk_at dksX1_fit_4 11 rfl rfl)
theorem dX1_fit_106 : decode cX1_fit 106 = .ok (.getfield 353, 3) := dk_180 1 97 (dk_at dksX1_fit_4 14 rfl rfl)
theorem dX1_fit_109 : decode cX1_fit 109 = .ok (.if_icmp .ge 57, 3) := dk_162 0 57 (dk_at dksX1_fit_4 17 rfl rfl)
theorem dX1_fit_112 : decode cX1_fit 112 = .ok (.iload_n 2, 1) := dk_28 (dk_at dksX1_fit_4 20 rfl rfl)
theorem dX1_fit_113 : decode cX1_fit 113 = .ok (.ifCond .eq 53, 3) := dk_153 0 53 (dk_at dksX1_fit_4 21 rfl rfl)
theorem dX1_fit_116 : decode cX1_fit 116 = .ok (.aload_n 0, 1) := dk_42 (dk_at dksX1_fit_5 0 rfl rfl)
theorem dX1_fit_117 : decode cX1_fit 117 = .ok (.getfield 21, 3) := dk_180 0 21 (dk_at dksX1_fit_5 1 rfl rfl)
theorem dX1_fit_120 : decode cX1_fit 120 = .ok (.getfield 356, 3) := dk_180 1 100 (dk_at dksX1_fit_5 4 rfl rfl)
theorem dX1_fit_123 : decode cX1_fit 123 = .ok (.iload 6, 2) := dk_21 6 (dk_at dksX1_fit_5 7 rfl rfl)
theorem dX1_fit_125 : decode cX1_fit 125 = .ok (.aaload, 1) := dk_50 (dk_at dksX1_fit_5 9 rfl rfl)
theorem dX1_fit_126 : decode cX1_fit 126 = .ok (.getfield 364, 3) := dk_180 1 108 (dk_at dksX1_fit_5 10 rfl rfl)
theorem dX1_fit_129 : decode cX1_fit 129 = .ok (.iload 5, 2) := dk_21 5 (dk_at dksX1_fit_5 13 rfl rfl)
theorem dX1_fit_131 : decode cX1_fit 131 = .ok (.iaload, 1) := dk_46 (dk_at dksX1_fit_5 15 rfl rfl)
theorem dX1_fit_132 : decode cX1_fit 132 = .ok (.aload_n 0, 1) := dk_42 (dk_at dksX1_fit_5 16 rfl rfl)
theorem dX1_fit_133 : decode cX1_fit 133 = .ok (.getfield 12, 3) := dk_180 0 12 (dk_at dksX1_fit_5 17 rfl rfl)
theorem dX1_fit_136 : decode cX1_fit 136 = .ok (.getfield 114, 3) := dk_180 0 114 (dk_at dksX1_fit_5 20 rfl rfl)
theorem dX1_fit_139 : decode cX1_fit 139 = .ok (.iload 4, 2) := dk_21 4 (dk_at dksX1_fit_6 0 rfl rfl)
theorem dX1_fit_141 : decode cX1_fit 141 = .ok (.iconst 1, 1) := dk_4 (dk_at dksX1_fit_6 2 rfl rfl)
theorem dX1_fit_142 : decode cX1_fit 142 = .ok (.iadd, 1) := dk_96 (dk_at dksX1_fit_6 3 rfl rfl)
theorem dX1_fit_143 : decode cX1_fit 143 = .ok (.baload, 1) := dk_51 (dk_at dksX1_fit_6 4 rfl rfl)
theorem dX1_fit_144 : decode cX1_fit 144 = .ok (.sipush 255, 3) := dk_17 0 255 (dk_at dksX1_fit_6 5 rfl rfl)
theorem dX1_fit_147 : decode cX1_fit 147 = .ok (.iand, 1) := dk_126 (dk_at dksX1_fit_6 8 rfl rfl)
theorem dX1_fit_148 : decode cX1_fit 148 = .ok (.if_icmp .eq 12, 3) := dk_159 0 12 (dk_at dksX1_fit_6 9 rfl rfl)
theorem dX1_fit_151 : decode cX1_fit 151 = .ok (.iload_n 3, 1) := dk_29 (dk_at dksX1_fit_6 12 rfl rfl)
theorem dX1_fit_152 : decode cX1_fit 152 = .ok (.iconst 1, 1) := dk_4 (dk_at dksX1_fit_6 13 rfl rfl)
theorem dX1_fit_153 : decode cX1_fit 153 = .ok (.iload 6, 2) := dk_21 6 (dk_at dksX1_fit_6 14 rfl rfl)
theorem dX1_fit_155 : decode cX1_fit 155 = .ok (.ishl, 1) := dk_120 (dk_at dksX1_fit_6 16 rfl rfl)
theorem dX1_fit_156 : decode cX1_fit 156 = .ok (.iconst (-1), 1) := dk_2 (dk_at dksX1_fit_6 17 rfl rfl)
theorem dX1_fit_157 : decode cX1_fit 157 = .ok (.ixor, 1) := dk_130 (dk_at dksX1_fit_6 18 rfl rfl)
theorem dX1_fit_158 : decode cX1_fit 158 = .ok (.iand, 1) := dk_126 (dk_at dksX1_fit_6 19 rfl rfl)
theorem dX1_fit_159 : decode cX1_fit 159 = .ok (.istore_n 3, 1) := dk_62 (dk_at dksX1_fit_6 20 rfl rfl)
theorem dX1_fit_160 : decode cX1_fit 160 = .ok (.iinc 6 1, 3) := dk_132 6 1 (dk_at dksX1_fit_6 21 rfl rfl)
theorem dX1_fit_163 : decode cX1_fit 163 = .ok (.goto (-63), 3) := dk_167 255 193 (dk_at dksX1_fit_7 0 rfl rfl)
theorem dX1_fit_166 : decode cX1_fit 166 = .ok (.iinc 4 2, 3) := dk_132 4 2 (dk_at dksX1_fit_7 3 rfl rfl)
theorem dX1_fit_169 : decode cX1_fit 169 = .ok (.goto (-137), 3) := dk_167 255 119 (dk_at dksX1_fit_7 6 rfl rfl)
theorem dX1_fit_172 : decode cX1_fit 172 = .ok (.iload_n 2, 1) := dk_28 (dk_at dksX1_fit_7 9 rfl rfl)
theorem dX1_fit_173 : decode cX1_fit 173 = .ok (.invokestatic 83, 3) := dk_184 0 83 (dk_at dksX1_fit_7 10 rfl rfl)
theorem dX1_fit_176 : decode cX1_fit 176 = .ok (.iload_n 3, 1) := dk_29 (dk_at dksX1_fit_7 13 rfl rfl)
theorem dX1_fit_177 : decode cX1_fit 177 = .ok (.ireturn, 1) := dk_172 (dk_at dksX1_fit_7 14 rfl rfl)
abbrev cX1_soonest : ByteArray := prog_1_method_63_code
def yX1_soonest : MethodName := ⟨RX1, "soonest", "(IIZ)I"⟩
def dkwX1_soonest_3 : List UInt8 := [172]
abbrev dktX1_soonest_3 : List UInt8 := dkwX1_soonest_3 ++ []
def dkwX1_soonest_2 : List UInt8 := [21, 4, 2, 159, 0, 19, 42, 180, 0, 51, 17, 1, 44, 28, 104, 21, 4, 96, 46, 167, 0, 5, 21, 4]
abbrev dktX1_soonest_2 : List UInt8 := dkwX1_soonest_2 ++ dktX1_soonest_3
def dkwX1_soonest_1 : List UInt8 := [184, 0, 83, 42, 182, 1, 123, 42, 27, 182, 1, 126, 42, 28, 182, 1, 129, 54, 4, 29, 153, 0, 25]
abbrev dktX1_soonest_1 : List UInt8 := dkwX1_soonest_1 ++ dktX1_soonest_2
def dkwX1_soonest_0 : List UInt8 := [42, 27, 182, 0, 225, 87, 42, 28, 182, 0, 225, 87, 27, 28, 159, 0, 7, 4, 167, 0, 4, 3]
abbrev dktX1_soonest_0 : List UInt8 := dkwX1_soonest_0 ++ dktX1_soonest_1
theorem dksX1_soonest_0 : cX1_soonest.data.toList.drop 0 = dktX1_soonest_0 := by decide +kernel
theorem dksX1_soonest_1 : cX1_soonest.data.toList.drop 22 = dktX1_soonest_1 := dk_seg dksX1_soonest_0 22 rfl rfl
theorem dksX1_soonest_2 : cX1_soonest.data.toList.drop 45 = dktX1_soonest_2 := dk_seg dksX1_soonest_1 23 rfl rfl
theorem dksX1_soonest_3 : cX1_soonest.data.toList.drop 69 = dktX1_soonest_3 := dk_seg dksX1_soonest_2 24 rfl rfl
theorem dX1_soonest_0 : decode cX1_soonest 0 = .ok (.aload_n 0, 1) := dk_42 (dk_at dksX1_soonest_0 0 rfl rfl)
theorem dX1_soonest_1 : decode cX1_soonest 1 = .ok (.iload_n 1, 1) := dk_27 (dk_at dksX1_soonest_0 1 rfl rfl)
theorem dX1_soonest_2 : decode cX1_soonest 2 = .ok (.invokevirtual 225, 3) := dk_182 0 225 (dk_at dksX1_soonest_0 2 rfl rfl)
theorem dX1_soonest_5 : decode cX1_soonest 5 = .ok (.pop, 1) := dk_87 (dk_at dksX1_soonest_0 5 rfl rfl)
theorem dX1_soonest_6 : decode cX1_soonest 6 = .ok (.aload_n 0, 1) := dk_42 (dk_at dksX1_soonest_0 6 rfl rfl)
theorem dX1_soonest_7 : decode cX1_soonest 7 = .ok (.iload_n 2, 1) := dk_28 (dk_at dksX1_soonest_0 7 rfl rfl)
theorem dX1_soonest_8 : decode cX1_soonest 8 = .ok (.invokevirtual 225, 3) := dk_182 0 225 (dk_at dksX1_soonest_0 8 rfl rfl)
theorem dX1_soonest_11 : decode cX1_soonest 11 = .ok (.pop, 1) := dk_87 (dk_at dksX1_soonest_0 11 rfl rfl)
theorem dX1_soonest_12 : decode cX1_soonest 12 = .ok (.iload_n 1, 1) := dk_27 (dk_at dksX1_soonest_0 12 rfl rfl)
theorem dX1_soonest_13 : decode cX1_soonest 13 = .ok (.iload_n 2, 1) := dk_28 (dk_at dksX1_soonest_0 13 rfl rfl)
theorem dX1_soonest_14 : decode cX1_soonest 14 = .ok (.if_icmp .eq 7, 3) := dk_159 0 7 (dk_at dksX1_soonest_0 14 rfl rfl)
theorem dX1_soonest_17 : decode cX1_soonest 17 = .ok (.iconst 1, 1) := dk_4 (dk_at dksX1_soonest_0 17 rfl rfl)
theorem dX1_soonest_18 : decode cX1_soonest 18 = .ok (.goto 4, 3) := dk_167 0 4 (dk_at dksX1_soonest_0 18 rfl rfl)
theorem dX1_soonest_21 : decode cX1_soonest 21 = .ok (.iconst 0, 1) := dk_3 (dk_at dksX1_soonest_0 21 rfl rfl)
theorem dX1_soonest_22 : decode cX1_soonest 22 = .ok (.invokestatic 83, 3) := dk_184 0 83 (dk_at dksX1_soonest_1 0 rfl rfl)
theorem dX1_soonest_25 : decode cX1_soonest 25 = .ok (.aload_n 0, 1) := dk_42 (dk_at dksX1_soonest_1 3 rfl rfl)
theorem dX1_soonest_26 : decode cX1_soonest 26 = .ok (.invokevirtual 379, 3) := dk_182 1 123 (dk_at dksX1_soonest_1 4 rfl rfl)
theorem dX1_soonest_29 : decode cX1_soonest 29 = .ok (.aload_n 0, 1) := dk_42 (dk_at dksX1_soonest_1 7 rfl rfl)
theorem dX1_soonest_30 : decode cX1_soonest 30 = .ok (.iload_n 1, 1) := dk_27 (dk_at dksX1_soonest_1 8 rfl rfl)
theorem dX1_soonest_31 : decode cX1_soonest 31 = .ok (.invokevirtual 382, 3) := dk_182 1 126 (dk_at dksX1_soonest_1 9 rfl rfl)
theorem dX1_soonest_34 : decode cX1_soonest 34 = .ok (.aload_n 0, 1) := dk_42 (dk_at dksX1_soonest_1 12 rfl rfl)
theorem dX1_soonest_35 : decode cX1_soonest 35 = .ok (.iload_n 2, 1) := dk_28 (dk_at dksX1_soonest_1 13 rfl rfl)
theorem dX1_soonest_36 : decode cX1_soonest 36 = .ok (.invokevirtual 385, 3) := dk_182 1 129 (dk_at dksX1_soonest_1 14 rfl rfl)
theorem dX1_soonest_39 : decode cX1_soonest 39 = .ok (.istore 4, 2) := dk_54 4 (dk_at dksX1_soonest_1 17 rfl rfl)
theorem dX1_soonest_41 : decode cX1_soonest 41 = .ok (.iload_n 3, 1) := dk_29 (dk_at dksX1_soonest_1 19 rfl rfl)
theorem dX1_soonest_42 : decode cX1_soonest 42 = .ok (.ifCond .eq 25, 3) := dk_153 0 25 (dk_at dksX1_soonest_1 20 rfl rfl)
theorem dX1_soonest_45 : decode cX1_soonest 45 = .ok (.iload 4, 2) := dk_21 4 (dk_at dksX1_soonest_2 0 rfl rfl)
theorem dX1_soonest_47 : decode cX1_soonest 47 = .ok (.iconst (-1), 1) := dk_2 (dk_at dksX1_soonest_2 2 rfl rfl)
theorem dX1_soonest_48 : decode cX1_soonest 48 = .ok (.if_icmp .eq 19, 3) := dk_159 0 19 (dk_at dksX1_soonest_2 3 rfl rfl)
theorem dX1_soonest_51 : decode cX1_soonest 51 = .ok (.aload_n 0, 1) := dk_42 (dk_at dksX1_soonest_2 6 rfl rfl)
theorem dX1_soonest_52 : decode cX1_soonest 52 = .ok (.getfield 51, 3) := dk_180 0 51 (dk_at dksX1_soonest_2 7 rfl rfl)
theorem dX1_soonest_55 : decode cX1_soonest 55 = .ok (.sipush 300, 3) := dk_17 1 44 (dk_at dksX1_soonest_2 10 rfl rfl)
theorem dX1_soonest_58 : decode cX1_soonest 58 = .ok (.iload_n 2, 1) := dk_28 (dk_at dksX1_soonest_2 13 rfl rfl)
theorem dX1_soonest_59 : decode cX1_soonest 59 = .ok (.imul, 1) := dk_104 (dk_at dksX1_soonest_2 14 rfl rfl)
theorem dX1_soonest_60 : decode cX1_soonest 60 = .ok (.iload 4, 2) := dk_21 4 (dk_at dksX1_soonest_2 15 rfl rfl)
theorem dX1_soonest_62 : decode cX1_soonest 62 = .ok (.iadd, 1) := dk_96 (dk_at dksX1_soonest_2 17 rfl rfl)
theorem dX1_soonest_63 : decode cX1_soonest 63 = .ok (.iaload, 1) := dk_46 (dk_at dksX1_soonest_2 18 rfl rfl)
theorem dX1_soonest_64 : decode cX1_soonest 64 = .ok (.goto 5, 3) := dk_167 0 5 (dk_at dksX1_soonest_2 19 rfl rfl)
theorem dX1_soonest_67 : decode cX1_soonest 67 = .ok (.iload 4, 2) := dk_21 4 (dk_at dksX1_soonest_2 22 rfl rfl)
theorem dX1_soonest_69 : decode cX1_soonest 69 = .ok (.ireturn, 1) := dk_172 (dk_at dksX1_soonest_3 0 rfl rfl)
abbrev cX1_lays : ByteArray := prog_1_method_60_code
def yX1_lays : MethodName := ⟨RX1, "lays", "()V"⟩
def dkwX1_lays_3 : List UInt8 := [3, 182, 1, 54, 180, 0, 199, 79, 132, 2, 1, 167, 255, 198, 132, 1, 1, 167, 255, 173, 177]
abbrev dktX1_lays_3 : List UInt8 := dkwX1_lays_3 ++ []
def dkwX1_lays_2 : List UInt8 := [180, 0, 21, 180, 0, 99, 27, 50, 180, 0, 229, 42, 180, 0, 21, 180, 0, 99, 27, 50, 180, 0, 234, 28]
abbrev dktX1_lays_2 : List UInt8 := dkwX1_lays_2 ++ dktX1_lays_3
def dkwX1_lays_1 : List UInt8 := [17, 1, 44, 162, 0, 57, 42, 180, 0, 48, 17, 1, 44, 27, 104, 28, 96, 42, 180, 0, 37, 42]
abbrev dktX1_lays_1 : List UInt8 := dkwX1_lays_1 ++ dktX1_lays_2
def dkwX1_lays_0 : List UInt8 := [3, 60, 27, 42, 180, 0, 21, 180, 0, 96, 162, 0, 78, 42, 180, 0, 21, 180, 0, 209, 61, 28]
abbrev dktX1_lays_0 : List UInt8 := dkwX1_lays_0 ++ dktX1_lays_1
theorem dksX1_lays_0 : cX1_lays.data.toList.drop 0 = dktX1_lays_0 := by decide +kernel
theorem dksX1_lays_1 : cX1_lays.data.toList.drop 22 = dktX1_lays_1 := dk_seg dksX1_lays_0 22 rfl rfl
theorem dksX1_lays_2 : cX1_lays.data.toList.drop 44 = dktX1_lays_2 := dk_seg dksX1_lays_1 22 rfl rfl
theorem dksX1_lays_3 : cX1_lays.data.toList.drop 68 = dktX1_lays_3 := dk_seg dksX1_lays_2 24 rfl rfl
theorem dX1_lays_0 : decode cX1_lays 0 = .ok (.iconst 0, 1) := dk_3 (dk_at dksX1_lays_0 0 rfl rfl)
theorem dX1_lays_1 : decode cX1_lays 1 = .ok (.istore_n 1, 1) := dk_60 (dk_at dksX1_lays_0 1 rfl rfl)
theorem dX1_lays_2 : decode cX1_lays 2 = .ok (.iload_n 1, 1) := dk_27 (dk_at dksX1_lays_0 2 rfl rfl)
theorem dX1_lays_3 : decode cX1_lays 3 = .ok (.aload_n 0, 1) := dk_42 (dk_at dksX1_lays_0 3 rfl rfl)
theorem dX1_lays_4 : decode cX1_lays 4 = .ok (.getfield 21, 3) := dk_180 0 21 (dk_at dksX1_lays_0 4 rfl rfl)
theorem dX1_lays_7 : decode cX1_lays 7 = .ok (.getfield 96, 3) := dk_180 0 96 (dk_at dksX1_lays_0 7 rfl rfl)
theorem dX1_lays_10 : decode cX1_lays 10 = .ok (.if_icmp .ge 78, 3) := dk_162 0 78 (dk_at dksX1_lays_0 10 rfl rfl)
theorem dX1_lays_13 : decode cX1_lays 13 = .ok (.aload_n 0, 1) := dk_42 (dk_at dksX1_lays_0 13 rfl rfl)
theorem dX1_lays_14 : decode cX1_lays 14 = .ok (.getfield 21, 3) := dk_180 0 21 (dk_at dksX1_lays_0 14 rfl rfl)
theorem dX1_lays_17 : decode cX1_lays 17 = .ok (.getfield 209, 3) := dk_180 0 209 (dk_at dksX1_lays_0 17 rfl rfl)
theorem dX1_lays_20 : decode cX1_lays 20 = .ok (.istore_n 2, 1) := dk_61 (dk_at dksX1_lays_0 20 rfl rfl)
theorem dX1_lays_21 : decode cX1_lays 21 = .ok (.iload_n 2, 1) := dk_28 (dk_at dksX1_lays_0 21 rfl rfl)
theorem dX1_lays_22 : decode cX1_lays 22 = .ok (.sipush 300, 3) := dk_17 1 44 (dk_at dksX1_lays_1 0 rfl rfl)
theorem dX1_lays_25 : decode cX1_lays 25 = .ok (.if_icmp .ge 57, 3) := dk_162 0 57 (dk_at dksX1_lays_1 3 rfl rfl)
theorem dX1_lays_28 : decode cX1_lays 28 = .ok (.aload_n 0, 1) := dk_42 (dk_at dksX1_lays_1 6 rfl rfl)
theorem dX1_lays_29 : decode cX1_lays 29 = .ok (.getfield 48, 3) := dk_180 0 48 (dk_at dksX1_lays_1 7 rfl rfl)
theorem dX1_lays_32 : decode cX1_lays 32 = .ok (.sipush 300, 3) := dk_17 1 44 (dk_at dksX1_lays_1 10 rfl rfl)
theorem dX1_lays_35 : decode cX1_lays 35 = .ok (.iload_n 1, 1) := dk_27 (dk_at dksX1_lays_1 13 rfl rfl)
theorem dX1_lays_36 : decode cX1_lays 36 = .ok (.imul, 1) := dk_104 (dk_at dksX1_lays_1 14 rfl rfl)
theorem dX1_lays_37 : decode cX1_lays 37 = .ok (.iload_n 2, 1) := dk_28 (dk_at dksX1_lays_1 15 rfl rfl)
theorem dX1_lays_38 : decode cX1_lays 38 = .ok (.iadd, 1) := dk_96 (dk_at dksX1_lays_1 16 rfl rfl)
theorem dX1_lays_39 : decode cX1_lays 39 = .ok (.aload_n 0, 1) := dk_42 (dk_at dksX1_lays_1 17 rfl rfl)
theorem dX1_lays_40 : decode cX1_lays 40 = .ok (.getfield 37, 3) := dk_180 0 37 (dk_at dksX1_lays_1 18 rfl rfl)
theorem dX1_lays_43 : decode cX1_lays 43 = .ok (.aload_n 0, 1) := dk_42 (dk_at dksX1_lays_1 21 rfl rfl)
theorem dX1_lays_44 : decode cX1_lays 44 = .ok (.getfield 21, 3) := dk_180 0 21 (dk_at dksX1_lays_2 0 rfl rfl)
theorem dX1_lays_47 : decode cX1_lays 47 = .ok (.getfield 99, 3) := dk_180 0 99 (dk_at dksX1_lays_2 3 rfl rfl)
theorem dX1_lays_50 : decode cX1_lays 50 = .ok (.iload_n 1, 1) := dk_27 (dk_at dksX1_lays_2 6 rfl rfl)
theorem dX1_lays_51 : decode cX1_lays 51 = .ok (.aaload, 1) := dk_50 (dk_at dksX1_lays_2 7 rfl rfl)
theorem dX1_lays_52 : decode cX1_lays 52 = .ok (.getfield 229, 3) := dk_180 0 229 (dk_at dksX1_lays_2 8 rfl rfl)
theorem dX1_lays_55 : decode cX1_lays 55 = .ok (.aload_n 0, 1) := dk_42 (dk_at dksX1_lays_2 11 rfl rfl)
theorem dX1_lays_56 : decode cX1_lays 56 = .ok (.getfield 21, 3) := dk_180 0 21 (dk_at dksX1_lays_2 12 rfl rfl)
theorem dX1_lays_59 : decode cX1_lays 59 = .ok (.getfield 99, 3) := dk_180 0 99 (dk_at dksX1_lays_2 15 rfl rfl)
theorem dX1_lays_62 : decode cX1_lays 62 = .ok (.iload_n 1, 1) := dk_27 (dk_at dksX1_lays_2 18 rfl rfl)
theorem dX1_lays_63 : decode cX1_lays 63 = .ok (.aaload, 1) := dk_50 (dk_at dksX1_lays_2 19 rfl rfl)
theorem dX1_lays_64 : decode cX1_lays 64 = .ok (.getfield 234, 3) := dk_180 0 234 (dk_at dksX1_lays_2 20 rfl rfl)
theorem dX1_lays_67 : decode cX1_lays 67 = .ok (.iload_n 2, 1) := dk_28 (dk_at dksX1_lays_2 23 rfl rfl)
theorem dX1_lays_68 : decode cX1_lays 68 = .ok (.iconst 0, 1) := dk_3 (dk_at dksX1_lays_3 0 rfl rfl)
theorem dX1_lays_69 : decode cX1_lays 69 = .ok (.invokevirtual 310, 3) := dk_182 1 54 (dk_at dksX1_lays_3 1 rfl rfl)
theorem dX1_lays_72 : decode cX1_lays 72 = .ok (.getfield 199, 3) := dk_180 0 199 (dk_at dksX1_lays_3 4 rfl rfl)
theorem dX1_lays_75 : decode cX1_lays 75 = .ok (.iastore, 1) := dk_79 (dk_at dksX1_lays_3 7 rfl rfl)
theorem dX1_lays_76 : decode cX1_lays 76 = .ok (.iinc 2 1, 3) := dk_132 2 1 (dk_at dksX1_lays_3 8 rfl rfl)
theorem dX1_lays_79 : decode cX1_lays 79 = .ok (.goto (-58), 3) := dk_167 255 198 (dk_at dksX1_lays_3 11 rfl rfl)
theorem dX1_lays_82 : decode cX1_lays 82 = .ok (.iinc 1 1, 3) := dk_132 1 1 (dk_at dksX1_lays_3 14 rfl rfl)
theorem dX1_lays_85 : decode cX1_lays 85 = .ok (.goto (-83), 3) := dk_167 255 173 (dk_at dksX1_lays_3 17 rfl rfl)
theorem dX1_lays_88 : decode cX1_lays 88 = .ok (.return_, 1) := dk_177 (dk_at dksX1_lays_3 20 rfl rfl)
abbrev cX1_answers : ByteArray := prog_1_method_61_code
def yX1_answers : MethodName := ⟨RX1, "answers", "(I)V"⟩
def dkwX1_answers_5 : List UInt8 := [167, 255, 188, 177]
abbrev dktX1_answers_5 : List UInt8 := dkwX1_answers_5 ++ []
def dkwX1_answers_4 : List UInt8 := [17, 1, 44, 29, 104, 28, 96, 46, 4, 96, 182, 1, 120, 132, 3, 1, 167, 255, 205, 132, 2, 1]
abbrev dktX1_answers_4 : List UInt8 := dkwX1_answers_4 ++ dktX1_answers_5
def dkwX1_answers_3 : List UInt8 := [180, 0, 51, 17, 1, 44, 29, 104, 28, 96, 46, 158, 0, 25, 42, 29, 28, 4, 96, 42, 180, 0, 51]
abbrev dktX1_answers_3 : List UInt8 := dkwX1_answers_3 ++ dktX1_answers_4
def dkwX1_answers_2 : List UInt8 := [4, 96, 17, 1, 44, 162, 0, 65, 3, 62, 29, 42, 180, 0, 21, 180, 0, 96, 162, 0, 46, 42]
abbrev dktX1_answers_2 : List UInt8 := dkwX1_answers_2 ++ dktX1_answers_3
def dkwX1_answers_1 : List UInt8 := [42, 27, 42, 180, 0, 21, 180, 0, 209, 4, 182, 1, 120, 42, 180, 0, 21, 180, 0, 209, 4, 96, 61, 28]
abbrev dktX1_answers_1 : List UInt8 := dkwX1_answers_1 ++ dktX1_answers_2
def dkwX1_answers_0 : List UInt8 := [3, 61, 28, 42, 180, 0, 51, 190, 162, 0, 16, 42, 180, 0, 51, 28, 3, 79, 132, 2, 1, 167, 255, 237]
abbrev dktX1_answers_0 : List UInt8 := dkwX1_answers_0 ++ dktX1_answers_1
theorem dksX1_answers_0 : cX1_answers.data.toList.drop 0 = dktX1_answers_0 := by decide +kernel
theorem dksX1_answers_1 : cX1_answers.data.toList.drop 24 = dktX1_answers_1 := dk_seg dksX1_answers_0 24 rfl rfl
theorem dksX1_answers_2 : cX1_answers.data.toList.drop 48 = dktX1_answers_2 := dk_seg dksX1_answers_1 24 rfl rfl
theorem dksX1_answers_3 : cX1_answers.data.toList.drop 70 = dktX1_answers_3 := dk_seg dksX1_answers_2 22 rfl rfl
theorem dksX1_answers_4 : cX1_answers.data.toList.drop 93 = dktX1_answers_4 := dk_seg dksX1_answers_3 23 rfl rfl
theorem dksX1_answers_5 : cX1_answers.data.toList.drop 115 = dktX1_answers_5 := dk_seg dksX1_answers_4 22 rfl rfl
theorem dX1_answers_0 : decode cX1_answers 0 = .ok (.iconst 0, 1) := dk_3 (dk_at dksX1_answers_0 0 rfl rfl)
theorem dX1_answers_1 : decode cX1_answers 1 = .ok (.istore_n 2, 1) := dk_61 (dk_at dksX1_answers_0 1 rfl rfl)
theorem dX1_answers_2 : decode cX1_answers 2 = .ok (.iload_n 2, 1) := dk_28 (dk_at dksX1_answers_0 2 rfl rfl)
theorem dX1_answers_3 : decode cX1_answers 3 = .ok (.aload_n 0, 1) := dk_42 (dk_at dksX1_answers_0 3 rfl rfl)
theorem dX1_answers_4 : decode cX1_answers 4 = .ok (.getfield 51, 3) := dk_180 0 51 (dk_at dksX1_answers_0 4 rfl rfl)
theorem dX1_answers_7 : decode cX1_answers 7 = .ok (.arraylength, 1) := dk_190 (dk_at dksX1_answers_0 7 rfl rfl)
theorem dX1_answers_8 : decode cX1_answers 8 = .ok (.if_icmp .ge 16, 3) := dk_162 0 16 (dk_at dksX1_answers_0 8 rfl rfl)
theorem dX1_answers_11 : decode cX1_answers 11 = .ok (.aload_n 0, 1) := dk_42 (dk_at dksX1_answers_0 11 rfl rfl)
theorem dX1_answers_12 : decode cX1_answers 12 = .ok (.getfield 51, 3) := dk_180 0 51 (dk_at dksX1_answers_0 12 rfl rfl)
theorem dX1_answers_15 : decode cX1_answers 15 = .ok (.iload_n 2, 1) := dk_28 (dk_at dksX1_answers_0 15 rfl rfl)
theorem dX1_answers_16 : decode cX1_answers 16 = .ok (.iconst 0, 1) := dk_3 (dk_at dksX1_answers_0 16 rfl rfl)
theorem dX1_answers_17 : decode cX1_answers 17 = .ok (.iastore, 1) := dk_79 (dk_at dksX1_answers_0 17 rfl rfl)
theorem dX1_answers_18 : decode cX1_answers 18 = .ok (.iinc 2 1, 3) := dk_132 2 1 (dk_at dksX1_answers_0 18 rfl rfl)
theorem dX1_answers_21 : decode cX1_answers 21 = .ok (.goto (-19), 3) := dk_167 255 237 (dk_at dksX1_answers_0 21 rfl rfl)
theorem dX1_answers_24 : decode cX1_answers 24 = .ok (.aload_n 0, 1) := dk_42 (dk_at dksX1_answers_1 0 rfl rfl)
theorem dX1_answers_25 : decode cX1_answers 25 = .ok (.iload_n 1, 1) := dk_27 (dk_at dksX1_answers_1 1 rfl rfl)
theorem dX1_answers_26 : decode cX1_answers 26 = .ok (.aload_n 0, 1) := dk_42 (dk_at dksX1_answers_1 2 rfl rfl)
theorem dX1_answers_27 : decode cX1_answers 27 = .ok (.getfield 21, 3) := dk_180 0 21 (dk_at dksX1_answers_1 3 rfl rfl)
theorem dX1_answers_30 : decode cX1_answers 30 = .ok (.getfield 209, 3) := dk_180 0 209 (dk_at dksX1_answers_1 6 rfl rfl)
theorem dX1_answers_33 : decode cX1_answers 33 = .ok (.iconst 1, 1) := dk_4 (dk_at dksX1_answers_1 9 rfl rfl)
theorem dX1_answers_34 : decode cX1_answers 34 = .ok (.invokevirtual 376, 3) := dk_182 1 120 (dk_at dksX1_answers_1 10 rfl rfl)
theorem dX1_answers_37 : decode cX1_answers 37 = .ok (.aload_n 0, 1) := dk_42 (dk_at dksX1_answers_1 13 rfl rfl)
theorem dX1_answers_38 : decode cX1_answers 38 = .ok (.getfield 21, 3) := dk_180 0 21 (dk_at dksX1_answers_1 14 rfl rfl)
theorem dX1_answers_41 : decode cX1_answers 41 = .ok (.getfield 209, 3) := dk_180 0 209 (dk_at dksX1_answers_1 17 rfl rfl)
theorem dX1_answers_44 : decode cX1_answers 44 = .ok (.iconst 1, 1) := dk_4 (dk_at dksX1_answers_1 20 rfl rfl)
theorem dX1_answers_45 : decode cX1_answers 45 = .ok (.iadd, 1) := dk_96 (dk_at dksX1_answers_1 21 rfl rfl)
theorem dX1_answers_46 : decode cX1_answers 46 = .ok (.istore_n 2, 1) := dk_61 (dk_at dksX1_answers_1 22 rfl rfl)
theorem dX1_answers_47 : decode cX1_answers 47 = .ok (.iload_n 2, 1) := dk_28 (dk_at dksX1_answers_1 23 rfl rfl)
theorem dX1_answers_48 : decode cX1_answers 48 = .ok (.iconst 1, 1) := dk_4 (dk_at dksX1_answers_2 0 rfl rfl)
theorem dX1_answers_49 : decode cX1_answers 49 = .ok (.iadd, 1) := dk_96 (dk_at dksX1_answers_2 1 rfl rfl)
theorem dX1_answers_50 : decode cX1_answers 50 = .ok (.sipush 300, 3) := dk_17 1 44 (dk_at dksX1_answers_2 2 rfl rfl)
theorem dX1_answers_53 : decode cX1_answers 53 = .ok (.if_icmp .ge 65, 3) := dk_162 0 65 (dk_at dksX1_answers_2 5 rfl rfl)
theorem dX1_answers_56 : decode cX1_answers 56 = .ok (.iconst 0, 1) := dk_3 (dk_at dksX1_answers_2 8 rfl rfl)
theorem dX1_answers_57 : decode cX1_answers 57 = .ok (.istore_n 3, 1) := dk_62 (dk_at dksX1_answers_2 9 rfl rfl)
theorem dX1_answers_58 : decode cX1_answers 58 = .ok (.iload_n 3, 1) := dk_29 (dk_at dksX1_answers_2 10 rfl rfl)
theorem dX1_answers_59 : decode cX1_answers 59 = .ok (.aload_n 0, 1) := dk_42 (dk_at dksX1_answers_2 11 rfl rfl)
theorem dX1_answers_60 : decode cX1_answers 60 = .ok (.getfield 21, 3) := dk_180 0 21 (dk_at dksX1_answers_2 12 rfl rfl)
theorem dX1_answers_63 : decode cX1_answers 63 = .ok (.getfield 96, 3) := dk_180 0 96 (dk_at dksX1_answers_2 15 rfl rfl)
theorem dX1_answers_66 : decode cX1_answers 66 = .ok (.if_icmp .ge 46, 3) := dk_162 0 46 (dk_at dksX1_answers_2 18 rfl rfl)
theorem dX1_answers_69 : decode cX1_answers 69 = .ok (.aload_n 0, 1) := dk_42 (dk_at dksX1_answers_2 21 rfl rfl)
theorem dX1_answers_70 : decode cX1_answers 70 = .ok (.getfield 51, 3) := dk_180 0 51 (dk_at dksX1_answers_3 0 rfl rfl)
theorem dX1_answers_73 : decode cX1_answers 73 = .ok (.sipush 300, 3) := dk_17 1 44 (dk_at dksX1_answers_3 3 rfl rfl)
theorem dX1_answers_76 : decode cX1_answers 76 = .ok (.iload_n 3, 1) := dk_29 (dk_at dksX1_answers_3 6 rfl rfl)
theorem dX1_answers_77 : decode cX1_answers 77 = .ok (.imul, 1) := dk_104 (dk_at dksX1_answers_3 7 rfl rfl)
theorem dX1_answers_78 : decode cX1_answers 78 = .ok (.iload_n 2, 1) := dk_28 (dk_at dksX1_answers_3 8 rfl rfl)
theorem dX1_answers_79 : decode cX1_answers 79 = .ok (.iadd, 1) := dk_96 (dk_at dksX1_answers_3 9 rfl rfl)
theorem dX1_answers_80 : decode cX1_answers 80 = .ok (.iaload, 1) := dk_46 (dk_at dksX1_answers_3 10 rfl rfl)
theorem dX1_answers_81 : decode cX1_answers 81 = .ok (.ifCond .le 25, 3) := dk_158 0 25 (dk_at dksX1_answers_3 11 rfl rfl)
theorem dX1_answers_84 : decode cX1_answers 84 = .ok (.aload_n 0, 1) := dk_42 (dk_at dksX1_answers_3 14 rfl rfl)
theorem dX1_answers_85 : decode cX1_answers 85 = .ok (.iload_n 3, 1) := dk_29 (dk_at dksX1_answers_3 15 rfl rfl)
theorem dX1_answers_86 : decode cX1_answers 86 = .ok (.iload_n 2, 1) := dk_28 (dk_at dksX1_answers_3 16 rfl rfl)
theorem dX1_answers_87 : decode cX1_answers 87 = .ok (.iconst 1, 1) := dk_4 (dk_at dksX1_answers_3 17 rfl rfl)
theorem dX1_answers_88 : decode cX1_answers 88 = .ok (.iadd, 1) := dk_96 (dk_at dksX1_answers_3 18 rfl rfl)
theorem dX1_answers_89 : decode cX1_answers 89 = .ok (.aload_n 0, 1) := dk_42 (dk_at dksX1_answers_3 19 rfl rfl)
theorem dX1_answers_90 : decode cX1_answers 90 = .ok (.getfield 51, 3) := dk_180 0 51 (dk_at dksX1_answers_3 20 rfl rfl)
theorem dX1_answers_93 : decode cX1_answers 93 = .ok (.sipush 300, 3) := dk_17 1 44 (dk_at dksX1_answers_4 0 rfl rfl)
theorem dX1_answers_96 : decode cX1_answers 96 = .ok (.iload_n 3, 1) := dk_29 (dk_at dksX1_answers_4 3 rfl rfl)
theorem dX1_answers_97 : decode cX1_answers 97 = .ok (.imul, 1) := dk_104 (dk_at dksX1_answers_4 4 rfl rfl)
theorem dX1_answers_98 : decode cX1_answers 98 = .ok (.iload_n 2, 1) := dk_28 (dk_at dksX1_answers_4 5 rfl rfl)
theorem dX1_answers_99 : decode cX1_answers 99 = .ok (.iadd, 1) := dk_96 (dk_at dksX1_answers_4 6 rfl rfl)
theorem dX1_answers_100 : decode cX1_answers 100 = .ok (.iaload, 1) := dk_46 (dk_at dksX1_answers_4 7 rfl rfl)
theorem dX1_answers_101 : decode cX1_answers 101 = .ok (.iconst 1, 1) := dk_4 (dk_at dksX1_answers_4 8 rfl rfl)
theorem dX1_answers_102 : decode cX1_answers 102 = .ok (.iadd, 1) := dk_96 (dk_at dksX1_answers_4 9 rfl rfl)
theorem dX1_answers_103 : decode cX1_answers 103 = .ok (.invokevirtual 376, 3) := dk_182 1 120 (dk_at dksX1_answers_4 10 rfl rfl)
theorem dX1_answers_106 : decode cX1_answers 106 = .ok (.iinc 3 1, 3) := dk_132 3 1 (dk_at dksX1_answers_4 13 rfl rfl)
theorem dX1_answers_109 : decode cX1_answers 109 = .ok (.goto (-51), 3) := dk_167 255 205 (dk_at dksX1_answers_4 16 rfl rfl)
theorem dX1_answers_112 : decode cX1_answers 112 = .ok (.iinc 2 1, 3) := dk_132 2 1 (dk_at dksX1_answers_4 19 rfl rfl)
theorem dX1_answers_115 : decode cX1_answers 115 = .ok (.goto (-68), 3) := dk_167 255 188 (dk_at dksX1_answers_5 0 rfl rfl)
theorem dX1_answers_118 : decode cX1_answers 118 = .ok (.return_, 1) := dk_177 (dk_at dksX1_answers_5 3 rfl rfl)
abbrev cX1_has : ByteArray := prog_1_method_62_code
def yX1_has : MethodName := ⟨RX1, "has", "(III)V"⟩
def dkwX1_has_4 : List UInt8 := [29, 167, 0, 14, 42, 180, 0, 51, 21, 6, 46, 29, 184, 1, 19, 79, 132, 5, 1, 167, 255, 160, 177]
abbrev dktX1_has_4 : List UInt8 := dkwX1_has_4 ++ []
def dkwX1_has_3 : List UInt8 := [21, 5, 104, 21, 4, 96, 54, 6, 42, 180, 0, 51, 21, 6, 42, 180, 0, 51, 21, 6, 46, 154, 0, 7]
abbrev dktX1_has_3 : List UInt8 := dkwX1_has_3 ++ dktX1_has_4
def dkwX1_has_2 : List UInt8 := [180, 0, 236, 42, 180, 0, 21, 180, 0, 99, 27, 50, 180, 0, 229, 159, 0, 6, 167, 0, 46, 17, 1, 44]
abbrev dktX1_has_2 : List UInt8 := dkwX1_has_2 ++ dktX1_has_3
def dkwX1_has_1 : List UInt8 := [180, 0, 96, 162, 0, 90, 21, 4, 18, 246, 159, 0, 83, 42, 180, 0, 21, 180, 0, 99, 21, 5, 50]
abbrev dktX1_has_1 : List UInt8 := dkwX1_has_1 ++ dktX1_has_2
def dkwX1_has_0 : List UInt8 := [42, 180, 0, 48, 17, 1, 44, 27, 104, 28, 96, 46, 54, 4, 3, 54, 5, 21, 5, 42, 180, 0, 21]
abbrev dktX1_has_0 : List UInt8 := dkwX1_has_0 ++ dktX1_has_1
theorem dksX1_has_0 : cX1_has.data.toList.drop 0 = dktX1_has_0 := by decide +kernel
theorem dksX1_has_1 : cX1_has.data.toList.drop 23 = dktX1_has_1 := dk_seg dksX1_has_0 23 rfl rfl
theorem dksX1_has_2 : cX1_has.data.toList.drop 46 = dktX1_has_2 := dk_seg dksX1_has_1 23 rfl rfl
theorem dksX1_has_3 : cX1_has.data.toList.drop 70 = dktX1_has_3 := dk_seg dksX1_has_2 24 rfl rfl
theorem dksX1_has_4 : cX1_has.data.toList.drop 94 = dktX1_has_4 := dk_seg dksX1_has_3 24 rfl rfl
theorem dX1_has_0 : decode cX1_has 0 = .ok (.aload_n 0, 1) := dk_42 (dk_at dksX1_has_0 0 rfl rfl)
theorem dX1_has_1 : decode cX1_has 1 = .ok (.getfield 48, 3) := dk_180 0 48 (dk_at dksX1_has_0 1 rfl rfl)
theorem dX1_has_4 : decode cX1_has 4 = .ok (.sipush 300, 3) := dk_17 1 44 (dk_at dksX1_has_0 4 rfl rfl)
theorem dX1_has_7 : decode cX1_has 7 = .ok (.iload_n 1, 1) := dk_27 (dk_at dksX1_has_0 7 rfl rfl)
theorem dX1_has_8 : decode cX1_has 8 = .ok (.imul, 1) := dk_104 (dk_at dksX1_has_0 8 rfl rfl)
theorem dX1_has_9 : decode cX1_has 9 = .ok (.iload_n 2, 1) := dk_28 (dk_at dksX1_has_0 9 rfl rfl)
theorem dX1_has_10 : decode cX1_has 10 = .ok (.iadd, 1) := dk_96 (dk_at dksX1_has_0 10 rfl rfl)
theorem dX1_has_11 : decode cX1_has 11 = .ok (.iaload, 1) := dk_46 (dk_at dksX1_has_0 11 rfl rfl)
theorem dX1_has_12 : decode cX1_has 12 = .ok (.istore 4, 2) := dk_54 4 (dk_at dksX1_has_0 12 rfl rfl)
theorem dX1_has_14 : decode cX1_has 14 = .ok (.iconst 0, 1) := dk_3 (dk_at dksX1_has_0 14 rfl rfl)
theorem dX1_has_15 : decode cX1_has 15 = .ok (.istore 5, 2) := dk_54 5 (dk_at dksX1_has_0 15 rfl rfl)
theorem dX1_has_17 : decode cX1_has 17 = .ok (.iload 5, 2) := dk_21 5 (dk_at dksX1_has_0 17 rfl rfl)
theorem dX1_has_19 : decode cX1_has 19 = .ok (.aload_n 0, 1) := dk_42 (dk_at dksX1_has_0 19 rfl rfl)
theorem dX1_has_20 : decode cX1_has 20 = .ok (.getfield 21, 3) := dk_180 0 21 (dk_at dksX1_has_0 20 rfl rfl)
theorem dX1_has_23 : decode cX1_has 23 = .ok (.getfield 96, 3) := dk_180 0 96 (dk_at dksX1_has_1 0 rfl rfl)
theorem dX1_has_26 : decode cX1_has 26 = .ok (.if_icmp .ge 90, 3) := dk_162 0 90 (dk_at dksX1_has_1 3 rfl rfl)
theorem dX1_has_29 : decode cX1_has 29 = .ok (.iload 4, 2) := dk_21 4 (dk_at dksX1_has_1 6 rfl rfl)
theorem dX1_has_31 : decode cX1_has 31 = .ok (.ldc 246, 2) := dk_18 246 (dk_at dksX1_has_1 8 rfl rfl)
theorem dX1_has_33 : decode cX1_has 33 = .ok (.if_icmp .eq 83, 3) := dk_159 0 83 (dk_at dksX1_has_1 10 rfl rfl)
theorem dX1_has_36 : decode cX1_has 36 = .ok (.aload_n 0, 1) := dk_42 (dk_at dksX1_has_1 13 rfl rfl)
theorem dX1_has_37 : decode cX1_has 37 = .ok (.getfield 21, 3) := dk_180 0 21 (dk_at dksX1_has_1 14 rfl rfl)
theorem dX1_has_40 : decode cX1_has 40 = .ok (.getfield 99, 3) := dk_180 0 99 (dk_at dksX1_has_1 17 rfl rfl)
theorem dX1_has_43 : decode cX1_has 43 = .ok (.iload 5, 2) := dk_21 5 (dk_at dksX1_has_1 20 rfl rfl)
theorem dX1_has_45 : decode cX1_has 45 = .ok (.aaload, 1) := dk_50 (dk_at dksX1_has_1 22 rfl rfl)
theorem dX1_has_46 : decode cX1_has 46 = .ok (.getfield 236, 3) := dk_180 0 236 (dk_at dksX1_has_2 0 rfl rfl)
theorem dX1_has_49 : decode cX1_has 49 = .ok (.aload_n 0, 1) := dk_42 (dk_at dksX1_has_2 3 rfl rfl)
theorem dX1_has_50 : decode cX1_has 50 = .ok (.getfield 21, 3) := dk_180 0 21 (dk_at dksX1_has_2 4 rfl rfl)
theorem dX1_has_53 : decode cX1_has 53 = .ok (.getfield 99, 3) := dk_180 0 99 (dk_at dksX1_has_2 7 rfl rfl)
theorem dX1_has_56 : decode cX1_has 56 = .ok (.iload_n 1, 1) := dk_27 (dk_at dksX1_has_2 10 rfl rfl)
theorem dX1_has_57 : decode cX1_has 57 = .ok (.aaload, 1) := dk_50 (dk_at dksX1_has_2 11 rfl rfl)
theorem dX1_has_58 : decode cX1_has 58 = .ok (.getfield 229, 3) := dk_180 0 229 (dk_at dksX1_has_2 12 rfl rfl)
theorem dX1_has_61 : decode cX1_has 61 = .ok (.if_icmp .eq 6, 3) := dk_159 0 6 (dk_at dksX1_has_2 15 rfl rfl)
theorem dX1_has_64 : decode cX1_has 64 = .ok (.goto 46, 3) := dk_167 0 46 (dk_at dksX1_has_2 18 rfl rfl)
theorem dX1_has_67 : decode cX1_has 67 = .ok (.sipush 300, 3) := dk_17 1 44 (dk_at dksX1_has_2 21 rfl rfl)
theorem dX1_has_70 : decode cX1_has 70 = .ok (.iload 5, 2) := dk_21 5 (dk_at dksX1_has_3 0 rfl rfl)
theorem dX1_has_72 : decode cX1_has 72 = .ok (.imul, 1) := dk_104 (dk_at dksX1_has_3 2 rfl rfl)
theorem dX1_has_73 : decode cX1_has 73 = .ok (.iload 4, 2) := dk_21 4 (dk_at dksX1_has_3 3 rfl rfl)
theorem dX1_has_75 : decode cX1_has 75 = .ok (.iadd, 1) := dk_96 (dk_at dksX1_has_3 5 rfl rfl)
theorem dX1_has_76 : decode cX1_has 76 = .ok (.istore 6, 2) := dk_54 6 (dk_at dksX1_has_3 6 rfl rfl)
theorem dX1_has_78 : decode cX1_has 78 = .ok (.aload_n 0, 1) := dk_42 (dk_at dksX1_has_3 8 rfl rfl)
theorem dX1_has_79 : decode cX1_has 79 = .ok (.getfield 51, 3) := dk_180 0 51 (dk_at dksX1_has_3 9 rfl rfl)
theorem dX1_has_82 : decode cX1_has 82 = .ok (.iload 6, 2) := dk_21 6 (dk_at dksX1_has_3 12 rfl rfl)
theorem dX1_has_84 : decode cX1_has 84 = .ok (.aload_n 0, 1) := dk_42 (dk_at dksX1_has_3 14 rfl rfl)
theorem dX1_has_85 : decode cX1_has 85 = .ok (.getfield 51, 3) := dk_180 0 51 (dk_at dksX1_has_3 15 rfl rfl)
theorem dX1_has_88 : decode cX1_has 88 = .ok (.iload 6, 2) := dk_21 6 (dk_at dksX1_has_3 18 rfl rfl)
theorem dX1_has_90 : decode cX1_has 90 = .ok (.iaload, 1) := dk_46 (dk_at dksX1_has_3 20 rfl rfl)
theorem dX1_has_91 : decode cX1_has 91 = .ok (.ifCond .ne 7, 3) := dk_154 0 7 (dk_at dksX1_has_3 21 rfl rfl)
theorem dX1_has_94 : decode cX1_has 94 = .ok (.iload_n 3, 1) := dk_29 (dk_at dksX1_has_4 0 rfl rfl)
theorem dX1_has_95 : decode cX1_has 95 = .ok (.goto 14, 3) := dk_167 0 14 (dk_at dksX1_has_4 1 rfl rfl)
theorem dX1_has_98 : decode cX1_has 98 = .ok (.aload_n 0, 1) := dk_42 (dk_at dksX1_has_4 4 rfl rfl)
theorem dX1_has_99 : decode cX1_has 99 = .ok (.getfield 51, 3) := dk_180 0 51 (dk_at dksX1_has_4 5 rfl rfl)
theorem dX1_has_102 : decode cX1_has 102 = .ok (.iload 6, 2) := dk_21 6 (dk_at dksX1_has_4 8 rfl rfl)
theorem dX1_has_104 : decode cX1_has 104 = .ok (.iaload, 1) := dk_46 (dk_at dksX1_has_4 10 rfl rfl)
theorem dX1_has_105 : decode cX1_has 105 = .ok (.iload_n 3, 1) := dk_29 (dk_at dksX1_has_4 11 rfl rfl)
theorem dX1_has_106 : decode cX1_has 106 = .ok (.invokestatic 275, 3) := dk_184 1 19 (dk_at dksX1_has_4 12 rfl rfl)
theorem dX1_has_109 : decode cX1_has 109 = .ok (.iastore, 1) := dk_79 (dk_at dksX1_has_4 15 rfl rfl)
theorem dX1_has_110 : decode cX1_has 110 = .ok (.iinc 5 1, 3) := dk_132 5 1 (dk_at dksX1_has_4 16 rfl rfl)
theorem dX1_has_113 : decode cX1_has 113 = .ok (.goto (-96), 3) := dk_167 255 160 (dk_at dksX1_has_4 19 rfl rfl)
theorem dX1_has_116 : decode cX1_has 116 = .ok (.return_, 1) := dk_177 (dk_at dksX1_has_4 22 rfl rfl)
abbrev cX1_soonestOf : ByteArray := prog_1_method_64_code
def yX1_soonestOf : MethodName := ⟨RX1, "soonestOf", "(I)I"⟩
def dkwX1_soonestOf_1 : List UInt8 := [28, 96, 46, 158, 0, 5, 28, 172, 132, 2, 1, 167, 255, 229, 2, 172]
abbrev dktX1_soonestOf_1 : List UInt8 := dkwX1_soonestOf_1 ++ []
def dkwX1_soonestOf_0 : List UInt8 := [42, 180, 0, 21, 180, 0, 209, 61, 28, 17, 1, 44, 162, 0, 26, 42, 180, 0, 51, 17, 1, 44, 27, 104]
abbrev dktX1_soonestOf_0 : List UInt8 := dkwX1_soonestOf_0 ++ dktX1_soonestOf_1
theorem dksX1_soonestOf_0 : cX1_soonestOf.data.toList.drop 0 = dktX1_soonestOf_0 := by decide +kernel
theorem dksX1_soonestOf_1 : cX1_soonestOf.data.toList.drop 24 = dktX1_soonestOf_1 := dk_seg dksX1_soonestOf_0 24 rfl rfl
theorem dX1_soonestOf_0 : decode cX1_soonestOf 0 = .ok (.aload_n 0, 1) := dk_42 (dk_at dksX1_soonestOf_0 0 rfl rfl)
theorem dX1_soonestOf_1 : decode cX1_soonestOf 1 = .ok (.getfield 21, 3) := dk_180 0 21 (dk_at dksX1_soonestOf_0 1 rfl rfl)
theorem dX1_soonestOf_4 : decode cX1_soonestOf 4 = .ok (.getfield 209, 3) := dk_180 0 209 (dk_at dksX1_soonestOf_0 4 rfl rfl)
theorem dX1_soonestOf_7 : decode cX1_soonestOf 7 = .ok (.istore_n 2, 1) := dk_61 (dk_at dksX1_soonestOf_0 7 rfl rfl)
theorem dX1_soonestOf_8 : decode cX1_soonestOf 8 = .ok (.iload_n 2, 1) := dk_28 (dk_at dksX1_soonestOf_0 8 rfl rfl)
theorem dX1_soonestOf_9 : decode cX1_soonestOf 9 = .ok (.sipush 300, 3) := dk_17 1 44 (dk_at dksX1_soonestOf_0 9 rfl rfl)
theorem dX1_soonestOf_12 : decode cX1_soonestOf 12 = .ok (.if_icmp .ge 26, 3) := dk_162 0 26 (dk_at dksX1_soonestOf_0 12 rfl rfl)
theorem dX1_soonestOf_15 : decode cX1_soonestOf 15 = .ok (.aload_n 0, 1) := dk_42 (dk_at dksX1_soonestOf_0 15 rfl rfl)
theorem dX1_soonestOf_16 : decode cX1_soonestOf 16 = .ok (.getfield 51, 3) := dk_180 0 51 (dk_at dksX1_soonestOf_0 16 rfl rfl)
theorem dX1_soonestOf_19 : decode cX1_soonestOf 19 = .ok (.sipush 300, 3) := dk_17 1 44 (dk_at dksX1_soonestOf_0 19 rfl rfl)
theorem dX1_soonestOf_22 : decode cX1_soonestOf 22 = .ok (.iload_n 1, 1) := dk_27 (dk_at dksX1_soonestOf_0 22 rfl rfl)
theorem dX1_soonestOf_23 : decode cX1_soonestOf 23 = .ok (.imul, 1) := dk_104 (dk_at dksX1_soonestOf_0 23 rfl rfl)
theorem dX1_soonestOf_24 : decode cX1_soonestOf 24 = .ok (.iload_n 2, 1) := dk_28 (dk_at dksX1_soonestOf_1 0 rfl rfl)
theorem dX1_soonestOf_25 : decode cX1_soonestOf 25 = .ok (.iadd, 1) := dk_96 (dk_at dksX1_soonestOf_1 1 rfl rfl)
theorem dX1_soonestOf_26 : decode cX1_soonestOf 26 = .ok (.iaload, 1) := dk_46 (dk_at dksX1_soonestOf_1 2 rfl rfl)
theorem dX1_soonestOf_27 : decode cX1_soonestOf 27 = .ok (.ifCond .le 5, 3) := dk_158 0 5 (dk_at dksX1_soonestOf_1 3 rfl rfl)
theorem dX1_soonestOf_30 : decode cX1_soonestOf 30 = .ok (.iload_n 2, 1) := dk_28 (dk_at dksX1_soonestOf_1 6 rfl rfl)
theorem dX1_soonestOf_31 : decode cX1_soonestOf 31 = .ok (.ireturn, 1) := dk_172 (dk_at dksX1_soonestOf_1 7 rfl rfl)
theorem dX1_soonestOf_32 : decode cX1_soonestOf 32 = .ok (.iinc 2 1, 3) := dk_132 2 1 (dk_at dksX1_soonestOf_1 8 rfl rfl)
theorem dX1_soonestOf_35 : decode cX1_soonestOf 35 = .ok (.goto (-27), 3) := dk_167 255 229 (dk_at dksX1_soonestOf_1 11 rfl rfl)
theorem dX1_soonestOf_38 : decode cX1_soonestOf 38 = .ok (.iconst (-1), 1) := dk_2 (dk_at dksX1_soonestOf_1 14 rfl rfl)
theorem dX1_soonestOf_39 : decode cX1_soonestOf 39 = .ok (.ireturn, 1) := dk_172 (dk_at dksX1_soonestOf_1 15 rfl rfl)
abbrev cX1_chain : ByteArray := prog_1_method_66_code
def yX1_chain : MethodName := ⟨RX1, "chain", "(III)I"⟩
def dkwX1_chain_5 : List UInt8 := [108, 54, 6, 21, 8, 17, 3, 232, 112, 4, 100, 54, 4, 132, 7, 255, 167, 255, 216, 21, 6, 172]
abbrev dktX1_chain_5 : List UInt8 := dkwX1_chain_5 ++ []
def dkwX1_chain_4 : List UInt8 := [21, 7, 29, 164, 0, 40, 42, 21, 6, 21, 4, 21, 7, 27, 182, 1, 132, 54, 8, 21, 8, 17, 3, 232]
abbrev dktX1_chain_4 : List UInt8 := dkwX1_chain_4 ++ dktX1_chain_5
def dkwX1_chain_3 : List UInt8 := [54, 5, 21, 4, 2, 159, 0, 9, 29, 21, 5, 164, 0, 5, 2, 172, 28, 54, 6, 21, 5, 54, 7]
abbrev dktX1_chain_3 : List UInt8 := dkwX1_chain_3 ++ dktX1_chain_4
def dkwX1_chain_2 : List UInt8 := [21, 4, 2, 160, 0, 7, 3, 167, 0, 16, 42, 180, 0, 51, 17, 1, 44, 28, 104, 21, 4, 96, 46]
abbrev dktX1_chain_2 : List UInt8 := dkwX1_chain_2 ++ dktX1_chain_3
def dkwX1_chain_1 : List UInt8 := [167, 0, 4, 3, 184, 0, 83, 42, 182, 1, 123, 42, 27, 182, 1, 126, 42, 28, 182, 1, 129, 54, 4]
abbrev dktX1_chain_1 : List UInt8 := dkwX1_chain_1 ++ dktX1_chain_2
def dkwX1_chain_0 : List UInt8 := [42, 27, 182, 0, 225, 87, 42, 28, 182, 0, 225, 87, 27, 28, 159, 0, 11, 29, 155, 0, 7, 4]
abbrev dktX1_chain_0 : List UInt8 := dkwX1_chain_0 ++ dktX1_chain_1
theorem dksX1_chain_0 : cX1_chain.data.toList.drop 0 = dktX1_chain_0 := by decide +kernel
theorem dksX1_chain_1 : cX1_chain.data.toList.drop 22 = dktX1_chain_1 := dk_seg dksX1_chain_0 22 rfl rfl
theorem dksX1_chain_2 : cX1_chain.data.toList.drop 45 = dktX1_chain_2 := dk_seg dksX1_chain_1 23 rfl rfl
theorem dksX1_chain_3 : cX1_chain.data.toList.drop 68 = dktX1_chain_3 := dk_seg dksX1_chain_2 23 rfl rfl
theorem dksX1_chain_4 : cX1_chain.data.toList.drop 91 = dktX1_chain_4 := dk_seg dksX1_chain_3 23 rfl rfl
theorem dksX1_chain_5 : cX1_chain.data.toList.drop 115 = dktX1_chain_5 := dk_seg dksX1_chain_4 24 rfl rfl
theorem dX1_chain_0 : decode cX1_chain 0 = .ok (.aload_n 0, 1) := dk_42 (dk_at dksX1_chain_0 0 rfl rfl)
theorem dX1_chain_1 : decode cX1_chain 1 = .ok (.iload_n 1, 1) := dk_27 (dk_at dksX1_chain_0 1 rfl rfl)
theorem dX1_chain_2 : decode cX1_chain 2 = .ok (.invokevirtual 225, 3) := dk_182 0 225 (dk_at dksX1_chain_0 2 rfl rfl)
theorem dX1_chain_5 : decode cX1_chain 5 = .ok (.pop, 1) := dk_87 (dk_at dksX1_chain_0 5 rfl rfl)
theorem dX1_chain_6 : decode cX1_chain 6 = .ok (.aload_n 0, 1) := dk_42 (dk_at dksX1_chain_0 6 rfl rfl)
theorem dX1_chain_7 : decode cX1_chain 7 = .ok (.iload_n 2, 1) := dk_28 (dk_at dksX1_chain_0 7 rfl rfl)
theorem dX1_chain_8 : decode cX1_chain 8 = .ok (.invokevirtual 225, 3) := dk_182 0 225 (dk_at dksX1_chain_0 8 rfl rfl)
theorem dX1_chain_11 : decode cX1_chain 11 = .ok (.pop, 1) := dk_87 (dk_at dksX1_chain_0 11 rfl rfl)
theorem dX1_chain_12 : decode cX1_chain 12 = .ok (.iload_n 1, 1) := dk_27 (dk_at dksX1_chain_0 12 rfl rfl)
theorem dX1_chain_13 : decode cX1_chain 13 = .ok (.iload_n 2, 1) := dk_28 (dk_at dksX1_chain_0 13 rfl rfl)
theorem dX1_chain_14 : decode cX1_chain 14 = .ok (.if_icmp .eq 11, 3) := dk_159 0 11 (dk_at dksX1_chain_0 14 rfl rfl)
theorem dX1_chain_17 : decode cX1_chain 17 = .ok (.iload_n 3, 1) := dk_29 (dk_at dksX1_chain_0 17 rfl rfl)
theorem dX1_chain_18 : decode cX1_chain 18 = .ok (.ifCond .lt 7, 3) := dk_155 0 7 (dk_at dksX1_chain_0 18 rfl rfl)
theorem dX1_chain_21 : decode cX1_chain 21 = .ok (.iconst 1, 1) := dk_4 (dk_at dksX1_chain_0 21 rfl rfl)
theorem dX1_chain_22 : decode cX1_chain 22 = .ok (.goto 4, 3) := dk_167 0 4 (dk_at dksX1_chain_1 0 rfl rfl)
theorem dX1_chain_25 : decode cX1_chain 25 = .ok (.iconst 0, 1) := dk_3 (dk_at dksX1_chain_1 3 rfl rfl)
theorem dX1_chain_26 : decode cX1_chain 26 = .ok (.invokestatic 83, 3) := dk_184 0 83 (dk_at dksX1_chain_1 4 rfl rfl)
theorem dX1_chain_29 : decode cX1_chain 29 = .ok (.aload_n 0, 1) := dk_42 (dk_at dksX1_chain_1 7 rfl rfl)
theorem dX1_chain_30 : decode cX1_chain 30 = .ok (.invokevirtual 379, 3) := dk_182 1 123 (dk_at dksX1_chain_1 8 rfl rfl)
theorem dX1_chain_33 : decode cX1_chain 33 = .ok (.aload_n 0, 1) := dk_42 (dk_at dksX1_chain_1 11 rfl rfl)
theorem dX1_chain_34 : decode cX1_chain 34 = .ok (.iload_n 1, 1) := dk_27 (dk_at dksX1_chain_1 12 rfl rfl)
theorem dX1_chain_35 : decode cX1_chain 35 = .ok (.invokevirtual 382, 3) := dk_182 1 126 (dk_at dksX1_chain_1 13 rfl rfl)
theorem dX1_chain_38 : decode cX1_chain 38 = .ok (.aload_n 0, 1) := dk_42 (dk_at dksX1_chain_1 16 rfl rfl)
theorem dX1_chain_39 : decode cX1_chain 39 = .ok (.iload_n 2, 1) := dk_28 (dk_at dksX1_chain_1 17 rfl rfl)
theorem dX1_chain_40 : decode cX1_chain 40 = .ok (.invokevirtual 385, 3) := dk_182 1 129 (dk_at dksX1_chain_1 18 rfl rfl)
theorem dX1_chain_43 : decode cX1_chain 43 = .ok (.istore 4, 2) := dk_54 4 (dk_at dksX1_chain_1 21 rfl rfl)
theorem dX1_chain_45 : decode cX1_chain 45 = .ok (.iload 4, 2) := dk_21 4 (dk_at dksX1_chain_2 0 rfl rfl)
theorem dX1_chain_47 : decode cX1_chain 47 = .ok (.iconst (-1), 1) := dk_2 (dk_at dksX1_chain_2 2 rfl rfl)
theorem dX1_chain_48 : decode cX1_chain 48 = .ok (.if_icmp .ne 7, 3) := dk_160 0 7 (dk_at dksX1_chain_2 3 rfl rfl)
theorem dX1_chain_51 : decode cX1_chain 51 = .ok (.iconst 0, 1) := dk_3 (dk_at dksX1_chain_2 6 rfl rfl)
theorem dX1_chain_52 : decode cX1_chain 52 = .ok (.goto 16, 3) := dk_167 0 16 (dk_at dksX1_chain_2 7 rfl rfl)
theorem dX1_chain_55 : decode cX1_chain 55 = .ok (.aload_n 0, 1) := dk_42 (dk_at dksX1_chain_2 10 rfl rfl)
theorem dX1_chain_56 : decode cX1_chain 56 = .ok (.getfield 51, 3) := dk_180 0 51 (dk_at dksX1_chain_2 11 rfl rfl)
theorem dX1_chain_59 : decode cX1_chain 59 = .ok (.sipush 300, 3) := dk_17 1 44 (dk_at dksX1_chain_2 14 rfl rfl)
theorem dX1_chain_62 : decode cX1_chain 62 = .ok (.iload_n 2, 1) := dk_28 (dk_at dksX1_chain_2 17 rfl rfl)
theorem dX1_chain_63 : decode cX1_chain 63 = .ok (.imul, 1) := dk_104 (dk_at dksX1_chain_2 18 rfl rfl)
theorem dX1_chain_64 : decode cX1_chain 64 = .ok (.iload 4, 2) := dk_21 4 (dk_at dksX1_chain_2 19 rfl rfl)
theorem dX1_chain_66 : decode cX1_chain 66 = .ok (.iadd, 1) := dk_96 (dk_at dksX1_chain_2 21 rfl rfl)
theorem dX1_chain_67 : decode cX1_chain 67 = .ok (.iaload, 1) := dk_46 (dk_at dksX1_chain_2 22 rfl rfl)
theorem dX1_chain_68 : decode cX1_chain 68 = .ok (.istore 5, 2) := dk_54 5 (dk_at dksX1_chain_3 0 rfl rfl)
theorem dX1_chain_70 : decode cX1_chain 70 = .ok (.iload 4, 2) := dk_21 4 (dk_at dksX1_chain_3 2 rfl rfl)
theorem dX1_chain_72 : decode cX1_chain 72 = .ok (.iconst (-1), 1) := dk_2 (dk_at dksX1_chain_3 4 rfl rfl)
theorem dX1_chain_73 : decode cX1_chain 73 = .ok (.if_icmp .eq 9, 3) := dk_159 0 9 (dk_at dksX1_chain_3 5 rfl rfl)
theorem dX1_chain_76 : decode cX1_chain 76 = .ok (.iload_n 3, 1) := dk_29 (dk_at dksX1_chain_3 8 rfl rfl)
theorem dX1_chain_77 : decode cX1_chain 77 = .ok (.iload 5, 2) := dk_21 5 (dk_at dksX1_chain_3 9 rfl rfl)
theorem dX1_chain_79 : decode cX1_chain 79 = .ok (.if_icmp .le 5, 3) := dk_164 0 5 (dk_at dksX1_chain_3 11 rfl rfl)
theorem dX1_chain_82 : decode cX1_chain 82 = .ok (.iconst (-1), 1) := dk_2 (dk_at dksX1_chain_3 14 rfl rfl)
theorem dX1_chain_83 : decode cX1_chain 83 = .ok (.ireturn, 1) := dk_172 (dk_at dksX1_chain_3 15 rfl rfl)
theorem dX1_chain_84 : decode cX1_chain 84 = .ok (.iload_n 2, 1) := dk_28 (dk_at dksX1_chain_3 16 rfl rfl)
theorem dX1_chain_85 : decode cX1_chain 85 = .ok (.istore 6, 2) := dk_54 6 (dk_at dksX1_chain_3 17 rfl rfl)
theorem dX1_chain_87 : decode cX1_chain 87 = .ok (.iload 5, 2) := dk_21 5 (dk_at dksX1_chain_3 19 rfl rfl)
theorem dX1_chain_89 : decode cX1_chain 89 = .ok (.istore 7, 2) := dk_54 7 (dk_at dksX1_chain_3 21 rfl rfl)
theorem dX1_chain_91 : decode cX1_chain 91 = .ok (.iload 7, 2) := dk_21 7 (dk_at dksX1_chain_4 0 rfl rfl)
theorem dX1_chain_93 : decode cX1_chain 93 = .ok (.iload_n 3, 1) := dk_29 (dk_at dksX1_chain_4 2 rfl rfl)
theorem dX1_chain_94 : decode cX1_chain 94 = .ok (.if_icmp .le 40, 3) := dk_164 0 40 (dk_at dksX1_chain_4 3 rfl rfl)
theorem dX1_chain_97 : decode cX1_chain 97 = .ok (.aload_n 0, 1) := dk_42 (dk_at dksX1_chain_4 6 rfl rfl)
theorem dX1_chain_98 : decode cX1_chain 98 = .ok (.iload 6, 2) := dk_21 6 (dk_at dksX1_chain_4 7 rfl rfl)
theorem dX1_chain_100 : decode cX1_chain 100 = .ok (.iload 4, 2) := dk_21 4 (dk_at dksX1_chain_4 9 rfl rfl)
theorem dX1_chain_102 : decode cX1_chain 102 = .ok (.iload 7, 2) := dk_21 7 (dk_at dksX1_chain_4 11 rfl rfl)
theorem dX1_chain_104 : decode cX1_chain 104 = .ok (.iload_n 1, 1) := dk_27 (dk_at dksX1_chain_4 13 rfl rfl)
theorem dX1_chain_105 : decode cX1_chain 105 = .ok (.invokevirtual 388, 3) := dk_182 1 132 (dk_at dksX1_chain_4 14 rfl rfl)
theorem dX1_chain_108 : decode cX1_chain 108 = .ok (.istore 8, 2) := dk_54 8 (dk_at dksX1_chain_4 17 rfl rfl)
theorem dX1_chain_110 : decode cX1_chain 110 = .ok (.iload 8, 2) := dk_21 8 (dk_at dksX1_chain_4 19 rfl rfl)
theorem dX1_chain_112 : decode cX1_chain 112 = .ok (.sipush 1000, 3) := dk_17 3 232 (dk_at dksX1_chain_4 21 rfl rfl)
theorem dX1_chain_115 : decode cX1_chain 115 = .ok (.idiv, 1) := dk_108 (dk_at dksX1_chain_5 0 rfl rfl)
theorem dX1_chain_116 : decode cX1_chain 116 = .ok (.istore 6, 2) := dk_54 6 (dk_at dksX1_chain_5 1 rfl rfl)
theorem dX1_chain_118 : decode cX1_chain 118 = .ok (.iload 8, 2) := dk_21 8 (dk_at dksX1_chain_5 3 rfl rfl)
theorem dX1_chain_120 : decode cX1_chain 120 = .ok (.sipush 1000, 3) := dk_17 3 232 (dk_at dksX1_chain_5 5 rfl rfl)
theorem dX1_chain_123 : decode cX1_chain 123 = .ok (.irem, 1) := dk_112 (dk_at dksX1_chain_5 8 rfl rfl)
theorem dX1_chain_124 : decode cX1_chain 124 = .ok (.iconst 1, 1) := dk_4 (dk_at dksX1_chain_5 9 rfl rfl)
theorem dX1_chain_125 : decode cX1_chain 125 = .ok (.isub, 1) := dk_100 (dk_at dksX1_chain_5 10 rfl rfl)
theorem dX1_chain_126 : decode cX1_chain 126 = .ok (.istore 4, 2) := dk_54 4 (dk_at dksX1_chain_5 11 rfl rfl)
theorem dX1_chain_128 : decode cX1_chain 128 = .ok (.iinc 7 (-1), 3) := dk_132 7 255 (dk_at dksX1_chain_5 13 rfl rfl)
theorem dX1_chain_131 : decode cX1_chain 131 = .ok (.goto (-40), 3) := dk_167 255 216 (dk_at dksX1_chain_5 16 rfl rfl)
theorem dX1_chain_134 : decode cX1_chain 134 = .ok (.iload 6, 2) := dk_21 6 (dk_at dksX1_chain_5 19 rfl rfl)
theorem dX1_chain_136 : decode cX1_chain 136 = .ok (.ireturn, 1) := dk_172 (dk_at dksX1_chain_5 21 rfl rfl)
abbrev cX1_thrower : ByteArray := prog_1_method_65_code
def yX1_thrower : MethodName := ⟨RX1, "thrower", "(IIII)I"⟩
def dkwX1_thrower_7 : List UInt8 := [167, 255, 197, 132, 5, 1, 167, 255, 87, 2, 172]
abbrev dktX1_thrower_7 : List UInt8 := dkwX1_thrower_7 ++ []
def dkwX1_thrower_6 : List UInt8 := [4, 100, 46, 29, 4, 100, 160, 0, 13, 17, 3, 232, 21, 5, 104, 21, 6, 96, 172, 132, 6, 1]
abbrev dktX1_thrower_6 : List UInt8 := dkwX1_thrower_6 ++ dktX1_thrower_7
def dkwX1_thrower_5 : List UInt8 := [21, 5, 104, 21, 6, 96, 46, 28, 160, 0, 35, 42, 180, 0, 51, 17, 1, 44, 21, 5, 104, 21, 6, 96]
abbrev dktX1_thrower_5 : List UInt8 := dkwX1_thrower_5 ++ dktX1_thrower_6
def dkwX1_thrower_4 : List UInt8 := [42, 180, 0, 21, 180, 0, 209, 4, 96, 54, 6, 21, 6, 28, 162, 0, 59, 42, 180, 0, 48, 17, 1, 44]
abbrev dktX1_thrower_4 : List UInt8 := dkwX1_thrower_4 ++ dktX1_thrower_5
def dkwX1_thrower_3 : List UInt8 := [180, 0, 209, 96, 46, 28, 160, 0, 91, 17, 3, 232, 21, 5, 104, 42, 180, 0, 21, 180, 0, 209, 96, 172]
abbrev dktX1_thrower_3 : List UInt8 := dkwX1_thrower_3 ++ dktX1_thrower_4
def dkwX1_thrower_2 : List UInt8 := [160, 0, 48, 21, 5, 21, 4, 160, 0, 114, 42, 180, 0, 48, 17, 1, 44, 21, 5, 104, 42, 180, 0, 21]
abbrev dktX1_thrower_2 : List UInt8 := dkwX1_thrower_2 ++ dktX1_thrower_3
def dkwX1_thrower_1 : List UInt8 := [180, 0, 236, 42, 180, 0, 21, 180, 0, 99, 21, 5, 50, 180, 0, 229, 159, 0, 6, 167, 0, 126, 29, 4]
abbrev dktX1_thrower_1 : List UInt8 := dkwX1_thrower_1 ++ dktX1_thrower_2
def dkwX1_thrower_0 : List UInt8 := [3, 54, 5, 21, 5, 42, 180, 0, 21, 180, 0, 96, 162, 0, 163, 42, 180, 0, 21, 180, 0, 99, 27, 50]
abbrev dktX1_thrower_0 : List UInt8 := dkwX1_thrower_0 ++ dktX1_thrower_1
theorem dksX1_thrower_0 : cX1_thrower.data.toList.drop 0 = dktX1_thrower_0 := by decide +kernel
theorem dksX1_thrower_1 : cX1_thrower.data.toList.drop 24 = dktX1_thrower_1 := dk_seg dksX1_thrower_0 24 rfl rfl
theorem dksX1_thrower_2 : cX1_thrower.data.toList.drop 48 = dktX1_thrower_2 := dk_seg dksX1_thrower_1 24 rfl rfl
theorem dksX1_thrower_3 : cX1_thrower.data.toList.drop 72 = dktX1_thrower_3 := dk_seg dksX1_thrower_2 24 rfl rfl
theorem dksX1_thrower_4 : cX1_thrower.data.toList.drop 96 = dktX1_thrower_4 := dk_seg dksX1_thrower_3 24 rfl rfl
theorem dksX1_thrower_5 : cX1_thrower.data.toList.drop 120 = dktX1_thrower_5 := dk_seg dksX1_thrower_4 24 rfl rfl
theorem dksX1_thrower_6 : cX1_thrower.data.toList.drop 144 = dktX1_thrower_6 := dk_seg dksX1_thrower_5 24 rfl rfl
theorem dksX1_thrower_7 : cX1_thrower.data.toList.drop 166 = dktX1_thrower_7 := dk_seg dksX1_thrower_6 22 rfl rfl
theorem dX1_thrower_0 : decode cX1_thrower 0 = .ok (.iconst 0, 1) := dk_3 (dk_at dksX1_thrower_0 0 rfl rfl)
theorem dX1_thrower_1 : decode cX1_thrower 1 = .ok (.istore 5, 2) := dk_54 5 (dk_at dksX1_thrower_0 1 rfl rfl)
theorem dX1_thrower_3 : decode cX1_thrower 3 = .ok (.iload 5, 2) := dk_21 5 (dk_at dksX1_thrower_0 3 rfl rfl)
theorem dX1_thrower_5 : decode cX1_thrower 5 = .ok (.aload_n 0, 1) := dk_42 (dk_at dksX1_thrower_0 5 rfl rfl)
theorem dX1_thrower_6 : decode cX1_thrower 6 = .ok (.getfield 21, 3) := dk_180 0 21 (dk_at dksX1_thrower_0 6 rfl rfl)
theorem dX1_thrower_9 : decode cX1_thrower 9 = .ok (.getfield 96, 3) := dk_180 0 96 (dk_at dksX1_thrower_0 9 rfl rfl)
theorem dX1_thrower_12 : decode cX1_thrower 12 = .ok (.if_icmp .ge 163, 3) := dk_162 0 163 (dk_at dksX1_thrower_0 12 rfl rfl)
theorem dX1_thrower_15 : decode cX1_thrower 15 = .ok (.aload_n 0, 1) := dk_42 (dk_at dksX1_thrower_0 15 rfl rfl)
theorem dX1_thrower_16 : decode cX1_thrower 16 = .ok (.getfield 21, 3) := dk_180 0 21 (dk_at dksX1_thrower_0 16 rfl rfl)
theorem dX1_thrower_19 : decode cX1_thrower 19 = .ok (.getfield 99, 3) := dk_180 0 99 (dk_at dksX1_thrower_0 19 rfl rfl)
theorem dX1_thrower_22 : decode cX1_thrower 22 = .ok (.iload_n 1, 1) := dk_27 (dk_at dksX1_thrower_0 22 rfl rfl)
theorem dX1_thrower_23 : decode cX1_thrower 23 = .ok (.aaload, 1) := dk_50 (dk_at dksX1_thrower_0 23 rfl rfl)
theorem dX1_thrower_24 : decode cX1_thrower 24 = .ok (.getfield 236, 3) := dk_180 0 236 (dk_at dksX1_thrower_1 0 rfl rfl)
theorem dX1_thrower_27 : decode cX1_thrower 27 = .ok (.aload_n 0, 1) := dk_42 (dk_at dksX1_thrower_1 3 rfl rfl)
theorem dX1_thrower_28 : decode cX1_thrower 28 = .ok (.getfield 21, 3) := dk_180 0 21 (dk_at dksX1_thrower_1 4 rfl rfl)
theorem dX1_thrower_31 : decode cX1_thrower 31 = .ok (.getfield 99, 3) := dk_180 0 99 (dk_at dksX1_thrower_1 7 rfl rfl)
theorem dX1_thrower_34 : decode cX1_thrower 34 = .ok (.iload 5, 2) := dk_21 5 (dk_at dksX1_thrower_1 10 rfl rfl)
theorem dX1_thrower_36 : decode cX1_thrower 36 = .ok (.aaload, 1) := dk_50 (dk_at dksX1_thrower_1 12 rfl rfl)
theorem dX1_thrower_37 : decode cX1_thrower 37 = .ok (.getfield 229, 3) := dk_180 0 229 (dk_at dksX1_thrower_1 13 rfl rfl)
theorem dX1_thrower_40 : decode cX1_thrower 40 = .ok (.if_icmp .eq 6, 3) := dk_159 0 6 (dk_at dksX1_thrower_1 16 rfl rfl)
theorem dX1_thrower_43 : decode cX1_thrower 43 = .ok (.goto 126, 3) := dk_167 0 126 (dk_at dksX1_thrower_1 19 rfl rfl)
theorem dX1_thrower_46 : decode cX1_thrower 46 = .ok (.iload_n 3, 1) := dk_29 (dk_at dksX1_thrower_1 22 rfl rfl)
theorem dX1_thrower_47 : decode cX1_thrower 47 = .ok (.iconst 1, 1) := dk_4 (dk_at dksX1_thrower_1 23 rfl rfl)
theorem dX1_thrower_48 : decode cX1_thrower 48 = .ok (.if_icmp .ne 48, 3) := dk_160 0 48 (dk_at dksX1_thrower_2 0 rfl rfl)
theorem dX1_thrower_51 : decode cX1_thrower 51 = .ok (.iload 5, 2) := dk_21 5 (dk_at dksX1_thrower_2 3 rfl rfl)
theorem dX1_thrower_53 : decode cX1_thrower 53 = .ok (.iload 4, 2) := dk_21 4 (dk_at dksX1_thrower_2 5 rfl rfl)
theorem dX1_thrower_55 : decode cX1_thrower 55 = .ok (.if_icmp .ne 114, 3) := dk_160 0 114 (dk_at dksX1_thrower_2 7 rfl rfl)
theorem dX1_thrower_58 : decode cX1_thrower 58 = .ok (.aload_n 0, 1) := dk_42 (dk_at dksX1_thrower_2 10 rfl rfl)
theorem dX1_thrower_59 : decode cX1_thrower 59 = .ok (.getfield 48, 3) := dk_180 0 48 (dk_at dksX1_thrower_2 11 rfl rfl)
theorem dX1_thrower_62 : decode cX1_thrower 62 = .ok (.sipush 300, 3) := dk_17 1 44 (dk_at dksX1_thrower_2 14 rfl rfl)
theorem dX1_thrower_65 : decode cX1_thrower 65 = .ok (.iload 5, 2) := dk_21 5 (dk_at dksX1_thrower_2 17 rfl rfl)
theorem dX1_thrower_67 : decode cX1_thrower 67 = .ok (.imul, 1) := dk_104 (dk_at dksX1_thrower_2 19 rfl rfl)
theorem dX1_thrower_68 : decode cX1_thrower 68 = .ok (.aload_n 0, 1) := dk_42 (dk_at dksX1_thrower_2 20 rfl rfl)
theorem dX1_thrower_69 : decode cX1_thrower 69 = .ok (.getfield 21, 3) := dk_180 0 21 (dk_at dksX1_thrower_2 21 rfl rfl)
theorem dX1_thrower_72 : decode cX1_thrower 72 = .ok (.getfield 209, 3) := dk_180 0 209 (dk_at dksX1_thrower_3 0 rfl rfl)
theorem dX1_thrower_75 : decode cX1_thrower 75 = .ok (.iadd, 1) := dk_96 (dk_at dksX1_thrower_3 3 rfl rfl)
theorem dX1_thrower_76 : decode cX1_thrower 76 = .ok (.iaload, 1) := dk_46 (dk_at dksX1_thrower_3 4 rfl rfl)
theorem dX1_thrower_77 : decode cX1_thrower 77 = .ok (.iload_n 2, 1) := dk_28 (dk_at dksX1_thrower_3 5 rfl rfl)
theorem dX1_thrower_78 : decode cX1_thrower 78 = .ok (.if_icmp .ne 91, 3) := dk_160 0 91 (dk_at dksX1_thrower_3 6 rfl rfl)
theorem dX1_thrower_81 : decode cX1_thrower 81 = .ok (.sipush 1000, 3) := dk_17 3 232 (dk_at dksX1_thrower_3 9 rfl rfl)
theorem dX1_thrower_84 : decode cX1_thrower 84 = .ok (.iload 5, 2) := dk_21 5 (dk_at dksX1_thrower_3 12 rfl rfl)
theorem dX1_thrower_86 : decode cX1_thrower 86 = .ok (.imul, 1) := dk_104 (dk_at dksX1_thrower_3 14 rfl rfl)
theorem dX1_thrower_87 : decode cX1_thrower 87 = .ok (.aload_n 0, 1) := dk_42 (dk_at dksX1_thrower_3 15 rfl rfl)
theorem dX1_thrower_88 : decode cX1_thrower 88 = .ok (.getfield 21, 3) := dk_180 0 21 (dk_at dksX1_thrower_3 16 rfl rfl)
theorem dX1_thrower_91 : decode cX1_thrower 91 = .ok (.getfield 209, 3) := dk_180 0 209 (dk_at dksX1_thrower_3 19 rfl rfl)
theorem dX1_thrower_94 : decode cX1_thrower 94 = .ok (.iadd, 1) := dk_96 (dk_at dksX1_thrower_3 22 rfl rfl)
theorem dX1_thrower_95 : decode cX1_thrower 95 = .ok (.ireturn, 1) := dk_172 (dk_at dksX1_thrower_3 23 rfl rfl)
theorem dX1_thrower_96 : decode cX1_thrower 96 = .ok (.aload_n 0, 1) := dk_42 (dk_at dksX1_thrower_4 0 rfl rfl)
theorem dX1_thrower_97 : decode cX1_thrower 97 = .ok (.getfield 21, 3) := dk_180 0 21 (dk_at dksX1_thrower_4 1 rfl rfl)
theorem dX1_thrower_100 : decode cX1_thrower 100 = .ok (.getfield 209, 3) := dk_180 0 209 (dk_at dksX1_thrower_4 4 rfl rfl)
theorem dX1_thrower_103 : decode cX1_thrower 103 = .ok (.iconst 1, 1) := dk_4 (dk_at dksX1_thrower_4 7 rfl rfl)
theorem dX1_thrower_104 : decode cX1_thrower 104 = .ok (.iadd, 1) := dk_96 (dk_at dksX1_thrower_4 8 rfl rfl)
theorem dX1_thrower_105 : decode cX1_thrower 105 = .ok (.istore 6, 2) := dk_54 6 (dk_at dksX1_thrower_4 9 rfl rfl)
theorem dX1_thrower_107 : decode cX1_thrower 107 = .ok (.iload 6, 2) := dk_21 6 (dk_at dksX1_thrower_4 11 rfl rfl)
theorem dX1_thrower_109 : decode cX1_thrower 109 = .ok (.iload_n 2, 1) := dk_28 (dk_at dksX1_thrower_4 13 rfl rfl)
theorem dX1_thrower_110 : decode cX1_thrower 110 = .ok (.if_icmp .ge 59, 3) := dk_162 0 59 (dk_at dksX1_thrower_4 14 rfl rfl)
theorem dX1_thrower_113 : decode cX1_thrower 113 = .ok (.aload_n 0, 1) := dk_42 (dk_at dksX1_thrower_4 17 rfl rfl)
theorem dX1_thrower_114 : decode cX1_thrower 114 = .ok (.getfield 48, 3) := dk_180 0 48 (dk_at dksX1_thrower_4 18 rfl rfl)
theorem dX1_thrower_117 : decode cX1_thrower 117 = .ok (.sipush 300, 3) := dk_17 1 44 (dk_at dksX1_thrower_4 21 rfl rfl)
theorem dX1_thrower_120 : decode cX1_thrower 120 = .ok (.iload 5, 2) := dk_21 5 (dk_at dksX1_thrower_5 0 rfl rfl)
theorem dX1_thrower_122 : decode cX1_thrower 122 = .ok (.imul, 1) := dk_104 (dk_at dksX1_thrower_5 2 rfl rfl)
theorem dX1_thrower_123 : decode cX1_thrower 123 = .ok (.iload 6, 2) := dk_21 6 (dk_at dksX1_thrower_5 3 rfl rfl)
theorem dX1_thrower_125 : decode cX1_thrower 125 = .ok (.iadd, 1) := dk_96 (dk_at dksX1_thrower_5 5 rfl rfl)
theorem dX1_thrower_126 : decode cX1_thrower 126 = .ok (.iaload, 1) := dk_46 (dk_at dksX1_thrower_5 6 rfl rfl)
theorem dX1_thrower_127 : decode cX1_thrower 127 = .ok (.iload_n 2, 1) := dk_28 (dk_at dksX1_thrower_5 7 rfl rfl)
theorem dX1_thrower_128 : decode cX1_thrower 128 = .ok (.if_icmp .ne 35, 3) := dk_160 0 35 (dk_at dksX1_thrower_5 8 rfl rfl)
theorem dX1_thrower_131 : decode cX1_thrower 131 = .ok (.aload_n 0, 1) := dk_42 (dk_at dksX1_thrower_5 11 rfl rfl)
theorem dX1_thrower_132 : decode cX1_thrower 132 = .ok (.getfield 51, 3) := dk_180 0 51 (dk_at dksX1_thrower_5 12 rfl rfl)
theorem dX1_thrower_135 : decode cX1_thrower 135 = .ok (.sipush 300, 3) := dk_17 1 44 (dk_at dksX1_thrower_5 15 rfl rfl)
theorem dX1_thrower_138 : decode cX1_thrower 138 = .ok (.iload 5, 2) := dk_21 5 (dk_at dksX1_thrower_5 18 rfl rfl)
theorem dX1_thrower_140 : decode cX1_thrower 140 = .ok (.imul, 1) := dk_104 (dk_at dksX1_thrower_5 20 rfl rfl)
theorem dX1_thrower_141 : decode cX1_thrower 141 = .ok (.iload 6, 2) := dk_21 6 (dk_at dksX1_thrower_5 21 rfl rfl)
theorem dX1_thrower_143 : decode cX1_thrower 143 = .ok (.iadd, 1) := dk_96 (dk_at dksX1_thrower_5 23 rfl rfl)
theorem dX1_thrower_144 : decode cX1_thrower 144 = .ok (.iconst 1, 1) := dk_4 (dk_at dksX1_thrower_6 0 rfl rfl)
theorem dX1_thrower_145 : decode cX1_thrower 145 = .ok (.isub, 1) := dk_100 (dk_at dksX1_thrower_6 1 rfl rfl)
theorem dX1_thrower_146 : decode cX1_thrower 146 = .ok (.iaload, 1) := dk_46 (dk_at dksX1_thrower_6 2 rfl rfl)
theorem dX1_thrower_147 : decode cX1_thrower 147 = .ok (.iload_n 3, 1) := dk_29 (dk_at dksX1_thrower_6 3 rfl rfl)
theorem dX1_thrower_148 : decode cX1_thrower 148 = .ok (.iconst 1, 1) := dk_4 (dk_at dksX1_thrower_6 4 rfl rfl)
theorem dX1_thrower_149 : decode cX1_thrower 149 = .ok (.isub, 1) := dk_100 (dk_at dksX1_thrower_6 5 rfl rfl)
theorem dX1_thrower_150 : decode cX1_thrower 150 = .ok (.if_icmp .ne 13, 3) := dk_160 0 13 (dk_at dksX1_thrower_6 6 rfl rfl)
theorem dX1_thrower_153 : decode cX1_thrower 153 = .ok (.sipush 1000, 3) := dk_17 3 232 (dk_at dksX1_thrower_6 9 rfl rfl)
theorem dX1_thrower_156 : decode cX1_thrower 156 = .ok (.iload 5, 2) := dk_21 5 (dk_at dksX1_thrower_6 12 rfl rfl)
theorem dX1_thrower_158 : decode cX1_thrower 158 = .ok (.imul, 1) := dk_104 (dk_at dksX1_thrower_6 14 rfl rfl)
theorem dX1_thrower_159 : decode cX1_thrower 159 = .ok (.iload 6, 2) := dk_21 6 (dk_at dksX1_thrower_6 15 rfl rfl)
theorem dX1_thrower_161 : decode cX1_thrower 161 = .ok (.iadd, 1) := dk_96 (dk_at dksX1_thrower_6 17 rfl rfl)
theorem dX1_thrower_162 : decode cX1_thrower 162 = .ok (.ireturn, 1) := dk_172 (dk_at dksX1_thrower_6 18 rfl rfl)
theorem dX1_thrower_163 : decode cX1_thrower 163 = .ok (.iinc 6 1, 3) := dk_132 6 1 (dk_at dksX1_thrower_6 19 rfl rfl)
theorem dX1_thrower_166 : decode cX1_thrower 166 = .ok (.goto (-59), 3) := dk_167 255 197 (dk_at dksX1_thrower_7 0 rfl rfl)
theorem dX1_thrower_169 : decode cX1_thrower 169 = .ok (.iinc 5 1, 3) := dk_132 5 1 (dk_at dksX1_thrower_7 3 rfl rfl)
theorem dX1_thrower_172 : decode cX1_thrower 172 = .ok (.goto (-169), 3) := dk_167 255 87 (dk_at dksX1_thrower_7 6 rfl rfl)
theorem dX1_thrower_175 : decode cX1_thrower 175 = .ok (.iconst (-1), 1) := dk_2 (dk_at dksX1_thrower_7 9 rfl rfl)
theorem dX1_thrower_176 : decode cX1_thrower 176 = .ok (.ireturn, 1) := dk_172 (dk_at dksX1_thrower_7 10 rfl rfl)
abbrev cX1_reached : ByteArray := prog_1_method_67_code
def yX1_reached : MethodName := ⟨RX1, "reached", "(II)I"⟩
def dkwX1_reached_3 : List UInt8 := [132, 4, 1, 167, 255, 210, 29, 172]
abbrev dktX1_reached_3 : List UInt8 := dkwX1_reached_3 ++ []
def dkwX1_reached_2 : List UInt8 := [21, 5, 2, 159, 0, 16, 21, 5, 28, 163, 0, 10, 4, 21, 4, 120, 167, 0, 4, 3, 128, 62]
abbrev dktX1_reached_2 : List UInt8 := dkwX1_reached_2 ++ dktX1_reached_3
def dkwX1_reached_1 : List UInt8 := [54, 4, 21, 4, 42, 180, 0, 21, 180, 0, 96, 162, 0, 40, 42, 21, 4, 182, 1, 129, 54, 5, 29]
abbrev dktX1_reached_1 : List UInt8 := dkwX1_reached_1 ++ dktX1_reached_2
def dkwX1_reached_0 : List UInt8 := [42, 27, 182, 0, 225, 87, 28, 184, 0, 174, 42, 182, 1, 123, 42, 27, 182, 1, 126, 4, 27, 120, 62, 3]
abbrev dktX1_reached_0 : List UInt8 := dkwX1_reached_0 ++ dktX1_reached_1
theorem dksX1_reached_0 : cX1_reached.data.toList.drop 0 = dktX1_reached_0 := by decide +kernel
theorem dksX1_reached_1 : cX1_reached.data.toList.drop 24 = dktX1_reached_1 := dk_seg dksX1_reached_0 24 rfl rfl
theorem dksX1_reached_2 : cX1_reached.data.toList.drop 47 = dktX1_reached_2 := dk_seg dksX1_reached_1 23 rfl rfl
theorem dksX1_reached_3 : cX1_reached.data.toList.drop 69 = dktX1_reached_3 := dk_seg dksX1_reached_2 22 rfl rfl
theorem dX1_reached_0 : decode cX1_reached 0 = .ok (.aload_n 0, 1) := dk_42 (dk_at dksX1_reached_0 0 rfl rfl)
theorem dX1_reached_1 : decode cX1_reached 1 = .ok (.iload_n 1, 1) := dk_27 (dk_at dksX1_reached_0 1 rfl rfl)
theorem dX1_reached_2 : decode cX1_reached 2 = .ok (.invokevirtual 225, 3) := dk_182 0 225 (dk_at dksX1_reached_0 2 rfl rfl)
theorem dX1_reached_5 : decode cX1_reached 5 = .ok (.pop, 1) := dk_87 (dk_at dksX1_reached_0 5 rfl rfl)
theorem dX1_reached_6 : decode cX1_reached 6 = .ok (.iload_n 2, 1) := dk_28 (dk_at dksX1_reached_0 6 rfl rfl)
theorem dX1_reached_7 : decode cX1_reached 7 = .ok (.invokestatic 174, 3) := dk_184 0 174 (dk_at dksX1_reached_0 7 rfl rfl)
theorem dX1_reached_10 : decode cX1_reached 10 = .ok (.aload_n 0, 1) := dk_42 (dk_at dksX1_reached_0 10 rfl rfl)
theorem dX1_reached_11 : decode cX1_reached 11 = .ok (.invokevirtual 379, 3) := dk_182 1 123 (dk_at dksX1_reached_0 11 rfl rfl)
theorem dX1_reached_14 : decode cX1_reached 14 = .ok (.aload_n 0, 1) := dk_42 (dk_at dksX1_reached_0 14 rfl rfl)
theorem dX1_reached_15 : decode cX1_reached 15 = .ok (.iload_n 1, 1) := dk_27 (dk_at dksX1_reached_0 15 rfl rfl)
theorem dX1_reached_16 : decode cX1_reached 16 = .ok (.invokevirtual 382, 3) := dk_182 1 126 (dk_at dksX1_reached_0 16 rfl rfl)
theorem dX1_reached_19 : decode cX1_reached 19 = .ok (.iconst 1, 1) := dk_4 (dk_at dksX1_reached_0 19 rfl rfl)
theorem dX1_reached_20 : decode cX1_reached 20 = .ok (.iload_n 1, 1) := dk_27 (dk_at dksX1_reached_0 20 rfl rfl)
theorem dX1_reached_21 : decode cX1_reached 21 = .ok (.ishl, 1) := dk_120 (dk_at dksX1_reached_0 21 rfl rfl)
theorem dX1_reached_22 : decode cX1_reached 22 = .ok (.istore_n 3, 1) := dk_62 (dk_at dksX1_reached_0 22 rfl rfl)
theorem dX1_reached_23 : decode cX1_reached 23 = .ok (.iconst 0, 1) := dk_3 (dk_at dksX1_reached_0 23 rfl rfl)
theorem dX1_reached_24 : decode cX1_reached 24 = .ok (.istore 4, 2) := dk_54 4 (dk_at dksX1_reached_1 0 rfl rfl)
theorem dX1_reached_26 : decode cX1_reached 26 = .ok (.iload 4, 2) := dk_21 4 (dk_at dksX1_reached_1 2 rfl rfl)
theorem dX1_reached_28 : decode cX1_reached 28 = .ok (.aload_n 0, 1) := dk_42 (dk_at dksX1_reached_1 4 rfl rfl)
theorem dX1_reached_29 : decode cX1_reached 29 = .ok (.getfield 21, 3) := dk_180 0 21 (dk_at dksX1_reached_1 5 rfl rfl)
theorem dX1_reached_32 : decode cX1_reached 32 = .ok (.getfield 96, 3) := dk_180 0 96 (dk_at dksX1_reached_1 8 rfl rfl)
theorem dX1_reached_35 : decode cX1_reached 35 = .ok (.if_icmp .ge 40, 3) := dk_162 0 40 (dk_at dksX1_reached_1 11 rfl rfl)
theorem dX1_reached_38 : decode cX1_reached 38 = .ok (.aload_n 0, 1) := dk_42 (dk_at dksX1_reached_1 14 rfl rfl)
theorem dX1_reached_39 : decode cX1_reached 39 = .ok (.iload 4, 2) := dk_21 4 (dk_at dksX1_reached_1 15 rfl rfl)
theorem dX1_reached_41 : decode cX1_reached 41 = .ok (.invokevirtual 385, 3) := dk_182 1 129 (dk_at dksX1_reached_1 17 rfl rfl)
theorem dX1_reached_44 : decode cX1_reached 44 = .ok (.istore 5, 2) := dk_54 5 (dk_at dksX1_reached_1 20 rfl rfl)
theorem dX1_reached_46 : decode cX1_reached 46 = .ok (.iload_n 3, 1) := dk_29 (dk_at dksX1_reached_1 22 rfl rfl)
theorem dX1_reached_47 : decode cX1_reached 47 = .ok (.iload 5, 2) := dk_21 5 (dk_at dksX1_reached_2 0 rfl rfl)
theorem dX1_reached_49 : decode cX1_reached 49 = .ok (.iconst (-1), 1) := dk_2 (dk_at dksX1_reached_2 2 rfl rfl)
theorem dX1_reached_50 : decode cX1_reached 50 = .ok (.if_icmp .eq 16, 3) := dk_159 0 16 (dk_at dksX1_reached_2 3 rfl rfl)
theorem dX1_reached_53 : decode cX1_reached 53 = .ok (.iload 5, 2) := dk_21 5 (dk_at dksX1_reached_2 6 rfl rfl)
theorem dX1_reached_55 : decode cX1_reached 55 = .ok (.iload_n 2, 1) := dk_28 (dk_at dksX1_reached_2 8 rfl rfl)
theorem dX1_reached_56 : decode cX1_reached 56 = .ok (.if_icmp .gt 10, 3) := dk_163 0 10 (dk_at dksX1_reached_2 9 rfl rfl)
theorem dX1_reached_59 : decode cX1_reached 59 = .ok (.iconst 1, 1) := dk_4 (dk_at dksX1_reached_2 12 rfl rfl)
theorem dX1_reached_60 : decode cX1_reached 60 = .ok (.iload 4, 2) := dk_21 4 (dk_at dksX1_reached_2 13 rfl rfl)
theorem dX1_reached_62 : decode cX1_reached 62 = .ok (.ishl, 1) := dk_120 (dk_at dksX1_reached_2 15 rfl rfl)
theorem dX1_reached_63 : decode cX1_reached 63 = .ok (.goto 4, 3) := dk_167 0 4 (dk_at dksX1_reached_2 16 rfl rfl)
theorem dX1_reached_66 : decode cX1_reached 66 = .ok (.iconst 0, 1) := dk_3 (dk_at dksX1_reached_2 19 rfl rfl)
theorem dX1_reached_67 : decode cX1_reached 67 = .ok (.ior, 1) := dk_128 (dk_at dksX1_reached_2 20 rfl rfl)
theorem dX1_reached_68 : decode cX1_reached 68 = .ok (.istore_n 3, 1) := dk_62 (dk_at dksX1_reached_2 21 rfl rfl)
theorem dX1_reached_69 : decode cX1_reached 69 = .ok (.iinc 4 1, 3) := dk_132 4 1 (dk_at dksX1_reached_3 0 rfl rfl)
theorem dX1_reached_72 : decode cX1_reached 72 = .ok (.goto (-46), 3) := dk_167 255 210 (dk_at dksX1_reached_3 3 rfl rfl)
theorem dX1_reached_75 : decode cX1_reached 75 = .ok (.iload_n 3, 1) := dk_29 (dk_at dksX1_reached_3 6 rfl rfl)
theorem dX1_reached_76 : decode cX1_reached 76 = .ok (.ireturn, 1) := dk_172 (dk_at dksX1_reached_3 7 rfl rfl)
abbrev cX1_thieves : ByteArray := prog_1_method_69_code
def yX1_thieves : MethodName := ⟨RX1, "thieves", "(IZ)I"⟩
def dkwX1_thieves_10 : List UInt8 := [167, 0, 9, 42, 180, 0, 57, 29, 46, 172]
abbrev dktX1_thieves_10 : List UInt8 := dkwX1_thieves_10 ++ []
def dkwX1_thieves_9 : List UInt8 := [180, 0, 57, 29, 46, 164, 0, 6, 21, 4, 62, 132, 4, 1, 167, 255, 222, 28, 153, 0, 7, 29]
abbrev dktX1_thieves_9 : List UInt8 := dkwX1_thieves_9 ++ dktX1_thieves_10
def dkwX1_thieves_8 : List UInt8 := [54, 4, 21, 4, 42, 180, 0, 21, 180, 0, 87, 162, 0, 28, 42, 180, 0, 57, 21, 4, 46, 42]
abbrev dktX1_thieves_8 : List UInt8 := dkwX1_thieves_8 ++ dktX1_thieves_9
def dkwX1_thieves_7 : List UInt8 := [29, 104, 21, 4, 96, 46, 96, 79, 132, 4, 1, 167, 255, 133, 132, 3, 255, 167, 255, 120, 3, 62, 4]
abbrev dktX1_thieves_7 : List UInt8 := dkwX1_thieves_7 ++ dktX1_thieves_8
def dkwX1_thieves_6 : List UInt8 := [184, 1, 83, 54, 5, 42, 180, 0, 57, 16, 6, 29, 104, 21, 4, 96, 21, 5, 42, 180, 0, 54, 16, 6]
abbrev dktX1_thieves_6 : List UInt8 := dkwX1_thieves_6 ++ dktX1_thieves_7
def dkwX1_thieves_5 : List UInt8 := [180, 0, 87, 162, 0, 26, 21, 5, 42, 180, 0, 57, 16, 6, 29, 4, 96, 104, 21, 4, 96, 4, 96, 46]
abbrev dktX1_thieves_5 : List UInt8 := dkwX1_thieves_5 ++ dktX1_thieves_6
def dkwX1_thieves_4 : List UInt8 := [4, 96, 104, 21, 4, 96, 4, 100, 46, 184, 1, 83, 54, 5, 21, 4, 4, 96, 42, 180, 0, 21]
abbrev dktX1_thieves_4 : List UInt8 := dkwX1_thieves_4 ++ dktX1_thieves_5
def dkwX1_thieves_3 : List UInt8 := [29, 4, 96, 104, 21, 4, 96, 46, 54, 5, 21, 4, 158, 0, 26, 21, 5, 42, 180, 0, 57, 16, 6, 29]
abbrev dktX1_thieves_3 : List UInt8 := dkwX1_thieves_3 ++ dktX1_thieves_4
def dkwX1_thieves_2 : List UInt8 := [155, 0, 138, 3, 54, 4, 21, 4, 42, 180, 0, 21, 180, 0, 87, 162, 0, 117, 42, 180, 0, 57, 16, 6]
abbrev dktX1_thieves_2 : List UInt8 := dkwX1_thieves_2 ++ dktX1_thieves_3
def dkwX1_thieves_1 : List UInt8 := [180, 0, 57, 16, 6, 27, 104, 29, 96, 3, 79, 132, 3, 1, 167, 255, 235, 27, 4, 100, 62, 29]
abbrev dktX1_thieves_1 : List UInt8 := dkwX1_thieves_1 ++ dktX1_thieves_2
def dkwX1_thieves_0 : List UInt8 := [27, 4, 16, 30, 184, 0, 79, 184, 0, 83, 42, 27, 182, 1, 136, 3, 62, 29, 16, 6, 162, 0, 21, 42]
abbrev dktX1_thieves_0 : List UInt8 := dkwX1_thieves_0 ++ dktX1_thieves_1
theorem dksX1_thieves_0 : cX1_thieves.data.toList.drop 0 = dktX1_thieves_0 := by decide +kernel
theorem dksX1_thieves_1 : cX1_thieves.data.toList.drop 24 = dktX1_thieves_1 := dk_seg dksX1_thieves_0 24 rfl rfl
theorem dksX1_thieves_2 : cX1_thieves.data.toList.drop 46 = dktX1_thieves_2 := dk_seg dksX1_thieves_1 22 rfl rfl
theorem dksX1_thieves_3 : cX1_thieves.data.toList.drop 70 = dktX1_thieves_3 := dk_seg dksX1_thieves_2 24 rfl rfl
theorem dksX1_thieves_4 : cX1_thieves.data.toList.drop 94 = dktX1_thieves_4 := dk_seg dksX1_thieves_3 24 rfl rfl
theorem dksX1_thieves_5 : cX1_thieves.data.toList.drop 116 = dktX1_thieves_5 := dk_seg dksX1_thieves_4 22 rfl rfl
theorem dksX1_thieves_6 : cX1_thieves.data.toList.drop 140 = dktX1_thieves_6 := dk_seg dksX1_thieves_5 24 rfl rfl
theorem dksX1_thieves_7 : cX1_thieves.data.toList.drop 164 = dktX1_thieves_7 := dk_seg dksX1_thieves_6 24 rfl rfl
theorem dksX1_thieves_8 : cX1_thieves.data.toList.drop 187 = dktX1_thieves_8 := dk_seg dksX1_thieves_7 23 rfl rfl
theorem dksX1_thieves_9 : cX1_thieves.data.toList.drop 209 = dktX1_thieves_9 := dk_seg dksX1_thieves_8 22 rfl rfl
theorem dksX1_thieves_10 : cX1_thieves.data.toList.drop 231 = dktX1_thieves_10 := dk_seg dksX1_thieves_9 22 rfl rfl
theorem dX1_thieves_0 : decode cX1_thieves 0 = .ok (.iload_n 1, 1) := dk_27 (dk_at dksX1_thieves_0 0 rfl rfl)
theorem dX1_thieves_1 : decode cX1_thieves 1 = .ok (.iconst 1, 1) := dk_4 (dk_at dksX1_thieves_0 1 rfl rfl)
theorem dX1_thieves_2 : decode cX1_thieves 2 = .ok (.bipush 30, 2) := dk_16 30 (dk_at dksX1_thieves_0 2 rfl rfl)
theorem dX1_thieves_4 : decode cX1_thieves 4 = .ok (.invokestatic 79, 3) := dk_184 0 79 (dk_at dksX1_thieves_0 4 rfl rfl)
theorem dX1_thieves_7 : decode cX1_thieves 7 = .ok (.invokestatic 83, 3) := dk_184 0 83 (dk_at dksX1_thieves_0 7 rfl rfl)
theorem dX1_thieves_10 : decode cX1_thieves 10 = .ok (.aload_n 0, 1) := dk_42 (dk_at dksX1_thieves_0 10 rfl rfl)
theorem dX1_thieves_11 : decode cX1_thieves 11 = .ok (.iload_n 1, 1) := dk_27 (dk_at dksX1_thieves_0 11 rfl rfl)
theorem dX1_thieves_12 : decode cX1_thieves 12 = .ok (.invokevirtual 392, 3) := dk_182 1 136 (dk_at dksX1_thieves_0 12 rfl rfl)
theorem dX1_thieves_15 : decode cX1_thieves 15 = .ok (.iconst 0, 1) := dk_3 (dk_at dksX1_thieves_0 15 rfl rfl)
theorem dX1_thieves_16 : decode cX1_thieves 16 = .ok (.istore_n 3, 1) := dk_62 (dk_at dksX1_thieves_0 16 rfl rfl)
theorem dX1_thieves_17 : decode cX1_thieves 17 = .ok (.iload_n 3, 1) := dk_29 (dk_at dksX1_thieves_0 17 rfl rfl)
theorem dX1_thieves_18 : decode cX1_thieves 18 = .ok (.bipush 6, 2) := dk_16 6 (dk_at dksX1_thieves_0 18 rfl rfl)
theorem dX1_thieves_20 : decode cX1_thieves 20 = .ok (.if_icmp .ge 21, 3) := dk_162 0 21 (dk_at dksX1_thieves_0 20 rfl rfl)
theorem dX1_thieves_23 : decode cX1_thieves 23 = .ok (.aload_n 0, 1) := dk_42 (dk_at dksX1_thieves_0 23 rfl rfl)
theorem dX1_thieves_24 : decode cX1_thieves 24 = .ok (.getfield 57, 3) := dk_180 0 57 (dk_at dksX1_thieves_1 0 rfl rfl)
theorem dX1_thieves_27 : decode cX1_thieves 27 = .ok (.bipush 6, 2) := dk_16 6 (dk_at dksX1_thieves_1 3 rfl rfl)
theorem dX1_thieves_29 : decode cX1_thieves 29 = .ok (.iload_n 1, 1) := dk_27 (dk_at dksX1_thieves_1 5 rfl rfl)
theorem dX1_thieves_30 : decode cX1_thieves 30 = .ok (.imul, 1) := dk_104 (dk_at dksX1_thieves_1 6 rfl rfl)
theorem dX1_thieves_31 : decode cX1_thieves 31 = .ok (.iload_n 3, 1) := dk_29 (dk_at dksX1_thieves_1 7 rfl rfl)
theorem dX1_thieves_32 : decode cX1_thieves 32 = .ok (.iadd, 1) := dk_96 (dk_at dksX1_thieves_1 8 rfl rfl)
theorem dX1_thieves_33 : decode cX1_thieves 33 = .ok (.iconst 0, 1) := dk_3 (dk_at dksX1_thieves_1 9 rfl rfl)
theorem dX1_thieves_34 : decode cX1_thieves 34 = .ok (.iastore, 1) := dk_79 (dk_at dksX1_thieves_1 10 rfl rfl)
theorem dX1_thieves_35 : decode cX1_thieves 35 = .ok (.iinc 3 1, 3) := dk_132 3 1 (dk_at dksX1_thieves_1 11 rfl rfl)
theorem dX1_thieves_38 : decode cX1_thieves 38 = .ok (.goto (-21), 3) := dk_167 255 235 (dk_at dksX1_thieves_1 14 rfl rfl)
theorem dX1_thieves_41 : decode cX1_thieves 41 = .ok (.iload_n 1, 1) := dk_27 (dk_at dksX1_thieves_1 17 rfl rfl)
theorem dX1_thieves_42 : decode cX1_thieves 42 = .ok (.iconst 1, 1) := dk_4 (dk_at dksX1_thieves_1 18 rfl rfl)
theorem dX1_thieves_43 : decode cX1_thieves 43 = .ok (.isub, 1) := dk_100 (dk_at dksX1_thieves_1 19 rfl rfl)
theorem dX1_thieves_44 : decode cX1_thieves 44 = .ok (.istore_n 3, 1) := dk_62 (dk_at dksX1_thieves_1 20 rfl rfl)
theorem dX1_thieves_45 : decode cX1_thieves 45 = .ok (.iload_n 3, 1) := dk_29 (dk_at dksX1_thieves_1 21 rfl rfl)
theorem dX1_thieves_46 : decode cX1_thieves 46 = .ok (.ifCond .lt 138, 3) := dk_155 0 138 (dk_at dksX1_thieves_2 0 rfl rfl)
theorem dX1_thieves_49 : decode cX1_thieves 49 = .ok (.iconst 0, 1) := dk_3 (dk_at dksX1_thieves_2 3 rfl rfl)
theorem dX1_thieves_50 : decode cX1_thieves 50 = .ok (.istore 4, 2) := dk_54 4 (dk_at dksX1_thieves_2 4 rfl rfl)
theorem dX1_thieves_52 : decode cX1_thieves 52 = .ok (.iload 4, 2) := dk_21 4 (dk_at dksX1_thieves_2 6 rfl rfl)
theorem dX1_thieves_54 : decode cX1_thieves 54 = .ok (.aload_n 0, 1) := dk_42 (dk_at dksX1_thieves_2 8 rfl rfl)
theorem dX1_thieves_55 : decode cX1_thieves 55 = .ok (.getfield 21, 3) := dk_180 0 21 (dk_at dksX1_thieves_2 9 rfl rfl)
theorem dX1_thieves_58 : decode cX1_thieves 58 = .ok (.getfield 87, 3) := dk_180 0 87 (dk_at dksX1_thieves_2 12 rfl rfl)
theorem dX1_thieves_61 : decode cX1_thieves 61 = .ok (.if_icmp .ge 117, 3) := dk_162 0 117 (dk_at dksX1_thieves_2 15 rfl rfl)
theorem dX1_thieves_64 : decode cX1_thieves 64 = .ok (.aload_n 0, 1) := dk_42 (dk_at dksX1_thieves_2 18 rfl rfl)
theorem dX1_thieves_65 : decode cX1_thieves 65 = .ok (.getfield 57, 3) := dk_180 0 57 (dk_at dksX1_thieves_2 19 rfl rfl)
theorem dX1_thieves_68 : decode cX1_thieves 68 = .ok (.bipush 6, 2) := dk_16 6 (dk_at dksX1_thieves_2 22 rfl rfl)
theorem dX1_thieves_70 : decode cX1_thieves 70 = .ok (.iload_n 3, 1) := dk_29 (dk_at dksX1_thieves_3 0 rfl rfl)
theorem dX1_thieves_71 : decode cX1_thieves 71 = .ok (.iconst 1, 1) := dk_4 (dk_at dksX1_thieves_3 1 rfl rfl)
theorem dX1_thieves_72 : decode cX1_thieves 72 = .ok (.iadd, 1) := dk_96 (dk_at dksX1_thieves_3 2 rfl rfl)
theorem dX1_thieves_73 : decode cX1_thieves 73 = .ok (.imul, 1) := dk_104 (dk_at dksX1_thieves_3 3 rfl rfl)
theorem dX1_thieves_74 : decode cX1_thieves 74 = .ok (.iload 4, 2) := dk_21 4 (dk_at dksX1_thieves_3 4 rfl rfl)
theorem dX1_thieves_76 : decode cX1_thieves 76 = .ok (.iadd, 1) := dk_96 (dk_at dksX1_thieves_3 6 rfl rfl)
theorem dX1_thieves_77 : decode cX1_thieves 77 = .ok (.iaload, 1) := dk_46 (dk_at dksX1_thieves_3 7 rfl rfl)
theorem dX1_thieves_78 : decode cX1_thieves 78 = .ok (.istore 5, 2) := dk_54 5 (dk_at dksX1_thieves_3 8 rfl rfl)
theorem dX1_thieves_80 : decode cX1_thieves 80 = .ok (.iload 4, 2) := dk_21 4 (dk_at dksX1_thieves_3 10 rfl rfl)
theorem dX1_thieves_82 : decode cX1_thieves 82 = .ok (.ifCond .le 26, 3) := dk_158 0 26 (dk_at dksX1_thieves_3 12 rfl rfl)
theorem dX1_thieves_85 : decode cX1_thieves 85 = .ok (.iload 5, 2) := dk_21 5 (dk_at dksX1_thieves_3 15 rfl rfl)
theorem dX1_thieves_87 : decode cX1_thieves 87 = .ok (.aload_n 0, 1) := dk_42 (dk_at dksX1_thieves_3 17 rfl rfl)
theorem dX1_thieves_88 : decode cX1_thieves 88 = .ok (.getfield 57, 3) := dk_180 0 57 (dk_at dksX1_thieves_3 18 rfl rfl)
theorem dX1_thieves_91 : decode cX1_thieves 91 = .ok (.bipush 6, 2) := dk_16 6 (dk_at dksX1_thieves_3 21 rfl rfl)
theorem dX1_thieves_93 : decode cX1_thieves 93 = .ok (.iload_n 3, 1) := dk_29 (dk_at dksX1_thieves_3 23 rfl rfl)
theorem dX1_thieves_94 : decode cX1_thieves 94 = .ok (.iconst 1, 1) := dk_4 (dk_at dksX1_thieves_4 0 rfl rfl)
theorem dX1_thieves_95 : decode cX1_thieves 95 = .ok (.iadd, 1) := dk_96 (dk_at dksX1_thieves_4 1 rfl rfl)
theorem dX1_thieves_96 : decode cX1_thieves 96 = .ok (.imul, 1) := dk_104 (dk_at dksX1_thieves_4 2 rfl rfl)
theorem dX1_thieves_97 : decode cX1_thieves 97 = .ok (.iload 4, 2) := dk_21 4 (dk_at dksX1_thieves_4 3 rfl rfl)
theorem dX1_thieves_99 : decode cX1_thieves 99 = .ok (.iadd, 1) := dk_96 (dk_at dksX1_thieves_4 5 rfl rfl)
theorem dX1_thieves_100 : decode cX1_thieves 100 = .ok (.iconst 1, 1) := dk_4 (dk_at dksX1_thieves_4 6 rfl rfl)
theorem dX1_thieves_101 : decode cX1_thieves 101 = .ok (.isub, 1) := dk_100 (dk_at dksX1_thieves_4 7 rfl rfl)
theorem dX1_thieves_102 : decode cX1_thieves 102 = .ok (.iaload, 1) := dk_46 (dk_at dksX1_thieves_4 8 rfl rfl)
theorem dX1_thieves_103 : decode cX1_thieves 103 = .ok (.invokestatic 339, 3) := dk_184 1 83 (dk_at dksX1_thieves_4 9 rfl rfl)
theorem dX1_thieves_106 : decode cX1_thieves 106 = .ok (.istore 5, 2) := dk_54 5 (dk_at dksX1_thieves_4 12 rfl rfl)
theorem dX1_thieves_108 : decode cX1_thieves 108 = .ok (.iload 4, 2) := dk_21 4 (dk_at dksX1_thieves_4 14 rfl rfl)
theorem dX1_thieves_110 : decode cX1_thieves 110 = .ok (.iconst 1, 1) := dk_4 (dk_at dksX1_thieves_4 16 rfl rfl)
theorem dX1_thieves_111 : decode cX1_thieves 111 = .ok (.iadd, 1) := dk_96 (dk_at dksX1_thieves_4 17 rfl rfl)
theorem dX1_thieves_112 : decode cX1_thieves 112 = .ok (.aload_n 0, 1) := dk_42 (dk_at dksX1_thieves_4 18 rfl rfl)
theorem dX1_thieves_113 : decode cX1_thieves 113 = .ok (.getfield 21, 3) := dk_180 0 21 (dk_at dksX1_thieves_4 19 rfl rfl)
theorem dX1_thieves_116 : decode cX1_thieves 116 = .ok (.getfield 87, 3) := dk_180 0 87 (dk_at dksX1_thieves_5 0 rfl rfl)
theorem dX1_thieves_119 : decode cX1_thieves 119 = .ok (.if_icmp .ge 26, 3) := dk_162 0 26 (dk_at dksX1_thieves_5 3 rfl rfl)
theorem dX1_thieves_122 : decode cX1_thieves 122 = .ok (.iload 5, 2) := dk_21 5 (dk_at dksX1_thieves_5 6 rfl rfl)
theorem dX1_thieves_124 : decode cX1_thieves 124 = .ok (.aload_n 0, 1) := dk_42 (dk_at dksX1_thieves_5 8 rfl rfl)
theorem dX1_thieves_125 : decode cX1_thieves 125 = .ok (.getfield 57, 3) := dk_180 0 57 (dk_at dksX1_thieves_5 9 rfl rfl)
theorem dX1_thieves_128 : decode cX1_thieves 128 = .ok (.bipush 6, 2) := dk_16 6 (dk_at dksX1_thieves_5 12 rfl rfl)
theorem dX1_thieves_130 : decode cX1_thieves 130 = .ok (.iload_n 3, 1) := dk_29 (dk_at dksX1_thieves_5 14 rfl rfl)
theorem dX1_thieves_131 : decode cX1_thieves 131 = .ok (.iconst 1, 1) := dk_4 (dk_at dksX1_thieves_5 15 rfl rfl)
theorem dX1_thieves_132 : decode cX1_thieves 132 = .ok (.iadd, 1) := dk_96 (dk_at dksX1_thieves_5 16 rfl rfl)
theorem dX1_thieves_133 : decode cX1_thieves 133 = .ok (.imul, 1) := dk_104 (dk_at dksX1_thieves_5 17 rfl rfl)
theorem dX1_thieves_134 : decode cX1_thieves 134 = .ok (.iload 4, 2) := dk_21 4 (dk_at dksX1_thieves_5 18 rfl rfl)
theorem dX1_thieves_136 : decode cX1_thieves 136 = .ok (.iadd, 1) := dk_96 (dk_at dksX1_thieves_5 20 rfl rfl)
theorem dX1_thieves_137 : decode cX1_thieves 137 = .ok (.iconst 1, 1) := dk_4 (dk_at dksX1_thieves_5 21 rfl rfl)
theorem dX1_thieves_138 : decode cX1_thieves 138 = .ok (.iadd, 1) := dk_96 (dk_at dksX1_thieves_5 22 rfl rfl)
theorem dX1_thieves_139 : decode cX1_thieves 139 = .ok (.iaload, 1) := dk_46 (dk_at dksX1_thieves_5 23 rfl rfl)
theorem dX1_thieves_140 : decode cX1_thieves 140 = .ok (.invokestatic 339, 3) := dk_184 1 83 (dk_at dksX1_thieves_6 0 rfl rfl)
theorem dX1_thieves_143 : decode cX1_thieves 143 = .ok (.istore 5, 2) := dk_54 5 (dk_at dksX1_thieves_6 3 rfl rfl)
theorem dX1_thieves_145 : decode cX1_thieves 145 = .ok (.aload_n 0, 1) := dk_42 (dk_at dksX1_thieves_6 5 rfl rfl)
theorem dX1_thieves_146 : decode cX1_thieves 146 = .ok (.getfield 57, 3) := dk_180 0 57 (dk_at dksX1_thieves_6 6 rfl rfl)
theorem dX1_thieves_149 : decode cX1_thieves 149 = .ok (.bipush 6, 2) := dk_16 6 (dk_at dksX1_thieves_6 9 rfl rfl)
theorem dX1_thieves_151 : decode cX1_thieves 151 = .ok (.iload_n 3, 1) := dk_29 (dk_at dksX1_thieves_6 11 rfl rfl)
theorem dX1_thieves_152 : decode cX1_thieves 152 = .ok (.imul, 1) := dk_104 (dk_at dksX1_thieves_6 12 rfl rfl)
theorem dX1_thieves_153 : decode cX1_thieves 153 = .ok (.iload 4, 2) := dk_21 4 (dk_at dksX1_thieves_6 13 rfl rfl)
theorem dX1_thieves_155 : decode cX1_thieves 155 = .ok (.iadd, 1) := dk_96 (dk_at dksX1_thieves_6 15 rfl rfl)
theorem dX1_thieves_156 : decode cX1_thieves 156 = .ok (.iload 5, 2) := dk_21 5 (dk_at dksX1_thieves_6 16 rfl rfl)
theorem dX1_thieves_158 : decode cX1_thieves 158 = .ok (.aload_n 0, 1) := dk_42 (dk_at dksX1_thieves_6 18 rfl rfl)
theorem dX1_thieves_159 : decode cX1_thieves 159 = .ok (.getfield 54, 3) := dk_180 0 54 (dk_at dksX1_thieves_6 19 rfl rfl)
theorem dX1_thieves_162 : decode cX1_thieves 162 = .ok (.bipush 6, 2) := dk_16 6 (dk_at dksX1_thieves_6 22 rfl rfl)
theorem dX1_thieves_164 : decode cX1_thieves 164 = .ok (.iload_n 3, 1) := dk_29 (dk_at dksX1_thieves_7 0 rfl rfl)
theorem dX1_thieves_165 : decode cX1_thieves 165 = .ok (.imul, 1) := dk_104 (dk_at dksX1_thieves_7 1 rfl rfl)
theorem dX1_thieves_166 : decode cX1_thieves 166 = .ok (.iload 4, 2) := dk_21 4 (dk_at dksX1_thieves_7 2 rfl rfl)
theorem dX1_thieves_168 : decode cX1_thieves 168 = .ok (.iadd, 1) := dk_96 (dk_at dksX1_thieves_7 4 rfl rfl)
theorem dX1_thieves_169 : decode cX1_thieves 169 = .ok (.iaload, 1) := dk_46 (dk_at dksX1_thieves_7 5 rfl rfl)
theorem dX1_thieves_170 : decode cX1_thieves 170 = .ok (.iadd, 1) := dk_96 (dk_at dksX1_thieves_7 6 rfl rfl)
theorem dX1_thieves_171 : decode cX1_thieves 171 = .ok (.iastore, 1) := dk_79 (dk_at dksX1_thieves_7 7 rfl rfl)
theorem dX1_thieves_172 : decode cX1_thieves 172 = .ok (.iinc 4 1, 3) := dk_132 4 1 (dk_at dksX1_thieves_7 8 rfl rfl)
theorem dX1_thieves_175 : decode cX1_thieves 175 = .ok (.goto (-123), 3) := dk_167 255 133 (dk_at dksX1_thieves_7 11 rfl rfl)
theorem dX1_thieves_178 : decode cX1_thieves 178 = .ok (.iinc 3 (-1), 3) := dk_132 3 255 (dk_at dksX1_thieves_7 14 rfl rfl)
theorem dX1_thieves_181 : decode cX1_thieves 181 = .ok (.goto (-136), 3) := dk_167 255 120 (dk_at dksX1_thieves_7 17 rfl rfl)
theorem dX1_thieves_184 : decode cX1_thieves 184 = .ok (.iconst 0, 1) := dk_3 (dk_at dksX1_thieves_7 20 rfl rfl)
theorem dX1_thieves_185 : decode cX1_thieves 185 = .ok (.istore_n 3, 1) := dk_62 (dk_at dksX1_thieves_7 21 rfl rfl)
theorem dX1_thieves_186 : decode cX1_thieves 186 = .ok (.iconst 1, 1) := dk_4 (dk_at dksX1_thieves_7 22 rfl rfl)
theorem dX1_thieves_187 : decode cX1_thieves 187 = .ok (.istore 4, 2) := dk_54 4 (dk_at dksX1_thieves_8 0 rfl rfl)
theorem dX1_thieves_189 : decode cX1_thieves 189 = .ok (.iload 4, 2) := dk_21 4 (dk_at dksX1_thieves_8 2 rfl rfl)
theorem dX1_thieves_191 : decode cX1_thieves 191 = .ok (.aload_n 0, 1) := dk_42 (dk_at dksX1_thieves_8 4 rfl rfl)
theorem dX1_thieves_192 : decode cX1_thieves 192 = .ok (.getfield 21, 3) := dk_180 0 21 (dk_at dksX1_thieves_8 5 rfl rfl)
theorem dX1_thieves_195 : decode cX1_thieves 195 = .ok (.getfield 87, 3) := dk_180 0 87 (dk_at dksX1_thieves_8 8 rfl rfl)
theorem dX1_thieves_198 : decode cX1_thieves 198 = .ok (.if_icmp .ge 28, 3) := dk_162 0 28 (dk_at dksX1_thieves_8 11 rfl rfl)
theorem dX1_thieves_201 : decode cX1_thieves 201 = .ok (.aload_n 0, 1) := dk_42 (dk_at dksX1_thieves_8 14 rfl rfl)
theorem dX1_thieves_202 : decode cX1_thieves 202 = .ok (.getfield 57, 3) := dk_180 0 57 (dk_at dksX1_thieves_8 15 rfl rfl)
theorem dX1_thieves_205 : decode cX1_thieves 205 = .ok (.iload 4, 2) := dk_21 4 (dk_at dksX1_thieves_8 18 rfl rfl)
theorem dX1_thieves_207 : decode cX1_thieves 207 = .ok (.iaload, 1) := dk_46 (dk_at dksX1_thieves_8 20 rfl rfl)
theorem dX1_thieves_208 : decode cX1_thieves 208 = .ok (.aload_n 0, 1) := dk_42 (dk_at dksX1_thieves_8 21 rfl rfl)
theorem dX1_thieves_209 : decode cX1_thieves 209 = .ok (.getfield 57, 3) := dk_180 0 57 (dk_at dksX1_thieves_9 0 rfl rfl)
theorem dX1_thieves_212 : decode cX1_thieves 212 = .ok (.iload_n 3, 1) := dk_29 (dk_at dksX1_thieves_9 3 rfl rfl)
theorem dX1_thieves_213 : decode cX1_thieves 213 = .ok (.iaload, 1) := dk_46 (dk_at dksX1_thieves_9 4 rfl rfl)
theorem dX1_thieves_214 : decode cX1_thieves 214 = .ok (.if_icmp .le 6, 3) := dk_164 0 6 (dk_at dksX1_thieves_9 5 rfl rfl)
theorem dX1_thieves_217 : decode cX1_thieves 217 = .ok (.iload 4, 2) := dk_21 4 (dk_at dksX1_thieves_9 8 rfl rfl)
theorem dX1_thieves_219 : decode cX1_thieves 219 = .ok (.istore_n 3, 1) := dk_62 (dk_at dksX1_thieves_9 10 rfl rfl)
theorem dX1_thieves_220 : decode cX1_thieves 220 = .ok (.iinc 4 1, 3) := dk_132 4 1 (dk_at dksX1_thieves_9 11 rfl rfl)
theorem dX1_thieves_223 : decode cX1_thieves 223 = .ok (.goto (-34), 3) := dk_167 255 222 (dk_at dksX1_thieves_9 14 rfl rfl)
theorem dX1_thieves_226 : decode cX1_thieves 226 = .ok (.iload_n 2, 1) := dk_28 (dk_at dksX1_thieves_9 17 rfl rfl)
theorem dX1_thieves_227 : decode cX1_thieves 227 = .ok (.ifCond .eq 7, 3) := dk_153 0 7 (dk_at dksX1_thieves_9 18 rfl rfl)
theorem dX1_thieves_230 : decode cX1_thieves 230 = .ok (.iload_n 3, 1) := dk_29 (dk_at dksX1_thieves_9 21 rfl rfl)
theorem dX1_thieves_231 : decode cX1_thieves 231 = .ok (.goto 9, 3) := dk_167 0 9 (dk_at dksX1_thieves_10 0 rfl rfl)
theorem dX1_thieves_234 : decode cX1_thieves 234 = .ok (.aload_n 0, 1) := dk_42 (dk_at dksX1_thieves_10 3 rfl rfl)
theorem dX1_thieves_235 : decode cX1_thieves 235 = .ok (.getfield 57, 3) := dk_180 0 57 (dk_at dksX1_thieves_10 4 rfl rfl)
theorem dX1_thieves_238 : decode cX1_thieves 238 = .ok (.iload_n 3, 1) := dk_29 (dk_at dksX1_thieves_10 7 rfl rfl)
theorem dX1_thieves_239 : decode cX1_thieves 239 = .ok (.iaload, 1) := dk_46 (dk_at dksX1_thieves_10 8 rfl rfl)
theorem dX1_thieves_240 : decode cX1_thieves 240 = .ok (.ireturn, 1) := dk_172 (dk_at dksX1_thieves_10 9 rfl rfl)
abbrev cX1_loots : ByteArray := prog_1_method_68_code
def yX1_loots : MethodName := ⟨RX1, "loots", "(I)V"⟩
def dkwX1_loots_5 : List UInt8 := [96, 92, 46, 4, 96, 79, 132, 2, 1, 167, 255, 155, 177]
abbrev dktX1_loots_5 : List UInt8 := dkwX1_loots_5 ++ []
def dkwX1_loots_4 : List UInt8 := [153, 0, 30, 42, 180, 0, 54, 16, 6, 21, 4, 42, 180, 0, 21, 180, 0, 209, 100, 104, 45, 180, 0, 254]
abbrev dktX1_loots_4 : List UInt8 := dkwX1_loots_4 ++ dktX1_loots_5
def dkwX1_loots_3 : List UInt8 := [18, 246, 159, 0, 50, 21, 4, 42, 180, 0, 21, 180, 0, 209, 100, 3, 27, 4, 100, 184, 0, 79]
abbrev dktX1_loots_3 : List UInt8 := dkwX1_loots_3 ++ dktX1_loots_4
def dkwX1_loots_2 : List UInt8 := [182, 0, 202, 153, 0, 6, 167, 0, 70, 42, 180, 0, 37, 45, 182, 0, 195, 180, 0, 199, 54, 4, 21, 4]
abbrev dktX1_loots_2 : List UInt8 := dkwX1_loots_2 ++ dktX1_loots_3
def dkwX1_loots_1 : List UInt8 := [3, 61, 28, 42, 180, 0, 21, 180, 0, 103, 162, 0, 96, 42, 180, 0, 21, 180, 0, 106, 28, 50, 78, 45]
abbrev dktX1_loots_1 : List UInt8 := dkwX1_loots_1 ++ dktX1_loots_2
def dkwX1_loots_0 : List UInt8 := [3, 61, 28, 42, 180, 0, 54, 190, 162, 0, 16, 42, 180, 0, 54, 28, 3, 79, 132, 2, 1, 167, 255, 237]
abbrev dktX1_loots_0 : List UInt8 := dkwX1_loots_0 ++ dktX1_loots_1
theorem dksX1_loots_0 : cX1_loots.data.toList.drop 0 = dktX1_loots_0 := by decide +kernel
theorem dksX1_loots_1 : cX1_loots.data.toList.drop 24 = dktX1_loots_1 := dk_seg dksX1_loots_0 24 rfl rfl
theorem dksX1_loots_2 : cX1_loots.data.toList.drop 48 = dktX1_loots_2 := dk_seg dksX1_loots_1 24 rfl rfl
theorem dksX1_loots_3 : cX1_loots.data.toList.drop 72 = dktX1_loots_3 := dk_seg dksX1_loots_2 24 rfl rfl
theorem dksX1_loots_4 : cX1_loots.data.toList.drop 94 = dktX1_loots_4 := dk_seg dksX1_loots_3 22 rfl rfl
theorem dksX1_loots_5 : cX1_loots.data.toList.drop 118 = dktX1_loots_5 := dk_seg dksX1_loots_4 24 rfl rfl
theorem dX1_loots_0 : decode cX1_loots 0 = .ok (.iconst 0, 1) := dk_3 (dk_at dksX1_loots_0 0 rfl rfl)
theorem dX1_loots_1 : decode cX1_loots 1 = .ok (.istore_n 2, 1) := dk_61 (dk_at dksX1_loots_0 1 rfl rfl)
theorem dX1_loots_2 : decode cX1_loots 2 = .ok (.iload_n 2, 1) := dk_28 (dk_at dksX1_loots_0 2 rfl rfl)
theorem dX1_loots_3 : decode cX1_loots 3 = .ok (.aload_n 0, 1) := dk_42 (dk_at dksX1_loots_0 3 rfl rfl)
theorem dX1_loots_4 : decode cX1_loots 4 = .ok (.getfield 54, 3) := dk_180 0 54 (dk_at dksX1_loots_0 4 rfl rfl)
theorem dX1_loots_7 : decode cX1_loots 7 = .ok (.arraylength, 1) := dk_190 (dk_at dksX1_loots_0 7 rfl rfl)
theorem dX1_loots_8 : decode cX1_loots 8 = .ok (.if_icmp .ge 16, 3) := dk_162 0 16 (dk_at dksX1_loots_0 8 rfl rfl)
theorem dX1_loots_11 : decode cX1_loots 11 = .ok (.aload_n 0, 1) := dk_42 (dk_at dksX1_loots_0 11 rfl rfl)
theorem dX1_loots_12 : decode cX1_loots 12 = .ok (.getfield 54, 3) := dk_180 0 54 (dk_at dksX1_loots_0 12 rfl rfl)
theorem dX1_loots_15 : decode cX1_loots 15 = .ok (.iload_n 2, 1) := dk_28 (dk_at dksX1_loots_0 15 rfl rfl)
theorem dX1_loots_16 : decode cX1_loots 16 = .ok (.iconst 0, 1) := dk_3 (dk_at dksX1_loots_0 16 rfl rfl)
theorem dX1_loots_17 : decode cX1_loots 17 = .ok (.iastore, 1) := dk_79 (dk_at dksX1_loots_0 17 rfl rfl)
theorem dX1_loots_18 : decode cX1_loots 18 = .ok (.iinc 2 1, 3) := dk_132 2 1 (dk_at dksX1_loots_0 18 rfl rfl)
theorem dX1_loots_21 : decode cX1_loots 21 = .ok (.goto (-19), 3) := dk_167 255 237 (dk_at dksX1_loots_0 21 rfl rfl)
theorem dX1_loots_24 : decode cX1_loots 24 = .ok (.iconst 0, 1) := dk_3 (dk_at dksX1_loots_1 0 rfl rfl)
theorem dX1_loots_25 : decode cX1_loots 25 = .ok (.istore_n 2, 1) := dk_61 (dk_at dksX1_loots_1 1 rfl rfl)
theorem dX1_loots_26 : decode cX1_loots 26 = .ok (.iload_n 2, 1) := dk_28 (dk_at dksX1_loots_1 2 rfl rfl)
theorem dX1_loots_27 : decode cX1_loots 27 = .ok (.aload_n 0, 1) := dk_42 (dk_at dksX1_loots_1 3 rfl rfl)
theorem dX1_loots_28 : decode cX1_loots 28 = .ok (.getfield 21, 3) := dk_180 0 21 (dk_at dksX1_loots_1 4 rfl rfl)
theorem dX1_loots_31 : decode cX1_loots 31 = .ok (.getfield 103, 3) := dk_180 0 103 (dk_at dksX1_loots_1 7 rfl rfl)
theorem dX1_loots_34 : decode cX1_loots 34 = .ok (.if_icmp .ge 96, 3) := dk_162 0 96 (dk_at dksX1_loots_1 10 rfl rfl)
theorem dX1_loots_37 : decode cX1_loots 37 = .ok (.aload_n 0, 1) := dk_42 (dk_at dksX1_loots_1 13 rfl rfl)
theorem dX1_loots_38 : decode cX1_loots 38 = .ok (.getfield 21, 3) := dk_180 0 21 (dk_at dksX1_loots_1 14 rfl rfl)
theorem dX1_loots_41 : decode cX1_loots 41 = .ok (.getfield 106, 3) := dk_180 0 106 (dk_at dksX1_loots_1 17 rfl rfl)
theorem dX1_loots_44 : decode cX1_loots 44 = .ok (.iload_n 2, 1) := dk_28 (dk_at dksX1_loots_1 20 rfl rfl)
theorem dX1_loots_45 : decode cX1_loots 45 = .ok (.aaload, 1) := dk_50 (dk_at dksX1_loots_1 21 rfl rfl)
theorem dX1_loots_46 : decode cX1_loots 46 = .ok (.astore_n 3, 1) := dk_78 (dk_at dksX1_loots_1 22 rfl rfl)
theorem dX1_loots_47 : decode cX1_loots 47 = .ok (.aload_n 3, 1) := dk_45 (dk_at dksX1_loots_1 23 rfl rfl)
theorem dX1_loots_48 : decode cX1_loots 48 = .ok (.invokevirtual 202, 3) := dk_182 0 202 (dk_at dksX1_loots_2 0 rfl rfl)
theorem dX1_loots_51 : decode cX1_loots 51 = .ok (.ifCond .eq 6, 3) := dk_153 0 6 (dk_at dksX1_loots_2 3 rfl rfl)
theorem dX1_loots_54 : decode cX1_loots 54 = .ok (.goto 70, 3) := dk_167 0 70 (dk_at dksX1_loots_2 6 rfl rfl)
theorem dX1_loots_57 : decode cX1_loots 57 = .ok (.aload_n 0, 1) := dk_42 (dk_at dksX1_loots_2 9 rfl rfl)
theorem dX1_loots_58 : decode cX1_loots 58 = .ok (.getfield 37, 3) := dk_180 0 37 (dk_at dksX1_loots_2 10 rfl rfl)
theorem dX1_loots_61 : decode cX1_loots 61 = .ok (.aload_n 3, 1) := dk_45 (dk_at dksX1_loots_2 13 rfl rfl)
theorem dX1_loots_62 : decode cX1_loots 62 = .ok (.invokevirtual 195, 3) := dk_182 0 195 (dk_at dksX1_loots_2 14 rfl rfl)
theorem dX1_loots_65 : decode cX1_loots 65 = .ok (.getfield 199, 3) := dk_180 0 199 (dk_at dksX1_loots_2 17 rfl rfl)
theorem dX1_loots_68 : decode cX1_loots 68 = .ok (.istore 4, 2) := dk_54 4 (dk_at dksX1_loots_2 20 rfl rfl)
theorem dX1_loots_70 : decode cX1_loots 70 = .ok (.iload 4, 2) := dk_21 4 (dk_at dksX1_loots_2 22 rfl rfl)
theorem dX1_loots_72 : decode cX1_loots 72 = .ok (.ldc 246, 2) := dk_18 246 (dk_at dksX1_loots_3 0 rfl rfl)
theorem dX1_loots_74 : decode cX1_loots 74 = .ok (.if_icmp .eq 50, 3) := dk_159 0 50 (dk_at dksX1_loots_3 2 rfl rfl)
theorem dX1_loots_77 : decode cX1_loots 77 = .ok (.iload 4, 2) := dk_21 4 (dk_at dksX1_loots_3 5 rfl rfl)
theorem dX1_loots_79 : decode cX1_loots 79 = .ok (.aload_n 0, 1) := dk_42 (dk_at dksX1_loots_3 7 rfl rfl)
theorem dX1_loots_80 : decode cX1_loots 80 = .ok (.getfield 21, 3) := dk_180 0 21 (dk_at dksX1_loots_3 8 rfl rfl)
theorem dX1_loots_83 : decode cX1_loots 83 = .ok (.getfield 209, 3) := dk_180 0 209 (dk_at dksX1_loots_3 11 rfl rfl)
theorem dX1_loots_86 : decode cX1_loots 86 = .ok (.isub, 1) := dk_100 (dk_at dksX1_loots_3 14 rfl rfl)
theorem dX1_loots_87 : decode cX1_loots 87 = .ok (.iconst 0, 1) := dk_3 (dk_at dksX1_loots_3 15 rfl rfl)
theorem dX1_loots_88 : decode cX1_loots 88 = .ok (.iload_n 1, 1) := dk_27 (dk_at dksX1_loots_3 16 rfl rfl)
theorem dX1_loots_89 : decode cX1_loots 89 = .ok (.iconst 1, 1) := dk_4 (dk_at dksX1_loots_3 17 rfl rfl)
theorem dX1_loots_90 : decode cX1_loots 90 = .ok (.isub, 1) := dk_100 (dk_at dksX1_loots_3 18 rfl rfl)
theorem dX1_loots_91 : decode cX1_loots 91 = .ok (.invokestatic 79, 3) := dk_184 0 79 (dk_at dksX1_loots_3 19 rfl rfl)
theorem dX1_loots_94 : decode cX1_loots 94 = .ok (.ifCond .eq 30, 3) := dk_153 0 30 (dk_at dksX1_loots_4 0 rfl rfl)
theorem dX1_loots_97 : decode cX1_loots 97 = .ok (.aload_n 0, 1) := dk_42 (dk_at dksX1_loots_4 3 rfl rfl)
theorem dX1_loots_98 : decode cX1_loots 98 = .ok (.getfield 54, 3) := dk_180 0 54 (dk_at dksX1_loots_4 4 rfl rfl)
theorem dX1_loots_101 : decode cX1_loots 101 = .ok (.bipush 6, 2) := dk_16 6 (dk_at dksX1_loots_4 7 rfl rfl)
theorem dX1_loots_103 : decode cX1_loots 103 = .ok (.iload 4, 2) := dk_21 4 (dk_at dksX1_loots_4 9 rfl rfl)
theorem dX1_loots_105 : decode cX1_loots 105 = .ok (.aload_n 0, 1) := dk_42 (dk_at dksX1_loots_4 11 rfl rfl)
theorem dX1_loots_106 : decode cX1_loots 106 = .ok (.getfield 21, 3) := dk_180 0 21 (dk_at dksX1_loots_4 12 rfl rfl)
theorem dX1_loots_109 : decode cX1_loots 109 = .ok (.getfield 209, 3) := dk_180 0 209 (dk_at dksX1_loots_4 15 rfl rfl)
theorem dX1_loots_112 : decode cX1_loots 112 = .ok (.isub, 1) := dk_100 (dk_at dksX1_loots_4 18 rfl rfl)
theorem dX1_loots_113 : decode cX1_loots 113 = .ok (.imul, 1) := dk_104 (dk_at dksX1_loots_4 19 rfl rfl)
theorem dX1_loots_114 : decode cX1_loots 114 = .ok (.aload_n 3, 1) := dk_45 (dk_at dksX1_loots_4 20 rfl rfl)
theorem dX1_loots_115 : decode cX1_loots 115 = .ok (.getfield 254, 3) := dk_180 0 254 (dk_at dksX1_loots_4 21 rfl rfl)
theorem dX1_loots_118 : decode cX1_loots 118 = .ok (.iadd, 1) := dk_96 (dk_at dksX1_loots_5 0 rfl rfl)
theorem dX1_loots_119 : decode cX1_loots 119 = .ok (.dup2, 1) := dk_92 (dk_at dksX1_loots_5 1 rfl rfl)
theorem dX1_loots_120 : decode cX1_loots 120 = .ok (.iaload, 1) := dk_46 (dk_at dksX1_loots_5 2 rfl rfl)
theorem dX1_loots_121 : decode cX1_loots 121 = .ok (.iconst 1, 1) := dk_4 (dk_at dksX1_loots_5 3 rfl rfl)
theorem dX1_loots_122 : decode cX1_loots 122 = .ok (.iadd, 1) := dk_96 (dk_at dksX1_loots_5 4 rfl rfl)
theorem dX1_loots_123 : decode cX1_loots 123 = .ok (.iastore, 1) := dk_79 (dk_at dksX1_loots_5 5 rfl rfl)
theorem dX1_loots_124 : decode cX1_loots 124 = .ok (.iinc 2 1, 3) := dk_132 2 1 (dk_at dksX1_loots_5 6 rfl rfl)
theorem dX1_loots_127 : decode cX1_loots 127 = .ok (.goto (-101), 3) := dk_167 255 155 (dk_at dksX1_loots_5 9 rfl rfl)
theorem dX1_loots_130 : decode cX1_loots 130 = .ok (.return_, 1) := dk_177 (dk_at dksX1_loots_5 12 rfl rfl)
abbrev cX1_watchman : ByteArray := prog_1_method_70_code
def yX1_watchman : MethodName := ⟨RX1, "watchman", "(IZ)I"⟩
def dkwX1_watchman_6 : List UInt8 := [21, 4, 167, 0, 4, 29, 172]
abbrev dktX1_watchman_6 : List UInt8 := dkwX1_watchman_6 ++ []
def dkwX1_watchman_5 : List UInt8 := [161, 0, 6, 167, 0, 10, 21, 6, 54, 4, 21, 5, 62, 132, 5, 1, 167, 255, 148, 28, 153, 0, 8]
abbrev dktX1_watchman_5 : List UInt8 := dkwX1_watchman_5 ++ dktX1_watchman_6
def dkwX1_watchman_4 : List UInt8 := [167, 255, 222, 21, 6, 21, 8, 184, 1, 83, 54, 6, 132, 7, 1, 167, 255, 189, 21, 6, 21, 4]
abbrev dktX1_watchman_4 : List UInt8 := dkwX1_watchman_4 ++ dktX1_watchman_5
def dkwX1_watchman_3 : List UInt8 := [159, 0, 27, 21, 8, 42, 180, 0, 54, 16, 6, 21, 9, 104, 21, 7, 96, 46, 96, 54, 8, 132, 9, 1]
abbrev dktX1_watchman_3 : List UInt8 := dkwX1_watchman_3 ++ dktX1_watchman_4
def dkwX1_watchman_2 : List UInt8 := [180, 0, 87, 162, 0, 61, 3, 54, 8, 3, 54, 9, 21, 9, 27, 162, 0, 34, 21, 7, 21, 5]
abbrev dktX1_watchman_2 : List UInt8 := dkwX1_watchman_2 ++ dktX1_watchman_3
def dkwX1_watchman_1 : List UInt8 := [21, 5, 42, 180, 0, 21, 180, 0, 87, 162, 0, 102, 3, 54, 6, 3, 54, 7, 21, 7, 42, 180, 0, 21]
abbrev dktX1_watchman_1 : List UInt8 := dkwX1_watchman_1 ++ dktX1_watchman_2
def dkwX1_watchman_0 : List UInt8 := [27, 4, 16, 30, 184, 0, 79, 184, 0, 83, 42, 27, 182, 1, 136, 2, 62, 18, 246, 54, 4, 3, 54, 5]
abbrev dktX1_watchman_0 : List UInt8 := dkwX1_watchman_0 ++ dktX1_watchman_1
theorem dksX1_watchman_0 : cX1_watchman.data.toList.drop 0 = dktX1_watchman_0 := by decide +kernel
theorem dksX1_watchman_1 : cX1_watchman.data.toList.drop 24 = dktX1_watchman_1 := dk_seg dksX1_watchman_0 24 rfl rfl
theorem dksX1_watchman_2 : cX1_watchman.data.toList.drop 48 = dktX1_watchman_2 := dk_seg dksX1_watchman_1 24 rfl rfl
theorem dksX1_watchman_3 : cX1_watchman.data.toList.drop 70 = dktX1_watchman_3 := dk_seg dksX1_watchman_2 22 rfl rfl
theorem dksX1_watchman_4 : cX1_watchman.data.toList.drop 94 = dktX1_watchman_4 := dk_seg dksX1_watchman_3 24 rfl rfl
theorem dksX1_watchman_5 : cX1_watchman.data.toList.drop 116 = dktX1_watchman_5 := dk_seg dksX1_watchman_4 22 rfl rfl
theorem dksX1_watchman_6 : cX1_watchman.data.toList.drop 139 = dktX1_watchman_6 := dk_seg dksX1_watchman_5 23 rfl rfl
theorem dX1_watchman_0 : decode cX1_watchman 0 = .ok (.iload_n 1, 1) := dk_27 (dk_at dksX1_watchman_0 0 rfl rfl)
theorem dX1_watchman_1 : decode cX1_watchman 1 = .ok (.iconst 1, 1) := dk_4 (dk_at dksX1_watchman_0 1 rfl rfl)
theorem dX1_watchman_2 : decode cX1_watchman 2 = .ok (.bipush 30, 2) := dk_16 30 (dk_at dksX1_watchman_0 2 rfl rfl)
theorem dX1_watchman_4 : decode cX1_watchman 4 = .ok (.invokestatic 79, 3) := dk_184 0 79 (dk_at dksX1_watchman_0 4 rfl rfl)
theorem dX1_watchman_7 : decode cX1_watchman 7 = .ok (.invokestatic 83, 3) := dk_184 0 83 (dk_at dksX1_watchman_0 7 rfl rfl)
theorem dX1_watchman_10 : decode cX1_watchman 10 = .ok (.aload_n 0, 1) := dk_42 (dk_at dksX1_watchman_0 10 rfl rfl)
theorem dX1_watchman_11 : decode cX1_watchman 11 = .ok (.iload_n 1, 1) := dk_27 (dk_at dksX1_watchman_0 11 rfl rfl)
theorem dX1_watchman_12 : decode cX1_watchman 12 = .ok (.invokevirtual 392, 3) := dk_182 1 136 (dk_at dksX1_watchman_0 12 rfl rfl)
theorem dX1_watchman_15 : decode cX1_watchman 15 = .ok (.iconst (-1), 1) := dk_2 (dk_at dksX1_watchman_0 15 rfl rfl)
theorem dX1_watchman_16 : decode cX1_watchman 16 = .ok (.istore_n 3, 1) := dk_62 (dk_at dksX1_watchman_0 16 rfl rfl)
theorem dX1_watchman_17 : decode cX1_watchman 17 = .ok (.ldc 246, 2) := dk_18 246 (dk_at dksX1_watchman_0 17 rfl rfl)
theorem dX1_watchman_19 : decode cX1_watchman 19 = .ok (.istore 4, 2) := dk_54 4 (dk_at dksX1_watchman_0 19 rfl rfl)
theorem dX1_watchman_21 : decode cX1_watchman 21 = .ok (.iconst 0, 1) := dk_3 (dk_at dksX1_watchman_0 21 rfl rfl)
theorem dX1_watchman_22 : decode cX1_watchman 22 = .ok (.istore 5, 2) := dk_54 5 (dk_at dksX1_watchman_0 22 rfl rfl)
theorem dX1_watchman_24 : decode cX1_watchman 24 = .ok (.iload 5, 2) := dk_21 5 (dk_at dksX1_watchman_1 0 rfl rfl)
theorem dX1_watchman_26 : decode cX1_watchman 26 = .ok (.aload_n 0, 1) := dk_42 (dk_at dksX1_watchman_1 2 rfl rfl)
theorem dX1_watchman_27 : decode cX1_watchman 27 = .ok (.getfield 21, 3) := dk_180 0 21 (dk_at dksX1_watchman_1 3 rfl rfl)
theorem dX1_watchman_30 : decode cX1_watchman 30 = .ok (.getfield 87, 3) := dk_180 0 87 (dk_at dksX1_watchman_1 6 rfl rfl)
theorem dX1_watchman_33 : decode cX1_watchman 33 = .ok (.if_icmp .ge 102, 3) := dk_162 0 102 (dk_at dksX1_watchman_1 9 rfl rfl)
theorem dX1_watchman_36 : decode cX1_watchman 36 = .ok (.iconst 0, 1) := dk_3 (dk_at dksX1_watchman_1 12 rfl rfl)
theorem dX1_watchman_37 : decode cX1_watchman 37 = .ok (.istore 6, 2) := dk_54 6 (dk_at dksX1_watchman_1 13 rfl rfl)
theorem dX1_watchman_39 : decode cX1_watchman 39 = .ok (.iconst 0, 1) := dk_3 (dk_at dksX1_watchman_1 15 rfl rfl)
theorem dX1_watchman_40 : decode cX1_watchman 40 = .ok (.istore 7, 2) := dk_54 7 (dk_at dksX1_watchman_1 16 rfl rfl)
theorem dX1_watchman_42 : decode cX1_watchman 42 = .ok (.iload 7, 2) := dk_21 7 (dk_at dksX1_watchman_1 18 rfl rfl)
theorem dX1_watchman_44 : decode cX1_watchman 44 = .ok (.aload_n 0, 1) := dk_42 (dk_at dksX1_watchman_1 20 rfl rfl)
theorem dX1_watchman_45 : decode cX1_watchman 45 = .ok (.getfield 21, 3) := dk_180 0 21 (dk_at dksX1_watchman_1 21 rfl rfl)
theorem dX1_watchman_48 : decode cX1_watchman 48 = .ok (.getfield 87, 3) := dk_180 0 87 (dk_at dksX1_watchman_2 0 rfl rfl)
theorem dX1_watchman_51 : decode cX1_watchman 51 = .ok (.if_icmp .ge 61, 3) := dk_162 0 61 (dk_at dksX1_watchman_2 3 rfl rfl)
theorem dX1_watchman_54 : decode cX1_watchman 54 = .ok (.iconst 0, 1) := dk_3 (dk_at dksX1_watchman_2 6 rfl rfl)
theorem dX1_watchman_55 : decode cX1_watchman 55 = .ok (.istore 8, 2) := dk_54 8 (dk_at dksX1_watchman_2 7 rfl rfl)
theorem dX1_watchman_57 : decode cX1_watchman 57 = .ok (.iconst 0, 1) := dk_3 (dk_at dksX1_watchman_2 9 rfl rfl)
theorem dX1_watchman_58 : decode cX1_watchman 58 = .ok (.istore 9, 2) := dk_54 9 (dk_at dksX1_watchman_2 10 rfl rfl)
theorem dX1_watchman_60 : decode cX1_watchman 60 = .ok (.iload 9, 2) := dk_21 9 (dk_at dksX1_watchman_2 12 rfl rfl)
theorem dX1_watchman_62 : decode cX1_watchman 62 = .ok (.iload_n 1, 1) := dk_27 (dk_at dksX1_watchman_2 14 rfl rfl)
theorem dX1_watchman_63 : decode cX1_watchman 63 = .ok (.if_icmp .ge 34, 3) := dk_162 0 34 (dk_at dksX1_watchman_2 15 rfl rfl)
theorem dX1_watchman_66 : decode cX1_watchman 66 = .ok (.iload 7, 2) := dk_21 7 (dk_at dksX1_watchman_2 18 rfl rfl)
theorem dX1_watchman_68 : decode cX1_watchman 68 = .ok (.iload 5, 2) := dk_21 5 (dk_at dksX1_watchman_2 20 rfl rfl)
theorem dX1_watchman_70 : decode cX1_watchman 70 = .ok (.if_icmp .eq 27, 3) := dk_159 0 27 (dk_at dksX1_watchman_3 0 rfl rfl)
theorem dX1_watchman_73 : decode cX1_watchman 73 = .ok (.iload 8, 2) := dk_21 8 (dk_at dksX1_watchman_3 3 rfl rfl)
theorem dX1_watchman_75 : decode cX1_watchman 75 = .ok (.aload_n 0, 1) := dk_42 (dk_at dksX1_watchman_3 5 rfl rfl)
theorem dX1_watchman_76 : decode cX1_watchman 76 = .ok (.getfield 54, 3) := dk_180 0 54 (dk_at dksX1_watchman_3 6 rfl rfl)
theorem dX1_watchman_79 : decode cX1_watchman 79 = .ok (.bipush 6, 2) := dk_16 6 (dk_at dksX1_watchman_3 9 rfl rfl)
theorem dX1_watchman_81 : decode cX1_watchman 81 = .ok (.iload 9, 2) := dk_21 9 (dk_at dksX1_watchman_3 11 rfl rfl)
theorem dX1_watchman_83 : decode cX1_watchman 83 = .ok (.imul, 1) := dk_104 (dk_at dksX1_watchman_3 13 rfl rfl)
theorem dX1_watchman_84 : decode cX1_watchman 84 = .ok (.iload 7, 2) := dk_21 7 (dk_at dksX1_watchman_3 14 rfl rfl)
theorem dX1_watchman_86 : decode cX1_watchman 86 = .ok (.iadd, 1) := dk_96 (dk_at dksX1_watchman_3 16 rfl rfl)
theorem dX1_watchman_87 : decode cX1_watchman 87 = .ok (.iaload, 1) := dk_46 (dk_at dksX1_watchman_3 17 rfl rfl)
theorem dX1_watchman_88 : decode cX1_watchman 88 = .ok (.iadd, 1) := dk_96 (dk_at dksX1_watchman_3 18 rfl rfl)
theorem dX1_watchman_89 : decode cX1_watchman 89 = .ok (.istore 8, 2) := dk_54 8 (dk_at dksX1_watchman_3 19 rfl rfl)
theorem dX1_watchman_91 : decode cX1_watchman 91 = .ok (.iinc 9 1, 3) := dk_132 9 1 (dk_at dksX1_watchman_3 21 rfl rfl)
theorem dX1_watchman_94 : decode cX1_watchman 94 = .ok (.goto (-34), 3) := dk_167 255 222 (dk_at dksX1_watchman_4 0 rfl rfl)
theorem dX1_watchman_97 : decode cX1_watchman 97 = .ok (.iload 6, 2) := dk_21 6 (dk_at dksX1_watchman_4 3 rfl rfl)
theorem dX1_watchman_99 : decode cX1_watchman 99 = .ok (.iload 8, 2) := dk_21 8 (dk_at dksX1_watchman_4 5 rfl rfl)
theorem dX1_watchman_101 : decode cX1_watchman 101 = .ok (.invokestatic 339, 3) := dk_184 1 83 (dk_at dksX1_watchman_4 7 rfl rfl)
theorem dX1_watchman_104 : decode cX1_watchman 104 = .ok (.istore 6, 2) := dk_54 6 (dk_at dksX1_watchman_4 10 rfl rfl)
theorem dX1_watchman_106 : decode cX1_watchman 106 = .ok (.iinc 7 1, 3) := dk_132 7 1 (dk_at dksX1_watchman_4 12 rfl rfl)
theorem dX1_watchman_109 : decode cX1_watchman 109 = .ok (.goto (-67), 3) := dk_167 255 189 (dk_at dksX1_watchman_4 15 rfl rfl)
theorem dX1_watchman_112 : decode cX1_watchman 112 = .ok (.iload 6, 2) := dk_21 6 (dk_at dksX1_watchman_4 18 rfl rfl)
theorem dX1_watchman_114 : decode cX1_watchman 114 = .ok (.iload 4, 2) := dk_21 4 (dk_at dksX1_watchman_4 20 rfl rfl)
theorem dX1_watchman_116 : decode cX1_watchman 116 = .ok (.if_icmp .lt 6, 3) := dk_161 0 6 (dk_at dksX1_watchman_5 0 rfl rfl)
theorem dX1_watchman_119 : decode cX1_watchman 119 = .ok (.goto 10, 3) := dk_167 0 10 (dk_at dksX1_watchman_5 3 rfl rfl)
theorem dX1_watchman_122 : decode cX1_watchman 122 = .ok (.iload 6, 2) := dk_21 6 (dk_at dksX1_watchman_5 6 rfl rfl)
theorem dX1_watchman_124 : decode cX1_watchman 124 = .ok (.istore 4, 2) := dk_54 4 (dk_at dksX1_watchman_5 8 rfl rfl)
theorem dX1_watchman_126 : decode cX1_watchman 126 = .ok (.iload 5, 2) := dk_21 5 (dk_at dksX1_watchman_5 10 rfl rfl)
theorem dX1_watchman_128 : decode cX1_watchman 128 = .ok (.istore_n 3, 1) := dk_62 (dk_at dksX1_watchman_5 12 rfl rfl)
theorem dX1_watchman_129 : decode cX1_watchman 129 = .ok (.iinc 5 1, 3) := dk_132 5 1 (dk_at dksX1_watchman_5 13 rfl rfl)
theorem dX1_watchman_132 : decode cX1_watchman 132 = .ok (.goto (-108), 3) := dk_167 255 148 (dk_at dksX1_watchman_5 16 rfl rfl)
theorem dX1_watchman_135 : decode cX1_watchman 135 = .ok (.iload_n 2, 1) := dk_28 (dk_at dksX1_watchman_5 19 rfl rfl)
theorem dX1_watchman_136 : decode cX1_watchman 136 = .ok (.ifCond .eq 8, 3) := dk_153 0 8 (dk_at dksX1_watchman_5 20 rfl rfl)
theorem dX1_watchman_139 : decode cX1_watchman 139 = .ok (.iload 4, 2) := dk_21 4 (dk_at dksX1_watchman_6 0 rfl rfl)
theorem dX1_watchman_141 : decode cX1_watchman 141 = .ok (.goto 4, 3) := dk_167 0 4 (dk_at dksX1_watchman_6 2 rfl rfl)
theorem dX1_watchman_144 : decode cX1_watchman 144 = .ok (.iload_n 3, 1) := dk_29 (dk_at dksX1_watchman_6 5 rfl rfl)
theorem dX1_watchman_145 : decode cX1_watchman 145 = .ok (.ireturn, 1) := dk_172 (dk_at dksX1_watchman_6 6 rfl rfl)
abbrev cX1_meeting : ByteArray := prog_1_method_71_code
def yX1_meeting : MethodName := ⟨RX1, "meeting", "(II)I"⟩
def dkwX1_meeting_5 : List UInt8 := [160, 0, 6, 21, 7, 172, 132, 7, 1, 167, 255, 203, 2, 172]
abbrev dktX1_meeting_5 : List UInt8 := dkwX1_meeting_5 ++ []
def dkwX1_meeting_4 : List UInt8 := [182, 1, 71, 153, 0, 25, 25, 5, 180, 1, 13, 21, 7, 46, 25, 6, 180, 1, 13, 21, 7, 46]
abbrev dktX1_meeting_4 : List UInt8 := dkwX1_meeting_4 ++ dktX1_meeting_5
def dkwX1_meeting_3 : List UInt8 := [54, 7, 21, 7, 17, 1, 44, 162, 0, 51, 25, 5, 21, 7, 182, 1, 71, 153, 0, 35, 25, 6, 21, 7]
abbrev dktX1_meeting_3 : List UInt8 := dkwX1_meeting_3 ++ dktX1_meeting_4
def dkwX1_meeting_2 : List UInt8 := [182, 0, 195, 58, 5, 42, 180, 0, 41, 25, 4, 182, 0, 195, 58, 6, 42, 180, 0, 21, 180, 0, 209]
abbrev dktX1_meeting_2 : List UInt8 := dkwX1_meeting_2 ++ dktX1_meeting_3
def dkwX1_meeting_1 : List UInt8 := [184, 0, 83, 45, 180, 0, 254, 25, 4, 180, 0, 254, 159, 0, 5, 2, 172, 42, 180, 0, 37, 45]
abbrev dktX1_meeting_1 : List UInt8 := dkwX1_meeting_1 ++ dktX1_meeting_2
def dkwX1_meeting_0 : List UInt8 := [42, 27, 182, 0, 250, 78, 42, 28, 182, 0, 250, 58, 4, 27, 28, 159, 0, 7, 4, 167, 0, 4, 3]
abbrev dktX1_meeting_0 : List UInt8 := dkwX1_meeting_0 ++ dktX1_meeting_1
theorem dksX1_meeting_0 : cX1_meeting.data.toList.drop 0 = dktX1_meeting_0 := by decide +kernel
theorem dksX1_meeting_1 : cX1_meeting.data.toList.drop 23 = dktX1_meeting_1 := dk_seg dksX1_meeting_0 23 rfl rfl
theorem dksX1_meeting_2 : cX1_meeting.data.toList.drop 45 = dktX1_meeting_2 := dk_seg dksX1_meeting_1 22 rfl rfl
theorem dksX1_meeting_3 : cX1_meeting.data.toList.drop 68 = dktX1_meeting_3 := dk_seg dksX1_meeting_2 23 rfl rfl
theorem dksX1_meeting_4 : cX1_meeting.data.toList.drop 92 = dktX1_meeting_4 := dk_seg dksX1_meeting_3 24 rfl rfl
theorem dksX1_meeting_5 : cX1_meeting.data.toList.drop 114 = dktX1_meeting_5 := dk_seg dksX1_meeting_4 22 rfl rfl
theorem dX1_meeting_0 : decode cX1_meeting 0 = .ok (.aload_n 0, 1) := dk_42 (dk_at dksX1_meeting_0 0 rfl rfl)
theorem dX1_meeting_1 : decode cX1_meeting 1 = .ok (.iload_n 1, 1) := dk_27 (dk_at dksX1_meeting_0 1 rfl rfl)
theorem dX1_meeting_2 : decode cX1_meeting 2 = .ok (.invokevirtual 250, 3) := dk_182 0 250 (dk_at dksX1_meeting_0 2 rfl rfl)
theorem dX1_meeting_5 : decode cX1_meeting 5 = .ok (.astore_n 3, 1) := dk_78 (dk_at dksX1_meeting_0 5 rfl rfl)
theorem dX1_meeting_6 : decode cX1_meeting 6 = .ok (.aload_n 0, 1) := dk_42 (dk_at dksX1_meeting_0 6 rfl rfl)
theorem dX1_meeting_7 : decode cX1_meeting 7 = .ok (.iload_n 2, 1) := dk_28 (dk_at dksX1_meeting_0 7 rfl rfl)
theorem dX1_meeting_8 : decode cX1_meeting 8 = .ok (.invokevirtual 250, 3) := dk_182 0 250 (dk_at dksX1_meeting_0 8 rfl rfl)
theorem dX1_meeting_11 : decode cX1_meeting 11 = .ok (.astore 4, 2) := dk_58 4 (dk_at dksX1_meeting_0 11 rfl rfl)
theorem dX1_meeting_13 : decode cX1_meeting 13 = .ok (.iload_n 1, 1) := dk_27 (dk_at dksX1_meeting_0 13 rfl rfl)
theorem dX1_meeting_14 : decode cX1_meeting 14 = .ok (.iload_n 2, 1) := dk_28 (dk_at dksX1_meeting_0 14 rfl rfl)
theorem dX1_meeting_15 : decode cX1_meeting 15 = .ok (.if_icmp .eq 7, 3) := dk_159 0 7 (dk_at dksX1_meeting_0 15 rfl rfl)
theorem dX1_meeting_18 : decode cX1_meeting 18 = .ok (.iconst 1, 1) := dk_4 (dk_at dksX1_meeting_0 18 rfl rfl)
theorem dX1_meeting_19 : decode cX1_meeting 19 = .ok (.goto 4, 3) := dk_167 0 4 (dk_at dksX1_meeting_0 19 rfl rfl)
theorem dX1_meeting_22 : decode cX1_meeting 22 = .ok (.iconst 0, 1) := dk_3 (dk_at dksX1_meeting_0 22 rfl rfl)
theorem dX1_meeting_23 : decode cX1_meeting 23 = .ok (.invokestatic 83, 3) := dk_184 0 83 (dk_at dksX1_meeting_1 0 rfl rfl)
theorem dX1_meeting_26 : decode cX1_meeting 26 = .ok (.aload_n 3, 1) := dk_45 (dk_at dksX1_meeting_1 3 rfl rfl)
theorem dX1_meeting_27 : decode cX1_meeting 27 = .ok (.getfield 254, 3) := dk_180 0 254 (dk_at dksX1_meeting_1 4 rfl rfl)
theorem dX1_meeting_30 : decode cX1_meeting 30 = .ok (.aload 4, 2) := dk_25 4 (dk_at dksX1_meeting_1 7 rfl rfl)
theorem dX1_meeting_32 : decode cX1_meeting 32 = .ok (.getfield 254, 3) := dk_180 0 254 (dk_at dksX1_meeting_1 9 rfl rfl)
theorem dX1_meeting_35 : decode cX1_meeting 35 = .ok (.if_icmp .eq 5, 3) := dk_159 0 5 (dk_at dksX1_meeting_1 12 rfl rfl)
theorem dX1_meeting_38 : decode cX1_meeting 38 = .ok (.iconst (-1), 1) := dk_2 (dk_at dksX1_meeting_1 15 rfl rfl)
theorem dX1_meeting_39 : decode cX1_meeting 39 = .ok (.ireturn, 1) := dk_172 (dk_at dksX1_meeting_1 16 rfl rfl)
theorem dX1_meeting_40 : decode cX1_meeting 40 = .ok (.aload_n 0, 1) := dk_42 (dk_at dksX1_meeting_1 17 rfl rfl)
theorem dX1_meeting_41 : decode cX1_meeting 41 = .ok (.getfield 37, 3) := dk_180 0 37 (dk_at dksX1_meeting_1 18 rfl rfl)
theorem dX1_meeting_44 : decode cX1_meeting 44 = .ok (.aload_n 3, 1) := dk_45 (dk_at dksX1_meeting_1 21 rfl rfl)
theorem dX1_meeting_45 : decode cX1_meeting 45 = .ok (.invokevirtual 195, 3) := dk_182 0 195 (dk_at dksX1_meeting_2 0 rfl rfl)
theorem dX1_meeting_48 : decode cX1_meeting 48 = .ok (.astore 5, 2) := dk_58 5 (dk_at dksX1_meeting_2 3 rfl rfl)
theorem dX1_meeting_50 : decode cX1_meeting 50 = .ok (.aload_n 0, 1) := dk_42 (dk_at dksX1_meeting_2 5 rfl rfl)
theorem dX1_meeting_51 : decode cX1_meeting 51 = .ok (.getfield 41, 3) := dk_180 0 41 (dk_at dksX1_meeting_2 6 rfl rfl)
theorem dX1_meeting_54 : decode cX1_meeting 54 = .ok (.aload 4, 2) := dk_25 4 (dk_at dksX1_meeting_2 9 rfl rfl)
theorem dX1_meeting_56 : decode cX1_meeting 56 = .ok (.invokevirtual 195, 3) := dk_182 0 195 (dk_at dksX1_meeting_2 11 rfl rfl)
theorem dX1_meeting_59 : decode cX1_meeting 59 = .ok (.astore 6, 2) := dk_58 6 (dk_at dksX1_meeting_2 14 rfl rfl)
theorem dX1_meeting_61 : decode cX1_meeting 61 = .ok (.aload_n 0, 1) := dk_42 (dk_at dksX1_meeting_2 16 rfl rfl)
theorem dX1_meeting_62 : decode cX1_meeting 62 = .ok (.getfield 21, 3) := dk_180 0 21 (dk_at dksX1_meeting_2 17 rfl rfl)
theorem dX1_meeting_65 : decode cX1_meeting 65 = .ok (.getfield 209, 3) := dk_180 0 209 (dk_at dksX1_meeting_2 20 rfl rfl)
theorem dX1_meeting_68 : decode cX1_meeting 68 = .ok (.istore 7, 2) := dk_54 7 (dk_at dksX1_meeting_3 0 rfl rfl)
theorem dX1_meeting_70 : decode cX1_meeting 70 = .ok (.iload 7, 2) := dk_21 7 (dk_at dksX1_meeting_3 2 rfl rfl)
theorem dX1_meeting_72 : decode cX1_meeting 72 = .ok (.sipush 300, 3) := dk_17 1 44 (dk_at dksX1_meeting_3 4 rfl rfl)
theorem dX1_meeting_75 : decode cX1_meeting 75 = .ok (.if_icmp .ge 51, 3) := dk_162 0 51 (dk_at dksX1_meeting_3 7 rfl rfl)
theorem dX1_meeting_78 : decode cX1_meeting 78 = .ok (.aload 5, 2) := dk_25 5 (dk_at dksX1_meeting_3 10 rfl rfl)
theorem dX1_meeting_80 : decode cX1_meeting 80 = .ok (.iload 7, 2) := dk_21 7 (dk_at dksX1_meeting_3 12 rfl rfl)
theorem dX1_meeting_82 : decode cX1_meeting 82 = .ok (.invokevirtual 327, 3) := dk_182 1 71 (dk_at dksX1_meeting_3 14 rfl rfl)
theorem dX1_meeting_85 : decode cX1_meeting 85 = .ok (.ifCond .eq 35, 3) := dk_153 0 35 (dk_at dksX1_meeting_3 17 rfl rfl)
theorem dX1_meeting_88 : decode cX1_meeting 88 = .ok (.aload 6, 2) := dk_25 6 (dk_at dksX1_meeting_3 20 rfl rfl)
theorem dX1_meeting_90 : decode cX1_meeting 90 = .ok (.iload 7, 2) := dk_21 7 (dk_at dksX1_meeting_3 22 rfl rfl)
theorem dX1_meeting_92 : decode cX1_meeting 92 = .ok (.invokevirtual 327, 3) := dk_182 1 71 (dk_at dksX1_meeting_4 0 rfl rfl)
theorem dX1_meeting_95 : decode cX1_meeting 95 = .ok (.ifCond .eq 25, 3) := dk_153 0 25 (dk_at dksX1_meeting_4 3 rfl rfl)
theorem dX1_meeting_98 : decode cX1_meeting 98 = .ok (.aload 5, 2) := dk_25 5 (dk_at dksX1_meeting_4 6 rfl rfl)
theorem dX1_meeting_100 : decode cX1_meeting 100 = .ok (.getfield 269, 3) := dk_180 1 13 (dk_at dksX1_meeting_4 8 rfl rfl)
theorem dX1_meeting_103 : decode cX1_meeting 103 = .ok (.iload 7, 2) := dk_21 7 (dk_at dksX1_meeting_4 11 rfl rfl)
theorem dX1_meeting_105 : decode cX1_meeting 105 = .ok (.iaload, 1) := dk_46 (dk_at dksX1_meeting_4 13 rfl rfl)
theorem dX1_meeting_106 : decode cX1_meeting 106 = .ok (.aload 6, 2) := dk_25 6 (dk_at dksX1_meeting_4 14 rfl rfl)
theorem dX1_meeting_108 : decode cX1_meeting 108 = .ok (.getfield 269, 3) := dk_180 1 13 (dk_at dksX1_meeting_4 16 rfl rfl)
theorem dX1_meeting_111 : decode cX1_meeting 111 = .ok (.iload 7, 2) := dk_21 7 (dk_at dksX1_meeting_4 19 rfl rfl)
theorem dX1_meeting_113 : decode cX1_meeting 113 = .ok (.iaload, 1) := dk_46 (dk_at dksX1_meeting_4 21 rfl rfl)
theorem dX1_meeting_114 : decode cX1_meeting 114 = .ok (.if_icmp .ne 6, 3) := dk_160 0 6 (dk_at dksX1_meeting_5 0 rfl rfl)
theorem dX1_meeting_117 : decode cX1_meeting 117 = .ok (.iload 7, 2) := dk_21 7 (dk_at dksX1_meeting_5 3 rfl rfl)
theorem dX1_meeting_119 : decode cX1_meeting 119 = .ok (.ireturn, 1) := dk_172 (dk_at dksX1_meeting_5 5 rfl rfl)
theorem dX1_meeting_120 : decode cX1_meeting 120 = .ok (.iinc 7 1, 3) := dk_132 7 1 (dk_at dksX1_meeting_5 6 rfl rfl)
theorem dX1_meeting_123 : decode cX1_meeting 123 = .ok (.goto (-53), 3) := dk_167 255 203 (dk_at dksX1_meeting_5 9 rfl rfl)
theorem dX1_meeting_126 : decode cX1_meeting 126 = .ok (.iconst (-1), 1) := dk_2 (dk_at dksX1_meeting_5 12 rfl rfl)
theorem dX1_meeting_127 : decode cX1_meeting 127 = .ok (.ireturn, 1) := dk_172 (dk_at dksX1_meeting_5 13 rfl rfl)
abbrev cX1_outs : ByteArray := prog_1_method_73_code
def yX1_outs : MethodName := ⟨RX1, "outs", "(I)I"⟩
def dkwX1_outs_1 : List UInt8 := [182, 1, 79, 27, 160, 0, 7, 4, 167, 0, 4, 3, 96, 61, 132, 3, 1, 167, 255, 225, 28, 172]
abbrev dktX1_outs_1 : List UInt8 := dkwX1_outs_1 ++ []
def dkwX1_outs_0 : List UInt8 := [27, 184, 0, 174, 3, 61, 3, 62, 29, 42, 180, 0, 21, 180, 0, 103, 162, 0, 26, 28, 42, 29]
abbrev dktX1_outs_0 : List UInt8 := dkwX1_outs_0 ++ dktX1_outs_1
theorem dksX1_outs_0 : cX1_outs.data.toList.drop 0 = dktX1_outs_0 := by decide +kernel
theorem dksX1_outs_1 : cX1_outs.data.toList.drop 22 = dktX1_outs_1 := dk_seg dksX1_outs_0 22 rfl rfl
theorem dX1_outs_0 : decode cX1_outs 0 = .ok (.iload_n 1, 1) := dk_27 (dk_at dksX1_outs_0 0 rfl rfl)
theorem dX1_outs_1 : decode cX1_outs 1 = .ok (.invokestatic 174, 3) := dk_184 0 174 (dk_at dksX1_outs_0 1 rfl rfl)
theorem dX1_outs_4 : decode cX1_outs 4 = .ok (.iconst 0, 1) := dk_3 (dk_at dksX1_outs_0 4 rfl rfl)
theorem dX1_outs_5 : decode cX1_outs 5 = .ok (.istore_n 2, 1) := dk_61 (dk_at dksX1_outs_0 5 rfl rfl)
theorem dX1_outs_6 : decode cX1_outs 6 = .ok (.iconst 0, 1) := dk_3 (dk_at dksX1_outs_0 6 rfl rfl)
theorem dX1_outs_7 : decode cX1_outs 7 = .ok (.istore_n 3, 1) := dk_62 (dk_at dksX1_outs_0 7 rfl rfl)
theorem dX1_outs_8 : decode cX1_outs 8 = .ok (.iload_n 3, 1) := dk_29 (dk_at dksX1_outs_0 8 rfl rfl)
theorem dX1_outs_9 : decode cX1_outs 9 = .ok (.aload_n 0, 1) := dk_42 (dk_at dksX1_outs_0 9 rfl rfl)
theorem dX1_outs_10 : decode cX1_outs 10 = .ok (.getfield 21, 3) := dk_180 0 21 (dk_at dksX1_outs_0 10 rfl rfl)
theorem dX1_outs_13 : decode cX1_outs 13 = .ok (.getfield 103, 3) := dk_180 0 103 (dk_at dksX1_outs_0 13 rfl rfl)
theorem dX1_outs_16 : decode cX1_outs 16 = .ok (.if_icmp .ge 26, 3) := dk_162 0 26 (dk_at dksX1_outs_0 16 rfl rfl)
theorem dX1_outs_19 : decode cX1_outs 19 = .ok (.iload_n 2, 1) := dk_28 (dk_at dksX1_outs_0 19 rfl rfl)
theorem dX1_outs_20 : decode cX1_outs 20 = .ok (.aload_n 0, 1) := dk_42 (dk_at dksX1_outs_0 20 rfl rfl)
theorem dX1_outs_21 : decode cX1_outs 21 = .ok (.iload_n 3, 1) := dk_29 (dk_at dksX1_outs_0 21 rfl rfl)
theorem dX1_outs_22 : decode cX1_outs 22 = .ok (.invokevirtual 335, 3) := dk_182 1 79 (dk_at dksX1_outs_1 0 rfl rfl)
theorem dX1_outs_25 : decode cX1_outs 25 = .ok (.iload_n 1, 1) := dk_27 (dk_at dksX1_outs_1 3 rfl rfl)
theorem dX1_outs_26 : decode cX1_outs 26 = .ok (.if_icmp .ne 7, 3) := dk_160 0 7 (dk_at dksX1_outs_1 4 rfl rfl)
theorem dX1_outs_29 : decode cX1_outs 29 = .ok (.iconst 1, 1) := dk_4 (dk_at dksX1_outs_1 7 rfl rfl)
theorem dX1_outs_30 : decode cX1_outs 30 = .ok (.goto 4, 3) := dk_167 0 4 (dk_at dksX1_outs_1 8 rfl rfl)
theorem dX1_outs_33 : decode cX1_outs 33 = .ok (.iconst 0, 1) := dk_3 (dk_at dksX1_outs_1 11 rfl rfl)
theorem dX1_outs_34 : decode cX1_outs 34 = .ok (.iadd, 1) := dk_96 (dk_at dksX1_outs_1 12 rfl rfl)
theorem dX1_outs_35 : decode cX1_outs 35 = .ok (.istore_n 2, 1) := dk_61 (dk_at dksX1_outs_1 13 rfl rfl)
theorem dX1_outs_36 : decode cX1_outs 36 = .ok (.iinc 3 1, 3) := dk_132 3 1 (dk_at dksX1_outs_1 14 rfl rfl)
theorem dX1_outs_39 : decode cX1_outs 39 = .ok (.goto (-31), 3) := dk_167 255 225 (dk_at dksX1_outs_1 17 rfl rfl)
theorem dX1_outs_42 : decode cX1_outs 42 = .ok (.iload_n 2, 1) := dk_28 (dk_at dksX1_outs_1 20 rfl rfl)
theorem dX1_outs_43 : decode cX1_outs 43 = .ok (.ireturn, 1) := dk_172 (dk_at dksX1_outs_1 21 rfl rfl)
abbrev cX1_streams : ByteArray := prog_1_method_75_code
def yX1_streams : MethodName := ⟨RX1, "streams", "(IZ)I"⟩
def dkwX1_streams_3 : List UInt8 := [62, 132, 4, 1, 167, 255, 191, 29, 172]
abbrev dktX1_streams_3 : List UInt8 := dkwX1_streams_3 ++ []
def dkwX1_streams_2 : List UInt8 := [167, 0, 4, 3, 28, 159, 0, 17, 42, 21, 4, 182, 1, 79, 27, 163, 0, 7, 4, 167, 0, 4, 3, 96]
abbrev dktX1_streams_2 : List UInt8 := dkwX1_streams_2 ++ dktX1_streams_3
def dkwX1_streams_1 : List UInt8 := [180, 0, 21, 180, 0, 106, 21, 4, 50, 180, 0, 254, 42, 180, 0, 21, 180, 1, 139, 162, 0, 7, 4]
abbrev dktX1_streams_1 : List UInt8 := dkwX1_streams_1 ++ dktX1_streams_2
def dkwX1_streams_0 : List UInt8 := [27, 184, 0, 174, 3, 62, 3, 54, 4, 21, 4, 42, 180, 0, 21, 180, 0, 103, 162, 0, 59, 29, 42]
abbrev dktX1_streams_0 : List UInt8 := dkwX1_streams_0 ++ dktX1_streams_1
theorem dksX1_streams_0 : cX1_streams.data.toList.drop 0 = dktX1_streams_0 := by decide +kernel
theorem dksX1_streams_1 : cX1_streams.data.toList.drop 23 = dktX1_streams_1 := dk_seg dksX1_streams_0 23 rfl rfl
theorem dksX1_streams_2 : cX1_streams.data.toList.drop 46 = dktX1_streams_2 := dk_seg dksX1_streams_1 23 rfl rfl
theorem dksX1_streams_3 : cX1_streams.data.toList.drop 70 = dktX1_streams_3 := dk_seg dksX1_streams_2 24 rfl rfl
theorem dX1_streams_0 : decode cX1_streams 0 = .ok (.iload_n 1, 1) := dk_27 (dk_at dksX1_streams_0 0 rfl rfl)
theorem dX1_streams_1 : decode cX1_streams 1 = .ok (.invokestatic 174, 3) := dk_184 0 174 (dk_at dksX1_streams_0 1 rfl rfl)
theorem dX1_streams_4 : decode cX1_streams 4 = .ok (.iconst 0, 1) := dk_3 (dk_at dksX1_streams_0 4 rfl rfl)
theorem dX1_streams_5 : decode cX1_streams 5 = .ok (.istore_n 3, 1) := dk_62 (dk_at dksX1_streams_0 5 rfl rfl)
theorem dX1_streams_6 : decode cX1_streams 6 = .ok (.iconst 0, 1) := dk_3 (dk_at dksX1_streams_0 6 rfl rfl)
theorem dX1_streams_7 : decode cX1_streams 7 = .ok (.istore 4, 2) := dk_54 4 (dk_at dksX1_streams_0 7 rfl rfl)
theorem dX1_streams_9 : decode cX1_streams 9 = .ok (.iload 4, 2) := dk_21 4 (dk_at dksX1_streams_0 9 rfl rfl)
theorem dX1_streams_11 : decode cX1_streams 11 = .ok (.aload_n 0, 1) := dk_42 (dk_at dksX1_streams_0 11 rfl rfl)
theorem dX1_streams_12 : decode cX1_streams 12 = .ok (.getfield 21, 3) := dk_180 0 21 (dk_at dksX1_streams_0 12 rfl rfl)
theorem dX1_streams_15 : decode cX1_streams 15 = .ok (.getfield 103, 3) := dk_180 0 103 (dk_at dksX1_streams_0 15 rfl rfl)
theorem dX1_streams_18 : decode cX1_streams 18 = .ok (.if_icmp .ge 59, 3) := dk_162 0 59 (dk_at dksX1_streams_0 18 rfl rfl)
theorem dX1_streams_21 : decode cX1_streams 21 = .ok (.iload_n 3, 1) := dk_29 (dk_at dksX1_streams_0 21 rfl rfl)
theorem dX1_streams_22 : decode cX1_streams 22 = .ok (.aload_n 0, 1) := dk_42 (dk_at dksX1_streams_0 22 rfl rfl)
theorem dX1_streams_23 : decode cX1_streams 23 = .ok (.getfield 21, 3) := dk_180 0 21 (dk_at dksX1_streams_1 0 rfl rfl)
theorem dX1_streams_26 : decode cX1_streams 26 = .ok (.getfield 106, 3) := dk_180 0 106 (dk_at dksX1_streams_1 3 rfl rfl)
theorem dX1_streams_29 : decode cX1_streams 29 = .ok (.iload 4, 2) := dk_21 4 (dk_at dksX1_streams_1 6 rfl rfl)
theorem dX1_streams_31 : decode cX1_streams 31 = .ok (.aaload, 1) := dk_50 (dk_at dksX1_streams_1 8 rfl rfl)
theorem dX1_streams_32 : decode cX1_streams 32 = .ok (.getfield 254, 3) := dk_180 0 254 (dk_at dksX1_streams_1 9 rfl rfl)
theorem dX1_streams_35 : decode cX1_streams 35 = .ok (.aload_n 0, 1) := dk_42 (dk_at dksX1_streams_1 12 rfl rfl)
theorem dX1_streams_36 : decode cX1_streams 36 = .ok (.getfield 21, 3) := dk_180 0 21 (dk_at dksX1_streams_1 13 rfl rfl)
theorem dX1_streams_39 : decode cX1_streams 39 = .ok (.getfield 395, 3) := dk_180 1 139 (dk_at dksX1_streams_1 16 rfl rfl)
theorem dX1_streams_42 : decode cX1_streams 42 = .ok (.if_icmp .ge 7, 3) := dk_162 0 7 (dk_at dksX1_streams_1 19 rfl rfl)
theorem dX1_streams_45 : decode cX1_streams 45 = .ok (.iconst 1, 1) := dk_4 (dk_at dksX1_streams_1 22 rfl rfl)
theorem dX1_streams_46 : decode cX1_streams 46 = .ok (.goto 4, 3) := dk_167 0 4 (dk_at dksX1_streams_2 0 rfl rfl)
theorem dX1_streams_49 : decode cX1_streams 49 = .ok (.iconst 0, 1) := dk_3 (dk_at dksX1_streams_2 3 rfl rfl)
theorem dX1_streams_50 : decode cX1_streams 50 = .ok (.iload_n 2, 1) := dk_28 (dk_at dksX1_streams_2 4 rfl rfl)
theorem dX1_streams_51 : decode cX1_streams 51 = .ok (.if_icmp .eq 17, 3) := dk_159 0 17 (dk_at dksX1_streams_2 5 rfl rfl)
theorem dX1_streams_54 : decode cX1_streams 54 = .ok (.aload_n 0, 1) := dk_42 (dk_at dksX1_streams_2 8 rfl rfl)
theorem dX1_streams_55 : decode cX1_streams 55 = .ok (.iload 4, 2) := dk_21 4 (dk_at dksX1_streams_2 9 rfl rfl)
theorem dX1_streams_57 : decode cX1_streams 57 = .ok (.invokevirtual 335, 3) := dk_182 1 79 (dk_at dksX1_streams_2 11 rfl rfl)
theorem dX1_streams_60 : decode cX1_streams 60 = .ok (.iload_n 1, 1) := dk_27 (dk_at dksX1_streams_2 14 rfl rfl)
theorem dX1_streams_61 : decode cX1_streams 61 = .ok (.if_icmp .gt 7, 3) := dk_163 0 7 (dk_at dksX1_streams_2 15 rfl rfl)
theorem dX1_streams_64 : decode cX1_streams 64 = .ok (.iconst 1, 1) := dk_4 (dk_at dksX1_streams_2 18 rfl rfl)
theorem dX1_streams_65 : decode cX1_streams 65 = .ok (.goto 4, 3) := dk_167 0 4 (dk_at dksX1_streams_2 19 rfl rfl)
theorem dX1_streams_68 : decode cX1_streams 68 = .ok (.iconst 0, 1) := dk_3 (dk_at dksX1_streams_2 22 rfl rfl)
theorem dX1_streams_69 : decode cX1_streams 69 = .ok (.iadd, 1) := dk_96 (dk_at dksX1_streams_2 23 rfl rfl)
theorem dX1_streams_70 : decode cX1_streams 70 = .ok (.istore_n 3, 1) := dk_62 (dk_at dksX1_streams_3 0 rfl rfl)
theorem dX1_streams_71 : decode cX1_streams 71 = .ok (.iinc 4 1, 3) := dk_132 4 1 (dk_at dksX1_streams_3 1 rfl rfl)
theorem dX1_streams_74 : decode cX1_streams 74 = .ok (.goto (-65), 3) := dk_167 255 191 (dk_at dksX1_streams_3 4 rfl rfl)
theorem dX1_streams_77 : decode cX1_streams 77 = .ok (.iload_n 3, 1) := dk_29 (dk_at dksX1_streams_3 7 rfl rfl)
theorem dX1_streams_78 : decode cX1_streams 78 = .ok (.ireturn, 1) := dk_172 (dk_at dksX1_streams_3 8 rfl rfl)
abbrev cX1_range : ByteArray := prog_1_method_76_code
def yX1_range : MethodName := ⟨RX1, "range", "(II)I"⟩
def dkwX1_range_1 : List UInt8 := [29, 18, 246, 160, 0, 7, 2, 167, 0, 6, 29, 28, 100, 172]
abbrev dktX1_range_1 : List UInt8 := dkwX1_range_1 ++ []
def dkwX1_range_0 : List UInt8 := [42, 27, 182, 0, 180, 28, 184, 0, 174, 42, 180, 0, 37, 27, 3, 28, 3, 182, 1, 54, 180, 0, 199, 62]
abbrev dktX1_range_0 : List UInt8 := dkwX1_range_0 ++ dktX1_range_1
theorem dksX1_range_0 : cX1_range.data.toList.drop 0 = dktX1_range_0 := by decide +kernel
theorem dksX1_range_1 : cX1_range.data.toList.drop 24 = dktX1_range_1 := dk_seg dksX1_range_0 24 rfl rfl
theorem dX1_range_0 : decode cX1_range 0 = .ok (.aload_n 0, 1) := dk_42 (dk_at dksX1_range_0 0 rfl rfl)
theorem dX1_range_1 : decode cX1_range 1 = .ok (.iload_n 1, 1) := dk_27 (dk_at dksX1_range_0 1 rfl rfl)
theorem dX1_range_2 : decode cX1_range 2 = .ok (.invokevirtual 180, 3) := dk_182 0 180 (dk_at dksX1_range_0 2 rfl rfl)
theorem dX1_range_5 : decode cX1_range 5 = .ok (.iload_n 2, 1) := dk_28 (dk_at dksX1_range_0 5 rfl rfl)
theorem dX1_range_6 : decode cX1_range 6 = .ok (.invokestatic 174, 3) := dk_184 0 174 (dk_at dksX1_range_0 6 rfl rfl)
theorem dX1_range_9 : decode cX1_range 9 = .ok (.aload_n 0, 1) := dk_42 (dk_at dksX1_range_0 9 rfl rfl)
theorem dX1_range_10 : decode cX1_range 10 = .ok (.getfield 37, 3) := dk_180 0 37 (dk_at dksX1_range_0 10 rfl rfl)
theorem dX1_range_13 : decode cX1_range 13 = .ok (.iload_n 1, 1) := dk_27 (dk_at dksX1_range_0 13 rfl rfl)
theorem dX1_range_14 : decode cX1_range 14 = .ok (.iconst 0, 1) := dk_3 (dk_at dksX1_range_0 14 rfl rfl)
theorem dX1_range_15 : decode cX1_range 15 = .ok (.iload_n 2, 1) := dk_28 (dk_at dksX1_range_0 15 rfl rfl)
theorem dX1_range_16 : decode cX1_range 16 = .ok (.iconst 0, 1) := dk_3 (dk_at dksX1_range_0 16 rfl rfl)
theorem dX1_range_17 : decode cX1_range 17 = .ok (.invokevirtual 310, 3) := dk_182 1 54 (dk_at dksX1_range_0 17 rfl rfl)
theorem dX1_range_20 : decode cX1_range 20 = .ok (.getfield 199, 3) := dk_180 0 199 (dk_at dksX1_range_0 20 rfl rfl)
theorem dX1_range_23 : decode cX1_range 23 = .ok (.istore_n 3, 1) := dk_62 (dk_at dksX1_range_0 23 rfl rfl)
theorem dX1_range_24 : decode cX1_range 24 = .ok (.iload_n 3, 1) := dk_29 (dk_at dksX1_range_1 0 rfl rfl)
theorem dX1_range_25 : decode cX1_range 25 = .ok (.ldc 246, 2) := dk_18 246 (dk_at dksX1_range_1 1 rfl rfl)
theorem dX1_range_27 : decode cX1_range 27 = .ok (.if_icmp .ne 7, 3) := dk_160 0 7 (dk_at dksX1_range_1 3 rfl rfl)
theorem dX1_range_30 : decode cX1_range 30 = .ok (.iconst (-1), 1) := dk_2 (dk_at dksX1_range_1 6 rfl rfl)
theorem dX1_range_31 : decode cX1_range 31 = .ok (.goto 6, 3) := dk_167 0 6 (dk_at dksX1_range_1 7 rfl rfl)
theorem dX1_range_34 : decode cX1_range 34 = .ok (.iload_n 3, 1) := dk_29 (dk_at dksX1_range_1 10 rfl rfl)
theorem dX1_range_35 : decode cX1_range 35 = .ok (.iload_n 2, 1) := dk_28 (dk_at dksX1_range_1 11 rfl rfl)
theorem dX1_range_36 : decode cX1_range 36 = .ok (.isub, 1) := dk_100 (dk_at dksX1_range_1 12 rfl rfl)
theorem dX1_range_37 : decode cX1_range 37 = .ok (.ireturn, 1) := dk_172 (dk_at dksX1_range_1 13 rfl rfl)
abbrev cX1_swiftest : ByteArray := prog_1_method_77_code
def yX1_swiftest : MethodName := ⟨RX1, "swiftest", "(II)I"⟩
def dkwX1_swiftest_3 : List UInt8 := [172]
abbrev dktX1_swiftest_3 : List UInt8 := dkwX1_swiftest_3 ++ []
def dkwX1_swiftest_2 : List UInt8 := [21, 6, 21, 4, 161, 0, 6, 167, 0, 10, 21, 6, 54, 4, 21, 5, 62, 132, 5, 1, 167, 255, 207, 29]
abbrev dktX1_swiftest_2 : List UInt8 := dkwX1_swiftest_2 ++ dktX1_swiftest_3
def dkwX1_swiftest_1 : List UInt8 := [180, 0, 87, 162, 0, 43, 42, 180, 0, 37, 21, 5, 27, 28, 3, 182, 1, 54, 180, 0, 199, 54, 6]
abbrev dktX1_swiftest_1 : List UInt8 := dkwX1_swiftest_1 ++ dktX1_swiftest_2
def dkwX1_swiftest_0 : List UInt8 := [42, 27, 182, 0, 183, 28, 184, 0, 174, 2, 62, 18, 246, 54, 4, 3, 54, 5, 21, 5, 42, 180, 0, 21]
abbrev dktX1_swiftest_0 : List UInt8 := dkwX1_swiftest_0 ++ dktX1_swiftest_1
theorem dksX1_swiftest_0 : cX1_swiftest.data.toList.drop 0 = dktX1_swiftest_0 := by decide +kernel
theorem dksX1_swiftest_1 : cX1_swiftest.data.toList.drop 24 = dktX1_swiftest_1 := dk_seg dksX1_swiftest_0 24 rfl rfl
theorem dksX1_swiftest_2 : cX1_swiftest.data.toList.drop 47 = dktX1_swiftest_2 := dk_seg dksX1_swiftest_1 23 rfl rfl
theorem dksX1_swiftest_3 : cX1_swiftest.data.toList.drop 71 = dktX1_swiftest_3 := dk_seg dksX1_swiftest_2 24 rfl rfl
theorem dX1_swiftest_0 : decode cX1_swiftest 0 = .ok (.aload_n 0, 1) := dk_42 (dk_at dksX1_swiftest_0 0 rfl rfl)
theorem dX1_swiftest_1 : decode cX1_swiftest 1 = .ok (.iload_n 1, 1) := dk_27 (dk_at dksX1_swiftest_0 1 rfl rfl)
theorem dX1_swiftest_2 : decode cX1_swiftest 2 = .ok (.invokevirtual 183, 3) := dk_182 0 183 (dk_at dksX1_swiftest_0 2 rfl rfl)
theorem dX1_swiftest_5 : decode cX1_swiftest 5 = .ok (.iload_n 2, 1) := dk_28 (dk_at dksX1_swiftest_0 5 rfl rfl)
theorem dX1_swiftest_6 : decode cX1_swiftest 6 = .ok (.invokestatic 174, 3) := dk_184 0 174 (dk_at dksX1_swiftest_0 6 rfl rfl)
theorem dX1_swiftest_9 : decode cX1_swiftest 9 = .ok (.iconst (-1), 1) := dk_2 (dk_at dksX1_swiftest_0 9 rfl rfl)
theorem dX1_swiftest_10 : decode cX1_swiftest 10 = .ok (.istore_n 3, 1) := dk_62 (dk_at dksX1_swiftest_0 10 rfl rfl)
theorem dX1_swiftest_11 : decode cX1_swiftest 11 = .ok (.ldc 246, 2) := dk_18 246 (dk_at dksX1_swiftest_0 11 rfl rfl)
theorem dX1_swiftest_13 : decode cX1_swiftest 13 = .ok (.istore 4, 2) := dk_54 4 (dk_at dksX1_swiftest_0 13 rfl rfl)
theorem dX1_swiftest_15 : decode cX1_swiftest 15 = .ok (.iconst 0, 1) := dk_3 (dk_at dksX1_swiftest_0 15 rfl rfl)
theorem dX1_swiftest_16 : decode cX1_swiftest 16 = .ok (.istore 5, 2) := dk_54 5 (dk_at dksX1_swiftest_0 16 rfl rfl)
theorem dX1_swiftest_18 : decode cX1_swiftest 18 = .ok (.iload 5, 2) := dk_21 5 (dk_at dksX1_swiftest_0 18 rfl rfl)
theorem dX1_swiftest_20 : decode cX1_swiftest 20 = .ok (.aload_n 0, 1) := dk_42 (dk_at dksX1_swiftest_0 20 rfl rfl)
theorem dX1_swiftest_21 : decode cX1_swiftest 21 = .ok (.getfield 21, 3) := dk_180 0 21 (dk_at dksX1_swiftest_0 21 rfl rfl)
theorem dX1_swiftest_24 : decode cX1_swiftest 24 = .ok (.getfield 87, 3) := dk_180 0 87 (dk_at dksX1_swiftest_1 0 rfl rfl)
theorem dX1_swiftest_27 : decode cX1_swiftest 27 = .ok (.if_icmp .ge 43, 3) := dk_162 0 43 (dk_at dksX1_swiftest_1 3 rfl rfl)
theorem dX1_swiftest_30 : decode cX1_swiftest 30 = .ok (.aload_n 0, 1) := dk_42 (dk_at dksX1_swiftest_1 6 rfl rfl)
theorem dX1_swiftest_31 : decode cX1_swiftest 31 = .ok (.getfield 37, 3) := dk_180 0 37 (dk_at dksX1_swiftest_1 7 rfl rfl)
theorem dX1_swiftest_34 : decode cX1_swiftest 34 = .ok (.iload 5, 2) := dk_21 5 (dk_at dksX1_swiftest_1 10 rfl rfl)
theorem dX1_swiftest_36 : decode cX1_swiftest 36 = .ok (.iload_n 1, 1) := dk_27 (dk_at dksX1_swiftest_1 12 rfl rfl)
theorem dX1_swiftest_37 : decode cX1_swiftest 37 = .ok (.iload_n 2, 1) := dk_28 (dk_at dksX1_swiftest_1 13 rfl rfl)
theorem dX1_swiftest_38 : decode cX1_swiftest 38 = .ok (.iconst 0, 1) := dk_3 (dk_at dksX1_swiftest_1 14 rfl rfl)
theorem dX1_swiftest_39 : decode cX1_swiftest 39 = .ok (.invokevirtual 310, 3) := dk_182 1 54 (dk_at dksX1_swiftest_1 15 rfl rfl)
theorem dX1_swiftest_42 : decode cX1_swiftest 42 = .ok (.getfield 199, 3) := dk_180 0 199 (dk_at dksX1_swiftest_1 18 rfl rfl)
theorem dX1_swiftest_45 : decode cX1_swiftest 45 = .ok (.istore 6, 2) := dk_54 6 (dk_at dksX1_swiftest_1 21 rfl rfl)
theorem dX1_swiftest_47 : decode cX1_swiftest 47 = .ok (.iload 6, 2) := dk_21 6 (dk_at dksX1_swiftest_2 0 rfl rfl)
theorem dX1_swiftest_49 : decode cX1_swiftest 49 = .ok (.iload 4, 2) := dk_21 4 (dk_at dksX1_swiftest_2 2 rfl rfl)
theorem dX1_swiftest_51 : decode cX1_swiftest 51 = .ok (.if_icmp .lt 6, 3) := dk_161 0 6 (dk_at dksX1_swiftest_2 4 rfl rfl)
theorem dX1_swiftest_54 : decode cX1_swiftest 54 = .ok (.goto 10, 3) := dk_167 0 10 (dk_at dksX1_swiftest_2 7 rfl rfl)
theorem dX1_swiftest_57 : decode cX1_swiftest 57 = .ok (.iload 6, 2) := dk_21 6 (dk_at dksX1_swiftest_2 10 rfl rfl)
theorem dX1_swiftest_59 : decode cX1_swiftest 59 = .ok (.istore 4, 2) := dk_54 4 (dk_at dksX1_swiftest_2 12 rfl rfl)
theorem dX1_swiftest_61 : decode cX1_swiftest 61 = .ok (.iload 5, 2) := dk_21 5 (dk_at dksX1_swiftest_2 14 rfl rfl)
theorem dX1_swiftest_63 : decode cX1_swiftest 63 = .ok (.istore_n 3, 1) := dk_62 (dk_at dksX1_swiftest_2 16 rfl rfl)
theorem dX1_swiftest_64 : decode cX1_swiftest 64 = .ok (.iinc 5 1, 3) := dk_132 5 1 (dk_at dksX1_swiftest_2 17 rfl rfl)
theorem dX1_swiftest_67 : decode cX1_swiftest 67 = .ok (.goto (-49), 3) := dk_167 255 207 (dk_at dksX1_swiftest_2 20 rfl rfl)
theorem dX1_swiftest_70 : decode cX1_swiftest 70 = .ok (.iload_n 3, 1) := dk_29 (dk_at dksX1_swiftest_2 23 rfl rfl)
theorem dX1_swiftest_71 : decode cX1_swiftest 71 = .ok (.ireturn, 1) := dk_172 (dk_at dksX1_swiftest_3 0 rfl rfl)
abbrev cX1_bare : ByteArray := prog_1_method_78_code
def yX1_bare : MethodName := ⟨RX1, "bare", "(I)I"⟩
def dkwX1_bare_2 : List UInt8 := [167, 0, 4, 3, 128, 61, 132, 3, 1, 167, 255, 209, 28, 172]
abbrev dktX1_bare_2 : List UInt8 := dkwX1_bare_2 ++ []
def dkwX1_bare_1 : List UInt8 := [42, 180, 0, 21, 180, 0, 106, 29, 50, 182, 0, 195, 27, 182, 0, 242, 153, 0, 9, 4, 29, 120]
abbrev dktX1_bare_1 : List UInt8 := dkwX1_bare_1 ++ dktX1_bare_2
def dkwX1_bare_0 : List UInt8 := [27, 184, 0, 174, 3, 61, 3, 62, 29, 42, 180, 0, 21, 180, 0, 103, 162, 0, 42, 28, 42, 180, 0, 37]
abbrev dktX1_bare_0 : List UInt8 := dkwX1_bare_0 ++ dktX1_bare_1
theorem dksX1_bare_0 : cX1_bare.data.toList.drop 0 = dktX1_bare_0 := by decide +kernel
theorem dksX1_bare_1 : cX1_bare.data.toList.drop 24 = dktX1_bare_1 := dk_seg dksX1_bare_0 24 rfl rfl
theorem dksX1_bare_2 : cX1_bare.data.toList.drop 46 = dktX1_bare_2 := dk_seg dksX1_bare_1 22 rfl rfl
theorem dX1_bare_0 : decode cX1_bare 0 = .ok (.iload_n 1, 1) := dk_27 (dk_at dksX1_bare_0 0 rfl rfl)
theorem dX1_bare_1 : decode cX1_bare 1 = .ok (.invokestatic 174, 3) := dk_184 0 174 (dk_at dksX1_bare_0 1 rfl rfl)
theorem dX1_bare_4 : decode cX1_bare 4 = .ok (.iconst 0, 1) := dk_3 (dk_at dksX1_bare_0 4 rfl rfl)
theorem dX1_bare_5 : decode cX1_bare 5 = .ok (.istore_n 2, 1) := dk_61 (dk_at dksX1_bare_0 5 rfl rfl)
theorem dX1_bare_6 : decode cX1_bare 6 = .ok (.iconst 0, 1) := dk_3 (dk_at dksX1_bare_0 6 rfl rfl)
theorem dX1_bare_7 : decode cX1_bare 7 = .ok (.istore_n 3, 1) := dk_62 (dk_at dksX1_bare_0 7 rfl rfl)
theorem dX1_bare_8 : decode cX1_bare 8 = .ok (.iload_n 3, 1) := dk_29 (dk_at dksX1_bare_0 8 rfl rfl)
theorem dX1_bare_9 : decode cX1_bare 9 = .ok (.aload_n 0, 1) := dk_42 (dk_at dksX1_bare_0 9 rfl rfl)
theorem dX1_bare_10 : decode cX1_bare 10 = .ok (.getfield 21, 3) := dk_180 0 21 (dk_at dksX1_bare_0 10 rfl rfl)
theorem dX1_bare_13 : decode cX1_bare 13 = .ok (.getfield 103, 3) := dk_180 0 103 (dk_at dksX1_bare_0 13 rfl rfl)
theorem dX1_bare_16 : decode cX1_bare 16 = .ok (.if_icmp .ge 42, 3) := dk_162 0 42 (dk_at dksX1_bare_0 16 rfl rfl)
theorem dX1_bare_19 : decode cX1_bare 19 = .ok (.iload_n 2, 1) := dk_28 (dk_at dksX1_bare_0 19 rfl rfl)
theorem dX1_bare_20 : decode cX1_bare 20 = .ok (.aload_n 0, 1) := dk_42 (dk_at dksX1_bare_0 20 rfl rfl)
theorem dX1_bare_21 : decode cX1_bare 21 = .ok (.getfield 37, 3) := dk_180 0 37 (dk_at dksX1_bare_0 21 rfl rfl)
theorem dX1_bare_24 : decode cX1_bare 24 = .ok (.aload_n 0, 1) := dk_42 (dk_at dksX1_bare_1 0 rfl rfl)
theorem dX1_bare_25 : decode cX1_bare 25 = .ok (.getfield 21, 3) := dk_180 0 21 (dk_at dksX1_bare_1 1 rfl rfl)
theorem dX1_bare_28 : decode cX1_bare 28 = .ok (.getfield 106, 3) := dk_180 0 106 (dk_at dksX1_bare_1 4 rfl rfl)
theorem dX1_bare_31 : decode cX1_bare 31 = .ok (.iload_n 3, 1) := dk_29 (dk_at dksX1_bare_1 7 rfl rfl)
theorem dX1_bare_32 : decode cX1_bare 32 = .ok (.aaload, 1) := dk_50 (dk_at dksX1_bare_1 8 rfl rfl)
theorem dX1_bare_33 : decode cX1_bare 33 = .ok (.invokevirtual 195, 3) := dk_182 0 195 (dk_at dksX1_bare_1 9 rfl rfl)
theorem dX1_bare_36 : decode cX1_bare 36 = .ok (.iload_n 1, 1) := dk_27 (dk_at dksX1_bare_1 12 rfl rfl)
theorem dX1_bare_37 : decode cX1_bare 37 = .ok (.invokevirtual 242, 3) := dk_182 0 242 (dk_at dksX1_bare_1 13 rfl rfl)
theorem dX1_bare_40 : decode cX1_bare 40 = .ok (.ifCond .eq 9, 3) := dk_153 0 9 (dk_at dksX1_bare_1 16 rfl rfl)
theorem dX1_bare_43 : decode cX1_bare 43 = .ok (.iconst 1, 1) := dk_4 (dk_at dksX1_bare_1 19 rfl rfl)
theorem dX1_bare_44 : decode cX1_bare 44 = .ok (.iload_n 3, 1) := dk_29 (dk_at dksX1_bare_1 20 rfl rfl)
theorem dX1_bare_45 : decode cX1_bare 45 = .ok (.ishl, 1) := dk_120 (dk_at dksX1_bare_1 21 rfl rfl)
theorem dX1_bare_46 : decode cX1_bare 46 = .ok (.goto 4, 3) := dk_167 0 4 (dk_at dksX1_bare_2 0 rfl rfl)
theorem dX1_bare_49 : decode cX1_bare 49 = .ok (.iconst 0, 1) := dk_3 (dk_at dksX1_bare_2 3 rfl rfl)
theorem dX1_bare_50 : decode cX1_bare 50 = .ok (.ior, 1) := dk_128 (dk_at dksX1_bare_2 4 rfl rfl)
theorem dX1_bare_51 : decode cX1_bare 51 = .ok (.istore_n 2, 1) := dk_61 (dk_at dksX1_bare_2 5 rfl rfl)
theorem dX1_bare_52 : decode cX1_bare 52 = .ok (.iinc 3 1, 3) := dk_132 3 1 (dk_at dksX1_bare_2 6 rfl rfl)
theorem dX1_bare_55 : decode cX1_bare 55 = .ok (.goto (-47), 3) := dk_167 255 209 (dk_at dksX1_bare_2 9 rfl rfl)
theorem dX1_bare_58 : decode cX1_bare 58 = .ok (.iload_n 2, 1) := dk_28 (dk_at dksX1_bare_2 12 rfl rfl)
theorem dX1_bare_59 : decode cX1_bare 59 = .ok (.ireturn, 1) := dk_172 (dk_at dksX1_bare_2 13 rfl rfl)
abbrev cX1_log : ByteArray := prog_1_method_79_code
def yX1_log : MethodName := ⟨RX1, "log", "(II)I"⟩
def dkwX1_log_1 : List UInt8 := [153, 0, 19, 42, 180, 0, 21, 180, 1, 142, 6, 27, 104, 28, 96, 46, 167, 0, 4, 2, 172]
abbrev dktX1_log_1 : List UInt8 := dkwX1_log_1 ++ []
def dkwX1_log_0 : List UInt8 := [28, 3, 5, 184, 0, 79, 184, 1, 51, 27, 3, 42, 180, 0, 21, 180, 1, 45, 4, 100, 184, 0, 79]
abbrev dktX1_log_0 : List UInt8 := dkwX1_log_0 ++ dktX1_log_1
theorem dksX1_log_0 : cX1_log.data.toList.drop 0 = dktX1_log_0 := by decide +kernel
theorem dksX1_log_1 : cX1_log.data.toList.drop 23 = dktX1_log_1 := dk_seg dksX1_log_0 23 rfl rfl
theorem dX1_log_0 : decode cX1_log 0 = .ok (.iload_n 2, 1) := dk_28 (dk_at dksX1_log_0 0 rfl rfl)
theorem dX1_log_1 : decode cX1_log 1 = .ok (.iconst 0, 1) := dk_3 (dk_at dksX1_log_0 1 rfl rfl)
theorem dX1_log_2 : decode cX1_log 2 = .ok (.iconst 2, 1) := dk_5 (dk_at dksX1_log_0 2 rfl rfl)
theorem dX1_log_3 : decode cX1_log 3 = .ok (.invokestatic 79, 3) := dk_184 0 79 (dk_at dksX1_log_0 3 rfl rfl)
theorem dX1_log_6 : decode cX1_log 6 = .ok (.invokestatic 307, 3) := dk_184 1 51 (dk_at dksX1_log_0 6 rfl rfl)
theorem dX1_log_9 : decode cX1_log 9 = .ok (.iload_n 1, 1) := dk_27 (dk_at dksX1_log_0 9 rfl rfl)
theorem dX1_log_10 : decode cX1_log 10 = .ok (.iconst 0, 1) := dk_3 (dk_at dksX1_log_0 10 rfl rfl)
theorem dX1_log_11 : decode cX1_log 11 = .ok (.aload_n 0, 1) := dk_42 (dk_at dksX1_log_0 11 rfl rfl)
theorem dX1_log_12 : decode cX1_log 12 = .ok (.getfield 21, 3) := dk_180 0 21 (dk_at dksX1_log_0 12 rfl rfl)
theorem dX1_log_15 : decode cX1_log 15 = .ok (.getfield 301, 3) := dk_180 1 45 (dk_at dksX1_log_0 15 rfl rfl)
theorem dX1_log_18 : decode cX1_log 18 = .ok (.iconst 1, 1) := dk_4 (dk_at dksX1_log_0 18 rfl rfl)
theorem dX1_log_19 : decode cX1_log 19 = .ok (.isub, 1) := dk_100 (dk_at dksX1_log_0 19 rfl rfl)
theorem dX1_log_20 : decode cX1_log 20 = .ok (.invokestatic 79, 3) := dk_184 0 79 (dk_at dksX1_log_0 20 rfl rfl)
theorem dX1_log_23 : decode cX1_log 23 = .ok (.ifCond .eq 19, 3) := dk_153 0 19 (dk_at dksX1_log_1 0 rfl rfl)
theorem dX1_log_26 : decode cX1_log 26 = .ok (.aload_n 0, 1) := dk_42 (dk_at dksX1_log_1 3 rfl rfl)
theorem dX1_log_27 : decode cX1_log 27 = .ok (.getfield 21, 3) := dk_180 0 21 (dk_at dksX1_log_1 4 rfl rfl)
theorem dX1_log_30 : decode cX1_log 30 = .ok (.getfield 398, 3) := dk_180 1 142 (dk_at dksX1_log_1 7 rfl rfl)
theorem dX1_log_33 : decode cX1_log 33 = .ok (.iconst 3, 1) := dk_6 (dk_at dksX1_log_1 10 rfl rfl)
theorem dX1_log_34 : decode cX1_log 34 = .ok (.iload_n 1, 1) := dk_27 (dk_at dksX1_log_1 11 rfl rfl)
theorem dX1_log_35 : decode cX1_log 35 = .ok (.imul, 1) := dk_104 (dk_at dksX1_log_1 12 rfl rfl)
theorem dX1_log_36 : decode cX1_log 36 = .ok (.iload_n 2, 1) := dk_28 (dk_at dksX1_log_1 13 rfl rfl)
theorem dX1_log_37 : decode cX1_log 37 = .ok (.iadd, 1) := dk_96 (dk_at dksX1_log_1 14 rfl rfl)
theorem dX1_log_38 : decode cX1_log 38 = .ok (.iaload, 1) := dk_46 (dk_at dksX1_log_1 15 rfl rfl)
theorem dX1_log_39 : decode cX1_log 39 = .ok (.goto 4, 3) := dk_167 0 4 (dk_at dksX1_log_1 16 rfl rfl)
theorem dX1_log_42 : decode cX1_log 42 = .ok (.iconst (-1), 1) := dk_2 (dk_at dksX1_log_1 19 rfl rfl)
theorem dX1_log_43 : decode cX1_log 43 = .ok (.ireturn, 1) := dk_172 (dk_at dksX1_log_1 20 rfl rfl)
theorem q135 : (Jvm.Cond.initialized "GlacierMail") ∈ lw_all := lw_g (lw_at lw_m1 1 rfl) rfl
theorem q170 : (Jvm.Cond.instantiable "GlacierMail" (16 : Nat)) ∈ lw_all := lw_g (lw_at lw_m1 36 rfl) rfl
theorem q172 : (Jvm.Cond.instanceMethod ({ cls := "GlacierMail", name := "<init>", desc := "()V" } : Jvm.MethodName)) ∈ lw_all := lw_g (lw_at lw_m1 38 rfl) rfl
theorem q173 : (Jvm.Cond.code ({ cls := "GlacierMail", name := "<init>", desc := "()V" } : Jvm.MethodName) prog_1_method_1_code (2 : Nat) (Option.none : Option Jvm.ClassFile.FieldType)) ∈ lw_all := lw_g (lw_at lw_m1 39 rfl) rfl
theorem q174 : (Jvm.Cond.methodLink "GlacierMail" (3 : Nat) ({ cls := "java/lang/Object", name := "<init>", desc := "()V" } : Jvm.MethodName)) ∈ lw_all := lw_g (lw_at lw_m1 40 rfl) rfl
theorem q177 : (Jvm.Cond.classLink "GlacierMail" (9 : Nat) "GlacierMail$Reader") ∈ lw_all := lw_g (lw_at lw_m1 43 rfl) rfl
theorem q179 : (Jvm.Cond.methodLinkNest "GlacierMail" (11 : Nat) ({ cls := "GlacierMail$Reader", name := "<init>", desc := "()V" } : Jvm.MethodName) "GlacierMail") ∈ lw_tbl := lw_at lw_m1 45 rfl
theorem q220 : (Jvm.Cond.fieldLinkNest "GlacierMail" (364 : Nat) "GlacierMail$Section" "speeds" "[I" "GlacierMail") ∈ lw_tbl := lw_at lw_m1 86 rfl
theorem q239 : (Jvm.Cond.fieldLinkNest "GlacierMail" (324 : Nat) "GlacierMail$Flood" "year" "I" "GlacierMail") ∈ lw_tbl := lw_at lw_m1 105 rfl
theorem q260 : (Jvm.Cond.fieldLinkNest "GlacierMail" (229 : Nat) "GlacierMail$Person" "lane" "I" "GlacierMail") ∈ lw_tbl := lw_at lw_m1 126 rfl
theorem q263 : (Jvm.Cond.fieldLinkNest "GlacierMail" (234 : Nat) "GlacierMail$Person" "row" "I" "GlacierMail") ∈ lw_tbl := lw_at lw_m1 129 rfl
theorem q266 : (Jvm.Cond.fieldLinkNest "GlacierMail" (236 : Nat) "GlacierMail$Person" "watches" "I" "GlacierMail") ∈ lw_tbl := lw_at lw_m1 132 rfl
theorem q280 : (Jvm.Cond.fieldLinkNest "GlacierMail" (215 : Nat) "GlacierMail$Letter" "from" "I" "GlacierMail") ∈ lw_tbl := lw_at lw_m1 146 rfl
theorem q282 : (Jvm.Cond.fieldLinkNest "GlacierMail" (218 : Nat) "GlacierMail$Letter" "to" "I" "GlacierMail") ∈ lw_tbl := lw_at lw_m1 148 rfl
theorem q286 : (Jvm.Cond.fieldLinkNest "GlacierMail" (254 : Nat) "GlacierMail$Letter" "lane" "I" "GlacierMail") ∈ lw_tbl := lw_at lw_m1 152 rfl
theorem q289 : (Jvm.Cond.fieldLinkNest "GlacierMail" (255 : Nat) "GlacierMail$Letter" "row" "I" "GlacierMail") ∈ lw_tbl := lw_at lw_m1 155 rfl
theorem q293 : (Jvm.Cond.fieldLinkNest "GlacierMail" (190 : Nat) "GlacierMail$Letter" "year" "I" "GlacierMail") ∈ lw_tbl := lw_at lw_m1 159 rfl
theorem q296 : (Jvm.Cond.fieldLinkNest "GlacierMail" (206 : Nat) "GlacierMail$Letter" "by" "I" "GlacierMail") ∈ lw_tbl := lw_at lw_m1 162 rfl
theorem q299 : (Jvm.Cond.fieldLinkNest "GlacierMail" (256 : Nat) "GlacierMail$Letter" "opened" "I" "GlacierMail") ∈ lw_tbl := lw_at lw_m1 165 rfl
theorem q324 : (Jvm.Cond.fieldLinkNest "GlacierMail" (320 : Nat) "GlacierMail$State" "floods" "[LGlacierMail$Flood;" "GlacierMail") ∈ lw_tbl := lw_at lw_m1 190 rfl
theorem q326 : (Jvm.Cond.fieldLinkNest "GlacierMail" (99 : Nat) "GlacierMail$State" "people" "[LGlacierMail$Person;" "GlacierMail") ∈ lw_tbl := lw_at lw_m1 192 rfl
theorem q329 : (Jvm.Cond.fieldLinkNest "GlacierMail" (106 : Nat) "GlacierMail$State" "letters" "[LGlacierMail$Letter;" "GlacierMail") ∈ lw_tbl := lw_at lw_m1 195 rfl
theorem q333 : (Jvm.Cond.fieldLinkNest "GlacierMail" (356 : Nat) "GlacierMail$State" "tables" "[LGlacierMail$Section;" "GlacierMail") ∈ lw_tbl := lw_at lw_m1 199 rfl
theorem q335 : (Jvm.Cond.fieldLinkNest "GlacierMail" (166 : Nat) "GlacierMail$State" "law" "[LGlacierMail$Line;" "GlacierMail") ∈ lw_tbl := lw_at lw_m1 201 rfl
theorem q337 : (Jvm.Cond.fieldLinkNest "GlacierMail" (398 : Nat) "GlacierMail$State" "log" "[I" "GlacierMail") ∈ lw_tbl := lw_at lw_m1 203 rfl
theorem q339 : (Jvm.Cond.fieldLinkNest "GlacierMail" (177 : Nat) "GlacierMail$State" "heats" "[I" "GlacierMail") ∈ lw_tbl := lw_at lw_m1 205 rfl
theorem q342 : (Jvm.Cond.fieldLinkNest "GlacierMail" (87 : Nat) "GlacierMail$State" "lanes" "I" "GlacierMail") ∈ lw_tbl := lw_at lw_m1 208 rfl
theorem q346 : (Jvm.Cond.fieldLinkNest "GlacierMail" (93 : Nat) "GlacierMail$State" "last" "I" "GlacierMail") ∈ lw_tbl := lw_at lw_m1 212 rfl
theorem q350 : (Jvm.Cond.fieldLinkNest "GlacierMail" (405 : Nat) "GlacierMail$State" "sectionMany" "I" "GlacierMail") ∈ lw_tbl := lw_at lw_m1 216 rfl
theorem q353 : (Jvm.Cond.fieldLinkNest "GlacierMail" (314 : Nat) "GlacierMail$State" "floodMany" "I" "GlacierMail") ∈ lw_tbl := lw_at lw_m1 219 rfl
theorem q355 : (Jvm.Cond.fieldLinkNest "GlacierMail" (96 : Nat) "GlacierMail$State" "personMany" "I" "GlacierMail") ∈ lw_tbl := lw_at lw_m1 221 rfl
theorem q358 : (Jvm.Cond.fieldLinkNest "GlacierMail" (103 : Nat) "GlacierMail$State" "letterMany" "I" "GlacierMail") ∈ lw_tbl := lw_at lw_m1 224 rfl
theorem q362 : (Jvm.Cond.fieldLinkNest "GlacierMail" (353 : Nat) "GlacierMail$State" "tableMany" "I" "GlacierMail") ∈ lw_tbl := lw_at lw_m1 228 rfl
theorem q364 : (Jvm.Cond.fieldLinkNest "GlacierMail" (159 : Nat) "GlacierMail$State" "lawMany" "I" "GlacierMail") ∈ lw_tbl := lw_at lw_m1 230 rfl
theorem q366 : (Jvm.Cond.fieldLinkNest "GlacierMail" (142 : Nat) "GlacierMail$State" "texts" "I" "GlacierMail") ∈ lw_tbl := lw_at lw_m1 232 rfl
theorem q369 : (Jvm.Cond.fieldLinkNest "GlacierMail" (408 : Nat) "GlacierMail$State" "snow" "I" "GlacierMail") ∈ lw_tbl := lw_at lw_m1 235 rfl
theorem q372 : (Jvm.Cond.fieldLinkNest "GlacierMail" (411 : Nat) "GlacierMail$State" "fall" "I" "GlacierMail") ∈ lw_tbl := lw_at lw_m1 238 rfl
theorem q375 : (Jvm.Cond.fieldLinkNest "GlacierMail" (395 : Nat) "GlacierMail$State" "stripe" "I" "GlacierMail") ∈ lw_tbl := lw_at lw_m2 1 rfl
theorem q378 : (Jvm.Cond.fieldLinkNest "GlacierMail" (414 : Nat) "GlacierMail$State" "seed" "I" "GlacierMail") ∈ lw_tbl := lw_at lw_m2 4 rfl
theorem q381 : (Jvm.Cond.fieldLinkNest "GlacierMail" (209 : Nat) "GlacierMail$State" "now" "I" "GlacierMail") ∈ lw_tbl := lw_at lw_m2 7 rfl
theorem q383 : (Jvm.Cond.fieldLinkNest "GlacierMail" (301 : Nat) "GlacierMail$State" "logMany" "I" "GlacierMail") ∈ lw_tbl := lw_at lw_m2 9 rfl
theorem q491 : (Jvm.Cond.fieldLinkNest "GlacierMail" (125 : Nat) "GlacierMail$Wrong" "place" "I" "GlacierMail") ∈ lw_tbl := lw_at lw_m2 117 rfl
theorem q508 : (Jvm.Cond.fieldLinkNest "GlacierMail" (114 : Nat) "GlacierMail$Reader" "tape" "[B" "GlacierMail") ∈ lw_tbl := lw_at lw_m2 134 rfl
theorem q512 : (Jvm.Cond.fieldLinkNest "GlacierMail" (162 : Nat) "GlacierMail$Reader" "row" "[LGlacierMail$Line;" "GlacierMail") ∈ lw_tbl := lw_at lw_m2 138 rfl
theorem q515 : (Jvm.Cond.fieldLinkNest "GlacierMail" (118 : Nat) "GlacierMail$Reader" "size" "I" "GlacierMail") ∈ lw_tbl := lw_at lw_m2 141 rfl
theorem q543 : (Jvm.Cond.classLink "GlacierMail" (18 : Nat) "GlacierMail$State") ∈ lw_all := lw_g (lw_at lw_m2 169 rfl) rfl
theorem q544 : (Jvm.Cond.methodLink "GlacierMail" (20 : Nat) ({ cls := "GlacierMail$State", name := "<init>", desc := "()V" } : Jvm.MethodName)) ∈ lw_all := lw_g (lw_at lw_m2 170 rfl) rfl
theorem q546 : (Jvm.Cond.classLink "GlacierMail" (32 : Nat) "GlacierMail$Trip") ∈ lw_all := lw_g (lw_at lw_m2 172 rfl) rfl
theorem q548 : (Jvm.Cond.methodLinkNest "GlacierMail" (34 : Nat) ({ cls := "GlacierMail$Trip", name := "<init>", desc := "(LGlacierMail;)V" } : Jvm.MethodName) "GlacierMail") ∈ lw_tbl := lw_at lw_m2 174 rfl
theorem q553 : (Jvm.Cond.fieldLinkNest "GlacierMail" (269 : Nat) "GlacierMail$Trip" "rows" "[I" "GlacierMail") ∈ lw_tbl := lw_at lw_m2 179 rfl
theorem q555 : (Jvm.Cond.fieldLinkNest "GlacierMail" (247 : Nat) "GlacierMail$Trip" "deeps" "[I" "GlacierMail") ∈ lw_tbl := lw_at lw_m2 181 rfl
theorem q557 : (Jvm.Cond.fieldLinkNest "GlacierMail" (338 : Nat) "GlacierMail$Trip" "from" "I" "GlacierMail") ∈ lw_tbl := lw_at lw_m2 183 rfl
theorem q559 : (Jvm.Cond.fieldLinkNest "GlacierMail" (199 : Nat) "GlacierMail$Trip" "out" "I" "GlacierMail") ∈ lw_tbl := lw_at lw_m2 185 rfl
theorem q572 : (Jvm.Cond.fieldLink "GlacierMail" (12 : Nat) "GlacierMail" "reader" "LGlacierMail$Reader;") ∈ lw_all := lw_g (lw_at lw_m2 198 rfl) rfl
theorem q573 : (Jvm.Cond.fieldLink "GlacierMail" (21 : Nat) "GlacierMail" "now" "LGlacierMail$State;") ∈ lw_all := lw_g (lw_at lw_m2 199 rfl) rfl
theorem q575 : (Jvm.Cond.fieldLink "GlacierMail" (25 : Nat) "GlacierMail" "image" "LGlacierMail$State;") ∈ lw_all := lw_g (lw_at lw_m2 201 rfl) rfl
theorem q576 : (Jvm.Cond.fieldLink "GlacierMail" (28 : Nat) "GlacierMail" "acts" "[LGlacierMail$State;") ∈ lw_all := lw_g (lw_at lw_m2 202 rfl) rfl
theorem q577 : (Jvm.Cond.fieldLink "GlacierMail" (37 : Nat) "GlacierMail" "trip" "LGlacierMail$Trip;") ∈ lw_all := lw_g (lw_at lw_m2 203 rfl) rfl
theorem q578 : (Jvm.Cond.fieldLink "GlacierMail" (41 : Nat) "GlacierMail" "other" "LGlacierMail$Trip;") ∈ lw_all := lw_g (lw_at lw_m2 204 rfl) rfl
theorem q579 : (Jvm.Cond.fieldLink "GlacierMail" (44 : Nat) "GlacierMail" "flows" "[I") ∈ lw_all := lw_g (lw_at lw_m2 205 rfl) rfl
theorem q580 : (Jvm.Cond.fieldLink "GlacierMail" (48 : Nat) "GlacierMail" "outs" "[I") ∈ lw_all := lw_g (lw_at lw_m2 206 rfl) rfl
theorem q581 : (Jvm.Cond.fieldLink "GlacierMail" (51 : Nat) "GlacierMail" "throwsTo" "[I") ∈ lw_all := lw_g (lw_at lw_m2 207 rfl) rfl
theorem q582 : (Jvm.Cond.fieldLink "GlacierMail" (54 : Nat) "GlacierMail" "loot" "[I") ∈ lw_all := lw_g (lw_at lw_m2 208 rfl) rfl
theorem q583 : (Jvm.Cond.fieldLink "GlacierMail" (57 : Nat) "GlacierMail" "takes" "[I") ∈ lw_all := lw_g (lw_at lw_m2 209 rfl) rfl
theorem q584 : (Jvm.Cond.fieldLink "GlacierMail" (60 : Nat) "GlacierMail" "wrongAt" "I") ∈ lw_all := lw_g (lw_at lw_m2 210 rfl) rfl
theorem q585 : (Jvm.Cond.fieldLink "GlacierMail" (152 : Nat) "GlacierMail" "actMany" "I") ∈ lw_all := lw_g (lw_at lw_m2 211 rfl) rfl
theorem q586 : (Jvm.Cond.fieldLink "GlacierMail" (272 : Nat) "GlacierMail" "actAt" "I") ∈ lw_all := lw_g (lw_at lw_m2 212 rfl) rfl
theorem q587 : (Jvm.Cond.fieldLink "GlacierMail" (64 : Nat) "GlacierMail" "flowLane" "I") ∈ lw_all := lw_g (lw_at lw_m2 213 rfl) rfl
theorem q588 : (Jvm.Cond.fieldLink "GlacierMail" (401 : Nat) "GlacierMail" "kept" "Z") ∈ lw_all := lw_g (lw_at lw_m2 214 rfl) rfl
theorem q589 : (Jvm.Cond.laysFinal "GlacierMail" "GlacierMail" "reader" "LGlacierMail$Reader;") ∈ lw_all := lw_g (lw_at lw_m2 215 rfl) rfl
theorem q590 : (Jvm.Cond.soleField "GlacierMail" "reader") ∈ lw_all := lw_g (lw_at lw_m2 216 rfl) rfl
theorem q591 : (Jvm.Cond.laysFinal "GlacierMail" "GlacierMail" "now" "LGlacierMail$State;") ∈ lw_all := lw_g (lw_at lw_m2 217 rfl) rfl
theorem q592 : (Jvm.Cond.soleField "GlacierMail" "now") ∈ lw_all := lw_g (lw_at lw_m2 218 rfl) rfl
theorem q593 : (Jvm.Cond.laysFinal "GlacierMail" "GlacierMail" "image" "LGlacierMail$State;") ∈ lw_all := lw_g (lw_at lw_m2 219 rfl) rfl
theorem q594 : (Jvm.Cond.soleField "GlacierMail" "image") ∈ lw_all := lw_g (lw_at lw_m2 220 rfl) rfl
theorem q595 : (Jvm.Cond.laysFinal "GlacierMail" "GlacierMail" "acts" "[LGlacierMail$State;") ∈ lw_all := lw_g (lw_at lw_m2 221 rfl) rfl
theorem q596 : (Jvm.Cond.soleField "GlacierMail" "acts") ∈ lw_all := lw_g (lw_at lw_m2 222 rfl) rfl
theorem q597 : (Jvm.Cond.laysFinal "GlacierMail" "GlacierMail" "trip" "LGlacierMail$Trip;") ∈ lw_all := lw_g (lw_at lw_m2 223 rfl) rfl
theorem q598 : (Jvm.Cond.soleField "GlacierMail" "trip") ∈ lw_all := lw_g (lw_at lw_m2 224 rfl) rfl
theorem q599 : (Jvm.Cond.laysFinal "GlacierMail" "GlacierMail" "other" "LGlacierMail$Trip;") ∈ lw_all := lw_g (lw_at lw_m2 225 rfl) rfl
theorem q600 : (Jvm.Cond.soleField "GlacierMail" "other") ∈ lw_all := lw_g (lw_at lw_m2 226 rfl) rfl
theorem q601 : (Jvm.Cond.laysFinal "GlacierMail" "GlacierMail" "flows" "[I") ∈ lw_all := lw_g (lw_at lw_m2 227 rfl) rfl
theorem q602 : (Jvm.Cond.soleField "GlacierMail" "flows") ∈ lw_all := lw_g (lw_at lw_m2 228 rfl) rfl
theorem q603 : (Jvm.Cond.laysFinal "GlacierMail" "GlacierMail" "outs" "[I") ∈ lw_all := lw_g (lw_at lw_m2 229 rfl) rfl
theorem q604 : (Jvm.Cond.soleField "GlacierMail" "outs") ∈ lw_all := lw_g (lw_at lw_m2 230 rfl) rfl
theorem q605 : (Jvm.Cond.laysFinal "GlacierMail" "GlacierMail" "throwsTo" "[I") ∈ lw_all := lw_g (lw_at lw_m2 231 rfl) rfl
theorem q606 : (Jvm.Cond.soleField "GlacierMail" "throwsTo") ∈ lw_all := lw_g (lw_at lw_m2 232 rfl) rfl
theorem q607 : (Jvm.Cond.laysFinal "GlacierMail" "GlacierMail" "loot" "[I") ∈ lw_all := lw_g (lw_at lw_m2 233 rfl) rfl
theorem q608 : (Jvm.Cond.soleField "GlacierMail" "loot") ∈ lw_all := lw_g (lw_at lw_m2 234 rfl) rfl
theorem q609 : (Jvm.Cond.laysFinal "GlacierMail" "GlacierMail" "takes" "[I") ∈ lw_all := lw_g (lw_at lw_m2 235 rfl) rfl
theorem q610 : (Jvm.Cond.soleField "GlacierMail" "takes") ∈ lw_all := lw_g (lw_at lw_m2 236 rfl) rfl
theorem q611 : (Jvm.Cond.lays "GlacierMail" "GlacierMail" "wrongAt" "I") ∈ lw_all := lw_g (lw_at lw_m2 237 rfl) rfl
theorem q612 : (Jvm.Cond.soleField "GlacierMail" "wrongAt") ∈ lw_all := lw_g (lw_at lw_m2 238 rfl) rfl
theorem q613 : (Jvm.Cond.lays "GlacierMail" "GlacierMail" "actMany" "I") ∈ lw_all := lw_g (lw_at lw_m2 239 rfl) rfl
theorem q614 : (Jvm.Cond.soleField "GlacierMail" "actMany") ∈ lw_all := lw_g (lw_at lw_m3 0 rfl) rfl
theorem q615 : (Jvm.Cond.lays "GlacierMail" "GlacierMail" "actAt" "I") ∈ lw_all := lw_g (lw_at lw_m3 1 rfl) rfl
theorem q616 : (Jvm.Cond.soleField "GlacierMail" "actAt") ∈ lw_all := lw_g (lw_at lw_m3 2 rfl) rfl
theorem q617 : (Jvm.Cond.lays "GlacierMail" "GlacierMail" "flowLane" "I") ∈ lw_all := lw_g (lw_at lw_m3 3 rfl) rfl
theorem q618 : (Jvm.Cond.soleField "GlacierMail" "flowLane") ∈ lw_all := lw_g (lw_at lw_m3 4 rfl) rfl
theorem q619 : (Jvm.Cond.lays "GlacierMail" "GlacierMail" "kept" "Z") ∈ lw_all := lw_g (lw_at lw_m3 5 rfl) rfl
theorem q620 : (Jvm.Cond.soleField "GlacierMail" "kept") ∈ lw_all := lw_g (lw_at lw_m3 6 rfl) rfl
theorem q621 : (Jvm.Cond.superclass "GlacierMail" "java/lang/Object") ∈ lw_all := lw_g (lw_at lw_m3 7 rfl) rfl
theorem q623 : (Jvm.Cond.instanceMethod ({ cls := "GlacierMail", name := "feed", desc := "(IIIII)I" } : Jvm.MethodName)) ∈ lw_all := lw_g (lw_at lw_m3 9 rfl) rfl
theorem q624 : (Jvm.Cond.selects "GlacierMail" ({ cls := "GlacierMail", name := "feed", desc := "(IIIII)I" } : Jvm.MethodName) ({ cls := "GlacierMail", name := "feed", desc := "(IIIII)I" } : Jvm.MethodName)) ∈ lw_all := lw_g (lw_at lw_m3 10 rfl) rfl
theorem q625 : (Jvm.Cond.code ({ cls := "GlacierMail", name := "feed", desc := "(IIIII)I" } : Jvm.MethodName) prog_1_method_14_code (6 : Nat) (Option.some Jvm.ClassFile.FieldType.int)) ∈ lw_all := lw_g (lw_at lw_m3 11 rfl) rfl
theorem q626 : (Jvm.Cond.methodLink "GlacierMail" (121 : Nat) ({ cls := "GlacierMail", name := "four", desc := "(I)V" } : Jvm.MethodName)) ∈ lw_all := lw_g (lw_at lw_m3 12 rfl) rfl
theorem q627 : (Jvm.Cond.privateMethod ({ cls := "GlacierMail", name := "four", desc := "(I)V" } : Jvm.MethodName)) ∈ lw_tbl := lw_at lw_m3 13 rfl
theorem q628 : (Jvm.Cond.instanceMethod ({ cls := "GlacierMail", name := "four", desc := "(I)V" } : Jvm.MethodName)) ∈ lw_all := lw_g (lw_at lw_m3 14 rfl) rfl
theorem q629 : (Jvm.Cond.code ({ cls := "GlacierMail", name := "four", desc := "(I)V" } : Jvm.MethodName) prog_1_method_13_code (3 : Nat) (Option.none : Option Jvm.ClassFile.FieldType)) ∈ lw_all := lw_g (lw_at lw_m3 15 rfl) rfl
theorem q631 : (Jvm.Cond.instanceMethod ({ cls := "GlacierMail", name := "end", desc := "(I)Z" } : Jvm.MethodName)) ∈ lw_all := lw_g (lw_at lw_m3 17 rfl) rfl
theorem q632 : (Jvm.Cond.selects "GlacierMail" ({ cls := "GlacierMail", name := "end", desc := "(I)Z" } : Jvm.MethodName) ({ cls := "GlacierMail", name := "end", desc := "(I)Z" } : Jvm.MethodName)) ∈ lw_all := lw_g (lw_at lw_m3 18 rfl) rfl
theorem q633 : (Jvm.Cond.code ({ cls := "GlacierMail", name := "end", desc := "(I)Z" } : Jvm.MethodName) prog_1_method_15_code (2 : Nat) (Option.some Jvm.ClassFile.FieldType.boolean)) ∈ lw_all := lw_g (lw_at lw_m3 19 rfl) rfl
theorem q634 : (Jvm.Cond.methodLink "GlacierMail" (79 : Nat) ({ cls := "GlacierMail", name := "isIn", desc := "(III)Z" } : Jvm.MethodName)) ∈ lw_all := lw_g (lw_at lw_m3 20 rfl) rfl
theorem q635 : (Jvm.Cond.static ({ cls := "GlacierMail", name := "isIn", desc := "(III)Z" } : Jvm.MethodName)) ∈ lw_all := lw_g (lw_at lw_m3 21 rfl) rfl
theorem q636 : (Jvm.Cond.code ({ cls := "GlacierMail", name := "isIn", desc := "(III)Z" } : Jvm.MethodName) prog_1_method_6_code (3 : Nat) (Option.some Jvm.ClassFile.FieldType.boolean)) ∈ lw_all := lw_g (lw_at lw_m3 22 rfl) rfl
theorem q638 : (Jvm.Cond.instanceMethod ({ cls := "GlacierMail", name := "fault", desc := "()I" } : Jvm.MethodName)) ∈ lw_all := lw_g (lw_at lw_m3 24 rfl) rfl
theorem q639 : (Jvm.Cond.selects "GlacierMail" ({ cls := "GlacierMail", name := "fault", desc := "()I" } : Jvm.MethodName) ({ cls := "GlacierMail", name := "fault", desc := "()I" } : Jvm.MethodName)) ∈ lw_all := lw_g (lw_at lw_m3 25 rfl) rfl
theorem q640 : (Jvm.Cond.code ({ cls := "GlacierMail", name := "fault", desc := "()I" } : Jvm.MethodName) prog_1_method_20_code (1 : Nat) (Option.some Jvm.ClassFile.FieldType.int)) ∈ lw_all := lw_g (lw_at lw_m3 26 rfl) rfl
theorem q642 : (Jvm.Cond.instanceMethod ({ cls := "GlacierMail", name := "lost", desc := "()I" } : Jvm.MethodName)) ∈ lw_all := lw_g (lw_at lw_m3 28 rfl) rfl
theorem q643 : (Jvm.Cond.selects "GlacierMail" ({ cls := "GlacierMail", name := "lost", desc := "()I" } : Jvm.MethodName) ({ cls := "GlacierMail", name := "lost", desc := "()I" } : Jvm.MethodName)) ∈ lw_all := lw_g (lw_at lw_m3 29 rfl) rfl
theorem q644 : (Jvm.Cond.code ({ cls := "GlacierMail", name := "lost", desc := "()I" } : Jvm.MethodName) prog_1_method_46_code (3 : Nat) (Option.some Jvm.ClassFile.FieldType.int)) ∈ lw_all := lw_g (lw_at lw_m3 30 rfl) rfl
theorem q645 : (Jvm.Cond.methodLink "GlacierMail" (335 : Nat) ({ cls := "GlacierMail", name := "outOf", desc := "(I)I" } : Jvm.MethodName)) ∈ lw_all := lw_g (lw_at lw_m3 31 rfl) rfl
theorem q646 : (Jvm.Cond.privateMethod ({ cls := "GlacierMail", name := "outOf", desc := "(I)I" } : Jvm.MethodName)) ∈ lw_tbl := lw_at lw_m3 32 rfl
theorem q647 : (Jvm.Cond.instanceMethod ({ cls := "GlacierMail", name := "outOf", desc := "(I)I" } : Jvm.MethodName)) ∈ lw_all := lw_g (lw_at lw_m3 33 rfl) rfl
theorem q648 : (Jvm.Cond.code ({ cls := "GlacierMail", name := "outOf", desc := "(I)I" } : Jvm.MethodName) prog_1_method_72_code (2 : Nat) (Option.some Jvm.ClassFile.FieldType.int)) ∈ lw_all := lw_g (lw_at lw_m3 34 rfl) rfl
theorem q649 : (Jvm.Cond.methodLink "GlacierMail" (195 : Nat) ({ cls := "GlacierMail$Trip", name := "of", desc := "(LGlacierMail$Letter;)LGlacierMail$Trip;" } : Jvm.MethodName)) ∈ lw_all := lw_g (lw_at lw_m3 35 rfl) rfl
theorem q663 : (Jvm.Cond.privateMethod ({ cls := "GlacierMail", name := "flowOf", desc := "(III)I" } : Jvm.MethodName)) ∈ lw_tbl := lw_at lw_m3 49 rfl
theorem q664 : (Jvm.Cond.instanceMethod ({ cls := "GlacierMail", name := "flowOf", desc := "(III)I" } : Jvm.MethodName)) ∈ lw_all := lw_g (lw_at lw_m3 50 rfl) rfl
theorem q665 : (Jvm.Cond.code ({ cls := "GlacierMail", name := "flowOf", desc := "(III)I" } : Jvm.MethodName) prog_1_method_12_code (5 : Nat) (Option.some Jvm.ClassFile.FieldType.int)) ∈ lw_all := lw_g (lw_at lw_m3 51 rfl) rfl
theorem q666 : (Jvm.Cond.methodLink "GlacierMail" (110 : Nat) ({ cls := "GlacierMail$State", name := "flow", desc := "(III)I" } : Jvm.MethodName)) ∈ lw_all := lw_g (lw_at lw_m3 52 rfl) rfl
theorem q743 : (Jvm.Cond.constant "GlacierMail" (246 : Nat) (2147483647 : Int32)) ∈ lw_all := lw_g (lw_at lw_m3 129 rfl) rfl
theorem q745 : (Jvm.Cond.instanceMethod ({ cls := "GlacierMail", name := "market", desc := "(Z)I" } : Jvm.MethodName)) ∈ lw_all := lw_g (lw_at lw_m3 131 rfl) rfl
theorem q746 : (Jvm.Cond.selects "GlacierMail" ({ cls := "GlacierMail", name := "market", desc := "(Z)I" } : Jvm.MethodName) ({ cls := "GlacierMail", name := "market", desc := "(Z)I" } : Jvm.MethodName)) ∈ lw_all := lw_g (lw_at lw_m3 132 rfl) rfl
theorem q747 : (Jvm.Cond.code ({ cls := "GlacierMail", name := "market", desc := "(Z)I" } : Jvm.MethodName) prog_1_method_47_code (7 : Nat) (Option.some Jvm.ClassFile.FieldType.int)) ∈ lw_all := lw_g (lw_at lw_m3 133 rfl) rfl
theorem q748 : (Jvm.Cond.methodLink "GlacierMail" (202 : Nat) ({ cls := "GlacierMail$Letter", name := "isRock", desc := "()Z" } : Jvm.MethodName)) ∈ lw_all := lw_g (lw_at lw_m3 134 rfl) rfl
theorem q750 : (Jvm.Cond.instanceMethod ({ cls := "GlacierMail", name := "poles", desc := "()I" } : Jvm.MethodName)) ∈ lw_all := lw_g (lw_at lw_m3 136 rfl) rfl
theorem q751 : (Jvm.Cond.selects "GlacierMail" ({ cls := "GlacierMail", name := "poles", desc := "()I" } : Jvm.MethodName) ({ cls := "GlacierMail", name := "poles", desc := "()I" } : Jvm.MethodName)) ∈ lw_all := lw_g (lw_at lw_m3 137 rfl) rfl
theorem q752 : (Jvm.Cond.code ({ cls := "GlacierMail", name := "poles", desc := "()I" } : Jvm.MethodName) prog_1_method_58_code (6 : Nat) (Option.some Jvm.ClassFile.FieldType.int)) ∈ lw_all := lw_g (lw_at lw_m3 138 rfl) rfl
theorem q753 : (Jvm.Cond.methodLink "GlacierMail" (373 : Nat) ({ cls := "java/lang/Integer", name := "bitCount", desc := "(I)I" } : Jvm.MethodName)) ∈ lw_all := lw_g (lw_at lw_m3 139 rfl) rfl
theorem q759 : (Jvm.Cond.methodLink "GlacierMail" (369 : Nat) ({ cls := "GlacierMail", name := "areApart", desc := "(LGlacierMail$Section;LGlacierMail$Section;I)Z" } : Jvm.MethodName)) ∈ lw_all := lw_g (lw_at lw_m3 145 rfl) rfl
theorem q760 : (Jvm.Cond.privateMethod ({ cls := "GlacierMail", name := "areApart", desc := "(LGlacierMail$Section;LGlacierMail$Section;I)Z" } : Jvm.MethodName)) ∈ lw_tbl := lw_at lw_m3 146 rfl
theorem q761 : (Jvm.Cond.instanceMethod ({ cls := "GlacierMail", name := "areApart", desc := "(LGlacierMail$Section;LGlacierMail$Section;I)Z" } : Jvm.MethodName)) ∈ lw_all := lw_g (lw_at lw_m3 147 rfl) rfl
theorem q762 : (Jvm.Cond.code ({ cls := "GlacierMail", name := "areApart", desc := "(LGlacierMail$Section;LGlacierMail$Section;I)Z" } : Jvm.MethodName) prog_1_method_56_code (5 : Nat) (Option.some Jvm.ClassFile.FieldType.boolean)) ∈ lw_all := lw_g (lw_at lw_m3 148 rfl) rfl
theorem q764 : (Jvm.Cond.instanceMethod ({ cls := "GlacierMail", name := "order", desc := "(I)I" } : Jvm.MethodName)) ∈ lw_all := lw_g (lw_at lw_m3 150 rfl) rfl
theorem q765 : (Jvm.Cond.selects "GlacierMail" ({ cls := "GlacierMail", name := "order", desc := "(I)I" } : Jvm.MethodName) ({ cls := "GlacierMail", name := "order", desc := "(I)I" } : Jvm.MethodName)) ∈ lw_all := lw_g (lw_at lw_m3 151 rfl) rfl
theorem q766 : (Jvm.Cond.code ({ cls := "GlacierMail", name := "order", desc := "(I)I" } : Jvm.MethodName) prog_1_method_74_code (5 : Nat) (Option.some Jvm.ClassFile.FieldType.int)) ∈ lw_all := lw_g (lw_at lw_m3 152 rfl) rfl
theorem q768 : (Jvm.Cond.instanceMethod ({ cls := "GlacierMail", name := "undo", desc := "()Z" } : Jvm.MethodName)) ∈ lw_all := lw_g (lw_at lw_m3 154 rfl) rfl
theorem q769 : (Jvm.Cond.selects "GlacierMail" ({ cls := "GlacierMail", name := "undo", desc := "()Z" } : Jvm.MethodName) ({ cls := "GlacierMail", name := "undo", desc := "()Z" } : Jvm.MethodName)) ∈ lw_all := lw_g (lw_at lw_m3 155 rfl) rfl
theorem q770 : (Jvm.Cond.code ({ cls := "GlacierMail", name := "undo", desc := "()Z" } : Jvm.MethodName) prog_1_method_80_code (1 : Nat) (Option.some Jvm.ClassFile.FieldType.boolean)) ∈ lw_all := lw_g (lw_at lw_m3 156 rfl) rfl
theorem q771 : (Jvm.Cond.methodLink "GlacierMail" (148 : Nat) ({ cls := "GlacierMail$State", name := "be", desc := "(LGlacierMail$State;)V" } : Jvm.MethodName)) ∈ lw_all := lw_g (lw_at lw_m3 157 rfl) rfl
theorem q796 : (Jvm.Cond.instanceMethod ({ cls := "GlacierMail", name := "image", desc := "()V" } : Jvm.MethodName)) ∈ lw_all := lw_g (lw_at lw_m3 182 rfl) rfl
theorem q797 : (Jvm.Cond.selects "GlacierMail" ({ cls := "GlacierMail", name := "image", desc := "()V" } : Jvm.MethodName) ({ cls := "GlacierMail", name := "image", desc := "()V" } : Jvm.MethodName)) ∈ lw_all := lw_g (lw_at lw_m3 183 rfl) rfl
theorem q798 : (Jvm.Cond.code ({ cls := "GlacierMail", name := "image", desc := "()V" } : Jvm.MethodName) prog_1_method_81_code (1 : Nat) (Option.none : Option Jvm.ClassFile.FieldType)) ∈ lw_all := lw_g (lw_at lw_m3 184 rfl) rfl
theorem q800 : (Jvm.Cond.instanceMethod ({ cls := "GlacierMail", name := "back", desc := "()Z" } : Jvm.MethodName)) ∈ lw_all := lw_g (lw_at lw_m3 186 rfl) rfl
theorem q801 : (Jvm.Cond.selects "GlacierMail" ({ cls := "GlacierMail", name := "back", desc := "()Z" } : Jvm.MethodName) ({ cls := "GlacierMail", name := "back", desc := "()Z" } : Jvm.MethodName)) ∈ lw_all := lw_g (lw_at lw_m3 187 rfl) rfl
theorem q802 : (Jvm.Cond.code ({ cls := "GlacierMail", name := "back", desc := "()Z" } : Jvm.MethodName) prog_1_method_82_code (1 : Nat) (Option.some Jvm.ClassFile.FieldType.boolean)) ∈ lw_all := lw_g (lw_at lw_m3 188 rfl) rfl
theorem q804 : (Jvm.Cond.instanceMethod ({ cls := "GlacierMail", name := "count", desc := "(I)I" } : Jvm.MethodName)) ∈ lw_all := lw_g (lw_at lw_m3 190 rfl) rfl
theorem q805 : (Jvm.Cond.selects "GlacierMail" ({ cls := "GlacierMail", name := "count", desc := "(I)I" } : Jvm.MethodName) ({ cls := "GlacierMail", name := "count", desc := "(I)I" } : Jvm.MethodName)) ∈ lw_all := lw_g (lw_at lw_m3 191 rfl) rfl
theorem q806 : (Jvm.Cond.code ({ cls := "GlacierMail", name := "count", desc := "(I)I" } : Jvm.MethodName) prog_1_method_83_code (4 : Nat) (Option.some Jvm.ClassFile.FieldType.int)) ∈ lw_all := lw_g (lw_at lw_m3 192 rfl) rfl
theorem q807 : (Jvm.Cond.methodLink "GlacierMail" (221 : Nat) ({ cls := "GlacierMail", name := "waits", desc := "(LGlacierMail$Letter;)Z" } : Jvm.MethodName)) ∈ lw_all := lw_g (lw_at lw_m3 193 rfl) rfl
theorem q808 : (Jvm.Cond.privateMethod ({ cls := "GlacierMail", name := "waits", desc := "(LGlacierMail$Letter;)Z" } : Jvm.MethodName)) ∈ lw_tbl := lw_at lw_m3 194 rfl
theorem q809 : (Jvm.Cond.instanceMethod ({ cls := "GlacierMail", name := "waits", desc := "(LGlacierMail$Letter;)Z" } : Jvm.MethodName)) ∈ lw_all := lw_g (lw_at lw_m3 195 rfl) rfl
theorem q810 : (Jvm.Cond.code ({ cls := "GlacierMail", name := "waits", desc := "(LGlacierMail$Letter;)Z" } : Jvm.MethodName) prog_1_method_25_code (2 : Nat) (Option.some Jvm.ClassFile.FieldType.boolean)) ∈ lw_all := lw_g (lw_at lw_m3 196 rfl) rfl
theorem q811 : (Jvm.Cond.methodLink "GlacierMail" (211 : Nat) ({ cls := "GlacierMail", name := "isOutBy", desc := "(LGlacierMail$Letter;I)Z" } : Jvm.MethodName)) ∈ lw_all := lw_g (lw_at lw_m3 197 rfl) rfl
theorem q812 : (Jvm.Cond.privateMethod ({ cls := "GlacierMail", name := "isOutBy", desc := "(LGlacierMail$Letter;I)Z" } : Jvm.MethodName)) ∈ lw_tbl := lw_at lw_m3 198 rfl
theorem q813 : (Jvm.Cond.instanceMethod ({ cls := "GlacierMail", name := "isOutBy", desc := "(LGlacierMail$Letter;I)Z" } : Jvm.MethodName)) ∈ lw_all := lw_g (lw_at lw_m3 199 rfl) rfl
theorem q814 : (Jvm.Cond.code ({ cls := "GlacierMail", name := "isOutBy", desc := "(LGlacierMail$Letter;I)Z" } : Jvm.MethodName) prog_1_method_24_code (3 : Nat) (Option.some Jvm.ClassFile.FieldType.boolean)) ∈ lw_all := lw_g (lw_at lw_m3 200 rfl) rfl
theorem q815 : (Jvm.Cond.methodLink "GlacierMail" (327 : Nat) ({ cls := "GlacierMail$Trip", name := "isIn", desc := "(I)Z" } : Jvm.MethodName)) ∈ lw_all := lw_g (lw_at lw_m3 201 rfl) rfl
theorem q825 : (Jvm.Cond.instanceMethod ({ cls := "GlacierMail", name := "valley", desc := "()I" } : Jvm.MethodName)) ∈ lw_all := lw_g (lw_at lw_m3 211 rfl) rfl
theorem q826 : (Jvm.Cond.selects "GlacierMail" ({ cls := "GlacierMail", name := "valley", desc := "()I" } : Jvm.MethodName) ({ cls := "GlacierMail", name := "valley", desc := "()I" } : Jvm.MethodName)) ∈ lw_all := lw_g (lw_at lw_m3 212 rfl) rfl
theorem q827 : (Jvm.Cond.codeWith ({ cls := "GlacierMail", name := "valley", desc := "()I" } : Jvm.MethodName) prog_1_method_18_code (4 : Nat) (Option.some Jvm.ClassFile.FieldType.int) [((10 : Nat), (23 : Nat), (26 : Nat), (126 : Nat))]) ∈ lw_all := lw_g (lw_at lw_m3 213 rfl) rfl
theorem q828 : (Jvm.Cond.classLink "GlacierMail" (126 : Nat) "GlacierMail$Wrong") ∈ lw_all := lw_g (lw_at lw_m3 214 rfl) rfl
theorem q829 : (Jvm.Cond.methodLink "GlacierMail" (130 : Nat) ({ cls := "GlacierMail", name := "took", desc := "()I" } : Jvm.MethodName)) ∈ lw_all := lw_g (lw_at lw_m3 215 rfl) rfl
theorem q830 : (Jvm.Cond.privateMethod ({ cls := "GlacierMail", name := "took", desc := "()I" } : Jvm.MethodName)) ∈ lw_tbl := lw_at lw_m3 216 rfl
theorem q831 : (Jvm.Cond.instanceMethod ({ cls := "GlacierMail", name := "took", desc := "()I" } : Jvm.MethodName)) ∈ lw_all := lw_g (lw_at lw_m3 217 rfl) rfl
theorem q832 : (Jvm.Cond.code ({ cls := "GlacierMail", name := "took", desc := "()I" } : Jvm.MethodName) prog_1_method_16_code (2 : Nat) (Option.some Jvm.ClassFile.FieldType.int)) ∈ lw_all := lw_g (lw_at lw_m3 218 rfl) rfl
theorem q833 : (Jvm.Cond.methodLink "GlacierMail" (134 : Nat) ({ cls := "GlacierMail$Reader", name := "valley", desc := "(ILGlacierMail$State;)LGlacierMail$State;" } : Jvm.MethodName)) ∈ lw_all := lw_g (lw_at lw_m3 219 rfl) rfl
theorem q962 : (Jvm.Cond.methodLink "GlacierMail" (138 : Nat) ({ cls := "GlacierMail", name := "isWrong", desc := "(LGlacierMail$Wrong;)Ljava/lang/IllegalArgumentException;" } : Jvm.MethodName)) ∈ lw_all := lw_g (lw_at lw_m4 108 rfl) rfl
theorem q963 : (Jvm.Cond.privateMethod ({ cls := "GlacierMail", name := "isWrong", desc := "(LGlacierMail$Wrong;)Ljava/lang/IllegalArgumentException;" } : Jvm.MethodName)) ∈ lw_tbl := lw_at lw_m4 109 rfl
theorem q964 : (Jvm.Cond.instanceMethod ({ cls := "GlacierMail", name := "isWrong", desc := "(LGlacierMail$Wrong;)Ljava/lang/IllegalArgumentException;" } : Jvm.MethodName)) ∈ lw_all := lw_g (lw_at lw_m4 110 rfl) rfl
theorem q965 : (Jvm.Cond.code ({ cls := "GlacierMail", name := "isWrong", desc := "(LGlacierMail$Wrong;)Ljava/lang/IllegalArgumentException;" } : Jvm.MethodName) prog_1_method_17_code (2 : Nat) (Option.some (Jvm.ClassFile.FieldType.object "java/lang/IllegalArgumentException"))) ∈ lw_all := lw_g (lw_at lw_m4 111 rfl) rfl
theorem q966 : (Jvm.Cond.classLink "GlacierMail" (67 : Nat) "java/lang/IllegalArgumentException") ∈ lw_all := lw_g (lw_at lw_m4 112 rfl) rfl
theorem q975 : (Jvm.Cond.methodLink "GlacierMail" (69 : Nat) ({ cls := "java/lang/IllegalArgumentException", name := "<init>", desc := "()V" } : Jvm.MethodName)) ∈ lw_all := lw_g (lw_at lw_m4 121 rfl) rfl
theorem q987 : (Jvm.Cond.methodLink "GlacierMail" (145 : Nat) ({ cls := "GlacierMail", name := "mayBe", desc := "(Z)V" } : Jvm.MethodName)) ∈ lw_all := lw_g (lw_at lw_m4 133 rfl) rfl
theorem q988 : (Jvm.Cond.static ({ cls := "GlacierMail", name := "mayBe", desc := "(Z)V" } : Jvm.MethodName)) ∈ lw_all := lw_g (lw_at lw_m4 134 rfl) rfl
theorem q989 : (Jvm.Cond.code ({ cls := "GlacierMail", name := "mayBe", desc := "(Z)V" } : Jvm.MethodName) prog_1_method_3_code (1 : Nat) (Option.none : Option Jvm.ClassFile.FieldType)) ∈ lw_all := lw_g (lw_at lw_m4 135 rfl) rfl
theorem q990 : (Jvm.Cond.classLink "GlacierMail" (70 : Nat) "java/lang/UnsupportedOperationException") ∈ lw_all := lw_g (lw_at lw_m4 136 rfl) rfl
theorem q999 : (Jvm.Cond.methodLink "GlacierMail" (72 : Nat) ({ cls := "java/lang/UnsupportedOperationException", name := "<init>", desc := "()V" } : Jvm.MethodName)) ∈ lw_all := lw_g (lw_at lw_m4 145 rfl) rfl
theorem q1009 : (Jvm.Cond.instanceMethod ({ cls := "GlacierMail", name := "law", desc := "()I" } : Jvm.MethodName)) ∈ lw_all := lw_g (lw_at lw_m4 155 rfl) rfl
theorem q1010 : (Jvm.Cond.selects "GlacierMail" ({ cls := "GlacierMail", name := "law", desc := "()I" } : Jvm.MethodName) ({ cls := "GlacierMail", name := "law", desc := "()I" } : Jvm.MethodName)) ∈ lw_all := lw_g (lw_at lw_m4 156 rfl) rfl
theorem q1011 : (Jvm.Cond.codeWith ({ cls := "GlacierMail", name := "law", desc := "()I" } : Jvm.MethodName) prog_1_method_19_code (3 : Nat) (Option.some Jvm.ClassFile.FieldType.int) [((10 : Nat), (25 : Nat), (28 : Nat), (126 : Nat))]) ∈ lw_all := lw_g (lw_at lw_m4 157 rfl) rfl
theorem q1012 : (Jvm.Cond.methodLink "GlacierMail" (155 : Nat) ({ cls := "GlacierMail$Reader", name := "law", desc := "(I)I" } : Jvm.MethodName)) ∈ lw_all := lw_g (lw_at lw_m4 158 rfl) rfl
theorem q1136 : (Jvm.Cond.methodLink "GlacierMail" (168 : Nat) ({ cls := "java/lang/System", name := "arraycopy", desc := "(Ljava/lang/Object;ILjava/lang/Object;II)V" } : Jvm.MethodName)) ∈ lw_all := lw_g (lw_at lw_m5 42 rfl) rfl
theorem q1141 : (Jvm.Cond.instanceMethod ({ cls := "GlacierMail", name := "heat", desc := "(I)I" } : Jvm.MethodName)) ∈ lw_all := lw_g (lw_at lw_m5 47 rfl) rfl
theorem q1142 : (Jvm.Cond.selects "GlacierMail" ({ cls := "GlacierMail", name := "heat", desc := "(I)I" } : Jvm.MethodName) ({ cls := "GlacierMail", name := "heat", desc := "(I)I" } : Jvm.MethodName)) ∈ lw_all := lw_g (lw_at lw_m5 48 rfl) rfl
theorem q1143 : (Jvm.Cond.code ({ cls := "GlacierMail", name := "heat", desc := "(I)I" } : Jvm.MethodName) prog_1_method_21_code (2 : Nat) (Option.some Jvm.ClassFile.FieldType.int)) ∈ lw_all := lw_g (lw_at lw_m5 49 rfl) rfl
theorem q1144 : (Jvm.Cond.methodLink "GlacierMail" (174 : Nat) ({ cls := "GlacierMail", name := "isYear", desc := "(I)V" } : Jvm.MethodName)) ∈ lw_all := lw_g (lw_at lw_m5 50 rfl) rfl
theorem q1145 : (Jvm.Cond.static ({ cls := "GlacierMail", name := "isYear", desc := "(I)V" } : Jvm.MethodName)) ∈ lw_all := lw_g (lw_at lw_m5 51 rfl) rfl
theorem q1146 : (Jvm.Cond.code ({ cls := "GlacierMail", name := "isYear", desc := "(I)V" } : Jvm.MethodName) prog_1_method_7_code (1 : Nat) (Option.none : Option Jvm.ClassFile.FieldType)) ∈ lw_all := lw_g (lw_at lw_m5 52 rfl) rfl
theorem q1147 : (Jvm.Cond.methodLink "GlacierMail" (83 : Nat) ({ cls := "GlacierMail", name := "must", desc := "(Z)V" } : Jvm.MethodName)) ∈ lw_all := lw_g (lw_at lw_m5 53 rfl) rfl
theorem q1148 : (Jvm.Cond.static ({ cls := "GlacierMail", name := "must", desc := "(Z)V" } : Jvm.MethodName)) ∈ lw_all := lw_g (lw_at lw_m5 54 rfl) rfl
theorem q1149 : (Jvm.Cond.code ({ cls := "GlacierMail", name := "must", desc := "(Z)V" } : Jvm.MethodName) prog_1_method_2_code (1 : Nat) (Option.none : Option Jvm.ClassFile.FieldType)) ∈ lw_all := lw_g (lw_at lw_m5 55 rfl) rfl
theorem q1186 : (Jvm.Cond.instanceMethod ({ cls := "GlacierMail", name := "speed", desc := "(II)I" } : Jvm.MethodName)) ∈ lw_all := lw_g (lw_at lw_m5 92 rfl) rfl
theorem q1187 : (Jvm.Cond.selects "GlacierMail" ({ cls := "GlacierMail", name := "speed", desc := "(II)I" } : Jvm.MethodName) ({ cls := "GlacierMail", name := "speed", desc := "(II)I" } : Jvm.MethodName)) ∈ lw_all := lw_g (lw_at lw_m5 93 rfl) rfl
theorem q1188 : (Jvm.Cond.code ({ cls := "GlacierMail", name := "speed", desc := "(II)I" } : Jvm.MethodName) prog_1_method_22_code (3 : Nat) (Option.some Jvm.ClassFile.FieldType.int)) ∈ lw_all := lw_g (lw_at lw_m5 94 rfl) rfl
theorem q1189 : (Jvm.Cond.methodLink "GlacierMail" (180 : Nat) ({ cls := "GlacierMail", name := "isLane", desc := "(I)V" } : Jvm.MethodName)) ∈ lw_all := lw_g (lw_at lw_m5 95 rfl) rfl
theorem q1190 : (Jvm.Cond.privateMethod ({ cls := "GlacierMail", name := "isLane", desc := "(I)V" } : Jvm.MethodName)) ∈ lw_tbl := lw_at lw_m5 96 rfl
theorem q1191 : (Jvm.Cond.instanceMethod ({ cls := "GlacierMail", name := "isLane", desc := "(I)V" } : Jvm.MethodName)) ∈ lw_all := lw_g (lw_at lw_m5 97 rfl) rfl
theorem q1192 : (Jvm.Cond.code ({ cls := "GlacierMail", name := "isLane", desc := "(I)V" } : Jvm.MethodName) prog_1_method_8_code (2 : Nat) (Option.none : Option Jvm.ClassFile.FieldType)) ∈ lw_all := lw_g (lw_at lw_m5 98 rfl) rfl
theorem q1193 : (Jvm.Cond.methodLink "GlacierMail" (90 : Nat) ({ cls := "GlacierMail", name := "mustBe", desc := "(Z)V" } : Jvm.MethodName)) ∈ lw_all := lw_g (lw_at lw_m5 99 rfl) rfl
theorem q1194 : (Jvm.Cond.static ({ cls := "GlacierMail", name := "mustBe", desc := "(Z)V" } : Jvm.MethodName)) ∈ lw_all := lw_g (lw_at lw_m5 100 rfl) rfl
theorem q1195 : (Jvm.Cond.code ({ cls := "GlacierMail", name := "mustBe", desc := "(Z)V" } : Jvm.MethodName) prog_1_method_4_code (1 : Nat) (Option.none : Option Jvm.ClassFile.FieldType)) ∈ lw_all := lw_g (lw_at lw_m5 101 rfl) rfl
theorem q1196 : (Jvm.Cond.classLink "GlacierMail" (73 : Nat) "java/lang/IndexOutOfBoundsException") ∈ lw_all := lw_g (lw_at lw_m5 102 rfl) rfl
theorem q1205 : (Jvm.Cond.methodLink "GlacierMail" (75 : Nat) ({ cls := "java/lang/IndexOutOfBoundsException", name := "<init>", desc := "()V" } : Jvm.MethodName)) ∈ lw_all := lw_g (lw_at lw_m5 111 rfl) rfl
theorem q1211 : (Jvm.Cond.methodLink "GlacierMail" (183 : Nat) ({ cls := "GlacierMail", name := "isRow", desc := "(I)V" } : Jvm.MethodName)) ∈ lw_all := lw_g (lw_at lw_m5 117 rfl) rfl
theorem q1212 : (Jvm.Cond.privateMethod ({ cls := "GlacierMail", name := "isRow", desc := "(I)V" } : Jvm.MethodName)) ∈ lw_tbl := lw_at lw_m5 118 rfl
theorem q1213 : (Jvm.Cond.instanceMethod ({ cls := "GlacierMail", name := "isRow", desc := "(I)V" } : Jvm.MethodName)) ∈ lw_all := lw_g (lw_at lw_m5 119 rfl) rfl
theorem q1214 : (Jvm.Cond.code ({ cls := "GlacierMail", name := "isRow", desc := "(I)V" } : Jvm.MethodName) prog_1_method_9_code (2 : Nat) (Option.none : Option Jvm.ClassFile.FieldType)) ∈ lw_all := lw_g (lw_at lw_m5 120 rfl) rfl
theorem q1215 : (Jvm.Cond.methodLink "GlacierMail" (186 : Nat) ({ cls := "GlacierMail$State", name := "speed", desc := "(II)I" } : Jvm.MethodName)) ∈ lw_all := lw_g (lw_at lw_m5 121 rfl) rfl
theorem q1220 : (Jvm.Cond.instanceMethod ({ cls := "GlacierMail", name := "flow", desc := "(III)I" } : Jvm.MethodName)) ∈ lw_all := lw_g (lw_at lw_m5 126 rfl) rfl
theorem q1221 : (Jvm.Cond.selects "GlacierMail" ({ cls := "GlacierMail", name := "flow", desc := "(III)I" } : Jvm.MethodName) ({ cls := "GlacierMail", name := "flow", desc := "(III)I" } : Jvm.MethodName)) ∈ lw_all := lw_g (lw_at lw_m5 127 rfl) rfl
theorem q1222 : (Jvm.Cond.code ({ cls := "GlacierMail", name := "flow", desc := "(III)I" } : Jvm.MethodName) prog_1_method_23_code (4 : Nat) (Option.some Jvm.ClassFile.FieldType.int)) ∈ lw_all := lw_g (lw_at lw_m5 128 rfl) rfl
theorem q1228 : (Jvm.Cond.instanceMethod ({ cls := "GlacierMail", name := "person", desc := "(II)I" } : Jvm.MethodName)) ∈ lw_all := lw_g (lw_at lw_m5 134 rfl) rfl
theorem q1229 : (Jvm.Cond.selects "GlacierMail" ({ cls := "GlacierMail", name := "person", desc := "(II)I" } : Jvm.MethodName) ({ cls := "GlacierMail", name := "person", desc := "(II)I" } : Jvm.MethodName)) ∈ lw_all := lw_g (lw_at lw_m5 135 rfl) rfl
theorem q1230 : (Jvm.Cond.code ({ cls := "GlacierMail", name := "person", desc := "(II)I" } : Jvm.MethodName) prog_1_method_27_code (4 : Nat) (Option.some Jvm.ClassFile.FieldType.int)) ∈ lw_all := lw_g (lw_at lw_m5 136 rfl) rfl
theorem q1231 : (Jvm.Cond.methodLink "GlacierMail" (225 : Nat) ({ cls := "GlacierMail", name := "personAt", desc := "(I)LGlacierMail$Person;" } : Jvm.MethodName)) ∈ lw_all := lw_g (lw_at lw_m5 137 rfl) rfl
theorem q1232 : (Jvm.Cond.privateMethod ({ cls := "GlacierMail", name := "personAt", desc := "(I)LGlacierMail$Person;" } : Jvm.MethodName)) ∈ lw_tbl := lw_at lw_m5 138 rfl
theorem q1233 : (Jvm.Cond.instanceMethod ({ cls := "GlacierMail", name := "personAt", desc := "(I)LGlacierMail$Person;" } : Jvm.MethodName)) ∈ lw_all := lw_g (lw_at lw_m5 139 rfl) rfl
theorem q1234 : (Jvm.Cond.code ({ cls := "GlacierMail", name := "personAt", desc := "(I)LGlacierMail$Person;" } : Jvm.MethodName) prog_1_method_10_code (2 : Nat) (Option.some (Jvm.ClassFile.FieldType.object "GlacierMail$Person"))) ∈ lw_all := lw_g (lw_at lw_m5 140 rfl) rfl
theorem q1235 : (Jvm.Cond.methodLink "GlacierMail" (239 : Nat) ({ cls := "GlacierMail", name := "lettersOf", desc := "(II)I" } : Jvm.MethodName)) ∈ lw_all := lw_g (lw_at lw_m5 141 rfl) rfl
theorem q1236 : (Jvm.Cond.privateMethod ({ cls := "GlacierMail", name := "lettersOf", desc := "(II)I" } : Jvm.MethodName)) ∈ lw_tbl := lw_at lw_m5 142 rfl
theorem q1237 : (Jvm.Cond.instanceMethod ({ cls := "GlacierMail", name := "lettersOf", desc := "(II)I" } : Jvm.MethodName)) ∈ lw_all := lw_g (lw_at lw_m5 143 rfl) rfl
theorem q1238 : (Jvm.Cond.code ({ cls := "GlacierMail", name := "lettersOf", desc := "(II)I" } : Jvm.MethodName) prog_1_method_26_code (6 : Nat) (Option.some Jvm.ClassFile.FieldType.int)) ∈ lw_all := lw_g (lw_at lw_m5 144 rfl) rfl
theorem q1239 : (Jvm.Cond.classLink "GlacierMail" (76 : Nat) "java/util/NoSuchElementException") ∈ lw_all := lw_g (lw_at lw_m5 145 rfl) rfl
theorem q1248 : (Jvm.Cond.methodLink "GlacierMail" (78 : Nat) ({ cls := "java/util/NoSuchElementException", name := "<init>", desc := "()V" } : Jvm.MethodName)) ∈ lw_all := lw_g (lw_at lw_m5 154 rfl) rfl
theorem q1258 : (Jvm.Cond.instanceMethod ({ cls := "GlacierMail", name := "letter", desc := "(II)I" } : Jvm.MethodName)) ∈ lw_all := lw_g (lw_at lw_m5 164 rfl) rfl
theorem q1259 : (Jvm.Cond.selects "GlacierMail" ({ cls := "GlacierMail", name := "letter", desc := "(II)I" } : Jvm.MethodName) ({ cls := "GlacierMail", name := "letter", desc := "(II)I" } : Jvm.MethodName)) ∈ lw_all := lw_g (lw_at lw_m5 165 rfl) rfl
theorem q1260 : (Jvm.Cond.code ({ cls := "GlacierMail", name := "letter", desc := "(II)I" } : Jvm.MethodName) prog_1_method_30_code (4 : Nat) (Option.some Jvm.ClassFile.FieldType.int)) ∈ lw_all := lw_g (lw_at lw_m5 166 rfl) rfl
theorem q1261 : (Jvm.Cond.methodLink "GlacierMail" (250 : Nat) ({ cls := "GlacierMail", name := "letterAt", desc := "(I)LGlacierMail$Letter;" } : Jvm.MethodName)) ∈ lw_all := lw_g (lw_at lw_m5 167 rfl) rfl
theorem q1262 : (Jvm.Cond.privateMethod ({ cls := "GlacierMail", name := "letterAt", desc := "(I)LGlacierMail$Letter;" } : Jvm.MethodName)) ∈ lw_tbl := lw_at lw_m5 168 rfl
theorem q1263 : (Jvm.Cond.instanceMethod ({ cls := "GlacierMail", name := "letterAt", desc := "(I)LGlacierMail$Letter;" } : Jvm.MethodName)) ∈ lw_all := lw_g (lw_at lw_m5 169 rfl) rfl
theorem q1264 : (Jvm.Cond.code ({ cls := "GlacierMail", name := "letterAt", desc := "(I)LGlacierMail$Letter;" } : Jvm.MethodName) prog_1_method_11_code (2 : Nat) (Option.some (Jvm.ClassFile.FieldType.object "GlacierMail$Letter"))) ∈ lw_all := lw_g (lw_at lw_m5 170 rfl) rfl
theorem q1265 : (Jvm.Cond.methodLink "GlacierMail" (259 : Nat) ({ cls := "GlacierMail$Trip", name := "outYear", desc := "()I" } : Jvm.MethodName)) ∈ lw_all := lw_g (lw_at lw_m5 171 rfl) rfl
theorem q1269 : (Jvm.Cond.methodLink "GlacierMail" (262 : Nat) ({ cls := "GlacierMail", name := "deepOut", desc := "(LGlacierMail$Letter;)I" } : Jvm.MethodName)) ∈ lw_all := lw_g (lw_at lw_m5 175 rfl) rfl
theorem q1270 : (Jvm.Cond.privateMethod ({ cls := "GlacierMail", name := "deepOut", desc := "(LGlacierMail$Letter;)I" } : Jvm.MethodName)) ∈ lw_tbl := lw_at lw_m5 176 rfl
theorem q1271 : (Jvm.Cond.instanceMethod ({ cls := "GlacierMail", name := "deepOut", desc := "(LGlacierMail$Letter;)I" } : Jvm.MethodName)) ∈ lw_all := lw_g (lw_at lw_m5 177 rfl) rfl
theorem q1272 : (Jvm.Cond.code ({ cls := "GlacierMail", name := "deepOut", desc := "(LGlacierMail$Letter;)I" } : Jvm.MethodName) prog_1_method_29_code (3 : Nat) (Option.some Jvm.ClassFile.FieldType.int)) ∈ lw_all := lw_g (lw_at lw_m5 178 rfl) rfl
theorem q1273 : (Jvm.Cond.methodLink "GlacierMail" (266 : Nat) ({ cls := "GlacierMail", name := "bareYear", desc := "(LGlacierMail$Letter;)I" } : Jvm.MethodName)) ∈ lw_all := lw_g (lw_at lw_m5 179 rfl) rfl
theorem q1274 : (Jvm.Cond.privateMethod ({ cls := "GlacierMail", name := "bareYear", desc := "(LGlacierMail$Letter;)I" } : Jvm.MethodName)) ∈ lw_tbl := lw_at lw_m5 180 rfl
theorem q1275 : (Jvm.Cond.instanceMethod ({ cls := "GlacierMail", name := "bareYear", desc := "(LGlacierMail$Letter;)I" } : Jvm.MethodName)) ∈ lw_all := lw_g (lw_at lw_m5 181 rfl) rfl
theorem q1276 : (Jvm.Cond.code ({ cls := "GlacierMail", name := "bareYear", desc := "(LGlacierMail$Letter;)I" } : Jvm.MethodName) prog_1_method_28_code (4 : Nat) (Option.some Jvm.ClassFile.FieldType.int)) ∈ lw_all := lw_g (lw_at lw_m5 182 rfl) rfl
theorem q1277 : (Jvm.Cond.methodLink "GlacierMail" (242 : Nat) ({ cls := "GlacierMail$Trip", name := "isBare", desc := "(I)Z" } : Jvm.MethodName)) ∈ lw_all := lw_g (lw_at lw_m5 183 rfl) rfl
theorem q1286 : (Jvm.Cond.instanceMethod ({ cls := "GlacierMail", name := "where", desc := "(II)I" } : Jvm.MethodName)) ∈ lw_all := lw_g (lw_at lw_m5 192 rfl) rfl
theorem q1287 : (Jvm.Cond.selects "GlacierMail" ({ cls := "GlacierMail", name := "where", desc := "(II)I" } : Jvm.MethodName) ({ cls := "GlacierMail", name := "where", desc := "(II)I" } : Jvm.MethodName)) ∈ lw_all := lw_g (lw_at lw_m5 193 rfl) rfl
theorem q1288 : (Jvm.Cond.code ({ cls := "GlacierMail", name := "where", desc := "(II)I" } : Jvm.MethodName) prog_1_method_31_code (4 : Nat) (Option.some Jvm.ClassFile.FieldType.int)) ∈ lw_all := lw_g (lw_at lw_m5 194 rfl) rfl
theorem q1293 : (Jvm.Cond.instanceMethod ({ cls := "GlacierMail", name := "deep", desc := "(II)I" } : Jvm.MethodName)) ∈ lw_all := lw_g (lw_at lw_m5 199 rfl) rfl
theorem q1294 : (Jvm.Cond.selects "GlacierMail" ({ cls := "GlacierMail", name := "deep", desc := "(II)I" } : Jvm.MethodName) ({ cls := "GlacierMail", name := "deep", desc := "(II)I" } : Jvm.MethodName)) ∈ lw_all := lw_g (lw_at lw_m5 200 rfl) rfl
theorem q1295 : (Jvm.Cond.code ({ cls := "GlacierMail", name := "deep", desc := "(II)I" } : Jvm.MethodName) prog_1_method_32_code (4 : Nat) (Option.some Jvm.ClassFile.FieldType.int)) ∈ lw_all := lw_g (lw_at lw_m5 201 rfl) rfl
theorem q1300 : (Jvm.Cond.instanceMethod ({ cls := "GlacierMail", name := "post", desc := "(II)I" } : Jvm.MethodName)) ∈ lw_all := lw_g (lw_at lw_m5 206 rfl) rfl
theorem q1301 : (Jvm.Cond.selects "GlacierMail" ({ cls := "GlacierMail", name := "post", desc := "(II)I" } : Jvm.MethodName) ({ cls := "GlacierMail", name := "post", desc := "(II)I" } : Jvm.MethodName)) ∈ lw_all := lw_g (lw_at lw_m5 207 rfl) rfl
theorem q1302 : (Jvm.Cond.code ({ cls := "GlacierMail", name := "post", desc := "(II)I" } : Jvm.MethodName) prog_1_method_34_code (6 : Nat) (Option.some Jvm.ClassFile.FieldType.int)) ∈ lw_all := lw_g (lw_at lw_m5 208 rfl) rfl
theorem q1303 : (Jvm.Cond.methodLink "GlacierMail" (280 : Nat) ({ cls := "GlacierMail", name := "remembers", desc := "()V" } : Jvm.MethodName)) ∈ lw_all := lw_g (lw_at lw_m5 209 rfl) rfl
theorem q1304 : (Jvm.Cond.privateMethod ({ cls := "GlacierMail", name := "remembers", desc := "()V" } : Jvm.MethodName)) ∈ lw_tbl := lw_at lw_m5 210 rfl
theorem q1305 : (Jvm.Cond.instanceMethod ({ cls := "GlacierMail", name := "remembers", desc := "()V" } : Jvm.MethodName)) ∈ lw_all := lw_g (lw_at lw_m5 211 rfl) rfl
theorem q1306 : (Jvm.Cond.code ({ cls := "GlacierMail", name := "remembers", desc := "()V" } : Jvm.MethodName) prog_1_method_33_code (1 : Nat) (Option.none : Option Jvm.ClassFile.FieldType)) ∈ lw_all := lw_g (lw_at lw_m5 212 rfl) rfl
theorem q1307 : (Jvm.Cond.methodLink "GlacierMail" (275 : Nat) ({ cls := "java/lang/Math", name := "min", desc := "(II)I" } : Jvm.MethodName)) ∈ lw_all := lw_g (lw_at lw_m5 213 rfl) rfl
theorem q1308 : (Jvm.Cond.methodLink "GlacierMail" (283 : Nat) ({ cls := "GlacierMail$Letter", name := "tell", desc := "(IIIII)LGlacierMail$Letter;" } : Jvm.MethodName)) ∈ lw_all := lw_g (lw_at lw_m5 214 rfl) rfl
theorem q1313 : (Jvm.Cond.instanceMethod ({ cls := "GlacierMail", name := "watch", desc := "(II)I" } : Jvm.MethodName)) ∈ lw_all := lw_g (lw_at lw_m5 219 rfl) rfl
theorem q1314 : (Jvm.Cond.selects "GlacierMail" ({ cls := "GlacierMail", name := "watch", desc := "(II)I" } : Jvm.MethodName) ({ cls := "GlacierMail", name := "watch", desc := "(II)I" } : Jvm.MethodName)) ∈ lw_all := lw_g (lw_at lw_m5 220 rfl) rfl
theorem q1315 : (Jvm.Cond.code ({ cls := "GlacierMail", name := "watch", desc := "(II)I" } : Jvm.MethodName) prog_1_method_35_code (5 : Nat) (Option.some Jvm.ClassFile.FieldType.int)) ∈ lw_all := lw_g (lw_at lw_m5 221 rfl) rfl
theorem q1321 : (Jvm.Cond.instanceMethod ({ cls := "GlacierMail", name := "open", desc := "(I)I" } : Jvm.MethodName)) ∈ lw_all := lw_g (lw_at lw_m5 227 rfl) rfl
theorem q1322 : (Jvm.Cond.selects "GlacierMail" ({ cls := "GlacierMail", name := "open", desc := "(I)I" } : Jvm.MethodName) ({ cls := "GlacierMail", name := "open", desc := "(I)I" } : Jvm.MethodName)) ∈ lw_all := lw_g (lw_at lw_m5 228 rfl) rfl
theorem q1323 : (Jvm.Cond.code ({ cls := "GlacierMail", name := "open", desc := "(I)I" } : Jvm.MethodName) prog_1_method_36_code (3 : Nat) (Option.some Jvm.ClassFile.FieldType.int)) ∈ lw_all := lw_g (lw_at lw_m5 229 rfl) rfl
theorem q1324 : (Jvm.Cond.classLink "GlacierMail" (287 : Nat) "java/lang/IllegalStateException") ∈ lw_all := lw_g (lw_at lw_m5 230 rfl) rfl
theorem q1333 : (Jvm.Cond.methodLink "GlacierMail" (289 : Nat) ({ cls := "java/lang/IllegalStateException", name := "<init>", desc := "()V" } : Jvm.MethodName)) ∈ lw_all := lw_g (lw_at lw_m5 239 rfl) rfl
theorem q1339 : (Jvm.Cond.methodLink "GlacierMail" (290 : Nat) ({ cls := "GlacierMail$State", name := "opens", desc := "(II)V" } : Jvm.MethodName)) ∈ lw_all := lw_g (lw_at lw_m6 5 rfl) rfl
theorem q1347 : (Jvm.Cond.instanceMethod ({ cls := "GlacierMail", name := "years", desc := "(I)I" } : Jvm.MethodName)) ∈ lw_all := lw_g (lw_at lw_m6 13 rfl) rfl
theorem q1348 : (Jvm.Cond.selects "GlacierMail" ({ cls := "GlacierMail", name := "years", desc := "(I)I" } : Jvm.MethodName) ({ cls := "GlacierMail", name := "years", desc := "(I)I" } : Jvm.MethodName)) ∈ lw_all := lw_g (lw_at lw_m6 14 rfl) rfl
theorem q1349 : (Jvm.Cond.code ({ cls := "GlacierMail", name := "years", desc := "(I)I" } : Jvm.MethodName) prog_1_method_39_code (4 : Nat) (Option.some Jvm.ClassFile.FieldType.int)) ∈ lw_all := lw_g (lw_at lw_m6 15 rfl) rfl
theorem q1350 : (Jvm.Cond.methodLink "GlacierMail" (304 : Nat) ({ cls := "GlacierMail", name := "yearMore", desc := "()V" } : Jvm.MethodName)) ∈ lw_all := lw_g (lw_at lw_m6 16 rfl) rfl
theorem q1351 : (Jvm.Cond.privateMethod ({ cls := "GlacierMail", name := "yearMore", desc := "()V" } : Jvm.MethodName)) ∈ lw_tbl := lw_at lw_m6 17 rfl
theorem q1352 : (Jvm.Cond.instanceMethod ({ cls := "GlacierMail", name := "yearMore", desc := "()V" } : Jvm.MethodName)) ∈ lw_all := lw_g (lw_at lw_m6 18 rfl) rfl
theorem q1353 : (Jvm.Cond.code ({ cls := "GlacierMail", name := "yearMore", desc := "()V" } : Jvm.MethodName) prog_1_method_38_code (3 : Nat) (Option.none : Option Jvm.ClassFile.FieldType)) ∈ lw_all := lw_g (lw_at lw_m6 19 rfl) rfl
theorem q1354 : (Jvm.Cond.methodLink "GlacierMail" (298 : Nat) ({ cls := "GlacierMail", name := "opener", desc := "(LGlacierMail$Letter;)I" } : Jvm.MethodName)) ∈ lw_all := lw_g (lw_at lw_m6 20 rfl) rfl
theorem q1355 : (Jvm.Cond.privateMethod ({ cls := "GlacierMail", name := "opener", desc := "(LGlacierMail$Letter;)I" } : Jvm.MethodName)) ∈ lw_tbl := lw_at lw_m6 21 rfl
theorem q1356 : (Jvm.Cond.instanceMethod ({ cls := "GlacierMail", name := "opener", desc := "(LGlacierMail$Letter;)I" } : Jvm.MethodName)) ∈ lw_all := lw_g (lw_at lw_m6 22 rfl) rfl
theorem q1357 : (Jvm.Cond.code ({ cls := "GlacierMail", name := "opener", desc := "(LGlacierMail$Letter;)I" } : Jvm.MethodName) prog_1_method_37_code (4 : Nat) (Option.some Jvm.ClassFile.FieldType.int)) ∈ lw_all := lw_g (lw_at lw_m6 23 rfl) rfl
theorem q1358 : (Jvm.Cond.methodLink "GlacierMail" (294 : Nat) ({ cls := "GlacierMail$State", name := "mayOpen", desc := "(ILGlacierMail$Letter;I)Z" } : Jvm.MethodName)) ∈ lw_all := lw_g (lw_at lw_m6 24 rfl) rfl
theorem q1374 : (Jvm.Cond.instanceMethod ({ cls := "GlacierMail", name := "throwsFor", desc := "(IIII)I" } : Jvm.MethodName)) ∈ lw_all := lw_g (lw_at lw_m6 40 rfl) rfl
theorem q1375 : (Jvm.Cond.selects "GlacierMail" ({ cls := "GlacierMail", name := "throwsFor", desc := "(IIII)I" } : Jvm.MethodName) ({ cls := "GlacierMail", name := "throwsFor", desc := "(IIII)I" } : Jvm.MethodName)) ∈ lw_all := lw_g (lw_at lw_m6 41 rfl) rfl
theorem q1376 : (Jvm.Cond.code ({ cls := "GlacierMail", name := "throwsFor", desc := "(IIII)I" } : Jvm.MethodName) prog_1_method_40_code (9 : Nat) (Option.some Jvm.ClassFile.FieldType.int)) ∈ lw_all := lw_g (lw_at lw_m6 42 rfl) rfl
theorem q1377 : (Jvm.Cond.methodLink "GlacierMail" (307 : Nat) ({ cls := "GlacierMail", name := "thereIs", desc := "(Z)V" } : Jvm.MethodName)) ∈ lw_all := lw_g (lw_at lw_m6 43 rfl) rfl
theorem q1378 : (Jvm.Cond.static ({ cls := "GlacierMail", name := "thereIs", desc := "(Z)V" } : Jvm.MethodName)) ∈ lw_all := lw_g (lw_at lw_m6 44 rfl) rfl
theorem q1379 : (Jvm.Cond.code ({ cls := "GlacierMail", name := "thereIs", desc := "(Z)V" } : Jvm.MethodName) prog_1_method_5_code (1 : Nat) (Option.none : Option Jvm.ClassFile.FieldType)) ∈ lw_all := lw_g (lw_at lw_m6 45 rfl) rfl
theorem q1380 : (Jvm.Cond.methodLink "GlacierMail" (310 : Nat) ({ cls := "GlacierMail$Trip", name := "goes", desc := "(IIIZ)LGlacierMail$Trip;" } : Jvm.MethodName)) ∈ lw_all := lw_g (lw_at lw_m6 46 rfl) rfl
theorem q1385 : (Jvm.Cond.instanceMethod ({ cls := "GlacierMail", name := "latest", desc := "(II)I" } : Jvm.MethodName)) ∈ lw_all := lw_g (lw_at lw_m6 51 rfl) rfl
theorem q1386 : (Jvm.Cond.selects "GlacierMail" ({ cls := "GlacierMail", name := "latest", desc := "(II)I" } : Jvm.MethodName) ({ cls := "GlacierMail", name := "latest", desc := "(II)I" } : Jvm.MethodName)) ∈ lw_all := lw_g (lw_at lw_m6 52 rfl) rfl
theorem q1387 : (Jvm.Cond.code ({ cls := "GlacierMail", name := "latest", desc := "(II)I" } : Jvm.MethodName) prog_1_method_41_code (5 : Nat) (Option.some Jvm.ClassFile.FieldType.int)) ∈ lw_all := lw_g (lw_at lw_m6 53 rfl) rfl
theorem q1392 : (Jvm.Cond.instanceMethod ({ cls := "GlacierMail", name := "hut", desc := "(II)I" } : Jvm.MethodName)) ∈ lw_all := lw_g (lw_at lw_m6 58 rfl) rfl
theorem q1393 : (Jvm.Cond.selects "GlacierMail" ({ cls := "GlacierMail", name := "hut", desc := "(II)I" } : Jvm.MethodName) ({ cls := "GlacierMail", name := "hut", desc := "(II)I" } : Jvm.MethodName)) ∈ lw_all := lw_g (lw_at lw_m6 59 rfl) rfl
theorem q1394 : (Jvm.Cond.code ({ cls := "GlacierMail", name := "hut", desc := "(II)I" } : Jvm.MethodName) prog_1_method_42_code (5 : Nat) (Option.some Jvm.ClassFile.FieldType.int)) ∈ lw_all := lw_g (lw_at lw_m6 60 rfl) rfl
theorem q1399 : (Jvm.Cond.instanceMethod ({ cls := "GlacierMail", name := "without", desc := "(II)I" } : Jvm.MethodName)) ∈ lw_all := lw_g (lw_at lw_m6 65 rfl) rfl
theorem q1400 : (Jvm.Cond.selects "GlacierMail" ({ cls := "GlacierMail", name := "without", desc := "(II)I" } : Jvm.MethodName) ({ cls := "GlacierMail", name := "without", desc := "(II)I" } : Jvm.MethodName)) ∈ lw_all := lw_g (lw_at lw_m6 66 rfl) rfl
theorem q1401 : (Jvm.Cond.code ({ cls := "GlacierMail", name := "without", desc := "(II)I" } : Jvm.MethodName) prog_1_method_44_code (7 : Nat) (Option.some Jvm.ClassFile.FieldType.int)) ∈ lw_all := lw_g (lw_at lw_m6 67 rfl) rfl
theorem q1402 : (Jvm.Cond.methodLink "GlacierMail" (317 : Nat) ({ cls := "GlacierMail", name := "isFlood", desc := "(I)V" } : Jvm.MethodName)) ∈ lw_all := lw_g (lw_at lw_m6 68 rfl) rfl
theorem q1403 : (Jvm.Cond.privateMethod ({ cls := "GlacierMail", name := "isFlood", desc := "(I)V" } : Jvm.MethodName)) ∈ lw_tbl := lw_at lw_m6 69 rfl
theorem q1404 : (Jvm.Cond.instanceMethod ({ cls := "GlacierMail", name := "isFlood", desc := "(I)V" } : Jvm.MethodName)) ∈ lw_all := lw_g (lw_at lw_m6 70 rfl) rfl
theorem q1405 : (Jvm.Cond.code ({ cls := "GlacierMail", name := "isFlood", desc := "(I)V" } : Jvm.MethodName) prog_1_method_43_code (2 : Nat) (Option.none : Option Jvm.ClassFile.FieldType)) ∈ lw_all := lw_g (lw_at lw_m6 71 rfl) rfl
theorem q1410 : (Jvm.Cond.instanceMethod ({ cls := "GlacierMail", name := "moved", desc := "(I)I" } : Jvm.MethodName)) ∈ lw_all := lw_g (lw_at lw_m6 76 rfl) rfl
theorem q1411 : (Jvm.Cond.selects "GlacierMail" ({ cls := "GlacierMail", name := "moved", desc := "(I)I" } : Jvm.MethodName) ({ cls := "GlacierMail", name := "moved", desc := "(I)I" } : Jvm.MethodName)) ∈ lw_all := lw_g (lw_at lw_m6 77 rfl) rfl
theorem q1412 : (Jvm.Cond.code ({ cls := "GlacierMail", name := "moved", desc := "(I)I" } : Jvm.MethodName) prog_1_method_45_code (7 : Nat) (Option.some Jvm.ClassFile.FieldType.int)) ∈ lw_all := lw_g (lw_at lw_m6 78 rfl) rfl
theorem q1413 : (Jvm.Cond.methodLink "GlacierMail" (329 : Nat) ({ cls := "GlacierMail", name := "flowOf", desc := "(III)I" } : Jvm.MethodName)) ∈ lw_all := lw_g (lw_at lw_m6 79 rfl) rfl
theorem q1414 : (Jvm.Cond.methodLink "GlacierMail" (332 : Nat) ({ cls := "GlacierMail$State", name := "flooded", desc := "(II)I" } : Jvm.MethodName)) ∈ lw_all := lw_g (lw_at lw_m6 80 rfl) rfl
theorem q1419 : (Jvm.Cond.instanceMethod ({ cls := "GlacierMail", name := "passes", desc := "(I)I" } : Jvm.MethodName)) ∈ lw_all := lw_g (lw_at lw_m6 85 rfl) rfl
theorem q1420 : (Jvm.Cond.selects "GlacierMail" ({ cls := "GlacierMail", name := "passes", desc := "(I)I" } : Jvm.MethodName) ({ cls := "GlacierMail", name := "passes", desc := "(I)I" } : Jvm.MethodName)) ∈ lw_all := lw_g (lw_at lw_m6 86 rfl) rfl
theorem q1421 : (Jvm.Cond.code ({ cls := "GlacierMail", name := "passes", desc := "(I)I" } : Jvm.MethodName) prog_1_method_49_code (7 : Nat) (Option.some Jvm.ClassFile.FieldType.int)) ∈ lw_all := lw_g (lw_at lw_m6 87 rfl) rfl
theorem q1422 : (Jvm.Cond.methodLink "GlacierMail" (342 : Nat) ({ cls := "GlacierMail", name := "passes", desc := "()Z" } : Jvm.MethodName)) ∈ lw_all := lw_g (lw_at lw_m6 88 rfl) rfl
theorem q1423 : (Jvm.Cond.privateMethod ({ cls := "GlacierMail", name := "passes", desc := "()Z" } : Jvm.MethodName)) ∈ lw_tbl := lw_at lw_m6 89 rfl
theorem q1424 : (Jvm.Cond.instanceMethod ({ cls := "GlacierMail", name := "passes", desc := "()Z" } : Jvm.MethodName)) ∈ lw_all := lw_g (lw_at lw_m6 90 rfl) rfl
theorem q1425 : (Jvm.Cond.code ({ cls := "GlacierMail", name := "passes", desc := "()Z" } : Jvm.MethodName) prog_1_method_48_code (3 : Nat) (Option.some Jvm.ClassFile.FieldType.boolean)) ∈ lw_all := lw_g (lw_at lw_m6 91 rfl) rfl
theorem q1426 : (Jvm.Cond.methodLink "GlacierMail" (339 : Nat) ({ cls := "java/lang/Math", name := "max", desc := "(II)I" } : Jvm.MethodName)) ∈ lw_all := lw_g (lw_at lw_m6 92 rfl) rfl
theorem q1431 : (Jvm.Cond.instanceMethod ({ cls := "GlacierMail", name := "writers", desc := "(III)I" } : Jvm.MethodName)) ∈ lw_all := lw_g (lw_at lw_m6 97 rfl) rfl
theorem q1432 : (Jvm.Cond.selects "GlacierMail" ({ cls := "GlacierMail", name := "writers", desc := "(III)I" } : Jvm.MethodName) ({ cls := "GlacierMail", name := "writers", desc := "(III)I" } : Jvm.MethodName)) ∈ lw_all := lw_g (lw_at lw_m6 98 rfl) rfl
theorem q1433 : (Jvm.Cond.code ({ cls := "GlacierMail", name := "writers", desc := "(III)I" } : Jvm.MethodName) prog_1_method_52_code (6 : Nat) (Option.some Jvm.ClassFile.FieldType.int)) ∈ lw_all := lw_g (lw_at lw_m6 99 rfl) rfl
theorem q1434 : (Jvm.Cond.methodLink "GlacierMail" (345 : Nat) ({ cls := "GlacierMail", name := "isFound", desc := "(III)V" } : Jvm.MethodName)) ∈ lw_all := lw_g (lw_at lw_m6 100 rfl) rfl
theorem q1435 : (Jvm.Cond.privateMethod ({ cls := "GlacierMail", name := "isFound", desc := "(III)V" } : Jvm.MethodName)) ∈ lw_tbl := lw_at lw_m6 101 rfl
theorem q1436 : (Jvm.Cond.instanceMethod ({ cls := "GlacierMail", name := "isFound", desc := "(III)V" } : Jvm.MethodName)) ∈ lw_all := lw_g (lw_at lw_m6 102 rfl) rfl
theorem q1437 : (Jvm.Cond.code ({ cls := "GlacierMail", name := "isFound", desc := "(III)V" } : Jvm.MethodName) prog_1_method_51_code (4 : Nat) (Option.none : Option Jvm.ClassFile.FieldType)) ∈ lw_all := lw_g (lw_at lw_m6 103 rfl) rfl
theorem q1438 : (Jvm.Cond.methodLink "GlacierMail" (349 : Nat) ({ cls := "GlacierMail", name := "wroteIn", desc := "(LGlacierMail$Person;III)I" } : Jvm.MethodName)) ∈ lw_all := lw_g (lw_at lw_m6 104 rfl) rfl
theorem q1439 : (Jvm.Cond.privateMethod ({ cls := "GlacierMail", name := "wroteIn", desc := "(LGlacierMail$Person;III)I" } : Jvm.MethodName)) ∈ lw_tbl := lw_at lw_m6 105 rfl
theorem q1440 : (Jvm.Cond.instanceMethod ({ cls := "GlacierMail", name := "wroteIn", desc := "(LGlacierMail$Person;III)I" } : Jvm.MethodName)) ∈ lw_all := lw_g (lw_at lw_m6 106 rfl) rfl
theorem q1441 : (Jvm.Cond.code ({ cls := "GlacierMail", name := "wroteIn", desc := "(LGlacierMail$Person;III)I" } : Jvm.MethodName) prog_1_method_50_code (7 : Nat) (Option.some Jvm.ClassFile.FieldType.int)) ∈ lw_all := lw_g (lw_at lw_m6 107 rfl) rfl
theorem q1446 : (Jvm.Cond.instanceMethod ({ cls := "GlacierMail", name := "wrote", desc := "(IIII)I" } : Jvm.MethodName)) ∈ lw_all := lw_g (lw_at lw_m6 112 rfl) rfl
theorem q1447 : (Jvm.Cond.selects "GlacierMail" ({ cls := "GlacierMail", name := "wrote", desc := "(IIII)I" } : Jvm.MethodName) ({ cls := "GlacierMail", name := "wrote", desc := "(IIII)I" } : Jvm.MethodName)) ∈ lw_all := lw_g (lw_at lw_m6 113 rfl) rfl
theorem q1448 : (Jvm.Cond.code ({ cls := "GlacierMail", name := "wrote", desc := "(IIII)I" } : Jvm.MethodName) prog_1_method_53_code (6 : Nat) (Option.some Jvm.ClassFile.FieldType.int)) ∈ lw_all := lw_g (lw_at lw_m6 114 rfl) rfl
theorem q1453 : (Jvm.Cond.instanceMethod ({ cls := "GlacierMail", name := "table", desc := "(II)I" } : Jvm.MethodName)) ∈ lw_all := lw_g (lw_at lw_m6 119 rfl) rfl
theorem q1454 : (Jvm.Cond.selects "GlacierMail" ({ cls := "GlacierMail", name := "table", desc := "(II)I" } : Jvm.MethodName) ({ cls := "GlacierMail", name := "table", desc := "(II)I" } : Jvm.MethodName)) ∈ lw_all := lw_g (lw_at lw_m6 120 rfl) rfl
theorem q1455 : (Jvm.Cond.code ({ cls := "GlacierMail", name := "table", desc := "(II)I" } : Jvm.MethodName) prog_1_method_55_code (4 : Nat) (Option.some Jvm.ClassFile.FieldType.int)) ∈ lw_all := lw_g (lw_at lw_m6 121 rfl) rfl
theorem q1456 : (Jvm.Cond.methodLink "GlacierMail" (360 : Nat) ({ cls := "GlacierMail", name := "tableAt", desc := "(I)LGlacierMail$Section;" } : Jvm.MethodName)) ∈ lw_all := lw_g (lw_at lw_m6 122 rfl) rfl
theorem q1457 : (Jvm.Cond.privateMethod ({ cls := "GlacierMail", name := "tableAt", desc := "(I)LGlacierMail$Section;" } : Jvm.MethodName)) ∈ lw_tbl := lw_at lw_m6 123 rfl
theorem q1458 : (Jvm.Cond.instanceMethod ({ cls := "GlacierMail", name := "tableAt", desc := "(I)LGlacierMail$Section;" } : Jvm.MethodName)) ∈ lw_all := lw_g (lw_at lw_m6 124 rfl) rfl
theorem q1459 : (Jvm.Cond.code ({ cls := "GlacierMail", name := "tableAt", desc := "(I)LGlacierMail$Section;" } : Jvm.MethodName) prog_1_method_54_code (2 : Nat) (Option.some (Jvm.ClassFile.FieldType.object "GlacierMail$Section"))) ∈ lw_all := lw_g (lw_at lw_m6 125 rfl) rfl
theorem q1464 : (Jvm.Cond.instanceMethod ({ cls := "GlacierMail", name := "apart", desc := "(III)Z" } : Jvm.MethodName)) ∈ lw_all := lw_g (lw_at lw_m6 130 rfl) rfl
theorem q1465 : (Jvm.Cond.selects "GlacierMail" ({ cls := "GlacierMail", name := "apart", desc := "(III)Z" } : Jvm.MethodName) ({ cls := "GlacierMail", name := "apart", desc := "(III)Z" } : Jvm.MethodName)) ∈ lw_all := lw_g (lw_at lw_m6 131 rfl) rfl
theorem q1466 : (Jvm.Cond.code ({ cls := "GlacierMail", name := "apart", desc := "(III)Z" } : Jvm.MethodName) prog_1_method_57_code (4 : Nat) (Option.some Jvm.ClassFile.FieldType.boolean)) ∈ lw_all := lw_g (lw_at lw_m6 132 rfl) rfl
theorem q1471 : (Jvm.Cond.instanceMethod ({ cls := "GlacierMail", name := "fit", desc := "()I" } : Jvm.MethodName)) ∈ lw_all := lw_g (lw_at lw_m6 137 rfl) rfl
theorem q1472 : (Jvm.Cond.selects "GlacierMail" ({ cls := "GlacierMail", name := "fit", desc := "()I" } : Jvm.MethodName) ({ cls := "GlacierMail", name := "fit", desc := "()I" } : Jvm.MethodName)) ∈ lw_all := lw_g (lw_at lw_m6 138 rfl) rfl
theorem q1473 : (Jvm.Cond.code ({ cls := "GlacierMail", name := "fit", desc := "()I" } : Jvm.MethodName) prog_1_method_59_code (7 : Nat) (Option.some Jvm.ClassFile.FieldType.int)) ∈ lw_all := lw_g (lw_at lw_m6 139 rfl) rfl
theorem q1478 : (Jvm.Cond.instanceMethod ({ cls := "GlacierMail", name := "soonest", desc := "(IIZ)I" } : Jvm.MethodName)) ∈ lw_all := lw_g (lw_at lw_m6 144 rfl) rfl
theorem q1479 : (Jvm.Cond.selects "GlacierMail" ({ cls := "GlacierMail", name := "soonest", desc := "(IIZ)I" } : Jvm.MethodName) ({ cls := "GlacierMail", name := "soonest", desc := "(IIZ)I" } : Jvm.MethodName)) ∈ lw_all := lw_g (lw_at lw_m6 145 rfl) rfl
theorem q1480 : (Jvm.Cond.code ({ cls := "GlacierMail", name := "soonest", desc := "(IIZ)I" } : Jvm.MethodName) prog_1_method_63_code (5 : Nat) (Option.some Jvm.ClassFile.FieldType.int)) ∈ lw_all := lw_g (lw_at lw_m6 146 rfl) rfl
theorem q1481 : (Jvm.Cond.methodLink "GlacierMail" (379 : Nat) ({ cls := "GlacierMail", name := "lays", desc := "()V" } : Jvm.MethodName)) ∈ lw_all := lw_g (lw_at lw_m6 147 rfl) rfl
theorem q1482 : (Jvm.Cond.privateMethod ({ cls := "GlacierMail", name := "lays", desc := "()V" } : Jvm.MethodName)) ∈ lw_tbl := lw_at lw_m6 148 rfl
theorem q1483 : (Jvm.Cond.instanceMethod ({ cls := "GlacierMail", name := "lays", desc := "()V" } : Jvm.MethodName)) ∈ lw_all := lw_g (lw_at lw_m6 149 rfl) rfl
theorem q1484 : (Jvm.Cond.code ({ cls := "GlacierMail", name := "lays", desc := "()V" } : Jvm.MethodName) prog_1_method_60_code (3 : Nat) (Option.none : Option Jvm.ClassFile.FieldType)) ∈ lw_all := lw_g (lw_at lw_m6 150 rfl) rfl
theorem q1485 : (Jvm.Cond.methodLink "GlacierMail" (382 : Nat) ({ cls := "GlacierMail", name := "answers", desc := "(I)V" } : Jvm.MethodName)) ∈ lw_all := lw_g (lw_at lw_m6 151 rfl) rfl
theorem q1486 : (Jvm.Cond.privateMethod ({ cls := "GlacierMail", name := "answers", desc := "(I)V" } : Jvm.MethodName)) ∈ lw_tbl := lw_at lw_m6 152 rfl
theorem q1487 : (Jvm.Cond.instanceMethod ({ cls := "GlacierMail", name := "answers", desc := "(I)V" } : Jvm.MethodName)) ∈ lw_all := lw_g (lw_at lw_m6 153 rfl) rfl
theorem q1488 : (Jvm.Cond.code ({ cls := "GlacierMail", name := "answers", desc := "(I)V" } : Jvm.MethodName) prog_1_method_61_code (4 : Nat) (Option.none : Option Jvm.ClassFile.FieldType)) ∈ lw_all := lw_g (lw_at lw_m6 154 rfl) rfl
theorem q1489 : (Jvm.Cond.methodLink "GlacierMail" (376 : Nat) ({ cls := "GlacierMail", name := "has", desc := "(III)V" } : Jvm.MethodName)) ∈ lw_all := lw_g (lw_at lw_m6 155 rfl) rfl
theorem q1490 : (Jvm.Cond.privateMethod ({ cls := "GlacierMail", name := "has", desc := "(III)V" } : Jvm.MethodName)) ∈ lw_tbl := lw_at lw_m6 156 rfl
theorem q1491 : (Jvm.Cond.instanceMethod ({ cls := "GlacierMail", name := "has", desc := "(III)V" } : Jvm.MethodName)) ∈ lw_all := lw_g (lw_at lw_m6 157 rfl) rfl
theorem q1492 : (Jvm.Cond.code ({ cls := "GlacierMail", name := "has", desc := "(III)V" } : Jvm.MethodName) prog_1_method_62_code (7 : Nat) (Option.none : Option Jvm.ClassFile.FieldType)) ∈ lw_all := lw_g (lw_at lw_m6 158 rfl) rfl
theorem q1493 : (Jvm.Cond.methodLink "GlacierMail" (385 : Nat) ({ cls := "GlacierMail", name := "soonestOf", desc := "(I)I" } : Jvm.MethodName)) ∈ lw_all := lw_g (lw_at lw_m6 159 rfl) rfl
theorem q1494 : (Jvm.Cond.privateMethod ({ cls := "GlacierMail", name := "soonestOf", desc := "(I)I" } : Jvm.MethodName)) ∈ lw_tbl := lw_at lw_m6 160 rfl
theorem q1495 : (Jvm.Cond.instanceMethod ({ cls := "GlacierMail", name := "soonestOf", desc := "(I)I" } : Jvm.MethodName)) ∈ lw_all := lw_g (lw_at lw_m6 161 rfl) rfl
theorem q1496 : (Jvm.Cond.code ({ cls := "GlacierMail", name := "soonestOf", desc := "(I)I" } : Jvm.MethodName) prog_1_method_64_code (3 : Nat) (Option.some Jvm.ClassFile.FieldType.int)) ∈ lw_all := lw_g (lw_at lw_m6 162 rfl) rfl
theorem q1501 : (Jvm.Cond.instanceMethod ({ cls := "GlacierMail", name := "chain", desc := "(III)I" } : Jvm.MethodName)) ∈ lw_all := lw_g (lw_at lw_m6 167 rfl) rfl
theorem q1502 : (Jvm.Cond.selects "GlacierMail" ({ cls := "GlacierMail", name := "chain", desc := "(III)I" } : Jvm.MethodName) ({ cls := "GlacierMail", name := "chain", desc := "(III)I" } : Jvm.MethodName)) ∈ lw_all := lw_g (lw_at lw_m6 168 rfl) rfl
theorem q1503 : (Jvm.Cond.code ({ cls := "GlacierMail", name := "chain", desc := "(III)I" } : Jvm.MethodName) prog_1_method_66_code (9 : Nat) (Option.some Jvm.ClassFile.FieldType.int)) ∈ lw_all := lw_g (lw_at lw_m6 169 rfl) rfl
theorem q1504 : (Jvm.Cond.methodLink "GlacierMail" (388 : Nat) ({ cls := "GlacierMail", name := "thrower", desc := "(IIII)I" } : Jvm.MethodName)) ∈ lw_all := lw_g (lw_at lw_m6 170 rfl) rfl
theorem q1505 : (Jvm.Cond.privateMethod ({ cls := "GlacierMail", name := "thrower", desc := "(IIII)I" } : Jvm.MethodName)) ∈ lw_tbl := lw_at lw_m6 171 rfl
theorem q1506 : (Jvm.Cond.instanceMethod ({ cls := "GlacierMail", name := "thrower", desc := "(IIII)I" } : Jvm.MethodName)) ∈ lw_all := lw_g (lw_at lw_m6 172 rfl) rfl
theorem q1507 : (Jvm.Cond.code ({ cls := "GlacierMail", name := "thrower", desc := "(IIII)I" } : Jvm.MethodName) prog_1_method_65_code (7 : Nat) (Option.some Jvm.ClassFile.FieldType.int)) ∈ lw_all := lw_g (lw_at lw_m6 173 rfl) rfl
theorem q1512 : (Jvm.Cond.instanceMethod ({ cls := "GlacierMail", name := "reached", desc := "(II)I" } : Jvm.MethodName)) ∈ lw_all := lw_g (lw_at lw_m6 178 rfl) rfl
theorem q1513 : (Jvm.Cond.selects "GlacierMail" ({ cls := "GlacierMail", name := "reached", desc := "(II)I" } : Jvm.MethodName) ({ cls := "GlacierMail", name := "reached", desc := "(II)I" } : Jvm.MethodName)) ∈ lw_all := lw_g (lw_at lw_m6 179 rfl) rfl
theorem q1514 : (Jvm.Cond.code ({ cls := "GlacierMail", name := "reached", desc := "(II)I" } : Jvm.MethodName) prog_1_method_67_code (6 : Nat) (Option.some Jvm.ClassFile.FieldType.int)) ∈ lw_all := lw_g (lw_at lw_m6 180 rfl) rfl
theorem q1519 : (Jvm.Cond.instanceMethod ({ cls := "GlacierMail", name := "thieves", desc := "(IZ)I" } : Jvm.MethodName)) ∈ lw_all := lw_g (lw_at lw_m6 185 rfl) rfl
theorem q1520 : (Jvm.Cond.selects "GlacierMail" ({ cls := "GlacierMail", name := "thieves", desc := "(IZ)I" } : Jvm.MethodName) ({ cls := "GlacierMail", name := "thieves", desc := "(IZ)I" } : Jvm.MethodName)) ∈ lw_all := lw_g (lw_at lw_m6 186 rfl) rfl
theorem q1521 : (Jvm.Cond.code ({ cls := "GlacierMail", name := "thieves", desc := "(IZ)I" } : Jvm.MethodName) prog_1_method_69_code (6 : Nat) (Option.some Jvm.ClassFile.FieldType.int)) ∈ lw_all := lw_g (lw_at lw_m6 187 rfl) rfl
theorem q1522 : (Jvm.Cond.methodLink "GlacierMail" (392 : Nat) ({ cls := "GlacierMail", name := "loots", desc := "(I)V" } : Jvm.MethodName)) ∈ lw_all := lw_g (lw_at lw_m6 188 rfl) rfl
theorem q1523 : (Jvm.Cond.privateMethod ({ cls := "GlacierMail", name := "loots", desc := "(I)V" } : Jvm.MethodName)) ∈ lw_tbl := lw_at lw_m6 189 rfl
theorem q1524 : (Jvm.Cond.instanceMethod ({ cls := "GlacierMail", name := "loots", desc := "(I)V" } : Jvm.MethodName)) ∈ lw_all := lw_g (lw_at lw_m6 190 rfl) rfl
theorem q1525 : (Jvm.Cond.code ({ cls := "GlacierMail", name := "loots", desc := "(I)V" } : Jvm.MethodName) prog_1_method_68_code (5 : Nat) (Option.none : Option Jvm.ClassFile.FieldType)) ∈ lw_all := lw_g (lw_at lw_m6 191 rfl) rfl
theorem q1530 : (Jvm.Cond.instanceMethod ({ cls := "GlacierMail", name := "watchman", desc := "(IZ)I" } : Jvm.MethodName)) ∈ lw_all := lw_g (lw_at lw_m6 196 rfl) rfl
theorem q1531 : (Jvm.Cond.selects "GlacierMail" ({ cls := "GlacierMail", name := "watchman", desc := "(IZ)I" } : Jvm.MethodName) ({ cls := "GlacierMail", name := "watchman", desc := "(IZ)I" } : Jvm.MethodName)) ∈ lw_all := lw_g (lw_at lw_m6 197 rfl) rfl
theorem q1532 : (Jvm.Cond.code ({ cls := "GlacierMail", name := "watchman", desc := "(IZ)I" } : Jvm.MethodName) prog_1_method_70_code (10 : Nat) (Option.some Jvm.ClassFile.FieldType.int)) ∈ lw_all := lw_g (lw_at lw_m6 198 rfl) rfl
theorem q1537 : (Jvm.Cond.instanceMethod ({ cls := "GlacierMail", name := "meeting", desc := "(II)I" } : Jvm.MethodName)) ∈ lw_all := lw_g (lw_at lw_m6 203 rfl) rfl
theorem q1538 : (Jvm.Cond.selects "GlacierMail" ({ cls := "GlacierMail", name := "meeting", desc := "(II)I" } : Jvm.MethodName) ({ cls := "GlacierMail", name := "meeting", desc := "(II)I" } : Jvm.MethodName)) ∈ lw_all := lw_g (lw_at lw_m6 204 rfl) rfl
theorem q1539 : (Jvm.Cond.code ({ cls := "GlacierMail", name := "meeting", desc := "(II)I" } : Jvm.MethodName) prog_1_method_71_code (8 : Nat) (Option.some Jvm.ClassFile.FieldType.int)) ∈ lw_all := lw_g (lw_at lw_m6 205 rfl) rfl
theorem q1544 : (Jvm.Cond.instanceMethod ({ cls := "GlacierMail", name := "outs", desc := "(I)I" } : Jvm.MethodName)) ∈ lw_all := lw_g (lw_at lw_m6 210 rfl) rfl
theorem q1545 : (Jvm.Cond.selects "GlacierMail" ({ cls := "GlacierMail", name := "outs", desc := "(I)I" } : Jvm.MethodName) ({ cls := "GlacierMail", name := "outs", desc := "(I)I" } : Jvm.MethodName)) ∈ lw_all := lw_g (lw_at lw_m6 211 rfl) rfl
theorem q1546 : (Jvm.Cond.code ({ cls := "GlacierMail", name := "outs", desc := "(I)I" } : Jvm.MethodName) prog_1_method_73_code (4 : Nat) (Option.some Jvm.ClassFile.FieldType.int)) ∈ lw_all := lw_g (lw_at lw_m6 212 rfl) rfl
theorem q1551 : (Jvm.Cond.instanceMethod ({ cls := "GlacierMail", name := "streams", desc := "(IZ)I" } : Jvm.MethodName)) ∈ lw_all := lw_g (lw_at lw_m6 217 rfl) rfl
theorem q1552 : (Jvm.Cond.selects "GlacierMail" ({ cls := "GlacierMail", name := "streams", desc := "(IZ)I" } : Jvm.MethodName) ({ cls := "GlacierMail", name := "streams", desc := "(IZ)I" } : Jvm.MethodName)) ∈ lw_all := lw_g (lw_at lw_m6 218 rfl) rfl
theorem q1553 : (Jvm.Cond.code ({ cls := "GlacierMail", name := "streams", desc := "(IZ)I" } : Jvm.MethodName) prog_1_method_75_code (5 : Nat) (Option.some Jvm.ClassFile.FieldType.int)) ∈ lw_all := lw_g (lw_at lw_m6 219 rfl) rfl
theorem q1558 : (Jvm.Cond.instanceMethod ({ cls := "GlacierMail", name := "range", desc := "(II)I" } : Jvm.MethodName)) ∈ lw_all := lw_g (lw_at lw_m6 224 rfl) rfl
theorem q1559 : (Jvm.Cond.selects "GlacierMail" ({ cls := "GlacierMail", name := "range", desc := "(II)I" } : Jvm.MethodName) ({ cls := "GlacierMail", name := "range", desc := "(II)I" } : Jvm.MethodName)) ∈ lw_all := lw_g (lw_at lw_m6 225 rfl) rfl
theorem q1560 : (Jvm.Cond.code ({ cls := "GlacierMail", name := "range", desc := "(II)I" } : Jvm.MethodName) prog_1_method_76_code (4 : Nat) (Option.some Jvm.ClassFile.FieldType.int)) ∈ lw_all := lw_g (lw_at lw_m6 226 rfl) rfl
theorem q1565 : (Jvm.Cond.instanceMethod ({ cls := "GlacierMail", name := "swiftest", desc := "(II)I" } : Jvm.MethodName)) ∈ lw_all := lw_g (lw_at lw_m6 231 rfl) rfl
theorem q1566 : (Jvm.Cond.selects "GlacierMail" ({ cls := "GlacierMail", name := "swiftest", desc := "(II)I" } : Jvm.MethodName) ({ cls := "GlacierMail", name := "swiftest", desc := "(II)I" } : Jvm.MethodName)) ∈ lw_all := lw_g (lw_at lw_m6 232 rfl) rfl
theorem q1567 : (Jvm.Cond.code ({ cls := "GlacierMail", name := "swiftest", desc := "(II)I" } : Jvm.MethodName) prog_1_method_77_code (7 : Nat) (Option.some Jvm.ClassFile.FieldType.int)) ∈ lw_all := lw_g (lw_at lw_m6 233 rfl) rfl
theorem q1572 : (Jvm.Cond.instanceMethod ({ cls := "GlacierMail", name := "bare", desc := "(I)I" } : Jvm.MethodName)) ∈ lw_all := lw_g (lw_at lw_m6 238 rfl) rfl
theorem q1573 : (Jvm.Cond.selects "GlacierMail" ({ cls := "GlacierMail", name := "bare", desc := "(I)I" } : Jvm.MethodName) ({ cls := "GlacierMail", name := "bare", desc := "(I)I" } : Jvm.MethodName)) ∈ lw_all := lw_g (lw_at lw_m6 239 rfl) rfl
theorem q1574 : (Jvm.Cond.code ({ cls := "GlacierMail", name := "bare", desc := "(I)I" } : Jvm.MethodName) prog_1_method_78_code (4 : Nat) (Option.some Jvm.ClassFile.FieldType.int)) ∈ lw_all := lw_g (lw_at lw_m7 0 rfl) rfl
theorem q1579 : (Jvm.Cond.instanceMethod ({ cls := "GlacierMail", name := "log", desc := "(II)I" } : Jvm.MethodName)) ∈ lw_all := lw_g (lw_at lw_m7 5 rfl) rfl
theorem q1580 : (Jvm.Cond.selects "GlacierMail" ({ cls := "GlacierMail", name := "log", desc := "(II)I" } : Jvm.MethodName) ({ cls := "GlacierMail", name := "log", desc := "(II)I" } : Jvm.MethodName)) ∈ lw_all := lw_g (lw_at lw_m7 6 rfl) rfl
theorem q1581 : (Jvm.Cond.code ({ cls := "GlacierMail", name := "log", desc := "(II)I" } : Jvm.MethodName) prog_1_method_79_code (3 : Nat) (Option.some Jvm.ClassFile.FieldType.int)) ∈ lw_all := lw_g (lw_at lw_m7 7 rfl) rfl
theorem q2279 : (Jvm.Cond.castable "GlacierMail" "java/lang/Object") ∈ lw_tbl := lw_at lw_m9 225 rfl
theorem in_X1 : ∀ w ∈ wsX10, w ∈ lw_all := lw_in wsX10 [589, 591, 593, 595, 597, 599, 601, 603, 605, 607, 609, 611, 613, 615, 617, 619] (by decide +kernel) (by decide +kernel)
/-! GlacierMailLaw -/
set_option maxRecDepth 100000
def RX0 : String := "GlacierMailLaw"
abbrev cX0_valley : ByteArray := method_3_code
def yX0_valley : MethodName := ⟨RX0, "valley", "(LGlacierMail;[J)I"⟩
def dkwX0_valley_0 : List UInt8 := [43, 3, 42, 182, 0, 7, 133, 80, 167, 0, 9, 77, 4, 172, 77, 5, 172, 3, 172]
abbrev dktX0_valley_0 : List UInt8 := dkwX0_valley_0 ++ []
theorem dksX0_valley_0 : cX0_valley.data.toList.drop 0 = dktX0_valley_0 := by decide +kernel
theorem dX0_valley_0 : decode cX0_valley 0 = .ok (.aload_n 1, 1) := dk_43 (dk_at dksX0_valley_0 0 rfl rfl)
theorem dX0_valley_1 : decode cX0_valley 1 = .ok (.iconst 0, 1) := dk_3 (dk_at dksX0_valley_0 1 rfl rfl)
theorem dX0_valley_2 : decode cX0_valley 2 = .ok (.aload_n 0, 1) := dk_42 (dk_at dksX0_valley_0 2 rfl rfl)
theorem dX0_valley_3 : decode cX0_valley 3 = .ok (.invokevirtual 7, 3) := dk_182 0 7 (dk_at dksX0_valley_0 3 rfl rfl)
theorem dX0_valley_6 : decode cX0_valley 6 = .ok (.i2l, 1) := dk_133 (dk_at dksX0_valley_0 6 rfl rfl)
theorem dX0_valley_7 : decode cX0_valley 7 = .ok (.lastore, 1) := dk_80 (dk_at dksX0_valley_0 7 rfl rfl)
theorem dX0_valley_8 : decode cX0_valley 8 = .ok (.goto 9, 3) := dk_167 0 9 (dk_at dksX0_valley_0 8 rfl rfl)
theorem dX0_valley_11 : decode cX0_valley 11 = .ok (.astore_n 2, 1) := dk_77 (dk_at dksX0_valley_0 11 rfl rfl)
theorem dX0_valley_12 : decode cX0_valley 12 = .ok (.iconst 1, 1) := dk_4 (dk_at dksX0_valley_0 12 rfl rfl)
theorem dX0_valley_13 : decode cX0_valley 13 = .ok (.ireturn, 1) := dk_172 (dk_at dksX0_valley_0 13 rfl rfl)
theorem dX0_valley_14 : decode cX0_valley 14 = .ok (.astore_n 2, 1) := dk_77 (dk_at dksX0_valley_0 14 rfl rfl)
theorem dX0_valley_15 : decode cX0_valley 15 = .ok (.iconst 2, 1) := dk_5 (dk_at dksX0_valley_0 15 rfl rfl)
theorem dX0_valley_16 : decode cX0_valley 16 = .ok (.ireturn, 1) := dk_172 (dk_at dksX0_valley_0 16 rfl rfl)
theorem dX0_valley_17 : decode cX0_valley 17 = .ok (.iconst 0, 1) := dk_3 (dk_at dksX0_valley_0 17 rfl rfl)
theorem dX0_valley_18 : decode cX0_valley 18 = .ok (.ireturn, 1) := dk_172 (dk_at dksX0_valley_0 18 rfl rfl)
abbrev cX0_law : ByteArray := method_4_code
def yX0_law : MethodName := ⟨RX0, "law", "(LGlacierMail;[J)I"⟩
def dkwX0_law_0 : List UInt8 := [43, 3, 42, 182, 0, 17, 133, 80, 167, 0, 6, 77, 4, 172, 3, 172]
abbrev dktX0_law_0 : List UInt8 := dkwX0_law_0 ++ []
theorem dksX0_law_0 : cX0_law.data.toList.drop 0 = dktX0_law_0 := by decide +kernel
theorem dX0_law_0 : decode cX0_law 0 = .ok (.aload_n 1, 1) := dk_43 (dk_at dksX0_law_0 0 rfl rfl)
theorem dX0_law_1 : decode cX0_law 1 = .ok (.iconst 0, 1) := dk_3 (dk_at dksX0_law_0 1 rfl rfl)
theorem dX0_law_2 : decode cX0_law 2 = .ok (.aload_n 0, 1) := dk_42 (dk_at dksX0_law_0 2 rfl rfl)
theorem dX0_law_3 : decode cX0_law 3 = .ok (.invokevirtual 17, 3) := dk_182 0 17 (dk_at dksX0_law_0 3 rfl rfl)
theorem dX0_law_6 : decode cX0_law 6 = .ok (.i2l, 1) := dk_133 (dk_at dksX0_law_0 6 rfl rfl)
theorem dX0_law_7 : decode cX0_law 7 = .ok (.lastore, 1) := dk_80 (dk_at dksX0_law_0 7 rfl rfl)
theorem dX0_law_8 : decode cX0_law 8 = .ok (.goto 6, 3) := dk_167 0 6 (dk_at dksX0_law_0 8 rfl rfl)
theorem dX0_law_11 : decode cX0_law 11 = .ok (.astore_n 2, 1) := dk_77 (dk_at dksX0_law_0 11 rfl rfl)
theorem dX0_law_12 : decode cX0_law 12 = .ok (.iconst 1, 1) := dk_4 (dk_at dksX0_law_0 12 rfl rfl)
theorem dX0_law_13 : decode cX0_law 13 = .ok (.ireturn, 1) := dk_172 (dk_at dksX0_law_0 13 rfl rfl)
theorem dX0_law_14 : decode cX0_law 14 = .ok (.iconst 0, 1) := dk_3 (dk_at dksX0_law_0 14 rfl rfl)
theorem dX0_law_15 : decode cX0_law 15 = .ok (.ireturn, 1) := dk_172 (dk_at dksX0_law_0 15 rfl rfl)
abbrev cX0_heat : ByteArray := method_5_code
def yX0_heat : MethodName := ⟨RX0, "heat", "(LGlacierMail;I[J)I"⟩
def dkwX0_heat_0 : List UInt8 := [44, 3, 42, 27, 182, 0, 20, 133, 80, 167, 0, 6, 78, 4, 172, 3, 172]
abbrev dktX0_heat_0 : List UInt8 := dkwX0_heat_0 ++ []
theorem dksX0_heat_0 : cX0_heat.data.toList.drop 0 = dktX0_heat_0 := by decide +kernel
theorem dX0_heat_0 : decode cX0_heat 0 = .ok (.aload_n 2, 1) := dk_44 (dk_at dksX0_heat_0 0 rfl rfl)
theorem dX0_heat_1 : decode cX0_heat 1 = .ok (.iconst 0, 1) := dk_3 (dk_at dksX0_heat_0 1 rfl rfl)
theorem dX0_heat_2 : decode cX0_heat 2 = .ok (.aload_n 0, 1) := dk_42 (dk_at dksX0_heat_0 2 rfl rfl)
theorem dX0_heat_3 : decode cX0_heat 3 = .ok (.iload_n 1, 1) := dk_27 (dk_at dksX0_heat_0 3 rfl rfl)
theorem dX0_heat_4 : decode cX0_heat 4 = .ok (.invokevirtual 20, 3) := dk_182 0 20 (dk_at dksX0_heat_0 4 rfl rfl)
theorem dX0_heat_7 : decode cX0_heat 7 = .ok (.i2l, 1) := dk_133 (dk_at dksX0_heat_0 7 rfl rfl)
theorem dX0_heat_8 : decode cX0_heat 8 = .ok (.lastore, 1) := dk_80 (dk_at dksX0_heat_0 8 rfl rfl)
theorem dX0_heat_9 : decode cX0_heat 9 = .ok (.goto 6, 3) := dk_167 0 6 (dk_at dksX0_heat_0 9 rfl rfl)
theorem dX0_heat_12 : decode cX0_heat 12 = .ok (.astore_n 3, 1) := dk_78 (dk_at dksX0_heat_0 12 rfl rfl)
theorem dX0_heat_13 : decode cX0_heat 13 = .ok (.iconst 1, 1) := dk_4 (dk_at dksX0_heat_0 13 rfl rfl)
theorem dX0_heat_14 : decode cX0_heat 14 = .ok (.ireturn, 1) := dk_172 (dk_at dksX0_heat_0 14 rfl rfl)
theorem dX0_heat_15 : decode cX0_heat 15 = .ok (.iconst 0, 1) := dk_3 (dk_at dksX0_heat_0 15 rfl rfl)
theorem dX0_heat_16 : decode cX0_heat 16 = .ok (.ireturn, 1) := dk_172 (dk_at dksX0_heat_0 16 rfl rfl)
abbrev cX0_speed : ByteArray := method_6_code
def yX0_speed : MethodName := ⟨RX0, "speed", "(LGlacierMail;II[J)I"⟩
def dkwX0_speed_0 : List UInt8 := [45, 3, 42, 27, 28, 182, 0, 24, 133, 80, 167, 0, 7, 58, 4, 4, 172, 3, 172]
abbrev dktX0_speed_0 : List UInt8 := dkwX0_speed_0 ++ []
theorem dksX0_speed_0 : cX0_speed.data.toList.drop 0 = dktX0_speed_0 := by decide +kernel
theorem dX0_speed_0 : decode cX0_speed 0 = .ok (.aload_n 3, 1) := dk_45 (dk_at dksX0_speed_0 0 rfl rfl)
theorem dX0_speed_1 : decode cX0_speed 1 = .ok (.iconst 0, 1) := dk_3 (dk_at dksX0_speed_0 1 rfl rfl)
theorem dX0_speed_2 : decode cX0_speed 2 = .ok (.aload_n 0, 1) := dk_42 (dk_at dksX0_speed_0 2 rfl rfl)
theorem dX0_speed_3 : decode cX0_speed 3 = .ok (.iload_n 1, 1) := dk_27 (dk_at dksX0_speed_0 3 rfl rfl)
theorem dX0_speed_4 : decode cX0_speed 4 = .ok (.iload_n 2, 1) := dk_28 (dk_at dksX0_speed_0 4 rfl rfl)
theorem dX0_speed_5 : decode cX0_speed 5 = .ok (.invokevirtual 24, 3) := dk_182 0 24 (dk_at dksX0_speed_0 5 rfl rfl)
theorem dX0_speed_8 : decode cX0_speed 8 = .ok (.i2l, 1) := dk_133 (dk_at dksX0_speed_0 8 rfl rfl)
theorem dX0_speed_9 : decode cX0_speed 9 = .ok (.lastore, 1) := dk_80 (dk_at dksX0_speed_0 9 rfl rfl)
theorem dX0_speed_10 : decode cX0_speed 10 = .ok (.goto 7, 3) := dk_167 0 7 (dk_at dksX0_speed_0 10 rfl rfl)
theorem dX0_speed_13 : decode cX0_speed 13 = .ok (.astore 4, 2) := dk_58 4 (dk_at dksX0_speed_0 13 rfl rfl)
theorem dX0_speed_15 : decode cX0_speed 15 = .ok (.iconst 1, 1) := dk_4 (dk_at dksX0_speed_0 15 rfl rfl)
theorem dX0_speed_16 : decode cX0_speed 16 = .ok (.ireturn, 1) := dk_172 (dk_at dksX0_speed_0 16 rfl rfl)
theorem dX0_speed_17 : decode cX0_speed 17 = .ok (.iconst 0, 1) := dk_3 (dk_at dksX0_speed_0 17 rfl rfl)
theorem dX0_speed_18 : decode cX0_speed 18 = .ok (.ireturn, 1) := dk_172 (dk_at dksX0_speed_0 18 rfl rfl)
abbrev cX0_flow : ByteArray := method_7_code
def yX0_flow : MethodName := ⟨RX0, "flow", "(LGlacierMail;III[J)I"⟩
def dkwX0_flow_1 : List UInt8 := [172]
abbrev dktX0_flow_1 : List UInt8 := dkwX0_flow_1 ++ []
def dkwX0_flow_0 : List UInt8 := [25, 4, 3, 42, 27, 28, 29, 182, 0, 30, 133, 80, 167, 0, 11, 58, 5, 4, 172, 58, 5, 5, 172, 3]
abbrev dktX0_flow_0 : List UInt8 := dkwX0_flow_0 ++ dktX0_flow_1
theorem dksX0_flow_0 : cX0_flow.data.toList.drop 0 = dktX0_flow_0 := by decide +kernel
theorem dksX0_flow_1 : cX0_flow.data.toList.drop 24 = dktX0_flow_1 := dk_seg dksX0_flow_0 24 rfl rfl
theorem dX0_flow_0 : decode cX0_flow 0 = .ok (.aload 4, 2) := dk_25 4 (dk_at dksX0_flow_0 0 rfl rfl)
theorem dX0_flow_2 : decode cX0_flow 2 = .ok (.iconst 0, 1) := dk_3 (dk_at dksX0_flow_0 2 rfl rfl)
theorem dX0_flow_3 : decode cX0_flow 3 = .ok (.aload_n 0, 1) := dk_42 (dk_at dksX0_flow_0 3 rfl rfl)
theorem dX0_flow_4 : decode cX0_flow 4 = .ok (.iload_n 1, 1) := dk_27 (dk_at dksX0_flow_0 4 rfl rfl)
theorem dX0_flow_5 : decode cX0_flow 5 = .ok (.iload_n 2, 1) := dk_28 (dk_at dksX0_flow_0 5 rfl rfl)
theorem dX0_flow_6 : decode cX0_flow 6 = .ok (.iload_n 3, 1) := dk_29 (dk_at dksX0_flow_0 6 rfl rfl)
theorem dX0_flow_7 : decode cX0_flow 7 = .ok (.invokevirtual 30, 3) := dk_182 0 30 (dk_at dksX0_flow_0 7 rfl rfl)
theorem dX0_flow_10 : decode cX0_flow 10 = .ok (.i2l, 1) := dk_133 (dk_at dksX0_flow_0 10 rfl rfl)
theorem dX0_flow_11 : decode cX0_flow 11 = .ok (.lastore, 1) := dk_80 (dk_at dksX0_flow_0 11 rfl rfl)
theorem dX0_flow_12 : decode cX0_flow 12 = .ok (.goto 11, 3) := dk_167 0 11 (dk_at dksX0_flow_0 12 rfl rfl)
theorem dX0_flow_15 : decode cX0_flow 15 = .ok (.astore 5, 2) := dk_58 5 (dk_at dksX0_flow_0 15 rfl rfl)
theorem dX0_flow_17 : decode cX0_flow 17 = .ok (.iconst 1, 1) := dk_4 (dk_at dksX0_flow_0 17 rfl rfl)
theorem dX0_flow_18 : decode cX0_flow 18 = .ok (.ireturn, 1) := dk_172 (dk_at dksX0_flow_0 18 rfl rfl)
theorem dX0_flow_19 : decode cX0_flow 19 = .ok (.astore 5, 2) := dk_58 5 (dk_at dksX0_flow_0 19 rfl rfl)
theorem dX0_flow_21 : decode cX0_flow 21 = .ok (.iconst 2, 1) := dk_5 (dk_at dksX0_flow_0 21 rfl rfl)
theorem dX0_flow_22 : decode cX0_flow 22 = .ok (.ireturn, 1) := dk_172 (dk_at dksX0_flow_0 22 rfl rfl)
theorem dX0_flow_23 : decode cX0_flow 23 = .ok (.iconst 0, 1) := dk_3 (dk_at dksX0_flow_0 23 rfl rfl)
theorem dX0_flow_24 : decode cX0_flow 24 = .ok (.ireturn, 1) := dk_172 (dk_at dksX0_flow_1 0 rfl rfl)
abbrev cX0_person : ByteArray := method_8_code
def yX0_person : MethodName := ⟨RX0, "person", "(LGlacierMail;II[J)I"⟩
def dkwX0_person_0 : List UInt8 := [45, 3, 42, 27, 28, 182, 0, 34, 133, 80, 167, 0, 11, 58, 4, 4, 172, 58, 4, 5, 172, 3, 172]
abbrev dktX0_person_0 : List UInt8 := dkwX0_person_0 ++ []
theorem dksX0_person_0 : cX0_person.data.toList.drop 0 = dktX0_person_0 := by decide +kernel
theorem dX0_person_0 : decode cX0_person 0 = .ok (.aload_n 3, 1) := dk_45 (dk_at dksX0_person_0 0 rfl rfl)
theorem dX0_person_1 : decode cX0_person 1 = .ok (.iconst 0, 1) := dk_3 (dk_at dksX0_person_0 1 rfl rfl)
theorem dX0_person_2 : decode cX0_person 2 = .ok (.aload_n 0, 1) := dk_42 (dk_at dksX0_person_0 2 rfl rfl)
theorem dX0_person_3 : decode cX0_person 3 = .ok (.iload_n 1, 1) := dk_27 (dk_at dksX0_person_0 3 rfl rfl)
theorem dX0_person_4 : decode cX0_person 4 = .ok (.iload_n 2, 1) := dk_28 (dk_at dksX0_person_0 4 rfl rfl)
theorem dX0_person_5 : decode cX0_person 5 = .ok (.invokevirtual 34, 3) := dk_182 0 34 (dk_at dksX0_person_0 5 rfl rfl)
theorem dX0_person_8 : decode cX0_person 8 = .ok (.i2l, 1) := dk_133 (dk_at dksX0_person_0 8 rfl rfl)
theorem dX0_person_9 : decode cX0_person 9 = .ok (.lastore, 1) := dk_80 (dk_at dksX0_person_0 9 rfl rfl)
theorem dX0_person_10 : decode cX0_person 10 = .ok (.goto 11, 3) := dk_167 0 11 (dk_at dksX0_person_0 10 rfl rfl)
theorem dX0_person_13 : decode cX0_person 13 = .ok (.astore 4, 2) := dk_58 4 (dk_at dksX0_person_0 13 rfl rfl)
theorem dX0_person_15 : decode cX0_person 15 = .ok (.iconst 1, 1) := dk_4 (dk_at dksX0_person_0 15 rfl rfl)
theorem dX0_person_16 : decode cX0_person 16 = .ok (.ireturn, 1) := dk_172 (dk_at dksX0_person_0 16 rfl rfl)
theorem dX0_person_17 : decode cX0_person 17 = .ok (.astore 4, 2) := dk_58 4 (dk_at dksX0_person_0 17 rfl rfl)
theorem dX0_person_19 : decode cX0_person 19 = .ok (.iconst 2, 1) := dk_5 (dk_at dksX0_person_0 19 rfl rfl)
theorem dX0_person_20 : decode cX0_person 20 = .ok (.ireturn, 1) := dk_172 (dk_at dksX0_person_0 20 rfl rfl)
theorem dX0_person_21 : decode cX0_person 21 = .ok (.iconst 0, 1) := dk_3 (dk_at dksX0_person_0 21 rfl rfl)
theorem dX0_person_22 : decode cX0_person 22 = .ok (.ireturn, 1) := dk_172 (dk_at dksX0_person_0 22 rfl rfl)
abbrev cX0_letter : ByteArray := method_9_code
def yX0_letter : MethodName := ⟨RX0, "letter", "(LGlacierMail;II[J)I"⟩
def dkwX0_letter_0 : List UInt8 := [45, 3, 42, 27, 28, 182, 0, 39, 133, 80, 167, 0, 11, 58, 4, 4, 172, 58, 4, 5, 172, 3, 172]
abbrev dktX0_letter_0 : List UInt8 := dkwX0_letter_0 ++ []
theorem dksX0_letter_0 : cX0_letter.data.toList.drop 0 = dktX0_letter_0 := by decide +kernel
theorem dX0_letter_0 : decode cX0_letter 0 = .ok (.aload_n 3, 1) := dk_45 (dk_at dksX0_letter_0 0 rfl rfl)
theorem dX0_letter_1 : decode cX0_letter 1 = .ok (.iconst 0, 1) := dk_3 (dk_at dksX0_letter_0 1 rfl rfl)
theorem dX0_letter_2 : decode cX0_letter 2 = .ok (.aload_n 0, 1) := dk_42 (dk_at dksX0_letter_0 2 rfl rfl)
theorem dX0_letter_3 : decode cX0_letter 3 = .ok (.iload_n 1, 1) := dk_27 (dk_at dksX0_letter_0 3 rfl rfl)
theorem dX0_letter_4 : decode cX0_letter 4 = .ok (.iload_n 2, 1) := dk_28 (dk_at dksX0_letter_0 4 rfl rfl)
theorem dX0_letter_5 : decode cX0_letter 5 = .ok (.invokevirtual 39, 3) := dk_182 0 39 (dk_at dksX0_letter_0 5 rfl rfl)
theorem dX0_letter_8 : decode cX0_letter 8 = .ok (.i2l, 1) := dk_133 (dk_at dksX0_letter_0 8 rfl rfl)
theorem dX0_letter_9 : decode cX0_letter 9 = .ok (.lastore, 1) := dk_80 (dk_at dksX0_letter_0 9 rfl rfl)
theorem dX0_letter_10 : decode cX0_letter 10 = .ok (.goto 11, 3) := dk_167 0 11 (dk_at dksX0_letter_0 10 rfl rfl)
theorem dX0_letter_13 : decode cX0_letter 13 = .ok (.astore 4, 2) := dk_58 4 (dk_at dksX0_letter_0 13 rfl rfl)
theorem dX0_letter_15 : decode cX0_letter 15 = .ok (.iconst 1, 1) := dk_4 (dk_at dksX0_letter_0 15 rfl rfl)
theorem dX0_letter_16 : decode cX0_letter 16 = .ok (.ireturn, 1) := dk_172 (dk_at dksX0_letter_0 16 rfl rfl)
theorem dX0_letter_17 : decode cX0_letter 17 = .ok (.astore 4, 2) := dk_58 4 (dk_at dksX0_letter_0 17 rfl rfl)
theorem dX0_letter_19 : decode cX0_letter 19 = .ok (.iconst 2, 1) := dk_5 (dk_at dksX0_letter_0 19 rfl rfl)
theorem dX0_letter_20 : decode cX0_letter 20 = .ok (.ireturn, 1) := dk_172 (dk_at dksX0_letter_0 20 rfl rfl)
theorem dX0_letter_21 : decode cX0_letter 21 = .ok (.iconst 0, 1) := dk_3 (dk_at dksX0_letter_0 21 rfl rfl)
theorem dX0_letter_22 : decode cX0_letter 22 = .ok (.ireturn, 1) := dk_172 (dk_at dksX0_letter_0 22 rfl rfl)
abbrev cX0_where : ByteArray := method_10_code
def yX0_where : MethodName := ⟨RX0, "where", "(LGlacierMail;II[J)I"⟩
def dkwX0_where_0 : List UInt8 := [45, 3, 42, 27, 28, 182, 0, 42, 133, 80, 167, 0, 11, 58, 4, 4, 172, 58, 4, 5, 172, 3, 172]
abbrev dktX0_where_0 : List UInt8 := dkwX0_where_0 ++ []
theorem dksX0_where_0 : cX0_where.data.toList.drop 0 = dktX0_where_0 := by decide +kernel
theorem dX0_where_0 : decode cX0_where 0 = .ok (.aload_n 3, 1) := dk_45 (dk_at dksX0_where_0 0 rfl rfl)
theorem dX0_where_1 : decode cX0_where 1 = .ok (.iconst 0, 1) := dk_3 (dk_at dksX0_where_0 1 rfl rfl)
theorem dX0_where_2 : decode cX0_where 2 = .ok (.aload_n 0, 1) := dk_42 (dk_at dksX0_where_0 2 rfl rfl)
theorem dX0_where_3 : decode cX0_where 3 = .ok (.iload_n 1, 1) := dk_27 (dk_at dksX0_where_0 3 rfl rfl)
theorem dX0_where_4 : decode cX0_where 4 = .ok (.iload_n 2, 1) := dk_28 (dk_at dksX0_where_0 4 rfl rfl)
theorem dX0_where_5 : decode cX0_where 5 = .ok (.invokevirtual 42, 3) := dk_182 0 42 (dk_at dksX0_where_0 5 rfl rfl)
theorem dX0_where_8 : decode cX0_where 8 = .ok (.i2l, 1) := dk_133 (dk_at dksX0_where_0 8 rfl rfl)
theorem dX0_where_9 : decode cX0_where 9 = .ok (.lastore, 1) := dk_80 (dk_at dksX0_where_0 9 rfl rfl)
theorem dX0_where_10 : decode cX0_where 10 = .ok (.goto 11, 3) := dk_167 0 11 (dk_at dksX0_where_0 10 rfl rfl)
theorem dX0_where_13 : decode cX0_where 13 = .ok (.astore 4, 2) := dk_58 4 (dk_at dksX0_where_0 13 rfl rfl)
theorem dX0_where_15 : decode cX0_where 15 = .ok (.iconst 1, 1) := dk_4 (dk_at dksX0_where_0 15 rfl rfl)
theorem dX0_where_16 : decode cX0_where 16 = .ok (.ireturn, 1) := dk_172 (dk_at dksX0_where_0 16 rfl rfl)
theorem dX0_where_17 : decode cX0_where 17 = .ok (.astore 4, 2) := dk_58 4 (dk_at dksX0_where_0 17 rfl rfl)
theorem dX0_where_19 : decode cX0_where 19 = .ok (.iconst 2, 1) := dk_5 (dk_at dksX0_where_0 19 rfl rfl)
theorem dX0_where_20 : decode cX0_where 20 = .ok (.ireturn, 1) := dk_172 (dk_at dksX0_where_0 20 rfl rfl)
theorem dX0_where_21 : decode cX0_where 21 = .ok (.iconst 0, 1) := dk_3 (dk_at dksX0_where_0 21 rfl rfl)
theorem dX0_where_22 : decode cX0_where 22 = .ok (.ireturn, 1) := dk_172 (dk_at dksX0_where_0 22 rfl rfl)
abbrev cX0_deep : ByteArray := method_11_code
def yX0_deep : MethodName := ⟨RX0, "deep", "(LGlacierMail;II[J)I"⟩
def dkwX0_deep_0 : List UInt8 := [45, 3, 42, 27, 28, 182, 0, 45, 133, 80, 167, 0, 11, 58, 4, 4, 172, 58, 4, 5, 172, 3, 172]
abbrev dktX0_deep_0 : List UInt8 := dkwX0_deep_0 ++ []
theorem dksX0_deep_0 : cX0_deep.data.toList.drop 0 = dktX0_deep_0 := by decide +kernel
theorem dX0_deep_0 : decode cX0_deep 0 = .ok (.aload_n 3, 1) := dk_45 (dk_at dksX0_deep_0 0 rfl rfl)
theorem dX0_deep_1 : decode cX0_deep 1 = .ok (.iconst 0, 1) := dk_3 (dk_at dksX0_deep_0 1 rfl rfl)
theorem dX0_deep_2 : decode cX0_deep 2 = .ok (.aload_n 0, 1) := dk_42 (dk_at dksX0_deep_0 2 rfl rfl)
theorem dX0_deep_3 : decode cX0_deep 3 = .ok (.iload_n 1, 1) := dk_27 (dk_at dksX0_deep_0 3 rfl rfl)
theorem dX0_deep_4 : decode cX0_deep 4 = .ok (.iload_n 2, 1) := dk_28 (dk_at dksX0_deep_0 4 rfl rfl)
theorem dX0_deep_5 : decode cX0_deep 5 = .ok (.invokevirtual 45, 3) := dk_182 0 45 (dk_at dksX0_deep_0 5 rfl rfl)
theorem dX0_deep_8 : decode cX0_deep 8 = .ok (.i2l, 1) := dk_133 (dk_at dksX0_deep_0 8 rfl rfl)
theorem dX0_deep_9 : decode cX0_deep 9 = .ok (.lastore, 1) := dk_80 (dk_at dksX0_deep_0 9 rfl rfl)
theorem dX0_deep_10 : decode cX0_deep 10 = .ok (.goto 11, 3) := dk_167 0 11 (dk_at dksX0_deep_0 10 rfl rfl)
theorem dX0_deep_13 : decode cX0_deep 13 = .ok (.astore 4, 2) := dk_58 4 (dk_at dksX0_deep_0 13 rfl rfl)
theorem dX0_deep_15 : decode cX0_deep 15 = .ok (.iconst 1, 1) := dk_4 (dk_at dksX0_deep_0 15 rfl rfl)
theorem dX0_deep_16 : decode cX0_deep 16 = .ok (.ireturn, 1) := dk_172 (dk_at dksX0_deep_0 16 rfl rfl)
theorem dX0_deep_17 : decode cX0_deep 17 = .ok (.astore 4, 2) := dk_58 4 (dk_at dksX0_deep_0 17 rfl rfl)
theorem dX0_deep_19 : decode cX0_deep 19 = .ok (.iconst 2, 1) := dk_5 (dk_at dksX0_deep_0 19 rfl rfl)
theorem dX0_deep_20 : decode cX0_deep 20 = .ok (.ireturn, 1) := dk_172 (dk_at dksX0_deep_0 20 rfl rfl)
theorem dX0_deep_21 : decode cX0_deep 21 = .ok (.iconst 0, 1) := dk_3 (dk_at dksX0_deep_0 21 rfl rfl)
theorem dX0_deep_22 : decode cX0_deep 22 = .ok (.ireturn, 1) := dk_172 (dk_at dksX0_deep_0 22 rfl rfl)
abbrev cX0_post : ByteArray := method_12_code
def yX0_post : MethodName := ⟨RX0, "post", "(LGlacierMail;II[J)I"⟩
def dkwX0_post_1 : List UInt8 := [172, 3, 172]
abbrev dktX0_post_1 : List UInt8 := dkwX0_post_1 ++ []
def dkwX0_post_0 : List UInt8 := [45, 3, 42, 27, 28, 182, 0, 48, 133, 80, 167, 0, 15, 58, 4, 4, 172, 58, 4, 5, 172, 58, 4, 6]
abbrev dktX0_post_0 : List UInt8 := dkwX0_post_0 ++ dktX0_post_1
theorem dksX0_post_0 : cX0_post.data.toList.drop 0 = dktX0_post_0 := by decide +kernel
theorem dksX0_post_1 : cX0_post.data.toList.drop 24 = dktX0_post_1 := dk_seg dksX0_post_0 24 rfl rfl
theorem dX0_post_0 : decode cX0_post 0 = .ok (.aload_n 3, 1) := dk_45 (dk_at dksX0_post_0 0 rfl rfl)
theorem dX0_post_1 : decode cX0_post 1 = .ok (.iconst 0, 1) := dk_3 (dk_at dksX0_post_0 1 rfl rfl)
theorem dX0_post_2 : decode cX0_post 2 = .ok (.aload_n 0, 1) := dk_42 (dk_at dksX0_post_0 2 rfl rfl)
theorem dX0_post_3 : decode cX0_post 3 = .ok (.iload_n 1, 1) := dk_27 (dk_at dksX0_post_0 3 rfl rfl)
theorem dX0_post_4 : decode cX0_post 4 = .ok (.iload_n 2, 1) := dk_28 (dk_at dksX0_post_0 4 rfl rfl)
theorem dX0_post_5 : decode cX0_post 5 = .ok (.invokevirtual 48, 3) := dk_182 0 48 (dk_at dksX0_post_0 5 rfl rfl)
theorem dX0_post_8 : decode cX0_post 8 = .ok (.i2l, 1) := dk_133 (dk_at dksX0_post_0 8 rfl rfl)
theorem dX0_post_9 : decode cX0_post 9 = .ok (.lastore, 1) := dk_80 (dk_at dksX0_post_0 9 rfl rfl)
theorem dX0_post_10 : decode cX0_post 10 = .ok (.goto 15, 3) := dk_167 0 15 (dk_at dksX0_post_0 10 rfl rfl)
theorem dX0_post_13 : decode cX0_post 13 = .ok (.astore 4, 2) := dk_58 4 (dk_at dksX0_post_0 13 rfl rfl)
theorem dX0_post_15 : decode cX0_post 15 = .ok (.iconst 1, 1) := dk_4 (dk_at dksX0_post_0 15 rfl rfl)
theorem dX0_post_16 : decode cX0_post 16 = .ok (.ireturn, 1) := dk_172 (dk_at dksX0_post_0 16 rfl rfl)
theorem dX0_post_17 : decode cX0_post 17 = .ok (.astore 4, 2) := dk_58 4 (dk_at dksX0_post_0 17 rfl rfl)
theorem dX0_post_19 : decode cX0_post 19 = .ok (.iconst 2, 1) := dk_5 (dk_at dksX0_post_0 19 rfl rfl)
theorem dX0_post_20 : decode cX0_post 20 = .ok (.ireturn, 1) := dk_172 (dk_at dksX0_post_0 20 rfl rfl)
theorem dX0_post_21 : decode cX0_post 21 = .ok (.astore 4, 2) := dk_58 4 (dk_at dksX0_post_0 21 rfl rfl)
theorem dX0_post_23 : decode cX0_post 23 = .ok (.iconst 3, 1) := dk_6 (dk_at dksX0_post_0 23 rfl rfl)
theorem dX0_post_24 : decode cX0_post 24 = .ok (.ireturn, 1) := dk_172 (dk_at dksX0_post_1 0 rfl rfl)
theorem dX0_post_25 : decode cX0_post 25 = .ok (.iconst 0, 1) := dk_3 (dk_at dksX0_post_1 1 rfl rfl)
theorem dX0_post_26 : decode cX0_post 26 = .ok (.ireturn, 1) := dk_172 (dk_at dksX0_post_1 2 rfl rfl)
abbrev cX0_watch : ByteArray := method_13_code
def yX0_watch : MethodName := ⟨RX0, "watch", "(LGlacierMail;II[J)I"⟩
def dkwX0_watch_0 : List UInt8 := [45, 3, 42, 27, 28, 182, 0, 51, 133, 80, 167, 0, 7, 58, 4, 4, 172, 3, 172]
abbrev dktX0_watch_0 : List UInt8 := dkwX0_watch_0 ++ []
theorem dksX0_watch_0 : cX0_watch.data.toList.drop 0 = dktX0_watch_0 := by decide +kernel
theorem dX0_watch_0 : decode cX0_watch 0 = .ok (.aload_n 3, 1) := dk_45 (dk_at dksX0_watch_0 0 rfl rfl)
theorem dX0_watch_1 : decode cX0_watch 1 = .ok (.iconst 0, 1) := dk_3 (dk_at dksX0_watch_0 1 rfl rfl)
theorem dX0_watch_2 : decode cX0_watch 2 = .ok (.aload_n 0, 1) := dk_42 (dk_at dksX0_watch_0 2 rfl rfl)
theorem dX0_watch_3 : decode cX0_watch 3 = .ok (.iload_n 1, 1) := dk_27 (dk_at dksX0_watch_0 3 rfl rfl)
theorem dX0_watch_4 : decode cX0_watch 4 = .ok (.iload_n 2, 1) := dk_28 (dk_at dksX0_watch_0 4 rfl rfl)
theorem dX0_watch_5 : decode cX0_watch 5 = .ok (.invokevirtual 51, 3) := dk_182 0 51 (dk_at dksX0_watch_0 5 rfl rfl)
theorem dX0_watch_8 : decode cX0_watch 8 = .ok (.i2l, 1) := dk_133 (dk_at dksX0_watch_0 8 rfl rfl)
theorem dX0_watch_9 : decode cX0_watch 9 = .ok (.lastore, 1) := dk_80 (dk_at dksX0_watch_0 9 rfl rfl)
theorem dX0_watch_10 : decode cX0_watch 10 = .ok (.goto 7, 3) := dk_167 0 7 (dk_at dksX0_watch_0 10 rfl rfl)
theorem dX0_watch_13 : decode cX0_watch 13 = .ok (.astore 4, 2) := dk_58 4 (dk_at dksX0_watch_0 13 rfl rfl)
theorem dX0_watch_15 : decode cX0_watch 15 = .ok (.iconst 1, 1) := dk_4 (dk_at dksX0_watch_0 15 rfl rfl)
theorem dX0_watch_16 : decode cX0_watch 16 = .ok (.ireturn, 1) := dk_172 (dk_at dksX0_watch_0 16 rfl rfl)
theorem dX0_watch_17 : decode cX0_watch 17 = .ok (.iconst 0, 1) := dk_3 (dk_at dksX0_watch_0 17 rfl rfl)
theorem dX0_watch_18 : decode cX0_watch 18 = .ok (.ireturn, 1) := dk_172 (dk_at dksX0_watch_0 18 rfl rfl)
abbrev cX0_open : ByteArray := method_14_code
def yX0_open : MethodName := ⟨RX0, "open", "(LGlacierMail;I[J)I"⟩
def dkwX0_open_0 : List UInt8 := [44, 3, 42, 27, 182, 0, 54, 133, 80, 167, 0, 9, 78, 4, 172, 78, 5, 172, 3, 172]
abbrev dktX0_open_0 : List UInt8 := dkwX0_open_0 ++ []
theorem dksX0_open_0 : cX0_open.data.toList.drop 0 = dktX0_open_0 := by decide +kernel
theorem dX0_open_0 : decode cX0_open 0 = .ok (.aload_n 2, 1) := dk_44 (dk_at dksX0_open_0 0 rfl rfl)
theorem dX0_open_1 : decode cX0_open 1 = .ok (.iconst 0, 1) := dk_3 (dk_at dksX0_open_0 1 rfl rfl)
theorem dX0_open_2 : decode cX0_open 2 = .ok (.aload_n 0, 1) := dk_42 (dk_at dksX0_open_0 2 rfl rfl)
theorem dX0_open_3 : decode cX0_open 3 = .ok (.iload_n 1, 1) := dk_27 (dk_at dksX0_open_0 3 rfl rfl)
theorem dX0_open_4 : decode cX0_open 4 = .ok (.invokevirtual 54, 3) := dk_182 0 54 (dk_at dksX0_open_0 4 rfl rfl)
theorem dX0_open_7 : decode cX0_open 7 = .ok (.i2l, 1) := dk_133 (dk_at dksX0_open_0 7 rfl rfl)
theorem dX0_open_8 : decode cX0_open 8 = .ok (.lastore, 1) := dk_80 (dk_at dksX0_open_0 8 rfl rfl)
theorem dX0_open_9 : decode cX0_open 9 = .ok (.goto 9, 3) := dk_167 0 9 (dk_at dksX0_open_0 9 rfl rfl)
theorem dX0_open_12 : decode cX0_open 12 = .ok (.astore_n 3, 1) := dk_78 (dk_at dksX0_open_0 12 rfl rfl)
theorem dX0_open_13 : decode cX0_open 13 = .ok (.iconst 1, 1) := dk_4 (dk_at dksX0_open_0 13 rfl rfl)
theorem dX0_open_14 : decode cX0_open 14 = .ok (.ireturn, 1) := dk_172 (dk_at dksX0_open_0 14 rfl rfl)
theorem dX0_open_15 : decode cX0_open 15 = .ok (.astore_n 3, 1) := dk_78 (dk_at dksX0_open_0 15 rfl rfl)
theorem dX0_open_16 : decode cX0_open 16 = .ok (.iconst 2, 1) := dk_5 (dk_at dksX0_open_0 16 rfl rfl)
theorem dX0_open_17 : decode cX0_open 17 = .ok (.ireturn, 1) := dk_172 (dk_at dksX0_open_0 17 rfl rfl)
theorem dX0_open_18 : decode cX0_open 18 = .ok (.iconst 0, 1) := dk_3 (dk_at dksX0_open_0 18 rfl rfl)
theorem dX0_open_19 : decode cX0_open 19 = .ok (.ireturn, 1) := dk_172 (dk_at dksX0_open_0 19 rfl rfl)
abbrev cX0_years : ByteArray := method_15_code
def yX0_years : MethodName := ⟨RX0, "years", "(LGlacierMail;I[J)I"⟩
def dkwX0_years_0 : List UInt8 := [44, 3, 42, 27, 182, 0, 59, 133, 80, 167, 0, 6, 78, 4, 172, 3, 172]
abbrev dktX0_years_0 : List UInt8 := dkwX0_years_0 ++ []
theorem dksX0_years_0 : cX0_years.data.toList.drop 0 = dktX0_years_0 := by decide +kernel
theorem dX0_years_0 : decode cX0_years 0 = .ok (.aload_n 2, 1) := dk_44 (dk_at dksX0_years_0 0 rfl rfl)
theorem dX0_years_1 : decode cX0_years 1 = .ok (.iconst 0, 1) := dk_3 (dk_at dksX0_years_0 1 rfl rfl)
theorem dX0_years_2 : decode cX0_years 2 = .ok (.aload_n 0, 1) := dk_42 (dk_at dksX0_years_0 2 rfl rfl)
theorem dX0_years_3 : decode cX0_years 3 = .ok (.iload_n 1, 1) := dk_27 (dk_at dksX0_years_0 3 rfl rfl)
theorem dX0_years_4 : decode cX0_years 4 = .ok (.invokevirtual 59, 3) := dk_182 0 59 (dk_at dksX0_years_0 4 rfl rfl)
theorem dX0_years_7 : decode cX0_years 7 = .ok (.i2l, 1) := dk_133 (dk_at dksX0_years_0 7 rfl rfl)
theorem dX0_years_8 : decode cX0_years 8 = .ok (.lastore, 1) := dk_80 (dk_at dksX0_years_0 8 rfl rfl)
theorem dX0_years_9 : decode cX0_years 9 = .ok (.goto 6, 3) := dk_167 0 6 (dk_at dksX0_years_0 9 rfl rfl)
theorem dX0_years_12 : decode cX0_years 12 = .ok (.astore_n 3, 1) := dk_78 (dk_at dksX0_years_0 12 rfl rfl)
theorem dX0_years_13 : decode cX0_years 13 = .ok (.iconst 1, 1) := dk_4 (dk_at dksX0_years_0 13 rfl rfl)
theorem dX0_years_14 : decode cX0_years 14 = .ok (.ireturn, 1) := dk_172 (dk_at dksX0_years_0 14 rfl rfl)
theorem dX0_years_15 : decode cX0_years 15 = .ok (.iconst 0, 1) := dk_3 (dk_at dksX0_years_0 15 rfl rfl)
theorem dX0_years_16 : decode cX0_years 16 = .ok (.ireturn, 1) := dk_172 (dk_at dksX0_years_0 16 rfl rfl)
abbrev cX0_throwsFor : ByteArray := method_16_code
def yX0_throwsFor : MethodName := ⟨RX0, "throwsFor", "(LGlacierMail;IIII[J)I"⟩
def dkwX0_throwsFor_1 : List UInt8 := [172, 58, 6, 6, 172, 3, 172]
abbrev dktX0_throwsFor_1 : List UInt8 := dkwX0_throwsFor_1 ++ []
def dkwX0_throwsFor_0 : List UInt8 := [25, 5, 3, 42, 27, 28, 29, 21, 4, 182, 0, 62, 133, 80, 167, 0, 15, 58, 6, 4, 172, 58, 6, 5]
abbrev dktX0_throwsFor_0 : List UInt8 := dkwX0_throwsFor_0 ++ dktX0_throwsFor_1
theorem dksX0_throwsFor_0 : cX0_throwsFor.data.toList.drop 0 = dktX0_throwsFor_0 := by decide +kernel
theorem dksX0_throwsFor_1 : cX0_throwsFor.data.toList.drop 24 = dktX0_throwsFor_1 := dk_seg dksX0_throwsFor_0 24 rfl rfl
theorem dX0_throwsFor_0 : decode cX0_throwsFor 0 = .ok (.aload 5, 2) := dk_25 5 (dk_at dksX0_throwsFor_0 0 rfl rfl)
theorem dX0_throwsFor_2 : decode cX0_throwsFor 2 = .ok (.iconst 0, 1) := dk_3 (dk_at dksX0_throwsFor_0 2 rfl rfl)
theorem dX0_throwsFor_3 : decode cX0_throwsFor 3 = .ok (.aload_n 0, 1) := dk_42 (dk_at dksX0_throwsFor_0 3 rfl rfl)
theorem dX0_throwsFor_4 : decode cX0_throwsFor 4 = .ok (.iload_n 1, 1) := dk_27 (dk_at dksX0_throwsFor_0 4 rfl rfl)
theorem dX0_throwsFor_5 : decode cX0_throwsFor 5 = .ok (.iload_n 2, 1) := dk_28 (dk_at dksX0_throwsFor_0 5 rfl rfl)
theorem dX0_throwsFor_6 : decode cX0_throwsFor 6 = .ok (.iload_n 3, 1) := dk_29 (dk_at dksX0_throwsFor_0 6 rfl rfl)
theorem dX0_throwsFor_7 : decode cX0_throwsFor 7 = .ok (.iload 4, 2) := dk_21 4 (dk_at dksX0_throwsFor_0 7 rfl rfl)
theorem dX0_throwsFor_9 : decode cX0_throwsFor 9 = .ok (.invokevirtual 62, 3) := dk_182 0 62 (dk_at dksX0_throwsFor_0 9 rfl rfl)
theorem dX0_throwsFor_12 : decode cX0_throwsFor 12 = .ok (.i2l, 1) := dk_133 (dk_at dksX0_throwsFor_0 12 rfl rfl)
theorem dX0_throwsFor_13 : decode cX0_throwsFor 13 = .ok (.lastore, 1) := dk_80 (dk_at dksX0_throwsFor_0 13 rfl rfl)
theorem dX0_throwsFor_14 : decode cX0_throwsFor 14 = .ok (.goto 15, 3) := dk_167 0 15 (dk_at dksX0_throwsFor_0 14 rfl rfl)
theorem dX0_throwsFor_17 : decode cX0_throwsFor 17 = .ok (.astore 6, 2) := dk_58 6 (dk_at dksX0_throwsFor_0 17 rfl rfl)
theorem dX0_throwsFor_19 : decode cX0_throwsFor 19 = .ok (.iconst 1, 1) := dk_4 (dk_at dksX0_throwsFor_0 19 rfl rfl)
theorem dX0_throwsFor_20 : decode cX0_throwsFor 20 = .ok (.ireturn, 1) := dk_172 (dk_at dksX0_throwsFor_0 20 rfl rfl)
theorem dX0_throwsFor_21 : decode cX0_throwsFor 21 = .ok (.astore 6, 2) := dk_58 6 (dk_at dksX0_throwsFor_0 21 rfl rfl)
theorem dX0_throwsFor_23 : decode cX0_throwsFor 23 = .ok (.iconst 2, 1) := dk_5 (dk_at dksX0_throwsFor_0 23 rfl rfl)
theorem dX0_throwsFor_24 : decode cX0_throwsFor 24 = .ok (.ireturn, 1) := dk_172 (dk_at dksX0_throwsFor_1 0 rfl rfl)
theorem dX0_throwsFor_25 : decode cX0_throwsFor 25 = .ok (.astore 6, 2) := dk_58 6 (dk_at dksX0_throwsFor_1 1 rfl rfl)
theorem dX0_throwsFor_27 : decode cX0_throwsFor 27 = .ok (.iconst 3, 1) := dk_6 (dk_at dksX0_throwsFor_1 3 rfl rfl)
theorem dX0_throwsFor_28 : decode cX0_throwsFor 28 = .ok (.ireturn, 1) := dk_172 (dk_at dksX0_throwsFor_1 4 rfl rfl)
theorem dX0_throwsFor_29 : decode cX0_throwsFor 29 = .ok (.iconst 0, 1) := dk_3 (dk_at dksX0_throwsFor_1 5 rfl rfl)
theorem dX0_throwsFor_30 : decode cX0_throwsFor 30 = .ok (.ireturn, 1) := dk_172 (dk_at dksX0_throwsFor_1 6 rfl rfl)
abbrev cX0_latest : ByteArray := method_17_code
def yX0_latest : MethodName := ⟨RX0, "latest", "(LGlacierMail;II[J)I"⟩
def dkwX0_latest_0 : List UInt8 := [45, 3, 42, 27, 28, 182, 0, 66, 133, 80, 167, 0, 11, 58, 4, 4, 172, 58, 4, 5, 172, 3, 172]
abbrev dktX0_latest_0 : List UInt8 := dkwX0_latest_0 ++ []
theorem dksX0_latest_0 : cX0_latest.data.toList.drop 0 = dktX0_latest_0 := by decide +kernel
theorem dX0_latest_0 : decode cX0_latest 0 = .ok (.aload_n 3, 1) := dk_45 (dk_at dksX0_latest_0 0 rfl rfl)
theorem dX0_latest_1 : decode cX0_latest 1 = .ok (.iconst 0, 1) := dk_3 (dk_at dksX0_latest_0 1 rfl rfl)
theorem dX0_latest_2 : decode cX0_latest 2 = .ok (.aload_n 0, 1) := dk_42 (dk_at dksX0_latest_0 2 rfl rfl)
theorem dX0_latest_3 : decode cX0_latest 3 = .ok (.iload_n 1, 1) := dk_27 (dk_at dksX0_latest_0 3 rfl rfl)
theorem dX0_latest_4 : decode cX0_latest 4 = .ok (.iload_n 2, 1) := dk_28 (dk_at dksX0_latest_0 4 rfl rfl)
theorem dX0_latest_5 : decode cX0_latest 5 = .ok (.invokevirtual 66, 3) := dk_182 0 66 (dk_at dksX0_latest_0 5 rfl rfl)
theorem dX0_latest_8 : decode cX0_latest 8 = .ok (.i2l, 1) := dk_133 (dk_at dksX0_latest_0 8 rfl rfl)
theorem dX0_latest_9 : decode cX0_latest 9 = .ok (.lastore, 1) := dk_80 (dk_at dksX0_latest_0 9 rfl rfl)
theorem dX0_latest_10 : decode cX0_latest 10 = .ok (.goto 11, 3) := dk_167 0 11 (dk_at dksX0_latest_0 10 rfl rfl)
theorem dX0_latest_13 : decode cX0_latest 13 = .ok (.astore 4, 2) := dk_58 4 (dk_at dksX0_latest_0 13 rfl rfl)
theorem dX0_latest_15 : decode cX0_latest 15 = .ok (.iconst 1, 1) := dk_4 (dk_at dksX0_latest_0 15 rfl rfl)
theorem dX0_latest_16 : decode cX0_latest 16 = .ok (.ireturn, 1) := dk_172 (dk_at dksX0_latest_0 16 rfl rfl)
theorem dX0_latest_17 : decode cX0_latest 17 = .ok (.astore 4, 2) := dk_58 4 (dk_at dksX0_latest_0 17 rfl rfl)
theorem dX0_latest_19 : decode cX0_latest 19 = .ok (.iconst 2, 1) := dk_5 (dk_at dksX0_latest_0 19 rfl rfl)
theorem dX0_latest_20 : decode cX0_latest 20 = .ok (.ireturn, 1) := dk_172 (dk_at dksX0_latest_0 20 rfl rfl)
theorem dX0_latest_21 : decode cX0_latest 21 = .ok (.iconst 0, 1) := dk_3 (dk_at dksX0_latest_0 21 rfl rfl)
theorem dX0_latest_22 : decode cX0_latest 22 = .ok (.ireturn, 1) := dk_172 (dk_at dksX0_latest_0 22 rfl rfl)
abbrev cX0_hut : ByteArray := method_18_code
def yX0_hut : MethodName := ⟨RX0, "hut", "(LGlacierMail;II[J)I"⟩
def dkwX0_hut_0 : List UInt8 := [45, 3, 42, 27, 28, 182, 0, 69, 133, 80, 167, 0, 11, 58, 4, 4, 172, 58, 4, 5, 172, 3, 172]
abbrev dktX0_hut_0 : List UInt8 := dkwX0_hut_0 ++ []
theorem dksX0_hut_0 : cX0_hut.data.toList.drop 0 = dktX0_hut_0 := by decide +kernel
theorem dX0_hut_0 : decode cX0_hut 0 = .ok (.aload_n 3, 1) := dk_45 (dk_at dksX0_hut_0 0 rfl rfl)
theorem dX0_hut_1 : decode cX0_hut 1 = .ok (.iconst 0, 1) := dk_3 (dk_at dksX0_hut_0 1 rfl rfl)
theorem dX0_hut_2 : decode cX0_hut 2 = .ok (.aload_n 0, 1) := dk_42 (dk_at dksX0_hut_0 2 rfl rfl)
theorem dX0_hut_3 : decode cX0_hut 3 = .ok (.iload_n 1, 1) := dk_27 (dk_at dksX0_hut_0 3 rfl rfl)
theorem dX0_hut_4 : decode cX0_hut 4 = .ok (.iload_n 2, 1) := dk_28 (dk_at dksX0_hut_0 4 rfl rfl)
theorem dX0_hut_5 : decode cX0_hut 5 = .ok (.invokevirtual 69, 3) := dk_182 0 69 (dk_at dksX0_hut_0 5 rfl rfl)
theorem dX0_hut_8 : decode cX0_hut 8 = .ok (.i2l, 1) := dk_133 (dk_at dksX0_hut_0 8 rfl rfl)
theorem dX0_hut_9 : decode cX0_hut 9 = .ok (.lastore, 1) := dk_80 (dk_at dksX0_hut_0 9 rfl rfl)
theorem dX0_hut_10 : decode cX0_hut 10 = .ok (.goto 11, 3) := dk_167 0 11 (dk_at dksX0_hut_0 10 rfl rfl)
theorem dX0_hut_13 : decode cX0_hut 13 = .ok (.astore 4, 2) := dk_58 4 (dk_at dksX0_hut_0 13 rfl rfl)
theorem dX0_hut_15 : decode cX0_hut 15 = .ok (.iconst 1, 1) := dk_4 (dk_at dksX0_hut_0 15 rfl rfl)
theorem dX0_hut_16 : decode cX0_hut 16 = .ok (.ireturn, 1) := dk_172 (dk_at dksX0_hut_0 16 rfl rfl)
theorem dX0_hut_17 : decode cX0_hut 17 = .ok (.astore 4, 2) := dk_58 4 (dk_at dksX0_hut_0 17 rfl rfl)
theorem dX0_hut_19 : decode cX0_hut 19 = .ok (.iconst 2, 1) := dk_5 (dk_at dksX0_hut_0 19 rfl rfl)
theorem dX0_hut_20 : decode cX0_hut 20 = .ok (.ireturn, 1) := dk_172 (dk_at dksX0_hut_0 20 rfl rfl)
theorem dX0_hut_21 : decode cX0_hut 21 = .ok (.iconst 0, 1) := dk_3 (dk_at dksX0_hut_0 21 rfl rfl)
theorem dX0_hut_22 : decode cX0_hut 22 = .ok (.ireturn, 1) := dk_172 (dk_at dksX0_hut_0 22 rfl rfl)
abbrev cX0_without : ByteArray := method_19_code
def yX0_without : MethodName := ⟨RX0, "without", "(LGlacierMail;II[J)I"⟩
def dkwX0_without_0 : List UInt8 := [45, 3, 42, 27, 28, 182, 0, 72, 133, 80, 167, 0, 7, 58, 4, 4, 172, 3, 172]
abbrev dktX0_without_0 : List UInt8 := dkwX0_without_0 ++ []
theorem dksX0_without_0 : cX0_without.data.toList.drop 0 = dktX0_without_0 := by decide +kernel
theorem dX0_without_0 : decode cX0_without 0 = .ok (.aload_n 3, 1) := dk_45 (dk_at dksX0_without_0 0 rfl rfl)
theorem dX0_without_1 : decode cX0_without 1 = .ok (.iconst 0, 1) := dk_3 (dk_at dksX0_without_0 1 rfl rfl)
theorem dX0_without_2 : decode cX0_without 2 = .ok (.aload_n 0, 1) := dk_42 (dk_at dksX0_without_0 2 rfl rfl)
theorem dX0_without_3 : decode cX0_without 3 = .ok (.iload_n 1, 1) := dk_27 (dk_at dksX0_without_0 3 rfl rfl)
theorem dX0_without_4 : decode cX0_without 4 = .ok (.iload_n 2, 1) := dk_28 (dk_at dksX0_without_0 4 rfl rfl)
theorem dX0_without_5 : decode cX0_without 5 = .ok (.invokevirtual 72, 3) := dk_182 0 72 (dk_at dksX0_without_0 5 rfl rfl)
theorem dX0_without_8 : decode cX0_without 8 = .ok (.i2l, 1) := dk_133 (dk_at dksX0_without_0 8 rfl rfl)
theorem dX0_without_9 : decode cX0_without 9 = .ok (.lastore, 1) := dk_80 (dk_at dksX0_without_0 9 rfl rfl)
theorem dX0_without_10 : decode cX0_without 10 = .ok (.goto 7, 3) := dk_167 0 7 (dk_at dksX0_without_0 10 rfl rfl)
theorem dX0_without_13 : decode cX0_without 13 = .ok (.astore 4, 2) := dk_58 4 (dk_at dksX0_without_0 13 rfl rfl)
theorem dX0_without_15 : decode cX0_without 15 = .ok (.iconst 1, 1) := dk_4 (dk_at dksX0_without_0 15 rfl rfl)
theorem dX0_without_16 : decode cX0_without 16 = .ok (.ireturn, 1) := dk_172 (dk_at dksX0_without_0 16 rfl rfl)
theorem dX0_without_17 : decode cX0_without 17 = .ok (.iconst 0, 1) := dk_3 (dk_at dksX0_without_0 17 rfl rfl)
theorem dX0_without_18 : decode cX0_without 18 = .ok (.ireturn, 1) := dk_172 (dk_at dksX0_without_0 18 rfl rfl)
abbrev cX0_moved : ByteArray := method_20_code
def yX0_moved : MethodName := ⟨RX0, "moved", "(LGlacierMail;I[J)I"⟩
def dkwX0_moved_0 : List UInt8 := [44, 3, 42, 27, 182, 0, 75, 133, 80, 167, 0, 6, 78, 4, 172, 3, 172]
abbrev dktX0_moved_0 : List UInt8 := dkwX0_moved_0 ++ []
theorem dksX0_moved_0 : cX0_moved.data.toList.drop 0 = dktX0_moved_0 := by decide +kernel
theorem dX0_moved_0 : decode cX0_moved 0 = .ok (.aload_n 2, 1) := dk_44 (dk_at dksX0_moved_0 0 rfl rfl)
theorem dX0_moved_1 : decode cX0_moved 1 = .ok (.iconst 0, 1) := dk_3 (dk_at dksX0_moved_0 1 rfl rfl)
theorem dX0_moved_2 : decode cX0_moved 2 = .ok (.aload_n 0, 1) := dk_42 (dk_at dksX0_moved_0 2 rfl rfl)
theorem dX0_moved_3 : decode cX0_moved 3 = .ok (.iload_n 1, 1) := dk_27 (dk_at dksX0_moved_0 3 rfl rfl)
theorem dX0_moved_4 : decode cX0_moved 4 = .ok (.invokevirtual 75, 3) := dk_182 0 75 (dk_at dksX0_moved_0 4 rfl rfl)
theorem dX0_moved_7 : decode cX0_moved 7 = .ok (.i2l, 1) := dk_133 (dk_at dksX0_moved_0 7 rfl rfl)
theorem dX0_moved_8 : decode cX0_moved 8 = .ok (.lastore, 1) := dk_80 (dk_at dksX0_moved_0 8 rfl rfl)
theorem dX0_moved_9 : decode cX0_moved 9 = .ok (.goto 6, 3) := dk_167 0 6 (dk_at dksX0_moved_0 9 rfl rfl)
theorem dX0_moved_12 : decode cX0_moved 12 = .ok (.astore_n 3, 1) := dk_78 (dk_at dksX0_moved_0 12 rfl rfl)
theorem dX0_moved_13 : decode cX0_moved 13 = .ok (.iconst 1, 1) := dk_4 (dk_at dksX0_moved_0 13 rfl rfl)
theorem dX0_moved_14 : decode cX0_moved 14 = .ok (.ireturn, 1) := dk_172 (dk_at dksX0_moved_0 14 rfl rfl)
theorem dX0_moved_15 : decode cX0_moved 15 = .ok (.iconst 0, 1) := dk_3 (dk_at dksX0_moved_0 15 rfl rfl)
theorem dX0_moved_16 : decode cX0_moved 16 = .ok (.ireturn, 1) := dk_172 (dk_at dksX0_moved_0 16 rfl rfl)
abbrev cX0_passes : ByteArray := method_21_code
def yX0_passes : MethodName := ⟨RX0, "passes", "(LGlacierMail;I[J)I"⟩
def dkwX0_passes_0 : List UInt8 := [44, 3, 42, 27, 182, 0, 78, 133, 80, 167, 0, 6, 78, 4, 172, 3, 172]
abbrev dktX0_passes_0 : List UInt8 := dkwX0_passes_0 ++ []
theorem dksX0_passes_0 : cX0_passes.data.toList.drop 0 = dktX0_passes_0 := by decide +kernel
theorem dX0_passes_0 : decode cX0_passes 0 = .ok (.aload_n 2, 1) := dk_44 (dk_at dksX0_passes_0 0 rfl rfl)
theorem dX0_passes_1 : decode cX0_passes 1 = .ok (.iconst 0, 1) := dk_3 (dk_at dksX0_passes_0 1 rfl rfl)
theorem dX0_passes_2 : decode cX0_passes 2 = .ok (.aload_n 0, 1) := dk_42 (dk_at dksX0_passes_0 2 rfl rfl)
theorem dX0_passes_3 : decode cX0_passes 3 = .ok (.iload_n 1, 1) := dk_27 (dk_at dksX0_passes_0 3 rfl rfl)
theorem dX0_passes_4 : decode cX0_passes 4 = .ok (.invokevirtual 78, 3) := dk_182 0 78 (dk_at dksX0_passes_0 4 rfl rfl)
theorem dX0_passes_7 : decode cX0_passes 7 = .ok (.i2l, 1) := dk_133 (dk_at dksX0_passes_0 7 rfl rfl)
theorem dX0_passes_8 : decode cX0_passes 8 = .ok (.lastore, 1) := dk_80 (dk_at dksX0_passes_0 8 rfl rfl)
theorem dX0_passes_9 : decode cX0_passes 9 = .ok (.goto 6, 3) := dk_167 0 6 (dk_at dksX0_passes_0 9 rfl rfl)
theorem dX0_passes_12 : decode cX0_passes 12 = .ok (.astore_n 3, 1) := dk_78 (dk_at dksX0_passes_0 12 rfl rfl)
theorem dX0_passes_13 : decode cX0_passes 13 = .ok (.iconst 1, 1) := dk_4 (dk_at dksX0_passes_0 13 rfl rfl)
theorem dX0_passes_14 : decode cX0_passes 14 = .ok (.ireturn, 1) := dk_172 (dk_at dksX0_passes_0 14 rfl rfl)
theorem dX0_passes_15 : decode cX0_passes 15 = .ok (.iconst 0, 1) := dk_3 (dk_at dksX0_passes_0 15 rfl rfl)
theorem dX0_passes_16 : decode cX0_passes 16 = .ok (.ireturn, 1) := dk_172 (dk_at dksX0_passes_0 16 rfl rfl)
abbrev cX0_writers : ByteArray := method_22_code
def yX0_writers : MethodName := ⟨RX0, "writers", "(LGlacierMail;III[J)I"⟩
def dkwX0_writers_1 : List UInt8 := [172]
abbrev dktX0_writers_1 : List UInt8 := dkwX0_writers_1 ++ []
def dkwX0_writers_0 : List UInt8 := [25, 4, 3, 42, 27, 28, 29, 182, 0, 81, 133, 80, 167, 0, 11, 58, 5, 4, 172, 58, 5, 5, 172, 3]
abbrev dktX0_writers_0 : List UInt8 := dkwX0_writers_0 ++ dktX0_writers_1
theorem dksX0_writers_0 : cX0_writers.data.toList.drop 0 = dktX0_writers_0 := by decide +kernel
theorem dksX0_writers_1 : cX0_writers.data.toList.drop 24 = dktX0_writers_1 := dk_seg dksX0_writers_0 24 rfl rfl
theorem dX0_writers_0 : decode cX0_writers 0 = .ok (.aload 4, 2) := dk_25 4 (dk_at dksX0_writers_0 0 rfl rfl)
theorem dX0_writers_2 : decode cX0_writers 2 = .ok (.iconst 0, 1) := dk_3 (dk_at dksX0_writers_0 2 rfl rfl)
theorem dX0_writers_3 : decode cX0_writers 3 = .ok (.aload_n 0, 1) := dk_42 (dk_at dksX0_writers_0 3 rfl rfl)
theorem dX0_writers_4 : decode cX0_writers 4 = .ok (.iload_n 1, 1) := dk_27 (dk_at dksX0_writers_0 4 rfl rfl)
theorem dX0_writers_5 : decode cX0_writers 5 = .ok (.iload_n 2, 1) := dk_28 (dk_at dksX0_writers_0 5 rfl rfl)
theorem dX0_writers_6 : decode cX0_writers 6 = .ok (.iload_n 3, 1) := dk_29 (dk_at dksX0_writers_0 6 rfl rfl)
theorem dX0_writers_7 : decode cX0_writers 7 = .ok (.invokevirtual 81, 3) := dk_182 0 81 (dk_at dksX0_writers_0 7 rfl rfl)
theorem dX0_writers_10 : decode cX0_writers 10 = .ok (.i2l, 1) := dk_133 (dk_at dksX0_writers_0 10 rfl rfl)
theorem dX0_writers_11 : decode cX0_writers 11 = .ok (.lastore, 1) := dk_80 (dk_at dksX0_writers_0 11 rfl rfl)
theorem dX0_writers_12 : decode cX0_writers 12 = .ok (.goto 11, 3) := dk_167 0 11 (dk_at dksX0_writers_0 12 rfl rfl)
theorem dX0_writers_15 : decode cX0_writers 15 = .ok (.astore 5, 2) := dk_58 5 (dk_at dksX0_writers_0 15 rfl rfl)
theorem dX0_writers_17 : decode cX0_writers 17 = .ok (.iconst 1, 1) := dk_4 (dk_at dksX0_writers_0 17 rfl rfl)
theorem dX0_writers_18 : decode cX0_writers 18 = .ok (.ireturn, 1) := dk_172 (dk_at dksX0_writers_0 18 rfl rfl)
theorem dX0_writers_19 : decode cX0_writers 19 = .ok (.astore 5, 2) := dk_58 5 (dk_at dksX0_writers_0 19 rfl rfl)
theorem dX0_writers_21 : decode cX0_writers 21 = .ok (.iconst 2, 1) := dk_5 (dk_at dksX0_writers_0 21 rfl rfl)
theorem dX0_writers_22 : decode cX0_writers 22 = .ok (.ireturn, 1) := dk_172 (dk_at dksX0_writers_0 22 rfl rfl)
theorem dX0_writers_23 : decode cX0_writers 23 = .ok (.iconst 0, 1) := dk_3 (dk_at dksX0_writers_0 23 rfl rfl)
theorem dX0_writers_24 : decode cX0_writers 24 = .ok (.ireturn, 1) := dk_172 (dk_at dksX0_writers_1 0 rfl rfl)
abbrev cX0_wrote : ByteArray := method_23_code
def yX0_wrote : MethodName := ⟨RX0, "wrote", "(LGlacierMail;IIII[J)I"⟩
def dkwX0_wrote_1 : List UInt8 := [172, 3, 172]
abbrev dktX0_wrote_1 : List UInt8 := dkwX0_wrote_1 ++ []
def dkwX0_wrote_0 : List UInt8 := [25, 5, 3, 42, 27, 28, 29, 21, 4, 182, 0, 84, 133, 80, 167, 0, 11, 58, 6, 4, 172, 58, 6, 5]
abbrev dktX0_wrote_0 : List UInt8 := dkwX0_wrote_0 ++ dktX0_wrote_1
theorem dksX0_wrote_0 : cX0_wrote.data.toList.drop 0 = dktX0_wrote_0 := by decide +kernel
theorem dksX0_wrote_1 : cX0_wrote.data.toList.drop 24 = dktX0_wrote_1 := dk_seg dksX0_wrote_0 24 rfl rfl
theorem dX0_wrote_0 : decode cX0_wrote 0 = .ok (.aload 5, 2) := dk_25 5 (dk_at dksX0_wrote_0 0 rfl rfl)
theorem dX0_wrote_2 : decode cX0_wrote 2 = .ok (.iconst 0, 1) := dk_3 (dk_at dksX0_wrote_0 2 rfl rfl)
theorem dX0_wrote_3 : decode cX0_wrote 3 = .ok (.aload_n 0, 1) := dk_42 (dk_at dksX0_wrote_0 3 rfl rfl)
theorem dX0_wrote_4 : decode cX0_wrote 4 = .ok (.iload_n 1, 1) := dk_27 (dk_at dksX0_wrote_0 4 rfl rfl)
theorem dX0_wrote_5 : decode cX0_wrote 5 = .ok (.iload_n 2, 1) := dk_28 (dk_at dksX0_wrote_0 5 rfl rfl)
theorem dX0_wrote_6 : decode cX0_wrote 6 = .ok (.iload_n 3, 1) := dk_29 (dk_at dksX0_wrote_0 6 rfl rfl)
theorem dX0_wrote_7 : decode cX0_wrote 7 = .ok (.iload 4, 2) := dk_21 4 (dk_at dksX0_wrote_0 7 rfl rfl)
theorem dX0_wrote_9 : decode cX0_wrote 9 = .ok (.invokevirtual 84, 3) := dk_182 0 84 (dk_at dksX0_wrote_0 9 rfl rfl)
theorem dX0_wrote_12 : decode cX0_wrote 12 = .ok (.i2l, 1) := dk_133 (dk_at dksX0_wrote_0 12 rfl rfl)
theorem dX0_wrote_13 : decode cX0_wrote 13 = .ok (.lastore, 1) := dk_80 (dk_at dksX0_wrote_0 13 rfl rfl)
theorem dX0_wrote_14 : decode cX0_wrote 14 = .ok (.goto 11, 3) := dk_167 0 11 (dk_at dksX0_wrote_0 14 rfl rfl)
theorem dX0_wrote_17 : decode cX0_wrote 17 = .ok (.astore 6, 2) := dk_58 6 (dk_at dksX0_wrote_0 17 rfl rfl)
theorem dX0_wrote_19 : decode cX0_wrote 19 = .ok (.iconst 1, 1) := dk_4 (dk_at dksX0_wrote_0 19 rfl rfl)
theorem dX0_wrote_20 : decode cX0_wrote 20 = .ok (.ireturn, 1) := dk_172 (dk_at dksX0_wrote_0 20 rfl rfl)
theorem dX0_wrote_21 : decode cX0_wrote 21 = .ok (.astore 6, 2) := dk_58 6 (dk_at dksX0_wrote_0 21 rfl rfl)
theorem dX0_wrote_23 : decode cX0_wrote 23 = .ok (.iconst 2, 1) := dk_5 (dk_at dksX0_wrote_0 23 rfl rfl)
theorem dX0_wrote_24 : decode cX0_wrote 24 = .ok (.ireturn, 1) := dk_172 (dk_at dksX0_wrote_1 0 rfl rfl)
theorem dX0_wrote_25 : decode cX0_wrote 25 = .ok (.iconst 0, 1) := dk_3 (dk_at dksX0_wrote_1 1 rfl rfl)
theorem dX0_wrote_26 : decode cX0_wrote 26 = .ok (.ireturn, 1) := dk_172 (dk_at dksX0_wrote_1 2 rfl rfl)
abbrev cX0_table : ByteArray := method_24_code
def yX0_table : MethodName := ⟨RX0, "table", "(LGlacierMail;II[J)I"⟩
def dkwX0_table_0 : List UInt8 := [45, 3, 42, 27, 28, 182, 0, 87, 133, 80, 167, 0, 7, 58, 4, 4, 172, 3, 172]
abbrev dktX0_table_0 : List UInt8 := dkwX0_table_0 ++ []
theorem dksX0_table_0 : cX0_table.data.toList.drop 0 = dktX0_table_0 := by decide +kernel
theorem dX0_table_0 : decode cX0_table 0 = .ok (.aload_n 3, 1) := dk_45 (dk_at dksX0_table_0 0 rfl rfl)
theorem dX0_table_1 : decode cX0_table 1 = .ok (.iconst 0, 1) := dk_3 (dk_at dksX0_table_0 1 rfl rfl)
theorem dX0_table_2 : decode cX0_table 2 = .ok (.aload_n 0, 1) := dk_42 (dk_at dksX0_table_0 2 rfl rfl)
theorem dX0_table_3 : decode cX0_table 3 = .ok (.iload_n 1, 1) := dk_27 (dk_at dksX0_table_0 3 rfl rfl)
theorem dX0_table_4 : decode cX0_table 4 = .ok (.iload_n 2, 1) := dk_28 (dk_at dksX0_table_0 4 rfl rfl)
theorem dX0_table_5 : decode cX0_table 5 = .ok (.invokevirtual 87, 3) := dk_182 0 87 (dk_at dksX0_table_0 5 rfl rfl)
theorem dX0_table_8 : decode cX0_table 8 = .ok (.i2l, 1) := dk_133 (dk_at dksX0_table_0 8 rfl rfl)
theorem dX0_table_9 : decode cX0_table 9 = .ok (.lastore, 1) := dk_80 (dk_at dksX0_table_0 9 rfl rfl)
theorem dX0_table_10 : decode cX0_table 10 = .ok (.goto 7, 3) := dk_167 0 7 (dk_at dksX0_table_0 10 rfl rfl)
theorem dX0_table_13 : decode cX0_table 13 = .ok (.astore 4, 2) := dk_58 4 (dk_at dksX0_table_0 13 rfl rfl)
theorem dX0_table_15 : decode cX0_table 15 = .ok (.iconst 1, 1) := dk_4 (dk_at dksX0_table_0 15 rfl rfl)
theorem dX0_table_16 : decode cX0_table 16 = .ok (.ireturn, 1) := dk_172 (dk_at dksX0_table_0 16 rfl rfl)
theorem dX0_table_17 : decode cX0_table 17 = .ok (.iconst 0, 1) := dk_3 (dk_at dksX0_table_0 17 rfl rfl)
theorem dX0_table_18 : decode cX0_table 18 = .ok (.ireturn, 1) := dk_172 (dk_at dksX0_table_0 18 rfl rfl)
abbrev cX0_apart : ByteArray := method_25_code
def yX0_apart : MethodName := ⟨RX0, "apart", "(LGlacierMail;III[J)I"⟩
def dkwX0_apart_1 : List UInt8 := [4, 172, 3, 172]
abbrev dktX0_apart_1 : List UInt8 := dkwX0_apart_1 ++ []
def dkwX0_apart_0 : List UInt8 := [25, 4, 3, 42, 27, 28, 29, 182, 0, 90, 153, 0, 7, 10, 167, 0, 4, 9, 80, 167, 0, 7, 58, 5]
abbrev dktX0_apart_0 : List UInt8 := dkwX0_apart_0 ++ dktX0_apart_1
theorem dksX0_apart_0 : cX0_apart.data.toList.drop 0 = dktX0_apart_0 := by decide +kernel
theorem dksX0_apart_1 : cX0_apart.data.toList.drop 24 = dktX0_apart_1 := dk_seg dksX0_apart_0 24 rfl rfl
theorem dX0_apart_0 : decode cX0_apart 0 = .ok (.aload 4, 2) := dk_25 4 (dk_at dksX0_apart_0 0 rfl rfl)
theorem dX0_apart_2 : decode cX0_apart 2 = .ok (.iconst 0, 1) := dk_3 (dk_at dksX0_apart_0 2 rfl rfl)
theorem dX0_apart_3 : decode cX0_apart 3 = .ok (.aload_n 0, 1) := dk_42 (dk_at dksX0_apart_0 3 rfl rfl)
theorem dX0_apart_4 : decode cX0_apart 4 = .ok (.iload_n 1, 1) := dk_27 (dk_at dksX0_apart_0 4 rfl rfl)
theorem dX0_apart_5 : decode cX0_apart 5 = .ok (.iload_n 2, 1) := dk_28 (dk_at dksX0_apart_0 5 rfl rfl)
theorem dX0_apart_6 : decode cX0_apart 6 = .ok (.iload_n 3, 1) := dk_29 (dk_at dksX0_apart_0 6 rfl rfl)
theorem dX0_apart_7 : decode cX0_apart 7 = .ok (.invokevirtual 90, 3) := dk_182 0 90 (dk_at dksX0_apart_0 7 rfl rfl)
theorem dX0_apart_10 : decode cX0_apart 10 = .ok (.ifCond .eq 7, 3) := dk_153 0 7 (dk_at dksX0_apart_0 10 rfl rfl)
theorem dX0_apart_13 : decode cX0_apart 13 = .ok (.lconst 1, 1) := dk_10 (dk_at dksX0_apart_0 13 rfl rfl)
theorem dX0_apart_14 : decode cX0_apart 14 = .ok (.goto 4, 3) := dk_167 0 4 (dk_at dksX0_apart_0 14 rfl rfl)
theorem dX0_apart_17 : decode cX0_apart 17 = .ok (.lconst 0, 1) := dk_9 (dk_at dksX0_apart_0 17 rfl rfl)
theorem dX0_apart_18 : decode cX0_apart 18 = .ok (.lastore, 1) := dk_80 (dk_at dksX0_apart_0 18 rfl rfl)
theorem dX0_apart_19 : decode cX0_apart 19 = .ok (.goto 7, 3) := dk_167 0 7 (dk_at dksX0_apart_0 19 rfl rfl)
theorem dX0_apart_22 : decode cX0_apart 22 = .ok (.astore 5, 2) := dk_58 5 (dk_at dksX0_apart_0 22 rfl rfl)
theorem dX0_apart_24 : decode cX0_apart 24 = .ok (.iconst 1, 1) := dk_4 (dk_at dksX0_apart_1 0 rfl rfl)
theorem dX0_apart_25 : decode cX0_apart 25 = .ok (.ireturn, 1) := dk_172 (dk_at dksX0_apart_1 1 rfl rfl)
theorem dX0_apart_26 : decode cX0_apart 26 = .ok (.iconst 0, 1) := dk_3 (dk_at dksX0_apart_1 2 rfl rfl)
theorem dX0_apart_27 : decode cX0_apart 27 = .ok (.ireturn, 1) := dk_172 (dk_at dksX0_apart_1 3 rfl rfl)
abbrev cX0_fit : ByteArray := method_26_code
def yX0_fit : MethodName := ⟨RX0, "fit", "(LGlacierMail;[J)I"⟩
def dkwX0_fit_0 : List UInt8 := [43, 3, 42, 182, 0, 94, 133, 80, 167, 0, 6, 77, 4, 172, 3, 172]
abbrev dktX0_fit_0 : List UInt8 := dkwX0_fit_0 ++ []
theorem dksX0_fit_0 : cX0_fit.data.toList.drop 0 = dktX0_fit_0 := by decide +kernel
theorem dX0_fit_0 : decode cX0_fit 0 = .ok (.aload_n 1, 1) := dk_43 (dk_at dksX0_fit_0 0 rfl rfl)
theorem dX0_fit_1 : decode cX0_fit 1 = .ok (.iconst 0, 1) := dk_3 (dk_at dksX0_fit_0 1 rfl rfl)
theorem dX0_fit_2 : decode cX0_fit 2 = .ok (.aload_n 0, 1) := dk_42 (dk_at dksX0_fit_0 2 rfl rfl)
theorem dX0_fit_3 : decode cX0_fit 3 = .ok (.invokevirtual 94, 3) := dk_182 0 94 (dk_at dksX0_fit_0 3 rfl rfl)
theorem dX0_fit_6 : decode cX0_fit 6 = .ok (.i2l, 1) := dk_133 (dk_at dksX0_fit_0 6 rfl rfl)
theorem dX0_fit_7 : decode cX0_fit 7 = .ok (.lastore, 1) := dk_80 (dk_at dksX0_fit_0 7 rfl rfl)
theorem dX0_fit_8 : decode cX0_fit 8 = .ok (.goto 6, 3) := dk_167 0 6 (dk_at dksX0_fit_0 8 rfl rfl)
theorem dX0_fit_11 : decode cX0_fit 11 = .ok (.astore_n 2, 1) := dk_77 (dk_at dksX0_fit_0 11 rfl rfl)
theorem dX0_fit_12 : decode cX0_fit 12 = .ok (.iconst 1, 1) := dk_4 (dk_at dksX0_fit_0 12 rfl rfl)
theorem dX0_fit_13 : decode cX0_fit 13 = .ok (.ireturn, 1) := dk_172 (dk_at dksX0_fit_0 13 rfl rfl)
theorem dX0_fit_14 : decode cX0_fit 14 = .ok (.iconst 0, 1) := dk_3 (dk_at dksX0_fit_0 14 rfl rfl)
theorem dX0_fit_15 : decode cX0_fit 15 = .ok (.ireturn, 1) := dk_172 (dk_at dksX0_fit_0 15 rfl rfl)
abbrev cX0_soonest : ByteArray := method_27_code
def yX0_soonest : MethodName := ⟨RX0, "soonest", "(LGlacierMail;IIZ[J)I"⟩
def dkwX0_soonest_1 : List UInt8 := [172]
abbrev dktX0_soonest_1 : List UInt8 := dkwX0_soonest_1 ++ []
def dkwX0_soonest_0 : List UInt8 := [25, 4, 3, 42, 27, 28, 29, 182, 0, 97, 133, 80, 167, 0, 11, 58, 5, 4, 172, 58, 5, 5, 172, 3]
abbrev dktX0_soonest_0 : List UInt8 := dkwX0_soonest_0 ++ dktX0_soonest_1
theorem dksX0_soonest_0 : cX0_soonest.data.toList.drop 0 = dktX0_soonest_0 := by decide +kernel
theorem dksX0_soonest_1 : cX0_soonest.data.toList.drop 24 = dktX0_soonest_1 := dk_seg dksX0_soonest_0 24 rfl rfl
theorem dX0_soonest_0 : decode cX0_soonest 0 = .ok (.aload 4, 2) := dk_25 4 (dk_at dksX0_soonest_0 0 rfl rfl)
theorem dX0_soonest_2 : decode cX0_soonest 2 = .ok (.iconst 0, 1) := dk_3 (dk_at dksX0_soonest_0 2 rfl rfl)
theorem dX0_soonest_3 : decode cX0_soonest 3 = .ok (.aload_n 0, 1) := dk_42 (dk_at dksX0_soonest_0 3 rfl rfl)
theorem dX0_soonest_4 : decode cX0_soonest 4 = .ok (.iload_n 1, 1) := dk_27 (dk_at dksX0_soonest_0 4 rfl rfl)
theorem dX0_soonest_5 : decode cX0_soonest 5 = .ok (.iload_n 2, 1) := dk_28 (dk_at dksX0_soonest_0 5 rfl rfl)
theorem dX0_soonest_6 : decode cX0_soonest 6 = .ok (.iload_n 3, 1) := dk_29 (dk_at dksX0_soonest_0 6 rfl rfl)
theorem dX0_soonest_7 : decode cX0_soonest 7 = .ok (.invokevirtual 97, 3) := dk_182 0 97 (dk_at dksX0_soonest_0 7 rfl rfl)
theorem dX0_soonest_10 : decode cX0_soonest 10 = .ok (.i2l, 1) := dk_133 (dk_at dksX0_soonest_0 10 rfl rfl)
theorem dX0_soonest_11 : decode cX0_soonest 11 = .ok (.lastore, 1) := dk_80 (dk_at dksX0_soonest_0 11 rfl rfl)
theorem dX0_soonest_12 : decode cX0_soonest 12 = .ok (.goto 11, 3) := dk_167 0 11 (dk_at dksX0_soonest_0 12 rfl rfl)
theorem dX0_soonest_15 : decode cX0_soonest 15 = .ok (.astore 5, 2) := dk_58 5 (dk_at dksX0_soonest_0 15 rfl rfl)
theorem dX0_soonest_17 : decode cX0_soonest 17 = .ok (.iconst 1, 1) := dk_4 (dk_at dksX0_soonest_0 17 rfl rfl)
theorem dX0_soonest_18 : decode cX0_soonest 18 = .ok (.ireturn, 1) := dk_172 (dk_at dksX0_soonest_0 18 rfl rfl)
theorem dX0_soonest_19 : decode cX0_soonest 19 = .ok (.astore 5, 2) := dk_58 5 (dk_at dksX0_soonest_0 19 rfl rfl)
theorem dX0_soonest_21 : decode cX0_soonest 21 = .ok (.iconst 2, 1) := dk_5 (dk_at dksX0_soonest_0 21 rfl rfl)
theorem dX0_soonest_22 : decode cX0_soonest 22 = .ok (.ireturn, 1) := dk_172 (dk_at dksX0_soonest_0 22 rfl rfl)
theorem dX0_soonest_23 : decode cX0_soonest 23 = .ok (.iconst 0, 1) := dk_3 (dk_at dksX0_soonest_0 23 rfl rfl)
theorem dX0_soonest_24 : decode cX0_soonest 24 = .ok (.ireturn, 1) := dk_172 (dk_at dksX0_soonest_1 0 rfl rfl)
abbrev cX0_chain : ByteArray := method_28_code
def yX0_chain : MethodName := ⟨RX0, "chain", "(LGlacierMail;III[J)I"⟩
def dkwX0_chain_1 : List UInt8 := [172]
abbrev dktX0_chain_1 : List UInt8 := dkwX0_chain_1 ++ []
def dkwX0_chain_0 : List UInt8 := [25, 4, 3, 42, 27, 28, 29, 182, 0, 101, 133, 80, 167, 0, 11, 58, 5, 4, 172, 58, 5, 5, 172, 3]
abbrev dktX0_chain_0 : List UInt8 := dkwX0_chain_0 ++ dktX0_chain_1
theorem dksX0_chain_0 : cX0_chain.data.toList.drop 0 = dktX0_chain_0 := by decide +kernel
theorem dksX0_chain_1 : cX0_chain.data.toList.drop 24 = dktX0_chain_1 := dk_seg dksX0_chain_0 24 rfl rfl
theorem dX0_chain_0 : decode cX0_chain 0 = .ok (.aload 4, 2) := dk_25 4 (dk_at dksX0_chain_0 0 rfl rfl)
theorem dX0_chain_2 : decode cX0_chain 2 = .ok (.iconst 0, 1) := dk_3 (dk_at dksX0_chain_0 2 rfl rfl)
theorem dX0_chain_3 : decode cX0_chain 3 = .ok (.aload_n 0, 1) := dk_42 (dk_at dksX0_chain_0 3 rfl rfl)
theorem dX0_chain_4 : decode cX0_chain 4 = .ok (.iload_n 1, 1) := dk_27 (dk_at dksX0_chain_0 4 rfl rfl)
theorem dX0_chain_5 : decode cX0_chain 5 = .ok (.iload_n 2, 1) := dk_28 (dk_at dksX0_chain_0 5 rfl rfl)
theorem dX0_chain_6 : decode cX0_chain 6 = .ok (.iload_n 3, 1) := dk_29 (dk_at dksX0_chain_0 6 rfl rfl)
theorem dX0_chain_7 : decode cX0_chain 7 = .ok (.invokevirtual 101, 3) := dk_182 0 101 (dk_at dksX0_chain_0 7 rfl rfl)
theorem dX0_chain_10 : decode cX0_chain 10 = .ok (.i2l, 1) := dk_133 (dk_at dksX0_chain_0 10 rfl rfl)
theorem dX0_chain_11 : decode cX0_chain 11 = .ok (.lastore, 1) := dk_80 (dk_at dksX0_chain_0 11 rfl rfl)
theorem dX0_chain_12 : decode cX0_chain 12 = .ok (.goto 11, 3) := dk_167 0 11 (dk_at dksX0_chain_0 12 rfl rfl)
theorem dX0_chain_15 : decode cX0_chain 15 = .ok (.astore 5, 2) := dk_58 5 (dk_at dksX0_chain_0 15 rfl rfl)
theorem dX0_chain_17 : decode cX0_chain 17 = .ok (.iconst 1, 1) := dk_4 (dk_at dksX0_chain_0 17 rfl rfl)
theorem dX0_chain_18 : decode cX0_chain 18 = .ok (.ireturn, 1) := dk_172 (dk_at dksX0_chain_0 18 rfl rfl)
theorem dX0_chain_19 : decode cX0_chain 19 = .ok (.astore 5, 2) := dk_58 5 (dk_at dksX0_chain_0 19 rfl rfl)
theorem dX0_chain_21 : decode cX0_chain 21 = .ok (.iconst 2, 1) := dk_5 (dk_at dksX0_chain_0 21 rfl rfl)
theorem dX0_chain_22 : decode cX0_chain 22 = .ok (.ireturn, 1) := dk_172 (dk_at dksX0_chain_0 22 rfl rfl)
theorem dX0_chain_23 : decode cX0_chain 23 = .ok (.iconst 0, 1) := dk_3 (dk_at dksX0_chain_0 23 rfl rfl)
theorem dX0_chain_24 : decode cX0_chain 24 = .ok (.ireturn, 1) := dk_172 (dk_at dksX0_chain_1 0 rfl rfl)
abbrev cX0_reached : ByteArray := method_29_code
def yX0_reached : MethodName := ⟨RX0, "reached", "(LGlacierMail;II[J)I"⟩
def dkwX0_reached_0 : List UInt8 := [45, 3, 42, 27, 28, 182, 0, 104, 133, 80, 167, 0, 11, 58, 4, 4, 172, 58, 4, 5, 172, 3, 172]
abbrev dktX0_reached_0 : List UInt8 := dkwX0_reached_0 ++ []
theorem dksX0_reached_0 : cX0_reached.data.toList.drop 0 = dktX0_reached_0 := by decide +kernel
theorem dX0_reached_0 : decode cX0_reached 0 = .ok (.aload_n 3, 1) := dk_45 (dk_at dksX0_reached_0 0 rfl rfl)
theorem dX0_reached_1 : decode cX0_reached 1 = .ok (.iconst 0, 1) := dk_3 (dk_at dksX0_reached_0 1 rfl rfl)
theorem dX0_reached_2 : decode cX0_reached 2 = .ok (.aload_n 0, 1) := dk_42 (dk_at dksX0_reached_0 2 rfl rfl)
theorem dX0_reached_3 : decode cX0_reached 3 = .ok (.iload_n 1, 1) := dk_27 (dk_at dksX0_reached_0 3 rfl rfl)
theorem dX0_reached_4 : decode cX0_reached 4 = .ok (.iload_n 2, 1) := dk_28 (dk_at dksX0_reached_0 4 rfl rfl)
theorem dX0_reached_5 : decode cX0_reached 5 = .ok (.invokevirtual 104, 3) := dk_182 0 104 (dk_at dksX0_reached_0 5 rfl rfl)
theorem dX0_reached_8 : decode cX0_reached 8 = .ok (.i2l, 1) := dk_133 (dk_at dksX0_reached_0 8 rfl rfl)
theorem dX0_reached_9 : decode cX0_reached 9 = .ok (.lastore, 1) := dk_80 (dk_at dksX0_reached_0 9 rfl rfl)
theorem dX0_reached_10 : decode cX0_reached 10 = .ok (.goto 11, 3) := dk_167 0 11 (dk_at dksX0_reached_0 10 rfl rfl)
theorem dX0_reached_13 : decode cX0_reached 13 = .ok (.astore 4, 2) := dk_58 4 (dk_at dksX0_reached_0 13 rfl rfl)
theorem dX0_reached_15 : decode cX0_reached 15 = .ok (.iconst 1, 1) := dk_4 (dk_at dksX0_reached_0 15 rfl rfl)
theorem dX0_reached_16 : decode cX0_reached 16 = .ok (.ireturn, 1) := dk_172 (dk_at dksX0_reached_0 16 rfl rfl)
theorem dX0_reached_17 : decode cX0_reached 17 = .ok (.astore 4, 2) := dk_58 4 (dk_at dksX0_reached_0 17 rfl rfl)
theorem dX0_reached_19 : decode cX0_reached 19 = .ok (.iconst 2, 1) := dk_5 (dk_at dksX0_reached_0 19 rfl rfl)
theorem dX0_reached_20 : decode cX0_reached 20 = .ok (.ireturn, 1) := dk_172 (dk_at dksX0_reached_0 20 rfl rfl)
theorem dX0_reached_21 : decode cX0_reached 21 = .ok (.iconst 0, 1) := dk_3 (dk_at dksX0_reached_0 21 rfl rfl)
theorem dX0_reached_22 : decode cX0_reached 22 = .ok (.ireturn, 1) := dk_172 (dk_at dksX0_reached_0 22 rfl rfl)
abbrev cX0_thieves : ByteArray := method_30_code
def yX0_thieves : MethodName := ⟨RX0, "thieves", "(LGlacierMail;IZ[J)I"⟩
def dkwX0_thieves_0 : List UInt8 := [45, 3, 42, 27, 28, 182, 0, 107, 133, 80, 167, 0, 7, 58, 4, 4, 172, 3, 172]
abbrev dktX0_thieves_0 : List UInt8 := dkwX0_thieves_0 ++ []
theorem dksX0_thieves_0 : cX0_thieves.data.toList.drop 0 = dktX0_thieves_0 := by decide +kernel
theorem dX0_thieves_0 : decode cX0_thieves 0 = .ok (.aload_n 3, 1) := dk_45 (dk_at dksX0_thieves_0 0 rfl rfl)
theorem dX0_thieves_1 : decode cX0_thieves 1 = .ok (.iconst 0, 1) := dk_3 (dk_at dksX0_thieves_0 1 rfl rfl)
theorem dX0_thieves_2 : decode cX0_thieves 2 = .ok (.aload_n 0, 1) := dk_42 (dk_at dksX0_thieves_0 2 rfl rfl)
theorem dX0_thieves_3 : decode cX0_thieves 3 = .ok (.iload_n 1, 1) := dk_27 (dk_at dksX0_thieves_0 3 rfl rfl)
theorem dX0_thieves_4 : decode cX0_thieves 4 = .ok (.iload_n 2, 1) := dk_28 (dk_at dksX0_thieves_0 4 rfl rfl)
theorem dX0_thieves_5 : decode cX0_thieves 5 = .ok (.invokevirtual 107, 3) := dk_182 0 107 (dk_at dksX0_thieves_0 5 rfl rfl)
theorem dX0_thieves_8 : decode cX0_thieves 8 = .ok (.i2l, 1) := dk_133 (dk_at dksX0_thieves_0 8 rfl rfl)
theorem dX0_thieves_9 : decode cX0_thieves 9 = .ok (.lastore, 1) := dk_80 (dk_at dksX0_thieves_0 9 rfl rfl)
theorem dX0_thieves_10 : decode cX0_thieves 10 = .ok (.goto 7, 3) := dk_167 0 7 (dk_at dksX0_thieves_0 10 rfl rfl)
theorem dX0_thieves_13 : decode cX0_thieves 13 = .ok (.astore 4, 2) := dk_58 4 (dk_at dksX0_thieves_0 13 rfl rfl)
theorem dX0_thieves_15 : decode cX0_thieves 15 = .ok (.iconst 1, 1) := dk_4 (dk_at dksX0_thieves_0 15 rfl rfl)
theorem dX0_thieves_16 : decode cX0_thieves 16 = .ok (.ireturn, 1) := dk_172 (dk_at dksX0_thieves_0 16 rfl rfl)
theorem dX0_thieves_17 : decode cX0_thieves 17 = .ok (.iconst 0, 1) := dk_3 (dk_at dksX0_thieves_0 17 rfl rfl)
theorem dX0_thieves_18 : decode cX0_thieves 18 = .ok (.ireturn, 1) := dk_172 (dk_at dksX0_thieves_0 18 rfl rfl)
abbrev cX0_watchman : ByteArray := method_31_code
def yX0_watchman : MethodName := ⟨RX0, "watchman", "(LGlacierMail;IZ[J)I"⟩
def dkwX0_watchman_0 : List UInt8 := [45, 3, 42, 27, 28, 182, 0, 111, 133, 80, 167, 0, 7, 58, 4, 4, 172, 3, 172]
abbrev dktX0_watchman_0 : List UInt8 := dkwX0_watchman_0 ++ []
theorem dksX0_watchman_0 : cX0_watchman.data.toList.drop 0 = dktX0_watchman_0 := by decide +kernel
theorem dX0_watchman_0 : decode cX0_watchman 0 = .ok (.aload_n 3, 1) := dk_45 (dk_at dksX0_watchman_0 0 rfl rfl)
theorem dX0_watchman_1 : decode cX0_watchman 1 = .ok (.iconst 0, 1) := dk_3 (dk_at dksX0_watchman_0 1 rfl rfl)
theorem dX0_watchman_2 : decode cX0_watchman 2 = .ok (.aload_n 0, 1) := dk_42 (dk_at dksX0_watchman_0 2 rfl rfl)
theorem dX0_watchman_3 : decode cX0_watchman 3 = .ok (.iload_n 1, 1) := dk_27 (dk_at dksX0_watchman_0 3 rfl rfl)
theorem dX0_watchman_4 : decode cX0_watchman 4 = .ok (.iload_n 2, 1) := dk_28 (dk_at dksX0_watchman_0 4 rfl rfl)
theorem dX0_watchman_5 : decode cX0_watchman 5 = .ok (.invokevirtual 111, 3) := dk_182 0 111 (dk_at dksX0_watchman_0 5 rfl rfl)
theorem dX0_watchman_8 : decode cX0_watchman 8 = .ok (.i2l, 1) := dk_133 (dk_at dksX0_watchman_0 8 rfl rfl)
theorem dX0_watchman_9 : decode cX0_watchman 9 = .ok (.lastore, 1) := dk_80 (dk_at dksX0_watchman_0 9 rfl rfl)
theorem dX0_watchman_10 : decode cX0_watchman 10 = .ok (.goto 7, 3) := dk_167 0 7 (dk_at dksX0_watchman_0 10 rfl rfl)
theorem dX0_watchman_13 : decode cX0_watchman 13 = .ok (.astore 4, 2) := dk_58 4 (dk_at dksX0_watchman_0 13 rfl rfl)
theorem dX0_watchman_15 : decode cX0_watchman 15 = .ok (.iconst 1, 1) := dk_4 (dk_at dksX0_watchman_0 15 rfl rfl)
theorem dX0_watchman_16 : decode cX0_watchman 16 = .ok (.ireturn, 1) := dk_172 (dk_at dksX0_watchman_0 16 rfl rfl)
theorem dX0_watchman_17 : decode cX0_watchman 17 = .ok (.iconst 0, 1) := dk_3 (dk_at dksX0_watchman_0 17 rfl rfl)
theorem dX0_watchman_18 : decode cX0_watchman 18 = .ok (.ireturn, 1) := dk_172 (dk_at dksX0_watchman_0 18 rfl rfl)
abbrev cX0_meeting : ByteArray := method_32_code
def yX0_meeting : MethodName := ⟨RX0, "meeting", "(LGlacierMail;II[J)I"⟩
def dkwX0_meeting_0 : List UInt8 := [45, 3, 42, 27, 28, 182, 0, 114, 133, 80, 167, 0, 11, 58, 4, 4, 172, 58, 4, 5, 172, 3, 172]
abbrev dktX0_meeting_0 : List UInt8 := dkwX0_meeting_0 ++ []
theorem dksX0_meeting_0 : cX0_meeting.data.toList.drop 0 = dktX0_meeting_0 := by decide +kernel
theorem dX0_meeting_0 : decode cX0_meeting 0 = .ok (.aload_n 3, 1) := dk_45 (dk_at dksX0_meeting_0 0 rfl rfl)
theorem dX0_meeting_1 : decode cX0_meeting 1 = .ok (.iconst 0, 1) := dk_3 (dk_at dksX0_meeting_0 1 rfl rfl)
theorem dX0_meeting_2 : decode cX0_meeting 2 = .ok (.aload_n 0, 1) := dk_42 (dk_at dksX0_meeting_0 2 rfl rfl)
theorem dX0_meeting_3 : decode cX0_meeting 3 = .ok (.iload_n 1, 1) := dk_27 (dk_at dksX0_meeting_0 3 rfl rfl)
theorem dX0_meeting_4 : decode cX0_meeting 4 = .ok (.iload_n 2, 1) := dk_28 (dk_at dksX0_meeting_0 4 rfl rfl)
theorem dX0_meeting_5 : decode cX0_meeting 5 = .ok (.invokevirtual 114, 3) := dk_182 0 114 (dk_at dksX0_meeting_0 5 rfl rfl)
theorem dX0_meeting_8 : decode cX0_meeting 8 = .ok (.i2l, 1) := dk_133 (dk_at dksX0_meeting_0 8 rfl rfl)
theorem dX0_meeting_9 : decode cX0_meeting 9 = .ok (.lastore, 1) := dk_80 (dk_at dksX0_meeting_0 9 rfl rfl)
theorem dX0_meeting_10 : decode cX0_meeting 10 = .ok (.goto 11, 3) := dk_167 0 11 (dk_at dksX0_meeting_0 10 rfl rfl)
theorem dX0_meeting_13 : decode cX0_meeting 13 = .ok (.astore 4, 2) := dk_58 4 (dk_at dksX0_meeting_0 13 rfl rfl)
theorem dX0_meeting_15 : decode cX0_meeting 15 = .ok (.iconst 1, 1) := dk_4 (dk_at dksX0_meeting_0 15 rfl rfl)
theorem dX0_meeting_16 : decode cX0_meeting 16 = .ok (.ireturn, 1) := dk_172 (dk_at dksX0_meeting_0 16 rfl rfl)
theorem dX0_meeting_17 : decode cX0_meeting 17 = .ok (.astore 4, 2) := dk_58 4 (dk_at dksX0_meeting_0 17 rfl rfl)
theorem dX0_meeting_19 : decode cX0_meeting 19 = .ok (.iconst 2, 1) := dk_5 (dk_at dksX0_meeting_0 19 rfl rfl)
theorem dX0_meeting_20 : decode cX0_meeting 20 = .ok (.ireturn, 1) := dk_172 (dk_at dksX0_meeting_0 20 rfl rfl)
theorem dX0_meeting_21 : decode cX0_meeting 21 = .ok (.iconst 0, 1) := dk_3 (dk_at dksX0_meeting_0 21 rfl rfl)
theorem dX0_meeting_22 : decode cX0_meeting 22 = .ok (.ireturn, 1) := dk_172 (dk_at dksX0_meeting_0 22 rfl rfl)
abbrev cX0_outs : ByteArray := method_33_code
def yX0_outs : MethodName := ⟨RX0, "outs", "(LGlacierMail;I[J)I"⟩
def dkwX0_outs_0 : List UInt8 := [44, 3, 42, 27, 182, 0, 117, 133, 80, 167, 0, 6, 78, 4, 172, 3, 172]
abbrev dktX0_outs_0 : List UInt8 := dkwX0_outs_0 ++ []
theorem dksX0_outs_0 : cX0_outs.data.toList.drop 0 = dktX0_outs_0 := by decide +kernel
theorem dX0_outs_0 : decode cX0_outs 0 = .ok (.aload_n 2, 1) := dk_44 (dk_at dksX0_outs_0 0 rfl rfl)
theorem dX0_outs_1 : decode cX0_outs 1 = .ok (.iconst 0, 1) := dk_3 (dk_at dksX0_outs_0 1 rfl rfl)
theorem dX0_outs_2 : decode cX0_outs 2 = .ok (.aload_n 0, 1) := dk_42 (dk_at dksX0_outs_0 2 rfl rfl)
theorem dX0_outs_3 : decode cX0_outs 3 = .ok (.iload_n 1, 1) := dk_27 (dk_at dksX0_outs_0 3 rfl rfl)
theorem dX0_outs_4 : decode cX0_outs 4 = .ok (.invokevirtual 117, 3) := dk_182 0 117 (dk_at dksX0_outs_0 4 rfl rfl)
theorem dX0_outs_7 : decode cX0_outs 7 = .ok (.i2l, 1) := dk_133 (dk_at dksX0_outs_0 7 rfl rfl)
theorem dX0_outs_8 : decode cX0_outs 8 = .ok (.lastore, 1) := dk_80 (dk_at dksX0_outs_0 8 rfl rfl)
theorem dX0_outs_9 : decode cX0_outs 9 = .ok (.goto 6, 3) := dk_167 0 6 (dk_at dksX0_outs_0 9 rfl rfl)
theorem dX0_outs_12 : decode cX0_outs 12 = .ok (.astore_n 3, 1) := dk_78 (dk_at dksX0_outs_0 12 rfl rfl)
theorem dX0_outs_13 : decode cX0_outs 13 = .ok (.iconst 1, 1) := dk_4 (dk_at dksX0_outs_0 13 rfl rfl)
theorem dX0_outs_14 : decode cX0_outs 14 = .ok (.ireturn, 1) := dk_172 (dk_at dksX0_outs_0 14 rfl rfl)
theorem dX0_outs_15 : decode cX0_outs 15 = .ok (.iconst 0, 1) := dk_3 (dk_at dksX0_outs_0 15 rfl rfl)
theorem dX0_outs_16 : decode cX0_outs 16 = .ok (.ireturn, 1) := dk_172 (dk_at dksX0_outs_0 16 rfl rfl)
abbrev cX0_streams : ByteArray := method_34_code
def yX0_streams : MethodName := ⟨RX0, "streams", "(LGlacierMail;IZ[J)I"⟩
def dkwX0_streams_0 : List UInt8 := [45, 3, 42, 27, 28, 182, 0, 120, 133, 80, 167, 0, 7, 58, 4, 4, 172, 3, 172]
abbrev dktX0_streams_0 : List UInt8 := dkwX0_streams_0 ++ []
theorem dksX0_streams_0 : cX0_streams.data.toList.drop 0 = dktX0_streams_0 := by decide +kernel
theorem dX0_streams_0 : decode cX0_streams 0 = .ok (.aload_n 3, 1) := dk_45 (dk_at dksX0_streams_0 0 rfl rfl)
theorem dX0_streams_1 : decode cX0_streams 1 = .ok (.iconst 0, 1) := dk_3 (dk_at dksX0_streams_0 1 rfl rfl)
theorem dX0_streams_2 : decode cX0_streams 2 = .ok (.aload_n 0, 1) := dk_42 (dk_at dksX0_streams_0 2 rfl rfl)
theorem dX0_streams_3 : decode cX0_streams 3 = .ok (.iload_n 1, 1) := dk_27 (dk_at dksX0_streams_0 3 rfl rfl)
theorem dX0_streams_4 : decode cX0_streams 4 = .ok (.iload_n 2, 1) := dk_28 (dk_at dksX0_streams_0 4 rfl rfl)
theorem dX0_streams_5 : decode cX0_streams 5 = .ok (.invokevirtual 120, 3) := dk_182 0 120 (dk_at dksX0_streams_0 5 rfl rfl)
theorem dX0_streams_8 : decode cX0_streams 8 = .ok (.i2l, 1) := dk_133 (dk_at dksX0_streams_0 8 rfl rfl)
theorem dX0_streams_9 : decode cX0_streams 9 = .ok (.lastore, 1) := dk_80 (dk_at dksX0_streams_0 9 rfl rfl)
theorem dX0_streams_10 : decode cX0_streams 10 = .ok (.goto 7, 3) := dk_167 0 7 (dk_at dksX0_streams_0 10 rfl rfl)
theorem dX0_streams_13 : decode cX0_streams 13 = .ok (.astore 4, 2) := dk_58 4 (dk_at dksX0_streams_0 13 rfl rfl)
theorem dX0_streams_15 : decode cX0_streams 15 = .ok (.iconst 1, 1) := dk_4 (dk_at dksX0_streams_0 15 rfl rfl)
theorem dX0_streams_16 : decode cX0_streams 16 = .ok (.ireturn, 1) := dk_172 (dk_at dksX0_streams_0 16 rfl rfl)
theorem dX0_streams_17 : decode cX0_streams 17 = .ok (.iconst 0, 1) := dk_3 (dk_at dksX0_streams_0 17 rfl rfl)
theorem dX0_streams_18 : decode cX0_streams 18 = .ok (.ireturn, 1) := dk_172 (dk_at dksX0_streams_0 18 rfl rfl)
abbrev cX0_range : ByteArray := method_35_code
def yX0_range : MethodName := ⟨RX0, "range", "(LGlacierMail;II[J)I"⟩
def dkwX0_range_0 : List UInt8 := [45, 3, 42, 27, 28, 182, 0, 123, 133, 80, 167, 0, 11, 58, 4, 4, 172, 58, 4, 5, 172, 3, 172]
abbrev dktX0_range_0 : List UInt8 := dkwX0_range_0 ++ []
theorem dksX0_range_0 : cX0_range.data.toList.drop 0 = dktX0_range_0 := by decide +kernel
theorem dX0_range_0 : decode cX0_range 0 = .ok (.aload_n 3, 1) := dk_45 (dk_at dksX0_range_0 0 rfl rfl)
theorem dX0_range_1 : decode cX0_range 1 = .ok (.iconst 0, 1) := dk_3 (dk_at dksX0_range_0 1 rfl rfl)
theorem dX0_range_2 : decode cX0_range 2 = .ok (.aload_n 0, 1) := dk_42 (dk_at dksX0_range_0 2 rfl rfl)
theorem dX0_range_3 : decode cX0_range 3 = .ok (.iload_n 1, 1) := dk_27 (dk_at dksX0_range_0 3 rfl rfl)
theorem dX0_range_4 : decode cX0_range 4 = .ok (.iload_n 2, 1) := dk_28 (dk_at dksX0_range_0 4 rfl rfl)
theorem dX0_range_5 : decode cX0_range 5 = .ok (.invokevirtual 123, 3) := dk_182 0 123 (dk_at dksX0_range_0 5 rfl rfl)
theorem dX0_range_8 : decode cX0_range 8 = .ok (.i2l, 1) := dk_133 (dk_at dksX0_range_0 8 rfl rfl)
theorem dX0_range_9 : decode cX0_range 9 = .ok (.lastore, 1) := dk_80 (dk_at dksX0_range_0 9 rfl rfl)
theorem dX0_range_10 : decode cX0_range 10 = .ok (.goto 11, 3) := dk_167 0 11 (dk_at dksX0_range_0 10 rfl rfl)
theorem dX0_range_13 : decode cX0_range 13 = .ok (.astore 4, 2) := dk_58 4 (dk_at dksX0_range_0 13 rfl rfl)
theorem dX0_range_15 : decode cX0_range 15 = .ok (.iconst 1, 1) := dk_4 (dk_at dksX0_range_0 15 rfl rfl)
theorem dX0_range_16 : decode cX0_range 16 = .ok (.ireturn, 1) := dk_172 (dk_at dksX0_range_0 16 rfl rfl)
theorem dX0_range_17 : decode cX0_range 17 = .ok (.astore 4, 2) := dk_58 4 (dk_at dksX0_range_0 17 rfl rfl)
theorem dX0_range_19 : decode cX0_range 19 = .ok (.iconst 2, 1) := dk_5 (dk_at dksX0_range_0 19 rfl rfl)
theorem dX0_range_20 : decode cX0_range 20 = .ok (.ireturn, 1) := dk_172 (dk_at dksX0_range_0 20 rfl rfl)
theorem dX0_range_21 : decode cX0_range 21 = .ok (.iconst 0, 1) := dk_3 (dk_at dksX0_range_0 21 rfl rfl)
theorem dX0_range_22 : decode cX0_range 22 = .ok (.ireturn, 1) := dk_172 (dk_at dksX0_range_0 22 rfl rfl)
abbrev cX0_swiftest : ByteArray := method_36_code
def yX0_swiftest : MethodName := ⟨RX0, "swiftest", "(LGlacierMail;II[J)I"⟩
def dkwX0_swiftest_0 : List UInt8 := [45, 3, 42, 27, 28, 182, 0, 126, 133, 80, 167, 0, 11, 58, 4, 4, 172, 58, 4, 5, 172, 3, 172]
abbrev dktX0_swiftest_0 : List UInt8 := dkwX0_swiftest_0 ++ []
theorem dksX0_swiftest_0 : cX0_swiftest.data.toList.drop 0 = dktX0_swiftest_0 := by decide +kernel
theorem dX0_swiftest_0 : decode cX0_swiftest 0 = .ok (.aload_n 3, 1) := dk_45 (dk_at dksX0_swiftest_0 0 rfl rfl)
theorem dX0_swiftest_1 : decode cX0_swiftest 1 = .ok (.iconst 0, 1) := dk_3 (dk_at dksX0_swiftest_0 1 rfl rfl)
theorem dX0_swiftest_2 : decode cX0_swiftest 2 = .ok (.aload_n 0, 1) := dk_42 (dk_at dksX0_swiftest_0 2 rfl rfl)
theorem dX0_swiftest_3 : decode cX0_swiftest 3 = .ok (.iload_n 1, 1) := dk_27 (dk_at dksX0_swiftest_0 3 rfl rfl)
theorem dX0_swiftest_4 : decode cX0_swiftest 4 = .ok (.iload_n 2, 1) := dk_28 (dk_at dksX0_swiftest_0 4 rfl rfl)
theorem dX0_swiftest_5 : decode cX0_swiftest 5 = .ok (.invokevirtual 126, 3) := dk_182 0 126 (dk_at dksX0_swiftest_0 5 rfl rfl)
theorem dX0_swiftest_8 : decode cX0_swiftest 8 = .ok (.i2l, 1) := dk_133 (dk_at dksX0_swiftest_0 8 rfl rfl)
theorem dX0_swiftest_9 : decode cX0_swiftest 9 = .ok (.lastore, 1) := dk_80 (dk_at dksX0_swiftest_0 9 rfl rfl)
theorem dX0_swiftest_10 : decode cX0_swiftest 10 = .ok (.goto 11, 3) := dk_167 0 11 (dk_at dksX0_swiftest_0 10 rfl rfl)
theorem dX0_swiftest_13 : decode cX0_swiftest 13 = .ok (.astore 4, 2) := dk_58 4 (dk_at dksX0_swiftest_0 13 rfl rfl)
theorem dX0_swiftest_15 : decode cX0_swiftest 15 = .ok (.iconst 1, 1) := dk_4 (dk_at dksX0_swiftest_0 15 rfl rfl)
theorem dX0_swiftest_16 : decode cX0_swiftest 16 = .ok (.ireturn, 1) := dk_172 (dk_at dksX0_swiftest_0 16 rfl rfl)
theorem dX0_swiftest_17 : decode cX0_swiftest 17 = .ok (.astore 4, 2) := dk_58 4 (dk_at dksX0_swiftest_0 17 rfl rfl)
theorem dX0_swiftest_19 : decode cX0_swiftest 19 = .ok (.iconst 2, 1) := dk_5 (dk_at dksX0_swiftest_0 19 rfl rfl)
theorem dX0_swiftest_20 : decode cX0_swiftest 20 = .ok (.ireturn, 1) := dk_172 (dk_at dksX0_swiftest_0 20 rfl rfl)
theorem dX0_swiftest_21 : decode cX0_swiftest 21 = .ok (.iconst 0, 1) := dk_3 (dk_at dksX0_swiftest_0 21 rfl rfl)
theorem dX0_swiftest_22 : decode cX0_swiftest 22 = .ok (.ireturn, 1) := dk_172 (dk_at dksX0_swiftest_0 22 rfl rfl)
abbrev cX0_bare : ByteArray := method_37_code
def yX0_bare : MethodName := ⟨RX0, "bare", "(LGlacierMail;I[J)I"⟩
def dkwX0_bare_0 : List UInt8 := [44, 3, 42, 27, 182, 0, 129, 133, 80, 167, 0, 6, 78, 4, 172, 3, 172]
abbrev dktX0_bare_0 : List UInt8 := dkwX0_bare_0 ++ []
theorem dksX0_bare_0 : cX0_bare.data.toList.drop 0 = dktX0_bare_0 := by decide +kernel
theorem dX0_bare_0 : decode cX0_bare 0 = .ok (.aload_n 2, 1) := dk_44 (dk_at dksX0_bare_0 0 rfl rfl)
theorem dX0_bare_1 : decode cX0_bare 1 = .ok (.iconst 0, 1) := dk_3 (dk_at dksX0_bare_0 1 rfl rfl)
theorem dX0_bare_2 : decode cX0_bare 2 = .ok (.aload_n 0, 1) := dk_42 (dk_at dksX0_bare_0 2 rfl rfl)
theorem dX0_bare_3 : decode cX0_bare 3 = .ok (.iload_n 1, 1) := dk_27 (dk_at dksX0_bare_0 3 rfl rfl)
theorem dX0_bare_4 : decode cX0_bare 4 = .ok (.invokevirtual 129, 3) := dk_182 0 129 (dk_at dksX0_bare_0 4 rfl rfl)
theorem dX0_bare_7 : decode cX0_bare 7 = .ok (.i2l, 1) := dk_133 (dk_at dksX0_bare_0 7 rfl rfl)
theorem dX0_bare_8 : decode cX0_bare 8 = .ok (.lastore, 1) := dk_80 (dk_at dksX0_bare_0 8 rfl rfl)
theorem dX0_bare_9 : decode cX0_bare 9 = .ok (.goto 6, 3) := dk_167 0 6 (dk_at dksX0_bare_0 9 rfl rfl)
theorem dX0_bare_12 : decode cX0_bare 12 = .ok (.astore_n 3, 1) := dk_78 (dk_at dksX0_bare_0 12 rfl rfl)
theorem dX0_bare_13 : decode cX0_bare 13 = .ok (.iconst 1, 1) := dk_4 (dk_at dksX0_bare_0 13 rfl rfl)
theorem dX0_bare_14 : decode cX0_bare 14 = .ok (.ireturn, 1) := dk_172 (dk_at dksX0_bare_0 14 rfl rfl)
theorem dX0_bare_15 : decode cX0_bare 15 = .ok (.iconst 0, 1) := dk_3 (dk_at dksX0_bare_0 15 rfl rfl)
theorem dX0_bare_16 : decode cX0_bare 16 = .ok (.ireturn, 1) := dk_172 (dk_at dksX0_bare_0 16 rfl rfl)
abbrev cX0_log : ByteArray := method_38_code
def yX0_log : MethodName := ⟨RX0, "log", "(LGlacierMail;II[J)I"⟩
def dkwX0_log_0 : List UInt8 := [45, 3, 42, 27, 28, 182, 0, 132, 133, 80, 167, 0, 7, 58, 4, 4, 172, 3, 172]
abbrev dktX0_log_0 : List UInt8 := dkwX0_log_0 ++ []
theorem dksX0_log_0 : cX0_log.data.toList.drop 0 = dktX0_log_0 := by decide +kernel
theorem dX0_log_0 : decode cX0_log 0 = .ok (.aload_n 3, 1) := dk_45 (dk_at dksX0_log_0 0 rfl rfl)
theorem dX0_log_1 : decode cX0_log 1 = .ok (.iconst 0, 1) := dk_3 (dk_at dksX0_log_0 1 rfl rfl)
theorem dX0_log_2 : decode cX0_log 2 = .ok (.aload_n 0, 1) := dk_42 (dk_at dksX0_log_0 2 rfl rfl)
theorem dX0_log_3 : decode cX0_log 3 = .ok (.iload_n 1, 1) := dk_27 (dk_at dksX0_log_0 3 rfl rfl)
theorem dX0_log_4 : decode cX0_log 4 = .ok (.iload_n 2, 1) := dk_28 (dk_at dksX0_log_0 4 rfl rfl)
theorem dX0_log_5 : decode cX0_log 5 = .ok (.invokevirtual 132, 3) := dk_182 0 132 (dk_at dksX0_log_0 5 rfl rfl)
theorem dX0_log_8 : decode cX0_log 8 = .ok (.i2l, 1) := dk_133 (dk_at dksX0_log_0 8 rfl rfl)
theorem dX0_log_9 : decode cX0_log 9 = .ok (.lastore, 1) := dk_80 (dk_at dksX0_log_0 9 rfl rfl)
theorem dX0_log_10 : decode cX0_log 10 = .ok (.goto 7, 3) := dk_167 0 7 (dk_at dksX0_log_0 10 rfl rfl)
theorem dX0_log_13 : decode cX0_log 13 = .ok (.astore 4, 2) := dk_58 4 (dk_at dksX0_log_0 13 rfl rfl)
theorem dX0_log_15 : decode cX0_log 15 = .ok (.iconst 1, 1) := dk_4 (dk_at dksX0_log_0 15 rfl rfl)
theorem dX0_log_16 : decode cX0_log 16 = .ok (.ireturn, 1) := dk_172 (dk_at dksX0_log_0 16 rfl rfl)
theorem dX0_log_17 : decode cX0_log 17 = .ok (.iconst 0, 1) := dk_3 (dk_at dksX0_log_0 17 rfl rfl)
theorem dX0_log_18 : decode cX0_log 18 = .ok (.ireturn, 1) := dk_172 (dk_at dksX0_log_0 18 rfl rfl)
theorem q134 : (Jvm.Cond.initialized "GlacierMailLaw") ∈ lw_all := lw_g (lw_at lw_m1 0 rfl) rfl
theorem q169 : (Jvm.Cond.classLink "GlacierMailLaw" (8 : Nat) "GlacierMail") ∈ lw_all := lw_g (lw_at lw_m1 35 rfl) rfl
theorem q171 : (Jvm.Cond.methodLink "GlacierMailLaw" (135 : Nat) ({ cls := "GlacierMail", name := "<init>", desc := "()V" } : Jvm.MethodName)) ∈ lw_all := lw_g (lw_at lw_m1 37 rfl) rfl
theorem q622 : (Jvm.Cond.methodLink "GlacierMailLaw" (139 : Nat) ({ cls := "GlacierMail", name := "feed", desc := "(IIIII)I" } : Jvm.MethodName)) ∈ lw_all := lw_g (lw_at lw_m3 8 rfl) rfl
theorem q630 : (Jvm.Cond.methodLink "GlacierMailLaw" (144 : Nat) ({ cls := "GlacierMail", name := "end", desc := "(I)Z" } : Jvm.MethodName)) ∈ lw_all := lw_g (lw_at lw_m3 16 rfl) rfl
theorem q637 : (Jvm.Cond.methodLink "GlacierMailLaw" (161 : Nat) ({ cls := "GlacierMail", name := "fault", desc := "()I" } : Jvm.MethodName)) ∈ lw_all := lw_g (lw_at lw_m3 23 rfl) rfl
theorem q641 : (Jvm.Cond.methodLink "GlacierMailLaw" (217 : Nat) ({ cls := "GlacierMail", name := "lost", desc := "()I" } : Jvm.MethodName)) ∈ lw_all := lw_g (lw_at lw_m3 27 rfl) rfl
theorem q744 : (Jvm.Cond.methodLink "GlacierMailLaw" (221 : Nat) ({ cls := "GlacierMail", name := "market", desc := "(Z)I" } : Jvm.MethodName)) ∈ lw_all := lw_g (lw_at lw_m3 130 rfl) rfl
theorem q749 : (Jvm.Cond.methodLink "GlacierMailLaw" (241 : Nat) ({ cls := "GlacierMail", name := "poles", desc := "()I" } : Jvm.MethodName)) ∈ lw_all := lw_g (lw_at lw_m3 135 rfl) rfl
theorem q763 : (Jvm.Cond.methodLink "GlacierMailLaw" (271 : Nat) ({ cls := "GlacierMail", name := "order", desc := "(I)I" } : Jvm.MethodName)) ∈ lw_all := lw_g (lw_at lw_m3 149 rfl) rfl
theorem q767 : (Jvm.Cond.methodLink "GlacierMailLaw" (290 : Nat) ({ cls := "GlacierMail", name := "undo", desc := "()Z" } : Jvm.MethodName)) ∈ lw_all := lw_g (lw_at lw_m3 153 rfl) rfl
theorem q795 : (Jvm.Cond.methodLink "GlacierMailLaw" (295 : Nat) ({ cls := "GlacierMail", name := "image", desc := "()V" } : Jvm.MethodName)) ∈ lw_all := lw_g (lw_at lw_m3 181 rfl) rfl
theorem q799 : (Jvm.Cond.methodLink "GlacierMailLaw" (299 : Nat) ({ cls := "GlacierMail", name := "back", desc := "()Z" } : Jvm.MethodName)) ∈ lw_all := lw_g (lw_at lw_m3 185 rfl) rfl
theorem q803 : (Jvm.Cond.methodLink "GlacierMailLaw" (303 : Nat) ({ cls := "GlacierMail", name := "count", desc := "(I)I" } : Jvm.MethodName)) ∈ lw_all := lw_g (lw_at lw_m3 189 rfl) rfl
theorem q819 : (Jvm.Cond.methodLink "GlacierMailLaw" (149 : Nat) ({ cls := "GlacierMailLaw", name := "valley", desc := "(LGlacierMail;[J)I" } : Jvm.MethodName)) ∈ lw_all := lw_g (lw_at lw_m3 205 rfl) rfl
theorem q820 : (Jvm.Cond.static ({ cls := "GlacierMailLaw", name := "valley", desc := "(LGlacierMail;[J)I" } : Jvm.MethodName)) ∈ lw_all := lw_g (lw_at lw_m3 206 rfl) rfl
theorem q821 : (Jvm.Cond.codeWith ({ cls := "GlacierMailLaw", name := "valley", desc := "(LGlacierMail;[J)I" } : Jvm.MethodName) method_3_code (3 : Nat) (Option.some Jvm.ClassFile.FieldType.int) [((0 : Nat), (8 : Nat), (11 : Nat), (13 : Nat)), ((0 : Nat), (8 : Nat), (14 : Nat), (15 : Nat))]) ∈ lw_all := lw_g (lw_at lw_m3 207 rfl) rfl
theorem q822 : (Jvm.Cond.classLink "GlacierMailLaw" (13 : Nat) "java/lang/IllegalArgumentException") ∈ lw_all := lw_g (lw_at lw_m3 208 rfl) rfl
theorem q823 : (Jvm.Cond.classLink "GlacierMailLaw" (15 : Nat) "java/lang/UnsupportedOperationException") ∈ lw_all := lw_g (lw_at lw_m3 209 rfl) rfl
theorem q824 : (Jvm.Cond.methodLink "GlacierMailLaw" (7 : Nat) ({ cls := "GlacierMail", name := "valley", desc := "()I" } : Jvm.MethodName)) ∈ lw_all := lw_g (lw_at lw_m3 210 rfl) rfl
theorem q1005 : (Jvm.Cond.methodLink "GlacierMailLaw" (158 : Nat) ({ cls := "GlacierMailLaw", name := "law", desc := "(LGlacierMail;[J)I" } : Jvm.MethodName)) ∈ lw_all := lw_g (lw_at lw_m4 151 rfl) rfl
theorem q1006 : (Jvm.Cond.static ({ cls := "GlacierMailLaw", name := "law", desc := "(LGlacierMail;[J)I" } : Jvm.MethodName)) ∈ lw_all := lw_g (lw_at lw_m4 152 rfl) rfl
theorem q1007 : (Jvm.Cond.codeWith ({ cls := "GlacierMailLaw", name := "law", desc := "(LGlacierMail;[J)I" } : Jvm.MethodName) method_4_code (3 : Nat) (Option.some Jvm.ClassFile.FieldType.int) [((0 : Nat), (8 : Nat), (11 : Nat), (13 : Nat))]) ∈ lw_all := lw_g (lw_at lw_m4 153 rfl) rfl
theorem q1008 : (Jvm.Cond.methodLink "GlacierMailLaw" (17 : Nat) ({ cls := "GlacierMail", name := "law", desc := "()I" } : Jvm.MethodName)) ∈ lw_all := lw_g (lw_at lw_m4 154 rfl) rfl
theorem q1137 : (Jvm.Cond.methodLink "GlacierMailLaw" (165 : Nat) ({ cls := "GlacierMailLaw", name := "heat", desc := "(LGlacierMail;I[J)I" } : Jvm.MethodName)) ∈ lw_all := lw_g (lw_at lw_m5 43 rfl) rfl
theorem q1138 : (Jvm.Cond.static ({ cls := "GlacierMailLaw", name := "heat", desc := "(LGlacierMail;I[J)I" } : Jvm.MethodName)) ∈ lw_all := lw_g (lw_at lw_m5 44 rfl) rfl
theorem q1139 : (Jvm.Cond.codeWith ({ cls := "GlacierMailLaw", name := "heat", desc := "(LGlacierMail;I[J)I" } : Jvm.MethodName) method_5_code (4 : Nat) (Option.some Jvm.ClassFile.FieldType.int) [((0 : Nat), (9 : Nat), (12 : Nat), (13 : Nat))]) ∈ lw_all := lw_g (lw_at lw_m5 45 rfl) rfl
theorem q1140 : (Jvm.Cond.methodLink "GlacierMailLaw" (20 : Nat) ({ cls := "GlacierMail", name := "heat", desc := "(I)I" } : Jvm.MethodName)) ∈ lw_all := lw_g (lw_at lw_m5 46 rfl) rfl
theorem q1150 : (Jvm.Cond.methodLink "GlacierMailLaw" (169 : Nat) ({ cls := "GlacierMailLaw", name := "speed", desc := "(LGlacierMail;II[J)I" } : Jvm.MethodName)) ∈ lw_all := lw_g (lw_at lw_m5 56 rfl) rfl
theorem q1151 : (Jvm.Cond.static ({ cls := "GlacierMailLaw", name := "speed", desc := "(LGlacierMail;II[J)I" } : Jvm.MethodName)) ∈ lw_all := lw_g (lw_at lw_m5 57 rfl) rfl
theorem q1152 : (Jvm.Cond.codeWith ({ cls := "GlacierMailLaw", name := "speed", desc := "(LGlacierMail;II[J)I" } : Jvm.MethodName) method_6_code (5 : Nat) (Option.some Jvm.ClassFile.FieldType.int) [((0 : Nat), (10 : Nat), (13 : Nat), (28 : Nat))]) ∈ lw_all := lw_g (lw_at lw_m5 58 rfl) rfl
theorem q1153 : (Jvm.Cond.classLink "GlacierMailLaw" (28 : Nat) "java/lang/IndexOutOfBoundsException") ∈ lw_all := lw_g (lw_at lw_m5 59 rfl) rfl
theorem q1185 : (Jvm.Cond.methodLink "GlacierMailLaw" (24 : Nat) ({ cls := "GlacierMail", name := "speed", desc := "(II)I" } : Jvm.MethodName)) ∈ lw_all := lw_g (lw_at lw_m5 91 rfl) rfl
theorem q1216 : (Jvm.Cond.methodLink "GlacierMailLaw" (173 : Nat) ({ cls := "GlacierMailLaw", name := "flow", desc := "(LGlacierMail;III[J)I" } : Jvm.MethodName)) ∈ lw_all := lw_g (lw_at lw_m5 122 rfl) rfl
theorem q1217 : (Jvm.Cond.static ({ cls := "GlacierMailLaw", name := "flow", desc := "(LGlacierMail;III[J)I" } : Jvm.MethodName)) ∈ lw_all := lw_g (lw_at lw_m5 123 rfl) rfl
theorem q1218 : (Jvm.Cond.codeWith ({ cls := "GlacierMailLaw", name := "flow", desc := "(LGlacierMail;III[J)I" } : Jvm.MethodName) method_7_code (6 : Nat) (Option.some Jvm.ClassFile.FieldType.int) [((0 : Nat), (12 : Nat), (15 : Nat), (28 : Nat)), ((0 : Nat), (12 : Nat), (19 : Nat), (13 : Nat))]) ∈ lw_all := lw_g (lw_at lw_m5 124 rfl) rfl
theorem q1219 : (Jvm.Cond.methodLink "GlacierMailLaw" (30 : Nat) ({ cls := "GlacierMail", name := "flow", desc := "(III)I" } : Jvm.MethodName)) ∈ lw_all := lw_g (lw_at lw_m5 125 rfl) rfl
theorem q1223 : (Jvm.Cond.methodLink "GlacierMailLaw" (177 : Nat) ({ cls := "GlacierMailLaw", name := "person", desc := "(LGlacierMail;II[J)I" } : Jvm.MethodName)) ∈ lw_all := lw_g (lw_at lw_m5 129 rfl) rfl
theorem q1224 : (Jvm.Cond.static ({ cls := "GlacierMailLaw", name := "person", desc := "(LGlacierMail;II[J)I" } : Jvm.MethodName)) ∈ lw_all := lw_g (lw_at lw_m5 130 rfl) rfl
theorem q1225 : (Jvm.Cond.codeWith ({ cls := "GlacierMailLaw", name := "person", desc := "(LGlacierMail;II[J)I" } : Jvm.MethodName) method_8_code (5 : Nat) (Option.some Jvm.ClassFile.FieldType.int) [((0 : Nat), (10 : Nat), (13 : Nat), (28 : Nat)), ((0 : Nat), (10 : Nat), (17 : Nat), (37 : Nat))]) ∈ lw_all := lw_g (lw_at lw_m5 131 rfl) rfl
theorem q1226 : (Jvm.Cond.classLink "GlacierMailLaw" (37 : Nat) "java/util/NoSuchElementException") ∈ lw_all := lw_g (lw_at lw_m5 132 rfl) rfl
theorem q1227 : (Jvm.Cond.methodLink "GlacierMailLaw" (34 : Nat) ({ cls := "GlacierMail", name := "person", desc := "(II)I" } : Jvm.MethodName)) ∈ lw_all := lw_g (lw_at lw_m5 133 rfl) rfl
theorem q1254 : (Jvm.Cond.methodLink "GlacierMailLaw" (180 : Nat) ({ cls := "GlacierMailLaw", name := "letter", desc := "(LGlacierMail;II[J)I" } : Jvm.MethodName)) ∈ lw_all := lw_g (lw_at lw_m5 160 rfl) rfl
theorem q1255 : (Jvm.Cond.static ({ cls := "GlacierMailLaw", name := "letter", desc := "(LGlacierMail;II[J)I" } : Jvm.MethodName)) ∈ lw_all := lw_g (lw_at lw_m5 161 rfl) rfl
theorem q1256 : (Jvm.Cond.codeWith ({ cls := "GlacierMailLaw", name := "letter", desc := "(LGlacierMail;II[J)I" } : Jvm.MethodName) method_9_code (5 : Nat) (Option.some Jvm.ClassFile.FieldType.int) [((0 : Nat), (10 : Nat), (13 : Nat), (28 : Nat)), ((0 : Nat), (10 : Nat), (17 : Nat), (37 : Nat))]) ∈ lw_all := lw_g (lw_at lw_m5 162 rfl) rfl
theorem q1257 : (Jvm.Cond.methodLink "GlacierMailLaw" (39 : Nat) ({ cls := "GlacierMail", name := "letter", desc := "(II)I" } : Jvm.MethodName)) ∈ lw_all := lw_g (lw_at lw_m5 163 rfl) rfl
theorem q1282 : (Jvm.Cond.methodLink "GlacierMailLaw" (183 : Nat) ({ cls := "GlacierMailLaw", name := "where", desc := "(LGlacierMail;II[J)I" } : Jvm.MethodName)) ∈ lw_all := lw_g (lw_at lw_m5 188 rfl) rfl
theorem q1283 : (Jvm.Cond.static ({ cls := "GlacierMailLaw", name := "where", desc := "(LGlacierMail;II[J)I" } : Jvm.MethodName)) ∈ lw_all := lw_g (lw_at lw_m5 189 rfl) rfl
theorem q1284 : (Jvm.Cond.codeWith ({ cls := "GlacierMailLaw", name := "where", desc := "(LGlacierMail;II[J)I" } : Jvm.MethodName) method_10_code (5 : Nat) (Option.some Jvm.ClassFile.FieldType.int) [((0 : Nat), (10 : Nat), (13 : Nat), (28 : Nat)), ((0 : Nat), (10 : Nat), (17 : Nat), (13 : Nat))]) ∈ lw_all := lw_g (lw_at lw_m5 190 rfl) rfl
theorem q1285 : (Jvm.Cond.methodLink "GlacierMailLaw" (42 : Nat) ({ cls := "GlacierMail", name := "where", desc := "(II)I" } : Jvm.MethodName)) ∈ lw_all := lw_g (lw_at lw_m5 191 rfl) rfl
theorem q1289 : (Jvm.Cond.methodLink "GlacierMailLaw" (186 : Nat) ({ cls := "GlacierMailLaw", name := "deep", desc := "(LGlacierMail;II[J)I" } : Jvm.MethodName)) ∈ lw_all := lw_g (lw_at lw_m5 195 rfl) rfl
theorem q1290 : (Jvm.Cond.static ({ cls := "GlacierMailLaw", name := "deep", desc := "(LGlacierMail;II[J)I" } : Jvm.MethodName)) ∈ lw_all := lw_g (lw_at lw_m5 196 rfl) rfl
theorem q1291 : (Jvm.Cond.codeWith ({ cls := "GlacierMailLaw", name := "deep", desc := "(LGlacierMail;II[J)I" } : Jvm.MethodName) method_11_code (5 : Nat) (Option.some Jvm.ClassFile.FieldType.int) [((0 : Nat), (10 : Nat), (13 : Nat), (28 : Nat)), ((0 : Nat), (10 : Nat), (17 : Nat), (13 : Nat))]) ∈ lw_all := lw_g (lw_at lw_m5 197 rfl) rfl
theorem q1292 : (Jvm.Cond.methodLink "GlacierMailLaw" (45 : Nat) ({ cls := "GlacierMail", name := "deep", desc := "(II)I" } : Jvm.MethodName)) ∈ lw_all := lw_g (lw_at lw_m5 198 rfl) rfl
theorem q1296 : (Jvm.Cond.methodLink "GlacierMailLaw" (189 : Nat) ({ cls := "GlacierMailLaw", name := "post", desc := "(LGlacierMail;II[J)I" } : Jvm.MethodName)) ∈ lw_all := lw_g (lw_at lw_m5 202 rfl) rfl
theorem q1297 : (Jvm.Cond.static ({ cls := "GlacierMailLaw", name := "post", desc := "(LGlacierMail;II[J)I" } : Jvm.MethodName)) ∈ lw_all := lw_g (lw_at lw_m5 203 rfl) rfl
theorem q1298 : (Jvm.Cond.codeWith ({ cls := "GlacierMailLaw", name := "post", desc := "(LGlacierMail;II[J)I" } : Jvm.MethodName) method_12_code (5 : Nat) (Option.some Jvm.ClassFile.FieldType.int) [((0 : Nat), (10 : Nat), (13 : Nat), (28 : Nat)), ((0 : Nat), (10 : Nat), (17 : Nat), (13 : Nat)), ((0 : Nat), (10 : Nat), (21 : Nat), (15 : Nat))]) ∈ lw_all := lw_g (lw_at lw_m5 204 rfl) rfl
theorem q1299 : (Jvm.Cond.methodLink "GlacierMailLaw" (48 : Nat) ({ cls := "GlacierMail", name := "post", desc := "(II)I" } : Jvm.MethodName)) ∈ lw_all := lw_g (lw_at lw_m5 205 rfl) rfl
theorem q1309 : (Jvm.Cond.methodLink "GlacierMailLaw" (192 : Nat) ({ cls := "GlacierMailLaw", name := "watch", desc := "(LGlacierMail;II[J)I" } : Jvm.MethodName)) ∈ lw_all := lw_g (lw_at lw_m5 215 rfl) rfl
theorem q1310 : (Jvm.Cond.static ({ cls := "GlacierMailLaw", name := "watch", desc := "(LGlacierMail;II[J)I" } : Jvm.MethodName)) ∈ lw_all := lw_g (lw_at lw_m5 216 rfl) rfl
theorem q1311 : (Jvm.Cond.codeWith ({ cls := "GlacierMailLaw", name := "watch", desc := "(LGlacierMail;II[J)I" } : Jvm.MethodName) method_13_code (5 : Nat) (Option.some Jvm.ClassFile.FieldType.int) [((0 : Nat), (10 : Nat), (13 : Nat), (28 : Nat))]) ∈ lw_all := lw_g (lw_at lw_m5 217 rfl) rfl
theorem q1312 : (Jvm.Cond.methodLink "GlacierMailLaw" (51 : Nat) ({ cls := "GlacierMail", name := "watch", desc := "(II)I" } : Jvm.MethodName)) ∈ lw_all := lw_g (lw_at lw_m5 218 rfl) rfl
theorem q1316 : (Jvm.Cond.methodLink "GlacierMailLaw" (195 : Nat) ({ cls := "GlacierMailLaw", name := "open", desc := "(LGlacierMail;I[J)I" } : Jvm.MethodName)) ∈ lw_all := lw_g (lw_at lw_m5 222 rfl) rfl
theorem q1317 : (Jvm.Cond.static ({ cls := "GlacierMailLaw", name := "open", desc := "(LGlacierMail;I[J)I" } : Jvm.MethodName)) ∈ lw_all := lw_g (lw_at lw_m5 223 rfl) rfl
theorem q1318 : (Jvm.Cond.codeWith ({ cls := "GlacierMailLaw", name := "open", desc := "(LGlacierMail;I[J)I" } : Jvm.MethodName) method_14_code (4 : Nat) (Option.some Jvm.ClassFile.FieldType.int) [((0 : Nat), (9 : Nat), (12 : Nat), (28 : Nat)), ((0 : Nat), (9 : Nat), (15 : Nat), (57 : Nat))]) ∈ lw_all := lw_g (lw_at lw_m5 224 rfl) rfl
theorem q1319 : (Jvm.Cond.classLink "GlacierMailLaw" (57 : Nat) "java/lang/IllegalStateException") ∈ lw_all := lw_g (lw_at lw_m5 225 rfl) rfl
theorem q1320 : (Jvm.Cond.methodLink "GlacierMailLaw" (54 : Nat) ({ cls := "GlacierMail", name := "open", desc := "(I)I" } : Jvm.MethodName)) ∈ lw_all := lw_g (lw_at lw_m5 226 rfl) rfl
theorem q1343 : (Jvm.Cond.methodLink "GlacierMailLaw" (198 : Nat) ({ cls := "GlacierMailLaw", name := "years", desc := "(LGlacierMail;I[J)I" } : Jvm.MethodName)) ∈ lw_all := lw_g (lw_at lw_m6 9 rfl) rfl
theorem q1344 : (Jvm.Cond.static ({ cls := "GlacierMailLaw", name := "years", desc := "(LGlacierMail;I[J)I" } : Jvm.MethodName)) ∈ lw_all := lw_g (lw_at lw_m6 10 rfl) rfl
theorem q1345 : (Jvm.Cond.codeWith ({ cls := "GlacierMailLaw", name := "years", desc := "(LGlacierMail;I[J)I" } : Jvm.MethodName) method_15_code (4 : Nat) (Option.some Jvm.ClassFile.FieldType.int) [((0 : Nat), (9 : Nat), (12 : Nat), (13 : Nat))]) ∈ lw_all := lw_g (lw_at lw_m6 11 rfl) rfl
theorem q1346 : (Jvm.Cond.methodLink "GlacierMailLaw" (59 : Nat) ({ cls := "GlacierMail", name := "years", desc := "(I)I" } : Jvm.MethodName)) ∈ lw_all := lw_g (lw_at lw_m6 12 rfl) rfl
theorem q1370 : (Jvm.Cond.methodLink "GlacierMailLaw" (201 : Nat) ({ cls := "GlacierMailLaw", name := "throwsFor", desc := "(LGlacierMail;IIII[J)I" } : Jvm.MethodName)) ∈ lw_all := lw_g (lw_at lw_m6 36 rfl) rfl
theorem q1371 : (Jvm.Cond.static ({ cls := "GlacierMailLaw", name := "throwsFor", desc := "(LGlacierMail;IIII[J)I" } : Jvm.MethodName)) ∈ lw_all := lw_g (lw_at lw_m6 37 rfl) rfl
theorem q1372 : (Jvm.Cond.codeWith ({ cls := "GlacierMailLaw", name := "throwsFor", desc := "(LGlacierMail;IIII[J)I" } : Jvm.MethodName) method_16_code (7 : Nat) (Option.some Jvm.ClassFile.FieldType.int) [((0 : Nat), (14 : Nat), (17 : Nat), (28 : Nat)), ((0 : Nat), (14 : Nat), (21 : Nat), (13 : Nat)), ((0 : Nat), (14 : Nat), (25 : Nat), (37 : Nat))]) ∈ lw_all := lw_g (lw_at lw_m6 38 rfl) rfl
theorem q1373 : (Jvm.Cond.methodLink "GlacierMailLaw" (62 : Nat) ({ cls := "GlacierMail", name := "throwsFor", desc := "(IIII)I" } : Jvm.MethodName)) ∈ lw_all := lw_g (lw_at lw_m6 39 rfl) rfl
theorem q1381 : (Jvm.Cond.methodLink "GlacierMailLaw" (205 : Nat) ({ cls := "GlacierMailLaw", name := "latest", desc := "(LGlacierMail;II[J)I" } : Jvm.MethodName)) ∈ lw_all := lw_g (lw_at lw_m6 47 rfl) rfl
theorem q1382 : (Jvm.Cond.static ({ cls := "GlacierMailLaw", name := "latest", desc := "(LGlacierMail;II[J)I" } : Jvm.MethodName)) ∈ lw_all := lw_g (lw_at lw_m6 48 rfl) rfl
theorem q1383 : (Jvm.Cond.codeWith ({ cls := "GlacierMailLaw", name := "latest", desc := "(LGlacierMail;II[J)I" } : Jvm.MethodName) method_17_code (5 : Nat) (Option.some Jvm.ClassFile.FieldType.int) [((0 : Nat), (10 : Nat), (13 : Nat), (28 : Nat)), ((0 : Nat), (10 : Nat), (17 : Nat), (13 : Nat))]) ∈ lw_all := lw_g (lw_at lw_m6 49 rfl) rfl
theorem q1384 : (Jvm.Cond.methodLink "GlacierMailLaw" (66 : Nat) ({ cls := "GlacierMail", name := "latest", desc := "(II)I" } : Jvm.MethodName)) ∈ lw_all := lw_g (lw_at lw_m6 50 rfl) rfl
theorem q1388 : (Jvm.Cond.methodLink "GlacierMailLaw" (208 : Nat) ({ cls := "GlacierMailLaw", name := "hut", desc := "(LGlacierMail;II[J)I" } : Jvm.MethodName)) ∈ lw_all := lw_g (lw_at lw_m6 54 rfl) rfl
theorem q1389 : (Jvm.Cond.static ({ cls := "GlacierMailLaw", name := "hut", desc := "(LGlacierMail;II[J)I" } : Jvm.MethodName)) ∈ lw_all := lw_g (lw_at lw_m6 55 rfl) rfl
theorem q1390 : (Jvm.Cond.codeWith ({ cls := "GlacierMailLaw", name := "hut", desc := "(LGlacierMail;II[J)I" } : Jvm.MethodName) method_18_code (5 : Nat) (Option.some Jvm.ClassFile.FieldType.int) [((0 : Nat), (10 : Nat), (13 : Nat), (28 : Nat)), ((0 : Nat), (10 : Nat), (17 : Nat), (13 : Nat))]) ∈ lw_all := lw_g (lw_at lw_m6 56 rfl) rfl
theorem q1391 : (Jvm.Cond.methodLink "GlacierMailLaw" (69 : Nat) ({ cls := "GlacierMail", name := "hut", desc := "(II)I" } : Jvm.MethodName)) ∈ lw_all := lw_g (lw_at lw_m6 57 rfl) rfl
theorem q1395 : (Jvm.Cond.methodLink "GlacierMailLaw" (211 : Nat) ({ cls := "GlacierMailLaw", name := "without", desc := "(LGlacierMail;II[J)I" } : Jvm.MethodName)) ∈ lw_all := lw_g (lw_at lw_m6 61 rfl) rfl
theorem q1396 : (Jvm.Cond.static ({ cls := "GlacierMailLaw", name := "without", desc := "(LGlacierMail;II[J)I" } : Jvm.MethodName)) ∈ lw_all := lw_g (lw_at lw_m6 62 rfl) rfl
theorem q1397 : (Jvm.Cond.codeWith ({ cls := "GlacierMailLaw", name := "without", desc := "(LGlacierMail;II[J)I" } : Jvm.MethodName) method_19_code (5 : Nat) (Option.some Jvm.ClassFile.FieldType.int) [((0 : Nat), (10 : Nat), (13 : Nat), (28 : Nat))]) ∈ lw_all := lw_g (lw_at lw_m6 63 rfl) rfl
theorem q1398 : (Jvm.Cond.methodLink "GlacierMailLaw" (72 : Nat) ({ cls := "GlacierMail", name := "without", desc := "(II)I" } : Jvm.MethodName)) ∈ lw_all := lw_g (lw_at lw_m6 64 rfl) rfl
theorem q1406 : (Jvm.Cond.methodLink "GlacierMailLaw" (214 : Nat) ({ cls := "GlacierMailLaw", name := "moved", desc := "(LGlacierMail;I[J)I" } : Jvm.MethodName)) ∈ lw_all := lw_g (lw_at lw_m6 72 rfl) rfl
theorem q1407 : (Jvm.Cond.static ({ cls := "GlacierMailLaw", name := "moved", desc := "(LGlacierMail;I[J)I" } : Jvm.MethodName)) ∈ lw_all := lw_g (lw_at lw_m6 73 rfl) rfl
theorem q1408 : (Jvm.Cond.codeWith ({ cls := "GlacierMailLaw", name := "moved", desc := "(LGlacierMail;I[J)I" } : Jvm.MethodName) method_20_code (4 : Nat) (Option.some Jvm.ClassFile.FieldType.int) [((0 : Nat), (9 : Nat), (12 : Nat), (28 : Nat))]) ∈ lw_all := lw_g (lw_at lw_m6 74 rfl) rfl
theorem q1409 : (Jvm.Cond.methodLink "GlacierMailLaw" (75 : Nat) ({ cls := "GlacierMail", name := "moved", desc := "(I)I" } : Jvm.MethodName)) ∈ lw_all := lw_g (lw_at lw_m6 75 rfl) rfl
theorem q1415 : (Jvm.Cond.methodLink "GlacierMailLaw" (226 : Nat) ({ cls := "GlacierMailLaw", name := "passes", desc := "(LGlacierMail;I[J)I" } : Jvm.MethodName)) ∈ lw_all := lw_g (lw_at lw_m6 81 rfl) rfl
theorem q1416 : (Jvm.Cond.static ({ cls := "GlacierMailLaw", name := "passes", desc := "(LGlacierMail;I[J)I" } : Jvm.MethodName)) ∈ lw_all := lw_g (lw_at lw_m6 82 rfl) rfl
theorem q1417 : (Jvm.Cond.codeWith ({ cls := "GlacierMailLaw", name := "passes", desc := "(LGlacierMail;I[J)I" } : Jvm.MethodName) method_21_code (4 : Nat) (Option.some Jvm.ClassFile.FieldType.int) [((0 : Nat), (9 : Nat), (12 : Nat), (28 : Nat))]) ∈ lw_all := lw_g (lw_at lw_m6 83 rfl) rfl
theorem q1418 : (Jvm.Cond.methodLink "GlacierMailLaw" (78 : Nat) ({ cls := "GlacierMail", name := "passes", desc := "(I)I" } : Jvm.MethodName)) ∈ lw_all := lw_g (lw_at lw_m6 84 rfl) rfl
theorem q1427 : (Jvm.Cond.methodLink "GlacierMailLaw" (229 : Nat) ({ cls := "GlacierMailLaw", name := "writers", desc := "(LGlacierMail;III[J)I" } : Jvm.MethodName)) ∈ lw_all := lw_g (lw_at lw_m6 93 rfl) rfl
theorem q1428 : (Jvm.Cond.static ({ cls := "GlacierMailLaw", name := "writers", desc := "(LGlacierMail;III[J)I" } : Jvm.MethodName)) ∈ lw_all := lw_g (lw_at lw_m6 94 rfl) rfl
theorem q1429 : (Jvm.Cond.codeWith ({ cls := "GlacierMailLaw", name := "writers", desc := "(LGlacierMail;III[J)I" } : Jvm.MethodName) method_22_code (6 : Nat) (Option.some Jvm.ClassFile.FieldType.int) [((0 : Nat), (12 : Nat), (15 : Nat), (28 : Nat)), ((0 : Nat), (12 : Nat), (19 : Nat), (13 : Nat))]) ∈ lw_all := lw_g (lw_at lw_m6 95 rfl) rfl
theorem q1430 : (Jvm.Cond.methodLink "GlacierMailLaw" (81 : Nat) ({ cls := "GlacierMail", name := "writers", desc := "(III)I" } : Jvm.MethodName)) ∈ lw_all := lw_g (lw_at lw_m6 96 rfl) rfl
theorem q1442 : (Jvm.Cond.methodLink "GlacierMailLaw" (232 : Nat) ({ cls := "GlacierMailLaw", name := "wrote", desc := "(LGlacierMail;IIII[J)I" } : Jvm.MethodName)) ∈ lw_all := lw_g (lw_at lw_m6 108 rfl) rfl
theorem q1443 : (Jvm.Cond.static ({ cls := "GlacierMailLaw", name := "wrote", desc := "(LGlacierMail;IIII[J)I" } : Jvm.MethodName)) ∈ lw_all := lw_g (lw_at lw_m6 109 rfl) rfl
theorem q1444 : (Jvm.Cond.codeWith ({ cls := "GlacierMailLaw", name := "wrote", desc := "(LGlacierMail;IIII[J)I" } : Jvm.MethodName) method_23_code (7 : Nat) (Option.some Jvm.ClassFile.FieldType.int) [((0 : Nat), (14 : Nat), (17 : Nat), (28 : Nat)), ((0 : Nat), (14 : Nat), (21 : Nat), (13 : Nat))]) ∈ lw_all := lw_g (lw_at lw_m6 110 rfl) rfl
theorem q1445 : (Jvm.Cond.methodLink "GlacierMailLaw" (84 : Nat) ({ cls := "GlacierMail", name := "wrote", desc := "(IIII)I" } : Jvm.MethodName)) ∈ lw_all := lw_g (lw_at lw_m6 111 rfl) rfl
theorem q1449 : (Jvm.Cond.methodLink "GlacierMailLaw" (235 : Nat) ({ cls := "GlacierMailLaw", name := "table", desc := "(LGlacierMail;II[J)I" } : Jvm.MethodName)) ∈ lw_all := lw_g (lw_at lw_m6 115 rfl) rfl
theorem q1450 : (Jvm.Cond.static ({ cls := "GlacierMailLaw", name := "table", desc := "(LGlacierMail;II[J)I" } : Jvm.MethodName)) ∈ lw_all := lw_g (lw_at lw_m6 116 rfl) rfl
theorem q1451 : (Jvm.Cond.codeWith ({ cls := "GlacierMailLaw", name := "table", desc := "(LGlacierMail;II[J)I" } : Jvm.MethodName) method_24_code (5 : Nat) (Option.some Jvm.ClassFile.FieldType.int) [((0 : Nat), (10 : Nat), (13 : Nat), (28 : Nat))]) ∈ lw_all := lw_g (lw_at lw_m6 117 rfl) rfl
theorem q1452 : (Jvm.Cond.methodLink "GlacierMailLaw" (87 : Nat) ({ cls := "GlacierMail", name := "table", desc := "(II)I" } : Jvm.MethodName)) ∈ lw_all := lw_g (lw_at lw_m6 118 rfl) rfl
theorem q1460 : (Jvm.Cond.methodLink "GlacierMailLaw" (238 : Nat) ({ cls := "GlacierMailLaw", name := "apart", desc := "(LGlacierMail;III[J)I" } : Jvm.MethodName)) ∈ lw_all := lw_g (lw_at lw_m6 126 rfl) rfl
theorem q1461 : (Jvm.Cond.static ({ cls := "GlacierMailLaw", name := "apart", desc := "(LGlacierMail;III[J)I" } : Jvm.MethodName)) ∈ lw_all := lw_g (lw_at lw_m6 127 rfl) rfl
theorem q1462 : (Jvm.Cond.codeWith ({ cls := "GlacierMailLaw", name := "apart", desc := "(LGlacierMail;III[J)I" } : Jvm.MethodName) method_25_code (6 : Nat) (Option.some Jvm.ClassFile.FieldType.int) [((0 : Nat), (19 : Nat), (22 : Nat), (28 : Nat))]) ∈ lw_all := lw_g (lw_at lw_m6 128 rfl) rfl
theorem q1463 : (Jvm.Cond.methodLink "GlacierMailLaw" (90 : Nat) ({ cls := "GlacierMail", name := "apart", desc := "(III)Z" } : Jvm.MethodName)) ∈ lw_all := lw_g (lw_at lw_m6 129 rfl) rfl
theorem q1467 : (Jvm.Cond.methodLink "GlacierMailLaw" (245 : Nat) ({ cls := "GlacierMailLaw", name := "fit", desc := "(LGlacierMail;[J)I" } : Jvm.MethodName)) ∈ lw_all := lw_g (lw_at lw_m6 133 rfl) rfl
theorem q1468 : (Jvm.Cond.static ({ cls := "GlacierMailLaw", name := "fit", desc := "(LGlacierMail;[J)I" } : Jvm.MethodName)) ∈ lw_all := lw_g (lw_at lw_m6 134 rfl) rfl
theorem q1469 : (Jvm.Cond.codeWith ({ cls := "GlacierMailLaw", name := "fit", desc := "(LGlacierMail;[J)I" } : Jvm.MethodName) method_26_code (3 : Nat) (Option.some Jvm.ClassFile.FieldType.int) [((0 : Nat), (8 : Nat), (11 : Nat), (13 : Nat))]) ∈ lw_all := lw_g (lw_at lw_m6 135 rfl) rfl
theorem q1470 : (Jvm.Cond.methodLink "GlacierMailLaw" (94 : Nat) ({ cls := "GlacierMail", name := "fit", desc := "()I" } : Jvm.MethodName)) ∈ lw_all := lw_g (lw_at lw_m6 136 rfl) rfl
theorem q1474 : (Jvm.Cond.methodLink "GlacierMailLaw" (248 : Nat) ({ cls := "GlacierMailLaw", name := "soonest", desc := "(LGlacierMail;IIZ[J)I" } : Jvm.MethodName)) ∈ lw_all := lw_g (lw_at lw_m6 140 rfl) rfl
theorem q1475 : (Jvm.Cond.static ({ cls := "GlacierMailLaw", name := "soonest", desc := "(LGlacierMail;IIZ[J)I" } : Jvm.MethodName)) ∈ lw_all := lw_g (lw_at lw_m6 141 rfl) rfl
theorem q1476 : (Jvm.Cond.codeWith ({ cls := "GlacierMailLaw", name := "soonest", desc := "(LGlacierMail;IIZ[J)I" } : Jvm.MethodName) method_27_code (6 : Nat) (Option.some Jvm.ClassFile.FieldType.int) [((0 : Nat), (12 : Nat), (15 : Nat), (28 : Nat)), ((0 : Nat), (12 : Nat), (19 : Nat), (13 : Nat))]) ∈ lw_all := lw_g (lw_at lw_m6 142 rfl) rfl
theorem q1477 : (Jvm.Cond.methodLink "GlacierMailLaw" (97 : Nat) ({ cls := "GlacierMail", name := "soonest", desc := "(IIZ)I" } : Jvm.MethodName)) ∈ lw_all := lw_g (lw_at lw_m6 143 rfl) rfl
theorem q1497 : (Jvm.Cond.methodLink "GlacierMailLaw" (252 : Nat) ({ cls := "GlacierMailLaw", name := "chain", desc := "(LGlacierMail;III[J)I" } : Jvm.MethodName)) ∈ lw_all := lw_g (lw_at lw_m6 163 rfl) rfl
theorem q1498 : (Jvm.Cond.static ({ cls := "GlacierMailLaw", name := "chain", desc := "(LGlacierMail;III[J)I" } : Jvm.MethodName)) ∈ lw_all := lw_g (lw_at lw_m6 164 rfl) rfl
theorem q1499 : (Jvm.Cond.codeWith ({ cls := "GlacierMailLaw", name := "chain", desc := "(LGlacierMail;III[J)I" } : Jvm.MethodName) method_28_code (6 : Nat) (Option.some Jvm.ClassFile.FieldType.int) [((0 : Nat), (12 : Nat), (15 : Nat), (28 : Nat)), ((0 : Nat), (12 : Nat), (19 : Nat), (13 : Nat))]) ∈ lw_all := lw_g (lw_at lw_m6 165 rfl) rfl
theorem q1500 : (Jvm.Cond.methodLink "GlacierMailLaw" (101 : Nat) ({ cls := "GlacierMail", name := "chain", desc := "(III)I" } : Jvm.MethodName)) ∈ lw_all := lw_g (lw_at lw_m6 166 rfl) rfl
theorem q1508 : (Jvm.Cond.methodLink "GlacierMailLaw" (255 : Nat) ({ cls := "GlacierMailLaw", name := "reached", desc := "(LGlacierMail;II[J)I" } : Jvm.MethodName)) ∈ lw_all := lw_g (lw_at lw_m6 174 rfl) rfl
theorem q1509 : (Jvm.Cond.static ({ cls := "GlacierMailLaw", name := "reached", desc := "(LGlacierMail;II[J)I" } : Jvm.MethodName)) ∈ lw_all := lw_g (lw_at lw_m6 175 rfl) rfl
theorem q1510 : (Jvm.Cond.codeWith ({ cls := "GlacierMailLaw", name := "reached", desc := "(LGlacierMail;II[J)I" } : Jvm.MethodName) method_29_code (5 : Nat) (Option.some Jvm.ClassFile.FieldType.int) [((0 : Nat), (10 : Nat), (13 : Nat), (28 : Nat)), ((0 : Nat), (10 : Nat), (17 : Nat), (13 : Nat))]) ∈ lw_all := lw_g (lw_at lw_m6 176 rfl) rfl
theorem q1511 : (Jvm.Cond.methodLink "GlacierMailLaw" (104 : Nat) ({ cls := "GlacierMail", name := "reached", desc := "(II)I" } : Jvm.MethodName)) ∈ lw_all := lw_g (lw_at lw_m6 177 rfl) rfl
theorem q1515 : (Jvm.Cond.methodLink "GlacierMailLaw" (258 : Nat) ({ cls := "GlacierMailLaw", name := "thieves", desc := "(LGlacierMail;IZ[J)I" } : Jvm.MethodName)) ∈ lw_all := lw_g (lw_at lw_m6 181 rfl) rfl
theorem q1516 : (Jvm.Cond.static ({ cls := "GlacierMailLaw", name := "thieves", desc := "(LGlacierMail;IZ[J)I" } : Jvm.MethodName)) ∈ lw_all := lw_g (lw_at lw_m6 182 rfl) rfl
theorem q1517 : (Jvm.Cond.codeWith ({ cls := "GlacierMailLaw", name := "thieves", desc := "(LGlacierMail;IZ[J)I" } : Jvm.MethodName) method_30_code (5 : Nat) (Option.some Jvm.ClassFile.FieldType.int) [((0 : Nat), (10 : Nat), (13 : Nat), (13 : Nat))]) ∈ lw_all := lw_g (lw_at lw_m6 183 rfl) rfl
theorem q1518 : (Jvm.Cond.methodLink "GlacierMailLaw" (107 : Nat) ({ cls := "GlacierMail", name := "thieves", desc := "(IZ)I" } : Jvm.MethodName)) ∈ lw_all := lw_g (lw_at lw_m6 184 rfl) rfl
theorem q1526 : (Jvm.Cond.methodLink "GlacierMailLaw" (262 : Nat) ({ cls := "GlacierMailLaw", name := "watchman", desc := "(LGlacierMail;IZ[J)I" } : Jvm.MethodName)) ∈ lw_all := lw_g (lw_at lw_m6 192 rfl) rfl
theorem q1527 : (Jvm.Cond.static ({ cls := "GlacierMailLaw", name := "watchman", desc := "(LGlacierMail;IZ[J)I" } : Jvm.MethodName)) ∈ lw_all := lw_g (lw_at lw_m6 193 rfl) rfl
theorem q1528 : (Jvm.Cond.codeWith ({ cls := "GlacierMailLaw", name := "watchman", desc := "(LGlacierMail;IZ[J)I" } : Jvm.MethodName) method_31_code (5 : Nat) (Option.some Jvm.ClassFile.FieldType.int) [((0 : Nat), (10 : Nat), (13 : Nat), (13 : Nat))]) ∈ lw_all := lw_g (lw_at lw_m6 194 rfl) rfl
theorem q1529 : (Jvm.Cond.methodLink "GlacierMailLaw" (111 : Nat) ({ cls := "GlacierMail", name := "watchman", desc := "(IZ)I" } : Jvm.MethodName)) ∈ lw_all := lw_g (lw_at lw_m6 195 rfl) rfl
theorem q1533 : (Jvm.Cond.methodLink "GlacierMailLaw" (265 : Nat) ({ cls := "GlacierMailLaw", name := "meeting", desc := "(LGlacierMail;II[J)I" } : Jvm.MethodName)) ∈ lw_all := lw_g (lw_at lw_m6 199 rfl) rfl
theorem q1534 : (Jvm.Cond.static ({ cls := "GlacierMailLaw", name := "meeting", desc := "(LGlacierMail;II[J)I" } : Jvm.MethodName)) ∈ lw_all := lw_g (lw_at lw_m6 200 rfl) rfl
theorem q1535 : (Jvm.Cond.codeWith ({ cls := "GlacierMailLaw", name := "meeting", desc := "(LGlacierMail;II[J)I" } : Jvm.MethodName) method_32_code (5 : Nat) (Option.some Jvm.ClassFile.FieldType.int) [((0 : Nat), (10 : Nat), (13 : Nat), (28 : Nat)), ((0 : Nat), (10 : Nat), (17 : Nat), (13 : Nat))]) ∈ lw_all := lw_g (lw_at lw_m6 201 rfl) rfl
theorem q1536 : (Jvm.Cond.methodLink "GlacierMailLaw" (114 : Nat) ({ cls := "GlacierMail", name := "meeting", desc := "(II)I" } : Jvm.MethodName)) ∈ lw_all := lw_g (lw_at lw_m6 202 rfl) rfl
theorem q1540 : (Jvm.Cond.methodLink "GlacierMailLaw" (268 : Nat) ({ cls := "GlacierMailLaw", name := "outs", desc := "(LGlacierMail;I[J)I" } : Jvm.MethodName)) ∈ lw_all := lw_g (lw_at lw_m6 206 rfl) rfl
theorem q1541 : (Jvm.Cond.static ({ cls := "GlacierMailLaw", name := "outs", desc := "(LGlacierMail;I[J)I" } : Jvm.MethodName)) ∈ lw_all := lw_g (lw_at lw_m6 207 rfl) rfl
theorem q1542 : (Jvm.Cond.codeWith ({ cls := "GlacierMailLaw", name := "outs", desc := "(LGlacierMail;I[J)I" } : Jvm.MethodName) method_33_code (4 : Nat) (Option.some Jvm.ClassFile.FieldType.int) [((0 : Nat), (9 : Nat), (12 : Nat), (13 : Nat))]) ∈ lw_all := lw_g (lw_at lw_m6 208 rfl) rfl
theorem q1543 : (Jvm.Cond.methodLink "GlacierMailLaw" (117 : Nat) ({ cls := "GlacierMail", name := "outs", desc := "(I)I" } : Jvm.MethodName)) ∈ lw_all := lw_g (lw_at lw_m6 209 rfl) rfl
theorem q1547 : (Jvm.Cond.methodLink "GlacierMailLaw" (275 : Nat) ({ cls := "GlacierMailLaw", name := "streams", desc := "(LGlacierMail;IZ[J)I" } : Jvm.MethodName)) ∈ lw_all := lw_g (lw_at lw_m6 213 rfl) rfl
theorem q1548 : (Jvm.Cond.static ({ cls := "GlacierMailLaw", name := "streams", desc := "(LGlacierMail;IZ[J)I" } : Jvm.MethodName)) ∈ lw_all := lw_g (lw_at lw_m6 214 rfl) rfl
theorem q1549 : (Jvm.Cond.codeWith ({ cls := "GlacierMailLaw", name := "streams", desc := "(LGlacierMail;IZ[J)I" } : Jvm.MethodName) method_34_code (5 : Nat) (Option.some Jvm.ClassFile.FieldType.int) [((0 : Nat), (10 : Nat), (13 : Nat), (13 : Nat))]) ∈ lw_all := lw_g (lw_at lw_m6 215 rfl) rfl
theorem q1550 : (Jvm.Cond.methodLink "GlacierMailLaw" (120 : Nat) ({ cls := "GlacierMail", name := "streams", desc := "(IZ)I" } : Jvm.MethodName)) ∈ lw_all := lw_g (lw_at lw_m6 216 rfl) rfl
theorem q1554 : (Jvm.Cond.methodLink "GlacierMailLaw" (278 : Nat) ({ cls := "GlacierMailLaw", name := "range", desc := "(LGlacierMail;II[J)I" } : Jvm.MethodName)) ∈ lw_all := lw_g (lw_at lw_m6 220 rfl) rfl
theorem q1555 : (Jvm.Cond.static ({ cls := "GlacierMailLaw", name := "range", desc := "(LGlacierMail;II[J)I" } : Jvm.MethodName)) ∈ lw_all := lw_g (lw_at lw_m6 221 rfl) rfl
theorem q1556 : (Jvm.Cond.codeWith ({ cls := "GlacierMailLaw", name := "range", desc := "(LGlacierMail;II[J)I" } : Jvm.MethodName) method_35_code (5 : Nat) (Option.some Jvm.ClassFile.FieldType.int) [((0 : Nat), (10 : Nat), (13 : Nat), (28 : Nat)), ((0 : Nat), (10 : Nat), (17 : Nat), (13 : Nat))]) ∈ lw_all := lw_g (lw_at lw_m6 222 rfl) rfl
theorem q1557 : (Jvm.Cond.methodLink "GlacierMailLaw" (123 : Nat) ({ cls := "GlacierMail", name := "range", desc := "(II)I" } : Jvm.MethodName)) ∈ lw_all := lw_g (lw_at lw_m6 223 rfl) rfl
theorem q1561 : (Jvm.Cond.methodLink "GlacierMailLaw" (281 : Nat) ({ cls := "GlacierMailLaw", name := "swiftest", desc := "(LGlacierMail;II[J)I" } : Jvm.MethodName)) ∈ lw_all := lw_g (lw_at lw_m6 227 rfl) rfl
theorem q1562 : (Jvm.Cond.static ({ cls := "GlacierMailLaw", name := "swiftest", desc := "(LGlacierMail;II[J)I" } : Jvm.MethodName)) ∈ lw_all := lw_g (lw_at lw_m6 228 rfl) rfl
theorem q1563 : (Jvm.Cond.codeWith ({ cls := "GlacierMailLaw", name := "swiftest", desc := "(LGlacierMail;II[J)I" } : Jvm.MethodName) method_36_code (5 : Nat) (Option.some Jvm.ClassFile.FieldType.int) [((0 : Nat), (10 : Nat), (13 : Nat), (28 : Nat)), ((0 : Nat), (10 : Nat), (17 : Nat), (13 : Nat))]) ∈ lw_all := lw_g (lw_at lw_m6 229 rfl) rfl
theorem q1564 : (Jvm.Cond.methodLink "GlacierMailLaw" (126 : Nat) ({ cls := "GlacierMail", name := "swiftest", desc := "(II)I" } : Jvm.MethodName)) ∈ lw_all := lw_g (lw_at lw_m6 230 rfl) rfl
theorem q1568 : (Jvm.Cond.methodLink "GlacierMailLaw" (284 : Nat) ({ cls := "GlacierMailLaw", name := "bare", desc := "(LGlacierMail;I[J)I" } : Jvm.MethodName)) ∈ lw_all := lw_g (lw_at lw_m6 234 rfl) rfl
theorem q1569 : (Jvm.Cond.static ({ cls := "GlacierMailLaw", name := "bare", desc := "(LGlacierMail;I[J)I" } : Jvm.MethodName)) ∈ lw_all := lw_g (lw_at lw_m6 235 rfl) rfl
theorem q1570 : (Jvm.Cond.codeWith ({ cls := "GlacierMailLaw", name := "bare", desc := "(LGlacierMail;I[J)I" } : Jvm.MethodName) method_37_code (4 : Nat) (Option.some Jvm.ClassFile.FieldType.int) [((0 : Nat), (9 : Nat), (12 : Nat), (13 : Nat))]) ∈ lw_all := lw_g (lw_at lw_m6 236 rfl) rfl
theorem q1571 : (Jvm.Cond.methodLink "GlacierMailLaw" (129 : Nat) ({ cls := "GlacierMail", name := "bare", desc := "(I)I" } : Jvm.MethodName)) ∈ lw_all := lw_g (lw_at lw_m6 237 rfl) rfl
theorem q1575 : (Jvm.Cond.methodLink "GlacierMailLaw" (287 : Nat) ({ cls := "GlacierMailLaw", name := "log", desc := "(LGlacierMail;II[J)I" } : Jvm.MethodName)) ∈ lw_all := lw_g (lw_at lw_m7 1 rfl) rfl
theorem q1576 : (Jvm.Cond.static ({ cls := "GlacierMailLaw", name := "log", desc := "(LGlacierMail;II[J)I" } : Jvm.MethodName)) ∈ lw_all := lw_g (lw_at lw_m7 2 rfl) rfl
theorem q1577 : (Jvm.Cond.codeWith ({ cls := "GlacierMailLaw", name := "log", desc := "(LGlacierMail;II[J)I" } : Jvm.MethodName) method_38_code (5 : Nat) (Option.some Jvm.ClassFile.FieldType.int) [((0 : Nat), (10 : Nat), (13 : Nat), (37 : Nat))]) ∈ lw_all := lw_g (lw_at lw_m7 3 rfl) rfl
theorem q1578 : (Jvm.Cond.methodLink "GlacierMailLaw" (132 : Nat) ({ cls := "GlacierMail", name := "log", desc := "(II)I" } : Jvm.MethodName)) ∈ lw_all := lw_g (lw_at lw_m7 4 rfl) rfl
theorem q1582 : (Jvm.Cond.methodLink "GlacierMailLaw" (155 : Nat) ({ cls := "GlacierMailModel", name := "thrown", desc := "()I" } : Jvm.MethodName)) ∈ lw_all := lw_g (lw_at lw_m7 8 rfl) rfl
theorem q1586 : (Jvm.Cond.classLink "GlacierMailLaw" (136 : Nat) "GlacierMailModel") ∈ lw_all := lw_g (lw_at lw_m7 12 rfl) rfl
theorem q1588 : (Jvm.Cond.methodLink "GlacierMailLaw" (138 : Nat) ({ cls := "GlacierMailModel", name := "<init>", desc := "()V" } : Jvm.MethodName)) ∈ lw_all := lw_g (lw_at lw_m7 14 rfl) rfl
theorem q1715 : (Jvm.Cond.methodLink "GlacierMailLaw" (298 : Nat) ({ cls := "GlacierMailModel", name := "image", desc := "()V" } : Jvm.MethodName)) ∈ lw_all := lw_g (lw_at lw_m7 141 rfl) rfl
theorem q1719 : (Jvm.Cond.methodLink "GlacierMailLaw" (302 : Nat) ({ cls := "GlacierMailModel", name := "back", desc := "()Z" } : Jvm.MethodName)) ∈ lw_all := lw_g (lw_at lw_m7 145 rfl) rfl
theorem q1723 : (Jvm.Cond.methodLink "GlacierMailLaw" (294 : Nat) ({ cls := "GlacierMailModel", name := "undo", desc := "()Z" } : Jvm.MethodName)) ∈ lw_all := lw_g (lw_at lw_m7 149 rfl) rfl
theorem q1727 : (Jvm.Cond.methodLink "GlacierMailLaw" (143 : Nat) ({ cls := "GlacierMailModel", name := "feed", desc := "(IIIII)I" } : Jvm.MethodName)) ∈ lw_all := lw_g (lw_at lw_m7 153 rfl) rfl
theorem q1731 : (Jvm.Cond.methodLink "GlacierMailLaw" (148 : Nat) ({ cls := "GlacierMailModel", name := "end", desc := "(I)Z" } : Jvm.MethodName)) ∈ lw_all := lw_g (lw_at lw_m7 157 rfl) rfl
theorem q1735 : (Jvm.Cond.methodLink "GlacierMailLaw" (164 : Nat) ({ cls := "GlacierMailModel", name := "fault", desc := "()I" } : Jvm.MethodName)) ∈ lw_all := lw_g (lw_at lw_m7 161 rfl) rfl
theorem q1739 : (Jvm.Cond.methodLink "GlacierMailLaw" (154 : Nat) ({ cls := "GlacierMailModel", name := "valley", desc := "()I" } : Jvm.MethodName)) ∈ lw_all := lw_g (lw_at lw_m7 165 rfl) rfl
theorem q1933 : (Jvm.Cond.methodLink "GlacierMailLaw" (160 : Nat) ({ cls := "GlacierMailModel", name := "law", desc := "()I" } : Jvm.MethodName)) ∈ lw_all := lw_g (lw_at lw_m8 119 rfl) rfl
theorem q1937 : (Jvm.Cond.methodLink "GlacierMailLaw" (168 : Nat) ({ cls := "GlacierMailModel", name := "heat", desc := "(I)I" } : Jvm.MethodName)) ∈ lw_all := lw_g (lw_at lw_m8 123 rfl) rfl
theorem q1947 : (Jvm.Cond.methodLink "GlacierMailLaw" (172 : Nat) ({ cls := "GlacierMailModel", name := "speed", desc := "(II)I" } : Jvm.MethodName)) ∈ lw_all := lw_g (lw_at lw_m8 133 rfl) rfl
theorem q1963 : (Jvm.Cond.methodLink "GlacierMailLaw" (176 : Nat) ({ cls := "GlacierMailModel", name := "flow", desc := "(III)I" } : Jvm.MethodName)) ∈ lw_all := lw_g (lw_at lw_m8 149 rfl) rfl
theorem q1989 : (Jvm.Cond.methodLink "GlacierMailLaw" (179 : Nat) ({ cls := "GlacierMailModel", name := "person", desc := "(II)I" } : Jvm.MethodName)) ∈ lw_all := lw_g (lw_at lw_m8 175 rfl) rfl
theorem q2033 : (Jvm.Cond.methodLink "GlacierMailLaw" (182 : Nat) ({ cls := "GlacierMailModel", name := "letter", desc := "(II)I" } : Jvm.MethodName)) ∈ lw_all := lw_g (lw_at lw_m8 219 rfl) rfl
theorem q2053 : (Jvm.Cond.methodLink "GlacierMailLaw" (185 : Nat) ({ cls := "GlacierMailModel", name := "where", desc := "(II)I" } : Jvm.MethodName)) ∈ lw_all := lw_g (lw_at lw_m8 239 rfl) rfl
theorem q2057 : (Jvm.Cond.methodLink "GlacierMailLaw" (188 : Nat) ({ cls := "GlacierMailModel", name := "deep", desc := "(II)I" } : Jvm.MethodName)) ∈ lw_all := lw_g (lw_at lw_m9 3 rfl) rfl
theorem q2061 : (Jvm.Cond.methodLink "GlacierMailLaw" (191 : Nat) ({ cls := "GlacierMailModel", name := "post", desc := "(II)I" } : Jvm.MethodName)) ∈ lw_all := lw_g (lw_at lw_m9 7 rfl) rfl
theorem q2069 : (Jvm.Cond.methodLink "GlacierMailLaw" (194 : Nat) ({ cls := "GlacierMailModel", name := "watch", desc := "(II)I" } : Jvm.MethodName)) ∈ lw_all := lw_g (lw_at lw_m9 15 rfl) rfl
theorem q2073 : (Jvm.Cond.methodLink "GlacierMailLaw" (197 : Nat) ({ cls := "GlacierMailModel", name := "open", desc := "(I)I" } : Jvm.MethodName)) ∈ lw_all := lw_g (lw_at lw_m9 19 rfl) rfl
theorem q2081 : (Jvm.Cond.methodLink "GlacierMailLaw" (200 : Nat) ({ cls := "GlacierMailModel", name := "years", desc := "(I)I" } : Jvm.MethodName)) ∈ lw_all := lw_g (lw_at lw_m9 27 rfl) rfl
theorem q2097 : (Jvm.Cond.methodLink "GlacierMailLaw" (204 : Nat) ({ cls := "GlacierMailModel", name := "throwsFor", desc := "(IIII)I" } : Jvm.MethodName)) ∈ lw_all := lw_g (lw_at lw_m9 43 rfl) rfl
theorem q2105 : (Jvm.Cond.methodLink "GlacierMailLaw" (207 : Nat) ({ cls := "GlacierMailModel", name := "latest", desc := "(II)I" } : Jvm.MethodName)) ∈ lw_all := lw_g (lw_at lw_m9 51 rfl) rfl
theorem q2109 : (Jvm.Cond.methodLink "GlacierMailLaw" (210 : Nat) ({ cls := "GlacierMailModel", name := "hut", desc := "(II)I" } : Jvm.MethodName)) ∈ lw_all := lw_g (lw_at lw_m9 55 rfl) rfl
theorem q2113 : (Jvm.Cond.methodLink "GlacierMailLaw" (213 : Nat) ({ cls := "GlacierMailModel", name := "without", desc := "(II)I" } : Jvm.MethodName)) ∈ lw_all := lw_g (lw_at lw_m9 59 rfl) rfl
theorem q2117 : (Jvm.Cond.methodLink "GlacierMailLaw" (216 : Nat) ({ cls := "GlacierMailModel", name := "moved", desc := "(I)I" } : Jvm.MethodName)) ∈ lw_all := lw_g (lw_at lw_m9 63 rfl) rfl
theorem q2121 : (Jvm.Cond.methodLink "GlacierMailLaw" (220 : Nat) ({ cls := "GlacierMailModel", name := "lost", desc := "()I" } : Jvm.MethodName)) ∈ lw_all := lw_g (lw_at lw_m9 67 rfl) rfl
theorem q2125 : (Jvm.Cond.methodLink "GlacierMailLaw" (225 : Nat) ({ cls := "GlacierMailModel", name := "market", desc := "(Z)I" } : Jvm.MethodName)) ∈ lw_all := lw_g (lw_at lw_m9 71 rfl) rfl
theorem q2137 : (Jvm.Cond.methodLink "GlacierMailLaw" (228 : Nat) ({ cls := "GlacierMailModel", name := "passes", desc := "(I)I" } : Jvm.MethodName)) ∈ lw_all := lw_g (lw_at lw_m9 83 rfl) rfl
theorem q2153 : (Jvm.Cond.methodLink "GlacierMailLaw" (231 : Nat) ({ cls := "GlacierMailModel", name := "writers", desc := "(III)I" } : Jvm.MethodName)) ∈ lw_all := lw_g (lw_at lw_m9 99 rfl) rfl
theorem q2161 : (Jvm.Cond.methodLink "GlacierMailLaw" (234 : Nat) ({ cls := "GlacierMailModel", name := "wrote", desc := "(IIII)I" } : Jvm.MethodName)) ∈ lw_all := lw_g (lw_at lw_m9 107 rfl) rfl
theorem q2165 : (Jvm.Cond.methodLink "GlacierMailLaw" (237 : Nat) ({ cls := "GlacierMailModel", name := "table", desc := "(II)I" } : Jvm.MethodName)) ∈ lw_all := lw_g (lw_at lw_m9 111 rfl) rfl
theorem q2177 : (Jvm.Cond.methodLink "GlacierMailLaw" (240 : Nat) ({ cls := "GlacierMailModel", name := "apart", desc := "(III)Z" } : Jvm.MethodName)) ∈ lw_all := lw_g (lw_at lw_m9 123 rfl) rfl
theorem q2188 : (Jvm.Cond.methodLink "GlacierMailLaw" (244 : Nat) ({ cls := "GlacierMailModel", name := "poles", desc := "()I" } : Jvm.MethodName)) ∈ lw_all := lw_g (lw_at lw_m9 134 rfl) rfl
theorem q2193 : (Jvm.Cond.methodLink "GlacierMailLaw" (247 : Nat) ({ cls := "GlacierMailModel", name := "fit", desc := "()I" } : Jvm.MethodName)) ∈ lw_all := lw_g (lw_at lw_m9 139 rfl) rfl
theorem q2197 : (Jvm.Cond.methodLink "GlacierMailLaw" (251 : Nat) ({ cls := "GlacierMailModel", name := "soonest", desc := "(IIZ)I" } : Jvm.MethodName)) ∈ lw_all := lw_g (lw_at lw_m9 143 rfl) rfl
theorem q2216 : (Jvm.Cond.methodLink "GlacierMailLaw" (254 : Nat) ({ cls := "GlacierMailModel", name := "chain", desc := "(III)I" } : Jvm.MethodName)) ∈ lw_all := lw_g (lw_at lw_m9 162 rfl) rfl
theorem q2224 : (Jvm.Cond.methodLink "GlacierMailLaw" (257 : Nat) ({ cls := "GlacierMailModel", name := "reached", desc := "(II)I" } : Jvm.MethodName)) ∈ lw_all := lw_g (lw_at lw_m9 170 rfl) rfl
theorem q2228 : (Jvm.Cond.methodLink "GlacierMailLaw" (261 : Nat) ({ cls := "GlacierMailModel", name := "thieves", desc := "(IZ)I" } : Jvm.MethodName)) ∈ lw_all := lw_g (lw_at lw_m9 174 rfl) rfl
theorem q2236 : (Jvm.Cond.methodLink "GlacierMailLaw" (264 : Nat) ({ cls := "GlacierMailModel", name := "watchman", desc := "(IZ)I" } : Jvm.MethodName)) ∈ lw_all := lw_g (lw_at lw_m9 182 rfl) rfl
theorem q2240 : (Jvm.Cond.methodLink "GlacierMailLaw" (267 : Nat) ({ cls := "GlacierMailModel", name := "meeting", desc := "(II)I" } : Jvm.MethodName)) ∈ lw_all := lw_g (lw_at lw_m9 186 rfl) rfl
theorem q2244 : (Jvm.Cond.methodLink "GlacierMailLaw" (270 : Nat) ({ cls := "GlacierMailModel", name := "outs", desc := "(I)I" } : Jvm.MethodName)) ∈ lw_all := lw_g (lw_at lw_m9 190 rfl) rfl
theorem q2248 : (Jvm.Cond.methodLink "GlacierMailLaw" (274 : Nat) ({ cls := "GlacierMailModel", name := "order", desc := "(I)I" } : Jvm.MethodName)) ∈ lw_all := lw_g (lw_at lw_m9 194 rfl) rfl
theorem q2252 : (Jvm.Cond.methodLink "GlacierMailLaw" (277 : Nat) ({ cls := "GlacierMailModel", name := "streams", desc := "(IZ)I" } : Jvm.MethodName)) ∈ lw_all := lw_g (lw_at lw_m9 198 rfl) rfl
theorem q2256 : (Jvm.Cond.methodLink "GlacierMailLaw" (280 : Nat) ({ cls := "GlacierMailModel", name := "range", desc := "(II)I" } : Jvm.MethodName)) ∈ lw_all := lw_g (lw_at lw_m9 202 rfl) rfl
theorem q2260 : (Jvm.Cond.methodLink "GlacierMailLaw" (283 : Nat) ({ cls := "GlacierMailModel", name := "swiftest", desc := "(II)I" } : Jvm.MethodName)) ∈ lw_all := lw_g (lw_at lw_m9 206 rfl) rfl
theorem q2264 : (Jvm.Cond.methodLink "GlacierMailLaw" (286 : Nat) ({ cls := "GlacierMailModel", name := "bare", desc := "(I)I" } : Jvm.MethodName)) ∈ lw_all := lw_g (lw_at lw_m9 210 rfl) rfl
theorem q2268 : (Jvm.Cond.methodLink "GlacierMailLaw" (289 : Nat) ({ cls := "GlacierMailModel", name := "log", desc := "(II)I" } : Jvm.MethodName)) ∈ lw_all := lw_g (lw_at lw_m9 214 rfl) rfl
theorem q2272 : (Jvm.Cond.methodLink "GlacierMailLaw" (306 : Nat) ({ cls := "GlacierMailModel", name := "count", desc := "(I)I" } : Jvm.MethodName)) ∈ lw_all := lw_g (lw_at lw_m9 218 rfl) rfl
/-! the law's own entry -/
set_option maxRecDepth 100000
abbrev cL_law : ByteArray := code
def dkwL_law_120 : List UInt8 := [182, 1, 50, 159, 0, 5, 3, 172, 132, 4, 6, 167, 244, 112, 4, 172]
abbrev dktL_law_120 : List UInt8 := dkwL_law_120 ++ []
def dkwL_law_119 : List UInt8 := [159, 0, 30, 3, 172, 43, 42, 21, 4, 4, 96, 46, 182, 1, 47, 44, 42, 21, 4, 4, 96, 46]
abbrev dktL_law_119 : List UInt8 := dkwL_law_119 ++ dktL_law_120
def dkwL_law_118 : List UInt8 := [159, 0, 54, 3, 172, 43, 182, 1, 39, 44, 182, 1, 42, 167, 0, 41, 43, 182, 1, 43, 44, 182, 1, 46]
abbrev dktL_law_118 : List UInt8 := dkwL_law_118 ++ dktL_law_119
def dkwL_law_117 : List UInt8 := [3, 47, 21, 6, 133, 148, 153, 0, 5, 3, 172, 167, 0, 65, 43, 182, 1, 34, 44, 182, 1, 38]
abbrev dktL_law_117 : List UInt8 := dkwL_law_117 ++ dktL_law_118
def dkwL_law_116 : List UInt8 := [96, 46, 182, 1, 33, 54, 6, 44, 182, 0, 155, 21, 5, 159, 0, 5, 3, 172, 21, 5, 154, 0, 15, 45]
abbrev dktL_law_116 : List UInt8 := dkwL_law_116 ++ dktL_law_117
def dkwL_law_115 : List UInt8 := [46, 42, 21, 4, 5, 96, 46, 45, 184, 1, 31, 54, 5, 44, 42, 21, 4, 4, 96, 46, 42, 21, 4, 5]
abbrev dktL_law_115 : List UInt8 := dkwL_law_115 ++ dktL_law_116
def dkwL_law_114 : List UInt8 := [154, 0, 15, 45, 3, 47, 21, 6, 133, 148, 153, 0, 5, 3, 172, 167, 0, 133, 43, 42, 21, 4, 4, 96]
abbrev dktL_law_114 : List UInt8 := dkwL_law_114 ++ dktL_law_115
def dkwL_law_113 : List UInt8 := [21, 4, 4, 96, 46, 182, 1, 30, 54, 6, 44, 182, 0, 155, 21, 5, 159, 0, 5, 3, 172, 21, 5]
abbrev dktL_law_113 : List UInt8 := dkwL_law_113 ++ dktL_law_114
def dkwL_law_112 : List UInt8 := [153, 0, 5, 3, 172, 167, 0, 189, 43, 42, 21, 4, 4, 96, 46, 45, 184, 1, 28, 54, 5, 44, 42]
abbrev dktL_law_112 : List UInt8 := dkwL_law_112 ++ dktL_law_113
def dkwL_law_111 : List UInt8 := [182, 0, 155, 21, 5, 159, 0, 5, 3, 172, 21, 5, 154, 0, 15, 45, 3, 47, 21, 6, 133, 148]
abbrev dktL_law_111 : List UInt8 := dkwL_law_111 ++ dktL_law_112
def dkwL_law_110 : List UInt8 := [184, 1, 25, 54, 5, 44, 42, 21, 4, 4, 96, 46, 42, 21, 4, 5, 96, 46, 182, 1, 27, 54, 6, 44]
abbrev dktL_law_110 : List UInt8 := dkwL_law_110 ++ dktL_law_111
def dkwL_law_109 : List UInt8 := [153, 0, 5, 3, 172, 167, 1, 1, 43, 42, 21, 4, 4, 96, 46, 42, 21, 4, 5, 96, 46, 45]
abbrev dktL_law_109 : List UInt8 := dkwL_law_109 ++ dktL_law_110
def dkwL_law_108 : List UInt8 := [182, 0, 155, 21, 5, 159, 0, 5, 3, 172, 21, 5, 154, 0, 15, 45, 3, 47, 21, 6, 133, 148]
abbrev dktL_law_108 : List UInt8 := dkwL_law_108 ++ dktL_law_109
def dkwL_law_107 : List UInt8 := [184, 1, 22, 54, 5, 44, 42, 21, 4, 4, 96, 46, 42, 21, 4, 5, 96, 46, 182, 1, 24, 54, 6, 44]
abbrev dktL_law_107 : List UInt8 := dkwL_law_107 ++ dktL_law_108
def dkwL_law_106 : List UInt8 := [153, 0, 5, 3, 172, 167, 1, 69, 43, 42, 21, 4, 4, 96, 46, 42, 21, 4, 5, 96, 46, 45]
abbrev dktL_law_106 : List UInt8 := dkwL_law_106 ++ dktL_law_107
def dkwL_law_105 : List UInt8 := [44, 182, 0, 155, 21, 5, 159, 0, 5, 3, 172, 21, 5, 154, 0, 15, 45, 3, 47, 21, 6, 133, 148]
abbrev dktL_law_105 : List UInt8 := dkwL_law_105 ++ dktL_law_106
def dkwL_law_104 : List UInt8 := [21, 4, 4, 96, 46, 42, 21, 4, 5, 96, 46, 153, 0, 7, 4, 167, 0, 4, 3, 182, 1, 21, 54, 6]
abbrev dktL_law_104 : List UInt8 := dkwL_law_104 ++ dktL_law_105
def dkwL_law_103 : List UInt8 := [96, 46, 42, 21, 4, 5, 96, 46, 153, 0, 7, 4, 167, 0, 4, 3, 45, 184, 1, 19, 54, 5, 44, 42]
abbrev dktL_law_103 : List UInt8 := dkwL_law_103 ++ dktL_law_104
def dkwL_law_102 : List UInt8 := [46, 182, 1, 15, 44, 42, 21, 4, 4, 96, 46, 182, 1, 18, 159, 1, 155, 3, 172, 43, 42, 21, 4, 4]
abbrev dktL_law_102 : List UInt8 := dkwL_law_102 ++ dktL_law_103
def dkwL_law_101 : List UInt8 := [154, 0, 15, 45, 3, 47, 21, 6, 133, 148, 153, 0, 5, 3, 172, 167, 1, 178, 43, 42, 21, 4, 4, 96]
abbrev dktL_law_101 : List UInt8 := dkwL_law_101 ++ dktL_law_102
def dkwL_law_100 : List UInt8 := [21, 4, 4, 96, 46, 182, 1, 14, 54, 6, 44, 182, 0, 155, 21, 5, 159, 0, 5, 3, 172, 21, 5]
abbrev dktL_law_100 : List UInt8 := dkwL_law_100 ++ dktL_law_101
def dkwL_law_99 : List UInt8 := [153, 0, 5, 3, 172, 167, 1, 234, 43, 42, 21, 4, 4, 96, 46, 45, 184, 1, 12, 54, 5, 44, 42]
abbrev dktL_law_99 : List UInt8 := dkwL_law_99 ++ dktL_law_100
def dkwL_law_98 : List UInt8 := [182, 0, 155, 21, 5, 159, 0, 5, 3, 172, 21, 5, 154, 0, 15, 45, 3, 47, 21, 6, 133, 148]
abbrev dktL_law_98 : List UInt8 := dkwL_law_98 ++ dktL_law_99
def dkwL_law_97 : List UInt8 := [184, 1, 9, 54, 5, 44, 42, 21, 4, 4, 96, 46, 42, 21, 4, 5, 96, 46, 182, 1, 11, 54, 6, 44]
abbrev dktL_law_97 : List UInt8 := dkwL_law_97 ++ dktL_law_98
def dkwL_law_96 : List UInt8 := [148, 153, 0, 5, 3, 172, 167, 2, 46, 43, 42, 21, 4, 4, 96, 46, 42, 21, 4, 5, 96, 46, 45]
abbrev dktL_law_96 : List UInt8 := dkwL_law_96 ++ dktL_law_97
def dkwL_law_95 : List UInt8 := [54, 6, 44, 182, 0, 155, 21, 5, 159, 0, 5, 3, 172, 21, 5, 154, 0, 15, 45, 3, 47, 21, 6, 133]
abbrev dktL_law_95 : List UInt8 := dkwL_law_95 ++ dktL_law_96
def dkwL_law_94 : List UInt8 := [42, 21, 4, 4, 96, 46, 42, 21, 4, 5, 96, 46, 153, 0, 7, 4, 167, 0, 4, 3, 182, 1, 8]
abbrev dktL_law_94 : List UInt8 := dkwL_law_94 ++ dktL_law_95
def dkwL_law_93 : List UInt8 := [4, 96, 46, 42, 21, 4, 5, 96, 46, 153, 0, 7, 4, 167, 0, 4, 3, 45, 184, 1, 6, 54, 5, 44]
abbrev dktL_law_93 : List UInt8 := dkwL_law_93 ++ dktL_law_94
def dkwL_law_92 : List UInt8 := [21, 5, 154, 0, 15, 45, 3, 47, 21, 6, 133, 148, 153, 0, 5, 3, 172, 167, 2, 130, 43, 42, 21, 4]
abbrev dktL_law_92 : List UInt8 := dkwL_law_92 ++ dktL_law_93
def dkwL_law_91 : List UInt8 := [153, 0, 7, 4, 167, 0, 4, 3, 182, 1, 5, 54, 6, 44, 182, 0, 155, 21, 5, 159, 0, 5, 3, 172]
abbrev dktL_law_91 : List UInt8 := dkwL_law_91 ++ dktL_law_92
def dkwL_law_90 : List UInt8 := [4, 167, 0, 4, 3, 45, 184, 1, 2, 54, 5, 44, 42, 21, 4, 4, 96, 46, 42, 21, 4, 5, 96, 46]
abbrev dktL_law_90 : List UInt8 := dkwL_law_90 ++ dktL_law_91
def dkwL_law_89 : List UInt8 := [153, 0, 5, 3, 172, 167, 2, 214, 43, 42, 21, 4, 4, 96, 46, 42, 21, 4, 5, 96, 46, 153, 0, 7]
abbrev dktL_law_89 : List UInt8 := dkwL_law_89 ++ dktL_law_90
def dkwL_law_88 : List UInt8 := [182, 0, 155, 21, 5, 159, 0, 5, 3, 172, 21, 5, 154, 0, 15, 45, 3, 47, 21, 6, 133, 148]
abbrev dktL_law_88 : List UInt8 := dkwL_law_88 ++ dktL_law_89
def dkwL_law_87 : List UInt8 := [184, 0, 255, 54, 5, 44, 42, 21, 4, 4, 96, 46, 42, 21, 4, 5, 96, 46, 182, 1, 1, 54, 6, 44]
abbrev dktL_law_87 : List UInt8 := dkwL_law_87 ++ dktL_law_88
def dkwL_law_86 : List UInt8 := [153, 0, 5, 3, 172, 167, 3, 26, 43, 42, 21, 4, 4, 96, 46, 42, 21, 4, 5, 96, 46, 45]
abbrev dktL_law_86 : List UInt8 := dkwL_law_86 ++ dktL_law_87
def dkwL_law_85 : List UInt8 := [182, 0, 155, 21, 5, 159, 0, 5, 3, 172, 21, 5, 154, 0, 15, 45, 3, 47, 21, 6, 133, 148]
abbrev dktL_law_85 : List UInt8 := dkwL_law_85 ++ dktL_law_86
def dkwL_law_84 : List UInt8 := [21, 4, 4, 96, 46, 42, 21, 4, 5, 96, 46, 42, 21, 4, 6, 96, 46, 182, 0, 254, 54, 6, 44]
abbrev dktL_law_84 : List UInt8 := dkwL_law_84 ++ dktL_law_85
def dkwL_law_83 : List UInt8 := [4, 96, 46, 42, 21, 4, 5, 96, 46, 42, 21, 4, 6, 96, 46, 45, 184, 0, 252, 54, 5, 44, 42]
abbrev dktL_law_83 : List UInt8 := dkwL_law_83 ++ dktL_law_84
def dkwL_law_82 : List UInt8 := [21, 5, 154, 0, 15, 45, 3, 47, 21, 6, 133, 148, 153, 0, 5, 3, 172, 167, 3, 106, 43, 42, 21, 4]
abbrev dktL_law_82 : List UInt8 := dkwL_law_82 ++ dktL_law_83
def dkwL_law_81 : List UInt8 := [153, 0, 7, 4, 167, 0, 4, 3, 182, 0, 251, 54, 6, 44, 182, 0, 155, 21, 5, 159, 0, 5, 3, 172]
abbrev dktL_law_81 : List UInt8 := dkwL_law_81 ++ dktL_law_82
def dkwL_law_80 : List UInt8 := [184, 0, 248, 54, 5, 44, 42, 21, 4, 4, 96, 46, 42, 21, 4, 5, 96, 46, 42, 21, 4, 6, 96, 46]
abbrev dktL_law_80 : List UInt8 := dkwL_law_80 ++ dktL_law_81
def dkwL_law_79 : List UInt8 := [46, 42, 21, 4, 5, 96, 46, 42, 21, 4, 6, 96, 46, 153, 0, 7, 4, 167, 0, 4, 3, 45]
abbrev dktL_law_79 : List UInt8 := dkwL_law_79 ++ dktL_law_80
def dkwL_law_78 : List UInt8 := [154, 0, 15, 45, 3, 47, 21, 6, 133, 148, 153, 0, 5, 3, 172, 167, 3, 202, 43, 42, 21, 4, 4, 96]
abbrev dktL_law_78 : List UInt8 := dkwL_law_78 ++ dktL_law_79
def dkwL_law_77 : List UInt8 := [184, 0, 245, 54, 5, 44, 182, 0, 247, 54, 6, 44, 182, 0, 155, 21, 5, 159, 0, 5, 3, 172, 21, 5]
abbrev dktL_law_77 : List UInt8 := dkwL_law_77 ++ dktL_law_78
def dkwL_law_76 : List UInt8 := [153, 0, 5, 3, 172, 167, 4, 3, 43, 182, 0, 241, 44, 182, 0, 244, 159, 3, 248, 3, 172, 43, 45]
abbrev dktL_law_76 : List UInt8 := dkwL_law_76 ++ dktL_law_77
def dkwL_law_75 : List UInt8 := [159, 0, 5, 3, 172, 21, 5, 154, 0, 22, 45, 3, 47, 21, 6, 153, 0, 7, 10, 167, 0, 4, 9, 148]
abbrev dktL_law_75 : List UInt8 := dkwL_law_75 ++ dktL_law_76
def dkwL_law_74 : List UInt8 := [21, 4, 5, 96, 46, 42, 21, 4, 6, 96, 46, 182, 0, 240, 54, 6, 44, 182, 0, 155, 21, 5]
abbrev dktL_law_74 : List UInt8 := dkwL_law_74 ++ dktL_law_75
def dkwL_law_73 : List UInt8 := [5, 96, 46, 42, 21, 4, 6, 96, 46, 45, 184, 0, 238, 54, 5, 44, 42, 21, 4, 4, 96, 46, 42]
abbrev dktL_law_73 : List UInt8 := dkwL_law_73 ++ dktL_law_74
def dkwL_law_72 : List UInt8 := [3, 47, 21, 6, 133, 148, 153, 0, 5, 3, 172, 167, 4, 90, 43, 42, 21, 4, 4, 96, 46, 42, 21, 4]
abbrev dktL_law_72 : List UInt8 := dkwL_law_72 ++ dktL_law_73
def dkwL_law_71 : List UInt8 := [96, 46, 182, 0, 237, 54, 6, 44, 182, 0, 155, 21, 5, 159, 0, 5, 3, 172, 21, 5, 154, 0, 15, 45]
abbrev dktL_law_71 : List UInt8 := dkwL_law_71 ++ dktL_law_72
def dkwL_law_70 : List UInt8 := [46, 42, 21, 4, 5, 96, 46, 45, 184, 0, 235, 54, 5, 44, 42, 21, 4, 4, 96, 46, 42, 21, 4, 5]
abbrev dktL_law_70 : List UInt8 := dkwL_law_70 ++ dktL_law_71
def dkwL_law_69 : List UInt8 := [154, 0, 15, 45, 3, 47, 21, 6, 133, 148, 153, 0, 5, 3, 172, 167, 4, 158, 43, 42, 21, 4, 4, 96]
abbrev dktL_law_69 : List UInt8 := dkwL_law_69 ++ dktL_law_70
def dkwL_law_68 : List UInt8 := [42, 21, 4, 7, 96, 46, 182, 0, 234, 54, 6, 44, 182, 0, 155, 21, 5, 159, 0, 5, 3, 172, 21, 5]
abbrev dktL_law_68 : List UInt8 := dkwL_law_68 ++ dktL_law_69
def dkwL_law_67 : List UInt8 := [184, 0, 232, 54, 5, 44, 42, 21, 4, 4, 96, 46, 42, 21, 4, 5, 96, 46, 42, 21, 4, 6, 96, 46]
abbrev dktL_law_67 : List UInt8 := dkwL_law_67 ++ dktL_law_68
def dkwL_law_66 : List UInt8 := [4, 96, 46, 42, 21, 4, 5, 96, 46, 42, 21, 4, 6, 96, 46, 42, 21, 4, 7, 96, 46, 45]
abbrev dktL_law_66 : List UInt8 := dkwL_law_66 ++ dktL_law_67
def dkwL_law_65 : List UInt8 := [21, 5, 154, 0, 15, 45, 3, 47, 21, 6, 133, 148, 153, 0, 5, 3, 172, 167, 4, 250, 43, 42, 21, 4]
abbrev dktL_law_65 : List UInt8 := dkwL_law_65 ++ dktL_law_66
def dkwL_law_64 : List UInt8 := [96, 46, 42, 21, 4, 6, 96, 46, 182, 0, 231, 54, 6, 44, 182, 0, 155, 21, 5, 159, 0, 5, 3, 172]
abbrev dktL_law_64 : List UInt8 := dkwL_law_64 ++ dktL_law_65
def dkwL_law_63 : List UInt8 := [46, 42, 21, 4, 6, 96, 46, 45, 184, 0, 229, 54, 5, 44, 42, 21, 4, 4, 96, 46, 42, 21, 4, 5]
abbrev dktL_law_63 : List UInt8 := dkwL_law_63 ++ dktL_law_64
def dkwL_law_62 : List UInt8 := [21, 6, 133, 148, 153, 0, 5, 3, 172, 167, 5, 74, 43, 42, 21, 4, 4, 96, 46, 42, 21, 4, 5, 96]
abbrev dktL_law_62 : List UInt8 := dkwL_law_62 ++ dktL_law_63
def dkwL_law_61 : List UInt8 := [182, 0, 228, 54, 6, 44, 182, 0, 155, 21, 5, 159, 0, 5, 3, 172, 21, 5, 154, 0, 15, 45, 3, 47]
abbrev dktL_law_61 : List UInt8 := dkwL_law_61 ++ dktL_law_62
def dkwL_law_60 : List UInt8 := [3, 172, 43, 42, 21, 4, 4, 96, 46, 45, 184, 0, 226, 54, 5, 44, 42, 21, 4, 4, 96, 46]
abbrev dktL_law_60 : List UInt8 := dkwL_law_60 ++ dktL_law_61
def dkwL_law_59 : List UInt8 := [182, 0, 221, 44, 42, 21, 4, 4, 96, 46, 153, 0, 7, 4, 167, 0, 4, 3, 182, 0, 225, 159, 5, 132]
abbrev dktL_law_59 : List UInt8 := dkwL_law_59 ++ dktL_law_60
def dkwL_law_58 : List UInt8 := [182, 0, 220, 159, 5, 173, 3, 172, 43, 42, 21, 4, 4, 96, 46, 153, 0, 7, 4, 167, 0, 4, 3]
abbrev dktL_law_58 : List UInt8 := dkwL_law_58 ++ dktL_law_59
def dkwL_law_57 : List UInt8 := [154, 0, 15, 45, 3, 47, 21, 6, 133, 148, 153, 0, 5, 3, 172, 167, 5, 184, 43, 182, 0, 217, 44]
abbrev dktL_law_57 : List UInt8 := dkwL_law_57 ++ dktL_law_58
def dkwL_law_56 : List UInt8 := [21, 4, 4, 96, 46, 182, 0, 216, 54, 6, 44, 182, 0, 155, 21, 5, 159, 0, 5, 3, 172, 21, 5]
abbrev dktL_law_56 : List UInt8 := dkwL_law_56 ++ dktL_law_57
def dkwL_law_55 : List UInt8 := [148, 153, 0, 5, 3, 172, 167, 5, 240, 43, 42, 21, 4, 4, 96, 46, 45, 184, 0, 214, 54, 5, 44, 42]
abbrev dktL_law_55 : List UInt8 := dkwL_law_55 ++ dktL_law_56
def dkwL_law_54 : List UInt8 := [54, 6, 44, 182, 0, 155, 21, 5, 159, 0, 5, 3, 172, 21, 5, 154, 0, 15, 45, 3, 47, 21, 6, 133]
abbrev dktL_law_54 : List UInt8 := dkwL_law_54 ++ dktL_law_55
def dkwL_law_53 : List UInt8 := [46, 45, 184, 0, 211, 54, 5, 44, 42, 21, 4, 4, 96, 46, 42, 21, 4, 5, 96, 46, 182, 0, 213]
abbrev dktL_law_53 : List UInt8 := dkwL_law_53 ++ dktL_law_54
def dkwL_law_52 : List UInt8 := [21, 6, 133, 148, 153, 0, 5, 3, 172, 167, 6, 52, 43, 42, 21, 4, 4, 96, 46, 42, 21, 4, 5, 96]
abbrev dktL_law_52 : List UInt8 := dkwL_law_52 ++ dktL_law_53
def dkwL_law_51 : List UInt8 := [182, 0, 210, 54, 6, 44, 182, 0, 155, 21, 5, 159, 0, 5, 3, 172, 21, 5, 154, 0, 15, 45, 3, 47]
abbrev dktL_law_51 : List UInt8 := dkwL_law_51 ++ dktL_law_52
def dkwL_law_50 : List UInt8 := [5, 96, 46, 45, 184, 0, 208, 54, 5, 44, 42, 21, 4, 4, 96, 46, 42, 21, 4, 5, 96, 46]
abbrev dktL_law_50 : List UInt8 := dkwL_law_50 ++ dktL_law_51
def dkwL_law_49 : List UInt8 := [3, 47, 21, 6, 133, 148, 153, 0, 5, 3, 172, 167, 6, 120, 43, 42, 21, 4, 4, 96, 46, 42, 21, 4]
abbrev dktL_law_49 : List UInt8 := dkwL_law_49 ++ dktL_law_50
def dkwL_law_48 : List UInt8 := [96, 46, 182, 0, 207, 54, 6, 44, 182, 0, 155, 21, 5, 159, 0, 5, 3, 172, 21, 5, 154, 0, 15, 45]
abbrev dktL_law_48 : List UInt8 := dkwL_law_48 ++ dktL_law_49
def dkwL_law_47 : List UInt8 := [46, 42, 21, 4, 5, 96, 46, 45, 184, 0, 205, 54, 5, 44, 42, 21, 4, 4, 96, 46, 42, 21, 4, 5]
abbrev dktL_law_47 : List UInt8 := dkwL_law_47 ++ dktL_law_48
def dkwL_law_46 : List UInt8 := [154, 0, 15, 45, 3, 47, 21, 6, 133, 148, 153, 0, 5, 3, 172, 167, 6, 188, 43, 42, 21, 4, 4, 96]
abbrev dktL_law_46 : List UInt8 := dkwL_law_46 ++ dktL_law_47
def dkwL_law_45 : List UInt8 := [42, 21, 4, 7, 96, 46, 182, 0, 204, 54, 6, 44, 182, 0, 155, 21, 5, 159, 0, 5, 3, 172, 21, 5]
abbrev dktL_law_45 : List UInt8 := dkwL_law_45 ++ dktL_law_46
def dkwL_law_44 : List UInt8 := [184, 0, 201, 54, 5, 44, 42, 21, 4, 4, 96, 46, 42, 21, 4, 5, 96, 46, 42, 21, 4, 6, 96, 46]
abbrev dktL_law_44 : List UInt8 := dkwL_law_44 ++ dktL_law_45
def dkwL_law_43 : List UInt8 := [21, 4, 4, 96, 46, 42, 21, 4, 5, 96, 46, 42, 21, 4, 6, 96, 46, 42, 21, 4, 7, 96, 46, 45]
abbrev dktL_law_43 : List UInt8 := dkwL_law_43 ++ dktL_law_44
def dkwL_law_42 : List UInt8 := [172, 21, 5, 154, 0, 15, 45, 3, 47, 21, 6, 133, 148, 153, 0, 5, 3, 172, 167, 7, 24, 43, 42]
abbrev dktL_law_42 : List UInt8 := dkwL_law_42 ++ dktL_law_43
def dkwL_law_41 : List UInt8 := [54, 5, 44, 42, 21, 4, 4, 96, 46, 182, 0, 200, 54, 6, 44, 182, 0, 155, 21, 5, 159, 0, 5, 3]
abbrev dktL_law_41 : List UInt8 := dkwL_law_41 ++ dktL_law_42
def dkwL_law_40 : List UInt8 := [21, 6, 133, 148, 153, 0, 5, 3, 172, 167, 7, 80, 43, 42, 21, 4, 4, 96, 46, 45, 184, 0, 198]
abbrev dktL_law_40 : List UInt8 := dkwL_law_40 ++ dktL_law_41
def dkwL_law_39 : List UInt8 := [182, 0, 197, 54, 6, 44, 182, 0, 155, 21, 5, 159, 0, 5, 3, 172, 21, 5, 154, 0, 15, 45, 3, 47]
abbrev dktL_law_39 : List UInt8 := dkwL_law_39 ++ dktL_law_40
def dkwL_law_38 : List UInt8 := [167, 7, 136, 43, 42, 21, 4, 4, 96, 46, 45, 184, 0, 195, 54, 5, 44, 42, 21, 4, 4, 96, 46]
abbrev dktL_law_38 : List UInt8 := dkwL_law_38 ++ dktL_law_39
def dkwL_law_37 : List UInt8 := [159, 0, 5, 3, 172, 21, 5, 154, 0, 15, 45, 3, 47, 21, 6, 133, 148, 153, 0, 5, 3, 172]
abbrev dktL_law_37 : List UInt8 := dkwL_law_37 ++ dktL_law_38
def dkwL_law_36 : List UInt8 := [21, 4, 4, 96, 46, 42, 21, 4, 5, 96, 46, 182, 0, 194, 54, 6, 44, 182, 0, 155, 21, 5]
abbrev dktL_law_36 : List UInt8 := dkwL_law_36 ++ dktL_law_37
def dkwL_law_35 : List UInt8 := [167, 7, 204, 43, 42, 21, 4, 4, 96, 46, 42, 21, 4, 5, 96, 46, 45, 184, 0, 192, 54, 5, 44, 42]
abbrev dktL_law_35 : List UInt8 := dkwL_law_35 ++ dktL_law_36
def dkwL_law_34 : List UInt8 := [159, 0, 5, 3, 172, 21, 5, 154, 0, 15, 45, 3, 47, 21, 6, 133, 148, 153, 0, 5, 3, 172]
abbrev dktL_law_34 : List UInt8 := dkwL_law_34 ++ dktL_law_35
def dkwL_law_33 : List UInt8 := [21, 4, 4, 96, 46, 42, 21, 4, 5, 96, 46, 182, 0, 191, 54, 6, 44, 182, 0, 155, 21, 5]
abbrev dktL_law_33 : List UInt8 := dkwL_law_33 ++ dktL_law_34
def dkwL_law_32 : List UInt8 := [167, 8, 16, 43, 42, 21, 4, 4, 96, 46, 42, 21, 4, 5, 96, 46, 45, 184, 0, 189, 54, 5, 44, 42]
abbrev dktL_law_32 : List UInt8 := dkwL_law_32 ++ dktL_law_33
def dkwL_law_31 : List UInt8 := [159, 0, 5, 3, 172, 21, 5, 154, 0, 15, 45, 3, 47, 21, 6, 133, 148, 153, 0, 5, 3, 172]
abbrev dktL_law_31 : List UInt8 := dkwL_law_31 ++ dktL_law_32
def dkwL_law_30 : List UInt8 := [21, 4, 4, 96, 46, 42, 21, 4, 5, 96, 46, 182, 0, 188, 54, 6, 44, 182, 0, 155, 21, 5]
abbrev dktL_law_30 : List UInt8 := dkwL_law_30 ++ dktL_law_31
def dkwL_law_29 : List UInt8 := [167, 8, 84, 43, 42, 21, 4, 4, 96, 46, 42, 21, 4, 5, 96, 46, 45, 184, 0, 186, 54, 5, 44, 42]
abbrev dktL_law_29 : List UInt8 := dkwL_law_29 ++ dktL_law_30
def dkwL_law_28 : List UInt8 := [159, 0, 5, 3, 172, 21, 5, 154, 0, 15, 45, 3, 47, 21, 6, 133, 148, 153, 0, 5, 3, 172]
abbrev dktL_law_28 : List UInt8 := dkwL_law_28 ++ dktL_law_29
def dkwL_law_27 : List UInt8 := [21, 4, 4, 96, 46, 42, 21, 4, 5, 96, 46, 182, 0, 185, 54, 6, 44, 182, 0, 155, 21, 5]
abbrev dktL_law_27 : List UInt8 := dkwL_law_27 ++ dktL_law_28
def dkwL_law_26 : List UInt8 := [167, 8, 152, 43, 42, 21, 4, 4, 96, 46, 42, 21, 4, 5, 96, 46, 45, 184, 0, 183, 54, 5, 44, 42]
abbrev dktL_law_26 : List UInt8 := dkwL_law_26 ++ dktL_law_27
def dkwL_law_25 : List UInt8 := [159, 0, 5, 3, 172, 21, 5, 154, 0, 15, 45, 3, 47, 21, 6, 133, 148, 153, 0, 5, 3, 172]
abbrev dktL_law_25 : List UInt8 := dkwL_law_25 ++ dktL_law_26
def dkwL_law_24 : List UInt8 := [21, 4, 4, 96, 46, 42, 21, 4, 5, 96, 46, 182, 0, 182, 54, 6, 44, 182, 0, 155, 21, 5]
abbrev dktL_law_24 : List UInt8 := dkwL_law_24 ++ dktL_law_25
def dkwL_law_23 : List UInt8 := [167, 8, 220, 43, 42, 21, 4, 4, 96, 46, 42, 21, 4, 5, 96, 46, 45, 184, 0, 180, 54, 5, 44, 42]
abbrev dktL_law_23 : List UInt8 := dkwL_law_23 ++ dktL_law_24
def dkwL_law_22 : List UInt8 := [159, 0, 5, 3, 172, 21, 5, 154, 0, 15, 45, 3, 47, 21, 6, 133, 148, 153, 0, 5, 3, 172]
abbrev dktL_law_22 : List UInt8 := dkwL_law_22 ++ dktL_law_23
def dkwL_law_21 : List UInt8 := [21, 4, 4, 96, 46, 42, 21, 4, 5, 96, 46, 182, 0, 179, 54, 6, 44, 182, 0, 155, 21, 5]
abbrev dktL_law_21 : List UInt8 := dkwL_law_21 ++ dktL_law_22
def dkwL_law_20 : List UInt8 := [167, 9, 32, 43, 42, 21, 4, 4, 96, 46, 42, 21, 4, 5, 96, 46, 45, 184, 0, 177, 54, 5, 44, 42]
abbrev dktL_law_20 : List UInt8 := dkwL_law_20 ++ dktL_law_21
def dkwL_law_19 : List UInt8 := [159, 0, 5, 3, 172, 21, 5, 154, 0, 15, 45, 3, 47, 21, 6, 133, 148, 153, 0, 5, 3, 172]
abbrev dktL_law_19 : List UInt8 := dkwL_law_19 ++ dktL_law_20
def dkwL_law_18 : List UInt8 := [21, 4, 5, 96, 46, 42, 21, 4, 6, 96, 46, 182, 0, 176, 54, 6, 44, 182, 0, 155, 21, 5]
abbrev dktL_law_18 : List UInt8 := dkwL_law_18 ++ dktL_law_19
def dkwL_law_17 : List UInt8 := [5, 96, 46, 42, 21, 4, 6, 96, 46, 45, 184, 0, 173, 54, 5, 44, 42, 21, 4, 4, 96, 46, 42]
abbrev dktL_law_17 : List UInt8 := dkwL_law_17 ++ dktL_law_18
def dkwL_law_16 : List UInt8 := [3, 47, 21, 6, 133, 148, 153, 0, 5, 3, 172, 167, 9, 112, 43, 42, 21, 4, 4, 96, 46, 42, 21, 4]
abbrev dktL_law_16 : List UInt8 := dkwL_law_16 ++ dktL_law_17
def dkwL_law_15 : List UInt8 := [96, 46, 182, 0, 172, 54, 6, 44, 182, 0, 155, 21, 5, 159, 0, 5, 3, 172, 21, 5, 154, 0, 15, 45]
abbrev dktL_law_15 : List UInt8 := dkwL_law_15 ++ dktL_law_16
def dkwL_law_14 : List UInt8 := [46, 42, 21, 4, 5, 96, 46, 45, 184, 0, 169, 54, 5, 44, 42, 21, 4, 4, 96, 46, 42, 21, 4, 5]
abbrev dktL_law_14 : List UInt8 := dkwL_law_14 ++ dktL_law_15
def dkwL_law_13 : List UInt8 := [154, 0, 15, 45, 3, 47, 21, 6, 133, 148, 153, 0, 5, 3, 172, 167, 9, 180, 43, 42, 21, 4, 4, 96]
abbrev dktL_law_13 : List UInt8 := dkwL_law_13 ++ dktL_law_14
def dkwL_law_12 : List UInt8 := [21, 4, 4, 96, 46, 182, 0, 168, 54, 6, 44, 182, 0, 155, 21, 5, 159, 0, 5, 3, 172, 21, 5]
abbrev dktL_law_12 : List UInt8 := dkwL_law_12 ++ dktL_law_13
def dkwL_law_11 : List UInt8 := [182, 0, 164, 159, 9, 238, 3, 172, 43, 42, 21, 4, 4, 96, 46, 45, 184, 0, 165, 54, 5, 44, 42]
abbrev dktL_law_11 : List UInt8 := dkwL_law_11 ++ dktL_law_12
def dkwL_law_10 : List UInt8 := [154, 0, 15, 45, 3, 47, 21, 6, 133, 148, 153, 0, 5, 3, 172, 167, 9, 249, 43, 182, 0, 161, 44]
abbrev dktL_law_10 : List UInt8 := dkwL_law_10 ++ dktL_law_11
def dkwL_law_9 : List UInt8 := [184, 0, 158, 54, 5, 44, 182, 0, 160, 54, 6, 44, 182, 0, 155, 21, 5, 159, 0, 5, 3, 172, 21, 5]
abbrev dktL_law_9 : List UInt8 := dkwL_law_9 ++ dktL_law_10
def dkwL_law_8 : List UInt8 := [3, 172, 21, 5, 154, 0, 15, 45, 3, 47, 21, 6, 133, 148, 153, 0, 5, 3, 172, 167, 10, 37, 43, 45]
abbrev dktL_law_8 : List UInt8 := dkwL_law_8 ++ dktL_law_9
def dkwL_law_7 : List UInt8 := [3, 172, 43, 45, 184, 0, 149, 54, 5, 44, 182, 0, 154, 54, 6, 44, 182, 0, 155, 21, 5, 159, 0, 5]
abbrev dktL_law_7 : List UInt8 := dkwL_law_7 ++ dktL_law_8
def dkwL_law_6 : List UInt8 := [172, 43, 42, 21, 4, 4, 96, 46, 182, 0, 144, 44, 42, 21, 4, 4, 96, 46, 182, 0, 148, 159, 10, 83]
abbrev dktL_law_6 : List UInt8 := dkwL_law_6 ++ dktL_law_7
def dkwL_law_5 : List UInt8 := [21, 4, 6, 96, 46, 42, 21, 4, 7, 96, 46, 42, 21, 4, 8, 96, 46, 182, 0, 143, 159, 10, 108, 3]
abbrev dktL_law_5 : List UInt8 := dkwL_law_5 ++ dktL_law_6
def dkwL_law_4 : List UInt8 := [46, 42, 21, 4, 8, 96, 46, 182, 0, 139, 44, 42, 21, 4, 4, 96, 46, 42, 21, 4, 5, 96, 46, 42]
abbrev dktL_law_4 : List UInt8 := dkwL_law_4 ++ dktL_law_5
def dkwL_law_3 : List UInt8 := [43, 42, 21, 4, 4, 96, 46, 42, 21, 4, 5, 96, 46, 42, 21, 4, 6, 96, 46, 42, 21, 4, 7, 96]
abbrev dktL_law_3 : List UInt8 := dkwL_law_3 ++ dktL_law_4
def dkwL_law_2 : List UInt8 := [170, 0, 0, 0, 0, 0, 11, 124, 0, 0, 0, 0, 0, 0, 0, 46, 0, 0, 0, 204, 0, 0, 1, 21, 0, 0, 1, 46, 0, 0, 1, 90, 0, 0, 1, 134, 0, 0, 1, 147, 0, 0, 1, 203, 0, 0, 2, 15, 0, 0, 2, 95, 0, 0, 2, 163, 0, 0, 2, 231, 0, 0, 3, 43, 0, 0, 3, 111, 0, 0, 3, 179, 0, 0, 3, 247, 0, 0, 4, 47, 0, 0, 4, 103, 0, 0, 4, 195, 0, 0, 5, 7, 0, 0, 5, 75, 0, 0, 5, 143, 0, 0, 5, 199, 0, 0, 5, 212, 0, 0, 5, 253, 0, 0, 6, 53, 0, 0, 6, 133, 0, 0, 6, 225, 0, 0, 7, 37, 0, 0, 7, 124, 0, 0, 7, 137, 0, 0, 7, 181, 0, 0, 8, 21, 0, 0, 8, 101, 0, 0, 8, 169, 0, 0, 8, 253, 0, 0, 9, 81, 0, 0, 9, 149, 0, 0, 9, 205, 0, 0, 9, 230, 0, 0, 10, 58, 0, 0, 10, 126, 0, 0, 10, 194, 0, 0, 10, 250, 0, 0, 11, 62, 0, 0, 11, 75, 0, 0, 11, 86, 0, 0, 11, 99]
abbrev dktL_law_2 : List UInt8 := dkwL_law_2 ++ dktL_law_3
def dkwL_law_1 : List UInt8 := [21, 4, 42, 190, 16, 6, 100, 163, 11, 140, 42, 21, 4, 46, 16, 63, 126]
abbrev dktL_law_1 : List UInt8 := dkwL_law_1 ++ dktL_law_2
def dkwL_law_0 : List UInt8 := [187, 0, 8, 89, 183, 0, 135, 76, 187, 0, 136, 89, 183, 0, 138, 77, 4, 188, 11, 78, 3, 54, 4]
abbrev dktL_law_0 : List UInt8 := dkwL_law_0 ++ dktL_law_1
theorem dksL_law_0 : cL_law.data.toList.drop 0 = dktL_law_0 := by decide +kernel
theorem dksL_law_1 : cL_law.data.toList.drop 23 = dktL_law_1 := dk_seg dksL_law_0 23 rfl rfl
theorem dksL_law_2 : cL_law.data.toList.drop 40 = dktL_law_2 := dk_seg dksL_law_1 17 rfl rfl
theorem dksL_law_3 : cL_law.data.toList.drop 244 = dktL_law_3 := dk_seg dksL_law_2 204 rfl rfl
theorem dksL_law_4 : cL_law.data.toList.drop 268 = dktL_law_4 := dk_seg dksL_law_3 24 rfl rfl
theorem dksL_law_5 : cL_law.data.toList.drop 292 = dktL_law_5 := dk_seg dksL_law_4 24 rfl rfl
theorem dksL_law_6 : cL_law.data.toList.drop 316 = dktL_law_6 := dk_seg dksL_law_5 24 rfl rfl
theorem dksL_law_7 : cL_law.data.toList.drop 340 = dktL_law_7 := dk_seg dksL_law_6 24 rfl rfl
theorem dksL_law_8 : cL_law.data.toList.drop 364 = dktL_law_8 := dk_seg dksL_law_7 24 rfl rfl
theorem dksL_law_9 : cL_law.data.toList.drop 388 = dktL_law_9 := dk_seg dksL_law_8 24 rfl rfl
theorem dksL_law_10 : cL_law.data.toList.drop 412 = dktL_law_10 := dk_seg dksL_law_9 24 rfl rfl
theorem dksL_law_11 : cL_law.data.toList.drop 435 = dktL_law_11 := dk_seg dksL_law_10 23 rfl rfl
theorem dksL_law_12 : cL_law.data.toList.drop 458 = dktL_law_12 := dk_seg dksL_law_11 23 rfl rfl
theorem dksL_law_13 : cL_law.data.toList.drop 481 = dktL_law_13 := dk_seg dksL_law_12 23 rfl rfl
theorem dksL_law_14 : cL_law.data.toList.drop 505 = dktL_law_14 := dk_seg dksL_law_13 24 rfl rfl
theorem dksL_law_15 : cL_law.data.toList.drop 529 = dktL_law_15 := dk_seg dksL_law_14 24 rfl rfl
theorem dksL_law_16 : cL_law.data.toList.drop 553 = dktL_law_16 := dk_seg dksL_law_15 24 rfl rfl
theorem dksL_law_17 : cL_law.data.toList.drop 577 = dktL_law_17 := dk_seg dksL_law_16 24 rfl rfl
theorem dksL_law_18 : cL_law.data.toList.drop 600 = dktL_law_18 := dk_seg dksL_law_17 23 rfl rfl
theorem dksL_law_19 : cL_law.data.toList.drop 622 = dktL_law_19 := dk_seg dksL_law_18 22 rfl rfl
theorem dksL_law_20 : cL_law.data.toList.drop 644 = dktL_law_20 := dk_seg dksL_law_19 22 rfl rfl
theorem dksL_law_21 : cL_law.data.toList.drop 668 = dktL_law_21 := dk_seg dksL_law_20 24 rfl rfl
theorem dksL_law_22 : cL_law.data.toList.drop 690 = dktL_law_22 := dk_seg dksL_law_21 22 rfl rfl
theorem dksL_law_23 : cL_law.data.toList.drop 712 = dktL_law_23 := dk_seg dksL_law_22 22 rfl rfl
theorem dksL_law_24 : cL_law.data.toList.drop 736 = dktL_law_24 := dk_seg dksL_law_23 24 rfl rfl
theorem dksL_law_25 : cL_law.data.toList.drop 758 = dktL_law_25 := dk_seg dksL_law_24 22 rfl rfl
theorem dksL_law_26 : cL_law.data.toList.drop 780 = dktL_law_26 := dk_seg dksL_law_25 22 rfl rfl
theorem dksL_law_27 : cL_law.data.toList.drop 804 = dktL_law_27 := dk_seg dksL_law_26 24 rfl rfl
theorem dksL_law_28 : cL_law.data.toList.drop 826 = dktL_law_28 := dk_seg dksL_law_27 22 rfl rfl
theorem dksL_law_29 : cL_law.data.toList.drop 848 = dktL_law_29 := dk_seg dksL_law_28 22 rfl rfl
theorem dksL_law_30 : cL_law.data.toList.drop 872 = dktL_law_30 := dk_seg dksL_law_29 24 rfl rfl
theorem dksL_law_31 : cL_law.data.toList.drop 894 = dktL_law_31 := dk_seg dksL_law_30 22 rfl rfl
theorem dksL_law_32 : cL_law.data.toList.drop 916 = dktL_law_32 := dk_seg dksL_law_31 22 rfl rfl
theorem dksL_law_33 : cL_law.data.toList.drop 940 = dktL_law_33 := dk_seg dksL_law_32 24 rfl rfl
theorem dksL_law_34 : cL_law.data.toList.drop 962 = dktL_law_34 := dk_seg dksL_law_33 22 rfl rfl
theorem dksL_law_35 : cL_law.data.toList.drop 984 = dktL_law_35 := dk_seg dksL_law_34 22 rfl rfl
theorem dksL_law_36 : cL_law.data.toList.drop 1008 = dktL_law_36 := dk_seg dksL_law_35 24 rfl rfl
theorem dksL_law_37 : cL_law.data.toList.drop 1030 = dktL_law_37 := dk_seg dksL_law_36 22 rfl rfl
theorem dksL_law_38 : cL_law.data.toList.drop 1052 = dktL_law_38 := dk_seg dksL_law_37 22 rfl rfl
theorem dksL_law_39 : cL_law.data.toList.drop 1075 = dktL_law_39 := dk_seg dksL_law_38 23 rfl rfl
theorem dksL_law_40 : cL_law.data.toList.drop 1099 = dktL_law_40 := dk_seg dksL_law_39 24 rfl rfl
theorem dksL_law_41 : cL_law.data.toList.drop 1122 = dktL_law_41 := dk_seg dksL_law_40 23 rfl rfl
theorem dksL_law_42 : cL_law.data.toList.drop 1146 = dktL_law_42 := dk_seg dksL_law_41 24 rfl rfl
theorem dksL_law_43 : cL_law.data.toList.drop 1169 = dktL_law_43 := dk_seg dksL_law_42 23 rfl rfl
theorem dksL_law_44 : cL_law.data.toList.drop 1193 = dktL_law_44 := dk_seg dksL_law_43 24 rfl rfl
theorem dksL_law_45 : cL_law.data.toList.drop 1217 = dktL_law_45 := dk_seg dksL_law_44 24 rfl rfl
theorem dksL_law_46 : cL_law.data.toList.drop 1241 = dktL_law_46 := dk_seg dksL_law_45 24 rfl rfl
theorem dksL_law_47 : cL_law.data.toList.drop 1265 = dktL_law_47 := dk_seg dksL_law_46 24 rfl rfl
theorem dksL_law_48 : cL_law.data.toList.drop 1289 = dktL_law_48 := dk_seg dksL_law_47 24 rfl rfl
theorem dksL_law_49 : cL_law.data.toList.drop 1313 = dktL_law_49 := dk_seg dksL_law_48 24 rfl rfl
theorem dksL_law_50 : cL_law.data.toList.drop 1337 = dktL_law_50 := dk_seg dksL_law_49 24 rfl rfl
theorem dksL_law_51 : cL_law.data.toList.drop 1359 = dktL_law_51 := dk_seg dksL_law_50 22 rfl rfl
theorem dksL_law_52 : cL_law.data.toList.drop 1383 = dktL_law_52 := dk_seg dksL_law_51 24 rfl rfl
theorem dksL_law_53 : cL_law.data.toList.drop 1407 = dktL_law_53 := dk_seg dksL_law_52 24 rfl rfl
theorem dksL_law_54 : cL_law.data.toList.drop 1430 = dktL_law_54 := dk_seg dksL_law_53 23 rfl rfl
theorem dksL_law_55 : cL_law.data.toList.drop 1454 = dktL_law_55 := dk_seg dksL_law_54 24 rfl rfl
theorem dksL_law_56 : cL_law.data.toList.drop 1478 = dktL_law_56 := dk_seg dksL_law_55 24 rfl rfl
theorem dksL_law_57 : cL_law.data.toList.drop 1501 = dktL_law_57 := dk_seg dksL_law_56 23 rfl rfl
theorem dksL_law_58 : cL_law.data.toList.drop 1524 = dktL_law_58 := dk_seg dksL_law_57 23 rfl rfl
theorem dksL_law_59 : cL_law.data.toList.drop 1547 = dktL_law_59 := dk_seg dksL_law_58 23 rfl rfl
theorem dksL_law_60 : cL_law.data.toList.drop 1571 = dktL_law_60 := dk_seg dksL_law_59 24 rfl rfl
theorem dksL_law_61 : cL_law.data.toList.drop 1593 = dktL_law_61 := dk_seg dksL_law_60 22 rfl rfl
theorem dksL_law_62 : cL_law.data.toList.drop 1617 = dktL_law_62 := dk_seg dksL_law_61 24 rfl rfl
theorem dksL_law_63 : cL_law.data.toList.drop 1641 = dktL_law_63 := dk_seg dksL_law_62 24 rfl rfl
theorem dksL_law_64 : cL_law.data.toList.drop 1665 = dktL_law_64 := dk_seg dksL_law_63 24 rfl rfl
theorem dksL_law_65 : cL_law.data.toList.drop 1689 = dktL_law_65 := dk_seg dksL_law_64 24 rfl rfl
theorem dksL_law_66 : cL_law.data.toList.drop 1713 = dktL_law_66 := dk_seg dksL_law_65 24 rfl rfl
theorem dksL_law_67 : cL_law.data.toList.drop 1735 = dktL_law_67 := dk_seg dksL_law_66 22 rfl rfl
theorem dksL_law_68 : cL_law.data.toList.drop 1759 = dktL_law_68 := dk_seg dksL_law_67 24 rfl rfl
theorem dksL_law_69 : cL_law.data.toList.drop 1783 = dktL_law_69 := dk_seg dksL_law_68 24 rfl rfl
theorem dksL_law_70 : cL_law.data.toList.drop 1807 = dktL_law_70 := dk_seg dksL_law_69 24 rfl rfl
theorem dksL_law_71 : cL_law.data.toList.drop 1831 = dktL_law_71 := dk_seg dksL_law_70 24 rfl rfl
theorem dksL_law_72 : cL_law.data.toList.drop 1855 = dktL_law_72 := dk_seg dksL_law_71 24 rfl rfl
theorem dksL_law_73 : cL_law.data.toList.drop 1879 = dktL_law_73 := dk_seg dksL_law_72 24 rfl rfl
theorem dksL_law_74 : cL_law.data.toList.drop 1902 = dktL_law_74 := dk_seg dksL_law_73 23 rfl rfl
theorem dksL_law_75 : cL_law.data.toList.drop 1924 = dktL_law_75 := dk_seg dksL_law_74 22 rfl rfl
theorem dksL_law_76 : cL_law.data.toList.drop 1948 = dktL_law_76 := dk_seg dksL_law_75 24 rfl rfl
theorem dksL_law_77 : cL_law.data.toList.drop 1971 = dktL_law_77 := dk_seg dksL_law_76 23 rfl rfl
theorem dksL_law_78 : cL_law.data.toList.drop 1995 = dktL_law_78 := dk_seg dksL_law_77 24 rfl rfl
theorem dksL_law_79 : cL_law.data.toList.drop 2019 = dktL_law_79 := dk_seg dksL_law_78 24 rfl rfl
theorem dksL_law_80 : cL_law.data.toList.drop 2041 = dktL_law_80 := dk_seg dksL_law_79 22 rfl rfl
theorem dksL_law_81 : cL_law.data.toList.drop 2065 = dktL_law_81 := dk_seg dksL_law_80 24 rfl rfl
theorem dksL_law_82 : cL_law.data.toList.drop 2089 = dktL_law_82 := dk_seg dksL_law_81 24 rfl rfl
theorem dksL_law_83 : cL_law.data.toList.drop 2113 = dktL_law_83 := dk_seg dksL_law_82 24 rfl rfl
theorem dksL_law_84 : cL_law.data.toList.drop 2136 = dktL_law_84 := dk_seg dksL_law_83 23 rfl rfl
theorem dksL_law_85 : cL_law.data.toList.drop 2159 = dktL_law_85 := dk_seg dksL_law_84 23 rfl rfl
theorem dksL_law_86 : cL_law.data.toList.drop 2181 = dktL_law_86 := dk_seg dksL_law_85 22 rfl rfl
theorem dksL_law_87 : cL_law.data.toList.drop 2203 = dktL_law_87 := dk_seg dksL_law_86 22 rfl rfl
theorem dksL_law_88 : cL_law.data.toList.drop 2227 = dktL_law_88 := dk_seg dksL_law_87 24 rfl rfl
theorem dksL_law_89 : cL_law.data.toList.drop 2249 = dktL_law_89 := dk_seg dksL_law_88 22 rfl rfl
theorem dksL_law_90 : cL_law.data.toList.drop 2273 = dktL_law_90 := dk_seg dksL_law_89 24 rfl rfl
theorem dksL_law_91 : cL_law.data.toList.drop 2297 = dktL_law_91 := dk_seg dksL_law_90 24 rfl rfl
theorem dksL_law_92 : cL_law.data.toList.drop 2321 = dktL_law_92 := dk_seg dksL_law_91 24 rfl rfl
theorem dksL_law_93 : cL_law.data.toList.drop 2345 = dktL_law_93 := dk_seg dksL_law_92 24 rfl rfl
theorem dksL_law_94 : cL_law.data.toList.drop 2369 = dktL_law_94 := dk_seg dksL_law_93 24 rfl rfl
theorem dksL_law_95 : cL_law.data.toList.drop 2392 = dktL_law_95 := dk_seg dksL_law_94 23 rfl rfl
theorem dksL_law_96 : cL_law.data.toList.drop 2416 = dktL_law_96 := dk_seg dksL_law_95 24 rfl rfl
theorem dksL_law_97 : cL_law.data.toList.drop 2439 = dktL_law_97 := dk_seg dksL_law_96 23 rfl rfl
theorem dksL_law_98 : cL_law.data.toList.drop 2463 = dktL_law_98 := dk_seg dksL_law_97 24 rfl rfl
theorem dksL_law_99 : cL_law.data.toList.drop 2485 = dktL_law_99 := dk_seg dksL_law_98 22 rfl rfl
theorem dksL_law_100 : cL_law.data.toList.drop 2508 = dktL_law_100 := dk_seg dksL_law_99 23 rfl rfl
theorem dksL_law_101 : cL_law.data.toList.drop 2531 = dktL_law_101 := dk_seg dksL_law_100 23 rfl rfl
theorem dksL_law_102 : cL_law.data.toList.drop 2555 = dktL_law_102 := dk_seg dksL_law_101 24 rfl rfl
theorem dksL_law_103 : cL_law.data.toList.drop 2579 = dktL_law_103 := dk_seg dksL_law_102 24 rfl rfl
theorem dksL_law_104 : cL_law.data.toList.drop 2603 = dktL_law_104 := dk_seg dksL_law_103 24 rfl rfl
theorem dksL_law_105 : cL_law.data.toList.drop 2627 = dktL_law_105 := dk_seg dksL_law_104 24 rfl rfl
theorem dksL_law_106 : cL_law.data.toList.drop 2650 = dktL_law_106 := dk_seg dksL_law_105 23 rfl rfl
theorem dksL_law_107 : cL_law.data.toList.drop 2672 = dktL_law_107 := dk_seg dksL_law_106 22 rfl rfl
theorem dksL_law_108 : cL_law.data.toList.drop 2696 = dktL_law_108 := dk_seg dksL_law_107 24 rfl rfl
theorem dksL_law_109 : cL_law.data.toList.drop 2718 = dktL_law_109 := dk_seg dksL_law_108 22 rfl rfl
theorem dksL_law_110 : cL_law.data.toList.drop 2740 = dktL_law_110 := dk_seg dksL_law_109 22 rfl rfl
theorem dksL_law_111 : cL_law.data.toList.drop 2764 = dktL_law_111 := dk_seg dksL_law_110 24 rfl rfl
theorem dksL_law_112 : cL_law.data.toList.drop 2786 = dktL_law_112 := dk_seg dksL_law_111 22 rfl rfl
theorem dksL_law_113 : cL_law.data.toList.drop 2809 = dktL_law_113 := dk_seg dksL_law_112 23 rfl rfl
theorem dksL_law_114 : cL_law.data.toList.drop 2832 = dktL_law_114 := dk_seg dksL_law_113 23 rfl rfl
theorem dksL_law_115 : cL_law.data.toList.drop 2856 = dktL_law_115 := dk_seg dksL_law_114 24 rfl rfl
theorem dksL_law_116 : cL_law.data.toList.drop 2880 = dktL_law_116 := dk_seg dksL_law_115 24 rfl rfl
theorem dksL_law_117 : cL_law.data.toList.drop 2904 = dktL_law_117 := dk_seg dksL_law_116 24 rfl rfl
theorem dksL_law_118 : cL_law.data.toList.drop 2926 = dktL_law_118 := dk_seg dksL_law_117 22 rfl rfl
theorem dksL_law_119 : cL_law.data.toList.drop 2950 = dktL_law_119 := dk_seg dksL_law_118 24 rfl rfl
theorem dksL_law_120 : cL_law.data.toList.drop 2972 = dktL_law_120 := dk_seg dksL_law_119 22 rfl rfl
theorem dL_law_0 : decode cL_law 0 = .ok (.new 8, 3) := dk_187 0 8 (dk_at dksL_law_0 0 rfl rfl)
theorem dL_law_3 : decode cL_law 3 = .ok (.dup, 1) := dk_89 (dk_at dksL_law_0 3 rfl rfl)
theorem dL_law_4 : decode cL_law 4 = .ok (.invokespecial 135, 3) := dk_183 0 135 (dk_at dksL_law_0 4 rfl rfl)
theorem dL_law_7 : decode cL_law 7 = .ok (.astore_n 1, 1) := dk_76 (dk_at dksL_law_0 7 rfl rfl)
theorem dL_law_8 : decode cL_law 8 = .ok (.new 136, 3) := dk_187 0 136 (dk_at dksL_law_0 8 rfl rfl)
theorem dL_law_11 : decode cL_law 11 = .ok (.dup, 1) := dk_89 (dk_at dksL_law_0 11 rfl rfl)
theorem dL_law_12 : decode cL_law 12 = .ok (.invokespecial 138, 3) := dk_183 0 138 (dk_at dksL_law_0 12 rfl rfl)
theorem dL_law_15 : decode cL_law 15 = .ok (.astore_n 2, 1) := dk_77 (dk_at dksL_law_0 15 rfl rfl)
theorem dL_law_16 : decode cL_law 16 = .ok (.iconst 1, 1) := dk_4 (dk_at dksL_law_0 16 rfl rfl)
theorem dL_law_17 : decode cL_law 17 = .ok (.newarray .long, 2) := dk_188_11 (dk_at dksL_law_0 17 rfl rfl)
theorem dL_law_19 : decode cL_law 19 = .ok (.astore_n 3, 1) := dk_78 (dk_at dksL_law_0 19 rfl rfl)
theorem dL_law_20 : decode cL_law 20 = .ok (.iconst 0, 1) := dk_3 (dk_at dksL_law_0 20 rfl rfl)
theorem dL_law_21 : decode cL_law 21 = .ok (.istore 4, 2) := dk_54 4 (dk_at dksL_law_0 21 rfl rfl)
theorem dL_law_23 : decode cL_law 23 = .ok (.iload 4, 2) := dk_21 4 (dk_at dksL_law_1 0 rfl rfl)
theorem dL_law_25 : decode cL_law 25 = .ok (.aload_n 0, 1) := dk_42 (dk_at dksL_law_1 2 rfl rfl)
theorem dL_law_26 : decode cL_law 26 = .ok (.arraylength, 1) := dk_190 (dk_at dksL_law_1 3 rfl rfl)
theorem dL_law_27 : decode cL_law 27 = .ok (.bipush 6, 2) := dk_16 6 (dk_at dksL_law_1 4 rfl rfl)
theorem dL_law_29 : decode cL_law 29 = .ok (.isub, 1) := dk_100 (dk_at dksL_law_1 6 rfl rfl)
theorem dL_law_30 : decode cL_law 30 = .ok (.if_icmp .gt 2956, 3) := dk_163 11 140 (dk_at dksL_law_1 7 rfl rfl)
theorem dL_law_33 : decode cL_law 33 = .ok (.aload_n 0, 1) := dk_42 (dk_at dksL_law_1 10 rfl rfl)
theorem dL_law_34 : decode cL_law 34 = .ok (.iload 4, 2) := dk_21 4 (dk_at dksL_law_1 11 rfl rfl)
theorem dL_law_36 : decode cL_law 36 = .ok (.iaload, 1) := dk_46 (dk_at dksL_law_1 13 rfl rfl)
theorem dL_law_37 : decode cL_law 37 = .ok (.bipush 63, 2) := dk_16 63 (dk_at dksL_law_1 14 rfl rfl)
theorem dL_law_39 : decode cL_law 39 = .ok (.iand, 1) := dk_126 (dk_at dksL_law_1 16 rfl rfl)
theorem dL_law_40 : decode cL_law 40 = .ok (.tableswitch 2940 0 46 #[204, 277, 302, 346, 390, 403, 459, 527, 607, 675, 743, 811, 879, 947, 1015, 1071, 1127, 1219, 1287, 1355, 1423, 1479, 1492, 1533, 1589, 1669, 1761, 1829, 1916, 1929, 1973, 2069, 2149, 2217, 2301, 2385, 2453, 2509, 2534, 2618, 2686, 2754, 2810, 2878, 2891, 2902, 2915], 204) := by decide +kernel
theorem dL_law_244 : decode cL_law 244 = .ok (.aload_n 1, 1) := dk_43 (dk_at dksL_law_3 0 rfl rfl)
theorem dL_law_245 : decode cL_law 245 = .ok (.aload_n 0, 1) := dk_42 (dk_at dksL_law_3 1 rfl rfl)
theorem dL_law_246 : decode cL_law 246 = .ok (.iload 4, 2) := dk_21 4 (dk_at dksL_law_3 2 rfl rfl)
theorem dL_law_248 : decode cL_law 248 = .ok (.iconst 1, 1) := dk_4 (dk_at dksL_law_3 4 rfl rfl)
theorem dL_law_249 : decode cL_law 249 = .ok (.iadd, 1) := dk_96 (dk_at dksL_law_3 5 rfl rfl)
theorem dL_law_250 : decode cL_law 250 = .ok (.iaload, 1) := dk_46 (dk_at dksL_law_3 6 rfl rfl)
theorem dL_law_251 : decode cL_law 251 = .ok (.aload_n 0, 1) := dk_42 (dk_at dksL_law_3 7 rfl rfl)
theorem dL_law_252 : decode cL_law 252 = .ok (.iload 4, 2) := dk_21 4 (dk_at dksL_law_3 8 rfl rfl)
theorem dL_law_254 : decode cL_law 254 = .ok (.iconst 2, 1) := dk_5 (dk_at dksL_law_3 10 rfl rfl)
theorem dL_law_255 : decode cL_law 255 = .ok (.iadd, 1) := dk_96 (dk_at dksL_law_3 11 rfl rfl)
theorem dL_law_256 : decode cL_law 256 = .ok (.iaload, 1) := dk_46 (dk_at dksL_law_3 12 rfl rfl)
theorem dL_law_257 : decode cL_law 257 = .ok (.aload_n 0, 1) := dk_42 (dk_at dksL_law_3 13 rfl rfl)
theorem dL_law_258 : decode cL_law 258 = .ok (.iload 4, 2) := dk_21 4 (dk_at dksL_law_3 14 rfl rfl)
theorem dL_law_260 : decode cL_law 260 = .ok (.iconst 3, 1) := dk_6 (dk_at dksL_law_3 16 rfl rfl)
theorem dL_law_261 : decode cL_law 261 = .ok (.iadd, 1) := dk_96 (dk_at dksL_law_3 17 rfl rfl)
theorem dL_law_262 : decode cL_law 262 = .ok (.iaload, 1) := dk_46 (dk_at dksL_law_3 18 rfl rfl)
theorem dL_law_263 : decode cL_law 263 = .ok (.aload_n 0, 1) := dk_42 (dk_at dksL_law_3 19 rfl rfl)
theorem dL_law_264 : decode cL_law 264 = .ok (.iload 4, 2) := dk_21 4 (dk_at dksL_law_3 20 rfl rfl)
theorem dL_law_266 : decode cL_law 266 = .ok (.iconst 4, 1) := dk_7 (dk_at dksL_law_3 22 rfl rfl)
theorem dL_law_267 : decode cL_law 267 = .ok (.iadd, 1) := dk_96 (dk_at dksL_law_3 23 rfl rfl)
theorem dL_law_268 : decode cL_law 268 = .ok (.iaload, 1) := dk_46 (dk_at dksL_law_4 0 rfl rfl)
theorem dL_law_269 : decode cL_law 269 = .ok (.aload_n 0, 1) := dk_42 (dk_at dksL_law_4 1 rfl rfl)
theorem dL_law_270 : decode cL_law 270 = .ok (.iload 4, 2) := dk_21 4 (dk_at dksL_law_4 2 rfl rfl)
theorem dL_law_272 : decode cL_law 272 = .ok (.iconst 5, 1) := dk_8 (dk_at dksL_law_4 4 rfl rfl)
theorem dL_law_273 : decode cL_law 273 = .ok (.iadd, 1) := dk_96 (dk_at dksL_law_4 5 rfl rfl)
theorem dL_law_274 : decode cL_law 274 = .ok (.iaload, 1) := dk_46 (dk_at dksL_law_4 6 rfl rfl)
theorem dL_law_275 : decode cL_law 275 = .ok (.invokevirtual 139, 3) := dk_182 0 139 (dk_at dksL_law_4 7 rfl rfl)
theorem dL_law_278 : decode cL_law 278 = .ok (.aload_n 2, 1) := dk_44 (dk_at dksL_law_4 10 rfl rfl)
theorem dL_law_279 : decode cL_law 279 = .ok (.aload_n 0, 1) := dk_42 (dk_at dksL_law_4 11 rfl rfl)
theorem dL_law_280 : decode cL_law 280 = .ok (.iload 4, 2) := dk_21 4 (dk_at dksL_law_4 12 rfl rfl)
theorem dL_law_282 : decode cL_law 282 = .ok (.iconst 1, 1) := dk_4 (dk_at dksL_law_4 14 rfl rfl)
theorem dL_law_283 : decode cL_law 283 = .ok (.iadd, 1) := dk_96 (dk_at dksL_law_4 15 rfl rfl)
theorem dL_law_284 : decode cL_law 284 = .ok (.iaload, 1) := dk_46 (dk_at dksL_law_4 16 rfl rfl)
theorem dL_law_285 : decode cL_law 285 = .ok (.aload_n 0, 1) := dk_42 (dk_at dksL_law_4 17 rfl rfl)
theorem dL_law_286 : decode cL_law 286 = .ok (.iload 4, 2) := dk_21 4 (dk_at dksL_law_4 18 rfl rfl)
theorem dL_law_288 : decode cL_law 288 = .ok (.iconst 2, 1) := dk_5 (dk_at dksL_law_4 20 rfl rfl)
theorem dL_law_289 : decode cL_law 289 = .ok (.iadd, 1) := dk_96 (dk_at dksL_law_4 21 rfl rfl)
theorem dL_law_290 : decode cL_law 290 = .ok (.iaload, 1) := dk_46 (dk_at dksL_law_4 22 rfl rfl)
theorem dL_law_291 : decode cL_law 291 = .ok (.aload_n 0, 1) := dk_42 (dk_at dksL_law_4 23 rfl rfl)
theorem dL_law_292 : decode cL_law 292 = .ok (.iload 4, 2) := dk_21 4 (dk_at dksL_law_5 0 rfl rfl)
theorem dL_law_294 : decode cL_law 294 = .ok (.iconst 3, 1) := dk_6 (dk_at dksL_law_5 2 rfl rfl)
theorem dL_law_295 : decode cL_law 295 = .ok (.iadd, 1) := dk_96 (dk_at dksL_law_5 3 rfl rfl)
theorem dL_law_296 : decode cL_law 296 = .ok (.iaload, 1) := dk_46 (dk_at dksL_law_5 4 rfl rfl)
theorem dL_law_297 : decode cL_law 297 = .ok (.aload_n 0, 1) := dk_42 (dk_at dksL_law_5 5 rfl rfl)
theorem dL_law_298 : decode cL_law 298 = .ok (.iload 4, 2) := dk_21 4 (dk_at dksL_law_5 6 rfl rfl)
theorem dL_law_300 : decode cL_law 300 = .ok (.iconst 4, 1) := dk_7 (dk_at dksL_law_5 8 rfl rfl)
theorem dL_law_301 : decode cL_law 301 = .ok (.iadd, 1) := dk_96 (dk_at dksL_law_5 9 rfl rfl)
theorem dL_law_302 : decode cL_law 302 = .ok (.iaload, 1) := dk_46 (dk_at dksL_law_5 10 rfl rfl)
theorem dL_law_303 : decode cL_law 303 = .ok (.aload_n 0, 1) := dk_42 (dk_at dksL_law_5 11 rfl rfl)
theorem dL_law_304 : decode cL_law 304 = .ok (.iload 4, 2) := dk_21 4 (dk_at dksL_law_5 12 rfl rfl)
theorem dL_law_306 : decode cL_law 306 = .ok (.iconst 5, 1) := dk_8 (dk_at dksL_law_5 14 rfl rfl)
theorem dL_law_307 : decode cL_law 307 = .ok (.iadd, 1) := dk_96 (dk_at dksL_law_5 15 rfl rfl)
theorem dL_law_308 : decode cL_law 308 = .ok (.iaload, 1) := dk_46 (dk_at dksL_law_5 16 rfl rfl)
theorem dL_law_309 : decode cL_law 309 = .ok (.invokevirtual 143, 3) := dk_182 0 143 (dk_at dksL_law_5 17 rfl rfl)
theorem dL_law_312 : decode cL_law 312 = .ok (.if_icmp .eq 2668, 3) := dk_159 10 108 (dk_at dksL_law_5 20 rfl rfl)
theorem dL_law_315 : decode cL_law 315 = .ok (.iconst 0, 1) := dk_3 (dk_at dksL_law_5 23 rfl rfl)
theorem dL_law_316 : decode cL_law 316 = .ok (.ireturn, 1) := dk_172 (dk_at dksL_law_6 0 rfl rfl)
theorem dL_law_317 : decode cL_law 317 = .ok (.aload_n 1, 1) := dk_43 (dk_at dksL_law_6 1 rfl rfl)
theorem dL_law_318 : decode cL_law 318 = .ok (.aload_n 0, 1) := dk_42 (dk_at dksL_law_6 2 rfl rfl)
theorem dL_law_319 : decode cL_law 319 = .ok (.iload 4, 2) := dk_21 4 (dk_at dksL_law_6 3 rfl rfl)
theorem dL_law_321 : decode cL_law 321 = .ok (.iconst 1, 1) := dk_4 (dk_at dksL_law_6 5 rfl rfl)
theorem dL_law_322 : decode cL_law 322 = .ok (.iadd, 1) := dk_96 (dk_at dksL_law_6 6 rfl rfl)
theorem dL_law_323 : decode cL_law 323 = .ok (.iaload, 1) := dk_46 (dk_at dksL_law_6 7 rfl rfl)
theorem dL_law_324 : decode cL_law 324 = .ok (.invokevirtual 144, 3) := dk_182 0 144 (dk_at dksL_law_6 8 rfl rfl)
theorem dL_law_327 : decode cL_law 327 = .ok (.aload_n 2, 1) := dk_44 (dk_at dksL_law_6 11 rfl rfl)
theorem dL_law_328 : decode cL_law 328 = .ok (.aload_n 0, 1) := dk_42 (dk_at dksL_law_6 12 rfl rfl)
theorem dL_law_329 : decode cL_law 329 = .ok (.iload 4, 2) := dk_21 4 (dk_at dksL_law_6 13 rfl rfl)
theorem dL_law_331 : decode cL_law 331 = .ok (.iconst 1, 1) := dk_4 (dk_at dksL_law_6 15 rfl rfl)
theorem dL_law_332 : decode cL_law 332 = .ok (.iadd, 1) := dk_96 (dk_at dksL_law_6 16 rfl rfl)
theorem dL_law_333 : decode cL_law 333 = .ok (.iaload, 1) := dk_46 (dk_at dksL_law_6 17 rfl rfl)
theorem dL_law_334 : decode cL_law 334 = .ok (.invokevirtual 148, 3) := dk_182 0 148 (dk_at dksL_law_6 18 rfl rfl)
theorem dL_law_337 : decode cL_law 337 = .ok (.if_icmp .eq 2643, 3) := dk_159 10 83 (dk_at dksL_law_6 21 rfl rfl)
theorem dL_law_340 : decode cL_law 340 = .ok (.iconst 0, 1) := dk_3 (dk_at dksL_law_7 0 rfl rfl)
theorem dL_law_341 : decode cL_law 341 = .ok (.ireturn, 1) := dk_172 (dk_at dksL_law_7 1 rfl rfl)
theorem dL_law_342 : decode cL_law 342 = .ok (.aload_n 1, 1) := dk_43 (dk_at dksL_law_7 2 rfl rfl)
theorem dL_law_343 : decode cL_law 343 = .ok (.aload_n 3, 1) := dk_45 (dk_at dksL_law_7 3 rfl rfl)
theorem dL_law_344 : decode cL_law 344 = .ok (.invokestatic 149, 3) := dk_184 0 149 (dk_at dksL_law_7 4 rfl rfl)
theorem dL_law_347 : decode cL_law 347 = .ok (.istore 5, 2) := dk_54 5 (dk_at dksL_law_7 7 rfl rfl)
theorem dL_law_349 : decode cL_law 349 = .ok (.aload_n 2, 1) := dk_44 (dk_at dksL_law_7 9 rfl rfl)
theorem dL_law_350 : decode cL_law 350 = .ok (.invokevirtual 154, 3) := dk_182 0 154 (dk_at dksL_law_7 10 rfl rfl)
theorem dL_law_353 : decode cL_law 353 = .ok (.istore 6, 2) := dk_54 6 (dk_at dksL_law_7 13 rfl rfl)
theorem dL_law_355 : decode cL_law 355 = .ok (.aload_n 2, 1) := dk_44 (dk_at dksL_law_7 15 rfl rfl)
theorem dL_law_356 : decode cL_law 356 = .ok (.invokevirtual 155, 3) := dk_182 0 155 (dk_at dksL_law_7 16 rfl rfl)
theorem dL_law_359 : decode cL_law 359 = .ok (.iload 5, 2) := dk_21 5 (dk_at dksL_law_7 19 rfl rfl)
theorem dL_law_361 : decode cL_law 361 = .ok (.if_icmp .eq 5, 3) := dk_159 0 5 (dk_at dksL_law_7 21 rfl rfl)
theorem dL_law_364 : decode cL_law 364 = .ok (.iconst 0, 1) := dk_3 (dk_at dksL_law_8 0 rfl rfl)
theorem dL_law_365 : decode cL_law 365 = .ok (.ireturn, 1) := dk_172 (dk_at dksL_law_8 1 rfl rfl)
theorem dL_law_366 : decode cL_law 366 = .ok (.iload 5, 2) := dk_21 5 (dk_at dksL_law_8 2 rfl rfl)
theorem dL_law_368 : decode cL_law 368 = .ok (.ifCond .ne 15, 3) := dk_154 0 15 (dk_at dksL_law_8 4 rfl rfl)
theorem dL_law_371 : decode cL_law 371 = .ok (.aload_n 3, 1) := dk_45 (dk_at dksL_law_8 7 rfl rfl)
theorem dL_law_372 : decode cL_law 372 = .ok (.iconst 0, 1) := dk_3 (dk_at dksL_law_8 8 rfl rfl)
theorem dL_law_373 : decode cL_law 373 = .ok (.laload, 1) := dk_47 (dk_at dksL_law_8 9 rfl rfl)
theorem dL_law_374 : decode cL_law 374 = .ok (.iload 6, 2) := dk_21 6 (dk_at dksL_law_8 10 rfl rfl)
theorem dL_law_376 : decode cL_law 376 = .ok (.i2l, 1) := dk_133 (dk_at dksL_law_8 12 rfl rfl)
theorem dL_law_377 : decode cL_law 377 = .ok (.lcmp, 1) := dk_148 (dk_at dksL_law_8 13 rfl rfl)
theorem dL_law_378 : decode cL_law 378 = .ok (.ifCond .eq 5, 3) := dk_153 0 5 (dk_at dksL_law_8 14 rfl rfl)
theorem dL_law_381 : decode cL_law 381 = .ok (.iconst 0, 1) := dk_3 (dk_at dksL_law_8 17 rfl rfl)
theorem dL_law_382 : decode cL_law 382 = .ok (.ireturn, 1) := dk_172 (dk_at dksL_law_8 18 rfl rfl)
theorem dL_law_383 : decode cL_law 383 = .ok (.goto 2597, 3) := dk_167 10 37 (dk_at dksL_law_8 19 rfl rfl)
theorem dL_law_386 : decode cL_law 386 = .ok (.aload_n 1, 1) := dk_43 (dk_at dksL_law_8 22 rfl rfl)
theorem dL_law_387 : decode cL_law 387 = .ok (.aload_n 3, 1) := dk_45 (dk_at dksL_law_8 23 rfl rfl)
theorem dL_law_388 : decode cL_law 388 = .ok (.invokestatic 158, 3) := dk_184 0 158 (dk_at dksL_law_9 0 rfl rfl)
theorem dL_law_391 : decode cL_law 391 = .ok (.istore 5, 2) := dk_54 5 (dk_at dksL_law_9 3 rfl rfl)
theorem dL_law_393 : decode cL_law 393 = .ok (.aload_n 2, 1) := dk_44 (dk_at dksL_law_9 5 rfl rfl)
theorem dL_law_394 : decode cL_law 394 = .ok (.invokevirtual 160, 3) := dk_182 0 160 (dk_at dksL_law_9 6 rfl rfl)
theorem dL_law_397 : decode cL_law 397 = .ok (.istore 6, 2) := dk_54 6 (dk_at dksL_law_9 9 rfl rfl)
theorem dL_law_399 : decode cL_law 399 = .ok (.aload_n 2, 1) := dk_44 (dk_at dksL_law_9 11 rfl rfl)
theorem dL_law_400 : decode cL_law 400 = .ok (.invokevirtual 155, 3) := dk_182 0 155 (dk_at dksL_law_9 12 rfl rfl)
theorem dL_law_403 : decode cL_law 403 = .ok (.iload 5, 2) := dk_21 5 (dk_at dksL_law_9 15 rfl rfl)
theorem dL_law_405 : decode cL_law 405 = .ok (.if_icmp .eq 5, 3) := dk_159 0 5 (dk_at dksL_law_9 17 rfl rfl)
theorem dL_law_408 : decode cL_law 408 = .ok (.iconst 0, 1) := dk_3 (dk_at dksL_law_9 20 rfl rfl)
theorem dL_law_409 : decode cL_law 409 = .ok (.ireturn, 1) := dk_172 (dk_at dksL_law_9 21 rfl rfl)
theorem dL_law_410 : decode cL_law 410 = .ok (.iload 5, 2) := dk_21 5 (dk_at dksL_law_9 22 rfl rfl)
theorem dL_law_412 : decode cL_law 412 = .ok (.ifCond .ne 15, 3) := dk_154 0 15 (dk_at dksL_law_10 0 rfl rfl)
theorem dL_law_415 : decode cL_law 415 = .ok (.aload_n 3, 1) := dk_45 (dk_at dksL_law_10 3 rfl rfl)
theorem dL_law_416 : decode cL_law 416 = .ok (.iconst 0, 1) := dk_3 (dk_at dksL_law_10 4 rfl rfl)
theorem dL_law_417 : decode cL_law 417 = .ok (.laload, 1) := dk_47 (dk_at dksL_law_10 5 rfl rfl)
theorem dL_law_418 : decode cL_law 418 = .ok (.iload 6, 2) := dk_21 6 (dk_at dksL_law_10 6 rfl rfl)
theorem dL_law_420 : decode cL_law 420 = .ok (.i2l, 1) := dk_133 (dk_at dksL_law_10 8 rfl rfl)
theorem dL_law_421 : decode cL_law 421 = .ok (.lcmp, 1) := dk_148 (dk_at dksL_law_10 9 rfl rfl)
theorem dL_law_422 : decode cL_law 422 = .ok (.ifCond .eq 5, 3) := dk_153 0 5 (dk_at dksL_law_10 10 rfl rfl)
theorem dL_law_425 : decode cL_law 425 = .ok (.iconst 0, 1) := dk_3 (dk_at dksL_law_10 13 rfl rfl)
theorem dL_law_426 : decode cL_law 426 = .ok (.ireturn, 1) := dk_172 (dk_at dksL_law_10 14 rfl rfl)
theorem dL_law_427 : decode cL_law 427 = .ok (.goto 2553, 3) := dk_167 9 249 (dk_at dksL_law_10 15 rfl rfl)
theorem dL_law_430 : decode cL_law 430 = .ok (.aload_n 1, 1) := dk_43 (dk_at dksL_law_10 18 rfl rfl)
theorem dL_law_431 : decode cL_law 431 = .ok (.invokevirtual 161, 3) := dk_182 0 161 (dk_at dksL_law_10 19 rfl rfl)
theorem dL_law_434 : decode cL_law 434 = .ok (.aload_n 2, 1) := dk_44 (dk_at dksL_law_10 22 rfl rfl)
theorem dL_law_435 : decode cL_law 435 = .ok (.invokevirtual 164, 3) := dk_182 0 164 (dk_at dksL_law_11 0 rfl rfl)
theorem dL_law_438 : decode cL_law 438 = .ok (.if_icmp .eq 2542, 3) := dk_159 9 238 (dk_at dksL_law_11 3 rfl rfl)
theorem dL_law_441 : decode cL_law 441 = .ok (.iconst 0, 1) := dk_3 (dk_at dksL_law_11 6 rfl rfl)
theorem dL_law_442 : decode cL_law 442 = .ok (.ireturn, 1) := dk_172 (dk_at dksL_law_11 7 rfl rfl)
theorem dL_law_443 : decode cL_law 443 = .ok (.aload_n 1, 1) := dk_43 (dk_at dksL_law_11 8 rfl rfl)
theorem dL_law_444 : decode cL_law 444 = .ok (.aload_n 0, 1) := dk_42 (dk_at dksL_law_11 9 rfl rfl)
theorem dL_law_445 : decode cL_law 445 = .ok (.iload 4, 2) := dk_21 4 (dk_at dksL_law_11 10 rfl rfl)
theorem dL_law_447 : decode cL_law 447 = .ok (.iconst 1, 1) := dk_4 (dk_at dksL_law_11 12 rfl rfl)
theorem dL_law_448 : decode cL_law 448 = .ok (.iadd, 1) := dk_96 (dk_at dksL_law_11 13 rfl rfl)
theorem dL_law_449 : decode cL_law 449 = .ok (.iaload, 1) := dk_46 (dk_at dksL_law_11 14 rfl rfl)
theorem dL_law_450 : decode cL_law 450 = .ok (.aload_n 3, 1) := dk_45 (dk_at dksL_law_11 15 rfl rfl)
theorem dL_law_451 : decode cL_law 451 = .ok (.invokestatic 165, 3) := dk_184 0 165 (dk_at dksL_law_11 16 rfl rfl)
theorem dL_law_454 : decode cL_law 454 = .ok (.istore 5, 2) := dk_54 5 (dk_at dksL_law_11 19 rfl rfl)
theorem dL_law_456 : decode cL_law 456 = .ok (.aload_n 2, 1) := dk_44 (dk_at dksL_law_11 21 rfl rfl)
theorem dL_law_457 : decode cL_law 457 = .ok (.aload_n 0, 1) := dk_42 (dk_at dksL_law_11 22 rfl rfl)
theorem dL_law_458 : decode cL_law 458 = .ok (.iload 4, 2) := dk_21 4 (dk_at dksL_law_12 0 rfl rfl)
theorem dL_law_460 : decode cL_law 460 = .ok (.iconst 1, 1) := dk_4 (dk_at dksL_law_12 2 rfl rfl)
theorem dL_law_461 : decode cL_law 461 = .ok (.iadd, 1) := dk_96 (dk_at dksL_law_12 3 rfl rfl)
theorem dL_law_462 : decode cL_law 462 = .ok (.iaload, 1) := dk_46 (dk_at dksL_law_12 4 rfl rfl)
theorem dL_law_463 : decode cL_law 463 = .ok (.invokevirtual 168, 3) := dk_182 0 168 (dk_at dksL_law_12 5 rfl rfl)
theorem dL_law_466 : decode cL_law 466 = .ok (.istore 6, 2) := dk_54 6 (dk_at dksL_law_12 8 rfl rfl)
theorem dL_law_468 : decode cL_law 468 = .ok (.aload_n 2, 1) := dk_44 (dk_at dksL_law_12 10 rfl rfl)
theorem dL_law_469 : decode cL_law 469 = .ok (.invokevirtual 155, 3) := dk_182 0 155 (dk_at dksL_law_12 11 rfl rfl)
theorem dL_law_472 : decode cL_law 472 = .ok (.iload 5, 2) := dk_21 5 (dk_at dksL_law_12 14 rfl rfl)
theorem dL_law_474 : decode cL_law 474 = .ok (.if_icmp .eq 5, 3) := dk_159 0 5 (dk_at dksL_law_12 16 rfl rfl)
theorem dL_law_477 : decode cL_law 477 = .ok (.iconst 0, 1) := dk_3 (dk_at dksL_law_12 19 rfl rfl)
theorem dL_law_478 : decode cL_law 478 = .ok (.ireturn, 1) := dk_172 (dk_at dksL_law_12 20 rfl rfl)
theorem dL_law_479 : decode cL_law 479 = .ok (.iload 5, 2) := dk_21 5 (dk_at dksL_law_12 21 rfl rfl)
theorem dL_law_481 : decode cL_law 481 = .ok (.ifCond .ne 15, 3) := dk_154 0 15 (dk_at dksL_law_13 0 rfl rfl)
theorem dL_law_484 : decode cL_law 484 = .ok (.aload_n 3, 1) := dk_45 (dk_at dksL_law_13 3 rfl rfl)
theorem dL_law_485 : decode cL_law 485 = .ok (.iconst 0, 1) := dk_3 (dk_at dksL_law_13 4 rfl rfl)
theorem dL_law_486 : decode cL_law 486 = .ok (.laload, 1) := dk_47 (dk_at dksL_law_13 5 rfl rfl)
theorem dL_law_487 : decode cL_law 487 = .ok (.iload 6, 2) := dk_21 6 (dk_at dksL_law_13 6 rfl rfl)
theorem dL_law_489 : decode cL_law 489 = .ok (.i2l, 1) := dk_133 (dk_at dksL_law_13 8 rfl rfl)
theorem dL_law_490 : decode cL_law 490 = .ok (.lcmp, 1) := dk_148 (dk_at dksL_law_13 9 rfl rfl)
theorem dL_law_491 : decode cL_law 491 = .ok (.ifCond .eq 5, 3) := dk_153 0 5 (dk_at dksL_law_13 10 rfl rfl)
theorem dL_law_494 : decode cL_law 494 = .ok (.iconst 0, 1) := dk_3 (dk_at dksL_law_13 13 rfl rfl)
theorem dL_law_495 : decode cL_law 495 = .ok (.ireturn, 1) := dk_172 (dk_at dksL_law_13 14 rfl rfl)
theorem dL_law_496 : decode cL_law 496 = .ok (.goto 2484, 3) := dk_167 9 180 (dk_at dksL_law_13 15 rfl rfl)
theorem dL_law_499 : decode cL_law 499 = .ok (.aload_n 1, 1) := dk_43 (dk_at dksL_law_13 18 rfl rfl)
theorem dL_law_500 : decode cL_law 500 = .ok (.aload_n 0, 1) := dk_42 (dk_at dksL_law_13 19 rfl rfl)
theorem dL_law_501 : decode cL_law 501 = .ok (.iload 4, 2) := dk_21 4 (dk_at dksL_law_13 20 rfl rfl)
theorem dL_law_503 : decode cL_law 503 = .ok (.iconst 1, 1) := dk_4 (dk_at dksL_law_13 22 rfl rfl)
theorem dL_law_504 : decode cL_law 504 = .ok (.iadd, 1) := dk_96 (dk_at dksL_law_13 23 rfl rfl)
theorem dL_law_505 : decode cL_law 505 = .ok (.iaload, 1) := dk_46 (dk_at dksL_law_14 0 rfl rfl)
theorem dL_law_506 : decode cL_law 506 = .ok (.aload_n 0, 1) := dk_42 (dk_at dksL_law_14 1 rfl rfl)
theorem dL_law_507 : decode cL_law 507 = .ok (.iload 4, 2) := dk_21 4 (dk_at dksL_law_14 2 rfl rfl)
theorem dL_law_509 : decode cL_law 509 = .ok (.iconst 2, 1) := dk_5 (dk_at dksL_law_14 4 rfl rfl)
theorem dL_law_510 : decode cL_law 510 = .ok (.iadd, 1) := dk_96 (dk_at dksL_law_14 5 rfl rfl)
theorem dL_law_511 : decode cL_law 511 = .ok (.iaload, 1) := dk_46 (dk_at dksL_law_14 6 rfl rfl)
theorem dL_law_512 : decode cL_law 512 = .ok (.aload_n 3, 1) := dk_45 (dk_at dksL_law_14 7 rfl rfl)
theorem dL_law_513 : decode cL_law 513 = .ok (.invokestatic 169, 3) := dk_184 0 169 (dk_at dksL_law_14 8 rfl rfl)
theorem dL_law_516 : decode cL_law 516 = .ok (.istore 5, 2) := dk_54 5 (dk_at dksL_law_14 11 rfl rfl)
theorem dL_law_518 : decode cL_law 518 = .ok (.aload_n 2, 1) := dk_44 (dk_at dksL_law_14 13 rfl rfl)
theorem dL_law_519 : decode cL_law 519 = .ok (.aload_n 0, 1) := dk_42 (dk_at dksL_law_14 14 rfl rfl)
theorem dL_law_520 : decode cL_law 520 = .ok (.iload 4, 2) := dk_21 4 (dk_at dksL_law_14 15 rfl rfl)
theorem dL_law_522 : decode cL_law 522 = .ok (.iconst 1, 1) := dk_4 (dk_at dksL_law_14 17 rfl rfl)
theorem dL_law_523 : decode cL_law 523 = .ok (.iadd, 1) := dk_96 (dk_at dksL_law_14 18 rfl rfl)
theorem dL_law_524 : decode cL_law 524 = .ok (.iaload, 1) := dk_46 (dk_at dksL_law_14 19 rfl rfl)
theorem dL_law_525 : decode cL_law 525 = .ok (.aload_n 0, 1) := dk_42 (dk_at dksL_law_14 20 rfl rfl)
theorem dL_law_526 : decode cL_law 526 = .ok (.iload 4, 2) := dk_21 4 (dk_at dksL_law_14 21 rfl rfl)
theorem dL_law_528 : decode cL_law 528 = .ok (.iconst 2, 1) := dk_5 (dk_at dksL_law_14 23 rfl rfl)
theorem dL_law_529 : decode cL_law 529 = .ok (.iadd, 1) := dk_96 (dk_at dksL_law_15 0 rfl rfl)
theorem dL_law_530 : decode cL_law 530 = .ok (.iaload, 1) := dk_46 (dk_at dksL_law_15 1 rfl rfl)
theorem dL_law_531 : decode cL_law 531 = .ok (.invokevirtual 172, 3) := dk_182 0 172 (dk_at dksL_law_15 2 rfl rfl)
theorem dL_law_534 : decode cL_law 534 = .ok (.istore 6, 2) := dk_54 6 (dk_at dksL_law_15 5 rfl rfl)
theorem dL_law_536 : decode cL_law 536 = .ok (.aload_n 2, 1) := dk_44 (dk_at dksL_law_15 7 rfl rfl)
theorem dL_law_537 : decode cL_law 537 = .ok (.invokevirtual 155, 3) := dk_182 0 155 (dk_at dksL_law_15 8 rfl rfl)
theorem dL_law_540 : decode cL_law 540 = .ok (.iload 5, 2) := dk_21 5 (dk_at dksL_law_15 11 rfl rfl)
theorem dL_law_542 : decode cL_law 542 = .ok (.if_icmp .eq 5, 3) := dk_159 0 5 (dk_at dksL_law_15 13 rfl rfl)
theorem dL_law_545 : decode cL_law 545 = .ok (.iconst 0, 1) := dk_3 (dk_at dksL_law_15 16 rfl rfl)
theorem dL_law_546 : decode cL_law 546 = .ok (.ireturn, 1) := dk_172 (dk_at dksL_law_15 17 rfl rfl)
theorem dL_law_547 : decode cL_law 547 = .ok (.iload 5, 2) := dk_21 5 (dk_at dksL_law_15 18 rfl rfl)
theorem dL_law_549 : decode cL_law 549 = .ok (.ifCond .ne 15, 3) := dk_154 0 15 (dk_at dksL_law_15 20 rfl rfl)
theorem dL_law_552 : decode cL_law 552 = .ok (.aload_n 3, 1) := dk_45 (dk_at dksL_law_15 23 rfl rfl)
theorem dL_law_553 : decode cL_law 553 = .ok (.iconst 0, 1) := dk_3 (dk_at dksL_law_16 0 rfl rfl)
theorem dL_law_554 : decode cL_law 554 = .ok (.laload, 1) := dk_47 (dk_at dksL_law_16 1 rfl rfl)
theorem dL_law_555 : decode cL_law 555 = .ok (.iload 6, 2) := dk_21 6 (dk_at dksL_law_16 2 rfl rfl)
theorem dL_law_557 : decode cL_law 557 = .ok (.i2l, 1) := dk_133 (dk_at dksL_law_16 4 rfl rfl)
theorem dL_law_558 : decode cL_law 558 = .ok (.lcmp, 1) := dk_148 (dk_at dksL_law_16 5 rfl rfl)
theorem dL_law_559 : decode cL_law 559 = .ok (.ifCond .eq 5, 3) := dk_153 0 5 (dk_at dksL_law_16 6 rfl rfl)
theorem dL_law_562 : decode cL_law 562 = .ok (.iconst 0, 1) := dk_3 (dk_at dksL_law_16 9 rfl rfl)
theorem dL_law_563 : decode cL_law 563 = .ok (.ireturn, 1) := dk_172 (dk_at dksL_law_16 10 rfl rfl)
theorem dL_law_564 : decode cL_law 564 = .ok (.goto 2416, 3) := dk_167 9 112 (dk_at dksL_law_16 11 rfl rfl)
theorem dL_law_567 : decode cL_law 567 = .ok (.aload_n 1, 1) := dk_43 (dk_at dksL_law_16 14 rfl rfl)
theorem dL_law_568 : decode cL_law 568 = .ok (.aload_n 0, 1) := dk_42 (dk_at dksL_law_16 15 rfl rfl)
theorem dL_law_569 : decode cL_law 569 = .ok (.iload 4, 2) := dk_21 4 (dk_at dksL_law_16 16 rfl rfl)
theorem dL_law_571 : decode cL_law 571 = .ok (.iconst 1, 1) := dk_4 (dk_at dksL_law_16 18 rfl rfl)
theorem dL_law_572 : decode cL_law 572 = .ok (.iadd, 1) := dk_96 (dk_at dksL_law_16 19 rfl rfl)
theorem dL_law_573 : decode cL_law 573 = .ok (.iaload, 1) := dk_46 (dk_at dksL_law_16 20 rfl rfl)
theorem dL_law_574 : decode cL_law 574 = .ok (.aload_n 0, 1) := dk_42 (dk_at dksL_law_16 21 rfl rfl)
theorem dL_law_575 : decode cL_law 575 = .ok (.iload 4, 2) := dk_21 4 (dk_at dksL_law_16 22 rfl rfl)
theorem dL_law_577 : decode cL_law 577 = .ok (.iconst 2, 1) := dk_5 (dk_at dksL_law_17 0 rfl rfl)
theorem dL_law_578 : decode cL_law 578 = .ok (.iadd, 1) := dk_96 (dk_at dksL_law_17 1 rfl rfl)
theorem dL_law_579 : decode cL_law 579 = .ok (.iaload, 1) := dk_46 (dk_at dksL_law_17 2 rfl rfl)
theorem dL_law_580 : decode cL_law 580 = .ok (.aload_n 0, 1) := dk_42 (dk_at dksL_law_17 3 rfl rfl)
theorem dL_law_581 : decode cL_law 581 = .ok (.iload 4, 2) := dk_21 4 (dk_at dksL_law_17 4 rfl rfl)
theorem dL_law_583 : decode cL_law 583 = .ok (.iconst 3, 1) := dk_6 (dk_at dksL_law_17 6 rfl rfl)
theorem dL_law_584 : decode cL_law 584 = .ok (.iadd, 1) := dk_96 (dk_at dksL_law_17 7 rfl rfl)
theorem dL_law_585 : decode cL_law 585 = .ok (.iaload, 1) := dk_46 (dk_at dksL_law_17 8 rfl rfl)
theorem dL_law_586 : decode cL_law 586 = .ok (.aload_n 3, 1) := dk_45 (dk_at dksL_law_17 9 rfl rfl)
theorem dL_law_587 : decode cL_law 587 = .ok (.invokestatic 173, 3) := dk_184 0 173 (dk_at dksL_law_17 10 rfl rfl)
theorem dL_law_590 : decode cL_law 590 = .ok (.istore 5, 2) := dk_54 5 (dk_at dksL_law_17 13 rfl rfl)
theorem dL_law_592 : decode cL_law 592 = .ok (.aload_n 2, 1) := dk_44 (dk_at dksL_law_17 15 rfl rfl)
theorem dL_law_593 : decode cL_law 593 = .ok (.aload_n 0, 1) := dk_42 (dk_at dksL_law_17 16 rfl rfl)
theorem dL_law_594 : decode cL_law 594 = .ok (.iload 4, 2) := dk_21 4 (dk_at dksL_law_17 17 rfl rfl)
theorem dL_law_596 : decode cL_law 596 = .ok (.iconst 1, 1) := dk_4 (dk_at dksL_law_17 19 rfl rfl)
theorem dL_law_597 : decode cL_law 597 = .ok (.iadd, 1) := dk_96 (dk_at dksL_law_17 20 rfl rfl)
theorem dL_law_598 : decode cL_law 598 = .ok (.iaload, 1) := dk_46 (dk_at dksL_law_17 21 rfl rfl)
theorem dL_law_599 : decode cL_law 599 = .ok (.aload_n 0, 1) := dk_42 (dk_at dksL_law_17 22 rfl rfl)
theorem dL_law_600 : decode cL_law 600 = .ok (.iload 4, 2) := dk_21 4 (dk_at dksL_law_18 0 rfl rfl)
theorem dL_law_602 : decode cL_law 602 = .ok (.iconst 2, 1) := dk_5 (dk_at dksL_law_18 2 rfl rfl)
theorem dL_law_603 : decode cL_law 603 = .ok (.iadd, 1) := dk_96 (dk_at dksL_law_18 3 rfl rfl)
theorem dL_law_604 : decode cL_law 604 = .ok (.iaload, 1) := dk_46 (dk_at dksL_law_18 4 rfl rfl)
theorem dL_law_605 : decode cL_law 605 = .ok (.aload_n 0, 1) := dk_42 (dk_at dksL_law_18 5 rfl rfl)
theorem dL_law_606 : decode cL_law 606 = .ok (.iload 4, 2) := dk_21 4 (dk_at dksL_law_18 6 rfl rfl)
theorem dL_law_608 : decode cL_law 608 = .ok (.iconst 3, 1) := dk_6 (dk_at dksL_law_18 8 rfl rfl)
theorem dL_law_609 : decode cL_law 609 = .ok (.iadd, 1) := dk_96 (dk_at dksL_law_18 9 rfl rfl)
theorem dL_law_610 : decode cL_law 610 = .ok (.iaload, 1) := dk_46 (dk_at dksL_law_18 10 rfl rfl)
theorem dL_law_611 : decode cL_law 611 = .ok (.invokevirtual 176, 3) := dk_182 0 176 (dk_at dksL_law_18 11 rfl rfl)
theorem dL_law_614 : decode cL_law 614 = .ok (.istore 6, 2) := dk_54 6 (dk_at dksL_law_18 14 rfl rfl)
theorem dL_law_616 : decode cL_law 616 = .ok (.aload_n 2, 1) := dk_44 (dk_at dksL_law_18 16 rfl rfl)
theorem dL_law_617 : decode cL_law 617 = .ok (.invokevirtual 155, 3) := dk_182 0 155 (dk_at dksL_law_18 17 rfl rfl)
theorem dL_law_620 : decode cL_law 620 = .ok (.iload 5, 2) := dk_21 5 (dk_at dksL_law_18 20 rfl rfl)
theorem dL_law_622 : decode cL_law 622 = .ok (.if_icmp .eq 5, 3) := dk_159 0 5 (dk_at dksL_law_19 0 rfl rfl)
theorem dL_law_625 : decode cL_law 625 = .ok (.iconst 0, 1) := dk_3 (dk_at dksL_law_19 3 rfl rfl)
theorem dL_law_626 : decode cL_law 626 = .ok (.ireturn, 1) := dk_172 (dk_at dksL_law_19 4 rfl rfl)
theorem dL_law_627 : decode cL_law 627 = .ok (.iload 5, 2) := dk_21 5 (dk_at dksL_law_19 5 rfl rfl)
theorem dL_law_629 : decode cL_law 629 = .ok (.ifCond .ne 15, 3) := dk_154 0 15 (dk_at dksL_law_19 7 rfl rfl)
theorem dL_law_632 : decode cL_law 632 = .ok (.aload_n 3, 1) := dk_45 (dk_at dksL_law_19 10 rfl rfl)
theorem dL_law_633 : decode cL_law 633 = .ok (.iconst 0, 1) := dk_3 (dk_at dksL_law_19 11 rfl rfl)
theorem dL_law_634 : decode cL_law 634 = .ok (.laload, 1) := dk_47 (dk_at dksL_law_19 12 rfl rfl)
theorem dL_law_635 : decode cL_law 635 = .ok (.iload 6, 2) := dk_21 6 (dk_at dksL_law_19 13 rfl rfl)
theorem dL_law_637 : decode cL_law 637 = .ok (.i2l, 1) := dk_133 (dk_at dksL_law_19 15 rfl rfl)
theorem dL_law_638 : decode cL_law 638 = .ok (.lcmp, 1) := dk_148 (dk_at dksL_law_19 16 rfl rfl)
theorem dL_law_639 : decode cL_law 639 = .ok (.ifCond .eq 5, 3) := dk_153 0 5 (dk_at dksL_law_19 17 rfl rfl)
theorem dL_law_642 : decode cL_law 642 = .ok (.iconst 0, 1) := dk_3 (dk_at dksL_law_19 20 rfl rfl)
theorem dL_law_643 : decode cL_law 643 = .ok (.ireturn, 1) := dk_172 (dk_at dksL_law_19 21 rfl rfl)
theorem dL_law_644 : decode cL_law 644 = .ok (.goto 2336, 3) := dk_167 9 32 (dk_at dksL_law_20 0 rfl rfl)
theorem dL_law_647 : decode cL_law 647 = .ok (.aload_n 1, 1) := dk_43 (dk_at dksL_law_20 3 rfl rfl)
theorem dL_law_648 : decode cL_law 648 = .ok (.aload_n 0, 1) := dk_42 (dk_at dksL_law_20 4 rfl rfl)
theorem dL_law_649 : decode cL_law 649 = .ok (.iload 4, 2) := dk_21 4 (dk_at dksL_law_20 5 rfl rfl)
theorem dL_law_651 : decode cL_law 651 = .ok (.iconst 1, 1) := dk_4 (dk_at dksL_law_20 7 rfl rfl)
theorem dL_law_652 : decode cL_law 652 = .ok (.iadd, 1) := dk_96 (dk_at dksL_law_20 8 rfl rfl)
theorem dL_law_653 : decode cL_law 653 = .ok (.iaload, 1) := dk_46 (dk_at dksL_law_20 9 rfl rfl)
theorem dL_law_654 : decode cL_law 654 = .ok (.aload_n 0, 1) := dk_42 (dk_at dksL_law_20 10 rfl rfl)
theorem dL_law_655 : decode cL_law 655 = .ok (.iload 4, 2) := dk_21 4 (dk_at dksL_law_20 11 rfl rfl)
theorem dL_law_657 : decode cL_law 657 = .ok (.iconst 2, 1) := dk_5 (dk_at dksL_law_20 13 rfl rfl)
theorem dL_law_658 : decode cL_law 658 = .ok (.iadd, 1) := dk_96 (dk_at dksL_law_20 14 rfl rfl)
theorem dL_law_659 : decode cL_law 659 = .ok (.iaload, 1) := dk_46 (dk_at dksL_law_20 15 rfl rfl)
theorem dL_law_660 : decode cL_law 660 = .ok (.aload_n 3, 1) := dk_45 (dk_at dksL_law_20 16 rfl rfl)
theorem dL_law_661 : decode cL_law 661 = .ok (.invokestatic 177, 3) := dk_184 0 177 (dk_at dksL_law_20 17 rfl rfl)
theorem dL_law_664 : decode cL_law 664 = .ok (.istore 5, 2) := dk_54 5 (dk_at dksL_law_20 20 rfl rfl)
theorem dL_law_666 : decode cL_law 666 = .ok (.aload_n 2, 1) := dk_44 (dk_at dksL_law_20 22 rfl rfl)
theorem dL_law_667 : decode cL_law 667 = .ok (.aload_n 0, 1) := dk_42 (dk_at dksL_law_20 23 rfl rfl)
theorem dL_law_668 : decode cL_law 668 = .ok (.iload 4, 2) := dk_21 4 (dk_at dksL_law_21 0 rfl rfl)
theorem dL_law_670 : decode cL_law 670 = .ok (.iconst 1, 1) := dk_4 (dk_at dksL_law_21 2 rfl rfl)
theorem dL_law_671 : decode cL_law 671 = .ok (.iadd, 1) := dk_96 (dk_at dksL_law_21 3 rfl rfl)
theorem dL_law_672 : decode cL_law 672 = .ok (.iaload, 1) := dk_46 (dk_at dksL_law_21 4 rfl rfl)
theorem dL_law_673 : decode cL_law 673 = .ok (.aload_n 0, 1) := dk_42 (dk_at dksL_law_21 5 rfl rfl)
theorem dL_law_674 : decode cL_law 674 = .ok (.iload 4, 2) := dk_21 4 (dk_at dksL_law_21 6 rfl rfl)
theorem dL_law_676 : decode cL_law 676 = .ok (.iconst 2, 1) := dk_5 (dk_at dksL_law_21 8 rfl rfl)
theorem dL_law_677 : decode cL_law 677 = .ok (.iadd, 1) := dk_96 (dk_at dksL_law_21 9 rfl rfl)
theorem dL_law_678 : decode cL_law 678 = .ok (.iaload, 1) := dk_46 (dk_at dksL_law_21 10 rfl rfl)
theorem dL_law_679 : decode cL_law 679 = .ok (.invokevirtual 179, 3) := dk_182 0 179 (dk_at dksL_law_21 11 rfl rfl)
theorem dL_law_682 : decode cL_law 682 = .ok (.istore 6, 2) := dk_54 6 (dk_at dksL_law_21 14 rfl rfl)
theorem dL_law_684 : decode cL_law 684 = .ok (.aload_n 2, 1) := dk_44 (dk_at dksL_law_21 16 rfl rfl)
theorem dL_law_685 : decode cL_law 685 = .ok (.invokevirtual 155, 3) := dk_182 0 155 (dk_at dksL_law_21 17 rfl rfl)
theorem dL_law_688 : decode cL_law 688 = .ok (.iload 5, 2) := dk_21 5 (dk_at dksL_law_21 20 rfl rfl)
theorem dL_law_690 : decode cL_law 690 = .ok (.if_icmp .eq 5, 3) := dk_159 0 5 (dk_at dksL_law_22 0 rfl rfl)
theorem dL_law_693 : decode cL_law 693 = .ok (.iconst 0, 1) := dk_3 (dk_at dksL_law_22 3 rfl rfl)
theorem dL_law_694 : decode cL_law 694 = .ok (.ireturn, 1) := dk_172 (dk_at dksL_law_22 4 rfl rfl)
theorem dL_law_695 : decode cL_law 695 = .ok (.iload 5, 2) := dk_21 5 (dk_at dksL_law_22 5 rfl rfl)
theorem dL_law_697 : decode cL_law 697 = .ok (.ifCond .ne 15, 3) := dk_154 0 15 (dk_at dksL_law_22 7 rfl rfl)
theorem dL_law_700 : decode cL_law 700 = .ok (.aload_n 3, 1) := dk_45 (dk_at dksL_law_22 10 rfl rfl)
theorem dL_law_701 : decode cL_law 701 = .ok (.iconst 0, 1) := dk_3 (dk_at dksL_law_22 11 rfl rfl)
theorem dL_law_702 : decode cL_law 702 = .ok (.laload, 1) := dk_47 (dk_at dksL_law_22 12 rfl rfl)
theorem dL_law_703 : decode cL_law 703 = .ok (.iload 6, 2) := dk_21 6 (dk_at dksL_law_22 13 rfl rfl)
theorem dL_law_705 : decode cL_law 705 = .ok (.i2l, 1) := dk_133 (dk_at dksL_law_22 15 rfl rfl)
theorem dL_law_706 : decode cL_law 706 = .ok (.lcmp, 1) := dk_148 (dk_at dksL_law_22 16 rfl rfl)
theorem dL_law_707 : decode cL_law 707 = .ok (.ifCond .eq 5, 3) := dk_153 0 5 (dk_at dksL_law_22 17 rfl rfl)
theorem dL_law_710 : decode cL_law 710 = .ok (.iconst 0, 1) := dk_3 (dk_at dksL_law_22 20 rfl rfl)
theorem dL_law_711 : decode cL_law 711 = .ok (.ireturn, 1) := dk_172 (dk_at dksL_law_22 21 rfl rfl)
theorem dL_law_712 : decode cL_law 712 = .ok (.goto 2268, 3) := dk_167 8 220 (dk_at dksL_law_23 0 rfl rfl)
theorem dL_law_715 : decode cL_law 715 = .ok (.aload_n 1, 1) := dk_43 (dk_at dksL_law_23 3 rfl rfl)
theorem dL_law_716 : decode cL_law 716 = .ok (.aload_n 0, 1) := dk_42 (dk_at dksL_law_23 4 rfl rfl)
theorem dL_law_717 : decode cL_law 717 = .ok (.iload 4, 2) := dk_21 4 (dk_at dksL_law_23 5 rfl rfl)
theorem dL_law_719 : decode cL_law 719 = .ok (.iconst 1, 1) := dk_4 (dk_at dksL_law_23 7 rfl rfl)
theorem dL_law_720 : decode cL_law 720 = .ok (.iadd, 1) := dk_96 (dk_at dksL_law_23 8 rfl rfl)
theorem dL_law_721 : decode cL_law 721 = .ok (.iaload, 1) := dk_46 (dk_at dksL_law_23 9 rfl rfl)
theorem dL_law_722 : decode cL_law 722 = .ok (.aload_n 0, 1) := dk_42 (dk_at dksL_law_23 10 rfl rfl)
theorem dL_law_723 : decode cL_law 723 = .ok (.iload 4, 2) := dk_21 4 (dk_at dksL_law_23 11 rfl rfl)
theorem dL_law_725 : decode cL_law 725 = .ok (.iconst 2, 1) := dk_5 (dk_at dksL_law_23 13 rfl rfl)
theorem dL_law_726 : decode cL_law 726 = .ok (.iadd, 1) := dk_96 (dk_at dksL_law_23 14 rfl rfl)
theorem dL_law_727 : decode cL_law 727 = .ok (.iaload, 1) := dk_46 (dk_at dksL_law_23 15 rfl rfl)
theorem dL_law_728 : decode cL_law 728 = .ok (.aload_n 3, 1) := dk_45 (dk_at dksL_law_23 16 rfl rfl)
theorem dL_law_729 : decode cL_law 729 = .ok (.invokestatic 180, 3) := dk_184 0 180 (dk_at dksL_law_23 17 rfl rfl)
theorem dL_law_732 : decode cL_law 732 = .ok (.istore 5, 2) := dk_54 5 (dk_at dksL_law_23 20 rfl rfl)
theorem dL_law_734 : decode cL_law 734 = .ok (.aload_n 2, 1) := dk_44 (dk_at dksL_law_23 22 rfl rfl)
theorem dL_law_735 : decode cL_law 735 = .ok (.aload_n 0, 1) := dk_42 (dk_at dksL_law_23 23 rfl rfl)
theorem dL_law_736 : decode cL_law 736 = .ok (.iload 4, 2) := dk_21 4 (dk_at dksL_law_24 0 rfl rfl)
theorem dL_law_738 : decode cL_law 738 = .ok (.iconst 1, 1) := dk_4 (dk_at dksL_law_24 2 rfl rfl)
theorem dL_law_739 : decode cL_law 739 = .ok (.iadd, 1) := dk_96 (dk_at dksL_law_24 3 rfl rfl)
theorem dL_law_740 : decode cL_law 740 = .ok (.iaload, 1) := dk_46 (dk_at dksL_law_24 4 rfl rfl)
theorem dL_law_741 : decode cL_law 741 = .ok (.aload_n 0, 1) := dk_42 (dk_at dksL_law_24 5 rfl rfl)
theorem dL_law_742 : decode cL_law 742 = .ok (.iload 4, 2) := dk_21 4 (dk_at dksL_law_24 6 rfl rfl)
theorem dL_law_744 : decode cL_law 744 = .ok (.iconst 2, 1) := dk_5 (dk_at dksL_law_24 8 rfl rfl)
theorem dL_law_745 : decode cL_law 745 = .ok (.iadd, 1) := dk_96 (dk_at dksL_law_24 9 rfl rfl)
theorem dL_law_746 : decode cL_law 746 = .ok (.iaload, 1) := dk_46 (dk_at dksL_law_24 10 rfl rfl)
theorem dL_law_747 : decode cL_law 747 = .ok (.invokevirtual 182, 3) := dk_182 0 182 (dk_at dksL_law_24 11 rfl rfl)
theorem dL_law_750 : decode cL_law 750 = .ok (.istore 6, 2) := dk_54 6 (dk_at dksL_law_24 14 rfl rfl)
theorem dL_law_752 : decode cL_law 752 = .ok (.aload_n 2, 1) := dk_44 (dk_at dksL_law_24 16 rfl rfl)
theorem dL_law_753 : decode cL_law 753 = .ok (.invokevirtual 155, 3) := dk_182 0 155 (dk_at dksL_law_24 17 rfl rfl)
theorem dL_law_756 : decode cL_law 756 = .ok (.iload 5, 2) := dk_21 5 (dk_at dksL_law_24 20 rfl rfl)
theorem dL_law_758 : decode cL_law 758 = .ok (.if_icmp .eq 5, 3) := dk_159 0 5 (dk_at dksL_law_25 0 rfl rfl)
theorem dL_law_761 : decode cL_law 761 = .ok (.iconst 0, 1) := dk_3 (dk_at dksL_law_25 3 rfl rfl)
theorem dL_law_762 : decode cL_law 762 = .ok (.ireturn, 1) := dk_172 (dk_at dksL_law_25 4 rfl rfl)
theorem dL_law_763 : decode cL_law 763 = .ok (.iload 5, 2) := dk_21 5 (dk_at dksL_law_25 5 rfl rfl)
theorem dL_law_765 : decode cL_law 765 = .ok (.ifCond .ne 15, 3) := dk_154 0 15 (dk_at dksL_law_25 7 rfl rfl)
theorem dL_law_768 : decode cL_law 768 = .ok (.aload_n 3, 1) := dk_45 (dk_at dksL_law_25 10 rfl rfl)
theorem dL_law_769 : decode cL_law 769 = .ok (.iconst 0, 1) := dk_3 (dk_at dksL_law_25 11 rfl rfl)
theorem dL_law_770 : decode cL_law 770 = .ok (.laload, 1) := dk_47 (dk_at dksL_law_25 12 rfl rfl)
theorem dL_law_771 : decode cL_law 771 = .ok (.iload 6, 2) := dk_21 6 (dk_at dksL_law_25 13 rfl rfl)
theorem dL_law_773 : decode cL_law 773 = .ok (.i2l, 1) := dk_133 (dk_at dksL_law_25 15 rfl rfl)
theorem dL_law_774 : decode cL_law 774 = .ok (.lcmp, 1) := dk_148 (dk_at dksL_law_25 16 rfl rfl)
theorem dL_law_775 : decode cL_law 775 = .ok (.ifCond .eq 5, 3) := dk_153 0 5 (dk_at dksL_law_25 17 rfl rfl)
theorem dL_law_778 : decode cL_law 778 = .ok (.iconst 0, 1) := dk_3 (dk_at dksL_law_25 20 rfl rfl)
theorem dL_law_779 : decode cL_law 779 = .ok (.ireturn, 1) := dk_172 (dk_at dksL_law_25 21 rfl rfl)
theorem dL_law_780 : decode cL_law 780 = .ok (.goto 2200, 3) := dk_167 8 152 (dk_at dksL_law_26 0 rfl rfl)
theorem dL_law_783 : decode cL_law 783 = .ok (.aload_n 1, 1) := dk_43 (dk_at dksL_law_26 3 rfl rfl)
theorem dL_law_784 : decode cL_law 784 = .ok (.aload_n 0, 1) := dk_42 (dk_at dksL_law_26 4 rfl rfl)
theorem dL_law_785 : decode cL_law 785 = .ok (.iload 4, 2) := dk_21 4 (dk_at dksL_law_26 5 rfl rfl)
theorem dL_law_787 : decode cL_law 787 = .ok (.iconst 1, 1) := dk_4 (dk_at dksL_law_26 7 rfl rfl)
theorem dL_law_788 : decode cL_law 788 = .ok (.iadd, 1) := dk_96 (dk_at dksL_law_26 8 rfl rfl)
theorem dL_law_789 : decode cL_law 789 = .ok (.iaload, 1) := dk_46 (dk_at dksL_law_26 9 rfl rfl)
theorem dL_law_790 : decode cL_law 790 = .ok (.aload_n 0, 1) := dk_42 (dk_at dksL_law_26 10 rfl rfl)
theorem dL_law_791 : decode cL_law 791 = .ok (.iload 4, 2) := dk_21 4 (dk_at dksL_law_26 11 rfl rfl)
theorem dL_law_793 : decode cL_law 793 = .ok (.iconst 2, 1) := dk_5 (dk_at dksL_law_26 13 rfl rfl)
theorem dL_law_794 : decode cL_law 794 = .ok (.iadd, 1) := dk_96 (dk_at dksL_law_26 14 rfl rfl)
theorem dL_law_795 : decode cL_law 795 = .ok (.iaload, 1) := dk_46 (dk_at dksL_law_26 15 rfl rfl)
theorem dL_law_796 : decode cL_law 796 = .ok (.aload_n 3, 1) := dk_45 (dk_at dksL_law_26 16 rfl rfl)
theorem dL_law_797 : decode cL_law 797 = .ok (.invokestatic 183, 3) := dk_184 0 183 (dk_at dksL_law_26 17 rfl rfl)
theorem dL_law_800 : decode cL_law 800 = .ok (.istore 5, 2) := dk_54 5 (dk_at dksL_law_26 20 rfl rfl)
theorem dL_law_802 : decode cL_law 802 = .ok (.aload_n 2, 1) := dk_44 (dk_at dksL_law_26 22 rfl rfl)
theorem dL_law_803 : decode cL_law 803 = .ok (.aload_n 0, 1) := dk_42 (dk_at dksL_law_26 23 rfl rfl)
theorem dL_law_804 : decode cL_law 804 = .ok (.iload 4, 2) := dk_21 4 (dk_at dksL_law_27 0 rfl rfl)
theorem dL_law_806 : decode cL_law 806 = .ok (.iconst 1, 1) := dk_4 (dk_at dksL_law_27 2 rfl rfl)
theorem dL_law_807 : decode cL_law 807 = .ok (.iadd, 1) := dk_96 (dk_at dksL_law_27 3 rfl rfl)
theorem dL_law_808 : decode cL_law 808 = .ok (.iaload, 1) := dk_46 (dk_at dksL_law_27 4 rfl rfl)
theorem dL_law_809 : decode cL_law 809 = .ok (.aload_n 0, 1) := dk_42 (dk_at dksL_law_27 5 rfl rfl)
theorem dL_law_810 : decode cL_law 810 = .ok (.iload 4, 2) := dk_21 4 (dk_at dksL_law_27 6 rfl rfl)
theorem dL_law_812 : decode cL_law 812 = .ok (.iconst 2, 1) := dk_5 (dk_at dksL_law_27 8 rfl rfl)
theorem dL_law_813 : decode cL_law 813 = .ok (.iadd, 1) := dk_96 (dk_at dksL_law_27 9 rfl rfl)
theorem dL_law_814 : decode cL_law 814 = .ok (.iaload, 1) := dk_46 (dk_at dksL_law_27 10 rfl rfl)
theorem dL_law_815 : decode cL_law 815 = .ok (.invokevirtual 185, 3) := dk_182 0 185 (dk_at dksL_law_27 11 rfl rfl)
theorem dL_law_818 : decode cL_law 818 = .ok (.istore 6, 2) := dk_54 6 (dk_at dksL_law_27 14 rfl rfl)
theorem dL_law_820 : decode cL_law 820 = .ok (.aload_n 2, 1) := dk_44 (dk_at dksL_law_27 16 rfl rfl)
theorem dL_law_821 : decode cL_law 821 = .ok (.invokevirtual 155, 3) := dk_182 0 155 (dk_at dksL_law_27 17 rfl rfl)
theorem dL_law_824 : decode cL_law 824 = .ok (.iload 5, 2) := dk_21 5 (dk_at dksL_law_27 20 rfl rfl)
theorem dL_law_826 : decode cL_law 826 = .ok (.if_icmp .eq 5, 3) := dk_159 0 5 (dk_at dksL_law_28 0 rfl rfl)
theorem dL_law_829 : decode cL_law 829 = .ok (.iconst 0, 1) := dk_3 (dk_at dksL_law_28 3 rfl rfl)
theorem dL_law_830 : decode cL_law 830 = .ok (.ireturn, 1) := dk_172 (dk_at dksL_law_28 4 rfl rfl)
theorem dL_law_831 : decode cL_law 831 = .ok (.iload 5, 2) := dk_21 5 (dk_at dksL_law_28 5 rfl rfl)
theorem dL_law_833 : decode cL_law 833 = .ok (.ifCond .ne 15, 3) := dk_154 0 15 (dk_at dksL_law_28 7 rfl rfl)
theorem dL_law_836 : decode cL_law 836 = .ok (.aload_n 3, 1) := dk_45 (dk_at dksL_law_28 10 rfl rfl)
theorem dL_law_837 : decode cL_law 837 = .ok (.iconst 0, 1) := dk_3 (dk_at dksL_law_28 11 rfl rfl)
theorem dL_law_838 : decode cL_law 838 = .ok (.laload, 1) := dk_47 (dk_at dksL_law_28 12 rfl rfl)
theorem dL_law_839 : decode cL_law 839 = .ok (.iload 6, 2) := dk_21 6 (dk_at dksL_law_28 13 rfl rfl)
theorem dL_law_841 : decode cL_law 841 = .ok (.i2l, 1) := dk_133 (dk_at dksL_law_28 15 rfl rfl)
theorem dL_law_842 : decode cL_law 842 = .ok (.lcmp, 1) := dk_148 (dk_at dksL_law_28 16 rfl rfl)
theorem dL_law_843 : decode cL_law 843 = .ok (.ifCond .eq 5, 3) := dk_153 0 5 (dk_at dksL_law_28 17 rfl rfl)
theorem dL_law_846 : decode cL_law 846 = .ok (.iconst 0, 1) := dk_3 (dk_at dksL_law_28 20 rfl rfl)
theorem dL_law_847 : decode cL_law 847 = .ok (.ireturn, 1) := dk_172 (dk_at dksL_law_28 21 rfl rfl)
theorem dL_law_848 : decode cL_law 848 = .ok (.goto 2132, 3) := dk_167 8 84 (dk_at dksL_law_29 0 rfl rfl)
theorem dL_law_851 : decode cL_law 851 = .ok (.aload_n 1, 1) := dk_43 (dk_at dksL_law_29 3 rfl rfl)
theorem dL_law_852 : decode cL_law 852 = .ok (.aload_n 0, 1) := dk_42 (dk_at dksL_law_29 4 rfl rfl)
theorem dL_law_853 : decode cL_law 853 = .ok (.iload 4, 2) := dk_21 4 (dk_at dksL_law_29 5 rfl rfl)
theorem dL_law_855 : decode cL_law 855 = .ok (.iconst 1, 1) := dk_4 (dk_at dksL_law_29 7 rfl rfl)
theorem dL_law_856 : decode cL_law 856 = .ok (.iadd, 1) := dk_96 (dk_at dksL_law_29 8 rfl rfl)
theorem dL_law_857 : decode cL_law 857 = .ok (.iaload, 1) := dk_46 (dk_at dksL_law_29 9 rfl rfl)
theorem dL_law_858 : decode cL_law 858 = .ok (.aload_n 0, 1) := dk_42 (dk_at dksL_law_29 10 rfl rfl)
theorem dL_law_859 : decode cL_law 859 = .ok (.iload 4, 2) := dk_21 4 (dk_at dksL_law_29 11 rfl rfl)
theorem dL_law_861 : decode cL_law 861 = .ok (.iconst 2, 1) := dk_5 (dk_at dksL_law_29 13 rfl rfl)
theorem dL_law_862 : decode cL_law 862 = .ok (.iadd, 1) := dk_96 (dk_at dksL_law_29 14 rfl rfl)
theorem dL_law_863 : decode cL_law 863 = .ok (.iaload, 1) := dk_46 (dk_at dksL_law_29 15 rfl rfl)
theorem dL_law_864 : decode cL_law 864 = .ok (.aload_n 3, 1) := dk_45 (dk_at dksL_law_29 16 rfl rfl)
theorem dL_law_865 : decode cL_law 865 = .ok (.invokestatic 186, 3) := dk_184 0 186 (dk_at dksL_law_29 17 rfl rfl)
theorem dL_law_868 : decode cL_law 868 = .ok (.istore 5, 2) := dk_54 5 (dk_at dksL_law_29 20 rfl rfl)
theorem dL_law_870 : decode cL_law 870 = .ok (.aload_n 2, 1) := dk_44 (dk_at dksL_law_29 22 rfl rfl)
theorem dL_law_871 : decode cL_law 871 = .ok (.aload_n 0, 1) := dk_42 (dk_at dksL_law_29 23 rfl rfl)
theorem dL_law_872 : decode cL_law 872 = .ok (.iload 4, 2) := dk_21 4 (dk_at dksL_law_30 0 rfl rfl)
theorem dL_law_874 : decode cL_law 874 = .ok (.iconst 1, 1) := dk_4 (dk_at dksL_law_30 2 rfl rfl)
theorem dL_law_875 : decode cL_law 875 = .ok (.iadd, 1) := dk_96 (dk_at dksL_law_30 3 rfl rfl)
theorem dL_law_876 : decode cL_law 876 = .ok (.iaload, 1) := dk_46 (dk_at dksL_law_30 4 rfl rfl)
theorem dL_law_877 : decode cL_law 877 = .ok (.aload_n 0, 1) := dk_42 (dk_at dksL_law_30 5 rfl rfl)
theorem dL_law_878 : decode cL_law 878 = .ok (.iload 4, 2) := dk_21 4 (dk_at dksL_law_30 6 rfl rfl)
theorem dL_law_880 : decode cL_law 880 = .ok (.iconst 2, 1) := dk_5 (dk_at dksL_law_30 8 rfl rfl)
theorem dL_law_881 : decode cL_law 881 = .ok (.iadd, 1) := dk_96 (dk_at dksL_law_30 9 rfl rfl)
theorem dL_law_882 : decode cL_law 882 = .ok (.iaload, 1) := dk_46 (dk_at dksL_law_30 10 rfl rfl)
theorem dL_law_883 : decode cL_law 883 = .ok (.invokevirtual 188, 3) := dk_182 0 188 (dk_at dksL_law_30 11 rfl rfl)
theorem dL_law_886 : decode cL_law 886 = .ok (.istore 6, 2) := dk_54 6 (dk_at dksL_law_30 14 rfl rfl)
theorem dL_law_888 : decode cL_law 888 = .ok (.aload_n 2, 1) := dk_44 (dk_at dksL_law_30 16 rfl rfl)
theorem dL_law_889 : decode cL_law 889 = .ok (.invokevirtual 155, 3) := dk_182 0 155 (dk_at dksL_law_30 17 rfl rfl)
theorem dL_law_892 : decode cL_law 892 = .ok (.iload 5, 2) := dk_21 5 (dk_at dksL_law_30 20 rfl rfl)
theorem dL_law_894 : decode cL_law 894 = .ok (.if_icmp .eq 5, 3) := dk_159 0 5 (dk_at dksL_law_31 0 rfl rfl)
theorem dL_law_897 : decode cL_law 897 = .ok (.iconst 0, 1) := dk_3 (dk_at dksL_law_31 3 rfl rfl)
theorem dL_law_898 : decode cL_law 898 = .ok (.ireturn, 1) := dk_172 (dk_at dksL_law_31 4 rfl rfl)
theorem dL_law_899 : decode cL_law 899 = .ok (.iload 5, 2) := dk_21 5 (dk_at dksL_law_31 5 rfl rfl)
theorem dL_law_901 : decode cL_law 901 = .ok (.ifCond .ne 15, 3) := dk_154 0 15 (dk_at dksL_law_31 7 rfl rfl)
theorem dL_law_904 : decode cL_law 904 = .ok (.aload_n 3, 1) := dk_45 (dk_at dksL_law_31 10 rfl rfl)
theorem dL_law_905 : decode cL_law 905 = .ok (.iconst 0, 1) := dk_3 (dk_at dksL_law_31 11 rfl rfl)
theorem dL_law_906 : decode cL_law 906 = .ok (.laload, 1) := dk_47 (dk_at dksL_law_31 12 rfl rfl)
theorem dL_law_907 : decode cL_law 907 = .ok (.iload 6, 2) := dk_21 6 (dk_at dksL_law_31 13 rfl rfl)
theorem dL_law_909 : decode cL_law 909 = .ok (.i2l, 1) := dk_133 (dk_at dksL_law_31 15 rfl rfl)
theorem dL_law_910 : decode cL_law 910 = .ok (.lcmp, 1) := dk_148 (dk_at dksL_law_31 16 rfl rfl)
theorem dL_law_911 : decode cL_law 911 = .ok (.ifCond .eq 5, 3) := dk_153 0 5 (dk_at dksL_law_31 17 rfl rfl)
theorem dL_law_914 : decode cL_law 914 = .ok (.iconst 0, 1) := dk_3 (dk_at dksL_law_31 20 rfl rfl)
theorem dL_law_915 : decode cL_law 915 = .ok (.ireturn, 1) := dk_172 (dk_at dksL_law_31 21 rfl rfl)
theorem dL_law_916 : decode cL_law 916 = .ok (.goto 2064, 3) := dk_167 8 16 (dk_at dksL_law_32 0 rfl rfl)
theorem dL_law_919 : decode cL_law 919 = .ok (.aload_n 1, 1) := dk_43 (dk_at dksL_law_32 3 rfl rfl)
theorem dL_law_920 : decode cL_law 920 = .ok (.aload_n 0, 1) := dk_42 (dk_at dksL_law_32 4 rfl rfl)
theorem dL_law_921 : decode cL_law 921 = .ok (.iload 4, 2) := dk_21 4 (dk_at dksL_law_32 5 rfl rfl)
theorem dL_law_923 : decode cL_law 923 = .ok (.iconst 1, 1) := dk_4 (dk_at dksL_law_32 7 rfl rfl)
theorem dL_law_924 : decode cL_law 924 = .ok (.iadd, 1) := dk_96 (dk_at dksL_law_32 8 rfl rfl)
theorem dL_law_925 : decode cL_law 925 = .ok (.iaload, 1) := dk_46 (dk_at dksL_law_32 9 rfl rfl)
theorem dL_law_926 : decode cL_law 926 = .ok (.aload_n 0, 1) := dk_42 (dk_at dksL_law_32 10 rfl rfl)
theorem dL_law_927 : decode cL_law 927 = .ok (.iload 4, 2) := dk_21 4 (dk_at dksL_law_32 11 rfl rfl)
theorem dL_law_929 : decode cL_law 929 = .ok (.iconst 2, 1) := dk_5 (dk_at dksL_law_32 13 rfl rfl)
theorem dL_law_930 : decode cL_law 930 = .ok (.iadd, 1) := dk_96 (dk_at dksL_law_32 14 rfl rfl)
theorem dL_law_931 : decode cL_law 931 = .ok (.iaload, 1) := dk_46 (dk_at dksL_law_32 15 rfl rfl)
theorem dL_law_932 : decode cL_law 932 = .ok (.aload_n 3, 1) := dk_45 (dk_at dksL_law_32 16 rfl rfl)
theorem dL_law_933 : decode cL_law 933 = .ok (.invokestatic 189, 3) := dk_184 0 189 (dk_at dksL_law_32 17 rfl rfl)
theorem dL_law_936 : decode cL_law 936 = .ok (.istore 5, 2) := dk_54 5 (dk_at dksL_law_32 20 rfl rfl)
theorem dL_law_938 : decode cL_law 938 = .ok (.aload_n 2, 1) := dk_44 (dk_at dksL_law_32 22 rfl rfl)
theorem dL_law_939 : decode cL_law 939 = .ok (.aload_n 0, 1) := dk_42 (dk_at dksL_law_32 23 rfl rfl)
theorem dL_law_940 : decode cL_law 940 = .ok (.iload 4, 2) := dk_21 4 (dk_at dksL_law_33 0 rfl rfl)
theorem dL_law_942 : decode cL_law 942 = .ok (.iconst 1, 1) := dk_4 (dk_at dksL_law_33 2 rfl rfl)
theorem dL_law_943 : decode cL_law 943 = .ok (.iadd, 1) := dk_96 (dk_at dksL_law_33 3 rfl rfl)
theorem dL_law_944 : decode cL_law 944 = .ok (.iaload, 1) := dk_46 (dk_at dksL_law_33 4 rfl rfl)
theorem dL_law_945 : decode cL_law 945 = .ok (.aload_n 0, 1) := dk_42 (dk_at dksL_law_33 5 rfl rfl)
theorem dL_law_946 : decode cL_law 946 = .ok (.iload 4, 2) := dk_21 4 (dk_at dksL_law_33 6 rfl rfl)
theorem dL_law_948 : decode cL_law 948 = .ok (.iconst 2, 1) := dk_5 (dk_at dksL_law_33 8 rfl rfl)
theorem dL_law_949 : decode cL_law 949 = .ok (.iadd, 1) := dk_96 (dk_at dksL_law_33 9 rfl rfl)
theorem dL_law_950 : decode cL_law 950 = .ok (.iaload, 1) := dk_46 (dk_at dksL_law_33 10 rfl rfl)
theorem dL_law_951 : decode cL_law 951 = .ok (.invokevirtual 191, 3) := dk_182 0 191 (dk_at dksL_law_33 11 rfl rfl)
theorem dL_law_954 : decode cL_law 954 = .ok (.istore 6, 2) := dk_54 6 (dk_at dksL_law_33 14 rfl rfl)
theorem dL_law_956 : decode cL_law 956 = .ok (.aload_n 2, 1) := dk_44 (dk_at dksL_law_33 16 rfl rfl)
theorem dL_law_957 : decode cL_law 957 = .ok (.invokevirtual 155, 3) := dk_182 0 155 (dk_at dksL_law_33 17 rfl rfl)
theorem dL_law_960 : decode cL_law 960 = .ok (.iload 5, 2) := dk_21 5 (dk_at dksL_law_33 20 rfl rfl)
theorem dL_law_962 : decode cL_law 962 = .ok (.if_icmp .eq 5, 3) := dk_159 0 5 (dk_at dksL_law_34 0 rfl rfl)
theorem dL_law_965 : decode cL_law 965 = .ok (.iconst 0, 1) := dk_3 (dk_at dksL_law_34 3 rfl rfl)
theorem dL_law_966 : decode cL_law 966 = .ok (.ireturn, 1) := dk_172 (dk_at dksL_law_34 4 rfl rfl)
theorem dL_law_967 : decode cL_law 967 = .ok (.iload 5, 2) := dk_21 5 (dk_at dksL_law_34 5 rfl rfl)
theorem dL_law_969 : decode cL_law 969 = .ok (.ifCond .ne 15, 3) := dk_154 0 15 (dk_at dksL_law_34 7 rfl rfl)
theorem dL_law_972 : decode cL_law 972 = .ok (.aload_n 3, 1) := dk_45 (dk_at dksL_law_34 10 rfl rfl)
theorem dL_law_973 : decode cL_law 973 = .ok (.iconst 0, 1) := dk_3 (dk_at dksL_law_34 11 rfl rfl)
theorem dL_law_974 : decode cL_law 974 = .ok (.laload, 1) := dk_47 (dk_at dksL_law_34 12 rfl rfl)
theorem dL_law_975 : decode cL_law 975 = .ok (.iload 6, 2) := dk_21 6 (dk_at dksL_law_34 13 rfl rfl)
theorem dL_law_977 : decode cL_law 977 = .ok (.i2l, 1) := dk_133 (dk_at dksL_law_34 15 rfl rfl)
theorem dL_law_978 : decode cL_law 978 = .ok (.lcmp, 1) := dk_148 (dk_at dksL_law_34 16 rfl rfl)
theorem dL_law_979 : decode cL_law 979 = .ok (.ifCond .eq 5, 3) := dk_153 0 5 (dk_at dksL_law_34 17 rfl rfl)
theorem dL_law_982 : decode cL_law 982 = .ok (.iconst 0, 1) := dk_3 (dk_at dksL_law_34 20 rfl rfl)
theorem dL_law_983 : decode cL_law 983 = .ok (.ireturn, 1) := dk_172 (dk_at dksL_law_34 21 rfl rfl)
theorem dL_law_984 : decode cL_law 984 = .ok (.goto 1996, 3) := dk_167 7 204 (dk_at dksL_law_35 0 rfl rfl)
theorem dL_law_987 : decode cL_law 987 = .ok (.aload_n 1, 1) := dk_43 (dk_at dksL_law_35 3 rfl rfl)
theorem dL_law_988 : decode cL_law 988 = .ok (.aload_n 0, 1) := dk_42 (dk_at dksL_law_35 4 rfl rfl)
theorem dL_law_989 : decode cL_law 989 = .ok (.iload 4, 2) := dk_21 4 (dk_at dksL_law_35 5 rfl rfl)
theorem dL_law_991 : decode cL_law 991 = .ok (.iconst 1, 1) := dk_4 (dk_at dksL_law_35 7 rfl rfl)
theorem dL_law_992 : decode cL_law 992 = .ok (.iadd, 1) := dk_96 (dk_at dksL_law_35 8 rfl rfl)
theorem dL_law_993 : decode cL_law 993 = .ok (.iaload, 1) := dk_46 (dk_at dksL_law_35 9 rfl rfl)
theorem dL_law_994 : decode cL_law 994 = .ok (.aload_n 0, 1) := dk_42 (dk_at dksL_law_35 10 rfl rfl)
theorem dL_law_995 : decode cL_law 995 = .ok (.iload 4, 2) := dk_21 4 (dk_at dksL_law_35 11 rfl rfl)
theorem dL_law_997 : decode cL_law 997 = .ok (.iconst 2, 1) := dk_5 (dk_at dksL_law_35 13 rfl rfl)
theorem dL_law_998 : decode cL_law 998 = .ok (.iadd, 1) := dk_96 (dk_at dksL_law_35 14 rfl rfl)
theorem dL_law_999 : decode cL_law 999 = .ok (.iaload, 1) := dk_46 (dk_at dksL_law_35 15 rfl rfl)
theorem dL_law_1000 : decode cL_law 1000 = .ok (.aload_n 3, 1) := dk_45 (dk_at dksL_law_35 16 rfl rfl)
theorem dL_law_1001 : decode cL_law 1001 = .ok (.invokestatic 192, 3) := dk_184 0 192 (dk_at dksL_law_35 17 rfl rfl)
theorem dL_law_1004 : decode cL_law 1004 = .ok (.istore 5, 2) := dk_54 5 (dk_at dksL_law_35 20 rfl rfl)
theorem dL_law_1006 : decode cL_law 1006 = .ok (.aload_n 2, 1) := dk_44 (dk_at dksL_law_35 22 rfl rfl)
theorem dL_law_1007 : decode cL_law 1007 = .ok (.aload_n 0, 1) := dk_42 (dk_at dksL_law_35 23 rfl rfl)
theorem dL_law_1008 : decode cL_law 1008 = .ok (.iload 4, 2) := dk_21 4 (dk_at dksL_law_36 0 rfl rfl)
theorem dL_law_1010 : decode cL_law 1010 = .ok (.iconst 1, 1) := dk_4 (dk_at dksL_law_36 2 rfl rfl)
theorem dL_law_1011 : decode cL_law 1011 = .ok (.iadd, 1) := dk_96 (dk_at dksL_law_36 3 rfl rfl)
theorem dL_law_1012 : decode cL_law 1012 = .ok (.iaload, 1) := dk_46 (dk_at dksL_law_36 4 rfl rfl)
theorem dL_law_1013 : decode cL_law 1013 = .ok (.aload_n 0, 1) := dk_42 (dk_at dksL_law_36 5 rfl rfl)
theorem dL_law_1014 : decode cL_law 1014 = .ok (.iload 4, 2) := dk_21 4 (dk_at dksL_law_36 6 rfl rfl)
theorem dL_law_1016 : decode cL_law 1016 = .ok (.iconst 2, 1) := dk_5 (dk_at dksL_law_36 8 rfl rfl)
theorem dL_law_1017 : decode cL_law 1017 = .ok (.iadd, 1) := dk_96 (dk_at dksL_law_36 9 rfl rfl)
theorem dL_law_1018 : decode cL_law 1018 = .ok (.iaload, 1) := dk_46 (dk_at dksL_law_36 10 rfl rfl)
theorem dL_law_1019 : decode cL_law 1019 = .ok (.invokevirtual 194, 3) := dk_182 0 194 (dk_at dksL_law_36 11 rfl rfl)
theorem dL_law_1022 : decode cL_law 1022 = .ok (.istore 6, 2) := dk_54 6 (dk_at dksL_law_36 14 rfl rfl)
theorem dL_law_1024 : decode cL_law 1024 = .ok (.aload_n 2, 1) := dk_44 (dk_at dksL_law_36 16 rfl rfl)
theorem dL_law_1025 : decode cL_law 1025 = .ok (.invokevirtual 155, 3) := dk_182 0 155 (dk_at dksL_law_36 17 rfl rfl)
theorem dL_law_1028 : decode cL_law 1028 = .ok (.iload 5, 2) := dk_21 5 (dk_at dksL_law_36 20 rfl rfl)
theorem dL_law_1030 : decode cL_law 1030 = .ok (.if_icmp .eq 5, 3) := dk_159 0 5 (dk_at dksL_law_37 0 rfl rfl)
theorem dL_law_1033 : decode cL_law 1033 = .ok (.iconst 0, 1) := dk_3 (dk_at dksL_law_37 3 rfl rfl)
theorem dL_law_1034 : decode cL_law 1034 = .ok (.ireturn, 1) := dk_172 (dk_at dksL_law_37 4 rfl rfl)
theorem dL_law_1035 : decode cL_law 1035 = .ok (.iload 5, 2) := dk_21 5 (dk_at dksL_law_37 5 rfl rfl)
theorem dL_law_1037 : decode cL_law 1037 = .ok (.ifCond .ne 15, 3) := dk_154 0 15 (dk_at dksL_law_37 7 rfl rfl)
theorem dL_law_1040 : decode cL_law 1040 = .ok (.aload_n 3, 1) := dk_45 (dk_at dksL_law_37 10 rfl rfl)
theorem dL_law_1041 : decode cL_law 1041 = .ok (.iconst 0, 1) := dk_3 (dk_at dksL_law_37 11 rfl rfl)
theorem dL_law_1042 : decode cL_law 1042 = .ok (.laload, 1) := dk_47 (dk_at dksL_law_37 12 rfl rfl)
theorem dL_law_1043 : decode cL_law 1043 = .ok (.iload 6, 2) := dk_21 6 (dk_at dksL_law_37 13 rfl rfl)
theorem dL_law_1045 : decode cL_law 1045 = .ok (.i2l, 1) := dk_133 (dk_at dksL_law_37 15 rfl rfl)
theorem dL_law_1046 : decode cL_law 1046 = .ok (.lcmp, 1) := dk_148 (dk_at dksL_law_37 16 rfl rfl)
theorem dL_law_1047 : decode cL_law 1047 = .ok (.ifCond .eq 5, 3) := dk_153 0 5 (dk_at dksL_law_37 17 rfl rfl)
theorem dL_law_1050 : decode cL_law 1050 = .ok (.iconst 0, 1) := dk_3 (dk_at dksL_law_37 20 rfl rfl)
theorem dL_law_1051 : decode cL_law 1051 = .ok (.ireturn, 1) := dk_172 (dk_at dksL_law_37 21 rfl rfl)
theorem dL_law_1052 : decode cL_law 1052 = .ok (.goto 1928, 3) := dk_167 7 136 (dk_at dksL_law_38 0 rfl rfl)
theorem dL_law_1055 : decode cL_law 1055 = .ok (.aload_n 1, 1) := dk_43 (dk_at dksL_law_38 3 rfl rfl)
theorem dL_law_1056 : decode cL_law 1056 = .ok (.aload_n 0, 1) := dk_42 (dk_at dksL_law_38 4 rfl rfl)
theorem dL_law_1057 : decode cL_law 1057 = .ok (.iload 4, 2) := dk_21 4 (dk_at dksL_law_38 5 rfl rfl)
theorem dL_law_1059 : decode cL_law 1059 = .ok (.iconst 1, 1) := dk_4 (dk_at dksL_law_38 7 rfl rfl)
theorem dL_law_1060 : decode cL_law 1060 = .ok (.iadd, 1) := dk_96 (dk_at dksL_law_38 8 rfl rfl)
theorem dL_law_1061 : decode cL_law 1061 = .ok (.iaload, 1) := dk_46 (dk_at dksL_law_38 9 rfl rfl)
theorem dL_law_1062 : decode cL_law 1062 = .ok (.aload_n 3, 1) := dk_45 (dk_at dksL_law_38 10 rfl rfl)
theorem dL_law_1063 : decode cL_law 1063 = .ok (.invokestatic 195, 3) := dk_184 0 195 (dk_at dksL_law_38 11 rfl rfl)
theorem dL_law_1066 : decode cL_law 1066 = .ok (.istore 5, 2) := dk_54 5 (dk_at dksL_law_38 14 rfl rfl)
theorem dL_law_1068 : decode cL_law 1068 = .ok (.aload_n 2, 1) := dk_44 (dk_at dksL_law_38 16 rfl rfl)
theorem dL_law_1069 : decode cL_law 1069 = .ok (.aload_n 0, 1) := dk_42 (dk_at dksL_law_38 17 rfl rfl)
theorem dL_law_1070 : decode cL_law 1070 = .ok (.iload 4, 2) := dk_21 4 (dk_at dksL_law_38 18 rfl rfl)
theorem dL_law_1072 : decode cL_law 1072 = .ok (.iconst 1, 1) := dk_4 (dk_at dksL_law_38 20 rfl rfl)
theorem dL_law_1073 : decode cL_law 1073 = .ok (.iadd, 1) := dk_96 (dk_at dksL_law_38 21 rfl rfl)
theorem dL_law_1074 : decode cL_law 1074 = .ok (.iaload, 1) := dk_46 (dk_at dksL_law_38 22 rfl rfl)
theorem dL_law_1075 : decode cL_law 1075 = .ok (.invokevirtual 197, 3) := dk_182 0 197 (dk_at dksL_law_39 0 rfl rfl)
theorem dL_law_1078 : decode cL_law 1078 = .ok (.istore 6, 2) := dk_54 6 (dk_at dksL_law_39 3 rfl rfl)
theorem dL_law_1080 : decode cL_law 1080 = .ok (.aload_n 2, 1) := dk_44 (dk_at dksL_law_39 5 rfl rfl)
theorem dL_law_1081 : decode cL_law 1081 = .ok (.invokevirtual 155, 3) := dk_182 0 155 (dk_at dksL_law_39 6 rfl rfl)
theorem dL_law_1084 : decode cL_law 1084 = .ok (.iload 5, 2) := dk_21 5 (dk_at dksL_law_39 9 rfl rfl)
theorem dL_law_1086 : decode cL_law 1086 = .ok (.if_icmp .eq 5, 3) := dk_159 0 5 (dk_at dksL_law_39 11 rfl rfl)
theorem dL_law_1089 : decode cL_law 1089 = .ok (.iconst 0, 1) := dk_3 (dk_at dksL_law_39 14 rfl rfl)
theorem dL_law_1090 : decode cL_law 1090 = .ok (.ireturn, 1) := dk_172 (dk_at dksL_law_39 15 rfl rfl)
theorem dL_law_1091 : decode cL_law 1091 = .ok (.iload 5, 2) := dk_21 5 (dk_at dksL_law_39 16 rfl rfl)
theorem dL_law_1093 : decode cL_law 1093 = .ok (.ifCond .ne 15, 3) := dk_154 0 15 (dk_at dksL_law_39 18 rfl rfl)
theorem dL_law_1096 : decode cL_law 1096 = .ok (.aload_n 3, 1) := dk_45 (dk_at dksL_law_39 21 rfl rfl)
theorem dL_law_1097 : decode cL_law 1097 = .ok (.iconst 0, 1) := dk_3 (dk_at dksL_law_39 22 rfl rfl)
theorem dL_law_1098 : decode cL_law 1098 = .ok (.laload, 1) := dk_47 (dk_at dksL_law_39 23 rfl rfl)
theorem dL_law_1099 : decode cL_law 1099 = .ok (.iload 6, 2) := dk_21 6 (dk_at dksL_law_40 0 rfl rfl)
theorem dL_law_1101 : decode cL_law 1101 = .ok (.i2l, 1) := dk_133 (dk_at dksL_law_40 2 rfl rfl)
theorem dL_law_1102 : decode cL_law 1102 = .ok (.lcmp, 1) := dk_148 (dk_at dksL_law_40 3 rfl rfl)
theorem dL_law_1103 : decode cL_law 1103 = .ok (.ifCond .eq 5, 3) := dk_153 0 5 (dk_at dksL_law_40 4 rfl rfl)
theorem dL_law_1106 : decode cL_law 1106 = .ok (.iconst 0, 1) := dk_3 (dk_at dksL_law_40 7 rfl rfl)
theorem dL_law_1107 : decode cL_law 1107 = .ok (.ireturn, 1) := dk_172 (dk_at dksL_law_40 8 rfl rfl)
theorem dL_law_1108 : decode cL_law 1108 = .ok (.goto 1872, 3) := dk_167 7 80 (dk_at dksL_law_40 9 rfl rfl)
theorem dL_law_1111 : decode cL_law 1111 = .ok (.aload_n 1, 1) := dk_43 (dk_at dksL_law_40 12 rfl rfl)
theorem dL_law_1112 : decode cL_law 1112 = .ok (.aload_n 0, 1) := dk_42 (dk_at dksL_law_40 13 rfl rfl)
theorem dL_law_1113 : decode cL_law 1113 = .ok (.iload 4, 2) := dk_21 4 (dk_at dksL_law_40 14 rfl rfl)
theorem dL_law_1115 : decode cL_law 1115 = .ok (.iconst 1, 1) := dk_4 (dk_at dksL_law_40 16 rfl rfl)
theorem dL_law_1116 : decode cL_law 1116 = .ok (.iadd, 1) := dk_96 (dk_at dksL_law_40 17 rfl rfl)
theorem dL_law_1117 : decode cL_law 1117 = .ok (.iaload, 1) := dk_46 (dk_at dksL_law_40 18 rfl rfl)
theorem dL_law_1118 : decode cL_law 1118 = .ok (.aload_n 3, 1) := dk_45 (dk_at dksL_law_40 19 rfl rfl)
theorem dL_law_1119 : decode cL_law 1119 = .ok (.invokestatic 198, 3) := dk_184 0 198 (dk_at dksL_law_40 20 rfl rfl)
theorem dL_law_1122 : decode cL_law 1122 = .ok (.istore 5, 2) := dk_54 5 (dk_at dksL_law_41 0 rfl rfl)
theorem dL_law_1124 : decode cL_law 1124 = .ok (.aload_n 2, 1) := dk_44 (dk_at dksL_law_41 2 rfl rfl)
theorem dL_law_1125 : decode cL_law 1125 = .ok (.aload_n 0, 1) := dk_42 (dk_at dksL_law_41 3 rfl rfl)
theorem dL_law_1126 : decode cL_law 1126 = .ok (.iload 4, 2) := dk_21 4 (dk_at dksL_law_41 4 rfl rfl)
theorem dL_law_1128 : decode cL_law 1128 = .ok (.iconst 1, 1) := dk_4 (dk_at dksL_law_41 6 rfl rfl)
theorem dL_law_1129 : decode cL_law 1129 = .ok (.iadd, 1) := dk_96 (dk_at dksL_law_41 7 rfl rfl)
theorem dL_law_1130 : decode cL_law 1130 = .ok (.iaload, 1) := dk_46 (dk_at dksL_law_41 8 rfl rfl)
theorem dL_law_1131 : decode cL_law 1131 = .ok (.invokevirtual 200, 3) := dk_182 0 200 (dk_at dksL_law_41 9 rfl rfl)
theorem dL_law_1134 : decode cL_law 1134 = .ok (.istore 6, 2) := dk_54 6 (dk_at dksL_law_41 12 rfl rfl)
theorem dL_law_1136 : decode cL_law 1136 = .ok (.aload_n 2, 1) := dk_44 (dk_at dksL_law_41 14 rfl rfl)
theorem dL_law_1137 : decode cL_law 1137 = .ok (.invokevirtual 155, 3) := dk_182 0 155 (dk_at dksL_law_41 15 rfl rfl)
theorem dL_law_1140 : decode cL_law 1140 = .ok (.iload 5, 2) := dk_21 5 (dk_at dksL_law_41 18 rfl rfl)
theorem dL_law_1142 : decode cL_law 1142 = .ok (.if_icmp .eq 5, 3) := dk_159 0 5 (dk_at dksL_law_41 20 rfl rfl)
theorem dL_law_1145 : decode cL_law 1145 = .ok (.iconst 0, 1) := dk_3 (dk_at dksL_law_41 23 rfl rfl)
theorem dL_law_1146 : decode cL_law 1146 = .ok (.ireturn, 1) := dk_172 (dk_at dksL_law_42 0 rfl rfl)
theorem dL_law_1147 : decode cL_law 1147 = .ok (.iload 5, 2) := dk_21 5 (dk_at dksL_law_42 1 rfl rfl)
theorem dL_law_1149 : decode cL_law 1149 = .ok (.ifCond .ne 15, 3) := dk_154 0 15 (dk_at dksL_law_42 3 rfl rfl)
theorem dL_law_1152 : decode cL_law 1152 = .ok (.aload_n 3, 1) := dk_45 (dk_at dksL_law_42 6 rfl rfl)
theorem dL_law_1153 : decode cL_law 1153 = .ok (.iconst 0, 1) := dk_3 (dk_at dksL_law_42 7 rfl rfl)
theorem dL_law_1154 : decode cL_law 1154 = .ok (.laload, 1) := dk_47 (dk_at dksL_law_42 8 rfl rfl)
theorem dL_law_1155 : decode cL_law 1155 = .ok (.iload 6, 2) := dk_21 6 (dk_at dksL_law_42 9 rfl rfl)
theorem dL_law_1157 : decode cL_law 1157 = .ok (.i2l, 1) := dk_133 (dk_at dksL_law_42 11 rfl rfl)
theorem dL_law_1158 : decode cL_law 1158 = .ok (.lcmp, 1) := dk_148 (dk_at dksL_law_42 12 rfl rfl)
theorem dL_law_1159 : decode cL_law 1159 = .ok (.ifCond .eq 5, 3) := dk_153 0 5 (dk_at dksL_law_42 13 rfl rfl)
theorem dL_law_1162 : decode cL_law 1162 = .ok (.iconst 0, 1) := dk_3 (dk_at dksL_law_42 16 rfl rfl)
theorem dL_law_1163 : decode cL_law 1163 = .ok (.ireturn, 1) := dk_172 (dk_at dksL_law_42 17 rfl rfl)
theorem dL_law_1164 : decode cL_law 1164 = .ok (.goto 1816, 3) := dk_167 7 24 (dk_at dksL_law_42 18 rfl rfl)
theorem dL_law_1167 : decode cL_law 1167 = .ok (.aload_n 1, 1) := dk_43 (dk_at dksL_law_42 21 rfl rfl)
theorem dL_law_1168 : decode cL_law 1168 = .ok (.aload_n 0, 1) := dk_42 (dk_at dksL_law_42 22 rfl rfl)
theorem dL_law_1169 : decode cL_law 1169 = .ok (.iload 4, 2) := dk_21 4 (dk_at dksL_law_43 0 rfl rfl)
theorem dL_law_1171 : decode cL_law 1171 = .ok (.iconst 1, 1) := dk_4 (dk_at dksL_law_43 2 rfl rfl)
theorem dL_law_1172 : decode cL_law 1172 = .ok (.iadd, 1) := dk_96 (dk_at dksL_law_43 3 rfl rfl)
theorem dL_law_1173 : decode cL_law 1173 = .ok (.iaload, 1) := dk_46 (dk_at dksL_law_43 4 rfl rfl)
theorem dL_law_1174 : decode cL_law 1174 = .ok (.aload_n 0, 1) := dk_42 (dk_at dksL_law_43 5 rfl rfl)
theorem dL_law_1175 : decode cL_law 1175 = .ok (.iload 4, 2) := dk_21 4 (dk_at dksL_law_43 6 rfl rfl)
theorem dL_law_1177 : decode cL_law 1177 = .ok (.iconst 2, 1) := dk_5 (dk_at dksL_law_43 8 rfl rfl)
theorem dL_law_1178 : decode cL_law 1178 = .ok (.iadd, 1) := dk_96 (dk_at dksL_law_43 9 rfl rfl)
theorem dL_law_1179 : decode cL_law 1179 = .ok (.iaload, 1) := dk_46 (dk_at dksL_law_43 10 rfl rfl)
theorem dL_law_1180 : decode cL_law 1180 = .ok (.aload_n 0, 1) := dk_42 (dk_at dksL_law_43 11 rfl rfl)
theorem dL_law_1181 : decode cL_law 1181 = .ok (.iload 4, 2) := dk_21 4 (dk_at dksL_law_43 12 rfl rfl)
theorem dL_law_1183 : decode cL_law 1183 = .ok (.iconst 3, 1) := dk_6 (dk_at dksL_law_43 14 rfl rfl)
theorem dL_law_1184 : decode cL_law 1184 = .ok (.iadd, 1) := dk_96 (dk_at dksL_law_43 15 rfl rfl)
theorem dL_law_1185 : decode cL_law 1185 = .ok (.iaload, 1) := dk_46 (dk_at dksL_law_43 16 rfl rfl)
theorem dL_law_1186 : decode cL_law 1186 = .ok (.aload_n 0, 1) := dk_42 (dk_at dksL_law_43 17 rfl rfl)
theorem dL_law_1187 : decode cL_law 1187 = .ok (.iload 4, 2) := dk_21 4 (dk_at dksL_law_43 18 rfl rfl)
theorem dL_law_1189 : decode cL_law 1189 = .ok (.iconst 4, 1) := dk_7 (dk_at dksL_law_43 20 rfl rfl)
theorem dL_law_1190 : decode cL_law 1190 = .ok (.iadd, 1) := dk_96 (dk_at dksL_law_43 21 rfl rfl)
theorem dL_law_1191 : decode cL_law 1191 = .ok (.iaload, 1) := dk_46 (dk_at dksL_law_43 22 rfl rfl)
theorem dL_law_1192 : decode cL_law 1192 = .ok (.aload_n 3, 1) := dk_45 (dk_at dksL_law_43 23 rfl rfl)
theorem dL_law_1193 : decode cL_law 1193 = .ok (.invokestatic 201, 3) := dk_184 0 201 (dk_at dksL_law_44 0 rfl rfl)
theorem dL_law_1196 : decode cL_law 1196 = .ok (.istore 5, 2) := dk_54 5 (dk_at dksL_law_44 3 rfl rfl)
theorem dL_law_1198 : decode cL_law 1198 = .ok (.aload_n 2, 1) := dk_44 (dk_at dksL_law_44 5 rfl rfl)
theorem dL_law_1199 : decode cL_law 1199 = .ok (.aload_n 0, 1) := dk_42 (dk_at dksL_law_44 6 rfl rfl)
theorem dL_law_1200 : decode cL_law 1200 = .ok (.iload 4, 2) := dk_21 4 (dk_at dksL_law_44 7 rfl rfl)
theorem dL_law_1202 : decode cL_law 1202 = .ok (.iconst 1, 1) := dk_4 (dk_at dksL_law_44 9 rfl rfl)
theorem dL_law_1203 : decode cL_law 1203 = .ok (.iadd, 1) := dk_96 (dk_at dksL_law_44 10 rfl rfl)
theorem dL_law_1204 : decode cL_law 1204 = .ok (.iaload, 1) := dk_46 (dk_at dksL_law_44 11 rfl rfl)
theorem dL_law_1205 : decode cL_law 1205 = .ok (.aload_n 0, 1) := dk_42 (dk_at dksL_law_44 12 rfl rfl)
theorem dL_law_1206 : decode cL_law 1206 = .ok (.iload 4, 2) := dk_21 4 (dk_at dksL_law_44 13 rfl rfl)
theorem dL_law_1208 : decode cL_law 1208 = .ok (.iconst 2, 1) := dk_5 (dk_at dksL_law_44 15 rfl rfl)
theorem dL_law_1209 : decode cL_law 1209 = .ok (.iadd, 1) := dk_96 (dk_at dksL_law_44 16 rfl rfl)
theorem dL_law_1210 : decode cL_law 1210 = .ok (.iaload, 1) := dk_46 (dk_at dksL_law_44 17 rfl rfl)
theorem dL_law_1211 : decode cL_law 1211 = .ok (.aload_n 0, 1) := dk_42 (dk_at dksL_law_44 18 rfl rfl)
theorem dL_law_1212 : decode cL_law 1212 = .ok (.iload 4, 2) := dk_21 4 (dk_at dksL_law_44 19 rfl rfl)
theorem dL_law_1214 : decode cL_law 1214 = .ok (.iconst 3, 1) := dk_6 (dk_at dksL_law_44 21 rfl rfl)
theorem dL_law_1215 : decode cL_law 1215 = .ok (.iadd, 1) := dk_96 (dk_at dksL_law_44 22 rfl rfl)
theorem dL_law_1216 : decode cL_law 1216 = .ok (.iaload, 1) := dk_46 (dk_at dksL_law_44 23 rfl rfl)
theorem dL_law_1217 : decode cL_law 1217 = .ok (.aload_n 0, 1) := dk_42 (dk_at dksL_law_45 0 rfl rfl)
theorem dL_law_1218 : decode cL_law 1218 = .ok (.iload 4, 2) := dk_21 4 (dk_at dksL_law_45 1 rfl rfl)
theorem dL_law_1220 : decode cL_law 1220 = .ok (.iconst 4, 1) := dk_7 (dk_at dksL_law_45 3 rfl rfl)
theorem dL_law_1221 : decode cL_law 1221 = .ok (.iadd, 1) := dk_96 (dk_at dksL_law_45 4 rfl rfl)
theorem dL_law_1222 : decode cL_law 1222 = .ok (.iaload, 1) := dk_46 (dk_at dksL_law_45 5 rfl rfl)
theorem dL_law_1223 : decode cL_law 1223 = .ok (.invokevirtual 204, 3) := dk_182 0 204 (dk_at dksL_law_45 6 rfl rfl)
theorem dL_law_1226 : decode cL_law 1226 = .ok (.istore 6, 2) := dk_54 6 (dk_at dksL_law_45 9 rfl rfl)
theorem dL_law_1228 : decode cL_law 1228 = .ok (.aload_n 2, 1) := dk_44 (dk_at dksL_law_45 11 rfl rfl)
theorem dL_law_1229 : decode cL_law 1229 = .ok (.invokevirtual 155, 3) := dk_182 0 155 (dk_at dksL_law_45 12 rfl rfl)
theorem dL_law_1232 : decode cL_law 1232 = .ok (.iload 5, 2) := dk_21 5 (dk_at dksL_law_45 15 rfl rfl)
theorem dL_law_1234 : decode cL_law 1234 = .ok (.if_icmp .eq 5, 3) := dk_159 0 5 (dk_at dksL_law_45 17 rfl rfl)
theorem dL_law_1237 : decode cL_law 1237 = .ok (.iconst 0, 1) := dk_3 (dk_at dksL_law_45 20 rfl rfl)
theorem dL_law_1238 : decode cL_law 1238 = .ok (.ireturn, 1) := dk_172 (dk_at dksL_law_45 21 rfl rfl)
theorem dL_law_1239 : decode cL_law 1239 = .ok (.iload 5, 2) := dk_21 5 (dk_at dksL_law_45 22 rfl rfl)
theorem dL_law_1241 : decode cL_law 1241 = .ok (.ifCond .ne 15, 3) := dk_154 0 15 (dk_at dksL_law_46 0 rfl rfl)
theorem dL_law_1244 : decode cL_law 1244 = .ok (.aload_n 3, 1) := dk_45 (dk_at dksL_law_46 3 rfl rfl)
theorem dL_law_1245 : decode cL_law 1245 = .ok (.iconst 0, 1) := dk_3 (dk_at dksL_law_46 4 rfl rfl)
theorem dL_law_1246 : decode cL_law 1246 = .ok (.laload, 1) := dk_47 (dk_at dksL_law_46 5 rfl rfl)
theorem dL_law_1247 : decode cL_law 1247 = .ok (.iload 6, 2) := dk_21 6 (dk_at dksL_law_46 6 rfl rfl)
theorem dL_law_1249 : decode cL_law 1249 = .ok (.i2l, 1) := dk_133 (dk_at dksL_law_46 8 rfl rfl)
theorem dL_law_1250 : decode cL_law 1250 = .ok (.lcmp, 1) := dk_148 (dk_at dksL_law_46 9 rfl rfl)
theorem dL_law_1251 : decode cL_law 1251 = .ok (.ifCond .eq 5, 3) := dk_153 0 5 (dk_at dksL_law_46 10 rfl rfl)
theorem dL_law_1254 : decode cL_law 1254 = .ok (.iconst 0, 1) := dk_3 (dk_at dksL_law_46 13 rfl rfl)
theorem dL_law_1255 : decode cL_law 1255 = .ok (.ireturn, 1) := dk_172 (dk_at dksL_law_46 14 rfl rfl)
theorem dL_law_1256 : decode cL_law 1256 = .ok (.goto 1724, 3) := dk_167 6 188 (dk_at dksL_law_46 15 rfl rfl)
theorem dL_law_1259 : decode cL_law 1259 = .ok (.aload_n 1, 1) := dk_43 (dk_at dksL_law_46 18 rfl rfl)
theorem dL_law_1260 : decode cL_law 1260 = .ok (.aload_n 0, 1) := dk_42 (dk_at dksL_law_46 19 rfl rfl)
theorem dL_law_1261 : decode cL_law 1261 = .ok (.iload 4, 2) := dk_21 4 (dk_at dksL_law_46 20 rfl rfl)
theorem dL_law_1263 : decode cL_law 1263 = .ok (.iconst 1, 1) := dk_4 (dk_at dksL_law_46 22 rfl rfl)
theorem dL_law_1264 : decode cL_law 1264 = .ok (.iadd, 1) := dk_96 (dk_at dksL_law_46 23 rfl rfl)
theorem dL_law_1265 : decode cL_law 1265 = .ok (.iaload, 1) := dk_46 (dk_at dksL_law_47 0 rfl rfl)
theorem dL_law_1266 : decode cL_law 1266 = .ok (.aload_n 0, 1) := dk_42 (dk_at dksL_law_47 1 rfl rfl)
theorem dL_law_1267 : decode cL_law 1267 = .ok (.iload 4, 2) := dk_21 4 (dk_at dksL_law_47 2 rfl rfl)
theorem dL_law_1269 : decode cL_law 1269 = .ok (.iconst 2, 1) := dk_5 (dk_at dksL_law_47 4 rfl rfl)
theorem dL_law_1270 : decode cL_law 1270 = .ok (.iadd, 1) := dk_96 (dk_at dksL_law_47 5 rfl rfl)
theorem dL_law_1271 : decode cL_law 1271 = .ok (.iaload, 1) := dk_46 (dk_at dksL_law_47 6 rfl rfl)
theorem dL_law_1272 : decode cL_law 1272 = .ok (.aload_n 3, 1) := dk_45 (dk_at dksL_law_47 7 rfl rfl)
theorem dL_law_1273 : decode cL_law 1273 = .ok (.invokestatic 205, 3) := dk_184 0 205 (dk_at dksL_law_47 8 rfl rfl)
theorem dL_law_1276 : decode cL_law 1276 = .ok (.istore 5, 2) := dk_54 5 (dk_at dksL_law_47 11 rfl rfl)
theorem dL_law_1278 : decode cL_law 1278 = .ok (.aload_n 2, 1) := dk_44 (dk_at dksL_law_47 13 rfl rfl)
theorem dL_law_1279 : decode cL_law 1279 = .ok (.aload_n 0, 1) := dk_42 (dk_at dksL_law_47 14 rfl rfl)
theorem dL_law_1280 : decode cL_law 1280 = .ok (.iload 4, 2) := dk_21 4 (dk_at dksL_law_47 15 rfl rfl)
theorem dL_law_1282 : decode cL_law 1282 = .ok (.iconst 1, 1) := dk_4 (dk_at dksL_law_47 17 rfl rfl)
theorem dL_law_1283 : decode cL_law 1283 = .ok (.iadd, 1) := dk_96 (dk_at dksL_law_47 18 rfl rfl)
theorem dL_law_1284 : decode cL_law 1284 = .ok (.iaload, 1) := dk_46 (dk_at dksL_law_47 19 rfl rfl)
theorem dL_law_1285 : decode cL_law 1285 = .ok (.aload_n 0, 1) := dk_42 (dk_at dksL_law_47 20 rfl rfl)
theorem dL_law_1286 : decode cL_law 1286 = .ok (.iload 4, 2) := dk_21 4 (dk_at dksL_law_47 21 rfl rfl)
theorem dL_law_1288 : decode cL_law 1288 = .ok (.iconst 2, 1) := dk_5 (dk_at dksL_law_47 23 rfl rfl)
theorem dL_law_1289 : decode cL_law 1289 = .ok (.iadd, 1) := dk_96 (dk_at dksL_law_48 0 rfl rfl)
theorem dL_law_1290 : decode cL_law 1290 = .ok (.iaload, 1) := dk_46 (dk_at dksL_law_48 1 rfl rfl)
theorem dL_law_1291 : decode cL_law 1291 = .ok (.invokevirtual 207, 3) := dk_182 0 207 (dk_at dksL_law_48 2 rfl rfl)
theorem dL_law_1294 : decode cL_law 1294 = .ok (.istore 6, 2) := dk_54 6 (dk_at dksL_law_48 5 rfl rfl)
theorem dL_law_1296 : decode cL_law 1296 = .ok (.aload_n 2, 1) := dk_44 (dk_at dksL_law_48 7 rfl rfl)
theorem dL_law_1297 : decode cL_law 1297 = .ok (.invokevirtual 155, 3) := dk_182 0 155 (dk_at dksL_law_48 8 rfl rfl)
theorem dL_law_1300 : decode cL_law 1300 = .ok (.iload 5, 2) := dk_21 5 (dk_at dksL_law_48 11 rfl rfl)
theorem dL_law_1302 : decode cL_law 1302 = .ok (.if_icmp .eq 5, 3) := dk_159 0 5 (dk_at dksL_law_48 13 rfl rfl)
theorem dL_law_1305 : decode cL_law 1305 = .ok (.iconst 0, 1) := dk_3 (dk_at dksL_law_48 16 rfl rfl)
theorem dL_law_1306 : decode cL_law 1306 = .ok (.ireturn, 1) := dk_172 (dk_at dksL_law_48 17 rfl rfl)
theorem dL_law_1307 : decode cL_law 1307 = .ok (.iload 5, 2) := dk_21 5 (dk_at dksL_law_48 18 rfl rfl)
theorem dL_law_1309 : decode cL_law 1309 = .ok (.ifCond .ne 15, 3) := dk_154 0 15 (dk_at dksL_law_48 20 rfl rfl)
theorem dL_law_1312 : decode cL_law 1312 = .ok (.aload_n 3, 1) := dk_45 (dk_at dksL_law_48 23 rfl rfl)
theorem dL_law_1313 : decode cL_law 1313 = .ok (.iconst 0, 1) := dk_3 (dk_at dksL_law_49 0 rfl rfl)
theorem dL_law_1314 : decode cL_law 1314 = .ok (.laload, 1) := dk_47 (dk_at dksL_law_49 1 rfl rfl)
theorem dL_law_1315 : decode cL_law 1315 = .ok (.iload 6, 2) := dk_21 6 (dk_at dksL_law_49 2 rfl rfl)
theorem dL_law_1317 : decode cL_law 1317 = .ok (.i2l, 1) := dk_133 (dk_at dksL_law_49 4 rfl rfl)
theorem dL_law_1318 : decode cL_law 1318 = .ok (.lcmp, 1) := dk_148 (dk_at dksL_law_49 5 rfl rfl)
theorem dL_law_1319 : decode cL_law 1319 = .ok (.ifCond .eq 5, 3) := dk_153 0 5 (dk_at dksL_law_49 6 rfl rfl)
theorem dL_law_1322 : decode cL_law 1322 = .ok (.iconst 0, 1) := dk_3 (dk_at dksL_law_49 9 rfl rfl)
theorem dL_law_1323 : decode cL_law 1323 = .ok (.ireturn, 1) := dk_172 (dk_at dksL_law_49 10 rfl rfl)
theorem dL_law_1324 : decode cL_law 1324 = .ok (.goto 1656, 3) := dk_167 6 120 (dk_at dksL_law_49 11 rfl rfl)
theorem dL_law_1327 : decode cL_law 1327 = .ok (.aload_n 1, 1) := dk_43 (dk_at dksL_law_49 14 rfl rfl)
theorem dL_law_1328 : decode cL_law 1328 = .ok (.aload_n 0, 1) := dk_42 (dk_at dksL_law_49 15 rfl rfl)
theorem dL_law_1329 : decode cL_law 1329 = .ok (.iload 4, 2) := dk_21 4 (dk_at dksL_law_49 16 rfl rfl)
theorem dL_law_1331 : decode cL_law 1331 = .ok (.iconst 1, 1) := dk_4 (dk_at dksL_law_49 18 rfl rfl)
theorem dL_law_1332 : decode cL_law 1332 = .ok (.iadd, 1) := dk_96 (dk_at dksL_law_49 19 rfl rfl)
theorem dL_law_1333 : decode cL_law 1333 = .ok (.iaload, 1) := dk_46 (dk_at dksL_law_49 20 rfl rfl)
theorem dL_law_1334 : decode cL_law 1334 = .ok (.aload_n 0, 1) := dk_42 (dk_at dksL_law_49 21 rfl rfl)
theorem dL_law_1335 : decode cL_law 1335 = .ok (.iload 4, 2) := dk_21 4 (dk_at dksL_law_49 22 rfl rfl)
theorem dL_law_1337 : decode cL_law 1337 = .ok (.iconst 2, 1) := dk_5 (dk_at dksL_law_50 0 rfl rfl)
theorem dL_law_1338 : decode cL_law 1338 = .ok (.iadd, 1) := dk_96 (dk_at dksL_law_50 1 rfl rfl)
theorem dL_law_1339 : decode cL_law 1339 = .ok (.iaload, 1) := dk_46 (dk_at dksL_law_50 2 rfl rfl)
theorem dL_law_1340 : decode cL_law 1340 = .ok (.aload_n 3, 1) := dk_45 (dk_at dksL_law_50 3 rfl rfl)
theorem dL_law_1341 : decode cL_law 1341 = .ok (.invokestatic 208, 3) := dk_184 0 208 (dk_at dksL_law_50 4 rfl rfl)
theorem dL_law_1344 : decode cL_law 1344 = .ok (.istore 5, 2) := dk_54 5 (dk_at dksL_law_50 7 rfl rfl)
theorem dL_law_1346 : decode cL_law 1346 = .ok (.aload_n 2, 1) := dk_44 (dk_at dksL_law_50 9 rfl rfl)
theorem dL_law_1347 : decode cL_law 1347 = .ok (.aload_n 0, 1) := dk_42 (dk_at dksL_law_50 10 rfl rfl)
theorem dL_law_1348 : decode cL_law 1348 = .ok (.iload 4, 2) := dk_21 4 (dk_at dksL_law_50 11 rfl rfl)
theorem dL_law_1350 : decode cL_law 1350 = .ok (.iconst 1, 1) := dk_4 (dk_at dksL_law_50 13 rfl rfl)
theorem dL_law_1351 : decode cL_law 1351 = .ok (.iadd, 1) := dk_96 (dk_at dksL_law_50 14 rfl rfl)
theorem dL_law_1352 : decode cL_law 1352 = .ok (.iaload, 1) := dk_46 (dk_at dksL_law_50 15 rfl rfl)
theorem dL_law_1353 : decode cL_law 1353 = .ok (.aload_n 0, 1) := dk_42 (dk_at dksL_law_50 16 rfl rfl)
theorem dL_law_1354 : decode cL_law 1354 = .ok (.iload 4, 2) := dk_21 4 (dk_at dksL_law_50 17 rfl rfl)
theorem dL_law_1356 : decode cL_law 1356 = .ok (.iconst 2, 1) := dk_5 (dk_at dksL_law_50 19 rfl rfl)
theorem dL_law_1357 : decode cL_law 1357 = .ok (.iadd, 1) := dk_96 (dk_at dksL_law_50 20 rfl rfl)
theorem dL_law_1358 : decode cL_law 1358 = .ok (.iaload, 1) := dk_46 (dk_at dksL_law_50 21 rfl rfl)
theorem dL_law_1359 : decode cL_law 1359 = .ok (.invokevirtual 210, 3) := dk_182 0 210 (dk_at dksL_law_51 0 rfl rfl)
theorem dL_law_1362 : decode cL_law 1362 = .ok (.istore 6, 2) := dk_54 6 (dk_at dksL_law_51 3 rfl rfl)
theorem dL_law_1364 : decode cL_law 1364 = .ok (.aload_n 2, 1) := dk_44 (dk_at dksL_law_51 5 rfl rfl)
theorem dL_law_1365 : decode cL_law 1365 = .ok (.invokevirtual 155, 3) := dk_182 0 155 (dk_at dksL_law_51 6 rfl rfl)
theorem dL_law_1368 : decode cL_law 1368 = .ok (.iload 5, 2) := dk_21 5 (dk_at dksL_law_51 9 rfl rfl)
theorem dL_law_1370 : decode cL_law 1370 = .ok (.if_icmp .eq 5, 3) := dk_159 0 5 (dk_at dksL_law_51 11 rfl rfl)
theorem dL_law_1373 : decode cL_law 1373 = .ok (.iconst 0, 1) := dk_3 (dk_at dksL_law_51 14 rfl rfl)
theorem dL_law_1374 : decode cL_law 1374 = .ok (.ireturn, 1) := dk_172 (dk_at dksL_law_51 15 rfl rfl)
theorem dL_law_1375 : decode cL_law 1375 = .ok (.iload 5, 2) := dk_21 5 (dk_at dksL_law_51 16 rfl rfl)
theorem dL_law_1377 : decode cL_law 1377 = .ok (.ifCond .ne 15, 3) := dk_154 0 15 (dk_at dksL_law_51 18 rfl rfl)
theorem dL_law_1380 : decode cL_law 1380 = .ok (.aload_n 3, 1) := dk_45 (dk_at dksL_law_51 21 rfl rfl)
theorem dL_law_1381 : decode cL_law 1381 = .ok (.iconst 0, 1) := dk_3 (dk_at dksL_law_51 22 rfl rfl)
theorem dL_law_1382 : decode cL_law 1382 = .ok (.laload, 1) := dk_47 (dk_at dksL_law_51 23 rfl rfl)
theorem dL_law_1383 : decode cL_law 1383 = .ok (.iload 6, 2) := dk_21 6 (dk_at dksL_law_52 0 rfl rfl)
theorem dL_law_1385 : decode cL_law 1385 = .ok (.i2l, 1) := dk_133 (dk_at dksL_law_52 2 rfl rfl)
theorem dL_law_1386 : decode cL_law 1386 = .ok (.lcmp, 1) := dk_148 (dk_at dksL_law_52 3 rfl rfl)
theorem dL_law_1387 : decode cL_law 1387 = .ok (.ifCond .eq 5, 3) := dk_153 0 5 (dk_at dksL_law_52 4 rfl rfl)
theorem dL_law_1390 : decode cL_law 1390 = .ok (.iconst 0, 1) := dk_3 (dk_at dksL_law_52 7 rfl rfl)
theorem dL_law_1391 : decode cL_law 1391 = .ok (.ireturn, 1) := dk_172 (dk_at dksL_law_52 8 rfl rfl)
theorem dL_law_1392 : decode cL_law 1392 = .ok (.goto 1588, 3) := dk_167 6 52 (dk_at dksL_law_52 9 rfl rfl)
theorem dL_law_1395 : decode cL_law 1395 = .ok (.aload_n 1, 1) := dk_43 (dk_at dksL_law_52 12 rfl rfl)
theorem dL_law_1396 : decode cL_law 1396 = .ok (.aload_n 0, 1) := dk_42 (dk_at dksL_law_52 13 rfl rfl)
theorem dL_law_1397 : decode cL_law 1397 = .ok (.iload 4, 2) := dk_21 4 (dk_at dksL_law_52 14 rfl rfl)
theorem dL_law_1399 : decode cL_law 1399 = .ok (.iconst 1, 1) := dk_4 (dk_at dksL_law_52 16 rfl rfl)
theorem dL_law_1400 : decode cL_law 1400 = .ok (.iadd, 1) := dk_96 (dk_at dksL_law_52 17 rfl rfl)
theorem dL_law_1401 : decode cL_law 1401 = .ok (.iaload, 1) := dk_46 (dk_at dksL_law_52 18 rfl rfl)
theorem dL_law_1402 : decode cL_law 1402 = .ok (.aload_n 0, 1) := dk_42 (dk_at dksL_law_52 19 rfl rfl)
theorem dL_law_1403 : decode cL_law 1403 = .ok (.iload 4, 2) := dk_21 4 (dk_at dksL_law_52 20 rfl rfl)
theorem dL_law_1405 : decode cL_law 1405 = .ok (.iconst 2, 1) := dk_5 (dk_at dksL_law_52 22 rfl rfl)
theorem dL_law_1406 : decode cL_law 1406 = .ok (.iadd, 1) := dk_96 (dk_at dksL_law_52 23 rfl rfl)
theorem dL_law_1407 : decode cL_law 1407 = .ok (.iaload, 1) := dk_46 (dk_at dksL_law_53 0 rfl rfl)
theorem dL_law_1408 : decode cL_law 1408 = .ok (.aload_n 3, 1) := dk_45 (dk_at dksL_law_53 1 rfl rfl)
theorem dL_law_1409 : decode cL_law 1409 = .ok (.invokestatic 211, 3) := dk_184 0 211 (dk_at dksL_law_53 2 rfl rfl)
theorem dL_law_1412 : decode cL_law 1412 = .ok (.istore 5, 2) := dk_54 5 (dk_at dksL_law_53 5 rfl rfl)
theorem dL_law_1414 : decode cL_law 1414 = .ok (.aload_n 2, 1) := dk_44 (dk_at dksL_law_53 7 rfl rfl)
theorem dL_law_1415 : decode cL_law 1415 = .ok (.aload_n 0, 1) := dk_42 (dk_at dksL_law_53 8 rfl rfl)
theorem dL_law_1416 : decode cL_law 1416 = .ok (.iload 4, 2) := dk_21 4 (dk_at dksL_law_53 9 rfl rfl)
theorem dL_law_1418 : decode cL_law 1418 = .ok (.iconst 1, 1) := dk_4 (dk_at dksL_law_53 11 rfl rfl)
theorem dL_law_1419 : decode cL_law 1419 = .ok (.iadd, 1) := dk_96 (dk_at dksL_law_53 12 rfl rfl)
theorem dL_law_1420 : decode cL_law 1420 = .ok (.iaload, 1) := dk_46 (dk_at dksL_law_53 13 rfl rfl)
theorem dL_law_1421 : decode cL_law 1421 = .ok (.aload_n 0, 1) := dk_42 (dk_at dksL_law_53 14 rfl rfl)
theorem dL_law_1422 : decode cL_law 1422 = .ok (.iload 4, 2) := dk_21 4 (dk_at dksL_law_53 15 rfl rfl)
theorem dL_law_1424 : decode cL_law 1424 = .ok (.iconst 2, 1) := dk_5 (dk_at dksL_law_53 17 rfl rfl)
theorem dL_law_1425 : decode cL_law 1425 = .ok (.iadd, 1) := dk_96 (dk_at dksL_law_53 18 rfl rfl)
theorem dL_law_1426 : decode cL_law 1426 = .ok (.iaload, 1) := dk_46 (dk_at dksL_law_53 19 rfl rfl)
theorem dL_law_1427 : decode cL_law 1427 = .ok (.invokevirtual 213, 3) := dk_182 0 213 (dk_at dksL_law_53 20 rfl rfl)
theorem dL_law_1430 : decode cL_law 1430 = .ok (.istore 6, 2) := dk_54 6 (dk_at dksL_law_54 0 rfl rfl)
theorem dL_law_1432 : decode cL_law 1432 = .ok (.aload_n 2, 1) := dk_44 (dk_at dksL_law_54 2 rfl rfl)
theorem dL_law_1433 : decode cL_law 1433 = .ok (.invokevirtual 155, 3) := dk_182 0 155 (dk_at dksL_law_54 3 rfl rfl)
theorem dL_law_1436 : decode cL_law 1436 = .ok (.iload 5, 2) := dk_21 5 (dk_at dksL_law_54 6 rfl rfl)
theorem dL_law_1438 : decode cL_law 1438 = .ok (.if_icmp .eq 5, 3) := dk_159 0 5 (dk_at dksL_law_54 8 rfl rfl)
theorem dL_law_1441 : decode cL_law 1441 = .ok (.iconst 0, 1) := dk_3 (dk_at dksL_law_54 11 rfl rfl)
theorem dL_law_1442 : decode cL_law 1442 = .ok (.ireturn, 1) := dk_172 (dk_at dksL_law_54 12 rfl rfl)
theorem dL_law_1443 : decode cL_law 1443 = .ok (.iload 5, 2) := dk_21 5 (dk_at dksL_law_54 13 rfl rfl)
theorem dL_law_1445 : decode cL_law 1445 = .ok (.ifCond .ne 15, 3) := dk_154 0 15 (dk_at dksL_law_54 15 rfl rfl)
theorem dL_law_1448 : decode cL_law 1448 = .ok (.aload_n 3, 1) := dk_45 (dk_at dksL_law_54 18 rfl rfl)
theorem dL_law_1449 : decode cL_law 1449 = .ok (.iconst 0, 1) := dk_3 (dk_at dksL_law_54 19 rfl rfl)
theorem dL_law_1450 : decode cL_law 1450 = .ok (.laload, 1) := dk_47 (dk_at dksL_law_54 20 rfl rfl)
theorem dL_law_1451 : decode cL_law 1451 = .ok (.iload 6, 2) := dk_21 6 (dk_at dksL_law_54 21 rfl rfl)
theorem dL_law_1453 : decode cL_law 1453 = .ok (.i2l, 1) := dk_133 (dk_at dksL_law_54 23 rfl rfl)
theorem dL_law_1454 : decode cL_law 1454 = .ok (.lcmp, 1) := dk_148 (dk_at dksL_law_55 0 rfl rfl)
theorem dL_law_1455 : decode cL_law 1455 = .ok (.ifCond .eq 5, 3) := dk_153 0 5 (dk_at dksL_law_55 1 rfl rfl)
theorem dL_law_1458 : decode cL_law 1458 = .ok (.iconst 0, 1) := dk_3 (dk_at dksL_law_55 4 rfl rfl)
theorem dL_law_1459 : decode cL_law 1459 = .ok (.ireturn, 1) := dk_172 (dk_at dksL_law_55 5 rfl rfl)
theorem dL_law_1460 : decode cL_law 1460 = .ok (.goto 1520, 3) := dk_167 5 240 (dk_at dksL_law_55 6 rfl rfl)
theorem dL_law_1463 : decode cL_law 1463 = .ok (.aload_n 1, 1) := dk_43 (dk_at dksL_law_55 9 rfl rfl)
theorem dL_law_1464 : decode cL_law 1464 = .ok (.aload_n 0, 1) := dk_42 (dk_at dksL_law_55 10 rfl rfl)
theorem dL_law_1465 : decode cL_law 1465 = .ok (.iload 4, 2) := dk_21 4 (dk_at dksL_law_55 11 rfl rfl)
theorem dL_law_1467 : decode cL_law 1467 = .ok (.iconst 1, 1) := dk_4 (dk_at dksL_law_55 13 rfl rfl)
theorem dL_law_1468 : decode cL_law 1468 = .ok (.iadd, 1) := dk_96 (dk_at dksL_law_55 14 rfl rfl)
theorem dL_law_1469 : decode cL_law 1469 = .ok (.iaload, 1) := dk_46 (dk_at dksL_law_55 15 rfl rfl)
theorem dL_law_1470 : decode cL_law 1470 = .ok (.aload_n 3, 1) := dk_45 (dk_at dksL_law_55 16 rfl rfl)
theorem dL_law_1471 : decode cL_law 1471 = .ok (.invokestatic 214, 3) := dk_184 0 214 (dk_at dksL_law_55 17 rfl rfl)
theorem dL_law_1474 : decode cL_law 1474 = .ok (.istore 5, 2) := dk_54 5 (dk_at dksL_law_55 20 rfl rfl)
theorem dL_law_1476 : decode cL_law 1476 = .ok (.aload_n 2, 1) := dk_44 (dk_at dksL_law_55 22 rfl rfl)
theorem dL_law_1477 : decode cL_law 1477 = .ok (.aload_n 0, 1) := dk_42 (dk_at dksL_law_55 23 rfl rfl)
theorem dL_law_1478 : decode cL_law 1478 = .ok (.iload 4, 2) := dk_21 4 (dk_at dksL_law_56 0 rfl rfl)
theorem dL_law_1480 : decode cL_law 1480 = .ok (.iconst 1, 1) := dk_4 (dk_at dksL_law_56 2 rfl rfl)
theorem dL_law_1481 : decode cL_law 1481 = .ok (.iadd, 1) := dk_96 (dk_at dksL_law_56 3 rfl rfl)
theorem dL_law_1482 : decode cL_law 1482 = .ok (.iaload, 1) := dk_46 (dk_at dksL_law_56 4 rfl rfl)
theorem dL_law_1483 : decode cL_law 1483 = .ok (.invokevirtual 216, 3) := dk_182 0 216 (dk_at dksL_law_56 5 rfl rfl)
theorem dL_law_1486 : decode cL_law 1486 = .ok (.istore 6, 2) := dk_54 6 (dk_at dksL_law_56 8 rfl rfl)
theorem dL_law_1488 : decode cL_law 1488 = .ok (.aload_n 2, 1) := dk_44 (dk_at dksL_law_56 10 rfl rfl)
theorem dL_law_1489 : decode cL_law 1489 = .ok (.invokevirtual 155, 3) := dk_182 0 155 (dk_at dksL_law_56 11 rfl rfl)
theorem dL_law_1492 : decode cL_law 1492 = .ok (.iload 5, 2) := dk_21 5 (dk_at dksL_law_56 14 rfl rfl)
theorem dL_law_1494 : decode cL_law 1494 = .ok (.if_icmp .eq 5, 3) := dk_159 0 5 (dk_at dksL_law_56 16 rfl rfl)
theorem dL_law_1497 : decode cL_law 1497 = .ok (.iconst 0, 1) := dk_3 (dk_at dksL_law_56 19 rfl rfl)
theorem dL_law_1498 : decode cL_law 1498 = .ok (.ireturn, 1) := dk_172 (dk_at dksL_law_56 20 rfl rfl)
theorem dL_law_1499 : decode cL_law 1499 = .ok (.iload 5, 2) := dk_21 5 (dk_at dksL_law_56 21 rfl rfl)
theorem dL_law_1501 : decode cL_law 1501 = .ok (.ifCond .ne 15, 3) := dk_154 0 15 (dk_at dksL_law_57 0 rfl rfl)
theorem dL_law_1504 : decode cL_law 1504 = .ok (.aload_n 3, 1) := dk_45 (dk_at dksL_law_57 3 rfl rfl)
theorem dL_law_1505 : decode cL_law 1505 = .ok (.iconst 0, 1) := dk_3 (dk_at dksL_law_57 4 rfl rfl)
theorem dL_law_1506 : decode cL_law 1506 = .ok (.laload, 1) := dk_47 (dk_at dksL_law_57 5 rfl rfl)
theorem dL_law_1507 : decode cL_law 1507 = .ok (.iload 6, 2) := dk_21 6 (dk_at dksL_law_57 6 rfl rfl)
theorem dL_law_1509 : decode cL_law 1509 = .ok (.i2l, 1) := dk_133 (dk_at dksL_law_57 8 rfl rfl)
theorem dL_law_1510 : decode cL_law 1510 = .ok (.lcmp, 1) := dk_148 (dk_at dksL_law_57 9 rfl rfl)
theorem dL_law_1511 : decode cL_law 1511 = .ok (.ifCond .eq 5, 3) := dk_153 0 5 (dk_at dksL_law_57 10 rfl rfl)
theorem dL_law_1514 : decode cL_law 1514 = .ok (.iconst 0, 1) := dk_3 (dk_at dksL_law_57 13 rfl rfl)
theorem dL_law_1515 : decode cL_law 1515 = .ok (.ireturn, 1) := dk_172 (dk_at dksL_law_57 14 rfl rfl)
theorem dL_law_1516 : decode cL_law 1516 = .ok (.goto 1464, 3) := dk_167 5 184 (dk_at dksL_law_57 15 rfl rfl)
theorem dL_law_1519 : decode cL_law 1519 = .ok (.aload_n 1, 1) := dk_43 (dk_at dksL_law_57 18 rfl rfl)
theorem dL_law_1520 : decode cL_law 1520 = .ok (.invokevirtual 217, 3) := dk_182 0 217 (dk_at dksL_law_57 19 rfl rfl)
theorem dL_law_1523 : decode cL_law 1523 = .ok (.aload_n 2, 1) := dk_44 (dk_at dksL_law_57 22 rfl rfl)
theorem dL_law_1524 : decode cL_law 1524 = .ok (.invokevirtual 220, 3) := dk_182 0 220 (dk_at dksL_law_58 0 rfl rfl)
theorem dL_law_1527 : decode cL_law 1527 = .ok (.if_icmp .eq 1453, 3) := dk_159 5 173 (dk_at dksL_law_58 3 rfl rfl)
theorem dL_law_1530 : decode cL_law 1530 = .ok (.iconst 0, 1) := dk_3 (dk_at dksL_law_58 6 rfl rfl)
theorem dL_law_1531 : decode cL_law 1531 = .ok (.ireturn, 1) := dk_172 (dk_at dksL_law_58 7 rfl rfl)
theorem dL_law_1532 : decode cL_law 1532 = .ok (.aload_n 1, 1) := dk_43 (dk_at dksL_law_58 8 rfl rfl)
theorem dL_law_1533 : decode cL_law 1533 = .ok (.aload_n 0, 1) := dk_42 (dk_at dksL_law_58 9 rfl rfl)
theorem dL_law_1534 : decode cL_law 1534 = .ok (.iload 4, 2) := dk_21 4 (dk_at dksL_law_58 10 rfl rfl)
theorem dL_law_1536 : decode cL_law 1536 = .ok (.iconst 1, 1) := dk_4 (dk_at dksL_law_58 12 rfl rfl)
theorem dL_law_1537 : decode cL_law 1537 = .ok (.iadd, 1) := dk_96 (dk_at dksL_law_58 13 rfl rfl)
theorem dL_law_1538 : decode cL_law 1538 = .ok (.iaload, 1) := dk_46 (dk_at dksL_law_58 14 rfl rfl)
theorem dL_law_1539 : decode cL_law 1539 = .ok (.ifCond .eq 7, 3) := dk_153 0 7 (dk_at dksL_law_58 15 rfl rfl)
theorem dL_law_1542 : decode cL_law 1542 = .ok (.iconst 1, 1) := dk_4 (dk_at dksL_law_58 18 rfl rfl)
theorem dL_law_1543 : decode cL_law 1543 = .ok (.goto 4, 3) := dk_167 0 4 (dk_at dksL_law_58 19 rfl rfl)
theorem dL_law_1546 : decode cL_law 1546 = .ok (.iconst 0, 1) := dk_3 (dk_at dksL_law_58 22 rfl rfl)
theorem dL_law_1547 : decode cL_law 1547 = .ok (.invokevirtual 221, 3) := dk_182 0 221 (dk_at dksL_law_59 0 rfl rfl)
theorem dL_law_1550 : decode cL_law 1550 = .ok (.aload_n 2, 1) := dk_44 (dk_at dksL_law_59 3 rfl rfl)
theorem dL_law_1551 : decode cL_law 1551 = .ok (.aload_n 0, 1) := dk_42 (dk_at dksL_law_59 4 rfl rfl)
theorem dL_law_1552 : decode cL_law 1552 = .ok (.iload 4, 2) := dk_21 4 (dk_at dksL_law_59 5 rfl rfl)
theorem dL_law_1554 : decode cL_law 1554 = .ok (.iconst 1, 1) := dk_4 (dk_at dksL_law_59 7 rfl rfl)
theorem dL_law_1555 : decode cL_law 1555 = .ok (.iadd, 1) := dk_96 (dk_at dksL_law_59 8 rfl rfl)
theorem dL_law_1556 : decode cL_law 1556 = .ok (.iaload, 1) := dk_46 (dk_at dksL_law_59 9 rfl rfl)
theorem dL_law_1557 : decode cL_law 1557 = .ok (.ifCond .eq 7, 3) := dk_153 0 7 (dk_at dksL_law_59 10 rfl rfl)
theorem dL_law_1560 : decode cL_law 1560 = .ok (.iconst 1, 1) := dk_4 (dk_at dksL_law_59 13 rfl rfl)
theorem dL_law_1561 : decode cL_law 1561 = .ok (.goto 4, 3) := dk_167 0 4 (dk_at dksL_law_59 14 rfl rfl)
theorem dL_law_1564 : decode cL_law 1564 = .ok (.iconst 0, 1) := dk_3 (dk_at dksL_law_59 17 rfl rfl)
theorem dL_law_1565 : decode cL_law 1565 = .ok (.invokevirtual 225, 3) := dk_182 0 225 (dk_at dksL_law_59 18 rfl rfl)
theorem dL_law_1568 : decode cL_law 1568 = .ok (.if_icmp .eq 1412, 3) := dk_159 5 132 (dk_at dksL_law_59 21 rfl rfl)
theorem dL_law_1571 : decode cL_law 1571 = .ok (.iconst 0, 1) := dk_3 (dk_at dksL_law_60 0 rfl rfl)
theorem dL_law_1572 : decode cL_law 1572 = .ok (.ireturn, 1) := dk_172 (dk_at dksL_law_60 1 rfl rfl)
theorem dL_law_1573 : decode cL_law 1573 = .ok (.aload_n 1, 1) := dk_43 (dk_at dksL_law_60 2 rfl rfl)
theorem dL_law_1574 : decode cL_law 1574 = .ok (.aload_n 0, 1) := dk_42 (dk_at dksL_law_60 3 rfl rfl)
theorem dL_law_1575 : decode cL_law 1575 = .ok (.iload 4, 2) := dk_21 4 (dk_at dksL_law_60 4 rfl rfl)
theorem dL_law_1577 : decode cL_law 1577 = .ok (.iconst 1, 1) := dk_4 (dk_at dksL_law_60 6 rfl rfl)
theorem dL_law_1578 : decode cL_law 1578 = .ok (.iadd, 1) := dk_96 (dk_at dksL_law_60 7 rfl rfl)
theorem dL_law_1579 : decode cL_law 1579 = .ok (.iaload, 1) := dk_46 (dk_at dksL_law_60 8 rfl rfl)
theorem dL_law_1580 : decode cL_law 1580 = .ok (.aload_n 3, 1) := dk_45 (dk_at dksL_law_60 9 rfl rfl)
theorem dL_law_1581 : decode cL_law 1581 = .ok (.invokestatic 226, 3) := dk_184 0 226 (dk_at dksL_law_60 10 rfl rfl)
theorem dL_law_1584 : decode cL_law 1584 = .ok (.istore 5, 2) := dk_54 5 (dk_at dksL_law_60 13 rfl rfl)
theorem dL_law_1586 : decode cL_law 1586 = .ok (.aload_n 2, 1) := dk_44 (dk_at dksL_law_60 15 rfl rfl)
theorem dL_law_1587 : decode cL_law 1587 = .ok (.aload_n 0, 1) := dk_42 (dk_at dksL_law_60 16 rfl rfl)
theorem dL_law_1588 : decode cL_law 1588 = .ok (.iload 4, 2) := dk_21 4 (dk_at dksL_law_60 17 rfl rfl)
theorem dL_law_1590 : decode cL_law 1590 = .ok (.iconst 1, 1) := dk_4 (dk_at dksL_law_60 19 rfl rfl)
theorem dL_law_1591 : decode cL_law 1591 = .ok (.iadd, 1) := dk_96 (dk_at dksL_law_60 20 rfl rfl)
theorem dL_law_1592 : decode cL_law 1592 = .ok (.iaload, 1) := dk_46 (dk_at dksL_law_60 21 rfl rfl)
theorem dL_law_1593 : decode cL_law 1593 = .ok (.invokevirtual 228, 3) := dk_182 0 228 (dk_at dksL_law_61 0 rfl rfl)
theorem dL_law_1596 : decode cL_law 1596 = .ok (.istore 6, 2) := dk_54 6 (dk_at dksL_law_61 3 rfl rfl)
theorem dL_law_1598 : decode cL_law 1598 = .ok (.aload_n 2, 1) := dk_44 (dk_at dksL_law_61 5 rfl rfl)
theorem dL_law_1599 : decode cL_law 1599 = .ok (.invokevirtual 155, 3) := dk_182 0 155 (dk_at dksL_law_61 6 rfl rfl)
theorem dL_law_1602 : decode cL_law 1602 = .ok (.iload 5, 2) := dk_21 5 (dk_at dksL_law_61 9 rfl rfl)
theorem dL_law_1604 : decode cL_law 1604 = .ok (.if_icmp .eq 5, 3) := dk_159 0 5 (dk_at dksL_law_61 11 rfl rfl)
theorem dL_law_1607 : decode cL_law 1607 = .ok (.iconst 0, 1) := dk_3 (dk_at dksL_law_61 14 rfl rfl)
theorem dL_law_1608 : decode cL_law 1608 = .ok (.ireturn, 1) := dk_172 (dk_at dksL_law_61 15 rfl rfl)
theorem dL_law_1609 : decode cL_law 1609 = .ok (.iload 5, 2) := dk_21 5 (dk_at dksL_law_61 16 rfl rfl)
theorem dL_law_1611 : decode cL_law 1611 = .ok (.ifCond .ne 15, 3) := dk_154 0 15 (dk_at dksL_law_61 18 rfl rfl)
theorem dL_law_1614 : decode cL_law 1614 = .ok (.aload_n 3, 1) := dk_45 (dk_at dksL_law_61 21 rfl rfl)
theorem dL_law_1615 : decode cL_law 1615 = .ok (.iconst 0, 1) := dk_3 (dk_at dksL_law_61 22 rfl rfl)
theorem dL_law_1616 : decode cL_law 1616 = .ok (.laload, 1) := dk_47 (dk_at dksL_law_61 23 rfl rfl)
theorem dL_law_1617 : decode cL_law 1617 = .ok (.iload 6, 2) := dk_21 6 (dk_at dksL_law_62 0 rfl rfl)
theorem dL_law_1619 : decode cL_law 1619 = .ok (.i2l, 1) := dk_133 (dk_at dksL_law_62 2 rfl rfl)
theorem dL_law_1620 : decode cL_law 1620 = .ok (.lcmp, 1) := dk_148 (dk_at dksL_law_62 3 rfl rfl)
theorem dL_law_1621 : decode cL_law 1621 = .ok (.ifCond .eq 5, 3) := dk_153 0 5 (dk_at dksL_law_62 4 rfl rfl)
theorem dL_law_1624 : decode cL_law 1624 = .ok (.iconst 0, 1) := dk_3 (dk_at dksL_law_62 7 rfl rfl)
theorem dL_law_1625 : decode cL_law 1625 = .ok (.ireturn, 1) := dk_172 (dk_at dksL_law_62 8 rfl rfl)
theorem dL_law_1626 : decode cL_law 1626 = .ok (.goto 1354, 3) := dk_167 5 74 (dk_at dksL_law_62 9 rfl rfl)
theorem dL_law_1629 : decode cL_law 1629 = .ok (.aload_n 1, 1) := dk_43 (dk_at dksL_law_62 12 rfl rfl)
theorem dL_law_1630 : decode cL_law 1630 = .ok (.aload_n 0, 1) := dk_42 (dk_at dksL_law_62 13 rfl rfl)
theorem dL_law_1631 : decode cL_law 1631 = .ok (.iload 4, 2) := dk_21 4 (dk_at dksL_law_62 14 rfl rfl)
theorem dL_law_1633 : decode cL_law 1633 = .ok (.iconst 1, 1) := dk_4 (dk_at dksL_law_62 16 rfl rfl)
theorem dL_law_1634 : decode cL_law 1634 = .ok (.iadd, 1) := dk_96 (dk_at dksL_law_62 17 rfl rfl)
theorem dL_law_1635 : decode cL_law 1635 = .ok (.iaload, 1) := dk_46 (dk_at dksL_law_62 18 rfl rfl)
theorem dL_law_1636 : decode cL_law 1636 = .ok (.aload_n 0, 1) := dk_42 (dk_at dksL_law_62 19 rfl rfl)
theorem dL_law_1637 : decode cL_law 1637 = .ok (.iload 4, 2) := dk_21 4 (dk_at dksL_law_62 20 rfl rfl)
theorem dL_law_1639 : decode cL_law 1639 = .ok (.iconst 2, 1) := dk_5 (dk_at dksL_law_62 22 rfl rfl)
theorem dL_law_1640 : decode cL_law 1640 = .ok (.iadd, 1) := dk_96 (dk_at dksL_law_62 23 rfl rfl)
theorem dL_law_1641 : decode cL_law 1641 = .ok (.iaload, 1) := dk_46 (dk_at dksL_law_63 0 rfl rfl)
theorem dL_law_1642 : decode cL_law 1642 = .ok (.aload_n 0, 1) := dk_42 (dk_at dksL_law_63 1 rfl rfl)
theorem dL_law_1643 : decode cL_law 1643 = .ok (.iload 4, 2) := dk_21 4 (dk_at dksL_law_63 2 rfl rfl)
theorem dL_law_1645 : decode cL_law 1645 = .ok (.iconst 3, 1) := dk_6 (dk_at dksL_law_63 4 rfl rfl)
theorem dL_law_1646 : decode cL_law 1646 = .ok (.iadd, 1) := dk_96 (dk_at dksL_law_63 5 rfl rfl)
theorem dL_law_1647 : decode cL_law 1647 = .ok (.iaload, 1) := dk_46 (dk_at dksL_law_63 6 rfl rfl)
theorem dL_law_1648 : decode cL_law 1648 = .ok (.aload_n 3, 1) := dk_45 (dk_at dksL_law_63 7 rfl rfl)
theorem dL_law_1649 : decode cL_law 1649 = .ok (.invokestatic 229, 3) := dk_184 0 229 (dk_at dksL_law_63 8 rfl rfl)
theorem dL_law_1652 : decode cL_law 1652 = .ok (.istore 5, 2) := dk_54 5 (dk_at dksL_law_63 11 rfl rfl)
theorem dL_law_1654 : decode cL_law 1654 = .ok (.aload_n 2, 1) := dk_44 (dk_at dksL_law_63 13 rfl rfl)
theorem dL_law_1655 : decode cL_law 1655 = .ok (.aload_n 0, 1) := dk_42 (dk_at dksL_law_63 14 rfl rfl)
theorem dL_law_1656 : decode cL_law 1656 = .ok (.iload 4, 2) := dk_21 4 (dk_at dksL_law_63 15 rfl rfl)
theorem dL_law_1658 : decode cL_law 1658 = .ok (.iconst 1, 1) := dk_4 (dk_at dksL_law_63 17 rfl rfl)
theorem dL_law_1659 : decode cL_law 1659 = .ok (.iadd, 1) := dk_96 (dk_at dksL_law_63 18 rfl rfl)
theorem dL_law_1660 : decode cL_law 1660 = .ok (.iaload, 1) := dk_46 (dk_at dksL_law_63 19 rfl rfl)
theorem dL_law_1661 : decode cL_law 1661 = .ok (.aload_n 0, 1) := dk_42 (dk_at dksL_law_63 20 rfl rfl)
theorem dL_law_1662 : decode cL_law 1662 = .ok (.iload 4, 2) := dk_21 4 (dk_at dksL_law_63 21 rfl rfl)
theorem dL_law_1664 : decode cL_law 1664 = .ok (.iconst 2, 1) := dk_5 (dk_at dksL_law_63 23 rfl rfl)
theorem dL_law_1665 : decode cL_law 1665 = .ok (.iadd, 1) := dk_96 (dk_at dksL_law_64 0 rfl rfl)
theorem dL_law_1666 : decode cL_law 1666 = .ok (.iaload, 1) := dk_46 (dk_at dksL_law_64 1 rfl rfl)
theorem dL_law_1667 : decode cL_law 1667 = .ok (.aload_n 0, 1) := dk_42 (dk_at dksL_law_64 2 rfl rfl)
theorem dL_law_1668 : decode cL_law 1668 = .ok (.iload 4, 2) := dk_21 4 (dk_at dksL_law_64 3 rfl rfl)
theorem dL_law_1670 : decode cL_law 1670 = .ok (.iconst 3, 1) := dk_6 (dk_at dksL_law_64 5 rfl rfl)
theorem dL_law_1671 : decode cL_law 1671 = .ok (.iadd, 1) := dk_96 (dk_at dksL_law_64 6 rfl rfl)
theorem dL_law_1672 : decode cL_law 1672 = .ok (.iaload, 1) := dk_46 (dk_at dksL_law_64 7 rfl rfl)
theorem dL_law_1673 : decode cL_law 1673 = .ok (.invokevirtual 231, 3) := dk_182 0 231 (dk_at dksL_law_64 8 rfl rfl)
theorem dL_law_1676 : decode cL_law 1676 = .ok (.istore 6, 2) := dk_54 6 (dk_at dksL_law_64 11 rfl rfl)
theorem dL_law_1678 : decode cL_law 1678 = .ok (.aload_n 2, 1) := dk_44 (dk_at dksL_law_64 13 rfl rfl)
theorem dL_law_1679 : decode cL_law 1679 = .ok (.invokevirtual 155, 3) := dk_182 0 155 (dk_at dksL_law_64 14 rfl rfl)
theorem dL_law_1682 : decode cL_law 1682 = .ok (.iload 5, 2) := dk_21 5 (dk_at dksL_law_64 17 rfl rfl)
theorem dL_law_1684 : decode cL_law 1684 = .ok (.if_icmp .eq 5, 3) := dk_159 0 5 (dk_at dksL_law_64 19 rfl rfl)
theorem dL_law_1687 : decode cL_law 1687 = .ok (.iconst 0, 1) := dk_3 (dk_at dksL_law_64 22 rfl rfl)
theorem dL_law_1688 : decode cL_law 1688 = .ok (.ireturn, 1) := dk_172 (dk_at dksL_law_64 23 rfl rfl)
theorem dL_law_1689 : decode cL_law 1689 = .ok (.iload 5, 2) := dk_21 5 (dk_at dksL_law_65 0 rfl rfl)
theorem dL_law_1691 : decode cL_law 1691 = .ok (.ifCond .ne 15, 3) := dk_154 0 15 (dk_at dksL_law_65 2 rfl rfl)
theorem dL_law_1694 : decode cL_law 1694 = .ok (.aload_n 3, 1) := dk_45 (dk_at dksL_law_65 5 rfl rfl)
theorem dL_law_1695 : decode cL_law 1695 = .ok (.iconst 0, 1) := dk_3 (dk_at dksL_law_65 6 rfl rfl)
theorem dL_law_1696 : decode cL_law 1696 = .ok (.laload, 1) := dk_47 (dk_at dksL_law_65 7 rfl rfl)
theorem dL_law_1697 : decode cL_law 1697 = .ok (.iload 6, 2) := dk_21 6 (dk_at dksL_law_65 8 rfl rfl)
theorem dL_law_1699 : decode cL_law 1699 = .ok (.i2l, 1) := dk_133 (dk_at dksL_law_65 10 rfl rfl)
theorem dL_law_1700 : decode cL_law 1700 = .ok (.lcmp, 1) := dk_148 (dk_at dksL_law_65 11 rfl rfl)
theorem dL_law_1701 : decode cL_law 1701 = .ok (.ifCond .eq 5, 3) := dk_153 0 5 (dk_at dksL_law_65 12 rfl rfl)
theorem dL_law_1704 : decode cL_law 1704 = .ok (.iconst 0, 1) := dk_3 (dk_at dksL_law_65 15 rfl rfl)
theorem dL_law_1705 : decode cL_law 1705 = .ok (.ireturn, 1) := dk_172 (dk_at dksL_law_65 16 rfl rfl)
theorem dL_law_1706 : decode cL_law 1706 = .ok (.goto 1274, 3) := dk_167 4 250 (dk_at dksL_law_65 17 rfl rfl)
theorem dL_law_1709 : decode cL_law 1709 = .ok (.aload_n 1, 1) := dk_43 (dk_at dksL_law_65 20 rfl rfl)
theorem dL_law_1710 : decode cL_law 1710 = .ok (.aload_n 0, 1) := dk_42 (dk_at dksL_law_65 21 rfl rfl)
theorem dL_law_1711 : decode cL_law 1711 = .ok (.iload 4, 2) := dk_21 4 (dk_at dksL_law_65 22 rfl rfl)
theorem dL_law_1713 : decode cL_law 1713 = .ok (.iconst 1, 1) := dk_4 (dk_at dksL_law_66 0 rfl rfl)
theorem dL_law_1714 : decode cL_law 1714 = .ok (.iadd, 1) := dk_96 (dk_at dksL_law_66 1 rfl rfl)
theorem dL_law_1715 : decode cL_law 1715 = .ok (.iaload, 1) := dk_46 (dk_at dksL_law_66 2 rfl rfl)
theorem dL_law_1716 : decode cL_law 1716 = .ok (.aload_n 0, 1) := dk_42 (dk_at dksL_law_66 3 rfl rfl)
theorem dL_law_1717 : decode cL_law 1717 = .ok (.iload 4, 2) := dk_21 4 (dk_at dksL_law_66 4 rfl rfl)
theorem dL_law_1719 : decode cL_law 1719 = .ok (.iconst 2, 1) := dk_5 (dk_at dksL_law_66 6 rfl rfl)
theorem dL_law_1720 : decode cL_law 1720 = .ok (.iadd, 1) := dk_96 (dk_at dksL_law_66 7 rfl rfl)
theorem dL_law_1721 : decode cL_law 1721 = .ok (.iaload, 1) := dk_46 (dk_at dksL_law_66 8 rfl rfl)
theorem dL_law_1722 : decode cL_law 1722 = .ok (.aload_n 0, 1) := dk_42 (dk_at dksL_law_66 9 rfl rfl)
theorem dL_law_1723 : decode cL_law 1723 = .ok (.iload 4, 2) := dk_21 4 (dk_at dksL_law_66 10 rfl rfl)
theorem dL_law_1725 : decode cL_law 1725 = .ok (.iconst 3, 1) := dk_6 (dk_at dksL_law_66 12 rfl rfl)
theorem dL_law_1726 : decode cL_law 1726 = .ok (.iadd, 1) := dk_96 (dk_at dksL_law_66 13 rfl rfl)
theorem dL_law_1727 : decode cL_law 1727 = .ok (.iaload, 1) := dk_46 (dk_at dksL_law_66 14 rfl rfl)
theorem dL_law_1728 : decode cL_law 1728 = .ok (.aload_n 0, 1) := dk_42 (dk_at dksL_law_66 15 rfl rfl)
theorem dL_law_1729 : decode cL_law 1729 = .ok (.iload 4, 2) := dk_21 4 (dk_at dksL_law_66 16 rfl rfl)
theorem dL_law_1731 : decode cL_law 1731 = .ok (.iconst 4, 1) := dk_7 (dk_at dksL_law_66 18 rfl rfl)
theorem dL_law_1732 : decode cL_law 1732 = .ok (.iadd, 1) := dk_96 (dk_at dksL_law_66 19 rfl rfl)
theorem dL_law_1733 : decode cL_law 1733 = .ok (.iaload, 1) := dk_46 (dk_at dksL_law_66 20 rfl rfl)
theorem dL_law_1734 : decode cL_law 1734 = .ok (.aload_n 3, 1) := dk_45 (dk_at dksL_law_66 21 rfl rfl)
theorem dL_law_1735 : decode cL_law 1735 = .ok (.invokestatic 232, 3) := dk_184 0 232 (dk_at dksL_law_67 0 rfl rfl)
theorem dL_law_1738 : decode cL_law 1738 = .ok (.istore 5, 2) := dk_54 5 (dk_at dksL_law_67 3 rfl rfl)
theorem dL_law_1740 : decode cL_law 1740 = .ok (.aload_n 2, 1) := dk_44 (dk_at dksL_law_67 5 rfl rfl)
theorem dL_law_1741 : decode cL_law 1741 = .ok (.aload_n 0, 1) := dk_42 (dk_at dksL_law_67 6 rfl rfl)
theorem dL_law_1742 : decode cL_law 1742 = .ok (.iload 4, 2) := dk_21 4 (dk_at dksL_law_67 7 rfl rfl)
theorem dL_law_1744 : decode cL_law 1744 = .ok (.iconst 1, 1) := dk_4 (dk_at dksL_law_67 9 rfl rfl)
theorem dL_law_1745 : decode cL_law 1745 = .ok (.iadd, 1) := dk_96 (dk_at dksL_law_67 10 rfl rfl)
theorem dL_law_1746 : decode cL_law 1746 = .ok (.iaload, 1) := dk_46 (dk_at dksL_law_67 11 rfl rfl)
theorem dL_law_1747 : decode cL_law 1747 = .ok (.aload_n 0, 1) := dk_42 (dk_at dksL_law_67 12 rfl rfl)
theorem dL_law_1748 : decode cL_law 1748 = .ok (.iload 4, 2) := dk_21 4 (dk_at dksL_law_67 13 rfl rfl)
theorem dL_law_1750 : decode cL_law 1750 = .ok (.iconst 2, 1) := dk_5 (dk_at dksL_law_67 15 rfl rfl)
theorem dL_law_1751 : decode cL_law 1751 = .ok (.iadd, 1) := dk_96 (dk_at dksL_law_67 16 rfl rfl)
theorem dL_law_1752 : decode cL_law 1752 = .ok (.iaload, 1) := dk_46 (dk_at dksL_law_67 17 rfl rfl)
theorem dL_law_1753 : decode cL_law 1753 = .ok (.aload_n 0, 1) := dk_42 (dk_at dksL_law_67 18 rfl rfl)
theorem dL_law_1754 : decode cL_law 1754 = .ok (.iload 4, 2) := dk_21 4 (dk_at dksL_law_67 19 rfl rfl)
theorem dL_law_1756 : decode cL_law 1756 = .ok (.iconst 3, 1) := dk_6 (dk_at dksL_law_67 21 rfl rfl)
theorem dL_law_1757 : decode cL_law 1757 = .ok (.iadd, 1) := dk_96 (dk_at dksL_law_67 22 rfl rfl)
theorem dL_law_1758 : decode cL_law 1758 = .ok (.iaload, 1) := dk_46 (dk_at dksL_law_67 23 rfl rfl)
theorem dL_law_1759 : decode cL_law 1759 = .ok (.aload_n 0, 1) := dk_42 (dk_at dksL_law_68 0 rfl rfl)
theorem dL_law_1760 : decode cL_law 1760 = .ok (.iload 4, 2) := dk_21 4 (dk_at dksL_law_68 1 rfl rfl)
theorem dL_law_1762 : decode cL_law 1762 = .ok (.iconst 4, 1) := dk_7 (dk_at dksL_law_68 3 rfl rfl)
theorem dL_law_1763 : decode cL_law 1763 = .ok (.iadd, 1) := dk_96 (dk_at dksL_law_68 4 rfl rfl)
theorem dL_law_1764 : decode cL_law 1764 = .ok (.iaload, 1) := dk_46 (dk_at dksL_law_68 5 rfl rfl)
theorem dL_law_1765 : decode cL_law 1765 = .ok (.invokevirtual 234, 3) := dk_182 0 234 (dk_at dksL_law_68 6 rfl rfl)
theorem dL_law_1768 : decode cL_law 1768 = .ok (.istore 6, 2) := dk_54 6 (dk_at dksL_law_68 9 rfl rfl)
theorem dL_law_1770 : decode cL_law 1770 = .ok (.aload_n 2, 1) := dk_44 (dk_at dksL_law_68 11 rfl rfl)
theorem dL_law_1771 : decode cL_law 1771 = .ok (.invokevirtual 155, 3) := dk_182 0 155 (dk_at dksL_law_68 12 rfl rfl)
theorem dL_law_1774 : decode cL_law 1774 = .ok (.iload 5, 2) := dk_21 5 (dk_at dksL_law_68 15 rfl rfl)
theorem dL_law_1776 : decode cL_law 1776 = .ok (.if_icmp .eq 5, 3) := dk_159 0 5 (dk_at dksL_law_68 17 rfl rfl)
theorem dL_law_1779 : decode cL_law 1779 = .ok (.iconst 0, 1) := dk_3 (dk_at dksL_law_68 20 rfl rfl)
theorem dL_law_1780 : decode cL_law 1780 = .ok (.ireturn, 1) := dk_172 (dk_at dksL_law_68 21 rfl rfl)
theorem dL_law_1781 : decode cL_law 1781 = .ok (.iload 5, 2) := dk_21 5 (dk_at dksL_law_68 22 rfl rfl)
theorem dL_law_1783 : decode cL_law 1783 = .ok (.ifCond .ne 15, 3) := dk_154 0 15 (dk_at dksL_law_69 0 rfl rfl)
theorem dL_law_1786 : decode cL_law 1786 = .ok (.aload_n 3, 1) := dk_45 (dk_at dksL_law_69 3 rfl rfl)
theorem dL_law_1787 : decode cL_law 1787 = .ok (.iconst 0, 1) := dk_3 (dk_at dksL_law_69 4 rfl rfl)
theorem dL_law_1788 : decode cL_law 1788 = .ok (.laload, 1) := dk_47 (dk_at dksL_law_69 5 rfl rfl)
theorem dL_law_1789 : decode cL_law 1789 = .ok (.iload 6, 2) := dk_21 6 (dk_at dksL_law_69 6 rfl rfl)
theorem dL_law_1791 : decode cL_law 1791 = .ok (.i2l, 1) := dk_133 (dk_at dksL_law_69 8 rfl rfl)
theorem dL_law_1792 : decode cL_law 1792 = .ok (.lcmp, 1) := dk_148 (dk_at dksL_law_69 9 rfl rfl)
theorem dL_law_1793 : decode cL_law 1793 = .ok (.ifCond .eq 5, 3) := dk_153 0 5 (dk_at dksL_law_69 10 rfl rfl)
theorem dL_law_1796 : decode cL_law 1796 = .ok (.iconst 0, 1) := dk_3 (dk_at dksL_law_69 13 rfl rfl)
theorem dL_law_1797 : decode cL_law 1797 = .ok (.ireturn, 1) := dk_172 (dk_at dksL_law_69 14 rfl rfl)
theorem dL_law_1798 : decode cL_law 1798 = .ok (.goto 1182, 3) := dk_167 4 158 (dk_at dksL_law_69 15 rfl rfl)
theorem dL_law_1801 : decode cL_law 1801 = .ok (.aload_n 1, 1) := dk_43 (dk_at dksL_law_69 18 rfl rfl)
theorem dL_law_1802 : decode cL_law 1802 = .ok (.aload_n 0, 1) := dk_42 (dk_at dksL_law_69 19 rfl rfl)
theorem dL_law_1803 : decode cL_law 1803 = .ok (.iload 4, 2) := dk_21 4 (dk_at dksL_law_69 20 rfl rfl)
theorem dL_law_1805 : decode cL_law 1805 = .ok (.iconst 1, 1) := dk_4 (dk_at dksL_law_69 22 rfl rfl)
theorem dL_law_1806 : decode cL_law 1806 = .ok (.iadd, 1) := dk_96 (dk_at dksL_law_69 23 rfl rfl)
theorem dL_law_1807 : decode cL_law 1807 = .ok (.iaload, 1) := dk_46 (dk_at dksL_law_70 0 rfl rfl)
theorem dL_law_1808 : decode cL_law 1808 = .ok (.aload_n 0, 1) := dk_42 (dk_at dksL_law_70 1 rfl rfl)
theorem dL_law_1809 : decode cL_law 1809 = .ok (.iload 4, 2) := dk_21 4 (dk_at dksL_law_70 2 rfl rfl)
theorem dL_law_1811 : decode cL_law 1811 = .ok (.iconst 2, 1) := dk_5 (dk_at dksL_law_70 4 rfl rfl)
theorem dL_law_1812 : decode cL_law 1812 = .ok (.iadd, 1) := dk_96 (dk_at dksL_law_70 5 rfl rfl)
theorem dL_law_1813 : decode cL_law 1813 = .ok (.iaload, 1) := dk_46 (dk_at dksL_law_70 6 rfl rfl)
theorem dL_law_1814 : decode cL_law 1814 = .ok (.aload_n 3, 1) := dk_45 (dk_at dksL_law_70 7 rfl rfl)
theorem dL_law_1815 : decode cL_law 1815 = .ok (.invokestatic 235, 3) := dk_184 0 235 (dk_at dksL_law_70 8 rfl rfl)
theorem dL_law_1818 : decode cL_law 1818 = .ok (.istore 5, 2) := dk_54 5 (dk_at dksL_law_70 11 rfl rfl)
theorem dL_law_1820 : decode cL_law 1820 = .ok (.aload_n 2, 1) := dk_44 (dk_at dksL_law_70 13 rfl rfl)
theorem dL_law_1821 : decode cL_law 1821 = .ok (.aload_n 0, 1) := dk_42 (dk_at dksL_law_70 14 rfl rfl)
theorem dL_law_1822 : decode cL_law 1822 = .ok (.iload 4, 2) := dk_21 4 (dk_at dksL_law_70 15 rfl rfl)
theorem dL_law_1824 : decode cL_law 1824 = .ok (.iconst 1, 1) := dk_4 (dk_at dksL_law_70 17 rfl rfl)
theorem dL_law_1825 : decode cL_law 1825 = .ok (.iadd, 1) := dk_96 (dk_at dksL_law_70 18 rfl rfl)
theorem dL_law_1826 : decode cL_law 1826 = .ok (.iaload, 1) := dk_46 (dk_at dksL_law_70 19 rfl rfl)
theorem dL_law_1827 : decode cL_law 1827 = .ok (.aload_n 0, 1) := dk_42 (dk_at dksL_law_70 20 rfl rfl)
theorem dL_law_1828 : decode cL_law 1828 = .ok (.iload 4, 2) := dk_21 4 (dk_at dksL_law_70 21 rfl rfl)
theorem dL_law_1830 : decode cL_law 1830 = .ok (.iconst 2, 1) := dk_5 (dk_at dksL_law_70 23 rfl rfl)
theorem dL_law_1831 : decode cL_law 1831 = .ok (.iadd, 1) := dk_96 (dk_at dksL_law_71 0 rfl rfl)
theorem dL_law_1832 : decode cL_law 1832 = .ok (.iaload, 1) := dk_46 (dk_at dksL_law_71 1 rfl rfl)
theorem dL_law_1833 : decode cL_law 1833 = .ok (.invokevirtual 237, 3) := dk_182 0 237 (dk_at dksL_law_71 2 rfl rfl)
theorem dL_law_1836 : decode cL_law 1836 = .ok (.istore 6, 2) := dk_54 6 (dk_at dksL_law_71 5 rfl rfl)
theorem dL_law_1838 : decode cL_law 1838 = .ok (.aload_n 2, 1) := dk_44 (dk_at dksL_law_71 7 rfl rfl)
theorem dL_law_1839 : decode cL_law 1839 = .ok (.invokevirtual 155, 3) := dk_182 0 155 (dk_at dksL_law_71 8 rfl rfl)
theorem dL_law_1842 : decode cL_law 1842 = .ok (.iload 5, 2) := dk_21 5 (dk_at dksL_law_71 11 rfl rfl)
theorem dL_law_1844 : decode cL_law 1844 = .ok (.if_icmp .eq 5, 3) := dk_159 0 5 (dk_at dksL_law_71 13 rfl rfl)
theorem dL_law_1847 : decode cL_law 1847 = .ok (.iconst 0, 1) := dk_3 (dk_at dksL_law_71 16 rfl rfl)
theorem dL_law_1848 : decode cL_law 1848 = .ok (.ireturn, 1) := dk_172 (dk_at dksL_law_71 17 rfl rfl)
theorem dL_law_1849 : decode cL_law 1849 = .ok (.iload 5, 2) := dk_21 5 (dk_at dksL_law_71 18 rfl rfl)
theorem dL_law_1851 : decode cL_law 1851 = .ok (.ifCond .ne 15, 3) := dk_154 0 15 (dk_at dksL_law_71 20 rfl rfl)
theorem dL_law_1854 : decode cL_law 1854 = .ok (.aload_n 3, 1) := dk_45 (dk_at dksL_law_71 23 rfl rfl)
theorem dL_law_1855 : decode cL_law 1855 = .ok (.iconst 0, 1) := dk_3 (dk_at dksL_law_72 0 rfl rfl)
theorem dL_law_1856 : decode cL_law 1856 = .ok (.laload, 1) := dk_47 (dk_at dksL_law_72 1 rfl rfl)
theorem dL_law_1857 : decode cL_law 1857 = .ok (.iload 6, 2) := dk_21 6 (dk_at dksL_law_72 2 rfl rfl)
theorem dL_law_1859 : decode cL_law 1859 = .ok (.i2l, 1) := dk_133 (dk_at dksL_law_72 4 rfl rfl)
theorem dL_law_1860 : decode cL_law 1860 = .ok (.lcmp, 1) := dk_148 (dk_at dksL_law_72 5 rfl rfl)
theorem dL_law_1861 : decode cL_law 1861 = .ok (.ifCond .eq 5, 3) := dk_153 0 5 (dk_at dksL_law_72 6 rfl rfl)
theorem dL_law_1864 : decode cL_law 1864 = .ok (.iconst 0, 1) := dk_3 (dk_at dksL_law_72 9 rfl rfl)
theorem dL_law_1865 : decode cL_law 1865 = .ok (.ireturn, 1) := dk_172 (dk_at dksL_law_72 10 rfl rfl)
theorem dL_law_1866 : decode cL_law 1866 = .ok (.goto 1114, 3) := dk_167 4 90 (dk_at dksL_law_72 11 rfl rfl)
theorem dL_law_1869 : decode cL_law 1869 = .ok (.aload_n 1, 1) := dk_43 (dk_at dksL_law_72 14 rfl rfl)
theorem dL_law_1870 : decode cL_law 1870 = .ok (.aload_n 0, 1) := dk_42 (dk_at dksL_law_72 15 rfl rfl)
theorem dL_law_1871 : decode cL_law 1871 = .ok (.iload 4, 2) := dk_21 4 (dk_at dksL_law_72 16 rfl rfl)
theorem dL_law_1873 : decode cL_law 1873 = .ok (.iconst 1, 1) := dk_4 (dk_at dksL_law_72 18 rfl rfl)
theorem dL_law_1874 : decode cL_law 1874 = .ok (.iadd, 1) := dk_96 (dk_at dksL_law_72 19 rfl rfl)
theorem dL_law_1875 : decode cL_law 1875 = .ok (.iaload, 1) := dk_46 (dk_at dksL_law_72 20 rfl rfl)
theorem dL_law_1876 : decode cL_law 1876 = .ok (.aload_n 0, 1) := dk_42 (dk_at dksL_law_72 21 rfl rfl)
theorem dL_law_1877 : decode cL_law 1877 = .ok (.iload 4, 2) := dk_21 4 (dk_at dksL_law_72 22 rfl rfl)
theorem dL_law_1879 : decode cL_law 1879 = .ok (.iconst 2, 1) := dk_5 (dk_at dksL_law_73 0 rfl rfl)
theorem dL_law_1880 : decode cL_law 1880 = .ok (.iadd, 1) := dk_96 (dk_at dksL_law_73 1 rfl rfl)
theorem dL_law_1881 : decode cL_law 1881 = .ok (.iaload, 1) := dk_46 (dk_at dksL_law_73 2 rfl rfl)
theorem dL_law_1882 : decode cL_law 1882 = .ok (.aload_n 0, 1) := dk_42 (dk_at dksL_law_73 3 rfl rfl)
theorem dL_law_1883 : decode cL_law 1883 = .ok (.iload 4, 2) := dk_21 4 (dk_at dksL_law_73 4 rfl rfl)
theorem dL_law_1885 : decode cL_law 1885 = .ok (.iconst 3, 1) := dk_6 (dk_at dksL_law_73 6 rfl rfl)
theorem dL_law_1886 : decode cL_law 1886 = .ok (.iadd, 1) := dk_96 (dk_at dksL_law_73 7 rfl rfl)
theorem dL_law_1887 : decode cL_law 1887 = .ok (.iaload, 1) := dk_46 (dk_at dksL_law_73 8 rfl rfl)
theorem dL_law_1888 : decode cL_law 1888 = .ok (.aload_n 3, 1) := dk_45 (dk_at dksL_law_73 9 rfl rfl)
theorem dL_law_1889 : decode cL_law 1889 = .ok (.invokestatic 238, 3) := dk_184 0 238 (dk_at dksL_law_73 10 rfl rfl)
theorem dL_law_1892 : decode cL_law 1892 = .ok (.istore 5, 2) := dk_54 5 (dk_at dksL_law_73 13 rfl rfl)
theorem dL_law_1894 : decode cL_law 1894 = .ok (.aload_n 2, 1) := dk_44 (dk_at dksL_law_73 15 rfl rfl)
theorem dL_law_1895 : decode cL_law 1895 = .ok (.aload_n 0, 1) := dk_42 (dk_at dksL_law_73 16 rfl rfl)
theorem dL_law_1896 : decode cL_law 1896 = .ok (.iload 4, 2) := dk_21 4 (dk_at dksL_law_73 17 rfl rfl)
theorem dL_law_1898 : decode cL_law 1898 = .ok (.iconst 1, 1) := dk_4 (dk_at dksL_law_73 19 rfl rfl)
theorem dL_law_1899 : decode cL_law 1899 = .ok (.iadd, 1) := dk_96 (dk_at dksL_law_73 20 rfl rfl)
theorem dL_law_1900 : decode cL_law 1900 = .ok (.iaload, 1) := dk_46 (dk_at dksL_law_73 21 rfl rfl)
theorem dL_law_1901 : decode cL_law 1901 = .ok (.aload_n 0, 1) := dk_42 (dk_at dksL_law_73 22 rfl rfl)
theorem dL_law_1902 : decode cL_law 1902 = .ok (.iload 4, 2) := dk_21 4 (dk_at dksL_law_74 0 rfl rfl)
theorem dL_law_1904 : decode cL_law 1904 = .ok (.iconst 2, 1) := dk_5 (dk_at dksL_law_74 2 rfl rfl)
theorem dL_law_1905 : decode cL_law 1905 = .ok (.iadd, 1) := dk_96 (dk_at dksL_law_74 3 rfl rfl)
theorem dL_law_1906 : decode cL_law 1906 = .ok (.iaload, 1) := dk_46 (dk_at dksL_law_74 4 rfl rfl)
theorem dL_law_1907 : decode cL_law 1907 = .ok (.aload_n 0, 1) := dk_42 (dk_at dksL_law_74 5 rfl rfl)
theorem dL_law_1908 : decode cL_law 1908 = .ok (.iload 4, 2) := dk_21 4 (dk_at dksL_law_74 6 rfl rfl)
theorem dL_law_1910 : decode cL_law 1910 = .ok (.iconst 3, 1) := dk_6 (dk_at dksL_law_74 8 rfl rfl)
theorem dL_law_1911 : decode cL_law 1911 = .ok (.iadd, 1) := dk_96 (dk_at dksL_law_74 9 rfl rfl)
theorem dL_law_1912 : decode cL_law 1912 = .ok (.iaload, 1) := dk_46 (dk_at dksL_law_74 10 rfl rfl)
theorem dL_law_1913 : decode cL_law 1913 = .ok (.invokevirtual 240, 3) := dk_182 0 240 (dk_at dksL_law_74 11 rfl rfl)
theorem dL_law_1916 : decode cL_law 1916 = .ok (.istore 6, 2) := dk_54 6 (dk_at dksL_law_74 14 rfl rfl)
theorem dL_law_1918 : decode cL_law 1918 = .ok (.aload_n 2, 1) := dk_44 (dk_at dksL_law_74 16 rfl rfl)
theorem dL_law_1919 : decode cL_law 1919 = .ok (.invokevirtual 155, 3) := dk_182 0 155 (dk_at dksL_law_74 17 rfl rfl)
theorem dL_law_1922 : decode cL_law 1922 = .ok (.iload 5, 2) := dk_21 5 (dk_at dksL_law_74 20 rfl rfl)
theorem dL_law_1924 : decode cL_law 1924 = .ok (.if_icmp .eq 5, 3) := dk_159 0 5 (dk_at dksL_law_75 0 rfl rfl)
theorem dL_law_1927 : decode cL_law 1927 = .ok (.iconst 0, 1) := dk_3 (dk_at dksL_law_75 3 rfl rfl)
theorem dL_law_1928 : decode cL_law 1928 = .ok (.ireturn, 1) := dk_172 (dk_at dksL_law_75 4 rfl rfl)
theorem dL_law_1929 : decode cL_law 1929 = .ok (.iload 5, 2) := dk_21 5 (dk_at dksL_law_75 5 rfl rfl)
theorem dL_law_1931 : decode cL_law 1931 = .ok (.ifCond .ne 22, 3) := dk_154 0 22 (dk_at dksL_law_75 7 rfl rfl)
theorem dL_law_1934 : decode cL_law 1934 = .ok (.aload_n 3, 1) := dk_45 (dk_at dksL_law_75 10 rfl rfl)
theorem dL_law_1935 : decode cL_law 1935 = .ok (.iconst 0, 1) := dk_3 (dk_at dksL_law_75 11 rfl rfl)
theorem dL_law_1936 : decode cL_law 1936 = .ok (.laload, 1) := dk_47 (dk_at dksL_law_75 12 rfl rfl)
theorem dL_law_1937 : decode cL_law 1937 = .ok (.iload 6, 2) := dk_21 6 (dk_at dksL_law_75 13 rfl rfl)
theorem dL_law_1939 : decode cL_law 1939 = .ok (.ifCond .eq 7, 3) := dk_153 0 7 (dk_at dksL_law_75 15 rfl rfl)
theorem dL_law_1942 : decode cL_law 1942 = .ok (.lconst 1, 1) := dk_10 (dk_at dksL_law_75 18 rfl rfl)
theorem dL_law_1943 : decode cL_law 1943 = .ok (.goto 4, 3) := dk_167 0 4 (dk_at dksL_law_75 19 rfl rfl)
theorem dL_law_1946 : decode cL_law 1946 = .ok (.lconst 0, 1) := dk_9 (dk_at dksL_law_75 22 rfl rfl)
theorem dL_law_1947 : decode cL_law 1947 = .ok (.lcmp, 1) := dk_148 (dk_at dksL_law_75 23 rfl rfl)
theorem dL_law_1948 : decode cL_law 1948 = .ok (.ifCond .eq 5, 3) := dk_153 0 5 (dk_at dksL_law_76 0 rfl rfl)
theorem dL_law_1951 : decode cL_law 1951 = .ok (.iconst 0, 1) := dk_3 (dk_at dksL_law_76 3 rfl rfl)
theorem dL_law_1952 : decode cL_law 1952 = .ok (.ireturn, 1) := dk_172 (dk_at dksL_law_76 4 rfl rfl)
theorem dL_law_1953 : decode cL_law 1953 = .ok (.goto 1027, 3) := dk_167 4 3 (dk_at dksL_law_76 5 rfl rfl)
theorem dL_law_1956 : decode cL_law 1956 = .ok (.aload_n 1, 1) := dk_43 (dk_at dksL_law_76 8 rfl rfl)
theorem dL_law_1957 : decode cL_law 1957 = .ok (.invokevirtual 241, 3) := dk_182 0 241 (dk_at dksL_law_76 9 rfl rfl)
theorem dL_law_1960 : decode cL_law 1960 = .ok (.aload_n 2, 1) := dk_44 (dk_at dksL_law_76 12 rfl rfl)
theorem dL_law_1961 : decode cL_law 1961 = .ok (.invokevirtual 244, 3) := dk_182 0 244 (dk_at dksL_law_76 13 rfl rfl)
theorem dL_law_1964 : decode cL_law 1964 = .ok (.if_icmp .eq 1016, 3) := dk_159 3 248 (dk_at dksL_law_76 16 rfl rfl)
theorem dL_law_1967 : decode cL_law 1967 = .ok (.iconst 0, 1) := dk_3 (dk_at dksL_law_76 19 rfl rfl)
theorem dL_law_1968 : decode cL_law 1968 = .ok (.ireturn, 1) := dk_172 (dk_at dksL_law_76 20 rfl rfl)
theorem dL_law_1969 : decode cL_law 1969 = .ok (.aload_n 1, 1) := dk_43 (dk_at dksL_law_76 21 rfl rfl)
theorem dL_law_1970 : decode cL_law 1970 = .ok (.aload_n 3, 1) := dk_45 (dk_at dksL_law_76 22 rfl rfl)
theorem dL_law_1971 : decode cL_law 1971 = .ok (.invokestatic 245, 3) := dk_184 0 245 (dk_at dksL_law_77 0 rfl rfl)
theorem dL_law_1974 : decode cL_law 1974 = .ok (.istore 5, 2) := dk_54 5 (dk_at dksL_law_77 3 rfl rfl)
theorem dL_law_1976 : decode cL_law 1976 = .ok (.aload_n 2, 1) := dk_44 (dk_at dksL_law_77 5 rfl rfl)
theorem dL_law_1977 : decode cL_law 1977 = .ok (.invokevirtual 247, 3) := dk_182 0 247 (dk_at dksL_law_77 6 rfl rfl)
theorem dL_law_1980 : decode cL_law 1980 = .ok (.istore 6, 2) := dk_54 6 (dk_at dksL_law_77 9 rfl rfl)
theorem dL_law_1982 : decode cL_law 1982 = .ok (.aload_n 2, 1) := dk_44 (dk_at dksL_law_77 11 rfl rfl)
theorem dL_law_1983 : decode cL_law 1983 = .ok (.invokevirtual 155, 3) := dk_182 0 155 (dk_at dksL_law_77 12 rfl rfl)
theorem dL_law_1986 : decode cL_law 1986 = .ok (.iload 5, 2) := dk_21 5 (dk_at dksL_law_77 15 rfl rfl)
theorem dL_law_1988 : decode cL_law 1988 = .ok (.if_icmp .eq 5, 3) := dk_159 0 5 (dk_at dksL_law_77 17 rfl rfl)
theorem dL_law_1991 : decode cL_law 1991 = .ok (.iconst 0, 1) := dk_3 (dk_at dksL_law_77 20 rfl rfl)
theorem dL_law_1992 : decode cL_law 1992 = .ok (.ireturn, 1) := dk_172 (dk_at dksL_law_77 21 rfl rfl)
theorem dL_law_1993 : decode cL_law 1993 = .ok (.iload 5, 2) := dk_21 5 (dk_at dksL_law_77 22 rfl rfl)
theorem dL_law_1995 : decode cL_law 1995 = .ok (.ifCond .ne 15, 3) := dk_154 0 15 (dk_at dksL_law_78 0 rfl rfl)
theorem dL_law_1998 : decode cL_law 1998 = .ok (.aload_n 3, 1) := dk_45 (dk_at dksL_law_78 3 rfl rfl)
theorem dL_law_1999 : decode cL_law 1999 = .ok (.iconst 0, 1) := dk_3 (dk_at dksL_law_78 4 rfl rfl)
theorem dL_law_2000 : decode cL_law 2000 = .ok (.laload, 1) := dk_47 (dk_at dksL_law_78 5 rfl rfl)
theorem dL_law_2001 : decode cL_law 2001 = .ok (.iload 6, 2) := dk_21 6 (dk_at dksL_law_78 6 rfl rfl)
theorem dL_law_2003 : decode cL_law 2003 = .ok (.i2l, 1) := dk_133 (dk_at dksL_law_78 8 rfl rfl)
theorem dL_law_2004 : decode cL_law 2004 = .ok (.lcmp, 1) := dk_148 (dk_at dksL_law_78 9 rfl rfl)
theorem dL_law_2005 : decode cL_law 2005 = .ok (.ifCond .eq 5, 3) := dk_153 0 5 (dk_at dksL_law_78 10 rfl rfl)
theorem dL_law_2008 : decode cL_law 2008 = .ok (.iconst 0, 1) := dk_3 (dk_at dksL_law_78 13 rfl rfl)
theorem dL_law_2009 : decode cL_law 2009 = .ok (.ireturn, 1) := dk_172 (dk_at dksL_law_78 14 rfl rfl)
theorem dL_law_2010 : decode cL_law 2010 = .ok (.goto 970, 3) := dk_167 3 202 (dk_at dksL_law_78 15 rfl rfl)
theorem dL_law_2013 : decode cL_law 2013 = .ok (.aload_n 1, 1) := dk_43 (dk_at dksL_law_78 18 rfl rfl)
theorem dL_law_2014 : decode cL_law 2014 = .ok (.aload_n 0, 1) := dk_42 (dk_at dksL_law_78 19 rfl rfl)
theorem dL_law_2015 : decode cL_law 2015 = .ok (.iload 4, 2) := dk_21 4 (dk_at dksL_law_78 20 rfl rfl)
theorem dL_law_2017 : decode cL_law 2017 = .ok (.iconst 1, 1) := dk_4 (dk_at dksL_law_78 22 rfl rfl)
theorem dL_law_2018 : decode cL_law 2018 = .ok (.iadd, 1) := dk_96 (dk_at dksL_law_78 23 rfl rfl)
theorem dL_law_2019 : decode cL_law 2019 = .ok (.iaload, 1) := dk_46 (dk_at dksL_law_79 0 rfl rfl)
theorem dL_law_2020 : decode cL_law 2020 = .ok (.aload_n 0, 1) := dk_42 (dk_at dksL_law_79 1 rfl rfl)
theorem dL_law_2021 : decode cL_law 2021 = .ok (.iload 4, 2) := dk_21 4 (dk_at dksL_law_79 2 rfl rfl)
theorem dL_law_2023 : decode cL_law 2023 = .ok (.iconst 2, 1) := dk_5 (dk_at dksL_law_79 4 rfl rfl)
theorem dL_law_2024 : decode cL_law 2024 = .ok (.iadd, 1) := dk_96 (dk_at dksL_law_79 5 rfl rfl)
theorem dL_law_2025 : decode cL_law 2025 = .ok (.iaload, 1) := dk_46 (dk_at dksL_law_79 6 rfl rfl)
theorem dL_law_2026 : decode cL_law 2026 = .ok (.aload_n 0, 1) := dk_42 (dk_at dksL_law_79 7 rfl rfl)
theorem dL_law_2027 : decode cL_law 2027 = .ok (.iload 4, 2) := dk_21 4 (dk_at dksL_law_79 8 rfl rfl)
theorem dL_law_2029 : decode cL_law 2029 = .ok (.iconst 3, 1) := dk_6 (dk_at dksL_law_79 10 rfl rfl)
theorem dL_law_2030 : decode cL_law 2030 = .ok (.iadd, 1) := dk_96 (dk_at dksL_law_79 11 rfl rfl)
theorem dL_law_2031 : decode cL_law 2031 = .ok (.iaload, 1) := dk_46 (dk_at dksL_law_79 12 rfl rfl)
theorem dL_law_2032 : decode cL_law 2032 = .ok (.ifCond .eq 7, 3) := dk_153 0 7 (dk_at dksL_law_79 13 rfl rfl)
theorem dL_law_2035 : decode cL_law 2035 = .ok (.iconst 1, 1) := dk_4 (dk_at dksL_law_79 16 rfl rfl)
theorem dL_law_2036 : decode cL_law 2036 = .ok (.goto 4, 3) := dk_167 0 4 (dk_at dksL_law_79 17 rfl rfl)
theorem dL_law_2039 : decode cL_law 2039 = .ok (.iconst 0, 1) := dk_3 (dk_at dksL_law_79 20 rfl rfl)
theorem dL_law_2040 : decode cL_law 2040 = .ok (.aload_n 3, 1) := dk_45 (dk_at dksL_law_79 21 rfl rfl)
theorem dL_law_2041 : decode cL_law 2041 = .ok (.invokestatic 248, 3) := dk_184 0 248 (dk_at dksL_law_80 0 rfl rfl)
theorem dL_law_2044 : decode cL_law 2044 = .ok (.istore 5, 2) := dk_54 5 (dk_at dksL_law_80 3 rfl rfl)
theorem dL_law_2046 : decode cL_law 2046 = .ok (.aload_n 2, 1) := dk_44 (dk_at dksL_law_80 5 rfl rfl)
theorem dL_law_2047 : decode cL_law 2047 = .ok (.aload_n 0, 1) := dk_42 (dk_at dksL_law_80 6 rfl rfl)
theorem dL_law_2048 : decode cL_law 2048 = .ok (.iload 4, 2) := dk_21 4 (dk_at dksL_law_80 7 rfl rfl)
theorem dL_law_2050 : decode cL_law 2050 = .ok (.iconst 1, 1) := dk_4 (dk_at dksL_law_80 9 rfl rfl)
theorem dL_law_2051 : decode cL_law 2051 = .ok (.iadd, 1) := dk_96 (dk_at dksL_law_80 10 rfl rfl)
theorem dL_law_2052 : decode cL_law 2052 = .ok (.iaload, 1) := dk_46 (dk_at dksL_law_80 11 rfl rfl)
theorem dL_law_2053 : decode cL_law 2053 = .ok (.aload_n 0, 1) := dk_42 (dk_at dksL_law_80 12 rfl rfl)
theorem dL_law_2054 : decode cL_law 2054 = .ok (.iload 4, 2) := dk_21 4 (dk_at dksL_law_80 13 rfl rfl)
theorem dL_law_2056 : decode cL_law 2056 = .ok (.iconst 2, 1) := dk_5 (dk_at dksL_law_80 15 rfl rfl)
theorem dL_law_2057 : decode cL_law 2057 = .ok (.iadd, 1) := dk_96 (dk_at dksL_law_80 16 rfl rfl)
theorem dL_law_2058 : decode cL_law 2058 = .ok (.iaload, 1) := dk_46 (dk_at dksL_law_80 17 rfl rfl)
theorem dL_law_2059 : decode cL_law 2059 = .ok (.aload_n 0, 1) := dk_42 (dk_at dksL_law_80 18 rfl rfl)
theorem dL_law_2060 : decode cL_law 2060 = .ok (.iload 4, 2) := dk_21 4 (dk_at dksL_law_80 19 rfl rfl)
theorem dL_law_2062 : decode cL_law 2062 = .ok (.iconst 3, 1) := dk_6 (dk_at dksL_law_80 21 rfl rfl)
theorem dL_law_2063 : decode cL_law 2063 = .ok (.iadd, 1) := dk_96 (dk_at dksL_law_80 22 rfl rfl)
theorem dL_law_2064 : decode cL_law 2064 = .ok (.iaload, 1) := dk_46 (dk_at dksL_law_80 23 rfl rfl)
theorem dL_law_2065 : decode cL_law 2065 = .ok (.ifCond .eq 7, 3) := dk_153 0 7 (dk_at dksL_law_81 0 rfl rfl)
theorem dL_law_2068 : decode cL_law 2068 = .ok (.iconst 1, 1) := dk_4 (dk_at dksL_law_81 3 rfl rfl)
theorem dL_law_2069 : decode cL_law 2069 = .ok (.goto 4, 3) := dk_167 0 4 (dk_at dksL_law_81 4 rfl rfl)
theorem dL_law_2072 : decode cL_law 2072 = .ok (.iconst 0, 1) := dk_3 (dk_at dksL_law_81 7 rfl rfl)
theorem dL_law_2073 : decode cL_law 2073 = .ok (.invokevirtual 251, 3) := dk_182 0 251 (dk_at dksL_law_81 8 rfl rfl)
theorem dL_law_2076 : decode cL_law 2076 = .ok (.istore 6, 2) := dk_54 6 (dk_at dksL_law_81 11 rfl rfl)
theorem dL_law_2078 : decode cL_law 2078 = .ok (.aload_n 2, 1) := dk_44 (dk_at dksL_law_81 13 rfl rfl)
theorem dL_law_2079 : decode cL_law 2079 = .ok (.invokevirtual 155, 3) := dk_182 0 155 (dk_at dksL_law_81 14 rfl rfl)
theorem dL_law_2082 : decode cL_law 2082 = .ok (.iload 5, 2) := dk_21 5 (dk_at dksL_law_81 17 rfl rfl)
theorem dL_law_2084 : decode cL_law 2084 = .ok (.if_icmp .eq 5, 3) := dk_159 0 5 (dk_at dksL_law_81 19 rfl rfl)
theorem dL_law_2087 : decode cL_law 2087 = .ok (.iconst 0, 1) := dk_3 (dk_at dksL_law_81 22 rfl rfl)
theorem dL_law_2088 : decode cL_law 2088 = .ok (.ireturn, 1) := dk_172 (dk_at dksL_law_81 23 rfl rfl)
theorem dL_law_2089 : decode cL_law 2089 = .ok (.iload 5, 2) := dk_21 5 (dk_at dksL_law_82 0 rfl rfl)
theorem dL_law_2091 : decode cL_law 2091 = .ok (.ifCond .ne 15, 3) := dk_154 0 15 (dk_at dksL_law_82 2 rfl rfl)
theorem dL_law_2094 : decode cL_law 2094 = .ok (.aload_n 3, 1) := dk_45 (dk_at dksL_law_82 5 rfl rfl)
theorem dL_law_2095 : decode cL_law 2095 = .ok (.iconst 0, 1) := dk_3 (dk_at dksL_law_82 6 rfl rfl)
theorem dL_law_2096 : decode cL_law 2096 = .ok (.laload, 1) := dk_47 (dk_at dksL_law_82 7 rfl rfl)
theorem dL_law_2097 : decode cL_law 2097 = .ok (.iload 6, 2) := dk_21 6 (dk_at dksL_law_82 8 rfl rfl)
theorem dL_law_2099 : decode cL_law 2099 = .ok (.i2l, 1) := dk_133 (dk_at dksL_law_82 10 rfl rfl)
theorem dL_law_2100 : decode cL_law 2100 = .ok (.lcmp, 1) := dk_148 (dk_at dksL_law_82 11 rfl rfl)
theorem dL_law_2101 : decode cL_law 2101 = .ok (.ifCond .eq 5, 3) := dk_153 0 5 (dk_at dksL_law_82 12 rfl rfl)
theorem dL_law_2104 : decode cL_law 2104 = .ok (.iconst 0, 1) := dk_3 (dk_at dksL_law_82 15 rfl rfl)
theorem dL_law_2105 : decode cL_law 2105 = .ok (.ireturn, 1) := dk_172 (dk_at dksL_law_82 16 rfl rfl)
theorem dL_law_2106 : decode cL_law 2106 = .ok (.goto 874, 3) := dk_167 3 106 (dk_at dksL_law_82 17 rfl rfl)
theorem dL_law_2109 : decode cL_law 2109 = .ok (.aload_n 1, 1) := dk_43 (dk_at dksL_law_82 20 rfl rfl)
theorem dL_law_2110 : decode cL_law 2110 = .ok (.aload_n 0, 1) := dk_42 (dk_at dksL_law_82 21 rfl rfl)
theorem dL_law_2111 : decode cL_law 2111 = .ok (.iload 4, 2) := dk_21 4 (dk_at dksL_law_82 22 rfl rfl)
theorem dL_law_2113 : decode cL_law 2113 = .ok (.iconst 1, 1) := dk_4 (dk_at dksL_law_83 0 rfl rfl)
theorem dL_law_2114 : decode cL_law 2114 = .ok (.iadd, 1) := dk_96 (dk_at dksL_law_83 1 rfl rfl)
theorem dL_law_2115 : decode cL_law 2115 = .ok (.iaload, 1) := dk_46 (dk_at dksL_law_83 2 rfl rfl)
theorem dL_law_2116 : decode cL_law 2116 = .ok (.aload_n 0, 1) := dk_42 (dk_at dksL_law_83 3 rfl rfl)
theorem dL_law_2117 : decode cL_law 2117 = .ok (.iload 4, 2) := dk_21 4 (dk_at dksL_law_83 4 rfl rfl)
theorem dL_law_2119 : decode cL_law 2119 = .ok (.iconst 2, 1) := dk_5 (dk_at dksL_law_83 6 rfl rfl)
theorem dL_law_2120 : decode cL_law 2120 = .ok (.iadd, 1) := dk_96 (dk_at dksL_law_83 7 rfl rfl)
theorem dL_law_2121 : decode cL_law 2121 = .ok (.iaload, 1) := dk_46 (dk_at dksL_law_83 8 rfl rfl)
theorem dL_law_2122 : decode cL_law 2122 = .ok (.aload_n 0, 1) := dk_42 (dk_at dksL_law_83 9 rfl rfl)
theorem dL_law_2123 : decode cL_law 2123 = .ok (.iload 4, 2) := dk_21 4 (dk_at dksL_law_83 10 rfl rfl)
theorem dL_law_2125 : decode cL_law 2125 = .ok (.iconst 3, 1) := dk_6 (dk_at dksL_law_83 12 rfl rfl)
theorem dL_law_2126 : decode cL_law 2126 = .ok (.iadd, 1) := dk_96 (dk_at dksL_law_83 13 rfl rfl)
theorem dL_law_2127 : decode cL_law 2127 = .ok (.iaload, 1) := dk_46 (dk_at dksL_law_83 14 rfl rfl)
theorem dL_law_2128 : decode cL_law 2128 = .ok (.aload_n 3, 1) := dk_45 (dk_at dksL_law_83 15 rfl rfl)
theorem dL_law_2129 : decode cL_law 2129 = .ok (.invokestatic 252, 3) := dk_184 0 252 (dk_at dksL_law_83 16 rfl rfl)
theorem dL_law_2132 : decode cL_law 2132 = .ok (.istore 5, 2) := dk_54 5 (dk_at dksL_law_83 19 rfl rfl)
theorem dL_law_2134 : decode cL_law 2134 = .ok (.aload_n 2, 1) := dk_44 (dk_at dksL_law_83 21 rfl rfl)
theorem dL_law_2135 : decode cL_law 2135 = .ok (.aload_n 0, 1) := dk_42 (dk_at dksL_law_83 22 rfl rfl)
theorem dL_law_2136 : decode cL_law 2136 = .ok (.iload 4, 2) := dk_21 4 (dk_at dksL_law_84 0 rfl rfl)
theorem dL_law_2138 : decode cL_law 2138 = .ok (.iconst 1, 1) := dk_4 (dk_at dksL_law_84 2 rfl rfl)
theorem dL_law_2139 : decode cL_law 2139 = .ok (.iadd, 1) := dk_96 (dk_at dksL_law_84 3 rfl rfl)
theorem dL_law_2140 : decode cL_law 2140 = .ok (.iaload, 1) := dk_46 (dk_at dksL_law_84 4 rfl rfl)
theorem dL_law_2141 : decode cL_law 2141 = .ok (.aload_n 0, 1) := dk_42 (dk_at dksL_law_84 5 rfl rfl)
theorem dL_law_2142 : decode cL_law 2142 = .ok (.iload 4, 2) := dk_21 4 (dk_at dksL_law_84 6 rfl rfl)
theorem dL_law_2144 : decode cL_law 2144 = .ok (.iconst 2, 1) := dk_5 (dk_at dksL_law_84 8 rfl rfl)
theorem dL_law_2145 : decode cL_law 2145 = .ok (.iadd, 1) := dk_96 (dk_at dksL_law_84 9 rfl rfl)
theorem dL_law_2146 : decode cL_law 2146 = .ok (.iaload, 1) := dk_46 (dk_at dksL_law_84 10 rfl rfl)
theorem dL_law_2147 : decode cL_law 2147 = .ok (.aload_n 0, 1) := dk_42 (dk_at dksL_law_84 11 rfl rfl)
theorem dL_law_2148 : decode cL_law 2148 = .ok (.iload 4, 2) := dk_21 4 (dk_at dksL_law_84 12 rfl rfl)
theorem dL_law_2150 : decode cL_law 2150 = .ok (.iconst 3, 1) := dk_6 (dk_at dksL_law_84 14 rfl rfl)
theorem dL_law_2151 : decode cL_law 2151 = .ok (.iadd, 1) := dk_96 (dk_at dksL_law_84 15 rfl rfl)
theorem dL_law_2152 : decode cL_law 2152 = .ok (.iaload, 1) := dk_46 (dk_at dksL_law_84 16 rfl rfl)
theorem dL_law_2153 : decode cL_law 2153 = .ok (.invokevirtual 254, 3) := dk_182 0 254 (dk_at dksL_law_84 17 rfl rfl)
theorem dL_law_2156 : decode cL_law 2156 = .ok (.istore 6, 2) := dk_54 6 (dk_at dksL_law_84 20 rfl rfl)
theorem dL_law_2158 : decode cL_law 2158 = .ok (.aload_n 2, 1) := dk_44 (dk_at dksL_law_84 22 rfl rfl)
theorem dL_law_2159 : decode cL_law 2159 = .ok (.invokevirtual 155, 3) := dk_182 0 155 (dk_at dksL_law_85 0 rfl rfl)
theorem dL_law_2162 : decode cL_law 2162 = .ok (.iload 5, 2) := dk_21 5 (dk_at dksL_law_85 3 rfl rfl)
theorem dL_law_2164 : decode cL_law 2164 = .ok (.if_icmp .eq 5, 3) := dk_159 0 5 (dk_at dksL_law_85 5 rfl rfl)
theorem dL_law_2167 : decode cL_law 2167 = .ok (.iconst 0, 1) := dk_3 (dk_at dksL_law_85 8 rfl rfl)
theorem dL_law_2168 : decode cL_law 2168 = .ok (.ireturn, 1) := dk_172 (dk_at dksL_law_85 9 rfl rfl)
theorem dL_law_2169 : decode cL_law 2169 = .ok (.iload 5, 2) := dk_21 5 (dk_at dksL_law_85 10 rfl rfl)
theorem dL_law_2171 : decode cL_law 2171 = .ok (.ifCond .ne 15, 3) := dk_154 0 15 (dk_at dksL_law_85 12 rfl rfl)
theorem dL_law_2174 : decode cL_law 2174 = .ok (.aload_n 3, 1) := dk_45 (dk_at dksL_law_85 15 rfl rfl)
theorem dL_law_2175 : decode cL_law 2175 = .ok (.iconst 0, 1) := dk_3 (dk_at dksL_law_85 16 rfl rfl)
theorem dL_law_2176 : decode cL_law 2176 = .ok (.laload, 1) := dk_47 (dk_at dksL_law_85 17 rfl rfl)
theorem dL_law_2177 : decode cL_law 2177 = .ok (.iload 6, 2) := dk_21 6 (dk_at dksL_law_85 18 rfl rfl)
theorem dL_law_2179 : decode cL_law 2179 = .ok (.i2l, 1) := dk_133 (dk_at dksL_law_85 20 rfl rfl)
theorem dL_law_2180 : decode cL_law 2180 = .ok (.lcmp, 1) := dk_148 (dk_at dksL_law_85 21 rfl rfl)
theorem dL_law_2181 : decode cL_law 2181 = .ok (.ifCond .eq 5, 3) := dk_153 0 5 (dk_at dksL_law_86 0 rfl rfl)
theorem dL_law_2184 : decode cL_law 2184 = .ok (.iconst 0, 1) := dk_3 (dk_at dksL_law_86 3 rfl rfl)
theorem dL_law_2185 : decode cL_law 2185 = .ok (.ireturn, 1) := dk_172 (dk_at dksL_law_86 4 rfl rfl)
theorem dL_law_2186 : decode cL_law 2186 = .ok (.goto 794, 3) := dk_167 3 26 (dk_at dksL_law_86 5 rfl rfl)
theorem dL_law_2189 : decode cL_law 2189 = .ok (.aload_n 1, 1) := dk_43 (dk_at dksL_law_86 8 rfl rfl)
theorem dL_law_2190 : decode cL_law 2190 = .ok (.aload_n 0, 1) := dk_42 (dk_at dksL_law_86 9 rfl rfl)
theorem dL_law_2191 : decode cL_law 2191 = .ok (.iload 4, 2) := dk_21 4 (dk_at dksL_law_86 10 rfl rfl)
theorem dL_law_2193 : decode cL_law 2193 = .ok (.iconst 1, 1) := dk_4 (dk_at dksL_law_86 12 rfl rfl)
theorem dL_law_2194 : decode cL_law 2194 = .ok (.iadd, 1) := dk_96 (dk_at dksL_law_86 13 rfl rfl)
theorem dL_law_2195 : decode cL_law 2195 = .ok (.iaload, 1) := dk_46 (dk_at dksL_law_86 14 rfl rfl)
theorem dL_law_2196 : decode cL_law 2196 = .ok (.aload_n 0, 1) := dk_42 (dk_at dksL_law_86 15 rfl rfl)
theorem dL_law_2197 : decode cL_law 2197 = .ok (.iload 4, 2) := dk_21 4 (dk_at dksL_law_86 16 rfl rfl)
theorem dL_law_2199 : decode cL_law 2199 = .ok (.iconst 2, 1) := dk_5 (dk_at dksL_law_86 18 rfl rfl)
theorem dL_law_2200 : decode cL_law 2200 = .ok (.iadd, 1) := dk_96 (dk_at dksL_law_86 19 rfl rfl)
theorem dL_law_2201 : decode cL_law 2201 = .ok (.iaload, 1) := dk_46 (dk_at dksL_law_86 20 rfl rfl)
theorem dL_law_2202 : decode cL_law 2202 = .ok (.aload_n 3, 1) := dk_45 (dk_at dksL_law_86 21 rfl rfl)
theorem dL_law_2203 : decode cL_law 2203 = .ok (.invokestatic 255, 3) := dk_184 0 255 (dk_at dksL_law_87 0 rfl rfl)
theorem dL_law_2206 : decode cL_law 2206 = .ok (.istore 5, 2) := dk_54 5 (dk_at dksL_law_87 3 rfl rfl)
theorem dL_law_2208 : decode cL_law 2208 = .ok (.aload_n 2, 1) := dk_44 (dk_at dksL_law_87 5 rfl rfl)
theorem dL_law_2209 : decode cL_law 2209 = .ok (.aload_n 0, 1) := dk_42 (dk_at dksL_law_87 6 rfl rfl)
theorem dL_law_2210 : decode cL_law 2210 = .ok (.iload 4, 2) := dk_21 4 (dk_at dksL_law_87 7 rfl rfl)
theorem dL_law_2212 : decode cL_law 2212 = .ok (.iconst 1, 1) := dk_4 (dk_at dksL_law_87 9 rfl rfl)
theorem dL_law_2213 : decode cL_law 2213 = .ok (.iadd, 1) := dk_96 (dk_at dksL_law_87 10 rfl rfl)
theorem dL_law_2214 : decode cL_law 2214 = .ok (.iaload, 1) := dk_46 (dk_at dksL_law_87 11 rfl rfl)
theorem dL_law_2215 : decode cL_law 2215 = .ok (.aload_n 0, 1) := dk_42 (dk_at dksL_law_87 12 rfl rfl)
theorem dL_law_2216 : decode cL_law 2216 = .ok (.iload 4, 2) := dk_21 4 (dk_at dksL_law_87 13 rfl rfl)
theorem dL_law_2218 : decode cL_law 2218 = .ok (.iconst 2, 1) := dk_5 (dk_at dksL_law_87 15 rfl rfl)
theorem dL_law_2219 : decode cL_law 2219 = .ok (.iadd, 1) := dk_96 (dk_at dksL_law_87 16 rfl rfl)
theorem dL_law_2220 : decode cL_law 2220 = .ok (.iaload, 1) := dk_46 (dk_at dksL_law_87 17 rfl rfl)
theorem dL_law_2221 : decode cL_law 2221 = .ok (.invokevirtual 257, 3) := dk_182 1 1 (dk_at dksL_law_87 18 rfl rfl)
theorem dL_law_2224 : decode cL_law 2224 = .ok (.istore 6, 2) := dk_54 6 (dk_at dksL_law_87 21 rfl rfl)
theorem dL_law_2226 : decode cL_law 2226 = .ok (.aload_n 2, 1) := dk_44 (dk_at dksL_law_87 23 rfl rfl)
theorem dL_law_2227 : decode cL_law 2227 = .ok (.invokevirtual 155, 3) := dk_182 0 155 (dk_at dksL_law_88 0 rfl rfl)
theorem dL_law_2230 : decode cL_law 2230 = .ok (.iload 5, 2) := dk_21 5 (dk_at dksL_law_88 3 rfl rfl)
theorem dL_law_2232 : decode cL_law 2232 = .ok (.if_icmp .eq 5, 3) := dk_159 0 5 (dk_at dksL_law_88 5 rfl rfl)
theorem dL_law_2235 : decode cL_law 2235 = .ok (.iconst 0, 1) := dk_3 (dk_at dksL_law_88 8 rfl rfl)
theorem dL_law_2236 : decode cL_law 2236 = .ok (.ireturn, 1) := dk_172 (dk_at dksL_law_88 9 rfl rfl)
theorem dL_law_2237 : decode cL_law 2237 = .ok (.iload 5, 2) := dk_21 5 (dk_at dksL_law_88 10 rfl rfl)
theorem dL_law_2239 : decode cL_law 2239 = .ok (.ifCond .ne 15, 3) := dk_154 0 15 (dk_at dksL_law_88 12 rfl rfl)
theorem dL_law_2242 : decode cL_law 2242 = .ok (.aload_n 3, 1) := dk_45 (dk_at dksL_law_88 15 rfl rfl)
theorem dL_law_2243 : decode cL_law 2243 = .ok (.iconst 0, 1) := dk_3 (dk_at dksL_law_88 16 rfl rfl)
theorem dL_law_2244 : decode cL_law 2244 = .ok (.laload, 1) := dk_47 (dk_at dksL_law_88 17 rfl rfl)
theorem dL_law_2245 : decode cL_law 2245 = .ok (.iload 6, 2) := dk_21 6 (dk_at dksL_law_88 18 rfl rfl)
theorem dL_law_2247 : decode cL_law 2247 = .ok (.i2l, 1) := dk_133 (dk_at dksL_law_88 20 rfl rfl)
theorem dL_law_2248 : decode cL_law 2248 = .ok (.lcmp, 1) := dk_148 (dk_at dksL_law_88 21 rfl rfl)
theorem dL_law_2249 : decode cL_law 2249 = .ok (.ifCond .eq 5, 3) := dk_153 0 5 (dk_at dksL_law_89 0 rfl rfl)
theorem dL_law_2252 : decode cL_law 2252 = .ok (.iconst 0, 1) := dk_3 (dk_at dksL_law_89 3 rfl rfl)
theorem dL_law_2253 : decode cL_law 2253 = .ok (.ireturn, 1) := dk_172 (dk_at dksL_law_89 4 rfl rfl)
theorem dL_law_2254 : decode cL_law 2254 = .ok (.goto 726, 3) := dk_167 2 214 (dk_at dksL_law_89 5 rfl rfl)
theorem dL_law_2257 : decode cL_law 2257 = .ok (.aload_n 1, 1) := dk_43 (dk_at dksL_law_89 8 rfl rfl)
theorem dL_law_2258 : decode cL_law 2258 = .ok (.aload_n 0, 1) := dk_42 (dk_at dksL_law_89 9 rfl rfl)
theorem dL_law_2259 : decode cL_law 2259 = .ok (.iload 4, 2) := dk_21 4 (dk_at dksL_law_89 10 rfl rfl)
theorem dL_law_2261 : decode cL_law 2261 = .ok (.iconst 1, 1) := dk_4 (dk_at dksL_law_89 12 rfl rfl)
theorem dL_law_2262 : decode cL_law 2262 = .ok (.iadd, 1) := dk_96 (dk_at dksL_law_89 13 rfl rfl)
theorem dL_law_2263 : decode cL_law 2263 = .ok (.iaload, 1) := dk_46 (dk_at dksL_law_89 14 rfl rfl)
theorem dL_law_2264 : decode cL_law 2264 = .ok (.aload_n 0, 1) := dk_42 (dk_at dksL_law_89 15 rfl rfl)
theorem dL_law_2265 : decode cL_law 2265 = .ok (.iload 4, 2) := dk_21 4 (dk_at dksL_law_89 16 rfl rfl)
theorem dL_law_2267 : decode cL_law 2267 = .ok (.iconst 2, 1) := dk_5 (dk_at dksL_law_89 18 rfl rfl)
theorem dL_law_2268 : decode cL_law 2268 = .ok (.iadd, 1) := dk_96 (dk_at dksL_law_89 19 rfl rfl)
theorem dL_law_2269 : decode cL_law 2269 = .ok (.iaload, 1) := dk_46 (dk_at dksL_law_89 20 rfl rfl)
theorem dL_law_2270 : decode cL_law 2270 = .ok (.ifCond .eq 7, 3) := dk_153 0 7 (dk_at dksL_law_89 21 rfl rfl)
theorem dL_law_2273 : decode cL_law 2273 = .ok (.iconst 1, 1) := dk_4 (dk_at dksL_law_90 0 rfl rfl)
theorem dL_law_2274 : decode cL_law 2274 = .ok (.goto 4, 3) := dk_167 0 4 (dk_at dksL_law_90 1 rfl rfl)
theorem dL_law_2277 : decode cL_law 2277 = .ok (.iconst 0, 1) := dk_3 (dk_at dksL_law_90 4 rfl rfl)
theorem dL_law_2278 : decode cL_law 2278 = .ok (.aload_n 3, 1) := dk_45 (dk_at dksL_law_90 5 rfl rfl)
theorem dL_law_2279 : decode cL_law 2279 = .ok (.invokestatic 258, 3) := dk_184 1 2 (dk_at dksL_law_90 6 rfl rfl)
theorem dL_law_2282 : decode cL_law 2282 = .ok (.istore 5, 2) := dk_54 5 (dk_at dksL_law_90 9 rfl rfl)
theorem dL_law_2284 : decode cL_law 2284 = .ok (.aload_n 2, 1) := dk_44 (dk_at dksL_law_90 11 rfl rfl)
theorem dL_law_2285 : decode cL_law 2285 = .ok (.aload_n 0, 1) := dk_42 (dk_at dksL_law_90 12 rfl rfl)
theorem dL_law_2286 : decode cL_law 2286 = .ok (.iload 4, 2) := dk_21 4 (dk_at dksL_law_90 13 rfl rfl)
theorem dL_law_2288 : decode cL_law 2288 = .ok (.iconst 1, 1) := dk_4 (dk_at dksL_law_90 15 rfl rfl)
theorem dL_law_2289 : decode cL_law 2289 = .ok (.iadd, 1) := dk_96 (dk_at dksL_law_90 16 rfl rfl)
theorem dL_law_2290 : decode cL_law 2290 = .ok (.iaload, 1) := dk_46 (dk_at dksL_law_90 17 rfl rfl)
theorem dL_law_2291 : decode cL_law 2291 = .ok (.aload_n 0, 1) := dk_42 (dk_at dksL_law_90 18 rfl rfl)
theorem dL_law_2292 : decode cL_law 2292 = .ok (.iload 4, 2) := dk_21 4 (dk_at dksL_law_90 19 rfl rfl)
theorem dL_law_2294 : decode cL_law 2294 = .ok (.iconst 2, 1) := dk_5 (dk_at dksL_law_90 21 rfl rfl)
theorem dL_law_2295 : decode cL_law 2295 = .ok (.iadd, 1) := dk_96 (dk_at dksL_law_90 22 rfl rfl)
theorem dL_law_2296 : decode cL_law 2296 = .ok (.iaload, 1) := dk_46 (dk_at dksL_law_90 23 rfl rfl)
theorem dL_law_2297 : decode cL_law 2297 = .ok (.ifCond .eq 7, 3) := dk_153 0 7 (dk_at dksL_law_91 0 rfl rfl)
theorem dL_law_2300 : decode cL_law 2300 = .ok (.iconst 1, 1) := dk_4 (dk_at dksL_law_91 3 rfl rfl)
theorem dL_law_2301 : decode cL_law 2301 = .ok (.goto 4, 3) := dk_167 0 4 (dk_at dksL_law_91 4 rfl rfl)
theorem dL_law_2304 : decode cL_law 2304 = .ok (.iconst 0, 1) := dk_3 (dk_at dksL_law_91 7 rfl rfl)
theorem dL_law_2305 : decode cL_law 2305 = .ok (.invokevirtual 261, 3) := dk_182 1 5 (dk_at dksL_law_91 8 rfl rfl)
theorem dL_law_2308 : decode cL_law 2308 = .ok (.istore 6, 2) := dk_54 6 (dk_at dksL_law_91 11 rfl rfl)
theorem dL_law_2310 : decode cL_law 2310 = .ok (.aload_n 2, 1) := dk_44 (dk_at dksL_law_91 13 rfl rfl)
theorem dL_law_2311 : decode cL_law 2311 = .ok (.invokevirtual 155, 3) := dk_182 0 155 (dk_at dksL_law_91 14 rfl rfl)
theorem dL_law_2314 : decode cL_law 2314 = .ok (.iload 5, 2) := dk_21 5 (dk_at dksL_law_91 17 rfl rfl)
theorem dL_law_2316 : decode cL_law 2316 = .ok (.if_icmp .eq 5, 3) := dk_159 0 5 (dk_at dksL_law_91 19 rfl rfl)
theorem dL_law_2319 : decode cL_law 2319 = .ok (.iconst 0, 1) := dk_3 (dk_at dksL_law_91 22 rfl rfl)
theorem dL_law_2320 : decode cL_law 2320 = .ok (.ireturn, 1) := dk_172 (dk_at dksL_law_91 23 rfl rfl)
theorem dL_law_2321 : decode cL_law 2321 = .ok (.iload 5, 2) := dk_21 5 (dk_at dksL_law_92 0 rfl rfl)
theorem dL_law_2323 : decode cL_law 2323 = .ok (.ifCond .ne 15, 3) := dk_154 0 15 (dk_at dksL_law_92 2 rfl rfl)
theorem dL_law_2326 : decode cL_law 2326 = .ok (.aload_n 3, 1) := dk_45 (dk_at dksL_law_92 5 rfl rfl)
theorem dL_law_2327 : decode cL_law 2327 = .ok (.iconst 0, 1) := dk_3 (dk_at dksL_law_92 6 rfl rfl)
theorem dL_law_2328 : decode cL_law 2328 = .ok (.laload, 1) := dk_47 (dk_at dksL_law_92 7 rfl rfl)
theorem dL_law_2329 : decode cL_law 2329 = .ok (.iload 6, 2) := dk_21 6 (dk_at dksL_law_92 8 rfl rfl)
theorem dL_law_2331 : decode cL_law 2331 = .ok (.i2l, 1) := dk_133 (dk_at dksL_law_92 10 rfl rfl)
theorem dL_law_2332 : decode cL_law 2332 = .ok (.lcmp, 1) := dk_148 (dk_at dksL_law_92 11 rfl rfl)
theorem dL_law_2333 : decode cL_law 2333 = .ok (.ifCond .eq 5, 3) := dk_153 0 5 (dk_at dksL_law_92 12 rfl rfl)
theorem dL_law_2336 : decode cL_law 2336 = .ok (.iconst 0, 1) := dk_3 (dk_at dksL_law_92 15 rfl rfl)
theorem dL_law_2337 : decode cL_law 2337 = .ok (.ireturn, 1) := dk_172 (dk_at dksL_law_92 16 rfl rfl)
theorem dL_law_2338 : decode cL_law 2338 = .ok (.goto 642, 3) := dk_167 2 130 (dk_at dksL_law_92 17 rfl rfl)
theorem dL_law_2341 : decode cL_law 2341 = .ok (.aload_n 1, 1) := dk_43 (dk_at dksL_law_92 20 rfl rfl)
theorem dL_law_2342 : decode cL_law 2342 = .ok (.aload_n 0, 1) := dk_42 (dk_at dksL_law_92 21 rfl rfl)
theorem dL_law_2343 : decode cL_law 2343 = .ok (.iload 4, 2) := dk_21 4 (dk_at dksL_law_92 22 rfl rfl)
theorem dL_law_2345 : decode cL_law 2345 = .ok (.iconst 1, 1) := dk_4 (dk_at dksL_law_93 0 rfl rfl)
theorem dL_law_2346 : decode cL_law 2346 = .ok (.iadd, 1) := dk_96 (dk_at dksL_law_93 1 rfl rfl)
theorem dL_law_2347 : decode cL_law 2347 = .ok (.iaload, 1) := dk_46 (dk_at dksL_law_93 2 rfl rfl)
theorem dL_law_2348 : decode cL_law 2348 = .ok (.aload_n 0, 1) := dk_42 (dk_at dksL_law_93 3 rfl rfl)
theorem dL_law_2349 : decode cL_law 2349 = .ok (.iload 4, 2) := dk_21 4 (dk_at dksL_law_93 4 rfl rfl)
theorem dL_law_2351 : decode cL_law 2351 = .ok (.iconst 2, 1) := dk_5 (dk_at dksL_law_93 6 rfl rfl)
theorem dL_law_2352 : decode cL_law 2352 = .ok (.iadd, 1) := dk_96 (dk_at dksL_law_93 7 rfl rfl)
theorem dL_law_2353 : decode cL_law 2353 = .ok (.iaload, 1) := dk_46 (dk_at dksL_law_93 8 rfl rfl)
theorem dL_law_2354 : decode cL_law 2354 = .ok (.ifCond .eq 7, 3) := dk_153 0 7 (dk_at dksL_law_93 9 rfl rfl)
theorem dL_law_2357 : decode cL_law 2357 = .ok (.iconst 1, 1) := dk_4 (dk_at dksL_law_93 12 rfl rfl)
theorem dL_law_2358 : decode cL_law 2358 = .ok (.goto 4, 3) := dk_167 0 4 (dk_at dksL_law_93 13 rfl rfl)
theorem dL_law_2361 : decode cL_law 2361 = .ok (.iconst 0, 1) := dk_3 (dk_at dksL_law_93 16 rfl rfl)
theorem dL_law_2362 : decode cL_law 2362 = .ok (.aload_n 3, 1) := dk_45 (dk_at dksL_law_93 17 rfl rfl)
theorem dL_law_2363 : decode cL_law 2363 = .ok (.invokestatic 262, 3) := dk_184 1 6 (dk_at dksL_law_93 18 rfl rfl)
theorem dL_law_2366 : decode cL_law 2366 = .ok (.istore 5, 2) := dk_54 5 (dk_at dksL_law_93 21 rfl rfl)
theorem dL_law_2368 : decode cL_law 2368 = .ok (.aload_n 2, 1) := dk_44 (dk_at dksL_law_93 23 rfl rfl)
theorem dL_law_2369 : decode cL_law 2369 = .ok (.aload_n 0, 1) := dk_42 (dk_at dksL_law_94 0 rfl rfl)
theorem dL_law_2370 : decode cL_law 2370 = .ok (.iload 4, 2) := dk_21 4 (dk_at dksL_law_94 1 rfl rfl)
theorem dL_law_2372 : decode cL_law 2372 = .ok (.iconst 1, 1) := dk_4 (dk_at dksL_law_94 3 rfl rfl)
theorem dL_law_2373 : decode cL_law 2373 = .ok (.iadd, 1) := dk_96 (dk_at dksL_law_94 4 rfl rfl)
theorem dL_law_2374 : decode cL_law 2374 = .ok (.iaload, 1) := dk_46 (dk_at dksL_law_94 5 rfl rfl)
theorem dL_law_2375 : decode cL_law 2375 = .ok (.aload_n 0, 1) := dk_42 (dk_at dksL_law_94 6 rfl rfl)
theorem dL_law_2376 : decode cL_law 2376 = .ok (.iload 4, 2) := dk_21 4 (dk_at dksL_law_94 7 rfl rfl)
theorem dL_law_2378 : decode cL_law 2378 = .ok (.iconst 2, 1) := dk_5 (dk_at dksL_law_94 9 rfl rfl)
theorem dL_law_2379 : decode cL_law 2379 = .ok (.iadd, 1) := dk_96 (dk_at dksL_law_94 10 rfl rfl)
theorem dL_law_2380 : decode cL_law 2380 = .ok (.iaload, 1) := dk_46 (dk_at dksL_law_94 11 rfl rfl)
theorem dL_law_2381 : decode cL_law 2381 = .ok (.ifCond .eq 7, 3) := dk_153 0 7 (dk_at dksL_law_94 12 rfl rfl)
theorem dL_law_2384 : decode cL_law 2384 = .ok (.iconst 1, 1) := dk_4 (dk_at dksL_law_94 15 rfl rfl)
theorem dL_law_2385 : decode cL_law 2385 = .ok (.goto 4, 3) := dk_167 0 4 (dk_at dksL_law_94 16 rfl rfl)
theorem dL_law_2388 : decode cL_law 2388 = .ok (.iconst 0, 1) := dk_3 (dk_at dksL_law_94 19 rfl rfl)
theorem dL_law_2389 : decode cL_law 2389 = .ok (.invokevirtual 264, 3) := dk_182 1 8 (dk_at dksL_law_94 20 rfl rfl)
theorem dL_law_2392 : decode cL_law 2392 = .ok (.istore 6, 2) := dk_54 6 (dk_at dksL_law_95 0 rfl rfl)
theorem dL_law_2394 : decode cL_law 2394 = .ok (.aload_n 2, 1) := dk_44 (dk_at dksL_law_95 2 rfl rfl)
theorem dL_law_2395 : decode cL_law 2395 = .ok (.invokevirtual 155, 3) := dk_182 0 155 (dk_at dksL_law_95 3 rfl rfl)
theorem dL_law_2398 : decode cL_law 2398 = .ok (.iload 5, 2) := dk_21 5 (dk_at dksL_law_95 6 rfl rfl)
theorem dL_law_2400 : decode cL_law 2400 = .ok (.if_icmp .eq 5, 3) := dk_159 0 5 (dk_at dksL_law_95 8 rfl rfl)
theorem dL_law_2403 : decode cL_law 2403 = .ok (.iconst 0, 1) := dk_3 (dk_at dksL_law_95 11 rfl rfl)
theorem dL_law_2404 : decode cL_law 2404 = .ok (.ireturn, 1) := dk_172 (dk_at dksL_law_95 12 rfl rfl)
theorem dL_law_2405 : decode cL_law 2405 = .ok (.iload 5, 2) := dk_21 5 (dk_at dksL_law_95 13 rfl rfl)
theorem dL_law_2407 : decode cL_law 2407 = .ok (.ifCond .ne 15, 3) := dk_154 0 15 (dk_at dksL_law_95 15 rfl rfl)
theorem dL_law_2410 : decode cL_law 2410 = .ok (.aload_n 3, 1) := dk_45 (dk_at dksL_law_95 18 rfl rfl)
theorem dL_law_2411 : decode cL_law 2411 = .ok (.iconst 0, 1) := dk_3 (dk_at dksL_law_95 19 rfl rfl)
theorem dL_law_2412 : decode cL_law 2412 = .ok (.laload, 1) := dk_47 (dk_at dksL_law_95 20 rfl rfl)
theorem dL_law_2413 : decode cL_law 2413 = .ok (.iload 6, 2) := dk_21 6 (dk_at dksL_law_95 21 rfl rfl)
theorem dL_law_2415 : decode cL_law 2415 = .ok (.i2l, 1) := dk_133 (dk_at dksL_law_95 23 rfl rfl)
theorem dL_law_2416 : decode cL_law 2416 = .ok (.lcmp, 1) := dk_148 (dk_at dksL_law_96 0 rfl rfl)
theorem dL_law_2417 : decode cL_law 2417 = .ok (.ifCond .eq 5, 3) := dk_153 0 5 (dk_at dksL_law_96 1 rfl rfl)
theorem dL_law_2420 : decode cL_law 2420 = .ok (.iconst 0, 1) := dk_3 (dk_at dksL_law_96 4 rfl rfl)
theorem dL_law_2421 : decode cL_law 2421 = .ok (.ireturn, 1) := dk_172 (dk_at dksL_law_96 5 rfl rfl)
theorem dL_law_2422 : decode cL_law 2422 = .ok (.goto 558, 3) := dk_167 2 46 (dk_at dksL_law_96 6 rfl rfl)
theorem dL_law_2425 : decode cL_law 2425 = .ok (.aload_n 1, 1) := dk_43 (dk_at dksL_law_96 9 rfl rfl)
theorem dL_law_2426 : decode cL_law 2426 = .ok (.aload_n 0, 1) := dk_42 (dk_at dksL_law_96 10 rfl rfl)
theorem dL_law_2427 : decode cL_law 2427 = .ok (.iload 4, 2) := dk_21 4 (dk_at dksL_law_96 11 rfl rfl)
theorem dL_law_2429 : decode cL_law 2429 = .ok (.iconst 1, 1) := dk_4 (dk_at dksL_law_96 13 rfl rfl)
theorem dL_law_2430 : decode cL_law 2430 = .ok (.iadd, 1) := dk_96 (dk_at dksL_law_96 14 rfl rfl)
theorem dL_law_2431 : decode cL_law 2431 = .ok (.iaload, 1) := dk_46 (dk_at dksL_law_96 15 rfl rfl)
theorem dL_law_2432 : decode cL_law 2432 = .ok (.aload_n 0, 1) := dk_42 (dk_at dksL_law_96 16 rfl rfl)
theorem dL_law_2433 : decode cL_law 2433 = .ok (.iload 4, 2) := dk_21 4 (dk_at dksL_law_96 17 rfl rfl)
theorem dL_law_2435 : decode cL_law 2435 = .ok (.iconst 2, 1) := dk_5 (dk_at dksL_law_96 19 rfl rfl)
theorem dL_law_2436 : decode cL_law 2436 = .ok (.iadd, 1) := dk_96 (dk_at dksL_law_96 20 rfl rfl)
theorem dL_law_2437 : decode cL_law 2437 = .ok (.iaload, 1) := dk_46 (dk_at dksL_law_96 21 rfl rfl)
theorem dL_law_2438 : decode cL_law 2438 = .ok (.aload_n 3, 1) := dk_45 (dk_at dksL_law_96 22 rfl rfl)
theorem dL_law_2439 : decode cL_law 2439 = .ok (.invokestatic 265, 3) := dk_184 1 9 (dk_at dksL_law_97 0 rfl rfl)
theorem dL_law_2442 : decode cL_law 2442 = .ok (.istore 5, 2) := dk_54 5 (dk_at dksL_law_97 3 rfl rfl)
theorem dL_law_2444 : decode cL_law 2444 = .ok (.aload_n 2, 1) := dk_44 (dk_at dksL_law_97 5 rfl rfl)
theorem dL_law_2445 : decode cL_law 2445 = .ok (.aload_n 0, 1) := dk_42 (dk_at dksL_law_97 6 rfl rfl)
theorem dL_law_2446 : decode cL_law 2446 = .ok (.iload 4, 2) := dk_21 4 (dk_at dksL_law_97 7 rfl rfl)
theorem dL_law_2448 : decode cL_law 2448 = .ok (.iconst 1, 1) := dk_4 (dk_at dksL_law_97 9 rfl rfl)
theorem dL_law_2449 : decode cL_law 2449 = .ok (.iadd, 1) := dk_96 (dk_at dksL_law_97 10 rfl rfl)
theorem dL_law_2450 : decode cL_law 2450 = .ok (.iaload, 1) := dk_46 (dk_at dksL_law_97 11 rfl rfl)
theorem dL_law_2451 : decode cL_law 2451 = .ok (.aload_n 0, 1) := dk_42 (dk_at dksL_law_97 12 rfl rfl)
theorem dL_law_2452 : decode cL_law 2452 = .ok (.iload 4, 2) := dk_21 4 (dk_at dksL_law_97 13 rfl rfl)
theorem dL_law_2454 : decode cL_law 2454 = .ok (.iconst 2, 1) := dk_5 (dk_at dksL_law_97 15 rfl rfl)
theorem dL_law_2455 : decode cL_law 2455 = .ok (.iadd, 1) := dk_96 (dk_at dksL_law_97 16 rfl rfl)
theorem dL_law_2456 : decode cL_law 2456 = .ok (.iaload, 1) := dk_46 (dk_at dksL_law_97 17 rfl rfl)
theorem dL_law_2457 : decode cL_law 2457 = .ok (.invokevirtual 267, 3) := dk_182 1 11 (dk_at dksL_law_97 18 rfl rfl)
theorem dL_law_2460 : decode cL_law 2460 = .ok (.istore 6, 2) := dk_54 6 (dk_at dksL_law_97 21 rfl rfl)
theorem dL_law_2462 : decode cL_law 2462 = .ok (.aload_n 2, 1) := dk_44 (dk_at dksL_law_97 23 rfl rfl)
theorem dL_law_2463 : decode cL_law 2463 = .ok (.invokevirtual 155, 3) := dk_182 0 155 (dk_at dksL_law_98 0 rfl rfl)
theorem dL_law_2466 : decode cL_law 2466 = .ok (.iload 5, 2) := dk_21 5 (dk_at dksL_law_98 3 rfl rfl)
theorem dL_law_2468 : decode cL_law 2468 = .ok (.if_icmp .eq 5, 3) := dk_159 0 5 (dk_at dksL_law_98 5 rfl rfl)
theorem dL_law_2471 : decode cL_law 2471 = .ok (.iconst 0, 1) := dk_3 (dk_at dksL_law_98 8 rfl rfl)
theorem dL_law_2472 : decode cL_law 2472 = .ok (.ireturn, 1) := dk_172 (dk_at dksL_law_98 9 rfl rfl)
theorem dL_law_2473 : decode cL_law 2473 = .ok (.iload 5, 2) := dk_21 5 (dk_at dksL_law_98 10 rfl rfl)
theorem dL_law_2475 : decode cL_law 2475 = .ok (.ifCond .ne 15, 3) := dk_154 0 15 (dk_at dksL_law_98 12 rfl rfl)
theorem dL_law_2478 : decode cL_law 2478 = .ok (.aload_n 3, 1) := dk_45 (dk_at dksL_law_98 15 rfl rfl)
theorem dL_law_2479 : decode cL_law 2479 = .ok (.iconst 0, 1) := dk_3 (dk_at dksL_law_98 16 rfl rfl)
theorem dL_law_2480 : decode cL_law 2480 = .ok (.laload, 1) := dk_47 (dk_at dksL_law_98 17 rfl rfl)
theorem dL_law_2481 : decode cL_law 2481 = .ok (.iload 6, 2) := dk_21 6 (dk_at dksL_law_98 18 rfl rfl)
theorem dL_law_2483 : decode cL_law 2483 = .ok (.i2l, 1) := dk_133 (dk_at dksL_law_98 20 rfl rfl)
theorem dL_law_2484 : decode cL_law 2484 = .ok (.lcmp, 1) := dk_148 (dk_at dksL_law_98 21 rfl rfl)
theorem dL_law_2485 : decode cL_law 2485 = .ok (.ifCond .eq 5, 3) := dk_153 0 5 (dk_at dksL_law_99 0 rfl rfl)
theorem dL_law_2488 : decode cL_law 2488 = .ok (.iconst 0, 1) := dk_3 (dk_at dksL_law_99 3 rfl rfl)
theorem dL_law_2489 : decode cL_law 2489 = .ok (.ireturn, 1) := dk_172 (dk_at dksL_law_99 4 rfl rfl)
theorem dL_law_2490 : decode cL_law 2490 = .ok (.goto 490, 3) := dk_167 1 234 (dk_at dksL_law_99 5 rfl rfl)
theorem dL_law_2493 : decode cL_law 2493 = .ok (.aload_n 1, 1) := dk_43 (dk_at dksL_law_99 8 rfl rfl)
theorem dL_law_2494 : decode cL_law 2494 = .ok (.aload_n 0, 1) := dk_42 (dk_at dksL_law_99 9 rfl rfl)
theorem dL_law_2495 : decode cL_law 2495 = .ok (.iload 4, 2) := dk_21 4 (dk_at dksL_law_99 10 rfl rfl)
theorem dL_law_2497 : decode cL_law 2497 = .ok (.iconst 1, 1) := dk_4 (dk_at dksL_law_99 12 rfl rfl)
theorem dL_law_2498 : decode cL_law 2498 = .ok (.iadd, 1) := dk_96 (dk_at dksL_law_99 13 rfl rfl)
theorem dL_law_2499 : decode cL_law 2499 = .ok (.iaload, 1) := dk_46 (dk_at dksL_law_99 14 rfl rfl)
theorem dL_law_2500 : decode cL_law 2500 = .ok (.aload_n 3, 1) := dk_45 (dk_at dksL_law_99 15 rfl rfl)
theorem dL_law_2501 : decode cL_law 2501 = .ok (.invokestatic 268, 3) := dk_184 1 12 (dk_at dksL_law_99 16 rfl rfl)
theorem dL_law_2504 : decode cL_law 2504 = .ok (.istore 5, 2) := dk_54 5 (dk_at dksL_law_99 19 rfl rfl)
theorem dL_law_2506 : decode cL_law 2506 = .ok (.aload_n 2, 1) := dk_44 (dk_at dksL_law_99 21 rfl rfl)
theorem dL_law_2507 : decode cL_law 2507 = .ok (.aload_n 0, 1) := dk_42 (dk_at dksL_law_99 22 rfl rfl)
theorem dL_law_2508 : decode cL_law 2508 = .ok (.iload 4, 2) := dk_21 4 (dk_at dksL_law_100 0 rfl rfl)
theorem dL_law_2510 : decode cL_law 2510 = .ok (.iconst 1, 1) := dk_4 (dk_at dksL_law_100 2 rfl rfl)
theorem dL_law_2511 : decode cL_law 2511 = .ok (.iadd, 1) := dk_96 (dk_at dksL_law_100 3 rfl rfl)
theorem dL_law_2512 : decode cL_law 2512 = .ok (.iaload, 1) := dk_46 (dk_at dksL_law_100 4 rfl rfl)
theorem dL_law_2513 : decode cL_law 2513 = .ok (.invokevirtual 270, 3) := dk_182 1 14 (dk_at dksL_law_100 5 rfl rfl)
theorem dL_law_2516 : decode cL_law 2516 = .ok (.istore 6, 2) := dk_54 6 (dk_at dksL_law_100 8 rfl rfl)
theorem dL_law_2518 : decode cL_law 2518 = .ok (.aload_n 2, 1) := dk_44 (dk_at dksL_law_100 10 rfl rfl)
theorem dL_law_2519 : decode cL_law 2519 = .ok (.invokevirtual 155, 3) := dk_182 0 155 (dk_at dksL_law_100 11 rfl rfl)
theorem dL_law_2522 : decode cL_law 2522 = .ok (.iload 5, 2) := dk_21 5 (dk_at dksL_law_100 14 rfl rfl)
theorem dL_law_2524 : decode cL_law 2524 = .ok (.if_icmp .eq 5, 3) := dk_159 0 5 (dk_at dksL_law_100 16 rfl rfl)
theorem dL_law_2527 : decode cL_law 2527 = .ok (.iconst 0, 1) := dk_3 (dk_at dksL_law_100 19 rfl rfl)
theorem dL_law_2528 : decode cL_law 2528 = .ok (.ireturn, 1) := dk_172 (dk_at dksL_law_100 20 rfl rfl)
theorem dL_law_2529 : decode cL_law 2529 = .ok (.iload 5, 2) := dk_21 5 (dk_at dksL_law_100 21 rfl rfl)
theorem dL_law_2531 : decode cL_law 2531 = .ok (.ifCond .ne 15, 3) := dk_154 0 15 (dk_at dksL_law_101 0 rfl rfl)
theorem dL_law_2534 : decode cL_law 2534 = .ok (.aload_n 3, 1) := dk_45 (dk_at dksL_law_101 3 rfl rfl)
theorem dL_law_2535 : decode cL_law 2535 = .ok (.iconst 0, 1) := dk_3 (dk_at dksL_law_101 4 rfl rfl)
theorem dL_law_2536 : decode cL_law 2536 = .ok (.laload, 1) := dk_47 (dk_at dksL_law_101 5 rfl rfl)
theorem dL_law_2537 : decode cL_law 2537 = .ok (.iload 6, 2) := dk_21 6 (dk_at dksL_law_101 6 rfl rfl)
theorem dL_law_2539 : decode cL_law 2539 = .ok (.i2l, 1) := dk_133 (dk_at dksL_law_101 8 rfl rfl)
theorem dL_law_2540 : decode cL_law 2540 = .ok (.lcmp, 1) := dk_148 (dk_at dksL_law_101 9 rfl rfl)
theorem dL_law_2541 : decode cL_law 2541 = .ok (.ifCond .eq 5, 3) := dk_153 0 5 (dk_at dksL_law_101 10 rfl rfl)
theorem dL_law_2544 : decode cL_law 2544 = .ok (.iconst 0, 1) := dk_3 (dk_at dksL_law_101 13 rfl rfl)
theorem dL_law_2545 : decode cL_law 2545 = .ok (.ireturn, 1) := dk_172 (dk_at dksL_law_101 14 rfl rfl)
theorem dL_law_2546 : decode cL_law 2546 = .ok (.goto 434, 3) := dk_167 1 178 (dk_at dksL_law_101 15 rfl rfl)
theorem dL_law_2549 : decode cL_law 2549 = .ok (.aload_n 1, 1) := dk_43 (dk_at dksL_law_101 18 rfl rfl)
theorem dL_law_2550 : decode cL_law 2550 = .ok (.aload_n 0, 1) := dk_42 (dk_at dksL_law_101 19 rfl rfl)
theorem dL_law_2551 : decode cL_law 2551 = .ok (.iload 4, 2) := dk_21 4 (dk_at dksL_law_101 20 rfl rfl)
theorem dL_law_2553 : decode cL_law 2553 = .ok (.iconst 1, 1) := dk_4 (dk_at dksL_law_101 22 rfl rfl)
theorem dL_law_2554 : decode cL_law 2554 = .ok (.iadd, 1) := dk_96 (dk_at dksL_law_101 23 rfl rfl)
theorem dL_law_2555 : decode cL_law 2555 = .ok (.iaload, 1) := dk_46 (dk_at dksL_law_102 0 rfl rfl)
theorem dL_law_2556 : decode cL_law 2556 = .ok (.invokevirtual 271, 3) := dk_182 1 15 (dk_at dksL_law_102 1 rfl rfl)
theorem dL_law_2559 : decode cL_law 2559 = .ok (.aload_n 2, 1) := dk_44 (dk_at dksL_law_102 4 rfl rfl)
theorem dL_law_2560 : decode cL_law 2560 = .ok (.aload_n 0, 1) := dk_42 (dk_at dksL_law_102 5 rfl rfl)
theorem dL_law_2561 : decode cL_law 2561 = .ok (.iload 4, 2) := dk_21 4 (dk_at dksL_law_102 6 rfl rfl)
theorem dL_law_2563 : decode cL_law 2563 = .ok (.iconst 1, 1) := dk_4 (dk_at dksL_law_102 8 rfl rfl)
theorem dL_law_2564 : decode cL_law 2564 = .ok (.iadd, 1) := dk_96 (dk_at dksL_law_102 9 rfl rfl)
theorem dL_law_2565 : decode cL_law 2565 = .ok (.iaload, 1) := dk_46 (dk_at dksL_law_102 10 rfl rfl)
theorem dL_law_2566 : decode cL_law 2566 = .ok (.invokevirtual 274, 3) := dk_182 1 18 (dk_at dksL_law_102 11 rfl rfl)
theorem dL_law_2569 : decode cL_law 2569 = .ok (.if_icmp .eq 411, 3) := dk_159 1 155 (dk_at dksL_law_102 14 rfl rfl)
theorem dL_law_2572 : decode cL_law 2572 = .ok (.iconst 0, 1) := dk_3 (dk_at dksL_law_102 17 rfl rfl)
theorem dL_law_2573 : decode cL_law 2573 = .ok (.ireturn, 1) := dk_172 (dk_at dksL_law_102 18 rfl rfl)
theorem dL_law_2574 : decode cL_law 2574 = .ok (.aload_n 1, 1) := dk_43 (dk_at dksL_law_102 19 rfl rfl)
theorem dL_law_2575 : decode cL_law 2575 = .ok (.aload_n 0, 1) := dk_42 (dk_at dksL_law_102 20 rfl rfl)
theorem dL_law_2576 : decode cL_law 2576 = .ok (.iload 4, 2) := dk_21 4 (dk_at dksL_law_102 21 rfl rfl)
theorem dL_law_2578 : decode cL_law 2578 = .ok (.iconst 1, 1) := dk_4 (dk_at dksL_law_102 23 rfl rfl)
theorem dL_law_2579 : decode cL_law 2579 = .ok (.iadd, 1) := dk_96 (dk_at dksL_law_103 0 rfl rfl)
theorem dL_law_2580 : decode cL_law 2580 = .ok (.iaload, 1) := dk_46 (dk_at dksL_law_103 1 rfl rfl)
theorem dL_law_2581 : decode cL_law 2581 = .ok (.aload_n 0, 1) := dk_42 (dk_at dksL_law_103 2 rfl rfl)
theorem dL_law_2582 : decode cL_law 2582 = .ok (.iload 4, 2) := dk_21 4 (dk_at dksL_law_103 3 rfl rfl)
theorem dL_law_2584 : decode cL_law 2584 = .ok (.iconst 2, 1) := dk_5 (dk_at dksL_law_103 5 rfl rfl)
theorem dL_law_2585 : decode cL_law 2585 = .ok (.iadd, 1) := dk_96 (dk_at dksL_law_103 6 rfl rfl)
theorem dL_law_2586 : decode cL_law 2586 = .ok (.iaload, 1) := dk_46 (dk_at dksL_law_103 7 rfl rfl)
theorem dL_law_2587 : decode cL_law 2587 = .ok (.ifCond .eq 7, 3) := dk_153 0 7 (dk_at dksL_law_103 8 rfl rfl)
theorem dL_law_2590 : decode cL_law 2590 = .ok (.iconst 1, 1) := dk_4 (dk_at dksL_law_103 11 rfl rfl)
theorem dL_law_2591 : decode cL_law 2591 = .ok (.goto 4, 3) := dk_167 0 4 (dk_at dksL_law_103 12 rfl rfl)
theorem dL_law_2594 : decode cL_law 2594 = .ok (.iconst 0, 1) := dk_3 (dk_at dksL_law_103 15 rfl rfl)
theorem dL_law_2595 : decode cL_law 2595 = .ok (.aload_n 3, 1) := dk_45 (dk_at dksL_law_103 16 rfl rfl)
theorem dL_law_2596 : decode cL_law 2596 = .ok (.invokestatic 275, 3) := dk_184 1 19 (dk_at dksL_law_103 17 rfl rfl)
theorem dL_law_2599 : decode cL_law 2599 = .ok (.istore 5, 2) := dk_54 5 (dk_at dksL_law_103 20 rfl rfl)
theorem dL_law_2601 : decode cL_law 2601 = .ok (.aload_n 2, 1) := dk_44 (dk_at dksL_law_103 22 rfl rfl)
theorem dL_law_2602 : decode cL_law 2602 = .ok (.aload_n 0, 1) := dk_42 (dk_at dksL_law_103 23 rfl rfl)
theorem dL_law_2603 : decode cL_law 2603 = .ok (.iload 4, 2) := dk_21 4 (dk_at dksL_law_104 0 rfl rfl)
theorem dL_law_2605 : decode cL_law 2605 = .ok (.iconst 1, 1) := dk_4 (dk_at dksL_law_104 2 rfl rfl)
theorem dL_law_2606 : decode cL_law 2606 = .ok (.iadd, 1) := dk_96 (dk_at dksL_law_104 3 rfl rfl)
theorem dL_law_2607 : decode cL_law 2607 = .ok (.iaload, 1) := dk_46 (dk_at dksL_law_104 4 rfl rfl)
theorem dL_law_2608 : decode cL_law 2608 = .ok (.aload_n 0, 1) := dk_42 (dk_at dksL_law_104 5 rfl rfl)
theorem dL_law_2609 : decode cL_law 2609 = .ok (.iload 4, 2) := dk_21 4 (dk_at dksL_law_104 6 rfl rfl)
theorem dL_law_2611 : decode cL_law 2611 = .ok (.iconst 2, 1) := dk_5 (dk_at dksL_law_104 8 rfl rfl)
theorem dL_law_2612 : decode cL_law 2612 = .ok (.iadd, 1) := dk_96 (dk_at dksL_law_104 9 rfl rfl)
theorem dL_law_2613 : decode cL_law 2613 = .ok (.iaload, 1) := dk_46 (dk_at dksL_law_104 10 rfl rfl)
theorem dL_law_2614 : decode cL_law 2614 = .ok (.ifCond .eq 7, 3) := dk_153 0 7 (dk_at dksL_law_104 11 rfl rfl)
theorem dL_law_2617 : decode cL_law 2617 = .ok (.iconst 1, 1) := dk_4 (dk_at dksL_law_104 14 rfl rfl)
theorem dL_law_2618 : decode cL_law 2618 = .ok (.goto 4, 3) := dk_167 0 4 (dk_at dksL_law_104 15 rfl rfl)
theorem dL_law_2621 : decode cL_law 2621 = .ok (.iconst 0, 1) := dk_3 (dk_at dksL_law_104 18 rfl rfl)
theorem dL_law_2622 : decode cL_law 2622 = .ok (.invokevirtual 277, 3) := dk_182 1 21 (dk_at dksL_law_104 19 rfl rfl)
theorem dL_law_2625 : decode cL_law 2625 = .ok (.istore 6, 2) := dk_54 6 (dk_at dksL_law_104 22 rfl rfl)
theorem dL_law_2627 : decode cL_law 2627 = .ok (.aload_n 2, 1) := dk_44 (dk_at dksL_law_105 0 rfl rfl)
theorem dL_law_2628 : decode cL_law 2628 = .ok (.invokevirtual 155, 3) := dk_182 0 155 (dk_at dksL_law_105 1 rfl rfl)
theorem dL_law_2631 : decode cL_law 2631 = .ok (.iload 5, 2) := dk_21 5 (dk_at dksL_law_105 4 rfl rfl)
theorem dL_law_2633 : decode cL_law 2633 = .ok (.if_icmp .eq 5, 3) := dk_159 0 5 (dk_at dksL_law_105 6 rfl rfl)
theorem dL_law_2636 : decode cL_law 2636 = .ok (.iconst 0, 1) := dk_3 (dk_at dksL_law_105 9 rfl rfl)
theorem dL_law_2637 : decode cL_law 2637 = .ok (.ireturn, 1) := dk_172 (dk_at dksL_law_105 10 rfl rfl)
theorem dL_law_2638 : decode cL_law 2638 = .ok (.iload 5, 2) := dk_21 5 (dk_at dksL_law_105 11 rfl rfl)
theorem dL_law_2640 : decode cL_law 2640 = .ok (.ifCond .ne 15, 3) := dk_154 0 15 (dk_at dksL_law_105 13 rfl rfl)
theorem dL_law_2643 : decode cL_law 2643 = .ok (.aload_n 3, 1) := dk_45 (dk_at dksL_law_105 16 rfl rfl)
theorem dL_law_2644 : decode cL_law 2644 = .ok (.iconst 0, 1) := dk_3 (dk_at dksL_law_105 17 rfl rfl)
theorem dL_law_2645 : decode cL_law 2645 = .ok (.laload, 1) := dk_47 (dk_at dksL_law_105 18 rfl rfl)
theorem dL_law_2646 : decode cL_law 2646 = .ok (.iload 6, 2) := dk_21 6 (dk_at dksL_law_105 19 rfl rfl)
theorem dL_law_2648 : decode cL_law 2648 = .ok (.i2l, 1) := dk_133 (dk_at dksL_law_105 21 rfl rfl)
theorem dL_law_2649 : decode cL_law 2649 = .ok (.lcmp, 1) := dk_148 (dk_at dksL_law_105 22 rfl rfl)
theorem dL_law_2650 : decode cL_law 2650 = .ok (.ifCond .eq 5, 3) := dk_153 0 5 (dk_at dksL_law_106 0 rfl rfl)
theorem dL_law_2653 : decode cL_law 2653 = .ok (.iconst 0, 1) := dk_3 (dk_at dksL_law_106 3 rfl rfl)
theorem dL_law_2654 : decode cL_law 2654 = .ok (.ireturn, 1) := dk_172 (dk_at dksL_law_106 4 rfl rfl)
theorem dL_law_2655 : decode cL_law 2655 = .ok (.goto 325, 3) := dk_167 1 69 (dk_at dksL_law_106 5 rfl rfl)
theorem dL_law_2658 : decode cL_law 2658 = .ok (.aload_n 1, 1) := dk_43 (dk_at dksL_law_106 8 rfl rfl)
theorem dL_law_2659 : decode cL_law 2659 = .ok (.aload_n 0, 1) := dk_42 (dk_at dksL_law_106 9 rfl rfl)
theorem dL_law_2660 : decode cL_law 2660 = .ok (.iload 4, 2) := dk_21 4 (dk_at dksL_law_106 10 rfl rfl)
theorem dL_law_2662 : decode cL_law 2662 = .ok (.iconst 1, 1) := dk_4 (dk_at dksL_law_106 12 rfl rfl)
theorem dL_law_2663 : decode cL_law 2663 = .ok (.iadd, 1) := dk_96 (dk_at dksL_law_106 13 rfl rfl)
theorem dL_law_2664 : decode cL_law 2664 = .ok (.iaload, 1) := dk_46 (dk_at dksL_law_106 14 rfl rfl)
theorem dL_law_2665 : decode cL_law 2665 = .ok (.aload_n 0, 1) := dk_42 (dk_at dksL_law_106 15 rfl rfl)
theorem dL_law_2666 : decode cL_law 2666 = .ok (.iload 4, 2) := dk_21 4 (dk_at dksL_law_106 16 rfl rfl)
theorem dL_law_2668 : decode cL_law 2668 = .ok (.iconst 2, 1) := dk_5 (dk_at dksL_law_106 18 rfl rfl)
theorem dL_law_2669 : decode cL_law 2669 = .ok (.iadd, 1) := dk_96 (dk_at dksL_law_106 19 rfl rfl)
theorem dL_law_2670 : decode cL_law 2670 = .ok (.iaload, 1) := dk_46 (dk_at dksL_law_106 20 rfl rfl)
theorem dL_law_2671 : decode cL_law 2671 = .ok (.aload_n 3, 1) := dk_45 (dk_at dksL_law_106 21 rfl rfl)
theorem dL_law_2672 : decode cL_law 2672 = .ok (.invokestatic 278, 3) := dk_184 1 22 (dk_at dksL_law_107 0 rfl rfl)
theorem dL_law_2675 : decode cL_law 2675 = .ok (.istore 5, 2) := dk_54 5 (dk_at dksL_law_107 3 rfl rfl)
theorem dL_law_2677 : decode cL_law 2677 = .ok (.aload_n 2, 1) := dk_44 (dk_at dksL_law_107 5 rfl rfl)
theorem dL_law_2678 : decode cL_law 2678 = .ok (.aload_n 0, 1) := dk_42 (dk_at dksL_law_107 6 rfl rfl)
theorem dL_law_2679 : decode cL_law 2679 = .ok (.iload 4, 2) := dk_21 4 (dk_at dksL_law_107 7 rfl rfl)
theorem dL_law_2681 : decode cL_law 2681 = .ok (.iconst 1, 1) := dk_4 (dk_at dksL_law_107 9 rfl rfl)
theorem dL_law_2682 : decode cL_law 2682 = .ok (.iadd, 1) := dk_96 (dk_at dksL_law_107 10 rfl rfl)
theorem dL_law_2683 : decode cL_law 2683 = .ok (.iaload, 1) := dk_46 (dk_at dksL_law_107 11 rfl rfl)
theorem dL_law_2684 : decode cL_law 2684 = .ok (.aload_n 0, 1) := dk_42 (dk_at dksL_law_107 12 rfl rfl)
theorem dL_law_2685 : decode cL_law 2685 = .ok (.iload 4, 2) := dk_21 4 (dk_at dksL_law_107 13 rfl rfl)
theorem dL_law_2687 : decode cL_law 2687 = .ok (.iconst 2, 1) := dk_5 (dk_at dksL_law_107 15 rfl rfl)
theorem dL_law_2688 : decode cL_law 2688 = .ok (.iadd, 1) := dk_96 (dk_at dksL_law_107 16 rfl rfl)
theorem dL_law_2689 : decode cL_law 2689 = .ok (.iaload, 1) := dk_46 (dk_at dksL_law_107 17 rfl rfl)
theorem dL_law_2690 : decode cL_law 2690 = .ok (.invokevirtual 280, 3) := dk_182 1 24 (dk_at dksL_law_107 18 rfl rfl)
theorem dL_law_2693 : decode cL_law 2693 = .ok (.istore 6, 2) := dk_54 6 (dk_at dksL_law_107 21 rfl rfl)
theorem dL_law_2695 : decode cL_law 2695 = .ok (.aload_n 2, 1) := dk_44 (dk_at dksL_law_107 23 rfl rfl)
theorem dL_law_2696 : decode cL_law 2696 = .ok (.invokevirtual 155, 3) := dk_182 0 155 (dk_at dksL_law_108 0 rfl rfl)
theorem dL_law_2699 : decode cL_law 2699 = .ok (.iload 5, 2) := dk_21 5 (dk_at dksL_law_108 3 rfl rfl)
theorem dL_law_2701 : decode cL_law 2701 = .ok (.if_icmp .eq 5, 3) := dk_159 0 5 (dk_at dksL_law_108 5 rfl rfl)
theorem dL_law_2704 : decode cL_law 2704 = .ok (.iconst 0, 1) := dk_3 (dk_at dksL_law_108 8 rfl rfl)
theorem dL_law_2705 : decode cL_law 2705 = .ok (.ireturn, 1) := dk_172 (dk_at dksL_law_108 9 rfl rfl)
theorem dL_law_2706 : decode cL_law 2706 = .ok (.iload 5, 2) := dk_21 5 (dk_at dksL_law_108 10 rfl rfl)
theorem dL_law_2708 : decode cL_law 2708 = .ok (.ifCond .ne 15, 3) := dk_154 0 15 (dk_at dksL_law_108 12 rfl rfl)
theorem dL_law_2711 : decode cL_law 2711 = .ok (.aload_n 3, 1) := dk_45 (dk_at dksL_law_108 15 rfl rfl)
theorem dL_law_2712 : decode cL_law 2712 = .ok (.iconst 0, 1) := dk_3 (dk_at dksL_law_108 16 rfl rfl)
theorem dL_law_2713 : decode cL_law 2713 = .ok (.laload, 1) := dk_47 (dk_at dksL_law_108 17 rfl rfl)
theorem dL_law_2714 : decode cL_law 2714 = .ok (.iload 6, 2) := dk_21 6 (dk_at dksL_law_108 18 rfl rfl)
theorem dL_law_2716 : decode cL_law 2716 = .ok (.i2l, 1) := dk_133 (dk_at dksL_law_108 20 rfl rfl)
theorem dL_law_2717 : decode cL_law 2717 = .ok (.lcmp, 1) := dk_148 (dk_at dksL_law_108 21 rfl rfl)
theorem dL_law_2718 : decode cL_law 2718 = .ok (.ifCond .eq 5, 3) := dk_153 0 5 (dk_at dksL_law_109 0 rfl rfl)
theorem dL_law_2721 : decode cL_law 2721 = .ok (.iconst 0, 1) := dk_3 (dk_at dksL_law_109 3 rfl rfl)
theorem dL_law_2722 : decode cL_law 2722 = .ok (.ireturn, 1) := dk_172 (dk_at dksL_law_109 4 rfl rfl)
theorem dL_law_2723 : decode cL_law 2723 = .ok (.goto 257, 3) := dk_167 1 1 (dk_at dksL_law_109 5 rfl rfl)
theorem dL_law_2726 : decode cL_law 2726 = .ok (.aload_n 1, 1) := dk_43 (dk_at dksL_law_109 8 rfl rfl)
theorem dL_law_2727 : decode cL_law 2727 = .ok (.aload_n 0, 1) := dk_42 (dk_at dksL_law_109 9 rfl rfl)
theorem dL_law_2728 : decode cL_law 2728 = .ok (.iload 4, 2) := dk_21 4 (dk_at dksL_law_109 10 rfl rfl)
theorem dL_law_2730 : decode cL_law 2730 = .ok (.iconst 1, 1) := dk_4 (dk_at dksL_law_109 12 rfl rfl)
theorem dL_law_2731 : decode cL_law 2731 = .ok (.iadd, 1) := dk_96 (dk_at dksL_law_109 13 rfl rfl)
theorem dL_law_2732 : decode cL_law 2732 = .ok (.iaload, 1) := dk_46 (dk_at dksL_law_109 14 rfl rfl)
theorem dL_law_2733 : decode cL_law 2733 = .ok (.aload_n 0, 1) := dk_42 (dk_at dksL_law_109 15 rfl rfl)
theorem dL_law_2734 : decode cL_law 2734 = .ok (.iload 4, 2) := dk_21 4 (dk_at dksL_law_109 16 rfl rfl)
theorem dL_law_2736 : decode cL_law 2736 = .ok (.iconst 2, 1) := dk_5 (dk_at dksL_law_109 18 rfl rfl)
theorem dL_law_2737 : decode cL_law 2737 = .ok (.iadd, 1) := dk_96 (dk_at dksL_law_109 19 rfl rfl)
theorem dL_law_2738 : decode cL_law 2738 = .ok (.iaload, 1) := dk_46 (dk_at dksL_law_109 20 rfl rfl)
theorem dL_law_2739 : decode cL_law 2739 = .ok (.aload_n 3, 1) := dk_45 (dk_at dksL_law_109 21 rfl rfl)
theorem dL_law_2740 : decode cL_law 2740 = .ok (.invokestatic 281, 3) := dk_184 1 25 (dk_at dksL_law_110 0 rfl rfl)
theorem dL_law_2743 : decode cL_law 2743 = .ok (.istore 5, 2) := dk_54 5 (dk_at dksL_law_110 3 rfl rfl)
theorem dL_law_2745 : decode cL_law 2745 = .ok (.aload_n 2, 1) := dk_44 (dk_at dksL_law_110 5 rfl rfl)
theorem dL_law_2746 : decode cL_law 2746 = .ok (.aload_n 0, 1) := dk_42 (dk_at dksL_law_110 6 rfl rfl)
theorem dL_law_2747 : decode cL_law 2747 = .ok (.iload 4, 2) := dk_21 4 (dk_at dksL_law_110 7 rfl rfl)
theorem dL_law_2749 : decode cL_law 2749 = .ok (.iconst 1, 1) := dk_4 (dk_at dksL_law_110 9 rfl rfl)
theorem dL_law_2750 : decode cL_law 2750 = .ok (.iadd, 1) := dk_96 (dk_at dksL_law_110 10 rfl rfl)
theorem dL_law_2751 : decode cL_law 2751 = .ok (.iaload, 1) := dk_46 (dk_at dksL_law_110 11 rfl rfl)
theorem dL_law_2752 : decode cL_law 2752 = .ok (.aload_n 0, 1) := dk_42 (dk_at dksL_law_110 12 rfl rfl)
theorem dL_law_2753 : decode cL_law 2753 = .ok (.iload 4, 2) := dk_21 4 (dk_at dksL_law_110 13 rfl rfl)
theorem dL_law_2755 : decode cL_law 2755 = .ok (.iconst 2, 1) := dk_5 (dk_at dksL_law_110 15 rfl rfl)
theorem dL_law_2756 : decode cL_law 2756 = .ok (.iadd, 1) := dk_96 (dk_at dksL_law_110 16 rfl rfl)
theorem dL_law_2757 : decode cL_law 2757 = .ok (.iaload, 1) := dk_46 (dk_at dksL_law_110 17 rfl rfl)
theorem dL_law_2758 : decode cL_law 2758 = .ok (.invokevirtual 283, 3) := dk_182 1 27 (dk_at dksL_law_110 18 rfl rfl)
theorem dL_law_2761 : decode cL_law 2761 = .ok (.istore 6, 2) := dk_54 6 (dk_at dksL_law_110 21 rfl rfl)
theorem dL_law_2763 : decode cL_law 2763 = .ok (.aload_n 2, 1) := dk_44 (dk_at dksL_law_110 23 rfl rfl)
theorem dL_law_2764 : decode cL_law 2764 = .ok (.invokevirtual 155, 3) := dk_182 0 155 (dk_at dksL_law_111 0 rfl rfl)
theorem dL_law_2767 : decode cL_law 2767 = .ok (.iload 5, 2) := dk_21 5 (dk_at dksL_law_111 3 rfl rfl)
theorem dL_law_2769 : decode cL_law 2769 = .ok (.if_icmp .eq 5, 3) := dk_159 0 5 (dk_at dksL_law_111 5 rfl rfl)
theorem dL_law_2772 : decode cL_law 2772 = .ok (.iconst 0, 1) := dk_3 (dk_at dksL_law_111 8 rfl rfl)
theorem dL_law_2773 : decode cL_law 2773 = .ok (.ireturn, 1) := dk_172 (dk_at dksL_law_111 9 rfl rfl)
theorem dL_law_2774 : decode cL_law 2774 = .ok (.iload 5, 2) := dk_21 5 (dk_at dksL_law_111 10 rfl rfl)
theorem dL_law_2776 : decode cL_law 2776 = .ok (.ifCond .ne 15, 3) := dk_154 0 15 (dk_at dksL_law_111 12 rfl rfl)
theorem dL_law_2779 : decode cL_law 2779 = .ok (.aload_n 3, 1) := dk_45 (dk_at dksL_law_111 15 rfl rfl)
theorem dL_law_2780 : decode cL_law 2780 = .ok (.iconst 0, 1) := dk_3 (dk_at dksL_law_111 16 rfl rfl)
theorem dL_law_2781 : decode cL_law 2781 = .ok (.laload, 1) := dk_47 (dk_at dksL_law_111 17 rfl rfl)
theorem dL_law_2782 : decode cL_law 2782 = .ok (.iload 6, 2) := dk_21 6 (dk_at dksL_law_111 18 rfl rfl)
theorem dL_law_2784 : decode cL_law 2784 = .ok (.i2l, 1) := dk_133 (dk_at dksL_law_111 20 rfl rfl)
theorem dL_law_2785 : decode cL_law 2785 = .ok (.lcmp, 1) := dk_148 (dk_at dksL_law_111 21 rfl rfl)
theorem dL_law_2786 : decode cL_law 2786 = .ok (.ifCond .eq 5, 3) := dk_153 0 5 (dk_at dksL_law_112 0 rfl rfl)
theorem dL_law_2789 : decode cL_law 2789 = .ok (.iconst 0, 1) := dk_3 (dk_at dksL_law_112 3 rfl rfl)
theorem dL_law_2790 : decode cL_law 2790 = .ok (.ireturn, 1) := dk_172 (dk_at dksL_law_112 4 rfl rfl)
theorem dL_law_2791 : decode cL_law 2791 = .ok (.goto 189, 3) := dk_167 0 189 (dk_at dksL_law_112 5 rfl rfl)
theorem dL_law_2794 : decode cL_law 2794 = .ok (.aload_n 1, 1) := dk_43 (dk_at dksL_law_112 8 rfl rfl)
theorem dL_law_2795 : decode cL_law 2795 = .ok (.aload_n 0, 1) := dk_42 (dk_at dksL_law_112 9 rfl rfl)
theorem dL_law_2796 : decode cL_law 2796 = .ok (.iload 4, 2) := dk_21 4 (dk_at dksL_law_112 10 rfl rfl)
theorem dL_law_2798 : decode cL_law 2798 = .ok (.iconst 1, 1) := dk_4 (dk_at dksL_law_112 12 rfl rfl)
theorem dL_law_2799 : decode cL_law 2799 = .ok (.iadd, 1) := dk_96 (dk_at dksL_law_112 13 rfl rfl)
theorem dL_law_2800 : decode cL_law 2800 = .ok (.iaload, 1) := dk_46 (dk_at dksL_law_112 14 rfl rfl)
theorem dL_law_2801 : decode cL_law 2801 = .ok (.aload_n 3, 1) := dk_45 (dk_at dksL_law_112 15 rfl rfl)
theorem dL_law_2802 : decode cL_law 2802 = .ok (.invokestatic 284, 3) := dk_184 1 28 (dk_at dksL_law_112 16 rfl rfl)
theorem dL_law_2805 : decode cL_law 2805 = .ok (.istore 5, 2) := dk_54 5 (dk_at dksL_law_112 19 rfl rfl)
theorem dL_law_2807 : decode cL_law 2807 = .ok (.aload_n 2, 1) := dk_44 (dk_at dksL_law_112 21 rfl rfl)
theorem dL_law_2808 : decode cL_law 2808 = .ok (.aload_n 0, 1) := dk_42 (dk_at dksL_law_112 22 rfl rfl)
theorem dL_law_2809 : decode cL_law 2809 = .ok (.iload 4, 2) := dk_21 4 (dk_at dksL_law_113 0 rfl rfl)
theorem dL_law_2811 : decode cL_law 2811 = .ok (.iconst 1, 1) := dk_4 (dk_at dksL_law_113 2 rfl rfl)
theorem dL_law_2812 : decode cL_law 2812 = .ok (.iadd, 1) := dk_96 (dk_at dksL_law_113 3 rfl rfl)
theorem dL_law_2813 : decode cL_law 2813 = .ok (.iaload, 1) := dk_46 (dk_at dksL_law_113 4 rfl rfl)
theorem dL_law_2814 : decode cL_law 2814 = .ok (.invokevirtual 286, 3) := dk_182 1 30 (dk_at dksL_law_113 5 rfl rfl)
theorem dL_law_2817 : decode cL_law 2817 = .ok (.istore 6, 2) := dk_54 6 (dk_at dksL_law_113 8 rfl rfl)
theorem dL_law_2819 : decode cL_law 2819 = .ok (.aload_n 2, 1) := dk_44 (dk_at dksL_law_113 10 rfl rfl)
theorem dL_law_2820 : decode cL_law 2820 = .ok (.invokevirtual 155, 3) := dk_182 0 155 (dk_at dksL_law_113 11 rfl rfl)
theorem dL_law_2823 : decode cL_law 2823 = .ok (.iload 5, 2) := dk_21 5 (dk_at dksL_law_113 14 rfl rfl)
theorem dL_law_2825 : decode cL_law 2825 = .ok (.if_icmp .eq 5, 3) := dk_159 0 5 (dk_at dksL_law_113 16 rfl rfl)
theorem dL_law_2828 : decode cL_law 2828 = .ok (.iconst 0, 1) := dk_3 (dk_at dksL_law_113 19 rfl rfl)
theorem dL_law_2829 : decode cL_law 2829 = .ok (.ireturn, 1) := dk_172 (dk_at dksL_law_113 20 rfl rfl)
theorem dL_law_2830 : decode cL_law 2830 = .ok (.iload 5, 2) := dk_21 5 (dk_at dksL_law_113 21 rfl rfl)
theorem dL_law_2832 : decode cL_law 2832 = .ok (.ifCond .ne 15, 3) := dk_154 0 15 (dk_at dksL_law_114 0 rfl rfl)
theorem dL_law_2835 : decode cL_law 2835 = .ok (.aload_n 3, 1) := dk_45 (dk_at dksL_law_114 3 rfl rfl)
theorem dL_law_2836 : decode cL_law 2836 = .ok (.iconst 0, 1) := dk_3 (dk_at dksL_law_114 4 rfl rfl)
theorem dL_law_2837 : decode cL_law 2837 = .ok (.laload, 1) := dk_47 (dk_at dksL_law_114 5 rfl rfl)
theorem dL_law_2838 : decode cL_law 2838 = .ok (.iload 6, 2) := dk_21 6 (dk_at dksL_law_114 6 rfl rfl)
theorem dL_law_2840 : decode cL_law 2840 = .ok (.i2l, 1) := dk_133 (dk_at dksL_law_114 8 rfl rfl)
theorem dL_law_2841 : decode cL_law 2841 = .ok (.lcmp, 1) := dk_148 (dk_at dksL_law_114 9 rfl rfl)
theorem dL_law_2842 : decode cL_law 2842 = .ok (.ifCond .eq 5, 3) := dk_153 0 5 (dk_at dksL_law_114 10 rfl rfl)
theorem dL_law_2845 : decode cL_law 2845 = .ok (.iconst 0, 1) := dk_3 (dk_at dksL_law_114 13 rfl rfl)
theorem dL_law_2846 : decode cL_law 2846 = .ok (.ireturn, 1) := dk_172 (dk_at dksL_law_114 14 rfl rfl)
theorem dL_law_2847 : decode cL_law 2847 = .ok (.goto 133, 3) := dk_167 0 133 (dk_at dksL_law_114 15 rfl rfl)
theorem dL_law_2850 : decode cL_law 2850 = .ok (.aload_n 1, 1) := dk_43 (dk_at dksL_law_114 18 rfl rfl)
theorem dL_law_2851 : decode cL_law 2851 = .ok (.aload_n 0, 1) := dk_42 (dk_at dksL_law_114 19 rfl rfl)
theorem dL_law_2852 : decode cL_law 2852 = .ok (.iload 4, 2) := dk_21 4 (dk_at dksL_law_114 20 rfl rfl)
theorem dL_law_2854 : decode cL_law 2854 = .ok (.iconst 1, 1) := dk_4 (dk_at dksL_law_114 22 rfl rfl)
theorem dL_law_2855 : decode cL_law 2855 = .ok (.iadd, 1) := dk_96 (dk_at dksL_law_114 23 rfl rfl)
theorem dL_law_2856 : decode cL_law 2856 = .ok (.iaload, 1) := dk_46 (dk_at dksL_law_115 0 rfl rfl)
theorem dL_law_2857 : decode cL_law 2857 = .ok (.aload_n 0, 1) := dk_42 (dk_at dksL_law_115 1 rfl rfl)
theorem dL_law_2858 : decode cL_law 2858 = .ok (.iload 4, 2) := dk_21 4 (dk_at dksL_law_115 2 rfl rfl)
theorem dL_law_2860 : decode cL_law 2860 = .ok (.iconst 2, 1) := dk_5 (dk_at dksL_law_115 4 rfl rfl)
theorem dL_law_2861 : decode cL_law 2861 = .ok (.iadd, 1) := dk_96 (dk_at dksL_law_115 5 rfl rfl)
theorem dL_law_2862 : decode cL_law 2862 = .ok (.iaload, 1) := dk_46 (dk_at dksL_law_115 6 rfl rfl)
theorem dL_law_2863 : decode cL_law 2863 = .ok (.aload_n 3, 1) := dk_45 (dk_at dksL_law_115 7 rfl rfl)
theorem dL_law_2864 : decode cL_law 2864 = .ok (.invokestatic 287, 3) := dk_184 1 31 (dk_at dksL_law_115 8 rfl rfl)
theorem dL_law_2867 : decode cL_law 2867 = .ok (.istore 5, 2) := dk_54 5 (dk_at dksL_law_115 11 rfl rfl)
theorem dL_law_2869 : decode cL_law 2869 = .ok (.aload_n 2, 1) := dk_44 (dk_at dksL_law_115 13 rfl rfl)
theorem dL_law_2870 : decode cL_law 2870 = .ok (.aload_n 0, 1) := dk_42 (dk_at dksL_law_115 14 rfl rfl)
theorem dL_law_2871 : decode cL_law 2871 = .ok (.iload 4, 2) := dk_21 4 (dk_at dksL_law_115 15 rfl rfl)
theorem dL_law_2873 : decode cL_law 2873 = .ok (.iconst 1, 1) := dk_4 (dk_at dksL_law_115 17 rfl rfl)
theorem dL_law_2874 : decode cL_law 2874 = .ok (.iadd, 1) := dk_96 (dk_at dksL_law_115 18 rfl rfl)
theorem dL_law_2875 : decode cL_law 2875 = .ok (.iaload, 1) := dk_46 (dk_at dksL_law_115 19 rfl rfl)
theorem dL_law_2876 : decode cL_law 2876 = .ok (.aload_n 0, 1) := dk_42 (dk_at dksL_law_115 20 rfl rfl)
theorem dL_law_2877 : decode cL_law 2877 = .ok (.iload 4, 2) := dk_21 4 (dk_at dksL_law_115 21 rfl rfl)
theorem dL_law_2879 : decode cL_law 2879 = .ok (.iconst 2, 1) := dk_5 (dk_at dksL_law_115 23 rfl rfl)
theorem dL_law_2880 : decode cL_law 2880 = .ok (.iadd, 1) := dk_96 (dk_at dksL_law_116 0 rfl rfl)
theorem dL_law_2881 : decode cL_law 2881 = .ok (.iaload, 1) := dk_46 (dk_at dksL_law_116 1 rfl rfl)
theorem dL_law_2882 : decode cL_law 2882 = .ok (.invokevirtual 289, 3) := dk_182 1 33 (dk_at dksL_law_116 2 rfl rfl)
theorem dL_law_2885 : decode cL_law 2885 = .ok (.istore 6, 2) := dk_54 6 (dk_at dksL_law_116 5 rfl rfl)
theorem dL_law_2887 : decode cL_law 2887 = .ok (.aload_n 2, 1) := dk_44 (dk_at dksL_law_116 7 rfl rfl)
theorem dL_law_2888 : decode cL_law 2888 = .ok (.invokevirtual 155, 3) := dk_182 0 155 (dk_at dksL_law_116 8 rfl rfl)
theorem dL_law_2891 : decode cL_law 2891 = .ok (.iload 5, 2) := dk_21 5 (dk_at dksL_law_116 11 rfl rfl)
theorem dL_law_2893 : decode cL_law 2893 = .ok (.if_icmp .eq 5, 3) := dk_159 0 5 (dk_at dksL_law_116 13 rfl rfl)
theorem dL_law_2896 : decode cL_law 2896 = .ok (.iconst 0, 1) := dk_3 (dk_at dksL_law_116 16 rfl rfl)
theorem dL_law_2897 : decode cL_law 2897 = .ok (.ireturn, 1) := dk_172 (dk_at dksL_law_116 17 rfl rfl)
theorem dL_law_2898 : decode cL_law 2898 = .ok (.iload 5, 2) := dk_21 5 (dk_at dksL_law_116 18 rfl rfl)
theorem dL_law_2900 : decode cL_law 2900 = .ok (.ifCond .ne 15, 3) := dk_154 0 15 (dk_at dksL_law_116 20 rfl rfl)
theorem dL_law_2903 : decode cL_law 2903 = .ok (.aload_n 3, 1) := dk_45 (dk_at dksL_law_116 23 rfl rfl)
theorem dL_law_2904 : decode cL_law 2904 = .ok (.iconst 0, 1) := dk_3 (dk_at dksL_law_117 0 rfl rfl)
theorem dL_law_2905 : decode cL_law 2905 = .ok (.laload, 1) := dk_47 (dk_at dksL_law_117 1 rfl rfl)
theorem dL_law_2906 : decode cL_law 2906 = .ok (.iload 6, 2) := dk_21 6 (dk_at dksL_law_117 2 rfl rfl)
theorem dL_law_2908 : decode cL_law 2908 = .ok (.i2l, 1) := dk_133 (dk_at dksL_law_117 4 rfl rfl)
theorem dL_law_2909 : decode cL_law 2909 = .ok (.lcmp, 1) := dk_148 (dk_at dksL_law_117 5 rfl rfl)
theorem dL_law_2910 : decode cL_law 2910 = .ok (.ifCond .eq 5, 3) := dk_153 0 5 (dk_at dksL_law_117 6 rfl rfl)
theorem dL_law_2913 : decode cL_law 2913 = .ok (.iconst 0, 1) := dk_3 (dk_at dksL_law_117 9 rfl rfl)
theorem dL_law_2914 : decode cL_law 2914 = .ok (.ireturn, 1) := dk_172 (dk_at dksL_law_117 10 rfl rfl)
theorem dL_law_2915 : decode cL_law 2915 = .ok (.goto 65, 3) := dk_167 0 65 (dk_at dksL_law_117 11 rfl rfl)
theorem dL_law_2918 : decode cL_law 2918 = .ok (.aload_n 1, 1) := dk_43 (dk_at dksL_law_117 14 rfl rfl)
theorem dL_law_2919 : decode cL_law 2919 = .ok (.invokevirtual 290, 3) := dk_182 1 34 (dk_at dksL_law_117 15 rfl rfl)
theorem dL_law_2922 : decode cL_law 2922 = .ok (.aload_n 2, 1) := dk_44 (dk_at dksL_law_117 18 rfl rfl)
theorem dL_law_2923 : decode cL_law 2923 = .ok (.invokevirtual 294, 3) := dk_182 1 38 (dk_at dksL_law_117 19 rfl rfl)
theorem dL_law_2926 : decode cL_law 2926 = .ok (.if_icmp .eq 54, 3) := dk_159 0 54 (dk_at dksL_law_118 0 rfl rfl)
theorem dL_law_2929 : decode cL_law 2929 = .ok (.iconst 0, 1) := dk_3 (dk_at dksL_law_118 3 rfl rfl)
theorem dL_law_2930 : decode cL_law 2930 = .ok (.ireturn, 1) := dk_172 (dk_at dksL_law_118 4 rfl rfl)
theorem dL_law_2931 : decode cL_law 2931 = .ok (.aload_n 1, 1) := dk_43 (dk_at dksL_law_118 5 rfl rfl)
theorem dL_law_2932 : decode cL_law 2932 = .ok (.invokevirtual 295, 3) := dk_182 1 39 (dk_at dksL_law_118 6 rfl rfl)
theorem dL_law_2935 : decode cL_law 2935 = .ok (.aload_n 2, 1) := dk_44 (dk_at dksL_law_118 9 rfl rfl)
theorem dL_law_2936 : decode cL_law 2936 = .ok (.invokevirtual 298, 3) := dk_182 1 42 (dk_at dksL_law_118 10 rfl rfl)
theorem dL_law_2939 : decode cL_law 2939 = .ok (.goto 41, 3) := dk_167 0 41 (dk_at dksL_law_118 13 rfl rfl)
theorem dL_law_2942 : decode cL_law 2942 = .ok (.aload_n 1, 1) := dk_43 (dk_at dksL_law_118 16 rfl rfl)
theorem dL_law_2943 : decode cL_law 2943 = .ok (.invokevirtual 299, 3) := dk_182 1 43 (dk_at dksL_law_118 17 rfl rfl)
theorem dL_law_2946 : decode cL_law 2946 = .ok (.aload_n 2, 1) := dk_44 (dk_at dksL_law_118 20 rfl rfl)
theorem dL_law_2947 : decode cL_law 2947 = .ok (.invokevirtual 302, 3) := dk_182 1 46 (dk_at dksL_law_118 21 rfl rfl)
theorem dL_law_2950 : decode cL_law 2950 = .ok (.if_icmp .eq 30, 3) := dk_159 0 30 (dk_at dksL_law_119 0 rfl rfl)
theorem dL_law_2953 : decode cL_law 2953 = .ok (.iconst 0, 1) := dk_3 (dk_at dksL_law_119 3 rfl rfl)
theorem dL_law_2954 : decode cL_law 2954 = .ok (.ireturn, 1) := dk_172 (dk_at dksL_law_119 4 rfl rfl)
theorem dL_law_2955 : decode cL_law 2955 = .ok (.aload_n 1, 1) := dk_43 (dk_at dksL_law_119 5 rfl rfl)
theorem dL_law_2956 : decode cL_law 2956 = .ok (.aload_n 0, 1) := dk_42 (dk_at dksL_law_119 6 rfl rfl)
theorem dL_law_2957 : decode cL_law 2957 = .ok (.iload 4, 2) := dk_21 4 (dk_at dksL_law_119 7 rfl rfl)
theorem dL_law_2959 : decode cL_law 2959 = .ok (.iconst 1, 1) := dk_4 (dk_at dksL_law_119 9 rfl rfl)
theorem dL_law_2960 : decode cL_law 2960 = .ok (.iadd, 1) := dk_96 (dk_at dksL_law_119 10 rfl rfl)
theorem dL_law_2961 : decode cL_law 2961 = .ok (.iaload, 1) := dk_46 (dk_at dksL_law_119 11 rfl rfl)
theorem dL_law_2962 : decode cL_law 2962 = .ok (.invokevirtual 303, 3) := dk_182 1 47 (dk_at dksL_law_119 12 rfl rfl)
theorem dL_law_2965 : decode cL_law 2965 = .ok (.aload_n 2, 1) := dk_44 (dk_at dksL_law_119 15 rfl rfl)
theorem dL_law_2966 : decode cL_law 2966 = .ok (.aload_n 0, 1) := dk_42 (dk_at dksL_law_119 16 rfl rfl)
theorem dL_law_2967 : decode cL_law 2967 = .ok (.iload 4, 2) := dk_21 4 (dk_at dksL_law_119 17 rfl rfl)
theorem dL_law_2969 : decode cL_law 2969 = .ok (.iconst 1, 1) := dk_4 (dk_at dksL_law_119 19 rfl rfl)
theorem dL_law_2970 : decode cL_law 2970 = .ok (.iadd, 1) := dk_96 (dk_at dksL_law_119 20 rfl rfl)
theorem dL_law_2971 : decode cL_law 2971 = .ok (.iaload, 1) := dk_46 (dk_at dksL_law_119 21 rfl rfl)
theorem dL_law_2972 : decode cL_law 2972 = .ok (.invokevirtual 306, 3) := dk_182 1 50 (dk_at dksL_law_120 0 rfl rfl)
theorem dL_law_2975 : decode cL_law 2975 = .ok (.if_icmp .eq 5, 3) := dk_159 0 5 (dk_at dksL_law_120 3 rfl rfl)
theorem dL_law_2978 : decode cL_law 2978 = .ok (.iconst 0, 1) := dk_3 (dk_at dksL_law_120 6 rfl rfl)
theorem dL_law_2979 : decode cL_law 2979 = .ok (.ireturn, 1) := dk_172 (dk_at dksL_law_120 7 rfl rfl)
theorem dL_law_2980 : decode cL_law 2980 = .ok (.iinc 4 6, 3) := dk_132 4 6 (dk_at dksL_law_120 8 rfl rfl)
theorem dL_law_2983 : decode cL_law 2983 = .ok (.goto (-2960), 3) := dk_167 244 112 (dk_at dksL_law_120 11 rfl rfl)
theorem dL_law_2986 : decode cL_law 2986 = .ok (.iconst 1, 1) := dk_4 (dk_at dksL_law_120 14 rfl rfl)
theorem dL_law_2987 : decode cL_law 2987 = .ok (.ireturn, 1) := dk_172 (dk_at dksL_law_120 15 rfl rfl)
