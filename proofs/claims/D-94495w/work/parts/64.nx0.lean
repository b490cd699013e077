/-! TurningRoads -/
set_option maxRecDepth 100000
def RX0 : String := "TurningRoads"
def TX0 : u_T := fun k => match k with
  | 0 => ("TurningRoads", "ways", "Ljava/util/ArrayList;", false)
  | 1 => ("TurningRoads", "goers", "Ljava/util/ArrayList;", false)
  | 2 => ("TurningRoads", "goings", "I", false)
  | 3 => ("TurningRoads", "clock", "I", false)
  | 4 => ("TurningRoads", "met", "I", false)
  | 5 => ("TurningRoads", "draw", "I", false)
  | 6 => ("TurningRoads", "rules", "Ljava/util/ArrayList;", true)
  | 7 => ("TurningRoads", "wrong", "LTurningRoads$Wrong;", true)
  | 8 => ("TurningRoads", "tape", "[B", true)
  | 9 => ("TurningRoads", "taped", "I", false)
  | 10 => ("TurningRoads", "steps", "[I", false)
  | 11 => ("TurningRoads", "queue", "[I", false)
  | 12 => ("TurningRoads", "chosen", "[I", true)
  | 13 => ("TurningRoads", "many", "I", false)
  | 14 => ("TurningRoads", "shut", "I", false)
  | 15 => ("TurningRoads", "queued", "I", false)
  | 16 => ("TurningRoads", "outs", "[I", true)
  | 17 => ("TurningRoads", "wanted", "[I", true)
  | 18 => ("TurningRoads", "lasts", "[I", true)
  | 19 => ("TurningRoads", "itsPlace", "I", false)
  | 20 => ("TurningRoads", "itsDirections", "I", false)
  | 21 => ("TurningRoads", "itsGoings", "I", false)
  | 22 => ("TurningRoads", "passed", "I", false)
  | 23 => ("TurningRoads", "orders", "[J", true)
  | 24 => ("TurningRoads", "situations", "[I", true)
  | 25 => ("TurningRoads", "rowGoer", "[I", true)
  | 26 => ("TurningRoads", "rowWay", "[I", true)
  | 27 => ("TurningRoads", "stood", "[I", true)
  | 28 => ("TurningRoads", "stoodOnce", "[I", true)
  | 29 => ("TurningRoads", "rowMany", "I", false)
  | 30 => ("TurningRoads", "stoodDirections", "I", false)
  | 31 => ("TurningRoads", "words", "[J", true)
  | 32 => ("TurningRoads", "kept", "LTurningRoads$Kept;", true)
  | _ => ("TurningRoads", "images", "[LTurningRoads$Image;", true)
def tyX0 : Nat → FieldType := fun k => match k with
  | 0 => .object "java/util/ArrayList"
  | 1 => .object "java/util/ArrayList"
  | 2 => .int
  | 3 => .int
  | 4 => .int
  | 5 => .int
  | 6 => .object "java/util/ArrayList"
  | 7 => .object "TurningRoads$Wrong"
  | 8 => .array .byte
  | 9 => .int
  | 10 => .array .int
  | 11 => .array .int
  | 12 => .array .int
  | 13 => .int
  | 14 => .int
  | 15 => .int
  | 16 => .array .int
  | 17 => .array .int
  | 18 => .array .int
  | 19 => .int
  | 20 => .int
  | 21 => .int
  | 22 => .int
  | 23 => .array .long
  | 24 => .array .int
  | 25 => .array .int
  | 26 => .array .int
  | 27 => .array .int
  | 28 => .array .int
  | 29 => .int
  | 30 => .int
  | 31 => .array .long
  | 32 => .object "TurningRoads$Kept"
  | _ => .array (.object "TurningRoads$Image")
abbrev wsX00 : List Cond := u_ws RX0 TX0 34
set_option maxRecDepth 100000 in
theorem nmX0 : ∀ a, a < 34 → ∀ b, b < 34 → a ≠ b → (TX0 a).2.1 ≠ (TX0 b).2.1 := by decide +kernel
set_option maxRecDepth 100000 in
theorem tyX0_ok : ∀ k, k < 34 → parseFieldDescriptor (TX0 k).2.2.1 = some (tyX0 k) := by decide +kernel
abbrev cX0_init : ByteArray := prog_1_method_3_code
def yX0_init : MethodName := ⟨RX0, "<init>", "()V"⟩
def dkwX0_init_7 : List UInt8 := [181, 0, 79, 42, 7, 189, 0, 83, 181, 0, 85, 177]
abbrev dktX0_init_7 : List UInt8 := dkwX0_init_7 ++ []
def dkwX0_init_6 : List UInt8 := [181, 0, 64, 42, 178, 0, 67, 190, 188, 11, 181, 0, 71, 42, 187, 0, 74, 89, 42, 183, 0, 76]
abbrev dktX0_init_6 : List UInt8 := dkwX0_init_6 ++ dktX0_init_7
def dkwX0_init_5 : List UInt8 := [181, 0, 55, 42, 16, 40, 188, 10, 181, 0, 58, 42, 16, 6, 188, 10, 181, 0, 61, 42, 16, 6, 188, 10]
abbrev dktX0_init_5 : List UInt8 := dkwX0_init_5 ++ dktX0_init_6
def dkwX0_init_4 : List UInt8 := [17, 7, 209, 188, 11, 181, 0, 48, 42, 17, 7, 209, 188, 10, 181, 0, 52, 42, 16, 40, 188, 10]
abbrev dktX0_init_4 : List UInt8 := dkwX0_init_4 ++ dktX0_init_5
def dkwX0_init_3 : List UInt8 := [16, 8, 188, 10, 181, 0, 39, 42, 16, 8, 188, 10, 181, 0, 42, 42, 16, 14, 188, 10, 181, 0, 45, 42]
abbrev dktX0_init_3 : List UInt8 := dkwX0_init_3 ++ dktX0_init_4
def dkwX0_init_2 : List UInt8 := [183, 0, 26, 181, 0, 27, 42, 17, 1, 144, 188, 8, 181, 0, 31, 42, 16, 6, 188, 10, 181, 0, 35, 42]
abbrev dktX0_init_2 : List UInt8 := dkwX0_init_2 ++ dktX0_init_3
def dkwX0_init_1 : List UInt8 := [183, 0, 9, 181, 0, 18, 42, 187, 0, 7, 89, 5, 183, 0, 9, 181, 0, 21, 42, 187, 0, 24, 89]
abbrev dktX0_init_1 : List UInt8 := dkwX0_init_1 ++ dktX0_init_2
def dkwX0_init_0 : List UInt8 := [42, 183, 0, 1, 42, 187, 0, 7, 89, 5, 183, 0, 9, 181, 0, 12, 42, 187, 0, 7, 89, 5]
abbrev dktX0_init_0 : List UInt8 := dkwX0_init_0 ++ dktX0_init_1
theorem dksX0_init_0 : cX0_init.data.toList.drop 0 = dktX0_init_0 := by decide +kernel
theorem dksX0_init_1 : cX0_init.data.toList.drop 22 = dktX0_init_1 := dk_seg dksX0_init_0 22 rfl rfl
theorem dksX0_init_2 : cX0_init.data.toList.drop 45 = dktX0_init_2 := dk_seg dksX0_init_1 23 rfl rfl
theorem dksX0_init_3 : cX0_init.data.toList.drop 69 = dktX0_init_3 := dk_seg dksX0_init_2 24 rfl rfl
theorem dksX0_init_4 : cX0_init.data.toList.drop 93 = dktX0_init_4 := dk_seg dksX0_init_3 24 rfl rfl
theorem dksX0_init_5 : cX0_init.data.toList.drop 115 = dktX0_init_5 := dk_seg dksX0_init_4 22 rfl rfl
theorem dksX0_init_6 : cX0_init.data.toList.drop 139 = dktX0_init_6 := dk_seg dksX0_init_5 24 rfl rfl
theorem dksX0_init_7 : cX0_init.data.toList.drop 161 = dktX0_init_7 := dk_seg dksX0_init_6 22 rfl rfl
theorem dX0_init_0 : decode cX0_init 0 = .ok (.aload_n 0, 1) := dk_42 (dk_at dksX0_init_0 0 rfl rfl)
theorem dX0_init_1 : decode cX0_init 1 = .ok (.invokespecial 1, 3) := dk_183 0 1 (dk_at dksX0_init_0 1 rfl rfl)
theorem dX0_init_4 : decode cX0_init 4 = .ok (.aload_n 0, 1) := dk_42 (dk_at dksX0_init_0 4 rfl rfl)
theorem dX0_init_5 : decode cX0_init 5 = .ok (.new 7, 3) := dk_187 0 7 (dk_at dksX0_init_0 5 rfl rfl)
theorem dX0_init_8 : decode cX0_init 8 = .ok (.dup, 1) := dk_89 (dk_at dksX0_init_0 8 rfl rfl)
theorem dX0_init_9 : decode cX0_init 9 = .ok (.iconst 2, 1) := dk_5 (dk_at dksX0_init_0 9 rfl rfl)
theorem dX0_init_10 : decode cX0_init 10 = .ok (.invokespecial 9, 3) := dk_183 0 9 (dk_at dksX0_init_0 10 rfl rfl)
theorem dX0_init_13 : decode cX0_init 13 = .ok (.putfield 12, 3) := dk_181 0 12 (dk_at dksX0_init_0 13 rfl rfl)
theorem dX0_init_16 : decode cX0_init 16 = .ok (.aload_n 0, 1) := dk_42 (dk_at dksX0_init_0 16 rfl rfl)
theorem dX0_init_17 : decode cX0_init 17 = .ok (.new 7, 3) := dk_187 0 7 (dk_at dksX0_init_0 17 rfl rfl)
theorem dX0_init_20 : decode cX0_init 20 = .ok (.dup, 1) := dk_89 (dk_at dksX0_init_0 20 rfl rfl)
theorem dX0_init_21 : decode cX0_init 21 = .ok (.iconst 2, 1) := dk_5 (dk_at dksX0_init_0 21 rfl rfl)
theorem dX0_init_22 : decode cX0_init 22 = .ok (.invokespecial 9, 3) := dk_183 0 9 (dk_at dksX0_init_1 0 rfl rfl)
theorem dX0_init_25 : decode cX0_init 25 = .ok (.putfield 18, 3) := dk_181 0 18 (dk_at dksX0_init_1 3 rfl rfl)
theorem dX0_init_28 : decode cX0_init 28 = .ok (.aload_n 0, 1) := dk_42 (dk_at dksX0_init_1 6 rfl rfl)
theorem dX0_init_29 : decode cX0_init 29 = .ok (.new 7, 3) := dk_187 0 7 (dk_at dksX0_init_1 7 rfl rfl)
theorem dX0_init_32 : decode cX0_init 32 = .ok (.dup, 1) := dk_89 (dk_at dksX0_init_1 10 rfl rfl)
theorem dX0_init_33 : decode cX0_init 33 = .ok (.iconst 2, 1) := dk_5 (dk_at dksX0_init_1 11 rfl rfl)
theorem dX0_init_34 : decode cX0_init 34 = .ok (.invokespecial 9, 3) := dk_183 0 9 (dk_at dksX0_init_1 12 rfl rfl)
theorem dX0_init_37 : decode cX0_init 37 = .ok (.putfield 21, 3) := dk_181 0 21 (dk_at dksX0_init_1 15 rfl rfl)
theorem dX0_init_40 : decode cX0_init 40 = .ok (.aload_n 0, 1) := dk_42 (dk_at dksX0_init_1 18 rfl rfl)
theorem dX0_init_41 : decode cX0_init 41 = .ok (.new 24, 3) := dk_187 0 24 (dk_at dksX0_init_1 19 rfl rfl)
theorem dX0_init_44 : decode cX0_init 44 = .ok (.dup, 1) := dk_89 (dk_at dksX0_init_1 22 rfl rfl)
theorem dX0_init_45 : decode cX0_init 45 = .ok (.invokespecial 26, 3) := dk_183 0 26 (dk_at dksX0_init_2 0 rfl rfl)
theorem dX0_init_48 : decode cX0_init 48 = .ok (.putfield 27, 3) := dk_181 0 27 (dk_at dksX0_init_2 3 rfl rfl)
theorem dX0_init_51 : decode cX0_init 51 = .ok (.aload_n 0, 1) := dk_42 (dk_at dksX0_init_2 6 rfl rfl)
theorem dX0_init_52 : decode cX0_init 52 = .ok (.sipush 400, 3) := dk_17 1 144 (dk_at dksX0_init_2 7 rfl rfl)
theorem dX0_init_55 : decode cX0_init 55 = .ok (.newarray .byte, 2) := dk_188_8 (dk_at dksX0_init_2 10 rfl rfl)
theorem dX0_init_57 : decode cX0_init 57 = .ok (.putfield 31, 3) := dk_181 0 31 (dk_at dksX0_init_2 12 rfl rfl)
theorem dX0_init_60 : decode cX0_init 60 = .ok (.aload_n 0, 1) := dk_42 (dk_at dksX0_init_2 15 rfl rfl)
theorem dX0_init_61 : decode cX0_init 61 = .ok (.bipush 6, 2) := dk_16 6 (dk_at dksX0_init_2 16 rfl rfl)
theorem dX0_init_63 : decode cX0_init 63 = .ok (.newarray .int, 2) := dk_188_10 (dk_at dksX0_init_2 18 rfl rfl)
theorem dX0_init_65 : decode cX0_init 65 = .ok (.putfield 35, 3) := dk_181 0 35 (dk_at dksX0_init_2 20 rfl rfl)
theorem dX0_init_68 : decode cX0_init 68 = .ok (.aload_n 0, 1) := dk_42 (dk_at dksX0_init_2 23 rfl rfl)
theorem dX0_init_69 : decode cX0_init 69 = .ok (.bipush 8, 2) := dk_16 8 (dk_at dksX0_init_3 0 rfl rfl)
theorem dX0_init_71 : decode cX0_init 71 = .ok (.newarray .int, 2) := dk_188_10 (dk_at dksX0_init_3 2 rfl rfl)
theorem dX0_init_73 : decode cX0_init 73 = .ok (.putfield 39, 3) := dk_181 0 39 (dk_at dksX0_init_3 4 rfl rfl)
theorem dX0_init_76 : decode cX0_init 76 = .ok (.aload_n 0, 1) := dk_42 (dk_at dksX0_init_3 7 rfl rfl)
theorem dX0_init_77 : decode cX0_init 77 = .ok (.bipush 8, 2) := dk_16 8 (dk_at dksX0_init_3 8 rfl rfl)
theorem dX0_init_79 : decode cX0_init 79 = .ok (.newarray .int, 2) := dk_188_10 (dk_at dksX0_init_3 10 rfl rfl)
theorem dX0_init_81 : decode cX0_init 81 = .ok (.putfield 42, 3) := dk_181 0 42 (dk_at dksX0_init_3 12 rfl rfl)
theorem dX0_init_84 : decode cX0_init 84 = .ok (.aload_n 0, 1) := dk_42 (dk_at dksX0_init_3 15 rfl rfl)
theorem dX0_init_85 : decode cX0_init 85 = .ok (.bipush 14, 2) := dk_16 14 (dk_at dksX0_init_3 16 rfl rfl)
theorem dX0_init_87 : decode cX0_init 87 = .ok (.newarray .int, 2) := dk_188_10 (dk_at dksX0_init_3 18 rfl rfl)
theorem dX0_init_89 : decode cX0_init 89 = .ok (.putfield 45, 3) := dk_181 0 45 (dk_at dksX0_init_3 20 rfl rfl)
theorem dX0_init_92 : decode cX0_init 92 = .ok (.aload_n 0, 1) := dk_42 (dk_at dksX0_init_3 23 rfl rfl)
theorem dX0_init_93 : decode cX0_init 93 = .ok (.sipush 2001, 3) := dk_17 7 209 (dk_at dksX0_init_4 0 rfl rfl)
theorem dX0_init_96 : decode cX0_init 96 = .ok (.newarray .long, 2) := dk_188_11 (dk_at dksX0_init_4 3 rfl rfl)
theorem dX0_init_98 : decode cX0_init 98 = .ok (.putfield 48, 3) := dk_181 0 48 (dk_at dksX0_init_4 5 rfl rfl)
theorem dX0_init_101 : decode cX0_init 101 = .ok (.aload_n 0, 1) := dk_42 (dk_at dksX0_init_4 8 rfl rfl)
theorem dX0_init_102 : decode cX0_init 102 = .ok (.sipush 2001, 3) := dk_17 7 209 (dk_at dksX0_init_4 9 rfl rfl)
theorem dX0_init_105 : decode cX0_init 105 = .ok (.newarray .int, 2) := dk_188_10 (dk_at dksX0_init_4 12 rfl rfl)
theorem dX0_init_107 : decode cX0_init 107 = .ok (.putfield 52, 3) := dk_181 0 52 (dk_at dksX0_init_4 14 rfl rfl)
theorem dX0_init_110 : decode cX0_init 110 = .ok (.aload_n 0, 1) := dk_42 (dk_at dksX0_init_4 17 rfl rfl)
theorem dX0_init_111 : decode cX0_init 111 = .ok (.bipush 40, 2) := dk_16 40 (dk_at dksX0_init_4 18 rfl rfl)
theorem dX0_init_113 : decode cX0_init 113 = .ok (.newarray .int, 2) := dk_188_10 (dk_at dksX0_init_4 20 rfl rfl)
theorem dX0_init_115 : decode cX0_init 115 = .ok (.putfield 55, 3) := dk_181 0 55 (dk_at dksX0_init_5 0 rfl rfl)
theorem dX0_init_118 : decode cX0_init 118 = .ok (.aload_n 0, 1) := dk_42 (dk_at dksX0_init_5 3 rfl rfl)
theorem dX0_init_119 : decode cX0_init 119 = .ok (.bipush 40, 2) := dk_16 40 (dk_at dksX0_init_5 4 rfl rfl)
theorem dX0_init_121 : decode cX0_init 121 = .ok (.newarray .int, 2) := dk_188_10 (dk_at dksX0_init_5 6 rfl rfl)
theorem dX0_init_123 : decode cX0_init 123 = .ok (.putfield 58, 3) := dk_181 0 58 (dk_at dksX0_init_5 8 rfl rfl)
theorem dX0_init_126 : decode cX0_init 126 = .ok (.aload_n 0, 1) := dk_42 (dk_at dksX0_init_5 11 rfl rfl)
theorem dX0_init_127 : decode cX0_init 127 = .ok (.bipush 6, 2) := dk_16 6 (dk_at dksX0_init_5 12 rfl rfl)
theorem dX0_init_129 : decode cX0_init 129 = .ok (.newarray .int, 2) := dk_188_10 (dk_at dksX0_init_5 14 rfl rfl)
theorem dX0_init_131 : decode cX0_init 131 = .ok (.putfield 61, 3) := dk_181 0 61 (dk_at dksX0_init_5 16 rfl rfl)
theorem dX0_init_134 : decode cX0_init 134 = .ok (.aload_n 0, 1) := dk_42 (dk_at dksX0_init_5 19 rfl rfl)
theorem dX0_init_135 : decode cX0_init 135 = .ok (.bipush 6, 2) := dk_16 6 (dk_at dksX0_init_5 20 rfl rfl)
theorem dX0_init_137 : decode cX0_init 137 = .ok (.newarray .int, 2) := dk_188_10 (dk_at dksX0_init_5 22 rfl rfl)
theorem dX0_init_139 : decode cX0_init 139 = .ok (.putfield 64, 3) := dk_181 0 64 (dk_at dksX0_init_6 0 rfl rfl)
theorem dX0_init_142 : decode cX0_init 142 = .ok (.aload_n 0, 1) := dk_42 (dk_at dksX0_init_6 3 rfl rfl)
theorem dX0_init_143 : decode cX0_init 143 = .ok (.getstatic 67, 3) := dk_178 0 67 (dk_at dksX0_init_6 4 rfl rfl)
theorem dX0_init_146 : decode cX0_init 146 = .ok (.arraylength, 1) := dk_190 (dk_at dksX0_init_6 7 rfl rfl)
theorem dX0_init_147 : decode cX0_init 147 = .ok (.newarray .long, 2) := dk_188_11 (dk_at dksX0_init_6 8 rfl rfl)
theorem dX0_init_149 : decode cX0_init 149 = .ok (.putfield 71, 3) := dk_181 0 71 (dk_at dksX0_init_6 10 rfl rfl)
theorem dX0_init_152 : decode cX0_init 152 = .ok (.aload_n 0, 1) := dk_42 (dk_at dksX0_init_6 13 rfl rfl)
theorem dX0_init_153 : decode cX0_init 153 = .ok (.new 74, 3) := dk_187 0 74 (dk_at dksX0_init_6 14 rfl rfl)
theorem dX0_init_156 : decode cX0_init 156 = .ok (.dup, 1) := dk_89 (dk_at dksX0_init_6 17 rfl rfl)
theorem dX0_init_157 : decode cX0_init 157 = .ok (.aload_n 0, 1) := dk_42 (dk_at dksX0_init_6 18 rfl rfl)
theorem dX0_init_158 : decode cX0_init 158 = .ok (.invokespecial 76, 3) := dk_183 0 76 (dk_at dksX0_init_6 19 rfl rfl)
theorem dX0_init_161 : decode cX0_init 161 = .ok (.putfield 79, 3) := dk_181 0 79 (dk_at dksX0_init_7 0 rfl rfl)
theorem dX0_init_164 : decode cX0_init 164 = .ok (.aload_n 0, 1) := dk_42 (dk_at dksX0_init_7 3 rfl rfl)
theorem dX0_init_165 : decode cX0_init 165 = .ok (.iconst 4, 1) := dk_7 (dk_at dksX0_init_7 4 rfl rfl)
theorem dX0_init_166 : decode cX0_init 166 = .ok (.anewarray 83, 3) := dk_189 0 83 (dk_at dksX0_init_7 5 rfl rfl)
theorem dX0_init_169 : decode cX0_init 169 = .ok (.putfield 85, 3) := dk_181 0 85 (dk_at dksX0_init_7 8 rfl rfl)
theorem dX0_init_172 : decode cX0_init 172 = .ok (.return_, 1) := dk_177 (dk_at dksX0_init_7 11 rfl rfl)
abbrev cX0_feed : ByteArray := prog_1_method_17_code
def yX0_feed : MethodName := ⟨RX0, "feed", "(IIIII)I"⟩
def dkwX0_feed_2 : List UInt8 := [172]
abbrev dktX0_feed_2 : List UInt8 := dkwX0_feed_2 ++ []
def dkwX0_feed_1 : List UInt8 := [182, 0, 142, 42, 29, 182, 0, 142, 42, 21, 4, 182, 0, 142, 42, 21, 5, 182, 0, 142, 42, 180, 0, 139]
abbrev dktX0_feed_1 : List UInt8 := dkwX0_feed_1 ++ dktX0_feed_2
def dkwX0_feed_0 : List UInt8 := [42, 180, 0, 139, 16, 20, 96, 17, 1, 144, 164, 0, 5, 2, 172, 42, 27, 182, 0, 142, 42, 28]
abbrev dktX0_feed_0 : List UInt8 := dkwX0_feed_0 ++ dktX0_feed_1
theorem dksX0_feed_0 : cX0_feed.data.toList.drop 0 = dktX0_feed_0 := by decide +kernel
theorem dksX0_feed_1 : cX0_feed.data.toList.drop 22 = dktX0_feed_1 := dk_seg dksX0_feed_0 22 rfl rfl
theorem dksX0_feed_2 : cX0_feed.data.toList.drop 46 = dktX0_feed_2 := dk_seg dksX0_feed_1 24 rfl rfl
theorem dX0_feed_0 : decode cX0_feed 0 = .ok (.aload_n 0, 1) := dk_42 (dk_at dksX0_feed_0 0 rfl rfl)
theorem dX0_feed_1 : decode cX0_feed 1 = .ok (.getfield 139, 3) := dk_180 0 139 (dk_at dksX0_feed_0 1 rfl rfl)
theorem dX0_feed_4 : decode cX0_feed 4 = .ok (.bipush 20, 2) := dk_16 20 (dk_at dksX0_feed_0 4 rfl rfl)
theorem dX0_feed_6 : decode cX0_feed 6 = .ok (.iadd, 1) := dk_96 (dk_at dksX0_feed_0 6 rfl rfl)
theorem dX0_feed_7 : decode cX0_feed 7 = .ok (.sipush 400, 3) := dk_17 1 144 (dk_at dksX0_feed_0 7 rfl rfl)
theorem dX0_feed_10 : decode cX0_feed 10 = .ok (.if_icmp .le 5, 3) := dk_164 0 5 (dk_at dksX0_feed_0 10 rfl rfl)
theorem dX0_feed_13 : decode cX0_feed 13 = .ok (.iconst (-1), 1) := dk_2 (dk_at dksX0_feed_0 13 rfl rfl)
theorem dX0_feed_14 : decode cX0_feed 14 = .ok (.ireturn, 1) := dk_172 (dk_at dksX0_feed_0 14 rfl rfl)
theorem dX0_feed_15 : decode cX0_feed 15 = .ok (.aload_n 0, 1) := dk_42 (dk_at dksX0_feed_0 15 rfl rfl)
theorem dX0_feed_16 : decode cX0_feed 16 = .ok (.iload_n 1, 1) := dk_27 (dk_at dksX0_feed_0 16 rfl rfl)
theorem dX0_feed_17 : decode cX0_feed 17 = .ok (.invokevirtual 142, 3) := dk_182 0 142 (dk_at dksX0_feed_0 17 rfl rfl)
theorem dX0_feed_20 : decode cX0_feed 20 = .ok (.aload_n 0, 1) := dk_42 (dk_at dksX0_feed_0 20 rfl rfl)
theorem dX0_feed_21 : decode cX0_feed 21 = .ok (.iload_n 2, 1) := dk_28 (dk_at dksX0_feed_0 21 rfl rfl)
theorem dX0_feed_22 : decode cX0_feed 22 = .ok (.invokevirtual 142, 3) := dk_182 0 142 (dk_at dksX0_feed_1 0 rfl rfl)
theorem dX0_feed_25 : decode cX0_feed 25 = .ok (.aload_n 0, 1) := dk_42 (dk_at dksX0_feed_1 3 rfl rfl)
theorem dX0_feed_26 : decode cX0_feed 26 = .ok (.iload_n 3, 1) := dk_29 (dk_at dksX0_feed_1 4 rfl rfl)
theorem dX0_feed_27 : decode cX0_feed 27 = .ok (.invokevirtual 142, 3) := dk_182 0 142 (dk_at dksX0_feed_1 5 rfl rfl)
theorem dX0_feed_30 : decode cX0_feed 30 = .ok (.aload_n 0, 1) := dk_42 (dk_at dksX0_feed_1 8 rfl rfl)
theorem dX0_feed_31 : decode cX0_feed 31 = .ok (.iload 4, 2) := dk_21 4 (dk_at dksX0_feed_1 9 rfl rfl)
theorem dX0_feed_33 : decode cX0_feed 33 = .ok (.invokevirtual 142, 3) := dk_182 0 142 (dk_at dksX0_feed_1 11 rfl rfl)
theorem dX0_feed_36 : decode cX0_feed 36 = .ok (.aload_n 0, 1) := dk_42 (dk_at dksX0_feed_1 14 rfl rfl)
theorem dX0_feed_37 : decode cX0_feed 37 = .ok (.iload 5, 2) := dk_21 5 (dk_at dksX0_feed_1 15 rfl rfl)
theorem dX0_feed_39 : decode cX0_feed 39 = .ok (.invokevirtual 142, 3) := dk_182 0 142 (dk_at dksX0_feed_1 17 rfl rfl)
theorem dX0_feed_42 : decode cX0_feed 42 = .ok (.aload_n 0, 1) := dk_42 (dk_at dksX0_feed_1 20 rfl rfl)
theorem dX0_feed_43 : decode cX0_feed 43 = .ok (.getfield 139, 3) := dk_180 0 139 (dk_at dksX0_feed_1 21 rfl rfl)
theorem dX0_feed_46 : decode cX0_feed 46 = .ok (.ireturn, 1) := dk_172 (dk_at dksX0_feed_2 0 rfl rfl)
abbrev cX0_put : ByteArray := prog_1_method_18_code
def yX0_put : MethodName := ⟨RX0, "put", "(I)V"⟩
def dkwX0_put_1 : List UInt8 := [180, 0, 139, 4, 96, 181, 0, 139, 132, 2, 248, 167, 255, 226, 177]
abbrev dktX0_put_1 : List UInt8 := dkwX0_put_1 ++ []
def dkwX0_put_0 : List UInt8 := [16, 24, 61, 28, 155, 0, 32, 42, 180, 0, 31, 42, 180, 0, 139, 27, 28, 122, 145, 84, 42, 89]
abbrev dktX0_put_0 : List UInt8 := dkwX0_put_0 ++ dktX0_put_1
theorem dksX0_put_0 : cX0_put.data.toList.drop 0 = dktX0_put_0 := by decide +kernel
theorem dksX0_put_1 : cX0_put.data.toList.drop 22 = dktX0_put_1 := dk_seg dksX0_put_0 22 rfl rfl
theorem dX0_put_0 : decode cX0_put 0 = .ok (.bipush 24, 2) := dk_16 24 (dk_at dksX0_put_0 0 rfl rfl)
theorem dX0_put_2 : decode cX0_put 2 = .ok (.istore_n 2, 1) := dk_61 (dk_at dksX0_put_0 2 rfl rfl)
theorem dX0_put_3 : decode cX0_put 3 = .ok (.iload_n 2, 1) := dk_28 (dk_at dksX0_put_0 3 rfl rfl)
theorem dX0_put_4 : decode cX0_put 4 = .ok (.ifCond .lt 32, 3) := dk_155 0 32 (dk_at dksX0_put_0 4 rfl rfl)
theorem dX0_put_7 : decode cX0_put 7 = .ok (.aload_n 0, 1) := dk_42 (dk_at dksX0_put_0 7 rfl rfl)
theorem dX0_put_8 : decode cX0_put 8 = .ok (.getfield 31, 3) := dk_180 0 31 (dk_at dksX0_put_0 8 rfl rfl)
theorem dX0_put_11 : decode cX0_put 11 = .ok (.aload_n 0, 1) := dk_42 (dk_at dksX0_put_0 11 rfl rfl)
theorem dX0_put_12 : decode cX0_put 12 = .ok (.getfield 139, 3) := dk_180 0 139 (dk_at dksX0_put_0 12 rfl rfl)
theorem dX0_put_15 : decode cX0_put 15 = .ok (.iload_n 1, 1) := dk_27 (dk_at dksX0_put_0 15 rfl rfl)
theorem dX0_put_16 : decode cX0_put 16 = .ok (.iload_n 2, 1) := dk_28 (dk_at dksX0_put_0 16 rfl rfl)
theorem dX0_put_17 : decode cX0_put 17 = .ok (.ishr, 1) := dk_122 (dk_at dksX0_put_0 17 rfl rfl)
theorem dX0_put_18 : decode cX0_put 18 = .ok (.i2b, 1) := dk_145 (dk_at dksX0_put_0 18 rfl rfl)
theorem dX0_put_19 : decode cX0_put 19 = .ok (.bastore, 1) := dk_84 (dk_at dksX0_put_0 19 rfl rfl)
theorem dX0_put_20 : decode cX0_put 20 = .ok (.aload_n 0, 1) := dk_42 (dk_at dksX0_put_0 20 rfl rfl)
theorem dX0_put_21 : decode cX0_put 21 = .ok (.dup, 1) := dk_89 (dk_at dksX0_put_0 21 rfl rfl)
theorem dX0_put_22 : decode cX0_put 22 = .ok (.getfield 139, 3) := dk_180 0 139 (dk_at dksX0_put_1 0 rfl rfl)
theorem dX0_put_25 : decode cX0_put 25 = .ok (.iconst 1, 1) := dk_4 (dk_at dksX0_put_1 3 rfl rfl)
theorem dX0_put_26 : decode cX0_put 26 = .ok (.iadd, 1) := dk_96 (dk_at dksX0_put_1 4 rfl rfl)
theorem dX0_put_27 : decode cX0_put 27 = .ok (.putfield 139, 3) := dk_181 0 139 (dk_at dksX0_put_1 5 rfl rfl)
theorem dX0_put_30 : decode cX0_put 30 = .ok (.iinc 2 (-8), 3) := dk_132 2 248 (dk_at dksX0_put_1 8 rfl rfl)
theorem dX0_put_33 : decode cX0_put 33 = .ok (.goto (-30), 3) := dk_167 255 226 (dk_at dksX0_put_1 11 rfl rfl)
theorem dX0_put_36 : decode cX0_put 36 = .ok (.return_, 1) := dk_177 (dk_at dksX0_put_1 14 rfl rfl)
abbrev cX0_end : ByteArray := prog_1_method_19_code
def yX0_end : MethodName := ⟨RX0, "end", "(I)I"⟩
def dkwX0_end_0 : List UInt8 := [27, 155, 0, 11, 27, 42, 180, 0, 139, 164, 0, 5, 2, 172, 42, 27, 181, 0, 139, 27, 172]
abbrev dktX0_end_0 : List UInt8 := dkwX0_end_0 ++ []
theorem dksX0_end_0 : cX0_end.data.toList.drop 0 = dktX0_end_0 := by decide +kernel
theorem dX0_end_0 : decode cX0_end 0 = .ok (.iload_n 1, 1) := dk_27 (dk_at dksX0_end_0 0 rfl rfl)
theorem dX0_end_1 : decode cX0_end 1 = .ok (.ifCond .lt 11, 3) := dk_155 0 11 (dk_at dksX0_end_0 1 rfl rfl)
theorem dX0_end_4 : decode cX0_end 4 = .ok (.iload_n 1, 1) := dk_27 (dk_at dksX0_end_0 4 rfl rfl)
theorem dX0_end_5 : decode cX0_end 5 = .ok (.aload_n 0, 1) := dk_42 (dk_at dksX0_end_0 5 rfl rfl)
theorem dX0_end_6 : decode cX0_end 6 = .ok (.getfield 139, 3) := dk_180 0 139 (dk_at dksX0_end_0 6 rfl rfl)
theorem dX0_end_9 : decode cX0_end 9 = .ok (.if_icmp .le 5, 3) := dk_164 0 5 (dk_at dksX0_end_0 9 rfl rfl)
theorem dX0_end_12 : decode cX0_end 12 = .ok (.iconst (-1), 1) := dk_2 (dk_at dksX0_end_0 12 rfl rfl)
theorem dX0_end_13 : decode cX0_end 13 = .ok (.ireturn, 1) := dk_172 (dk_at dksX0_end_0 13 rfl rfl)
theorem dX0_end_14 : decode cX0_end 14 = .ok (.aload_n 0, 1) := dk_42 (dk_at dksX0_end_0 14 rfl rfl)
theorem dX0_end_15 : decode cX0_end 15 = .ok (.iload_n 1, 1) := dk_27 (dk_at dksX0_end_0 15 rfl rfl)
theorem dX0_end_16 : decode cX0_end 16 = .ok (.putfield 139, 3) := dk_181 0 139 (dk_at dksX0_end_0 16 rfl rfl)
theorem dX0_end_19 : decode cX0_end 19 = .ok (.iload_n 1, 1) := dk_27 (dk_at dksX0_end_0 19 rfl rfl)
theorem dX0_end_20 : decode cX0_end 20 = .ok (.ireturn, 1) := dk_172 (dk_at dksX0_end_0 20 rfl rfl)
abbrev cX0_land : ByteArray := prog_1_method_20_code
def yX0_land : MethodName := ⟨RX0, "land", "()I"⟩
def dkwX0_land_5 : List UInt8 := [43, 180, 0, 136, 100, 61, 42, 3, 181, 0, 139, 28, 172, 58, 4, 42, 3, 181, 0, 139, 25, 4, 191]
abbrev dktX0_land_5 : List UInt8 := dkwX0_land_5 ++ []
def dkwX0_land_4 : List UInt8 := [132, 3, 1, 167, 255, 227, 42, 180, 0, 12, 182, 0, 89, 62, 42, 3, 181, 0, 139, 29, 172, 76, 16, 254]
abbrev dktX0_land_4 : List UInt8 := dkwX0_land_4 ++ dktX0_land_5
def dkwX0_land_3 : List UInt8 := [180, 0, 18, 182, 0, 89, 162, 0, 24, 42, 180, 0, 18, 29, 182, 0, 99, 192, 0, 109, 3, 182, 0, 166]
abbrev dktX0_land_3 : List UInt8 := dkwX0_land_3 ++ dktX0_land_4
def dkwX0_land_2 : List UInt8 := [3, 181, 0, 154, 42, 3, 181, 0, 157, 42, 3, 181, 0, 160, 42, 3, 181, 0, 163, 3, 62, 29, 42]
abbrev dktX0_land_2 : List UInt8 := dkwX0_land_2 ++ dktX0_land_3
def dkwX0_land_1 : List UInt8 := [178, 0, 67, 16, 24, 183, 0, 147, 43, 44, 182, 0, 150, 42, 43, 181, 0, 12, 42, 44, 181, 0, 18, 42]
abbrev dktX0_land_1 : List UInt8 := dkwX0_land_1 ++ dktX0_land_2
def dkwX0_land_0 : List UInt8 := [187, 0, 7, 89, 5, 183, 0, 9, 76, 187, 0, 7, 89, 5, 183, 0, 9, 77, 187, 0, 145, 89, 42]
abbrev dktX0_land_0 : List UInt8 := dkwX0_land_0 ++ dktX0_land_1
theorem dksX0_land_0 : cX0_land.data.toList.drop 0 = dktX0_land_0 := by decide +kernel
theorem dksX0_land_1 : cX0_land.data.toList.drop 23 = dktX0_land_1 := dk_seg dksX0_land_0 23 rfl rfl
theorem dksX0_land_2 : cX0_land.data.toList.drop 47 = dktX0_land_2 := dk_seg dksX0_land_1 24 rfl rfl
theorem dksX0_land_3 : cX0_land.data.toList.drop 70 = dktX0_land_3 := dk_seg dksX0_land_2 23 rfl rfl
theorem dksX0_land_4 : cX0_land.data.toList.drop 94 = dktX0_land_4 := dk_seg dksX0_land_3 24 rfl rfl
theorem dksX0_land_5 : cX0_land.data.toList.drop 118 = dktX0_land_5 := dk_seg dksX0_land_4 24 rfl rfl
theorem dX0_land_0 : decode cX0_land 0 = .ok (.new 7, 3) := dk_187 0 7 (dk_at dksX0_land_0 0 rfl rfl)
theorem dX0_land_3 : decode cX0_land 3 = .ok (.dup, 1) := dk_89 (dk_at dksX0_land_0 3 rfl rfl)
theorem dX0_land_4 : decode cX0_land 4 = .ok (.iconst 2, 1) := dk_5 (dk_at dksX0_land_0 4 rfl rfl)
theorem dX0_land_5 : decode cX0_land 5 = .ok (.invokespecial 9, 3) := dk_183 0 9 (dk_at dksX0_land_0 5 rfl rfl)
theorem dX0_land_8 : decode cX0_land 8 = .ok (.astore_n 1, 1) := dk_76 (dk_at dksX0_land_0 8 rfl rfl)
theorem dX0_land_9 : decode cX0_land 9 = .ok (.new 7, 3) := dk_187 0 7 (dk_at dksX0_land_0 9 rfl rfl)
theorem dX0_land_12 : decode cX0_land 12 = .ok (.dup, 1) := dk_89 (dk_at dksX0_land_0 12 rfl rfl)
theorem dX0_land_13 : decode cX0_land 13 = .ok (.iconst 2, 1) := dk_5 (dk_at dksX0_land_0 13 rfl rfl)
theorem dX0_land_14 : decode cX0_land 14 = .ok (.invokespecial 9, 3) := dk_183 0 9 (dk_at dksX0_land_0 14 rfl rfl)
theorem dX0_land_17 : decode cX0_land 17 = .ok (.astore_n 2, 1) := dk_77 (dk_at dksX0_land_0 17 rfl rfl)
theorem dX0_land_18 : decode cX0_land 18 = .ok (.new 145, 3) := dk_187 0 145 (dk_at dksX0_land_0 18 rfl rfl)
theorem dX0_land_21 : decode cX0_land 21 = .ok (.dup, 1) := dk_89 (dk_at dksX0_land_0 21 rfl rfl)
theorem dX0_land_22 : decode cX0_land 22 = .ok (.aload_n 0, 1) := dk_42 (dk_at dksX0_land_0 22 rfl rfl)
theorem dX0_land_23 : decode cX0_land 23 = .ok (.getstatic 67, 3) := dk_178 0 67 (dk_at dksX0_land_1 0 rfl rfl)
theorem dX0_land_26 : decode cX0_land 26 = .ok (.bipush 24, 2) := dk_16 24 (dk_at dksX0_land_1 3 rfl rfl)
theorem dX0_land_28 : decode cX0_land 28 = .ok (.invokespecial 147, 3) := dk_183 0 147 (dk_at dksX0_land_1 5 rfl rfl)
theorem dX0_land_31 : decode cX0_land 31 = .ok (.aload_n 1, 1) := dk_43 (dk_at dksX0_land_1 8 rfl rfl)
theorem dX0_land_32 : decode cX0_land 32 = .ok (.aload_n 2, 1) := dk_44 (dk_at dksX0_land_1 9 rfl rfl)
theorem dX0_land_33 : decode cX0_land 33 = .ok (.invokevirtual 150, 3) := dk_182 0 150 (dk_at dksX0_land_1 10 rfl rfl)
theorem dX0_land_36 : decode cX0_land 36 = .ok (.aload_n 0, 1) := dk_42 (dk_at dksX0_land_1 13 rfl rfl)
theorem dX0_land_37 : decode cX0_land 37 = .ok (.aload_n 1, 1) := dk_43 (dk_at dksX0_land_1 14 rfl rfl)
theorem dX0_land_38 : decode cX0_land 38 = .ok (.putfield 12, 3) := dk_181 0 12 (dk_at dksX0_land_1 15 rfl rfl)
theorem dX0_land_41 : decode cX0_land 41 = .ok (.aload_n 0, 1) := dk_42 (dk_at dksX0_land_1 18 rfl rfl)
theorem dX0_land_42 : decode cX0_land 42 = .ok (.aload_n 2, 1) := dk_44 (dk_at dksX0_land_1 19 rfl rfl)
theorem dX0_land_43 : decode cX0_land 43 = .ok (.putfield 18, 3) := dk_181 0 18 (dk_at dksX0_land_1 20 rfl rfl)
theorem dX0_land_46 : decode cX0_land 46 = .ok (.aload_n 0, 1) := dk_42 (dk_at dksX0_land_1 23 rfl rfl)
theorem dX0_land_47 : decode cX0_land 47 = .ok (.iconst 0, 1) := dk_3 (dk_at dksX0_land_2 0 rfl rfl)
theorem dX0_land_48 : decode cX0_land 48 = .ok (.putfield 154, 3) := dk_181 0 154 (dk_at dksX0_land_2 1 rfl rfl)
theorem dX0_land_51 : decode cX0_land 51 = .ok (.aload_n 0, 1) := dk_42 (dk_at dksX0_land_2 4 rfl rfl)
theorem dX0_land_52 : decode cX0_land 52 = .ok (.iconst 0, 1) := dk_3 (dk_at dksX0_land_2 5 rfl rfl)
theorem dX0_land_53 : decode cX0_land 53 = .ok (.putfield 157, 3) := dk_181 0 157 (dk_at dksX0_land_2 6 rfl rfl)
theorem dX0_land_56 : decode cX0_land 56 = .ok (.aload_n 0, 1) := dk_42 (dk_at dksX0_land_2 9 rfl rfl)
theorem dX0_land_57 : decode cX0_land 57 = .ok (.iconst 0, 1) := dk_3 (dk_at dksX0_land_2 10 rfl rfl)
theorem dX0_land_58 : decode cX0_land 58 = .ok (.putfield 160, 3) := dk_181 0 160 (dk_at dksX0_land_2 11 rfl rfl)
theorem dX0_land_61 : decode cX0_land 61 = .ok (.aload_n 0, 1) := dk_42 (dk_at dksX0_land_2 14 rfl rfl)
theorem dX0_land_62 : decode cX0_land 62 = .ok (.iconst 0, 1) := dk_3 (dk_at dksX0_land_2 15 rfl rfl)
theorem dX0_land_63 : decode cX0_land 63 = .ok (.putfield 163, 3) := dk_181 0 163 (dk_at dksX0_land_2 16 rfl rfl)
theorem dX0_land_66 : decode cX0_land 66 = .ok (.iconst 0, 1) := dk_3 (dk_at dksX0_land_2 19 rfl rfl)
theorem dX0_land_67 : decode cX0_land 67 = .ok (.istore_n 3, 1) := dk_62 (dk_at dksX0_land_2 20 rfl rfl)
theorem dX0_land_68 : decode cX0_land 68 = .ok (.iload_n 3, 1) := dk_29 (dk_at dksX0_land_2 21 rfl rfl)
theorem dX0_land_69 : decode cX0_land 69 = .ok (.aload_n 0, 1) := dk_42 (dk_at dksX0_land_2 22 rfl rfl)
theorem dX0_land_70 : decode cX0_land 70 = .ok (.getfield 18, 3) := dk_180 0 18 (dk_at dksX0_land_3 0 rfl rfl)
theorem dX0_land_73 : decode cX0_land 73 = .ok (.invokevirtual 89, 3) := dk_182 0 89 (dk_at dksX0_land_3 3 rfl rfl)
theorem dX0_land_76 : decode cX0_land 76 = .ok (.if_icmp .ge 24, 3) := dk_162 0 24 (dk_at dksX0_land_3 6 rfl rfl)
theorem dX0_land_79 : decode cX0_land 79 = .ok (.aload_n 0, 1) := dk_42 (dk_at dksX0_land_3 9 rfl rfl)
theorem dX0_land_80 : decode cX0_land 80 = .ok (.getfield 18, 3) := dk_180 0 18 (dk_at dksX0_land_3 10 rfl rfl)
theorem dX0_land_83 : decode cX0_land 83 = .ok (.iload_n 3, 1) := dk_29 (dk_at dksX0_land_3 13 rfl rfl)
theorem dX0_land_84 : decode cX0_land 84 = .ok (.invokevirtual 99, 3) := dk_182 0 99 (dk_at dksX0_land_3 14 rfl rfl)
theorem dX0_land_87 : decode cX0_land 87 = .ok (.checkcast 109, 3) := dk_192 0 109 (dk_at dksX0_land_3 17 rfl rfl)
theorem dX0_land_90 : decode cX0_land 90 = .ok (.iconst 0, 1) := dk_3 (dk_at dksX0_land_3 20 rfl rfl)
theorem dX0_land_91 : decode cX0_land 91 = .ok (.invokevirtual 166, 3) := dk_182 0 166 (dk_at dksX0_land_3 21 rfl rfl)
theorem dX0_land_94 : decode cX0_land 94 = .ok (.iinc 3 1, 3) := dk_132 3 1 (dk_at dksX0_land_4 0 rfl rfl)
theorem dX0_land_97 : decode cX0_land 97 = .ok (.goto (-29), 3) := dk_167 255 227 (dk_at dksX0_land_4 3 rfl rfl)
theorem dX0_land_100 : decode cX0_land 100 = .ok (.aload_n 0, 1) := dk_42 (dk_at dksX0_land_4 6 rfl rfl)
theorem dX0_land_101 : decode cX0_land 101 = .ok (.getfield 12, 3) := dk_180 0 12 (dk_at dksX0_land_4 7 rfl rfl)
theorem dX0_land_104 : decode cX0_land 104 = .ok (.invokevirtual 89, 3) := dk_182 0 89 (dk_at dksX0_land_4 10 rfl rfl)
theorem dX0_land_107 : decode cX0_land 107 = .ok (.istore_n 3, 1) := dk_62 (dk_at dksX0_land_4 13 rfl rfl)
theorem dX0_land_108 : decode cX0_land 108 = .ok (.aload_n 0, 1) := dk_42 (dk_at dksX0_land_4 14 rfl rfl)
theorem dX0_land_109 : decode cX0_land 109 = .ok (.iconst 0, 1) := dk_3 (dk_at dksX0_land_4 15 rfl rfl)
theorem dX0_land_110 : decode cX0_land 110 = .ok (.putfield 139, 3) := dk_181 0 139 (dk_at dksX0_land_4 16 rfl rfl)
theorem dX0_land_113 : decode cX0_land 113 = .ok (.iload_n 3, 1) := dk_29 (dk_at dksX0_land_4 19 rfl rfl)
theorem dX0_land_114 : decode cX0_land 114 = .ok (.ireturn, 1) := dk_172 (dk_at dksX0_land_4 20 rfl rfl)
theorem dX0_land_115 : decode cX0_land 115 = .ok (.astore_n 1, 1) := dk_76 (dk_at dksX0_land_4 21 rfl rfl)
theorem dX0_land_116 : decode cX0_land 116 = .ok (.bipush (-2), 2) := dk_16 254 (dk_at dksX0_land_4 22 rfl rfl)
theorem dX0_land_118 : decode cX0_land 118 = .ok (.aload_n 1, 1) := dk_43 (dk_at dksX0_land_5 0 rfl rfl)
theorem dX0_land_119 : decode cX0_land 119 = .ok (.getfield 136, 3) := dk_180 0 136 (dk_at dksX0_land_5 1 rfl rfl)
theorem dX0_land_122 : decode cX0_land 122 = .ok (.isub, 1) := dk_100 (dk_at dksX0_land_5 4 rfl rfl)
theorem dX0_land_123 : decode cX0_land 123 = .ok (.istore_n 2, 1) := dk_61 (dk_at dksX0_land_5 5 rfl rfl)
theorem dX0_land_124 : decode cX0_land 124 = .ok (.aload_n 0, 1) := dk_42 (dk_at dksX0_land_5 6 rfl rfl)
theorem dX0_land_125 : decode cX0_land 125 = .ok (.iconst 0, 1) := dk_3 (dk_at dksX0_land_5 7 rfl rfl)
theorem dX0_land_126 : decode cX0_land 126 = .ok (.putfield 139, 3) := dk_181 0 139 (dk_at dksX0_land_5 8 rfl rfl)
theorem dX0_land_129 : decode cX0_land 129 = .ok (.iload_n 2, 1) := dk_28 (dk_at dksX0_land_5 11 rfl rfl)
theorem dX0_land_130 : decode cX0_land 130 = .ok (.ireturn, 1) := dk_172 (dk_at dksX0_land_5 12 rfl rfl)
theorem dX0_land_131 : decode cX0_land 131 = .ok (.astore 4, 2) := dk_58 4 (dk_at dksX0_land_5 13 rfl rfl)
theorem dX0_land_133 : decode cX0_land 133 = .ok (.aload_n 0, 1) := dk_42 (dk_at dksX0_land_5 15 rfl rfl)
theorem dX0_land_134 : decode cX0_land 134 = .ok (.iconst 0, 1) := dk_3 (dk_at dksX0_land_5 16 rfl rfl)
theorem dX0_land_135 : decode cX0_land 135 = .ok (.putfield 139, 3) := dk_181 0 139 (dk_at dksX0_land_5 17 rfl rfl)
theorem dX0_land_138 : decode cX0_land 138 = .ok (.aload 4, 2) := dk_25 4 (dk_at dksX0_land_5 20 rfl rfl)
theorem dX0_land_140 : decode cX0_land 140 = .ok (.athrow, 1) := dk_191 (dk_at dksX0_land_5 22 rfl rfl)
abbrev cX0_in : ByteArray := prog_1_method_1_code
def yX0_in : MethodName := ⟨RX0, "in", "(JJJ)Z"⟩
def dkwX0_in_0 : List UInt8 := [30, 32, 148, 155, 0, 14, 30, 22, 4, 148, 157, 0, 7, 4, 167, 0, 4, 3, 172]
abbrev dktX0_in_0 : List UInt8 := dkwX0_in_0 ++ []
theorem dksX0_in_0 : cX0_in.data.toList.drop 0 = dktX0_in_0 := by decide +kernel
theorem dX0_in_0 : decode cX0_in 0 = .ok (.lload_n 0, 1) := dk_30 (dk_at dksX0_in_0 0 rfl rfl)
theorem dX0_in_1 : decode cX0_in 1 = .ok (.lload_n 2, 1) := dk_32 (dk_at dksX0_in_0 1 rfl rfl)
theorem dX0_in_2 : decode cX0_in 2 = .ok (.lcmp, 1) := dk_148 (dk_at dksX0_in_0 2 rfl rfl)
theorem dX0_in_3 : decode cX0_in 3 = .ok (.ifCond .lt 14, 3) := dk_155 0 14 (dk_at dksX0_in_0 3 rfl rfl)
theorem dX0_in_6 : decode cX0_in 6 = .ok (.lload_n 0, 1) := dk_30 (dk_at dksX0_in_0 6 rfl rfl)
theorem dX0_in_7 : decode cX0_in 7 = .ok (.lload 4, 2) := dk_22 4 (dk_at dksX0_in_0 7 rfl rfl)
theorem dX0_in_9 : decode cX0_in 9 = .ok (.lcmp, 1) := dk_148 (dk_at dksX0_in_0 9 rfl rfl)
theorem dX0_in_10 : decode cX0_in 10 = .ok (.ifCond .gt 7, 3) := dk_157 0 7 (dk_at dksX0_in_0 10 rfl rfl)
theorem dX0_in_13 : decode cX0_in 13 = .ok (.iconst 1, 1) := dk_4 (dk_at dksX0_in_0 13 rfl rfl)
theorem dX0_in_14 : decode cX0_in 14 = .ok (.goto 4, 3) := dk_167 0 4 (dk_at dksX0_in_0 14 rfl rfl)
theorem dX0_in_17 : decode cX0_in 17 = .ok (.iconst 0, 1) := dk_3 (dk_at dksX0_in_0 17 rfl rfl)
theorem dX0_in_18 : decode cX0_in 18 = .ok (.ireturn, 1) := dk_172 (dk_at dksX0_in_0 18 rfl rfl)
abbrev cX0_fails : ByteArray := prog_1_method_16_code
def yX0_fails : MethodName := ⟨RX0, "fails", "(II)LTurningRoads$Wrong;"⟩
def dkwX0_fails_0 : List UInt8 := [42, 180, 0, 27, 4, 16, 8, 28, 104, 96, 27, 96, 181, 0, 136, 42, 180, 0, 27, 176]
abbrev dktX0_fails_0 : List UInt8 := dkwX0_fails_0 ++ []
theorem dksX0_fails_0 : cX0_fails.data.toList.drop 0 = dktX0_fails_0 := by decide +kernel
theorem dX0_fails_0 : decode cX0_fails 0 = .ok (.aload_n 0, 1) := dk_42 (dk_at dksX0_fails_0 0 rfl rfl)
theorem dX0_fails_1 : decode cX0_fails 1 = .ok (.getfield 27, 3) := dk_180 0 27 (dk_at dksX0_fails_0 1 rfl rfl)
theorem dX0_fails_4 : decode cX0_fails 4 = .ok (.iconst 1, 1) := dk_4 (dk_at dksX0_fails_0 4 rfl rfl)
theorem dX0_fails_5 : decode cX0_fails 5 = .ok (.bipush 8, 2) := dk_16 8 (dk_at dksX0_fails_0 5 rfl rfl)
theorem dX0_fails_7 : decode cX0_fails 7 = .ok (.iload_n 2, 1) := dk_28 (dk_at dksX0_fails_0 7 rfl rfl)
theorem dX0_fails_8 : decode cX0_fails 8 = .ok (.imul, 1) := dk_104 (dk_at dksX0_fails_0 8 rfl rfl)
theorem dX0_fails_9 : decode cX0_fails 9 = .ok (.iadd, 1) := dk_96 (dk_at dksX0_fails_0 9 rfl rfl)
theorem dX0_fails_10 : decode cX0_fails 10 = .ok (.iload_n 1, 1) := dk_27 (dk_at dksX0_fails_0 10 rfl rfl)
theorem dX0_fails_11 : decode cX0_fails 11 = .ok (.iadd, 1) := dk_96 (dk_at dksX0_fails_0 11 rfl rfl)
theorem dX0_fails_12 : decode cX0_fails 12 = .ok (.putfield 136, 3) := dk_181 0 136 (dk_at dksX0_fails_0 12 rfl rfl)
theorem dX0_fails_15 : decode cX0_fails 15 = .ok (.aload_n 0, 1) := dk_42 (dk_at dksX0_fails_0 15 rfl rfl)
theorem dX0_fails_16 : decode cX0_fails 16 = .ok (.getfield 27, 3) := dk_180 0 27 (dk_at dksX0_fails_0 16 rfl rfl)
theorem dX0_fails_19 : decode cX0_fails 19 = .ok (.areturn, 1) := dk_176 (dk_at dksX0_fails_0 19 rfl rfl)
abbrev cX0_rule : ByteArray := prog_1_method_21_code
def yX0_rule : MethodName := ⟨RX0, "rule", "()I"⟩
def dkwX0_rule_2 : List UInt8 := [3, 181, 0, 139, 28, 172, 78, 42, 3, 181, 0, 139, 45, 191]
abbrev dktX0_rule_2 : List UInt8 := dkwX0_rule_2 ++ []
def dkwX0_rule_1 : List UInt8 := [183, 0, 147, 182, 0, 168, 60, 42, 3, 181, 0, 139, 27, 172, 76, 16, 254, 43, 180, 0, 136, 100, 61, 42]
abbrev dktX0_rule_1 : List UInt8 := dkwX0_rule_1 ++ dktX0_rule_2
def dkwX0_rule_0 : List UInt8 := [42, 180, 0, 21, 182, 0, 89, 16, 6, 160, 0, 5, 2, 172, 187, 0, 145, 89, 42, 178, 0, 67, 16, 12]
abbrev dktX0_rule_0 : List UInt8 := dkwX0_rule_0 ++ dktX0_rule_1
theorem dksX0_rule_0 : cX0_rule.data.toList.drop 0 = dktX0_rule_0 := by decide +kernel
theorem dksX0_rule_1 : cX0_rule.data.toList.drop 24 = dktX0_rule_1 := dk_seg dksX0_rule_0 24 rfl rfl
theorem dksX0_rule_2 : cX0_rule.data.toList.drop 48 = dktX0_rule_2 := dk_seg dksX0_rule_1 24 rfl rfl
theorem dX0_rule_0 : decode cX0_rule 0 = .ok (.aload_n 0, 1) := dk_42 (dk_at dksX0_rule_0 0 rfl rfl)
theorem dX0_rule_1 : decode cX0_rule 1 = .ok (.getfield 21, 3) := dk_180 0 21 (dk_at dksX0_rule_0 1 rfl rfl)
theorem dX0_rule_4 : decode cX0_rule 4 = .ok (.invokevirtual 89, 3) := dk_182 0 89 (dk_at dksX0_rule_0 4 rfl rfl)
theorem dX0_rule_7 : decode cX0_rule 7 = .ok (.bipush 6, 2) := dk_16 6 (dk_at dksX0_rule_0 7 rfl rfl)
theorem dX0_rule_9 : decode cX0_rule 9 = .ok (.if_icmp .ne 5, 3) := dk_160 0 5 (dk_at dksX0_rule_0 9 rfl rfl)
theorem dX0_rule_12 : decode cX0_rule 12 = .ok (.iconst (-1), 1) := dk_2 (dk_at dksX0_rule_0 12 rfl rfl)
theorem dX0_rule_13 : decode cX0_rule 13 = .ok (.ireturn, 1) := dk_172 (dk_at dksX0_rule_0 13 rfl rfl)
theorem dX0_rule_14 : decode cX0_rule 14 = .ok (.new 145, 3) := dk_187 0 145 (dk_at dksX0_rule_0 14 rfl rfl)
theorem dX0_rule_17 : decode cX0_rule 17 = .ok (.dup, 1) := dk_89 (dk_at dksX0_rule_0 17 rfl rfl)
theorem dX0_rule_18 : decode cX0_rule 18 = .ok (.aload_n 0, 1) := dk_42 (dk_at dksX0_rule_0 18 rfl rfl)
theorem dX0_rule_19 : decode cX0_rule 19 = .ok (.getstatic 67, 3) := dk_178 0 67 (dk_at dksX0_rule_0 19 rfl rfl)
theorem dX0_rule_22 : decode cX0_rule 22 = .ok (.bipush 12, 2) := dk_16 12 (dk_at dksX0_rule_0 22 rfl rfl)
theorem dX0_rule_24 : decode cX0_rule 24 = .ok (.invokespecial 147, 3) := dk_183 0 147 (dk_at dksX0_rule_1 0 rfl rfl)
theorem dX0_rule_27 : decode cX0_rule 27 = .ok (.invokevirtual 168, 3) := dk_182 0 168 (dk_at dksX0_rule_1 3 rfl rfl)
theorem dX0_rule_30 : decode cX0_rule 30 = .ok (.istore_n 1, 1) := dk_60 (dk_at dksX0_rule_1 6 rfl rfl)
theorem dX0_rule_31 : decode cX0_rule 31 = .ok (.aload_n 0, 1) := dk_42 (dk_at dksX0_rule_1 7 rfl rfl)
theorem dX0_rule_32 : decode cX0_rule 32 = .ok (.iconst 0, 1) := dk_3 (dk_at dksX0_rule_1 8 rfl rfl)
theorem dX0_rule_33 : decode cX0_rule 33 = .ok (.putfield 139, 3) := dk_181 0 139 (dk_at dksX0_rule_1 9 rfl rfl)
theorem dX0_rule_36 : decode cX0_rule 36 = .ok (.iload_n 1, 1) := dk_27 (dk_at dksX0_rule_1 12 rfl rfl)
theorem dX0_rule_37 : decode cX0_rule 37 = .ok (.ireturn, 1) := dk_172 (dk_at dksX0_rule_1 13 rfl rfl)
theorem dX0_rule_38 : decode cX0_rule 38 = .ok (.astore_n 1, 1) := dk_76 (dk_at dksX0_rule_1 14 rfl rfl)
theorem dX0_rule_39 : decode cX0_rule 39 = .ok (.bipush (-2), 2) := dk_16 254 (dk_at dksX0_rule_1 15 rfl rfl)
theorem dX0_rule_41 : decode cX0_rule 41 = .ok (.aload_n 1, 1) := dk_43 (dk_at dksX0_rule_1 17 rfl rfl)
theorem dX0_rule_42 : decode cX0_rule 42 = .ok (.getfield 136, 3) := dk_180 0 136 (dk_at dksX0_rule_1 18 rfl rfl)
theorem dX0_rule_45 : decode cX0_rule 45 = .ok (.isub, 1) := dk_100 (dk_at dksX0_rule_1 21 rfl rfl)
theorem dX0_rule_46 : decode cX0_rule 46 = .ok (.istore_n 2, 1) := dk_61 (dk_at dksX0_rule_1 22 rfl rfl)
theorem dX0_rule_47 : decode cX0_rule 47 = .ok (.aload_n 0, 1) := dk_42 (dk_at dksX0_rule_1 23 rfl rfl)
theorem dX0_rule_48 : decode cX0_rule 48 = .ok (.iconst 0, 1) := dk_3 (dk_at dksX0_rule_2 0 rfl rfl)
theorem dX0_rule_49 : decode cX0_rule 49 = .ok (.putfield 139, 3) := dk_181 0 139 (dk_at dksX0_rule_2 1 rfl rfl)
theorem dX0_rule_52 : decode cX0_rule 52 = .ok (.iload_n 2, 1) := dk_28 (dk_at dksX0_rule_2 4 rfl rfl)
theorem dX0_rule_53 : decode cX0_rule 53 = .ok (.ireturn, 1) := dk_172 (dk_at dksX0_rule_2 5 rfl rfl)
theorem dX0_rule_54 : decode cX0_rule 54 = .ok (.astore_n 3, 1) := dk_78 (dk_at dksX0_rule_2 6 rfl rfl)
theorem dX0_rule_55 : decode cX0_rule 55 = .ok (.aload_n 0, 1) := dk_42 (dk_at dksX0_rule_2 7 rfl rfl)
theorem dX0_rule_56 : decode cX0_rule 56 = .ok (.iconst 0, 1) := dk_3 (dk_at dksX0_rule_2 8 rfl rfl)
theorem dX0_rule_57 : decode cX0_rule 57 = .ok (.putfield 139, 3) := dk_181 0 139 (dk_at dksX0_rule_2 9 rfl rfl)
theorem dX0_rule_60 : decode cX0_rule 60 = .ok (.aload_n 3, 1) := dk_45 (dk_at dksX0_rule_2 12 rfl rfl)
theorem dX0_rule_61 : decode cX0_rule 61 = .ok (.athrow, 1) := dk_191 (dk_at dksX0_rule_2 13 rfl rfl)
abbrev cX0_way : ByteArray := prog_1_method_22_code
def yX0_way : MethodName := ⟨RX0, "way", "(II)I"⟩
def dkwX0_way_3 : List UInt8 := [172, 42, 27, 182, 0, 184, 172, 2, 172]
abbrev dktX0_way_3 : List UInt8 := dkwX0_way_3 ++ []
def dkwX0_way_2 : List UInt8 := [45, 182, 0, 119, 172, 45, 182, 0, 129, 172, 45, 180, 0, 175, 172, 45, 180, 0, 178, 172, 45, 180, 0, 181]
abbrev dktX0_way_2 : List UInt8 := dkwX0_way_2 ++ dktX0_way_3
def dkwX0_way_1 : List UInt8 := [170, 0, 0, 0, 68, 0, 0, 0, 0, 0, 0, 0, 5, 0, 0, 0, 37, 0, 0, 0, 42, 0, 0, 0, 47, 0, 0, 0, 52, 0, 0, 0, 57, 0, 0, 0, 62]
abbrev dktX0_way_1 : List UInt8 := dkwX0_way_1 ++ dktX0_way_2
def dkwX0_way_0 : List UInt8 := [42, 27, 182, 0, 171, 154, 0, 5, 2, 172, 42, 180, 0, 12, 27, 182, 0, 99, 192, 0, 103, 78, 28]
abbrev dktX0_way_0 : List UInt8 := dkwX0_way_0 ++ dktX0_way_1
theorem dksX0_way_0 : cX0_way.data.toList.drop 0 = dktX0_way_0 := by decide +kernel
theorem dksX0_way_1 : cX0_way.data.toList.drop 23 = dktX0_way_1 := dk_seg dksX0_way_0 23 rfl rfl
theorem dksX0_way_2 : cX0_way.data.toList.drop 60 = dktX0_way_2 := dk_seg dksX0_way_1 37 rfl rfl
theorem dksX0_way_3 : cX0_way.data.toList.drop 84 = dktX0_way_3 := dk_seg dksX0_way_2 24 rfl rfl
theorem dX0_way_0 : decode cX0_way 0 = .ok (.aload_n 0, 1) := dk_42 (dk_at dksX0_way_0 0 rfl rfl)
theorem dX0_way_1 : decode cX0_way 1 = .ok (.iload_n 1, 1) := dk_27 (dk_at dksX0_way_0 1 rfl rfl)
theorem dX0_way_2 : decode cX0_way 2 = .ok (.invokevirtual 171, 3) := dk_182 0 171 (dk_at dksX0_way_0 2 rfl rfl)
theorem dX0_way_5 : decode cX0_way 5 = .ok (.ifCond .ne 5, 3) := dk_154 0 5 (dk_at dksX0_way_0 5 rfl rfl)
theorem dX0_way_8 : decode cX0_way 8 = .ok (.iconst (-1), 1) := dk_2 (dk_at dksX0_way_0 8 rfl rfl)
theorem dX0_way_9 : decode cX0_way 9 = .ok (.ireturn, 1) := dk_172 (dk_at dksX0_way_0 9 rfl rfl)
theorem dX0_way_10 : decode cX0_way 10 = .ok (.aload_n 0, 1) := dk_42 (dk_at dksX0_way_0 10 rfl rfl)
theorem dX0_way_11 : decode cX0_way 11 = .ok (.getfield 12, 3) := dk_180 0 12 (dk_at dksX0_way_0 11 rfl rfl)
theorem dX0_way_14 : decode cX0_way 14 = .ok (.iload_n 1, 1) := dk_27 (dk_at dksX0_way_0 14 rfl rfl)
theorem dX0_way_15 : decode cX0_way 15 = .ok (.invokevirtual 99, 3) := dk_182 0 99 (dk_at dksX0_way_0 15 rfl rfl)
theorem dX0_way_18 : decode cX0_way 18 = .ok (.checkcast 103, 3) := dk_192 0 103 (dk_at dksX0_way_0 18 rfl rfl)
theorem dX0_way_21 : decode cX0_way 21 = .ok (.astore_n 3, 1) := dk_78 (dk_at dksX0_way_0 21 rfl rfl)
theorem dX0_way_22 : decode cX0_way 22 = .ok (.iload_n 2, 1) := dk_28 (dk_at dksX0_way_0 22 rfl rfl)
theorem dX0_way_23 : decode cX0_way 23 = .ok (.tableswitch 68 0 5 #[37, 42, 47, 52, 57, 62], 37) := by decide +kernel
theorem dX0_way_60 : decode cX0_way 60 = .ok (.aload_n 3, 1) := dk_45 (dk_at dksX0_way_2 0 rfl rfl)
theorem dX0_way_61 : decode cX0_way 61 = .ok (.invokevirtual 119, 3) := dk_182 0 119 (dk_at dksX0_way_2 1 rfl rfl)
theorem dX0_way_64 : decode cX0_way 64 = .ok (.ireturn, 1) := dk_172 (dk_at dksX0_way_2 4 rfl rfl)
theorem dX0_way_65 : decode cX0_way 65 = .ok (.aload_n 3, 1) := dk_45 (dk_at dksX0_way_2 5 rfl rfl)
theorem dX0_way_66 : decode cX0_way 66 = .ok (.invokevirtual 129, 3) := dk_182 0 129 (dk_at dksX0_way_2 6 rfl rfl)
theorem dX0_way_69 : decode cX0_way 69 = .ok (.ireturn, 1) := dk_172 (dk_at dksX0_way_2 9 rfl rfl)
theorem dX0_way_70 : decode cX0_way 70 = .ok (.aload_n 3, 1) := dk_45 (dk_at dksX0_way_2 10 rfl rfl)
theorem dX0_way_71 : decode cX0_way 71 = .ok (.getfield 175, 3) := dk_180 0 175 (dk_at dksX0_way_2 11 rfl rfl)
theorem dX0_way_74 : decode cX0_way 74 = .ok (.ireturn, 1) := dk_172 (dk_at dksX0_way_2 14 rfl rfl)
theorem dX0_way_75 : decode cX0_way 75 = .ok (.aload_n 3, 1) := dk_45 (dk_at dksX0_way_2 15 rfl rfl)
theorem dX0_way_76 : decode cX0_way 76 = .ok (.getfield 178, 3) := dk_180 0 178 (dk_at dksX0_way_2 16 rfl rfl)
theorem dX0_way_79 : decode cX0_way 79 = .ok (.ireturn, 1) := dk_172 (dk_at dksX0_way_2 19 rfl rfl)
theorem dX0_way_80 : decode cX0_way 80 = .ok (.aload_n 3, 1) := dk_45 (dk_at dksX0_way_2 20 rfl rfl)
theorem dX0_way_81 : decode cX0_way 81 = .ok (.getfield 181, 3) := dk_180 0 181 (dk_at dksX0_way_2 21 rfl rfl)
theorem dX0_way_84 : decode cX0_way 84 = .ok (.ireturn, 1) := dk_172 (dk_at dksX0_way_3 0 rfl rfl)
theorem dX0_way_85 : decode cX0_way 85 = .ok (.aload_n 0, 1) := dk_42 (dk_at dksX0_way_3 1 rfl rfl)
theorem dX0_way_86 : decode cX0_way 86 = .ok (.iload_n 1, 1) := dk_27 (dk_at dksX0_way_3 2 rfl rfl)
theorem dX0_way_87 : decode cX0_way 87 = .ok (.invokevirtual 184, 3) := dk_182 0 184 (dk_at dksX0_way_3 3 rfl rfl)
theorem dX0_way_90 : decode cX0_way 90 = .ok (.ireturn, 1) := dk_172 (dk_at dksX0_way_3 6 rfl rfl)
theorem dX0_way_91 : decode cX0_way 91 = .ok (.iconst (-1), 1) := dk_2 (dk_at dksX0_way_3 7 rfl rfl)
theorem dX0_way_92 : decode cX0_way 92 = .ok (.ireturn, 1) := dk_172 (dk_at dksX0_way_3 8 rfl rfl)
abbrev cX0_isWay : ByteArray := prog_1_method_4_code
def yX0_isWay : MethodName := ⟨RX0, "isWay", "(I)Z"⟩
def dkwX0_isWay_0 : List UInt8 := [27, 133, 9, 42, 180, 0, 12, 182, 0, 89, 4, 100, 133, 184, 0, 93, 172]
abbrev dktX0_isWay_0 : List UInt8 := dkwX0_isWay_0 ++ []
theorem dksX0_isWay_0 : cX0_isWay.data.toList.drop 0 = dktX0_isWay_0 := by decide +kernel
theorem dX0_isWay_0 : decode cX0_isWay 0 = .ok (.iload_n 1, 1) := dk_27 (dk_at dksX0_isWay_0 0 rfl rfl)
theorem dX0_isWay_1 : decode cX0_isWay 1 = .ok (.i2l, 1) := dk_133 (dk_at dksX0_isWay_0 1 rfl rfl)
theorem dX0_isWay_2 : decode cX0_isWay 2 = .ok (.lconst 0, 1) := dk_9 (dk_at dksX0_isWay_0 2 rfl rfl)
theorem dX0_isWay_3 : decode cX0_isWay 3 = .ok (.aload_n 0, 1) := dk_42 (dk_at dksX0_isWay_0 3 rfl rfl)
theorem dX0_isWay_4 : decode cX0_isWay 4 = .ok (.getfield 12, 3) := dk_180 0 12 (dk_at dksX0_isWay_0 4 rfl rfl)
theorem dX0_isWay_7 : decode cX0_isWay 7 = .ok (.invokevirtual 89, 3) := dk_182 0 89 (dk_at dksX0_isWay_0 7 rfl rfl)
theorem dX0_isWay_10 : decode cX0_isWay 10 = .ok (.iconst 1, 1) := dk_4 (dk_at dksX0_isWay_0 10 rfl rfl)
theorem dX0_isWay_11 : decode cX0_isWay 11 = .ok (.isub, 1) := dk_100 (dk_at dksX0_isWay_0 11 rfl rfl)
theorem dX0_isWay_12 : decode cX0_isWay 12 = .ok (.i2l, 1) := dk_133 (dk_at dksX0_isWay_0 12 rfl rfl)
theorem dX0_isWay_13 : decode cX0_isWay 13 = .ok (.invokestatic 93, 3) := dk_184 0 93 (dk_at dksX0_isWay_0 13 rfl rfl)
theorem dX0_isWay_16 : decode cX0_isWay 16 = .ok (.ireturn, 1) := dk_172 (dk_at dksX0_isWay_0 16 rfl rfl)
abbrev cX0_on : ByteArray := prog_1_method_8_code
def yX0_on : MethodName := ⟨RX0, "on", "(I)I"⟩
def dkwX0_on_2 : List UInt8 := [172]
abbrev dktX0_on_2 : List UInt8 := dkwX0_on_2 ++ []
def dkwX0_on_1 : List UInt8 := [192, 0, 109, 180, 0, 111, 27, 160, 0, 7, 4, 167, 0, 4, 3, 96, 61, 132, 3, 1, 167, 255, 216, 28]
abbrev dktX0_on_1 : List UInt8 := dkwX0_on_1 ++ dktX0_on_2
def dkwX0_on_0 : List UInt8 := [3, 61, 3, 62, 29, 42, 180, 0, 18, 182, 0, 89, 162, 0, 35, 28, 42, 180, 0, 18, 29, 182, 0, 99]
abbrev dktX0_on_0 : List UInt8 := dkwX0_on_0 ++ dktX0_on_1
theorem dksX0_on_0 : cX0_on.data.toList.drop 0 = dktX0_on_0 := by decide +kernel
theorem dksX0_on_1 : cX0_on.data.toList.drop 24 = dktX0_on_1 := dk_seg dksX0_on_0 24 rfl rfl
theorem dksX0_on_2 : cX0_on.data.toList.drop 48 = dktX0_on_2 := dk_seg dksX0_on_1 24 rfl rfl
theorem dX0_on_0 : decode cX0_on 0 = .ok (.iconst 0, 1) := dk_3 (dk_at dksX0_on_0 0 rfl rfl)
theorem dX0_on_1 : decode cX0_on 1 = .ok (.istore_n 2, 1) := dk_61 (dk_at dksX0_on_0 1 rfl rfl)
theorem dX0_on_2 : decode cX0_on 2 = .ok (.iconst 0, 1) := dk_3 (dk_at dksX0_on_0 2 rfl rfl)
theorem dX0_on_3 : decode cX0_on 3 = .ok (.istore_n 3, 1) := dk_62 (dk_at dksX0_on_0 3 rfl rfl)
theorem dX0_on_4 : decode cX0_on 4 = .ok (.iload_n 3, 1) := dk_29 (dk_at dksX0_on_0 4 rfl rfl)
theorem dX0_on_5 : decode cX0_on 5 = .ok (.aload_n 0, 1) := dk_42 (dk_at dksX0_on_0 5 rfl rfl)
theorem dX0_on_6 : decode cX0_on 6 = .ok (.getfield 18, 3) := dk_180 0 18 (dk_at dksX0_on_0 6 rfl rfl)
theorem dX0_on_9 : decode cX0_on 9 = .ok (.invokevirtual 89, 3) := dk_182 0 89 (dk_at dksX0_on_0 9 rfl rfl)
theorem dX0_on_12 : decode cX0_on 12 = .ok (.if_icmp .ge 35, 3) := dk_162 0 35 (dk_at dksX0_on_0 12 rfl rfl)
theorem dX0_on_15 : decode cX0_on 15 = .ok (.iload_n 2, 1) := dk_28 (dk_at dksX0_on_0 15 rfl rfl)
theorem dX0_on_16 : decode cX0_on 16 = .ok (.aload_n 0, 1) := dk_42 (dk_at dksX0_on_0 16 rfl rfl)
theorem dX0_on_17 : decode cX0_on 17 = .ok (.getfield 18, 3) := dk_180 0 18 (dk_at dksX0_on_0 17 rfl rfl)
theorem dX0_on_20 : decode cX0_on 20 = .ok (.iload_n 3, 1) := dk_29 (dk_at dksX0_on_0 20 rfl rfl)
theorem dX0_on_21 : decode cX0_on 21 = .ok (.invokevirtual 99, 3) := dk_182 0 99 (dk_at dksX0_on_0 21 rfl rfl)
theorem dX0_on_24 : decode cX0_on 24 = .ok (.checkcast 109, 3) := dk_192 0 109 (dk_at dksX0_on_1 0 rfl rfl)
theorem dX0_on_27 : decode cX0_on 27 = .ok (.getfield 111, 3) := dk_180 0 111 (dk_at dksX0_on_1 3 rfl rfl)
theorem dX0_on_30 : decode cX0_on 30 = .ok (.iload_n 1, 1) := dk_27 (dk_at dksX0_on_1 6 rfl rfl)
theorem dX0_on_31 : decode cX0_on 31 = .ok (.if_icmp .ne 7, 3) := dk_160 0 7 (dk_at dksX0_on_1 7 rfl rfl)
theorem dX0_on_34 : decode cX0_on 34 = .ok (.iconst 1, 1) := dk_4 (dk_at dksX0_on_1 10 rfl rfl)
theorem dX0_on_35 : decode cX0_on 35 = .ok (.goto 4, 3) := dk_167 0 4 (dk_at dksX0_on_1 11 rfl rfl)
theorem dX0_on_38 : decode cX0_on 38 = .ok (.iconst 0, 1) := dk_3 (dk_at dksX0_on_1 14 rfl rfl)
theorem dX0_on_39 : decode cX0_on 39 = .ok (.iadd, 1) := dk_96 (dk_at dksX0_on_1 15 rfl rfl)
theorem dX0_on_40 : decode cX0_on 40 = .ok (.istore_n 2, 1) := dk_61 (dk_at dksX0_on_1 16 rfl rfl)
theorem dX0_on_41 : decode cX0_on 41 = .ok (.iinc 3 1, 3) := dk_132 3 1 (dk_at dksX0_on_1 17 rfl rfl)
theorem dX0_on_44 : decode cX0_on 44 = .ok (.goto (-40), 3) := dk_167 255 216 (dk_at dksX0_on_1 20 rfl rfl)
theorem dX0_on_47 : decode cX0_on 47 = .ok (.iload_n 2, 1) := dk_28 (dk_at dksX0_on_1 23 rfl rfl)
theorem dX0_on_48 : decode cX0_on 48 = .ok (.ireturn, 1) := dk_172 (dk_at dksX0_on_2 0 rfl rfl)
abbrev cX0_goer : ByteArray := prog_1_method_23_code
def yX0_goer : MethodName := ⟨RX0, "goer", "(II)I"⟩
def dkwX0_goer_4 : List UInt8 := [16, 254, 172]
abbrev dktX0_goer_4 : List UInt8 := dkwX0_goer_4 ++ []
def dkwX0_goer_3 : List UInt8 := [180, 0, 193, 172, 45, 180, 0, 111, 172, 45, 180, 0, 196, 172, 45, 180, 0, 197, 172, 45, 180, 0, 200, 172]
abbrev dktX0_goer_3 : List UInt8 := dkwX0_goer_3 ++ dktX0_goer_4
def dkwX0_goer_2 : List UInt8 := [45, 182, 0, 115, 153, 0, 10, 45, 180, 0, 122, 167, 0, 5, 16, 8, 172, 45, 180, 0, 190, 172, 45]
abbrev dktX0_goer_2 : List UInt8 := dkwX0_goer_2 ++ dktX0_goer_3
def dkwX0_goer_1 : List UInt8 := [170, 0, 0, 0, 0, 0, 0, 91, 0, 0, 0, 0, 0, 0, 0, 6, 0, 0, 0, 44, 0, 0, 0, 61, 0, 0, 0, 66, 0, 0, 0, 71, 0, 0, 0, 76, 0, 0, 0, 81, 0, 0, 0, 86]
abbrev dktX0_goer_1 : List UInt8 := dkwX0_goer_1 ++ dktX0_goer_2
def dkwX0_goer_0 : List UInt8 := [42, 27, 182, 0, 187, 154, 0, 6, 16, 254, 172, 42, 180, 0, 18, 27, 182, 0, 99, 192, 0, 109, 78, 28]
abbrev dktX0_goer_0 : List UInt8 := dkwX0_goer_0 ++ dktX0_goer_1
theorem dksX0_goer_0 : cX0_goer.data.toList.drop 0 = dktX0_goer_0 := by decide +kernel
theorem dksX0_goer_1 : cX0_goer.data.toList.drop 24 = dktX0_goer_1 := dk_seg dksX0_goer_0 24 rfl rfl
theorem dksX0_goer_2 : cX0_goer.data.toList.drop 68 = dktX0_goer_2 := dk_seg dksX0_goer_1 44 rfl rfl
theorem dksX0_goer_3 : cX0_goer.data.toList.drop 91 = dktX0_goer_3 := dk_seg dksX0_goer_2 23 rfl rfl
theorem dksX0_goer_4 : cX0_goer.data.toList.drop 115 = dktX0_goer_4 := dk_seg dksX0_goer_3 24 rfl rfl
theorem dX0_goer_0 : decode cX0_goer 0 = .ok (.aload_n 0, 1) := dk_42 (dk_at dksX0_goer_0 0 rfl rfl)
theorem dX0_goer_1 : decode cX0_goer 1 = .ok (.iload_n 1, 1) := dk_27 (dk_at dksX0_goer_0 1 rfl rfl)
theorem dX0_goer_2 : decode cX0_goer 2 = .ok (.invokevirtual 187, 3) := dk_182 0 187 (dk_at dksX0_goer_0 2 rfl rfl)
theorem dX0_goer_5 : decode cX0_goer 5 = .ok (.ifCond .ne 6, 3) := dk_154 0 6 (dk_at dksX0_goer_0 5 rfl rfl)
theorem dX0_goer_8 : decode cX0_goer 8 = .ok (.bipush (-2), 2) := dk_16 254 (dk_at dksX0_goer_0 8 rfl rfl)
theorem dX0_goer_10 : decode cX0_goer 10 = .ok (.ireturn, 1) := dk_172 (dk_at dksX0_goer_0 10 rfl rfl)
theorem dX0_goer_11 : decode cX0_goer 11 = .ok (.aload_n 0, 1) := dk_42 (dk_at dksX0_goer_0 11 rfl rfl)
theorem dX0_goer_12 : decode cX0_goer 12 = .ok (.getfield 18, 3) := dk_180 0 18 (dk_at dksX0_goer_0 12 rfl rfl)
theorem dX0_goer_15 : decode cX0_goer 15 = .ok (.iload_n 1, 1) := dk_27 (dk_at dksX0_goer_0 15 rfl rfl)
theorem dX0_goer_16 : decode cX0_goer 16 = .ok (.invokevirtual 99, 3) := dk_182 0 99 (dk_at dksX0_goer_0 16 rfl rfl)
theorem dX0_goer_19 : decode cX0_goer 19 = .ok (.checkcast 109, 3) := dk_192 0 109 (dk_at dksX0_goer_0 19 rfl rfl)
theorem dX0_goer_22 : decode cX0_goer 22 = .ok (.astore_n 3, 1) := dk_78 (dk_at dksX0_goer_0 22 rfl rfl)
theorem dX0_goer_23 : decode cX0_goer 23 = .ok (.iload_n 2, 1) := dk_28 (dk_at dksX0_goer_0 23 rfl rfl)
theorem dX0_goer_24 : decode cX0_goer 24 = .ok (.tableswitch 91 0 6 #[44, 61, 66, 71, 76, 81, 86], 44) := by decide +kernel
theorem dX0_goer_68 : decode cX0_goer 68 = .ok (.aload_n 3, 1) := dk_45 (dk_at dksX0_goer_2 0 rfl rfl)
theorem dX0_goer_69 : decode cX0_goer 69 = .ok (.invokevirtual 115, 3) := dk_182 0 115 (dk_at dksX0_goer_2 1 rfl rfl)
theorem dX0_goer_72 : decode cX0_goer 72 = .ok (.ifCond .eq 10, 3) := dk_153 0 10 (dk_at dksX0_goer_2 4 rfl rfl)
theorem dX0_goer_75 : decode cX0_goer 75 = .ok (.aload_n 3, 1) := dk_45 (dk_at dksX0_goer_2 7 rfl rfl)
theorem dX0_goer_76 : decode cX0_goer 76 = .ok (.getfield 122, 3) := dk_180 0 122 (dk_at dksX0_goer_2 8 rfl rfl)
theorem dX0_goer_79 : decode cX0_goer 79 = .ok (.goto 5, 3) := dk_167 0 5 (dk_at dksX0_goer_2 11 rfl rfl)
theorem dX0_goer_82 : decode cX0_goer 82 = .ok (.bipush 8, 2) := dk_16 8 (dk_at dksX0_goer_2 14 rfl rfl)
theorem dX0_goer_84 : decode cX0_goer 84 = .ok (.ireturn, 1) := dk_172 (dk_at dksX0_goer_2 16 rfl rfl)
theorem dX0_goer_85 : decode cX0_goer 85 = .ok (.aload_n 3, 1) := dk_45 (dk_at dksX0_goer_2 17 rfl rfl)
theorem dX0_goer_86 : decode cX0_goer 86 = .ok (.getfield 190, 3) := dk_180 0 190 (dk_at dksX0_goer_2 18 rfl rfl)
theorem dX0_goer_89 : decode cX0_goer 89 = .ok (.ireturn, 1) := dk_172 (dk_at dksX0_goer_2 21 rfl rfl)
theorem dX0_goer_90 : decode cX0_goer 90 = .ok (.aload_n 3, 1) := dk_45 (dk_at dksX0_goer_2 22 rfl rfl)
theorem dX0_goer_91 : decode cX0_goer 91 = .ok (.getfield 193, 3) := dk_180 0 193 (dk_at dksX0_goer_3 0 rfl rfl)
theorem dX0_goer_94 : decode cX0_goer 94 = .ok (.ireturn, 1) := dk_172 (dk_at dksX0_goer_3 3 rfl rfl)
theorem dX0_goer_95 : decode cX0_goer 95 = .ok (.aload_n 3, 1) := dk_45 (dk_at dksX0_goer_3 4 rfl rfl)
theorem dX0_goer_96 : decode cX0_goer 96 = .ok (.getfield 111, 3) := dk_180 0 111 (dk_at dksX0_goer_3 5 rfl rfl)
theorem dX0_goer_99 : decode cX0_goer 99 = .ok (.ireturn, 1) := dk_172 (dk_at dksX0_goer_3 8 rfl rfl)
theorem dX0_goer_100 : decode cX0_goer 100 = .ok (.aload_n 3, 1) := dk_45 (dk_at dksX0_goer_3 9 rfl rfl)
theorem dX0_goer_101 : decode cX0_goer 101 = .ok (.getfield 196, 3) := dk_180 0 196 (dk_at dksX0_goer_3 10 rfl rfl)
theorem dX0_goer_104 : decode cX0_goer 104 = .ok (.ireturn, 1) := dk_172 (dk_at dksX0_goer_3 13 rfl rfl)
theorem dX0_goer_105 : decode cX0_goer 105 = .ok (.aload_n 3, 1) := dk_45 (dk_at dksX0_goer_3 14 rfl rfl)
theorem dX0_goer_106 : decode cX0_goer 106 = .ok (.getfield 197, 3) := dk_180 0 197 (dk_at dksX0_goer_3 15 rfl rfl)
theorem dX0_goer_109 : decode cX0_goer 109 = .ok (.ireturn, 1) := dk_172 (dk_at dksX0_goer_3 18 rfl rfl)
theorem dX0_goer_110 : decode cX0_goer 110 = .ok (.aload_n 3, 1) := dk_45 (dk_at dksX0_goer_3 19 rfl rfl)
theorem dX0_goer_111 : decode cX0_goer 111 = .ok (.getfield 200, 3) := dk_180 0 200 (dk_at dksX0_goer_3 20 rfl rfl)
theorem dX0_goer_114 : decode cX0_goer 114 = .ok (.ireturn, 1) := dk_172 (dk_at dksX0_goer_3 23 rfl rfl)
theorem dX0_goer_115 : decode cX0_goer 115 = .ok (.bipush (-2), 2) := dk_16 254 (dk_at dksX0_goer_4 0 rfl rfl)
theorem dX0_goer_117 : decode cX0_goer 117 = .ok (.ireturn, 1) := dk_172 (dk_at dksX0_goer_4 2 rfl rfl)
abbrev cX0_isGoer : ByteArray := prog_1_method_5_code
def yX0_isGoer : MethodName := ⟨RX0, "isGoer", "(I)Z"⟩
def dkwX0_isGoer_0 : List UInt8 := [27, 133, 9, 42, 180, 0, 18, 182, 0, 89, 4, 100, 133, 184, 0, 93, 172]
abbrev dktX0_isGoer_0 : List UInt8 := dkwX0_isGoer_0 ++ []
theorem dksX0_isGoer_0 : cX0_isGoer.data.toList.drop 0 = dktX0_isGoer_0 := by decide +kernel
theorem dX0_isGoer_0 : decode cX0_isGoer 0 = .ok (.iload_n 1, 1) := dk_27 (dk_at dksX0_isGoer_0 0 rfl rfl)
theorem dX0_isGoer_1 : decode cX0_isGoer 1 = .ok (.i2l, 1) := dk_133 (dk_at dksX0_isGoer_0 1 rfl rfl)
theorem dX0_isGoer_2 : decode cX0_isGoer 2 = .ok (.lconst 0, 1) := dk_9 (dk_at dksX0_isGoer_0 2 rfl rfl)
theorem dX0_isGoer_3 : decode cX0_isGoer 3 = .ok (.aload_n 0, 1) := dk_42 (dk_at dksX0_isGoer_0 3 rfl rfl)
theorem dX0_isGoer_4 : decode cX0_isGoer 4 = .ok (.getfield 18, 3) := dk_180 0 18 (dk_at dksX0_isGoer_0 4 rfl rfl)
theorem dX0_isGoer_7 : decode cX0_isGoer 7 = .ok (.invokevirtual 89, 3) := dk_182 0 89 (dk_at dksX0_isGoer_0 7 rfl rfl)
theorem dX0_isGoer_10 : decode cX0_isGoer 10 = .ok (.iconst 1, 1) := dk_4 (dk_at dksX0_isGoer_0 10 rfl rfl)
theorem dX0_isGoer_11 : decode cX0_isGoer 11 = .ok (.isub, 1) := dk_100 (dk_at dksX0_isGoer_0 11 rfl rfl)
theorem dX0_isGoer_12 : decode cX0_isGoer 12 = .ok (.i2l, 1) := dk_133 (dk_at dksX0_isGoer_0 12 rfl rfl)
theorem dX0_isGoer_13 : decode cX0_isGoer 13 = .ok (.invokestatic 93, 3) := dk_184 0 93 (dk_at dksX0_isGoer_0 13 rfl rfl)
theorem dX0_isGoer_16 : decode cX0_isGoer 16 = .ok (.ireturn, 1) := dk_172 (dk_at dksX0_isGoer_0 16 rfl rfl)
abbrev cX0_place : ByteArray := prog_1_method_25_code
def yX0_place : MethodName := ⟨RX0, "place", "(II)I"⟩
def dkwX0_place_3 : List UInt8 := [27, 182, 0, 211, 100, 172, 42, 27, 182, 0, 214, 172, 16, 156, 172]
abbrev dktX0_place_3 : List UInt8 := dkwX0_place_3 ++ []
def dkwX0_place_2 : List UInt8 := [42, 27, 182, 0, 205, 172, 42, 27, 182, 0, 208, 172, 42, 27, 182, 0, 211, 172, 42, 27, 182, 0, 205, 42]
abbrev dktX0_place_2 : List UInt8 := dkwX0_place_2 ++ dktX0_place_3
def dkwX0_place_1 : List UInt8 := [170, 0, 0, 0, 69, 0, 0, 0, 0, 0, 0, 0, 4, 0, 0, 0, 33, 0, 0, 0, 39, 0, 0, 0, 45, 0, 0, 0, 51, 0, 0, 0, 63]
abbrev dktX0_place_1 : List UInt8 := dkwX0_place_1 ++ dktX0_place_2
def dkwX0_place_0 : List UInt8 := [27, 184, 0, 202, 154, 0, 6, 16, 156, 172, 28]
abbrev dktX0_place_0 : List UInt8 := dkwX0_place_0 ++ dktX0_place_1
theorem dksX0_place_0 : cX0_place.data.toList.drop 0 = dktX0_place_0 := by decide +kernel
theorem dksX0_place_1 : cX0_place.data.toList.drop 11 = dktX0_place_1 := dk_seg dksX0_place_0 11 rfl rfl
theorem dksX0_place_2 : cX0_place.data.toList.drop 44 = dktX0_place_2 := dk_seg dksX0_place_1 33 rfl rfl
theorem dksX0_place_3 : cX0_place.data.toList.drop 68 = dktX0_place_3 := dk_seg dksX0_place_2 24 rfl rfl
theorem dX0_place_0 : decode cX0_place 0 = .ok (.iload_n 1, 1) := dk_27 (dk_at dksX0_place_0 0 rfl rfl)
theorem dX0_place_1 : decode cX0_place 1 = .ok (.invokestatic 202, 3) := dk_184 0 202 (dk_at dksX0_place_0 1 rfl rfl)
theorem dX0_place_4 : decode cX0_place 4 = .ok (.ifCond .ne 6, 3) := dk_154 0 6 (dk_at dksX0_place_0 4 rfl rfl)
theorem dX0_place_7 : decode cX0_place 7 = .ok (.bipush (-100), 2) := dk_16 156 (dk_at dksX0_place_0 7 rfl rfl)
theorem dX0_place_9 : decode cX0_place 9 = .ok (.ireturn, 1) := dk_172 (dk_at dksX0_place_0 9 rfl rfl)
theorem dX0_place_10 : decode cX0_place 10 = .ok (.iload_n 2, 1) := dk_28 (dk_at dksX0_place_0 10 rfl rfl)
theorem dX0_place_11 : decode cX0_place 11 = .ok (.tableswitch 69 0 4 #[33, 39, 45, 51, 63], 33) := by decide +kernel
theorem dX0_place_44 : decode cX0_place 44 = .ok (.aload_n 0, 1) := dk_42 (dk_at dksX0_place_2 0 rfl rfl)
theorem dX0_place_45 : decode cX0_place 45 = .ok (.iload_n 1, 1) := dk_27 (dk_at dksX0_place_2 1 rfl rfl)
theorem dX0_place_46 : decode cX0_place 46 = .ok (.invokevirtual 205, 3) := dk_182 0 205 (dk_at dksX0_place_2 2 rfl rfl)
theorem dX0_place_49 : decode cX0_place 49 = .ok (.ireturn, 1) := dk_172 (dk_at dksX0_place_2 5 rfl rfl)
theorem dX0_place_50 : decode cX0_place 50 = .ok (.aload_n 0, 1) := dk_42 (dk_at dksX0_place_2 6 rfl rfl)
theorem dX0_place_51 : decode cX0_place 51 = .ok (.iload_n 1, 1) := dk_27 (dk_at dksX0_place_2 7 rfl rfl)
theorem dX0_place_52 : decode cX0_place 52 = .ok (.invokevirtual 208, 3) := dk_182 0 208 (dk_at dksX0_place_2 8 rfl rfl)
theorem dX0_place_55 : decode cX0_place 55 = .ok (.ireturn, 1) := dk_172 (dk_at dksX0_place_2 11 rfl rfl)
theorem dX0_place_56 : decode cX0_place 56 = .ok (.aload_n 0, 1) := dk_42 (dk_at dksX0_place_2 12 rfl rfl)
theorem dX0_place_57 : decode cX0_place 57 = .ok (.iload_n 1, 1) := dk_27 (dk_at dksX0_place_2 13 rfl rfl)
theorem dX0_place_58 : decode cX0_place 58 = .ok (.invokevirtual 211, 3) := dk_182 0 211 (dk_at dksX0_place_2 14 rfl rfl)
theorem dX0_place_61 : decode cX0_place 61 = .ok (.ireturn, 1) := dk_172 (dk_at dksX0_place_2 17 rfl rfl)
theorem dX0_place_62 : decode cX0_place 62 = .ok (.aload_n 0, 1) := dk_42 (dk_at dksX0_place_2 18 rfl rfl)
theorem dX0_place_63 : decode cX0_place 63 = .ok (.iload_n 1, 1) := dk_27 (dk_at dksX0_place_2 19 rfl rfl)
theorem dX0_place_64 : decode cX0_place 64 = .ok (.invokevirtual 205, 3) := dk_182 0 205 (dk_at dksX0_place_2 20 rfl rfl)
theorem dX0_place_67 : decode cX0_place 67 = .ok (.aload_n 0, 1) := dk_42 (dk_at dksX0_place_2 23 rfl rfl)
theorem dX0_place_68 : decode cX0_place 68 = .ok (.iload_n 1, 1) := dk_27 (dk_at dksX0_place_3 0 rfl rfl)
theorem dX0_place_69 : decode cX0_place 69 = .ok (.invokevirtual 211, 3) := dk_182 0 211 (dk_at dksX0_place_3 1 rfl rfl)
theorem dX0_place_72 : decode cX0_place 72 = .ok (.isub, 1) := dk_100 (dk_at dksX0_place_3 4 rfl rfl)
theorem dX0_place_73 : decode cX0_place 73 = .ok (.ireturn, 1) := dk_172 (dk_at dksX0_place_3 5 rfl rfl)
theorem dX0_place_74 : decode cX0_place 74 = .ok (.aload_n 0, 1) := dk_42 (dk_at dksX0_place_3 6 rfl rfl)
theorem dX0_place_75 : decode cX0_place 75 = .ok (.iload_n 1, 1) := dk_27 (dk_at dksX0_place_3 7 rfl rfl)
theorem dX0_place_76 : decode cX0_place 76 = .ok (.invokevirtual 214, 3) := dk_182 0 214 (dk_at dksX0_place_3 8 rfl rfl)
theorem dX0_place_79 : decode cX0_place 79 = .ok (.ireturn, 1) := dk_172 (dk_at dksX0_place_3 11 rfl rfl)
theorem dX0_place_80 : decode cX0_place 80 = .ok (.bipush (-100), 2) := dk_16 156 (dk_at dksX0_place_3 12 rfl rfl)
theorem dX0_place_82 : decode cX0_place 82 = .ok (.ireturn, 1) := dk_172 (dk_at dksX0_place_3 14 rfl rfl)
abbrev cX0_isPlace : ByteArray := prog_1_method_6_code
def yX0_isPlace : MethodName := ⟨RX0, "isPlace", "(I)Z"⟩
def dkwX0_isPlace_0 : List UInt8 := [26, 133, 9, 20, 0, 97, 184, 0, 93, 172]
abbrev dktX0_isPlace_0 : List UInt8 := dkwX0_isPlace_0 ++ []
theorem dksX0_isPlace_0 : cX0_isPlace.data.toList.drop 0 = dktX0_isPlace_0 := by decide +kernel
theorem dX0_isPlace_0 : decode cX0_isPlace 0 = .ok (.iload_n 0, 1) := dk_26 (dk_at dksX0_isPlace_0 0 rfl rfl)
theorem dX0_isPlace_1 : decode cX0_isPlace 1 = .ok (.i2l, 1) := dk_133 (dk_at dksX0_isPlace_0 1 rfl rfl)
theorem dX0_isPlace_2 : decode cX0_isPlace 2 = .ok (.lconst 0, 1) := dk_9 (dk_at dksX0_isPlace_0 2 rfl rfl)
theorem dX0_isPlace_3 : decode cX0_isPlace 3 = .ok (.ldc2_w 97, 3) := dk_20 0 97 (dk_at dksX0_isPlace_0 3 rfl rfl)
theorem dX0_isPlace_6 : decode cX0_isPlace 6 = .ok (.invokestatic 93, 3) := dk_184 0 93 (dk_at dksX0_isPlace_0 6 rfl rfl)
theorem dX0_isPlace_9 : decode cX0_isPlace 9 = .ok (.ireturn, 1) := dk_172 (dk_at dksX0_isPlace_0 9 rfl rfl)
abbrev cX0_out : ByteArray := prog_1_method_10_code
def yX0_out : MethodName := ⟨RX0, "out", "(I)I"⟩
def dkwX0_out_2 : List UInt8 := [172]
abbrev dktX0_out_2 : List UInt8 := dkwX0_out_2 ++ []
def dkwX0_out_1 : List UInt8 := [192, 0, 103, 182, 0, 119, 27, 160, 0, 7, 4, 167, 0, 4, 3, 96, 61, 132, 3, 1, 167, 255, 216, 28]
abbrev dktX0_out_1 : List UInt8 := dkwX0_out_1 ++ dktX0_out_2
def dkwX0_out_0 : List UInt8 := [3, 61, 3, 62, 29, 42, 180, 0, 12, 182, 0, 89, 162, 0, 35, 28, 42, 180, 0, 12, 29, 182, 0, 99]
abbrev dktX0_out_0 : List UInt8 := dkwX0_out_0 ++ dktX0_out_1
theorem dksX0_out_0 : cX0_out.data.toList.drop 0 = dktX0_out_0 := by decide +kernel
theorem dksX0_out_1 : cX0_out.data.toList.drop 24 = dktX0_out_1 := dk_seg dksX0_out_0 24 rfl rfl
theorem dksX0_out_2 : cX0_out.data.toList.drop 48 = dktX0_out_2 := dk_seg dksX0_out_1 24 rfl rfl
theorem dX0_out_0 : decode cX0_out 0 = .ok (.iconst 0, 1) := dk_3 (dk_at dksX0_out_0 0 rfl rfl)
theorem dX0_out_1 : decode cX0_out 1 = .ok (.istore_n 2, 1) := dk_61 (dk_at dksX0_out_0 1 rfl rfl)
theorem dX0_out_2 : decode cX0_out 2 = .ok (.iconst 0, 1) := dk_3 (dk_at dksX0_out_0 2 rfl rfl)
theorem dX0_out_3 : decode cX0_out 3 = .ok (.istore_n 3, 1) := dk_62 (dk_at dksX0_out_0 3 rfl rfl)
theorem dX0_out_4 : decode cX0_out 4 = .ok (.iload_n 3, 1) := dk_29 (dk_at dksX0_out_0 4 rfl rfl)
theorem dX0_out_5 : decode cX0_out 5 = .ok (.aload_n 0, 1) := dk_42 (dk_at dksX0_out_0 5 rfl rfl)
theorem dX0_out_6 : decode cX0_out 6 = .ok (.getfield 12, 3) := dk_180 0 12 (dk_at dksX0_out_0 6 rfl rfl)
theorem dX0_out_9 : decode cX0_out 9 = .ok (.invokevirtual 89, 3) := dk_182 0 89 (dk_at dksX0_out_0 9 rfl rfl)
theorem dX0_out_12 : decode cX0_out 12 = .ok (.if_icmp .ge 35, 3) := dk_162 0 35 (dk_at dksX0_out_0 12 rfl rfl)
theorem dX0_out_15 : decode cX0_out 15 = .ok (.iload_n 2, 1) := dk_28 (dk_at dksX0_out_0 15 rfl rfl)
theorem dX0_out_16 : decode cX0_out 16 = .ok (.aload_n 0, 1) := dk_42 (dk_at dksX0_out_0 16 rfl rfl)
theorem dX0_out_17 : decode cX0_out 17 = .ok (.getfield 12, 3) := dk_180 0 12 (dk_at dksX0_out_0 17 rfl rfl)
theorem dX0_out_20 : decode cX0_out 20 = .ok (.iload_n 3, 1) := dk_29 (dk_at dksX0_out_0 20 rfl rfl)
theorem dX0_out_21 : decode cX0_out 21 = .ok (.invokevirtual 99, 3) := dk_182 0 99 (dk_at dksX0_out_0 21 rfl rfl)
theorem dX0_out_24 : decode cX0_out 24 = .ok (.checkcast 103, 3) := dk_192 0 103 (dk_at dksX0_out_1 0 rfl rfl)
theorem dX0_out_27 : decode cX0_out 27 = .ok (.invokevirtual 119, 3) := dk_182 0 119 (dk_at dksX0_out_1 3 rfl rfl)
theorem dX0_out_30 : decode cX0_out 30 = .ok (.iload_n 1, 1) := dk_27 (dk_at dksX0_out_1 6 rfl rfl)
theorem dX0_out_31 : decode cX0_out 31 = .ok (.if_icmp .ne 7, 3) := dk_160 0 7 (dk_at dksX0_out_1 7 rfl rfl)
theorem dX0_out_34 : decode cX0_out 34 = .ok (.iconst 1, 1) := dk_4 (dk_at dksX0_out_1 10 rfl rfl)
theorem dX0_out_35 : decode cX0_out 35 = .ok (.goto 4, 3) := dk_167 0 4 (dk_at dksX0_out_1 11 rfl rfl)
theorem dX0_out_38 : decode cX0_out 38 = .ok (.iconst 0, 1) := dk_3 (dk_at dksX0_out_1 14 rfl rfl)
theorem dX0_out_39 : decode cX0_out 39 = .ok (.iadd, 1) := dk_96 (dk_at dksX0_out_1 15 rfl rfl)
theorem dX0_out_40 : decode cX0_out 40 = .ok (.istore_n 2, 1) := dk_61 (dk_at dksX0_out_1 16 rfl rfl)
theorem dX0_out_41 : decode cX0_out 41 = .ok (.iinc 3 1, 3) := dk_132 3 1 (dk_at dksX0_out_1 17 rfl rfl)
theorem dX0_out_44 : decode cX0_out 44 = .ok (.goto (-40), 3) := dk_167 255 216 (dk_at dksX0_out_1 20 rfl rfl)
theorem dX0_out_47 : decode cX0_out 47 = .ok (.iload_n 2, 1) := dk_28 (dk_at dksX0_out_1 23 rfl rfl)
theorem dX0_out_48 : decode cX0_out 48 = .ok (.ireturn, 1) := dk_172 (dk_at dksX0_out_2 0 rfl rfl)
abbrev cX0_into : ByteArray := prog_1_method_24_code
def yX0_into : MethodName := ⟨RX0, "into", "(I)I"⟩
def dkwX0_into_2 : List UInt8 := [172]
abbrev dktX0_into_2 : List UInt8 := dkwX0_into_2 ++ []
def dkwX0_into_1 : List UInt8 := [192, 0, 103, 182, 0, 129, 27, 160, 0, 7, 4, 167, 0, 4, 3, 96, 61, 132, 3, 1, 167, 255, 216, 28]
abbrev dktX0_into_1 : List UInt8 := dkwX0_into_1 ++ dktX0_into_2
def dkwX0_into_0 : List UInt8 := [3, 61, 3, 62, 29, 42, 180, 0, 12, 182, 0, 89, 162, 0, 35, 28, 42, 180, 0, 12, 29, 182, 0, 99]
abbrev dktX0_into_0 : List UInt8 := dkwX0_into_0 ++ dktX0_into_1
theorem dksX0_into_0 : cX0_into.data.toList.drop 0 = dktX0_into_0 := by decide +kernel
theorem dksX0_into_1 : cX0_into.data.toList.drop 24 = dktX0_into_1 := dk_seg dksX0_into_0 24 rfl rfl
theorem dksX0_into_2 : cX0_into.data.toList.drop 48 = dktX0_into_2 := dk_seg dksX0_into_1 24 rfl rfl
theorem dX0_into_0 : decode cX0_into 0 = .ok (.iconst 0, 1) := dk_3 (dk_at dksX0_into_0 0 rfl rfl)
theorem dX0_into_1 : decode cX0_into 1 = .ok (.istore_n 2, 1) := dk_61 (dk_at dksX0_into_0 1 rfl rfl)
theorem dX0_into_2 : decode cX0_into 2 = .ok (.iconst 0, 1) := dk_3 (dk_at dksX0_into_0 2 rfl rfl)
theorem dX0_into_3 : decode cX0_into 3 = .ok (.istore_n 3, 1) := dk_62 (dk_at dksX0_into_0 3 rfl rfl)
theorem dX0_into_4 : decode cX0_into 4 = .ok (.iload_n 3, 1) := dk_29 (dk_at dksX0_into_0 4 rfl rfl)
theorem dX0_into_5 : decode cX0_into 5 = .ok (.aload_n 0, 1) := dk_42 (dk_at dksX0_into_0 5 rfl rfl)
theorem dX0_into_6 : decode cX0_into 6 = .ok (.getfield 12, 3) := dk_180 0 12 (dk_at dksX0_into_0 6 rfl rfl)
theorem dX0_into_9 : decode cX0_into 9 = .ok (.invokevirtual 89, 3) := dk_182 0 89 (dk_at dksX0_into_0 9 rfl rfl)
theorem dX0_into_12 : decode cX0_into 12 = .ok (.if_icmp .ge 35, 3) := dk_162 0 35 (dk_at dksX0_into_0 12 rfl rfl)
theorem dX0_into_15 : decode cX0_into 15 = .ok (.iload_n 2, 1) := dk_28 (dk_at dksX0_into_0 15 rfl rfl)
theorem dX0_into_16 : decode cX0_into 16 = .ok (.aload_n 0, 1) := dk_42 (dk_at dksX0_into_0 16 rfl rfl)
theorem dX0_into_17 : decode cX0_into 17 = .ok (.getfield 12, 3) := dk_180 0 12 (dk_at dksX0_into_0 17 rfl rfl)
theorem dX0_into_20 : decode cX0_into 20 = .ok (.iload_n 3, 1) := dk_29 (dk_at dksX0_into_0 20 rfl rfl)
theorem dX0_into_21 : decode cX0_into 21 = .ok (.invokevirtual 99, 3) := dk_182 0 99 (dk_at dksX0_into_0 21 rfl rfl)
theorem dX0_into_24 : decode cX0_into 24 = .ok (.checkcast 103, 3) := dk_192 0 103 (dk_at dksX0_into_1 0 rfl rfl)
theorem dX0_into_27 : decode cX0_into 27 = .ok (.invokevirtual 129, 3) := dk_182 0 129 (dk_at dksX0_into_1 3 rfl rfl)
theorem dX0_into_30 : decode cX0_into 30 = .ok (.iload_n 1, 1) := dk_27 (dk_at dksX0_into_1 6 rfl rfl)
theorem dX0_into_31 : decode cX0_into 31 = .ok (.if_icmp .ne 7, 3) := dk_160 0 7 (dk_at dksX0_into_1 7 rfl rfl)
theorem dX0_into_34 : decode cX0_into 34 = .ok (.iconst 1, 1) := dk_4 (dk_at dksX0_into_1 10 rfl rfl)
theorem dX0_into_35 : decode cX0_into 35 = .ok (.goto 4, 3) := dk_167 0 4 (dk_at dksX0_into_1 11 rfl rfl)
theorem dX0_into_38 : decode cX0_into 38 = .ok (.iconst 0, 1) := dk_3 (dk_at dksX0_into_1 14 rfl rfl)
theorem dX0_into_39 : decode cX0_into 39 = .ok (.iadd, 1) := dk_96 (dk_at dksX0_into_1 15 rfl rfl)
theorem dX0_into_40 : decode cX0_into 40 = .ok (.istore_n 2, 1) := dk_61 (dk_at dksX0_into_1 16 rfl rfl)
theorem dX0_into_41 : decode cX0_into 41 = .ok (.iinc 3 1, 3) := dk_132 3 1 (dk_at dksX0_into_1 17 rfl rfl)
theorem dX0_into_44 : decode cX0_into 44 = .ok (.goto (-40), 3) := dk_167 255 216 (dk_at dksX0_into_1 20 rfl rfl)
theorem dX0_into_47 : decode cX0_into 47 = .ok (.iload_n 2, 1) := dk_28 (dk_at dksX0_into_1 23 rfl rfl)
theorem dX0_into_48 : decode cX0_into 48 = .ok (.ireturn, 1) := dk_172 (dk_at dksX0_into_2 0 rfl rfl)
abbrev cX0_standing : ByteArray := prog_1_method_11_code
def yX0_standing : MethodName := ⟨RX0, "standing", "(I)I"⟩
def dkwX0_standing_2 : List UInt8 := [160, 0, 7, 4, 167, 0, 4, 3, 96, 61, 132, 3, 1, 167, 255, 199, 28, 172]
abbrev dktX0_standing_2 : List UInt8 := dkwX0_standing_2 ++ []
def dkwX0_standing_1 : List UInt8 := [192, 0, 109, 182, 0, 115, 153, 0, 25, 42, 180, 0, 18, 29, 182, 0, 99, 192, 0, 109, 180, 0, 122, 27]
abbrev dktX0_standing_1 : List UInt8 := dkwX0_standing_1 ++ dktX0_standing_2
def dkwX0_standing_0 : List UInt8 := [3, 61, 3, 62, 29, 42, 180, 0, 18, 182, 0, 89, 162, 0, 52, 28, 42, 180, 0, 18, 29, 182, 0, 99]
abbrev dktX0_standing_0 : List UInt8 := dkwX0_standing_0 ++ dktX0_standing_1
theorem dksX0_standing_0 : cX0_standing.data.toList.drop 0 = dktX0_standing_0 := by decide +kernel
theorem dksX0_standing_1 : cX0_standing.data.toList.drop 24 = dktX0_standing_1 := dk_seg dksX0_standing_0 24 rfl rfl
theorem dksX0_standing_2 : cX0_standing.data.toList.drop 48 = dktX0_standing_2 := dk_seg dksX0_standing_1 24 rfl rfl
theorem dX0_standing_0 : decode cX0_standing 0 = .ok (.iconst 0, 1) := dk_3 (dk_at dksX0_standing_0 0 rfl rfl)
theorem dX0_standing_1 : decode cX0_standing 1 = .ok (.istore_n 2, 1) := dk_61 (dk_at dksX0_standing_0 1 rfl rfl)
theorem dX0_standing_2 : decode cX0_standing 2 = .ok (.iconst 0, 1) := dk_3 (dk_at dksX0_standing_0 2 rfl rfl)
theorem dX0_standing_3 : decode cX0_standing 3 = .ok (.istore_n 3, 1) := dk_62 (dk_at dksX0_standing_0 3 rfl rfl)
theorem dX0_standing_4 : decode cX0_standing 4 = .ok (.iload_n 3, 1) := dk_29 (dk_at dksX0_standing_0 4 rfl rfl)
theorem dX0_standing_5 : decode cX0_standing 5 = .ok (.aload_n 0, 1) := dk_42 (dk_at dksX0_standing_0 5 rfl rfl)
theorem dX0_standing_6 : decode cX0_standing 6 = .ok (.getfield 18, 3) := dk_180 0 18 (dk_at dksX0_standing_0 6 rfl rfl)
theorem dX0_standing_9 : decode cX0_standing 9 = .ok (.invokevirtual 89, 3) := dk_182 0 89 (dk_at dksX0_standing_0 9 rfl rfl)
theorem dX0_standing_12 : decode cX0_standing 12 = .ok (.if_icmp .ge 52, 3) := dk_162 0 52 (dk_at dksX0_standing_0 12 rfl rfl)
theorem dX0_standing_15 : decode cX0_standing 15 = .ok (.iload_n 2, 1) := dk_28 (dk_at dksX0_standing_0 15 rfl rfl)
theorem dX0_standing_16 : decode cX0_standing 16 = .ok (.aload_n 0, 1) := dk_42 (dk_at dksX0_standing_0 16 rfl rfl)
theorem dX0_standing_17 : decode cX0_standing 17 = .ok (.getfield 18, 3) := dk_180 0 18 (dk_at dksX0_standing_0 17 rfl rfl)
theorem dX0_standing_20 : decode cX0_standing 20 = .ok (.iload_n 3, 1) := dk_29 (dk_at dksX0_standing_0 20 rfl rfl)
theorem dX0_standing_21 : decode cX0_standing 21 = .ok (.invokevirtual 99, 3) := dk_182 0 99 (dk_at dksX0_standing_0 21 rfl rfl)
theorem dX0_standing_24 : decode cX0_standing 24 = .ok (.checkcast 109, 3) := dk_192 0 109 (dk_at dksX0_standing_1 0 rfl rfl)
theorem dX0_standing_27 : decode cX0_standing 27 = .ok (.invokevirtual 115, 3) := dk_182 0 115 (dk_at dksX0_standing_1 3 rfl rfl)
theorem dX0_standing_30 : decode cX0_standing 30 = .ok (.ifCond .eq 25, 3) := dk_153 0 25 (dk_at dksX0_standing_1 6 rfl rfl)
theorem dX0_standing_33 : decode cX0_standing 33 = .ok (.aload_n 0, 1) := dk_42 (dk_at dksX0_standing_1 9 rfl rfl)
theorem dX0_standing_34 : decode cX0_standing 34 = .ok (.getfield 18, 3) := dk_180 0 18 (dk_at dksX0_standing_1 10 rfl rfl)
theorem dX0_standing_37 : decode cX0_standing 37 = .ok (.iload_n 3, 1) := dk_29 (dk_at dksX0_standing_1 13 rfl rfl)
theorem dX0_standing_38 : decode cX0_standing 38 = .ok (.invokevirtual 99, 3) := dk_182 0 99 (dk_at dksX0_standing_1 14 rfl rfl)
theorem dX0_standing_41 : decode cX0_standing 41 = .ok (.checkcast 109, 3) := dk_192 0 109 (dk_at dksX0_standing_1 17 rfl rfl)
theorem dX0_standing_44 : decode cX0_standing 44 = .ok (.getfield 122, 3) := dk_180 0 122 (dk_at dksX0_standing_1 20 rfl rfl)
theorem dX0_standing_47 : decode cX0_standing 47 = .ok (.iload_n 1, 1) := dk_27 (dk_at dksX0_standing_1 23 rfl rfl)
theorem dX0_standing_48 : decode cX0_standing 48 = .ok (.if_icmp .ne 7, 3) := dk_160 0 7 (dk_at dksX0_standing_2 0 rfl rfl)
theorem dX0_standing_51 : decode cX0_standing 51 = .ok (.iconst 1, 1) := dk_4 (dk_at dksX0_standing_2 3 rfl rfl)
theorem dX0_standing_52 : decode cX0_standing 52 = .ok (.goto 4, 3) := dk_167 0 4 (dk_at dksX0_standing_2 4 rfl rfl)
theorem dX0_standing_55 : decode cX0_standing 55 = .ok (.iconst 0, 1) := dk_3 (dk_at dksX0_standing_2 7 rfl rfl)
theorem dX0_standing_56 : decode cX0_standing 56 = .ok (.iadd, 1) := dk_96 (dk_at dksX0_standing_2 8 rfl rfl)
theorem dX0_standing_57 : decode cX0_standing 57 = .ok (.istore_n 2, 1) := dk_61 (dk_at dksX0_standing_2 9 rfl rfl)
theorem dX0_standing_58 : decode cX0_standing 58 = .ok (.iinc 3 1, 3) := dk_132 3 1 (dk_at dksX0_standing_2 10 rfl rfl)
theorem dX0_standing_61 : decode cX0_standing 61 = .ok (.goto (-57), 3) := dk_167 255 199 (dk_at dksX0_standing_2 13 rfl rfl)
theorem dX0_standing_64 : decode cX0_standing 64 = .ok (.iload_n 2, 1) := dk_28 (dk_at dksX0_standing_2 16 rfl rfl)
theorem dX0_standing_65 : decode cX0_standing 65 = .ok (.ireturn, 1) := dk_172 (dk_at dksX0_standing_2 17 rfl rfl)
abbrev cX0_reach : ByteArray := prog_1_method_13_code
def yX0_reach : MethodName := ⟨RX0, "reach", "(I)I"⟩
def dkwX0_reach_0 : List UInt8 := [4, 27, 120, 61, 42, 28, 182, 0, 132, 28, 159, 0, 12, 42, 28, 182, 0, 132, 61, 167, 255, 241, 28, 172]
abbrev dktX0_reach_0 : List UInt8 := dkwX0_reach_0 ++ []
theorem dksX0_reach_0 : cX0_reach.data.toList.drop 0 = dktX0_reach_0 := by decide +kernel
theorem dX0_reach_0 : decode cX0_reach 0 = .ok (.iconst 1, 1) := dk_4 (dk_at dksX0_reach_0 0 rfl rfl)
theorem dX0_reach_1 : decode cX0_reach 1 = .ok (.iload_n 1, 1) := dk_27 (dk_at dksX0_reach_0 1 rfl rfl)
theorem dX0_reach_2 : decode cX0_reach 2 = .ok (.ishl, 1) := dk_120 (dk_at dksX0_reach_0 2 rfl rfl)
theorem dX0_reach_3 : decode cX0_reach 3 = .ok (.istore_n 2, 1) := dk_61 (dk_at dksX0_reach_0 3 rfl rfl)
theorem dX0_reach_4 : decode cX0_reach 4 = .ok (.aload_n 0, 1) := dk_42 (dk_at dksX0_reach_0 4 rfl rfl)
theorem dX0_reach_5 : decode cX0_reach 5 = .ok (.iload_n 2, 1) := dk_28 (dk_at dksX0_reach_0 5 rfl rfl)
theorem dX0_reach_6 : decode cX0_reach 6 = .ok (.invokevirtual 132, 3) := dk_182 0 132 (dk_at dksX0_reach_0 6 rfl rfl)
theorem dX0_reach_9 : decode cX0_reach 9 = .ok (.iload_n 2, 1) := dk_28 (dk_at dksX0_reach_0 9 rfl rfl)
theorem dX0_reach_10 : decode cX0_reach 10 = .ok (.if_icmp .eq 12, 3) := dk_159 0 12 (dk_at dksX0_reach_0 10 rfl rfl)
theorem dX0_reach_13 : decode cX0_reach 13 = .ok (.aload_n 0, 1) := dk_42 (dk_at dksX0_reach_0 13 rfl rfl)
theorem dX0_reach_14 : decode cX0_reach 14 = .ok (.iload_n 2, 1) := dk_28 (dk_at dksX0_reach_0 14 rfl rfl)
theorem dX0_reach_15 : decode cX0_reach 15 = .ok (.invokevirtual 132, 3) := dk_182 0 132 (dk_at dksX0_reach_0 15 rfl rfl)
theorem dX0_reach_18 : decode cX0_reach 18 = .ok (.istore_n 2, 1) := dk_61 (dk_at dksX0_reach_0 18 rfl rfl)
theorem dX0_reach_19 : decode cX0_reach 19 = .ok (.goto (-15), 3) := dk_167 255 241 (dk_at dksX0_reach_0 19 rfl rfl)
theorem dX0_reach_22 : decode cX0_reach 22 = .ok (.iload_n 2, 1) := dk_28 (dk_at dksX0_reach_0 22 rfl rfl)
theorem dX0_reach_23 : decode cX0_reach 23 = .ok (.ireturn, 1) := dk_172 (dk_at dksX0_reach_0 23 rfl rfl)
abbrev cX0_next : ByteArray := prog_1_method_12_code
def yX0_next : MethodName := ⟨RX0, "next", "(I)I"⟩
def dkwX0_next_2 : List UInt8 := [192, 0, 103, 182, 0, 129, 120, 128, 61, 132, 3, 1, 167, 255, 202, 28, 172]
abbrev dktX0_next_2 : List UInt8 := dkwX0_next_2 ++ []
def dkwX0_next_1 : List UInt8 := [192, 0, 103, 182, 0, 119, 184, 0, 125, 153, 0, 22, 28, 4, 42, 180, 0, 12, 29, 182, 0, 99]
abbrev dktX0_next_1 : List UInt8 := dkwX0_next_1 ++ dktX0_next_2
def dkwX0_next_0 : List UInt8 := [27, 61, 3, 62, 29, 42, 180, 0, 12, 182, 0, 89, 162, 0, 49, 27, 42, 180, 0, 12, 29, 182, 0, 99]
abbrev dktX0_next_0 : List UInt8 := dkwX0_next_0 ++ dktX0_next_1
theorem dksX0_next_0 : cX0_next.data.toList.drop 0 = dktX0_next_0 := by decide +kernel
theorem dksX0_next_1 : cX0_next.data.toList.drop 24 = dktX0_next_1 := dk_seg dksX0_next_0 24 rfl rfl
theorem dksX0_next_2 : cX0_next.data.toList.drop 46 = dktX0_next_2 := dk_seg dksX0_next_1 22 rfl rfl
theorem dX0_next_0 : decode cX0_next 0 = .ok (.iload_n 1, 1) := dk_27 (dk_at dksX0_next_0 0 rfl rfl)
theorem dX0_next_1 : decode cX0_next 1 = .ok (.istore_n 2, 1) := dk_61 (dk_at dksX0_next_0 1 rfl rfl)
theorem dX0_next_2 : decode cX0_next 2 = .ok (.iconst 0, 1) := dk_3 (dk_at dksX0_next_0 2 rfl rfl)
theorem dX0_next_3 : decode cX0_next 3 = .ok (.istore_n 3, 1) := dk_62 (dk_at dksX0_next_0 3 rfl rfl)
theorem dX0_next_4 : decode cX0_next 4 = .ok (.iload_n 3, 1) := dk_29 (dk_at dksX0_next_0 4 rfl rfl)
theorem dX0_next_5 : decode cX0_next 5 = .ok (.aload_n 0, 1) := dk_42 (dk_at dksX0_next_0 5 rfl rfl)
theorem dX0_next_6 : decode cX0_next 6 = .ok (.getfield 12, 3) := dk_180 0 12 (dk_at dksX0_next_0 6 rfl rfl)
theorem dX0_next_9 : decode cX0_next 9 = .ok (.invokevirtual 89, 3) := dk_182 0 89 (dk_at dksX0_next_0 9 rfl rfl)
theorem dX0_next_12 : decode cX0_next 12 = .ok (.if_icmp .ge 49, 3) := dk_162 0 49 (dk_at dksX0_next_0 12 rfl rfl)
theorem dX0_next_15 : decode cX0_next 15 = .ok (.iload_n 1, 1) := dk_27 (dk_at dksX0_next_0 15 rfl rfl)
theorem dX0_next_16 : decode cX0_next 16 = .ok (.aload_n 0, 1) := dk_42 (dk_at dksX0_next_0 16 rfl rfl)
theorem dX0_next_17 : decode cX0_next 17 = .ok (.getfield 12, 3) := dk_180 0 12 (dk_at dksX0_next_0 17 rfl rfl)
theorem dX0_next_20 : decode cX0_next 20 = .ok (.iload_n 3, 1) := dk_29 (dk_at dksX0_next_0 20 rfl rfl)
theorem dX0_next_21 : decode cX0_next 21 = .ok (.invokevirtual 99, 3) := dk_182 0 99 (dk_at dksX0_next_0 21 rfl rfl)
theorem dX0_next_24 : decode cX0_next 24 = .ok (.checkcast 103, 3) := dk_192 0 103 (dk_at dksX0_next_1 0 rfl rfl)
theorem dX0_next_27 : decode cX0_next 27 = .ok (.invokevirtual 119, 3) := dk_182 0 119 (dk_at dksX0_next_1 3 rfl rfl)
theorem dX0_next_30 : decode cX0_next 30 = .ok (.invokestatic 125, 3) := dk_184 0 125 (dk_at dksX0_next_1 6 rfl rfl)
theorem dX0_next_33 : decode cX0_next 33 = .ok (.ifCond .eq 22, 3) := dk_153 0 22 (dk_at dksX0_next_1 9 rfl rfl)
theorem dX0_next_36 : decode cX0_next 36 = .ok (.iload_n 2, 1) := dk_28 (dk_at dksX0_next_1 12 rfl rfl)
theorem dX0_next_37 : decode cX0_next 37 = .ok (.iconst 1, 1) := dk_4 (dk_at dksX0_next_1 13 rfl rfl)
theorem dX0_next_38 : decode cX0_next 38 = .ok (.aload_n 0, 1) := dk_42 (dk_at dksX0_next_1 14 rfl rfl)
theorem dX0_next_39 : decode cX0_next 39 = .ok (.getfield 12, 3) := dk_180 0 12 (dk_at dksX0_next_1 15 rfl rfl)
theorem dX0_next_42 : decode cX0_next 42 = .ok (.iload_n 3, 1) := dk_29 (dk_at dksX0_next_1 18 rfl rfl)
theorem dX0_next_43 : decode cX0_next 43 = .ok (.invokevirtual 99, 3) := dk_182 0 99 (dk_at dksX0_next_1 19 rfl rfl)
theorem dX0_next_46 : decode cX0_next 46 = .ok (.checkcast 103, 3) := dk_192 0 103 (dk_at dksX0_next_2 0 rfl rfl)
theorem dX0_next_49 : decode cX0_next 49 = .ok (.invokevirtual 129, 3) := dk_182 0 129 (dk_at dksX0_next_2 3 rfl rfl)
theorem dX0_next_52 : decode cX0_next 52 = .ok (.ishl, 1) := dk_120 (dk_at dksX0_next_2 6 rfl rfl)
theorem dX0_next_53 : decode cX0_next 53 = .ok (.ior, 1) := dk_128 (dk_at dksX0_next_2 7 rfl rfl)
theorem dX0_next_54 : decode cX0_next 54 = .ok (.istore_n 2, 1) := dk_61 (dk_at dksX0_next_2 8 rfl rfl)
theorem dX0_next_55 : decode cX0_next 55 = .ok (.iinc 3 1, 3) := dk_132 3 1 (dk_at dksX0_next_2 9 rfl rfl)
theorem dX0_next_58 : decode cX0_next 58 = .ok (.goto (-54), 3) := dk_167 255 202 (dk_at dksX0_next_2 12 rfl rfl)
theorem dX0_next_61 : decode cX0_next 61 = .ok (.iload_n 2, 1) := dk_28 (dk_at dksX0_next_2 15 rfl rfl)
theorem dX0_next_62 : decode cX0_next 62 = .ok (.ireturn, 1) := dk_172 (dk_at dksX0_next_2 16 rfl rfl)
abbrev cX0_has : ByteArray := prog_1_method_2_code
def yX0_has : MethodName := ⟨RX0, "has", "(II)Z"⟩
def dkwX0_has_0 : List UInt8 := [26, 27, 122, 4, 126, 4, 160, 0, 7, 4, 167, 0, 4, 3, 172]
abbrev dktX0_has_0 : List UInt8 := dkwX0_has_0 ++ []
theorem dksX0_has_0 : cX0_has.data.toList.drop 0 = dktX0_has_0 := by decide +kernel
theorem dX0_has_0 : decode cX0_has 0 = .ok (.iload_n 0, 1) := dk_26 (dk_at dksX0_has_0 0 rfl rfl)
theorem dX0_has_1 : decode cX0_has 1 = .ok (.iload_n 1, 1) := dk_27 (dk_at dksX0_has_0 1 rfl rfl)
theorem dX0_has_2 : decode cX0_has 2 = .ok (.ishr, 1) := dk_122 (dk_at dksX0_has_0 2 rfl rfl)
theorem dX0_has_3 : decode cX0_has 3 = .ok (.iconst 1, 1) := dk_4 (dk_at dksX0_has_0 3 rfl rfl)
theorem dX0_has_4 : decode cX0_has 4 = .ok (.iand, 1) := dk_126 (dk_at dksX0_has_0 4 rfl rfl)
theorem dX0_has_5 : decode cX0_has 5 = .ok (.iconst 1, 1) := dk_4 (dk_at dksX0_has_0 5 rfl rfl)
theorem dX0_has_6 : decode cX0_has 6 = .ok (.if_icmp .ne 7, 3) := dk_160 0 7 (dk_at dksX0_has_0 6 rfl rfl)
theorem dX0_has_9 : decode cX0_has 9 = .ok (.iconst 1, 1) := dk_4 (dk_at dksX0_has_0 9 rfl rfl)
theorem dX0_has_10 : decode cX0_has 10 = .ok (.goto 4, 3) := dk_167 0 4 (dk_at dksX0_has_0 10 rfl rfl)
theorem dX0_has_13 : decode cX0_has 13 = .ok (.iconst 0, 1) := dk_3 (dk_at dksX0_has_0 13 rfl rfl)
theorem dX0_has_14 : decode cX0_has 14 = .ok (.ireturn, 1) := dk_172 (dk_at dksX0_has_0 14 rfl rfl)
abbrev cX0_far : ByteArray := prog_1_method_26_code
def yX0_far : MethodName := ⟨RX0, "far", "(II)I"⟩
def dkwX0_far_1 : List UInt8 := [16, 99, 160, 0, 8, 16, 254, 167, 0, 4, 29, 172]
abbrev dktX0_far_1 : List UInt8 := dkwX0_far_1 ++ []
def dkwX0_far_0 : List UInt8 := [27, 184, 0, 202, 153, 0, 10, 28, 184, 0, 202, 154, 0, 5, 2, 172, 42, 27, 28, 182, 0, 217, 62, 29]
abbrev dktX0_far_0 : List UInt8 := dkwX0_far_0 ++ dktX0_far_1
theorem dksX0_far_0 : cX0_far.data.toList.drop 0 = dktX0_far_0 := by decide +kernel
theorem dksX0_far_1 : cX0_far.data.toList.drop 24 = dktX0_far_1 := dk_seg dksX0_far_0 24 rfl rfl
theorem dX0_far_0 : decode cX0_far 0 = .ok (.iload_n 1, 1) := dk_27 (dk_at dksX0_far_0 0 rfl rfl)
theorem dX0_far_1 : decode cX0_far 1 = .ok (.invokestatic 202, 3) := dk_184 0 202 (dk_at dksX0_far_0 1 rfl rfl)
theorem dX0_far_4 : decode cX0_far 4 = .ok (.ifCond .eq 10, 3) := dk_153 0 10 (dk_at dksX0_far_0 4 rfl rfl)
theorem dX0_far_7 : decode cX0_far 7 = .ok (.iload_n 2, 1) := dk_28 (dk_at dksX0_far_0 7 rfl rfl)
theorem dX0_far_8 : decode cX0_far 8 = .ok (.invokestatic 202, 3) := dk_184 0 202 (dk_at dksX0_far_0 8 rfl rfl)
theorem dX0_far_11 : decode cX0_far 11 = .ok (.ifCond .ne 5, 3) := dk_154 0 5 (dk_at dksX0_far_0 11 rfl rfl)
theorem dX0_far_14 : decode cX0_far 14 = .ok (.iconst (-1), 1) := dk_2 (dk_at dksX0_far_0 14 rfl rfl)
theorem dX0_far_15 : decode cX0_far 15 = .ok (.ireturn, 1) := dk_172 (dk_at dksX0_far_0 15 rfl rfl)
theorem dX0_far_16 : decode cX0_far 16 = .ok (.aload_n 0, 1) := dk_42 (dk_at dksX0_far_0 16 rfl rfl)
theorem dX0_far_17 : decode cX0_far 17 = .ok (.iload_n 1, 1) := dk_27 (dk_at dksX0_far_0 17 rfl rfl)
theorem dX0_far_18 : decode cX0_far 18 = .ok (.iload_n 2, 1) := dk_28 (dk_at dksX0_far_0 18 rfl rfl)
theorem dX0_far_19 : decode cX0_far 19 = .ok (.invokevirtual 217, 3) := dk_182 0 217 (dk_at dksX0_far_0 19 rfl rfl)
theorem dX0_far_22 : decode cX0_far 22 = .ok (.istore_n 3, 1) := dk_62 (dk_at dksX0_far_0 22 rfl rfl)
theorem dX0_far_23 : decode cX0_far 23 = .ok (.iload_n 3, 1) := dk_29 (dk_at dksX0_far_0 23 rfl rfl)
theorem dX0_far_24 : decode cX0_far 24 = .ok (.bipush 99, 2) := dk_16 99 (dk_at dksX0_far_1 0 rfl rfl)
theorem dX0_far_26 : decode cX0_far 26 = .ok (.if_icmp .ne 8, 3) := dk_160 0 8 (dk_at dksX0_far_1 2 rfl rfl)
theorem dX0_far_29 : decode cX0_far 29 = .ok (.bipush (-2), 2) := dk_16 254 (dk_at dksX0_far_1 5 rfl rfl)
theorem dX0_far_31 : decode cX0_far 31 = .ok (.goto 4, 3) := dk_167 0 4 (dk_at dksX0_far_1 7 rfl rfl)
theorem dX0_far_34 : decode cX0_far 34 = .ok (.iload_n 3, 1) := dk_29 (dk_at dksX0_far_1 10 rfl rfl)
theorem dX0_far_35 : decode cX0_far 35 = .ok (.ireturn, 1) := dk_172 (dk_at dksX0_far_1 11 rfl rfl)
abbrev cX0_farOf : ByteArray := prog_1_method_14_code
def yX0_farOf : MethodName := ⟨RX0, "farOf", "(II)I"⟩
def dkwX0_farOf_1 : List UInt8 := [29, 160, 0, 6, 16, 99, 172, 21, 5, 62, 132, 4, 1, 167, 255, 226, 21, 4, 172]
abbrev dktX0_farOf_1 : List UInt8 := dkwX0_farOf_1 ++ []
def dkwX0_farOf_0 : List UInt8 := [4, 27, 120, 62, 3, 54, 4, 29, 28, 184, 0, 125, 154, 0, 28, 42, 29, 182, 0, 132, 54, 5, 21, 5]
abbrev dktX0_farOf_0 : List UInt8 := dkwX0_farOf_0 ++ dktX0_farOf_1
theorem dksX0_farOf_0 : cX0_farOf.data.toList.drop 0 = dktX0_farOf_0 := by decide +kernel
theorem dksX0_farOf_1 : cX0_farOf.data.toList.drop 24 = dktX0_farOf_1 := dk_seg dksX0_farOf_0 24 rfl rfl
theorem dX0_farOf_0 : decode cX0_farOf 0 = .ok (.iconst 1, 1) := dk_4 (dk_at dksX0_farOf_0 0 rfl rfl)
theorem dX0_farOf_1 : decode cX0_farOf 1 = .ok (.iload_n 1, 1) := dk_27 (dk_at dksX0_farOf_0 1 rfl rfl)
theorem dX0_farOf_2 : decode cX0_farOf 2 = .ok (.ishl, 1) := dk_120 (dk_at dksX0_farOf_0 2 rfl rfl)
theorem dX0_farOf_3 : decode cX0_farOf 3 = .ok (.istore_n 3, 1) := dk_62 (dk_at dksX0_farOf_0 3 rfl rfl)
theorem dX0_farOf_4 : decode cX0_farOf 4 = .ok (.iconst 0, 1) := dk_3 (dk_at dksX0_farOf_0 4 rfl rfl)
theorem dX0_farOf_5 : decode cX0_farOf 5 = .ok (.istore 4, 2) := dk_54 4 (dk_at dksX0_farOf_0 5 rfl rfl)
theorem dX0_farOf_7 : decode cX0_farOf 7 = .ok (.iload_n 3, 1) := dk_29 (dk_at dksX0_farOf_0 7 rfl rfl)
theorem dX0_farOf_8 : decode cX0_farOf 8 = .ok (.iload_n 2, 1) := dk_28 (dk_at dksX0_farOf_0 8 rfl rfl)
theorem dX0_farOf_9 : decode cX0_farOf 9 = .ok (.invokestatic 125, 3) := dk_184 0 125 (dk_at dksX0_farOf_0 9 rfl rfl)
theorem dX0_farOf_12 : decode cX0_farOf 12 = .ok (.ifCond .ne 28, 3) := dk_154 0 28 (dk_at dksX0_farOf_0 12 rfl rfl)
theorem dX0_farOf_15 : decode cX0_farOf 15 = .ok (.aload_n 0, 1) := dk_42 (dk_at dksX0_farOf_0 15 rfl rfl)
theorem dX0_farOf_16 : decode cX0_farOf 16 = .ok (.iload_n 3, 1) := dk_29 (dk_at dksX0_farOf_0 16 rfl rfl)
theorem dX0_farOf_17 : decode cX0_farOf 17 = .ok (.invokevirtual 132, 3) := dk_182 0 132 (dk_at dksX0_farOf_0 17 rfl rfl)
theorem dX0_farOf_20 : decode cX0_farOf 20 = .ok (.istore 5, 2) := dk_54 5 (dk_at dksX0_farOf_0 20 rfl rfl)
theorem dX0_farOf_22 : decode cX0_farOf 22 = .ok (.iload 5, 2) := dk_21 5 (dk_at dksX0_farOf_0 22 rfl rfl)
theorem dX0_farOf_24 : decode cX0_farOf 24 = .ok (.iload_n 3, 1) := dk_29 (dk_at dksX0_farOf_1 0 rfl rfl)
theorem dX0_farOf_25 : decode cX0_farOf 25 = .ok (.if_icmp .ne 6, 3) := dk_160 0 6 (dk_at dksX0_farOf_1 1 rfl rfl)
theorem dX0_farOf_28 : decode cX0_farOf 28 = .ok (.bipush 99, 2) := dk_16 99 (dk_at dksX0_farOf_1 4 rfl rfl)
theorem dX0_farOf_30 : decode cX0_farOf 30 = .ok (.ireturn, 1) := dk_172 (dk_at dksX0_farOf_1 6 rfl rfl)
theorem dX0_farOf_31 : decode cX0_farOf 31 = .ok (.iload 5, 2) := dk_21 5 (dk_at dksX0_farOf_1 7 rfl rfl)
theorem dX0_farOf_33 : decode cX0_farOf 33 = .ok (.istore_n 3, 1) := dk_62 (dk_at dksX0_farOf_1 9 rfl rfl)
theorem dX0_farOf_34 : decode cX0_farOf 34 = .ok (.iinc 4 1, 3) := dk_132 4 1 (dk_at dksX0_farOf_1 10 rfl rfl)
theorem dX0_farOf_37 : decode cX0_farOf 37 = .ok (.goto (-30), 3) := dk_167 255 226 (dk_at dksX0_farOf_1 13 rfl rfl)
theorem dX0_farOf_40 : decode cX0_farOf 40 = .ok (.iload 4, 2) := dk_21 4 (dk_at dksX0_farOf_1 16 rfl rfl)
theorem dX0_farOf_42 : decode cX0_farOf 42 = .ok (.ireturn, 1) := dk_172 (dk_at dksX0_farOf_1 18 rfl rfl)
abbrev cX0_go : ByteArray := prog_1_method_28_code
def yX0_go : MethodName := ⟨RX0, "go", "(II)I"⟩
def dkwX0_go_5 : List UInt8 := [42, 180, 0, 18, 27, 182, 0, 99, 192, 0, 109, 180, 0, 122, 172]
abbrev dktX0_go_5 : List UInt8 := dkwX0_go_5 ++ []
def dkwX0_go_4 : List UInt8 := [192, 0, 103, 42, 180, 0, 12, 28, 182, 0, 99, 192, 0, 103, 182, 0, 129, 42, 180, 0, 157, 182, 0, 221]
abbrev dktX0_go_4 : List UInt8 := dkwX0_go_4 ++ dktX0_go_5
def dkwX0_go_3 : List UInt8 := [2, 172, 42, 42, 180, 0, 18, 27, 182, 0, 99, 192, 0, 109, 42, 180, 0, 12, 28, 182, 0, 99]
abbrev dktX0_go_3 : List UInt8 := dkwX0_go_3 ++ dktX0_go_4
def dkwX0_go_2 : List UInt8 := [180, 0, 18, 27, 182, 0, 99, 192, 0, 109, 180, 0, 122, 160, 0, 11, 42, 28, 182, 0, 184, 158, 0, 5]
abbrev dktX0_go_2 : List UInt8 := dkwX0_go_2 ++ dktX0_go_3
def dkwX0_go_1 : List UInt8 := [192, 0, 109, 182, 0, 115, 153, 0, 42, 42, 180, 0, 12, 28, 182, 0, 99, 192, 0, 103, 182, 0, 119, 42]
abbrev dktX0_go_1 : List UInt8 := dkwX0_go_1 ++ dktX0_go_2
def dkwX0_go_0 : List UInt8 := [42, 27, 182, 0, 187, 153, 0, 67, 42, 28, 182, 0, 171, 153, 0, 59, 42, 180, 0, 18, 27, 182, 0, 99]
abbrev dktX0_go_0 : List UInt8 := dkwX0_go_0 ++ dktX0_go_1
theorem dksX0_go_0 : cX0_go.data.toList.drop 0 = dktX0_go_0 := by decide +kernel
theorem dksX0_go_1 : cX0_go.data.toList.drop 24 = dktX0_go_1 := dk_seg dksX0_go_0 24 rfl rfl
theorem dksX0_go_2 : cX0_go.data.toList.drop 48 = dktX0_go_2 := dk_seg dksX0_go_1 24 rfl rfl
theorem dksX0_go_3 : cX0_go.data.toList.drop 72 = dktX0_go_3 := dk_seg dksX0_go_2 24 rfl rfl
theorem dksX0_go_4 : cX0_go.data.toList.drop 94 = dktX0_go_4 := dk_seg dksX0_go_3 22 rfl rfl
theorem dksX0_go_5 : cX0_go.data.toList.drop 118 = dktX0_go_5 := dk_seg dksX0_go_4 24 rfl rfl
theorem dX0_go_0 : decode cX0_go 0 = .ok (.aload_n 0, 1) := dk_42 (dk_at dksX0_go_0 0 rfl rfl)
theorem dX0_go_1 : decode cX0_go 1 = .ok (.iload_n 1, 1) := dk_27 (dk_at dksX0_go_0 1 rfl rfl)
theorem dX0_go_2 : decode cX0_go 2 = .ok (.invokevirtual 187, 3) := dk_182 0 187 (dk_at dksX0_go_0 2 rfl rfl)
theorem dX0_go_5 : decode cX0_go 5 = .ok (.ifCond .eq 67, 3) := dk_153 0 67 (dk_at dksX0_go_0 5 rfl rfl)
theorem dX0_go_8 : decode cX0_go 8 = .ok (.aload_n 0, 1) := dk_42 (dk_at dksX0_go_0 8 rfl rfl)
theorem dX0_go_9 : decode cX0_go 9 = .ok (.iload_n 2, 1) := dk_28 (dk_at dksX0_go_0 9 rfl rfl)
theorem dX0_go_10 : decode cX0_go 10 = .ok (.invokevirtual 171, 3) := dk_182 0 171 (dk_at dksX0_go_0 10 rfl rfl)
theorem dX0_go_13 : decode cX0_go 13 = .ok (.ifCond .eq 59, 3) := dk_153 0 59 (dk_at dksX0_go_0 13 rfl rfl)
theorem dX0_go_16 : decode cX0_go 16 = .ok (.aload_n 0, 1) := dk_42 (dk_at dksX0_go_0 16 rfl rfl)
theorem dX0_go_17 : decode cX0_go 17 = .ok (.getfield 18, 3) := dk_180 0 18 (dk_at dksX0_go_0 17 rfl rfl)
theorem dX0_go_20 : decode cX0_go 20 = .ok (.iload_n 1, 1) := dk_27 (dk_at dksX0_go_0 20 rfl rfl)
theorem dX0_go_21 : decode cX0_go 21 = .ok (.invokevirtual 99, 3) := dk_182 0 99 (dk_at dksX0_go_0 21 rfl rfl)
theorem dX0_go_24 : decode cX0_go 24 = .ok (.checkcast 109, 3) := dk_192 0 109 (dk_at dksX0_go_1 0 rfl rfl)
theorem dX0_go_27 : decode cX0_go 27 = .ok (.invokevirtual 115, 3) := dk_182 0 115 (dk_at dksX0_go_1 3 rfl rfl)
theorem dX0_go_30 : decode cX0_go 30 = .ok (.ifCond .eq 42, 3) := dk_153 0 42 (dk_at dksX0_go_1 6 rfl rfl)
theorem dX0_go_33 : decode cX0_go 33 = .ok (.aload_n 0, 1) := dk_42 (dk_at dksX0_go_1 9 rfl rfl)
theorem dX0_go_34 : decode cX0_go 34 = .ok (.getfield 12, 3) := dk_180 0 12 (dk_at dksX0_go_1 10 rfl rfl)
theorem dX0_go_37 : decode cX0_go 37 = .ok (.iload_n 2, 1) := dk_28 (dk_at dksX0_go_1 13 rfl rfl)
theorem dX0_go_38 : decode cX0_go 38 = .ok (.invokevirtual 99, 3) := dk_182 0 99 (dk_at dksX0_go_1 14 rfl rfl)
theorem dX0_go_41 : decode cX0_go 41 = .ok (.checkcast 103, 3) := dk_192 0 103 (dk_at dksX0_go_1 17 rfl rfl)
theorem dX0_go_44 : decode cX0_go 44 = .ok (.invokevirtual 119, 3) := dk_182 0 119 (dk_at dksX0_go_1 20 rfl rfl)
theorem dX0_go_47 : decode cX0_go 47 = .ok (.aload_n 0, 1) := dk_42 (dk_at dksX0_go_1 23 rfl rfl)
theorem dX0_go_48 : decode cX0_go 48 = .ok (.getfield 18, 3) := dk_180 0 18 (dk_at dksX0_go_2 0 rfl rfl)
theorem dX0_go_51 : decode cX0_go 51 = .ok (.iload_n 1, 1) := dk_27 (dk_at dksX0_go_2 3 rfl rfl)
theorem dX0_go_52 : decode cX0_go 52 = .ok (.invokevirtual 99, 3) := dk_182 0 99 (dk_at dksX0_go_2 4 rfl rfl)
theorem dX0_go_55 : decode cX0_go 55 = .ok (.checkcast 109, 3) := dk_192 0 109 (dk_at dksX0_go_2 7 rfl rfl)
theorem dX0_go_58 : decode cX0_go 58 = .ok (.getfield 122, 3) := dk_180 0 122 (dk_at dksX0_go_2 10 rfl rfl)
theorem dX0_go_61 : decode cX0_go 61 = .ok (.if_icmp .ne 11, 3) := dk_160 0 11 (dk_at dksX0_go_2 13 rfl rfl)
theorem dX0_go_64 : decode cX0_go 64 = .ok (.aload_n 0, 1) := dk_42 (dk_at dksX0_go_2 16 rfl rfl)
theorem dX0_go_65 : decode cX0_go 65 = .ok (.iload_n 2, 1) := dk_28 (dk_at dksX0_go_2 17 rfl rfl)
theorem dX0_go_66 : decode cX0_go 66 = .ok (.invokevirtual 184, 3) := dk_182 0 184 (dk_at dksX0_go_2 18 rfl rfl)
theorem dX0_go_69 : decode cX0_go 69 = .ok (.ifCond .le 5, 3) := dk_158 0 5 (dk_at dksX0_go_2 21 rfl rfl)
theorem dX0_go_72 : decode cX0_go 72 = .ok (.iconst (-1), 1) := dk_2 (dk_at dksX0_go_3 0 rfl rfl)
theorem dX0_go_73 : decode cX0_go 73 = .ok (.ireturn, 1) := dk_172 (dk_at dksX0_go_3 1 rfl rfl)
theorem dX0_go_74 : decode cX0_go 74 = .ok (.aload_n 0, 1) := dk_42 (dk_at dksX0_go_3 2 rfl rfl)
theorem dX0_go_75 : decode cX0_go 75 = .ok (.aload_n 0, 1) := dk_42 (dk_at dksX0_go_3 3 rfl rfl)
theorem dX0_go_76 : decode cX0_go 76 = .ok (.getfield 18, 3) := dk_180 0 18 (dk_at dksX0_go_3 4 rfl rfl)
theorem dX0_go_79 : decode cX0_go 79 = .ok (.iload_n 1, 1) := dk_27 (dk_at dksX0_go_3 7 rfl rfl)
theorem dX0_go_80 : decode cX0_go 80 = .ok (.invokevirtual 99, 3) := dk_182 0 99 (dk_at dksX0_go_3 8 rfl rfl)
theorem dX0_go_83 : decode cX0_go 83 = .ok (.checkcast 109, 3) := dk_192 0 109 (dk_at dksX0_go_3 11 rfl rfl)
theorem dX0_go_86 : decode cX0_go 86 = .ok (.aload_n 0, 1) := dk_42 (dk_at dksX0_go_3 14 rfl rfl)
theorem dX0_go_87 : decode cX0_go 87 = .ok (.getfield 12, 3) := dk_180 0 12 (dk_at dksX0_go_3 15 rfl rfl)
theorem dX0_go_90 : decode cX0_go 90 = .ok (.iload_n 2, 1) := dk_28 (dk_at dksX0_go_3 18 rfl rfl)
theorem dX0_go_91 : decode cX0_go 91 = .ok (.invokevirtual 99, 3) := dk_182 0 99 (dk_at dksX0_go_3 19 rfl rfl)
theorem dX0_go_94 : decode cX0_go 94 = .ok (.checkcast 103, 3) := dk_192 0 103 (dk_at dksX0_go_4 0 rfl rfl)
theorem dX0_go_97 : decode cX0_go 97 = .ok (.aload_n 0, 1) := dk_42 (dk_at dksX0_go_4 3 rfl rfl)
theorem dX0_go_98 : decode cX0_go 98 = .ok (.getfield 12, 3) := dk_180 0 12 (dk_at dksX0_go_4 4 rfl rfl)
theorem dX0_go_101 : decode cX0_go 101 = .ok (.iload_n 2, 1) := dk_28 (dk_at dksX0_go_4 7 rfl rfl)
theorem dX0_go_102 : decode cX0_go 102 = .ok (.invokevirtual 99, 3) := dk_182 0 99 (dk_at dksX0_go_4 8 rfl rfl)
theorem dX0_go_105 : decode cX0_go 105 = .ok (.checkcast 103, 3) := dk_192 0 103 (dk_at dksX0_go_4 11 rfl rfl)
theorem dX0_go_108 : decode cX0_go 108 = .ok (.invokevirtual 129, 3) := dk_182 0 129 (dk_at dksX0_go_4 14 rfl rfl)
theorem dX0_go_111 : decode cX0_go 111 = .ok (.aload_n 0, 1) := dk_42 (dk_at dksX0_go_4 17 rfl rfl)
theorem dX0_go_112 : decode cX0_go 112 = .ok (.getfield 157, 3) := dk_180 0 157 (dk_at dksX0_go_4 18 rfl rfl)
theorem dX0_go_115 : decode cX0_go 115 = .ok (.invokevirtual 221, 3) := dk_182 0 221 (dk_at dksX0_go_4 21 rfl rfl)
theorem dX0_go_118 : decode cX0_go 118 = .ok (.aload_n 0, 1) := dk_42 (dk_at dksX0_go_5 0 rfl rfl)
theorem dX0_go_119 : decode cX0_go 119 = .ok (.getfield 18, 3) := dk_180 0 18 (dk_at dksX0_go_5 1 rfl rfl)
theorem dX0_go_122 : decode cX0_go 122 = .ok (.iload_n 1, 1) := dk_27 (dk_at dksX0_go_5 4 rfl rfl)
theorem dX0_go_123 : decode cX0_go 123 = .ok (.invokevirtual 99, 3) := dk_182 0 99 (dk_at dksX0_go_5 5 rfl rfl)
theorem dX0_go_126 : decode cX0_go 126 = .ok (.checkcast 109, 3) := dk_192 0 109 (dk_at dksX0_go_5 8 rfl rfl)
theorem dX0_go_129 : decode cX0_go 129 = .ok (.getfield 122, 3) := dk_180 0 122 (dk_at dksX0_go_5 11 rfl rfl)
theorem dX0_go_132 : decode cX0_go 132 = .ok (.ireturn, 1) := dk_172 (dk_at dksX0_go_5 14 rfl rfl)
abbrev cX0_gone : ByteArray := prog_1_method_27_code
def yX0_gone : MethodName := ⟨RX0, "gone", "(LTurningRoads$Goer;LTurningRoads$Way;II)V"⟩
def dkwX0_gone_2 : List UInt8 := [181, 0, 181, 43, 21, 4, 182, 0, 166, 177]
abbrev dktX0_gone_2 : List UInt8 := dkwX0_gone_2 ++ []
def dkwX0_gone_1 : List UInt8 := [180, 0, 178, 4, 96, 181, 0, 178, 42, 89, 180, 0, 154, 4, 96, 181, 0, 154, 44, 42, 180, 0, 154]
abbrev dktX0_gone_1 : List UInt8 := dkwX0_gone_1 ++ dktX0_gone_2
def dkwX0_gone_0 : List UInt8 := [43, 29, 181, 0, 122, 44, 44, 180, 0, 105, 154, 0, 7, 4, 167, 0, 4, 3, 181, 0, 105, 44, 89]
abbrev dktX0_gone_0 : List UInt8 := dkwX0_gone_0 ++ dktX0_gone_1
theorem dksX0_gone_0 : cX0_gone.data.toList.drop 0 = dktX0_gone_0 := by decide +kernel
theorem dksX0_gone_1 : cX0_gone.data.toList.drop 23 = dktX0_gone_1 := dk_seg dksX0_gone_0 23 rfl rfl
theorem dksX0_gone_2 : cX0_gone.data.toList.drop 46 = dktX0_gone_2 := dk_seg dksX0_gone_1 23 rfl rfl
theorem dX0_gone_0 : decode cX0_gone 0 = .ok (.aload_n 1, 1) := dk_43 (dk_at dksX0_gone_0 0 rfl rfl)
theorem dX0_gone_1 : decode cX0_gone 1 = .ok (.iload_n 3, 1) := dk_29 (dk_at dksX0_gone_0 1 rfl rfl)
theorem dX0_gone_2 : decode cX0_gone 2 = .ok (.putfield 122, 3) := dk_181 0 122 (dk_at dksX0_gone_0 2 rfl rfl)
theorem dX0_gone_5 : decode cX0_gone 5 = .ok (.aload_n 2, 1) := dk_44 (dk_at dksX0_gone_0 5 rfl rfl)
theorem dX0_gone_6 : decode cX0_gone 6 = .ok (.aload_n 2, 1) := dk_44 (dk_at dksX0_gone_0 6 rfl rfl)
theorem dX0_gone_7 : decode cX0_gone 7 = .ok (.getfield 105, 3) := dk_180 0 105 (dk_at dksX0_gone_0 7 rfl rfl)
theorem dX0_gone_10 : decode cX0_gone 10 = .ok (.ifCond .ne 7, 3) := dk_154 0 7 (dk_at dksX0_gone_0 10 rfl rfl)
theorem dX0_gone_13 : decode cX0_gone 13 = .ok (.iconst 1, 1) := dk_4 (dk_at dksX0_gone_0 13 rfl rfl)
theorem dX0_gone_14 : decode cX0_gone 14 = .ok (.goto 4, 3) := dk_167 0 4 (dk_at dksX0_gone_0 14 rfl rfl)
theorem dX0_gone_17 : decode cX0_gone 17 = .ok (.iconst 0, 1) := dk_3 (dk_at dksX0_gone_0 17 rfl rfl)
theorem dX0_gone_18 : decode cX0_gone 18 = .ok (.putfield 105, 3) := dk_181 0 105 (dk_at dksX0_gone_0 18 rfl rfl)
theorem dX0_gone_21 : decode cX0_gone 21 = .ok (.aload_n 2, 1) := dk_44 (dk_at dksX0_gone_0 21 rfl rfl)
theorem dX0_gone_22 : decode cX0_gone 22 = .ok (.dup, 1) := dk_89 (dk_at dksX0_gone_0 22 rfl rfl)
theorem dX0_gone_23 : decode cX0_gone 23 = .ok (.getfield 178, 3) := dk_180 0 178 (dk_at dksX0_gone_1 0 rfl rfl)
theorem dX0_gone_26 : decode cX0_gone 26 = .ok (.iconst 1, 1) := dk_4 (dk_at dksX0_gone_1 3 rfl rfl)
theorem dX0_gone_27 : decode cX0_gone 27 = .ok (.iadd, 1) := dk_96 (dk_at dksX0_gone_1 4 rfl rfl)
theorem dX0_gone_28 : decode cX0_gone 28 = .ok (.putfield 178, 3) := dk_181 0 178 (dk_at dksX0_gone_1 5 rfl rfl)
theorem dX0_gone_31 : decode cX0_gone 31 = .ok (.aload_n 0, 1) := dk_42 (dk_at dksX0_gone_1 8 rfl rfl)
theorem dX0_gone_32 : decode cX0_gone 32 = .ok (.dup, 1) := dk_89 (dk_at dksX0_gone_1 9 rfl rfl)
theorem dX0_gone_33 : decode cX0_gone 33 = .ok (.getfield 154, 3) := dk_180 0 154 (dk_at dksX0_gone_1 10 rfl rfl)
theorem dX0_gone_36 : decode cX0_gone 36 = .ok (.iconst 1, 1) := dk_4 (dk_at dksX0_gone_1 13 rfl rfl)
theorem dX0_gone_37 : decode cX0_gone 37 = .ok (.iadd, 1) := dk_96 (dk_at dksX0_gone_1 14 rfl rfl)
theorem dX0_gone_38 : decode cX0_gone 38 = .ok (.putfield 154, 3) := dk_181 0 154 (dk_at dksX0_gone_1 15 rfl rfl)
theorem dX0_gone_41 : decode cX0_gone 41 = .ok (.aload_n 2, 1) := dk_44 (dk_at dksX0_gone_1 18 rfl rfl)
theorem dX0_gone_42 : decode cX0_gone 42 = .ok (.aload_n 0, 1) := dk_42 (dk_at dksX0_gone_1 19 rfl rfl)
theorem dX0_gone_43 : decode cX0_gone 43 = .ok (.getfield 154, 3) := dk_180 0 154 (dk_at dksX0_gone_1 20 rfl rfl)
theorem dX0_gone_46 : decode cX0_gone 46 = .ok (.putfield 181, 3) := dk_181 0 181 (dk_at dksX0_gone_2 0 rfl rfl)
theorem dX0_gone_49 : decode cX0_gone 49 = .ok (.aload_n 1, 1) := dk_43 (dk_at dksX0_gone_2 3 rfl rfl)
theorem dX0_gone_50 : decode cX0_gone 50 = .ok (.iload 4, 2) := dk_21 4 (dk_at dksX0_gone_2 4 rfl rfl)
theorem dX0_gone_52 : decode cX0_gone 52 = .ok (.invokevirtual 166, 3) := dk_182 0 166 (dk_at dksX0_gone_2 6 rfl rfl)
theorem dX0_gone_55 : decode cX0_gone 55 = .ok (.return_, 1) := dk_177 (dk_at dksX0_gone_2 9 rfl rfl)
abbrev cX0_turn : ByteArray := prog_1_method_30_code
def yX0_turn : MethodName := ⟨RX0, "turn", "(I)I"⟩
def dkwX0_turn_1 : List UInt8 := [182, 0, 224, 154, 0, 5, 2, 172, 42, 182, 0, 227, 61, 42, 27, 182, 0, 230, 28, 172]
abbrev dktX0_turn_1 : List UInt8 := dkwX0_turn_1 ++ []
def dkwX0_turn_0 : List UInt8 := [27, 133, 9, 4, 42, 180, 0, 12, 182, 0, 89, 120, 4, 100, 133, 184, 0, 93, 153, 0, 10, 42]
abbrev dktX0_turn_0 : List UInt8 := dkwX0_turn_0 ++ dktX0_turn_1
theorem dksX0_turn_0 : cX0_turn.data.toList.drop 0 = dktX0_turn_0 := by decide +kernel
theorem dksX0_turn_1 : cX0_turn.data.toList.drop 22 = dktX0_turn_1 := dk_seg dksX0_turn_0 22 rfl rfl
theorem dX0_turn_0 : decode cX0_turn 0 = .ok (.iload_n 1, 1) := dk_27 (dk_at dksX0_turn_0 0 rfl rfl)
theorem dX0_turn_1 : decode cX0_turn 1 = .ok (.i2l, 1) := dk_133 (dk_at dksX0_turn_0 1 rfl rfl)
theorem dX0_turn_2 : decode cX0_turn 2 = .ok (.lconst 0, 1) := dk_9 (dk_at dksX0_turn_0 2 rfl rfl)
theorem dX0_turn_3 : decode cX0_turn 3 = .ok (.iconst 1, 1) := dk_4 (dk_at dksX0_turn_0 3 rfl rfl)
theorem dX0_turn_4 : decode cX0_turn 4 = .ok (.aload_n 0, 1) := dk_42 (dk_at dksX0_turn_0 4 rfl rfl)
theorem dX0_turn_5 : decode cX0_turn 5 = .ok (.getfield 12, 3) := dk_180 0 12 (dk_at dksX0_turn_0 5 rfl rfl)
theorem dX0_turn_8 : decode cX0_turn 8 = .ok (.invokevirtual 89, 3) := dk_182 0 89 (dk_at dksX0_turn_0 8 rfl rfl)
theorem dX0_turn_11 : decode cX0_turn 11 = .ok (.ishl, 1) := dk_120 (dk_at dksX0_turn_0 11 rfl rfl)
theorem dX0_turn_12 : decode cX0_turn 12 = .ok (.iconst 1, 1) := dk_4 (dk_at dksX0_turn_0 12 rfl rfl)
theorem dX0_turn_13 : decode cX0_turn 13 = .ok (.isub, 1) := dk_100 (dk_at dksX0_turn_0 13 rfl rfl)
theorem dX0_turn_14 : decode cX0_turn 14 = .ok (.i2l, 1) := dk_133 (dk_at dksX0_turn_0 14 rfl rfl)
theorem dX0_turn_15 : decode cX0_turn 15 = .ok (.invokestatic 93, 3) := dk_184 0 93 (dk_at dksX0_turn_0 15 rfl rfl)
theorem dX0_turn_18 : decode cX0_turn 18 = .ok (.ifCond .eq 10, 3) := dk_153 0 10 (dk_at dksX0_turn_0 18 rfl rfl)
theorem dX0_turn_21 : decode cX0_turn 21 = .ok (.aload_n 0, 1) := dk_42 (dk_at dksX0_turn_0 21 rfl rfl)
theorem dX0_turn_22 : decode cX0_turn 22 = .ok (.invokevirtual 224, 3) := dk_182 0 224 (dk_at dksX0_turn_1 0 rfl rfl)
theorem dX0_turn_25 : decode cX0_turn 25 = .ok (.ifCond .ne 5, 3) := dk_154 0 5 (dk_at dksX0_turn_1 3 rfl rfl)
theorem dX0_turn_28 : decode cX0_turn 28 = .ok (.iconst (-1), 1) := dk_2 (dk_at dksX0_turn_1 6 rfl rfl)
theorem dX0_turn_29 : decode cX0_turn 29 = .ok (.ireturn, 1) := dk_172 (dk_at dksX0_turn_1 7 rfl rfl)
theorem dX0_turn_30 : decode cX0_turn 30 = .ok (.aload_n 0, 1) := dk_42 (dk_at dksX0_turn_1 8 rfl rfl)
theorem dX0_turn_31 : decode cX0_turn 31 = .ok (.invokevirtual 227, 3) := dk_182 0 227 (dk_at dksX0_turn_1 9 rfl rfl)
theorem dX0_turn_34 : decode cX0_turn 34 = .ok (.istore_n 2, 1) := dk_61 (dk_at dksX0_turn_1 12 rfl rfl)
theorem dX0_turn_35 : decode cX0_turn 35 = .ok (.aload_n 0, 1) := dk_42 (dk_at dksX0_turn_1 13 rfl rfl)
theorem dX0_turn_36 : decode cX0_turn 36 = .ok (.iload_n 1, 1) := dk_27 (dk_at dksX0_turn_1 14 rfl rfl)
theorem dX0_turn_37 : decode cX0_turn 37 = .ok (.invokevirtual 230, 3) := dk_182 0 230 (dk_at dksX0_turn_1 15 rfl rfl)
theorem dX0_turn_40 : decode cX0_turn 40 = .ok (.iload_n 2, 1) := dk_28 (dk_at dksX0_turn_1 18 rfl rfl)
theorem dX0_turn_41 : decode cX0_turn 41 = .ok (.ireturn, 1) := dk_172 (dk_at dksX0_turn_1 19 rfl rfl)
abbrev cX0_isQuiet : ByteArray := prog_1_method_9_code
def yX0_isQuiet : MethodName := ⟨RX0, "isQuiet", "()Z"⟩
def dkwX0_isQuiet_2 : List UInt8 := [27, 172]
abbrev dktX0_isQuiet_2 : List UInt8 := dkwX0_isQuiet_2 ++ []
def dkwX0_isQuiet_1 : List UInt8 := [182, 0, 99, 192, 0, 109, 182, 0, 115, 153, 0, 7, 4, 167, 0, 4, 3, 60, 132, 2, 1, 167, 255, 215]
abbrev dktX0_isQuiet_1 : List UInt8 := dkwX0_isQuiet_1 ++ dktX0_isQuiet_2
def dkwX0_isQuiet_0 : List UInt8 := [4, 60, 3, 61, 28, 42, 180, 0, 18, 182, 0, 89, 162, 0, 36, 27, 153, 0, 24, 42, 180, 0, 18, 28]
abbrev dktX0_isQuiet_0 : List UInt8 := dkwX0_isQuiet_0 ++ dktX0_isQuiet_1
theorem dksX0_isQuiet_0 : cX0_isQuiet.data.toList.drop 0 = dktX0_isQuiet_0 := by decide +kernel
theorem dksX0_isQuiet_1 : cX0_isQuiet.data.toList.drop 24 = dktX0_isQuiet_1 := dk_seg dksX0_isQuiet_0 24 rfl rfl
theorem dksX0_isQuiet_2 : cX0_isQuiet.data.toList.drop 48 = dktX0_isQuiet_2 := dk_seg dksX0_isQuiet_1 24 rfl rfl
theorem dX0_isQuiet_0 : decode cX0_isQuiet 0 = .ok (.iconst 1, 1) := dk_4 (dk_at dksX0_isQuiet_0 0 rfl rfl)
theorem dX0_isQuiet_1 : decode cX0_isQuiet 1 = .ok (.istore_n 1, 1) := dk_60 (dk_at dksX0_isQuiet_0 1 rfl rfl)
theorem dX0_isQuiet_2 : decode cX0_isQuiet 2 = .ok (.iconst 0, 1) := dk_3 (dk_at dksX0_isQuiet_0 2 rfl rfl)
theorem dX0_isQuiet_3 : decode cX0_isQuiet 3 = .ok (.istore_n 2, 1) := dk_61 (dk_at dksX0_isQuiet_0 3 rfl rfl)
theorem dX0_isQuiet_4 : decode cX0_isQuiet 4 = .ok (.iload_n 2, 1) := dk_28 (dk_at dksX0_isQuiet_0 4 rfl rfl)
theorem dX0_isQuiet_5 : decode cX0_isQuiet 5 = .ok (.aload_n 0, 1) := dk_42 (dk_at dksX0_isQuiet_0 5 rfl rfl)
theorem dX0_isQuiet_6 : decode cX0_isQuiet 6 = .ok (.getfield 18, 3) := dk_180 0 18 (dk_at dksX0_isQuiet_0 6 rfl rfl)
theorem dX0_isQuiet_9 : decode cX0_isQuiet 9 = .ok (.invokevirtual 89, 3) := dk_182 0 89 (dk_at dksX0_isQuiet_0 9 rfl rfl)
theorem dX0_isQuiet_12 : decode cX0_isQuiet 12 = .ok (.if_icmp .ge 36, 3) := dk_162 0 36 (dk_at dksX0_isQuiet_0 12 rfl rfl)
theorem dX0_isQuiet_15 : decode cX0_isQuiet 15 = .ok (.iload_n 1, 1) := dk_27 (dk_at dksX0_isQuiet_0 15 rfl rfl)
theorem dX0_isQuiet_16 : decode cX0_isQuiet 16 = .ok (.ifCond .eq 24, 3) := dk_153 0 24 (dk_at dksX0_isQuiet_0 16 rfl rfl)
theorem dX0_isQuiet_19 : decode cX0_isQuiet 19 = .ok (.aload_n 0, 1) := dk_42 (dk_at dksX0_isQuiet_0 19 rfl rfl)
theorem dX0_isQuiet_20 : decode cX0_isQuiet 20 = .ok (.getfield 18, 3) := dk_180 0 18 (dk_at dksX0_isQuiet_0 20 rfl rfl)
theorem dX0_isQuiet_23 : decode cX0_isQuiet 23 = .ok (.iload_n 2, 1) := dk_28 (dk_at dksX0_isQuiet_0 23 rfl rfl)
theorem dX0_isQuiet_24 : decode cX0_isQuiet 24 = .ok (.invokevirtual 99, 3) := dk_182 0 99 (dk_at dksX0_isQuiet_1 0 rfl rfl)
theorem dX0_isQuiet_27 : decode cX0_isQuiet 27 = .ok (.checkcast 109, 3) := dk_192 0 109 (dk_at dksX0_isQuiet_1 3 rfl rfl)
theorem dX0_isQuiet_30 : decode cX0_isQuiet 30 = .ok (.invokevirtual 115, 3) := dk_182 0 115 (dk_at dksX0_isQuiet_1 6 rfl rfl)
theorem dX0_isQuiet_33 : decode cX0_isQuiet 33 = .ok (.ifCond .eq 7, 3) := dk_153 0 7 (dk_at dksX0_isQuiet_1 9 rfl rfl)
theorem dX0_isQuiet_36 : decode cX0_isQuiet 36 = .ok (.iconst 1, 1) := dk_4 (dk_at dksX0_isQuiet_1 12 rfl rfl)
theorem dX0_isQuiet_37 : decode cX0_isQuiet 37 = .ok (.goto 4, 3) := dk_167 0 4 (dk_at dksX0_isQuiet_1 13 rfl rfl)
theorem dX0_isQuiet_40 : decode cX0_isQuiet 40 = .ok (.iconst 0, 1) := dk_3 (dk_at dksX0_isQuiet_1 16 rfl rfl)
theorem dX0_isQuiet_41 : decode cX0_isQuiet 41 = .ok (.istore_n 1, 1) := dk_60 (dk_at dksX0_isQuiet_1 17 rfl rfl)
theorem dX0_isQuiet_42 : decode cX0_isQuiet 42 = .ok (.iinc 2 1, 3) := dk_132 2 1 (dk_at dksX0_isQuiet_1 18 rfl rfl)
theorem dX0_isQuiet_45 : decode cX0_isQuiet 45 = .ok (.goto (-41), 3) := dk_167 255 215 (dk_at dksX0_isQuiet_1 21 rfl rfl)
theorem dX0_isQuiet_48 : decode cX0_isQuiet 48 = .ok (.iload_n 1, 1) := dk_27 (dk_at dksX0_isQuiet_2 0 rfl rfl)
theorem dX0_isQuiet_49 : decode cX0_isQuiet 49 = .ok (.ireturn, 1) := dk_172 (dk_at dksX0_isQuiet_2 1 rfl rfl)
abbrev cX0_directions : ByteArray := prog_1_method_7_code
def yX0_directions : MethodName := ⟨RX0, "directions", "()I"⟩
def dkwX0_directions_2 : List UInt8 := [27, 172]
abbrev dktX0_directions_2 : List UInt8 := dkwX0_directions_2 ++ []
def dkwX0_directions_1 : List UInt8 := [192, 0, 103, 180, 0, 105, 153, 0, 9, 4, 28, 120, 167, 0, 4, 3, 128, 60, 132, 2, 1, 167, 255, 215]
abbrev dktX0_directions_1 : List UInt8 := dkwX0_directions_1 ++ dktX0_directions_2
def dkwX0_directions_0 : List UInt8 := [3, 60, 3, 61, 28, 42, 180, 0, 12, 182, 0, 89, 162, 0, 36, 27, 42, 180, 0, 12, 28, 182, 0, 99]
abbrev dktX0_directions_0 : List UInt8 := dkwX0_directions_0 ++ dktX0_directions_1
theorem dksX0_directions_0 : cX0_directions.data.toList.drop 0 = dktX0_directions_0 := by decide +kernel
theorem dksX0_directions_1 : cX0_directions.data.toList.drop 24 = dktX0_directions_1 := dk_seg dksX0_directions_0 24 rfl rfl
theorem dksX0_directions_2 : cX0_directions.data.toList.drop 48 = dktX0_directions_2 := dk_seg dksX0_directions_1 24 rfl rfl
theorem dX0_directions_0 : decode cX0_directions 0 = .ok (.iconst 0, 1) := dk_3 (dk_at dksX0_directions_0 0 rfl rfl)
theorem dX0_directions_1 : decode cX0_directions 1 = .ok (.istore_n 1, 1) := dk_60 (dk_at dksX0_directions_0 1 rfl rfl)
theorem dX0_directions_2 : decode cX0_directions 2 = .ok (.iconst 0, 1) := dk_3 (dk_at dksX0_directions_0 2 rfl rfl)
theorem dX0_directions_3 : decode cX0_directions 3 = .ok (.istore_n 2, 1) := dk_61 (dk_at dksX0_directions_0 3 rfl rfl)
theorem dX0_directions_4 : decode cX0_directions 4 = .ok (.iload_n 2, 1) := dk_28 (dk_at dksX0_directions_0 4 rfl rfl)
theorem dX0_directions_5 : decode cX0_directions 5 = .ok (.aload_n 0, 1) := dk_42 (dk_at dksX0_directions_0 5 rfl rfl)
theorem dX0_directions_6 : decode cX0_directions 6 = .ok (.getfield 12, 3) := dk_180 0 12 (dk_at dksX0_directions_0 6 rfl rfl)
theorem dX0_directions_9 : decode cX0_directions 9 = .ok (.invokevirtual 89, 3) := dk_182 0 89 (dk_at dksX0_directions_0 9 rfl rfl)
theorem dX0_directions_12 : decode cX0_directions 12 = .ok (.if_icmp .ge 36, 3) := dk_162 0 36 (dk_at dksX0_directions_0 12 rfl rfl)
theorem dX0_directions_15 : decode cX0_directions 15 = .ok (.iload_n 1, 1) := dk_27 (dk_at dksX0_directions_0 15 rfl rfl)
theorem dX0_directions_16 : decode cX0_directions 16 = .ok (.aload_n 0, 1) := dk_42 (dk_at dksX0_directions_0 16 rfl rfl)
theorem dX0_directions_17 : decode cX0_directions 17 = .ok (.getfield 12, 3) := dk_180 0 12 (dk_at dksX0_directions_0 17 rfl rfl)
theorem dX0_directions_20 : decode cX0_directions 20 = .ok (.iload_n 2, 1) := dk_28 (dk_at dksX0_directions_0 20 rfl rfl)
theorem dX0_directions_21 : decode cX0_directions 21 = .ok (.invokevirtual 99, 3) := dk_182 0 99 (dk_at dksX0_directions_0 21 rfl rfl)
theorem dX0_directions_24 : decode cX0_directions 24 = .ok (.checkcast 103, 3) := dk_192 0 103 (dk_at dksX0_directions_1 0 rfl rfl)
theorem dX0_directions_27 : decode cX0_directions 27 = .ok (.getfield 105, 3) := dk_180 0 105 (dk_at dksX0_directions_1 3 rfl rfl)
theorem dX0_directions_30 : decode cX0_directions 30 = .ok (.ifCond .eq 9, 3) := dk_153 0 9 (dk_at dksX0_directions_1 6 rfl rfl)
theorem dX0_directions_33 : decode cX0_directions 33 = .ok (.iconst 1, 1) := dk_4 (dk_at dksX0_directions_1 9 rfl rfl)
theorem dX0_directions_34 : decode cX0_directions 34 = .ok (.iload_n 2, 1) := dk_28 (dk_at dksX0_directions_1 10 rfl rfl)
theorem dX0_directions_35 : decode cX0_directions 35 = .ok (.ishl, 1) := dk_120 (dk_at dksX0_directions_1 11 rfl rfl)
theorem dX0_directions_36 : decode cX0_directions 36 = .ok (.goto 4, 3) := dk_167 0 4 (dk_at dksX0_directions_1 12 rfl rfl)
theorem dX0_directions_39 : decode cX0_directions 39 = .ok (.iconst 0, 1) := dk_3 (dk_at dksX0_directions_1 15 rfl rfl)
theorem dX0_directions_40 : decode cX0_directions 40 = .ok (.ior, 1) := dk_128 (dk_at dksX0_directions_1 16 rfl rfl)
theorem dX0_directions_41 : decode cX0_directions 41 = .ok (.istore_n 1, 1) := dk_60 (dk_at dksX0_directions_1 17 rfl rfl)
theorem dX0_directions_42 : decode cX0_directions 42 = .ok (.iinc 2 1, 3) := dk_132 2 1 (dk_at dksX0_directions_1 18 rfl rfl)
theorem dX0_directions_45 : decode cX0_directions 45 = .ok (.goto (-41), 3) := dk_167 255 215 (dk_at dksX0_directions_1 21 rfl rfl)
theorem dX0_directions_48 : decode cX0_directions 48 = .ok (.iload_n 1, 1) := dk_27 (dk_at dksX0_directions_2 0 rfl rfl)
theorem dX0_directions_49 : decode cX0_directions 49 = .ok (.ireturn, 1) := dk_172 (dk_at dksX0_directions_2 1 rfl rfl)
abbrev cX0_lays : ByteArray := prog_1_method_29_code
def yX0_lays : MethodName := ⟨RX0, "lays", "(I)V"⟩
def dkwX0_lays_1 : List UInt8 := [27, 28, 184, 0, 125, 181, 0, 105, 132, 2, 1, 167, 255, 223, 177]
abbrev dktX0_lays_1 : List UInt8 := dkwX0_lays_1 ++ []
def dkwX0_lays_0 : List UInt8 := [3, 61, 28, 42, 180, 0, 12, 182, 0, 89, 162, 0, 28, 42, 180, 0, 12, 28, 182, 0, 99, 192, 0, 103]
abbrev dktX0_lays_0 : List UInt8 := dkwX0_lays_0 ++ dktX0_lays_1
theorem dksX0_lays_0 : cX0_lays.data.toList.drop 0 = dktX0_lays_0 := by decide +kernel
theorem dksX0_lays_1 : cX0_lays.data.toList.drop 24 = dktX0_lays_1 := dk_seg dksX0_lays_0 24 rfl rfl
theorem dX0_lays_0 : decode cX0_lays 0 = .ok (.iconst 0, 1) := dk_3 (dk_at dksX0_lays_0 0 rfl rfl)
theorem dX0_lays_1 : decode cX0_lays 1 = .ok (.istore_n 2, 1) := dk_61 (dk_at dksX0_lays_0 1 rfl rfl)
theorem dX0_lays_2 : decode cX0_lays 2 = .ok (.iload_n 2, 1) := dk_28 (dk_at dksX0_lays_0 2 rfl rfl)
theorem dX0_lays_3 : decode cX0_lays 3 = .ok (.aload_n 0, 1) := dk_42 (dk_at dksX0_lays_0 3 rfl rfl)
theorem dX0_lays_4 : decode cX0_lays 4 = .ok (.getfield 12, 3) := dk_180 0 12 (dk_at dksX0_lays_0 4 rfl rfl)
theorem dX0_lays_7 : decode cX0_lays 7 = .ok (.invokevirtual 89, 3) := dk_182 0 89 (dk_at dksX0_lays_0 7 rfl rfl)
theorem dX0_lays_10 : decode cX0_lays 10 = .ok (.if_icmp .ge 28, 3) := dk_162 0 28 (dk_at dksX0_lays_0 10 rfl rfl)
theorem dX0_lays_13 : decode cX0_lays 13 = .ok (.aload_n 0, 1) := dk_42 (dk_at dksX0_lays_0 13 rfl rfl)
theorem dX0_lays_14 : decode cX0_lays 14 = .ok (.getfield 12, 3) := dk_180 0 12 (dk_at dksX0_lays_0 14 rfl rfl)
theorem dX0_lays_17 : decode cX0_lays 17 = .ok (.iload_n 2, 1) := dk_28 (dk_at dksX0_lays_0 17 rfl rfl)
theorem dX0_lays_18 : decode cX0_lays 18 = .ok (.invokevirtual 99, 3) := dk_182 0 99 (dk_at dksX0_lays_0 18 rfl rfl)
theorem dX0_lays_21 : decode cX0_lays 21 = .ok (.checkcast 103, 3) := dk_192 0 103 (dk_at dksX0_lays_0 21 rfl rfl)
theorem dX0_lays_24 : decode cX0_lays 24 = .ok (.iload_n 1, 1) := dk_27 (dk_at dksX0_lays_1 0 rfl rfl)
theorem dX0_lays_25 : decode cX0_lays 25 = .ok (.iload_n 2, 1) := dk_28 (dk_at dksX0_lays_1 1 rfl rfl)
theorem dX0_lays_26 : decode cX0_lays 26 = .ok (.invokestatic 125, 3) := dk_184 0 125 (dk_at dksX0_lays_1 2 rfl rfl)
theorem dX0_lays_29 : decode cX0_lays 29 = .ok (.putfield 105, 3) := dk_181 0 105 (dk_at dksX0_lays_1 5 rfl rfl)
theorem dX0_lays_32 : decode cX0_lays 32 = .ok (.iinc 2 1, 3) := dk_132 2 1 (dk_at dksX0_lays_1 8 rfl rfl)
theorem dX0_lays_35 : decode cX0_lays 35 = .ok (.goto (-33), 3) := dk_167 255 223 (dk_at dksX0_lays_1 11 rfl rfl)
theorem dX0_lays_38 : decode cX0_lays 38 = .ok (.return_, 1) := dk_177 (dk_at dksX0_lays_1 14 rfl rfl)
abbrev cX0_fewest : ByteArray := prog_1_method_40_code
def yX0_fewest : MethodName := ⟨RX0, "fewest", "(I)I"⟩
def dkwX0_fewest_1 : List UInt8 := [28, 2, 160, 0, 8, 16, 254, 167, 0, 4, 28, 172]
abbrev dktX0_fewest_1 : List UInt8 := dkwX0_fewest_1 ++ []
def dkwX0_fewest_0 : List UInt8 := [42, 27, 182, 1, 17, 154, 0, 5, 2, 172, 42, 182, 1, 20, 42, 180, 0, 246, 42, 182, 1, 14, 46, 61]
abbrev dktX0_fewest_0 : List UInt8 := dkwX0_fewest_0 ++ dktX0_fewest_1
theorem dksX0_fewest_0 : cX0_fewest.data.toList.drop 0 = dktX0_fewest_0 := by decide +kernel
theorem dksX0_fewest_1 : cX0_fewest.data.toList.drop 24 = dktX0_fewest_1 := dk_seg dksX0_fewest_0 24 rfl rfl
theorem dX0_fewest_0 : decode cX0_fewest 0 = .ok (.aload_n 0, 1) := dk_42 (dk_at dksX0_fewest_0 0 rfl rfl)
theorem dX0_fewest_1 : decode cX0_fewest 1 = .ok (.iload_n 1, 1) := dk_27 (dk_at dksX0_fewest_0 1 rfl rfl)
theorem dX0_fewest_2 : decode cX0_fewest 2 = .ok (.invokevirtual 273, 3) := dk_182 1 17 (dk_at dksX0_fewest_0 2 rfl rfl)
theorem dX0_fewest_5 : decode cX0_fewest 5 = .ok (.ifCond .ne 5, 3) := dk_154 0 5 (dk_at dksX0_fewest_0 5 rfl rfl)
theorem dX0_fewest_8 : decode cX0_fewest 8 = .ok (.iconst (-1), 1) := dk_2 (dk_at dksX0_fewest_0 8 rfl rfl)
theorem dX0_fewest_9 : decode cX0_fewest 9 = .ok (.ireturn, 1) := dk_172 (dk_at dksX0_fewest_0 9 rfl rfl)
theorem dX0_fewest_10 : decode cX0_fewest 10 = .ok (.aload_n 0, 1) := dk_42 (dk_at dksX0_fewest_0 10 rfl rfl)
theorem dX0_fewest_11 : decode cX0_fewest 11 = .ok (.invokevirtual 276, 3) := dk_182 1 20 (dk_at dksX0_fewest_0 11 rfl rfl)
theorem dX0_fewest_14 : decode cX0_fewest 14 = .ok (.aload_n 0, 1) := dk_42 (dk_at dksX0_fewest_0 14 rfl rfl)
theorem dX0_fewest_15 : decode cX0_fewest 15 = .ok (.getfield 246, 3) := dk_180 0 246 (dk_at dksX0_fewest_0 15 rfl rfl)
theorem dX0_fewest_18 : decode cX0_fewest 18 = .ok (.aload_n 0, 1) := dk_42 (dk_at dksX0_fewest_0 18 rfl rfl)
theorem dX0_fewest_19 : decode cX0_fewest 19 = .ok (.invokevirtual 270, 3) := dk_182 1 14 (dk_at dksX0_fewest_0 19 rfl rfl)
theorem dX0_fewest_22 : decode cX0_fewest 22 = .ok (.iaload, 1) := dk_46 (dk_at dksX0_fewest_0 22 rfl rfl)
theorem dX0_fewest_23 : decode cX0_fewest 23 = .ok (.istore_n 2, 1) := dk_61 (dk_at dksX0_fewest_0 23 rfl rfl)
theorem dX0_fewest_24 : decode cX0_fewest 24 = .ok (.iload_n 2, 1) := dk_28 (dk_at dksX0_fewest_1 0 rfl rfl)
theorem dX0_fewest_25 : decode cX0_fewest 25 = .ok (.iconst (-1), 1) := dk_2 (dk_at dksX0_fewest_1 1 rfl rfl)
theorem dX0_fewest_26 : decode cX0_fewest 26 = .ok (.if_icmp .ne 8, 3) := dk_160 0 8 (dk_at dksX0_fewest_1 2 rfl rfl)
theorem dX0_fewest_29 : decode cX0_fewest 29 = .ok (.bipush (-2), 2) := dk_16 254 (dk_at dksX0_fewest_1 5 rfl rfl)
theorem dX0_fewest_31 : decode cX0_fewest 31 = .ok (.goto 4, 3) := dk_167 0 4 (dk_at dksX0_fewest_1 7 rfl rfl)
theorem dX0_fewest_34 : decode cX0_fewest 34 = .ok (.iload_n 2, 1) := dk_28 (dk_at dksX0_fewest_1 10 rfl rfl)
theorem dX0_fewest_35 : decode cX0_fewest 35 = .ok (.ireturn, 1) := dk_172 (dk_at dksX0_fewest_1 11 rfl rfl)
abbrev cX0_chooses : ByteArray := prog_1_method_31_code
def yX0_chooses : MethodName := ⟨RX0, "chooses", "(I)Z"⟩
def dkwX0_chooses_5 : List UInt8 := [163, 0, 7, 4, 167, 0, 4, 3, 172]
abbrev dktX0_chooses_5 : List UInt8 := dkwX0_chooses_5 ++ []
def dkwX0_chooses_4 : List UInt8 := [167, 255, 192, 28, 153, 0, 26, 42, 180, 0, 12, 182, 0, 89, 6, 42, 180, 0, 233, 104, 96, 16, 20]
abbrev dktX0_chooses_4 : List UInt8 := dkwX0_chooses_4 ++ dktX0_chooses_5
def dkwX0_chooses_3 : List UInt8 := [180, 0, 35, 42, 180, 0, 233, 29, 79, 42, 89, 180, 0, 233, 4, 96, 181, 0, 233, 132, 3, 1]
abbrev dktX0_chooses_3 : List UInt8 := dkwX0_chooses_3 ++ dktX0_chooses_4
def dkwX0_chooses_2 : List UInt8 := [154, 0, 6, 167, 0, 38, 42, 180, 0, 18, 29, 182, 0, 99, 192, 0, 109, 182, 0, 115, 61, 42]
abbrev dktX0_chooses_2 : List UInt8 := dkwX0_chooses_2 ++ dktX0_chooses_3
def dkwX0_chooses_1 : List UInt8 := [3, 62, 29, 42, 180, 0, 18, 182, 0, 89, 162, 0, 59, 28, 153, 0, 55, 27, 29, 184, 0, 125]
abbrev dktX0_chooses_1 : List UInt8 := dkwX0_chooses_1 ++ dktX0_chooses_2
def dkwX0_chooses_0 : List UInt8 := [42, 3, 181, 0, 233, 27, 133, 10, 4, 42, 180, 0, 18, 182, 0, 89, 120, 4, 100, 133, 184, 0, 93, 61]
abbrev dktX0_chooses_0 : List UInt8 := dkwX0_chooses_0 ++ dktX0_chooses_1
theorem dksX0_chooses_0 : cX0_chooses.data.toList.drop 0 = dktX0_chooses_0 := by decide +kernel
theorem dksX0_chooses_1 : cX0_chooses.data.toList.drop 24 = dktX0_chooses_1 := dk_seg dksX0_chooses_0 24 rfl rfl
theorem dksX0_chooses_2 : cX0_chooses.data.toList.drop 46 = dktX0_chooses_2 := dk_seg dksX0_chooses_1 22 rfl rfl
theorem dksX0_chooses_3 : cX0_chooses.data.toList.drop 68 = dktX0_chooses_3 := dk_seg dksX0_chooses_2 22 rfl rfl
theorem dksX0_chooses_4 : cX0_chooses.data.toList.drop 90 = dktX0_chooses_4 := dk_seg dksX0_chooses_3 22 rfl rfl
theorem dksX0_chooses_5 : cX0_chooses.data.toList.drop 113 = dktX0_chooses_5 := dk_seg dksX0_chooses_4 23 rfl rfl
theorem dX0_chooses_0 : decode cX0_chooses 0 = .ok (.aload_n 0, 1) := dk_42 (dk_at dksX0_chooses_0 0 rfl rfl)
theorem dX0_chooses_1 : decode cX0_chooses 1 = .ok (.iconst 0, 1) := dk_3 (dk_at dksX0_chooses_0 1 rfl rfl)
theorem dX0_chooses_2 : decode cX0_chooses 2 = .ok (.putfield 233, 3) := dk_181 0 233 (dk_at dksX0_chooses_0 2 rfl rfl)
theorem dX0_chooses_5 : decode cX0_chooses 5 = .ok (.iload_n 1, 1) := dk_27 (dk_at dksX0_chooses_0 5 rfl rfl)
theorem dX0_chooses_6 : decode cX0_chooses 6 = .ok (.i2l, 1) := dk_133 (dk_at dksX0_chooses_0 6 rfl rfl)
theorem dX0_chooses_7 : decode cX0_chooses 7 = .ok (.lconst 1, 1) := dk_10 (dk_at dksX0_chooses_0 7 rfl rfl)
theorem dX0_chooses_8 : decode cX0_chooses 8 = .ok (.iconst 1, 1) := dk_4 (dk_at dksX0_chooses_0 8 rfl rfl)
theorem dX0_chooses_9 : decode cX0_chooses 9 = .ok (.aload_n 0, 1) := dk_42 (dk_at dksX0_chooses_0 9 rfl rfl)
theorem dX0_chooses_10 : decode cX0_chooses 10 = .ok (.getfield 18, 3) := dk_180 0 18 (dk_at dksX0_chooses_0 10 rfl rfl)
theorem dX0_chooses_13 : decode cX0_chooses 13 = .ok (.invokevirtual 89, 3) := dk_182 0 89 (dk_at dksX0_chooses_0 13 rfl rfl)
theorem dX0_chooses_16 : decode cX0_chooses 16 = .ok (.ishl, 1) := dk_120 (dk_at dksX0_chooses_0 16 rfl rfl)
theorem dX0_chooses_17 : decode cX0_chooses 17 = .ok (.iconst 1, 1) := dk_4 (dk_at dksX0_chooses_0 17 rfl rfl)
theorem dX0_chooses_18 : decode cX0_chooses 18 = .ok (.isub, 1) := dk_100 (dk_at dksX0_chooses_0 18 rfl rfl)
theorem dX0_chooses_19 : decode cX0_chooses 19 = .ok (.i2l, 1) := dk_133 (dk_at dksX0_chooses_0 19 rfl rfl)
theorem dX0_chooses_20 : decode cX0_chooses 20 = .ok (.invokestatic 93, 3) := dk_184 0 93 (dk_at dksX0_chooses_0 20 rfl rfl)
theorem dX0_chooses_23 : decode cX0_chooses 23 = .ok (.istore_n 2, 1) := dk_61 (dk_at dksX0_chooses_0 23 rfl rfl)
theorem dX0_chooses_24 : decode cX0_chooses 24 = .ok (.iconst 0, 1) := dk_3 (dk_at dksX0_chooses_1 0 rfl rfl)
theorem dX0_chooses_25 : decode cX0_chooses 25 = .ok (.istore_n 3, 1) := dk_62 (dk_at dksX0_chooses_1 1 rfl rfl)
theorem dX0_chooses_26 : decode cX0_chooses 26 = .ok (.iload_n 3, 1) := dk_29 (dk_at dksX0_chooses_1 2 rfl rfl)
theorem dX0_chooses_27 : decode cX0_chooses 27 = .ok (.aload_n 0, 1) := dk_42 (dk_at dksX0_chooses_1 3 rfl rfl)
theorem dX0_chooses_28 : decode cX0_chooses 28 = .ok (.getfield 18, 3) := dk_180 0 18 (dk_at dksX0_chooses_1 4 rfl rfl)
theorem dX0_chooses_31 : decode cX0_chooses 31 = .ok (.invokevirtual 89, 3) := dk_182 0 89 (dk_at dksX0_chooses_1 7 rfl rfl)
theorem dX0_chooses_34 : decode cX0_chooses 34 = .ok (.if_icmp .ge 59, 3) := dk_162 0 59 (dk_at dksX0_chooses_1 10 rfl rfl)
theorem dX0_chooses_37 : decode cX0_chooses 37 = .ok (.iload_n 2, 1) := dk_28 (dk_at dksX0_chooses_1 13 rfl rfl)
theorem dX0_chooses_38 : decode cX0_chooses 38 = .ok (.ifCond .eq 55, 3) := dk_153 0 55 (dk_at dksX0_chooses_1 14 rfl rfl)
theorem dX0_chooses_41 : decode cX0_chooses 41 = .ok (.iload_n 1, 1) := dk_27 (dk_at dksX0_chooses_1 17 rfl rfl)
theorem dX0_chooses_42 : decode cX0_chooses 42 = .ok (.iload_n 3, 1) := dk_29 (dk_at dksX0_chooses_1 18 rfl rfl)
theorem dX0_chooses_43 : decode cX0_chooses 43 = .ok (.invokestatic 125, 3) := dk_184 0 125 (dk_at dksX0_chooses_1 19 rfl rfl)
theorem dX0_chooses_46 : decode cX0_chooses 46 = .ok (.ifCond .ne 6, 3) := dk_154 0 6 (dk_at dksX0_chooses_2 0 rfl rfl)
theorem dX0_chooses_49 : decode cX0_chooses 49 = .ok (.goto 38, 3) := dk_167 0 38 (dk_at dksX0_chooses_2 3 rfl rfl)
theorem dX0_chooses_52 : decode cX0_chooses 52 = .ok (.aload_n 0, 1) := dk_42 (dk_at dksX0_chooses_2 6 rfl rfl)
theorem dX0_chooses_53 : decode cX0_chooses 53 = .ok (.getfield 18, 3) := dk_180 0 18 (dk_at dksX0_chooses_2 7 rfl rfl)
theorem dX0_chooses_56 : decode cX0_chooses 56 = .ok (.iload_n 3, 1) := dk_29 (dk_at dksX0_chooses_2 10 rfl rfl)
theorem dX0_chooses_57 : decode cX0_chooses 57 = .ok (.invokevirtual 99, 3) := dk_182 0 99 (dk_at dksX0_chooses_2 11 rfl rfl)
theorem dX0_chooses_60 : decode cX0_chooses 60 = .ok (.checkcast 109, 3) := dk_192 0 109 (dk_at dksX0_chooses_2 14 rfl rfl)
theorem dX0_chooses_63 : decode cX0_chooses 63 = .ok (.invokevirtual 115, 3) := dk_182 0 115 (dk_at dksX0_chooses_2 17 rfl rfl)
theorem dX0_chooses_66 : decode cX0_chooses 66 = .ok (.istore_n 2, 1) := dk_61 (dk_at dksX0_chooses_2 20 rfl rfl)
theorem dX0_chooses_67 : decode cX0_chooses 67 = .ok (.aload_n 0, 1) := dk_42 (dk_at dksX0_chooses_2 21 rfl rfl)
theorem dX0_chooses_68 : decode cX0_chooses 68 = .ok (.getfield 35, 3) := dk_180 0 35 (dk_at dksX0_chooses_3 0 rfl rfl)
theorem dX0_chooses_71 : decode cX0_chooses 71 = .ok (.aload_n 0, 1) := dk_42 (dk_at dksX0_chooses_3 3 rfl rfl)
theorem dX0_chooses_72 : decode cX0_chooses 72 = .ok (.getfield 233, 3) := dk_180 0 233 (dk_at dksX0_chooses_3 4 rfl rfl)
theorem dX0_chooses_75 : decode cX0_chooses 75 = .ok (.iload_n 3, 1) := dk_29 (dk_at dksX0_chooses_3 7 rfl rfl)
theorem dX0_chooses_76 : decode cX0_chooses 76 = .ok (.iastore, 1) := dk_79 (dk_at dksX0_chooses_3 8 rfl rfl)
theorem dX0_chooses_77 : decode cX0_chooses 77 = .ok (.aload_n 0, 1) := dk_42 (dk_at dksX0_chooses_3 9 rfl rfl)
theorem dX0_chooses_78 : decode cX0_chooses 78 = .ok (.dup, 1) := dk_89 (dk_at dksX0_chooses_3 10 rfl rfl)
theorem dX0_chooses_79 : decode cX0_chooses 79 = .ok (.getfield 233, 3) := dk_180 0 233 (dk_at dksX0_chooses_3 11 rfl rfl)
theorem dX0_chooses_82 : decode cX0_chooses 82 = .ok (.iconst 1, 1) := dk_4 (dk_at dksX0_chooses_3 14 rfl rfl)
theorem dX0_chooses_83 : decode cX0_chooses 83 = .ok (.iadd, 1) := dk_96 (dk_at dksX0_chooses_3 15 rfl rfl)
theorem dX0_chooses_84 : decode cX0_chooses 84 = .ok (.putfield 233, 3) := dk_181 0 233 (dk_at dksX0_chooses_3 16 rfl rfl)
theorem dX0_chooses_87 : decode cX0_chooses 87 = .ok (.iinc 3 1, 3) := dk_132 3 1 (dk_at dksX0_chooses_3 19 rfl rfl)
theorem dX0_chooses_90 : decode cX0_chooses 90 = .ok (.goto (-64), 3) := dk_167 255 192 (dk_at dksX0_chooses_4 0 rfl rfl)
theorem dX0_chooses_93 : decode cX0_chooses 93 = .ok (.iload_n 2, 1) := dk_28 (dk_at dksX0_chooses_4 3 rfl rfl)
theorem dX0_chooses_94 : decode cX0_chooses 94 = .ok (.ifCond .eq 26, 3) := dk_153 0 26 (dk_at dksX0_chooses_4 4 rfl rfl)
theorem dX0_chooses_97 : decode cX0_chooses 97 = .ok (.aload_n 0, 1) := dk_42 (dk_at dksX0_chooses_4 7 rfl rfl)
theorem dX0_chooses_98 : decode cX0_chooses 98 = .ok (.getfield 12, 3) := dk_180 0 12 (dk_at dksX0_chooses_4 8 rfl rfl)
theorem dX0_chooses_101 : decode cX0_chooses 101 = .ok (.invokevirtual 89, 3) := dk_182 0 89 (dk_at dksX0_chooses_4 11 rfl rfl)
theorem dX0_chooses_104 : decode cX0_chooses 104 = .ok (.iconst 3, 1) := dk_6 (dk_at dksX0_chooses_4 14 rfl rfl)
theorem dX0_chooses_105 : decode cX0_chooses 105 = .ok (.aload_n 0, 1) := dk_42 (dk_at dksX0_chooses_4 15 rfl rfl)
theorem dX0_chooses_106 : decode cX0_chooses 106 = .ok (.getfield 233, 3) := dk_180 0 233 (dk_at dksX0_chooses_4 16 rfl rfl)
theorem dX0_chooses_109 : decode cX0_chooses 109 = .ok (.imul, 1) := dk_104 (dk_at dksX0_chooses_4 19 rfl rfl)
theorem dX0_chooses_110 : decode cX0_chooses 110 = .ok (.iadd, 1) := dk_96 (dk_at dksX0_chooses_4 20 rfl rfl)
theorem dX0_chooses_111 : decode cX0_chooses 111 = .ok (.bipush 20, 2) := dk_16 20 (dk_at dksX0_chooses_4 21 rfl rfl)
theorem dX0_chooses_113 : decode cX0_chooses 113 = .ok (.if_icmp .gt 7, 3) := dk_163 0 7 (dk_at dksX0_chooses_5 0 rfl rfl)
theorem dX0_chooses_116 : decode cX0_chooses 116 = .ok (.iconst 1, 1) := dk_4 (dk_at dksX0_chooses_5 3 rfl rfl)
theorem dX0_chooses_117 : decode cX0_chooses 117 = .ok (.goto 4, 3) := dk_167 0 4 (dk_at dksX0_chooses_5 4 rfl rfl)
theorem dX0_chooses_120 : decode cX0_chooses 120 = .ok (.iconst 0, 1) := dk_3 (dk_at dksX0_chooses_5 7 rfl rfl)
theorem dX0_chooses_121 : decode cX0_chooses 121 = .ok (.ireturn, 1) := dk_172 (dk_at dksX0_chooses_5 8 rfl rfl)
abbrev cX0_spreadsFromAims : ByteArray := prog_1_method_38_code
def yX0_spreadsFromAims : MethodName := ⟨RX0, "spreadsFromAims", "()V"⟩
def dkwX0_spreadsFromAims_4 : List UInt8 := [182, 1, 11, 177]
abbrev dktX0_spreadsFromAims_4 : List UInt8 := dkwX0_spreadsFromAims_4 ++ []
def dkwX0_spreadsFromAims_3 : List UInt8 := [182, 0, 89, 120, 162, 0, 17, 42, 27, 28, 128, 3, 182, 1, 4, 132, 2, 1, 167, 255, 232, 42]
abbrev dktX0_spreadsFromAims_3 : List UInt8 := dkwX0_spreadsFromAims_3 ++ dktX0_spreadsFromAims_4
def dkwX0_spreadsFromAims_2 : List UInt8 := [182, 0, 89, 6, 28, 104, 96, 120, 128, 60, 132, 2, 1, 167, 255, 211, 3, 61, 28, 4, 42, 180, 0, 12]
abbrev dktX0_spreadsFromAims_2 : List UInt8 := dkwX0_spreadsFromAims_2 ++ dktX0_spreadsFromAims_3
def dkwX0_spreadsFromAims_1 : List UInt8 := [180, 0, 18, 42, 180, 0, 35, 28, 46, 182, 0, 99, 192, 0, 109, 180, 0, 190, 42, 180, 0, 12]
abbrev dktX0_spreadsFromAims_1 : List UInt8 := dkwX0_spreadsFromAims_1 ++ dktX0_spreadsFromAims_2
def dkwX0_spreadsFromAims_0 : List UInt8 := [42, 182, 1, 8, 42, 3, 181, 0, 253, 3, 60, 3, 61, 28, 42, 180, 0, 233, 162, 0, 43, 27, 42]
abbrev dktX0_spreadsFromAims_0 : List UInt8 := dkwX0_spreadsFromAims_0 ++ dktX0_spreadsFromAims_1
theorem dksX0_spreadsFromAims_0 : cX0_spreadsFromAims.data.toList.drop 0 = dktX0_spreadsFromAims_0 := by decide +kernel
theorem dksX0_spreadsFromAims_1 : cX0_spreadsFromAims.data.toList.drop 23 = dktX0_spreadsFromAims_1 := dk_seg dksX0_spreadsFromAims_0 23 rfl rfl
theorem dksX0_spreadsFromAims_2 : cX0_spreadsFromAims.data.toList.drop 45 = dktX0_spreadsFromAims_2 := dk_seg dksX0_spreadsFromAims_1 22 rfl rfl
theorem dksX0_spreadsFromAims_3 : cX0_spreadsFromAims.data.toList.drop 69 = dktX0_spreadsFromAims_3 := dk_seg dksX0_spreadsFromAims_2 24 rfl rfl
theorem dksX0_spreadsFromAims_4 : cX0_spreadsFromAims.data.toList.drop 91 = dktX0_spreadsFromAims_4 := dk_seg dksX0_spreadsFromAims_3 22 rfl rfl
theorem dX0_spreadsFromAims_0 : decode cX0_spreadsFromAims 0 = .ok (.aload_n 0, 1) := dk_42 (dk_at dksX0_spreadsFromAims_0 0 rfl rfl)
theorem dX0_spreadsFromAims_1 : decode cX0_spreadsFromAims 1 = .ok (.invokevirtual 264, 3) := dk_182 1 8 (dk_at dksX0_spreadsFromAims_0 1 rfl rfl)
theorem dX0_spreadsFromAims_4 : decode cX0_spreadsFromAims 4 = .ok (.aload_n 0, 1) := dk_42 (dk_at dksX0_spreadsFromAims_0 4 rfl rfl)
theorem dX0_spreadsFromAims_5 : decode cX0_spreadsFromAims 5 = .ok (.iconst 0, 1) := dk_3 (dk_at dksX0_spreadsFromAims_0 5 rfl rfl)
theorem dX0_spreadsFromAims_6 : decode cX0_spreadsFromAims 6 = .ok (.putfield 253, 3) := dk_181 0 253 (dk_at dksX0_spreadsFromAims_0 6 rfl rfl)
theorem dX0_spreadsFromAims_9 : decode cX0_spreadsFromAims 9 = .ok (.iconst 0, 1) := dk_3 (dk_at dksX0_spreadsFromAims_0 9 rfl rfl)
theorem dX0_spreadsFromAims_10 : decode cX0_spreadsFromAims 10 = .ok (.istore_n 1, 1) := dk_60 (dk_at dksX0_spreadsFromAims_0 10 rfl rfl)
theorem dX0_spreadsFromAims_11 : decode cX0_spreadsFromAims 11 = .ok (.iconst 0, 1) := dk_3 (dk_at dksX0_spreadsFromAims_0 11 rfl rfl)
theorem dX0_spreadsFromAims_12 : decode cX0_spreadsFromAims 12 = .ok (.istore_n 2, 1) := dk_61 (dk_at dksX0_spreadsFromAims_0 12 rfl rfl)
theorem dX0_spreadsFromAims_13 : decode cX0_spreadsFromAims 13 = .ok (.iload_n 2, 1) := dk_28 (dk_at dksX0_spreadsFromAims_0 13 rfl rfl)
theorem dX0_spreadsFromAims_14 : decode cX0_spreadsFromAims 14 = .ok (.aload_n 0, 1) := dk_42 (dk_at dksX0_spreadsFromAims_0 14 rfl rfl)
theorem dX0_spreadsFromAims_15 : decode cX0_spreadsFromAims 15 = .ok (.getfield 233, 3) := dk_180 0 233 (dk_at dksX0_spreadsFromAims_0 15 rfl rfl)
theorem dX0_spreadsFromAims_18 : decode cX0_spreadsFromAims 18 = .ok (.if_icmp .ge 43, 3) := dk_162 0 43 (dk_at dksX0_spreadsFromAims_0 18 rfl rfl)
theorem dX0_spreadsFromAims_21 : decode cX0_spreadsFromAims 21 = .ok (.iload_n 1, 1) := dk_27 (dk_at dksX0_spreadsFromAims_0 21 rfl rfl)
theorem dX0_spreadsFromAims_22 : decode cX0_spreadsFromAims 22 = .ok (.aload_n 0, 1) := dk_42 (dk_at dksX0_spreadsFromAims_0 22 rfl rfl)
theorem dX0_spreadsFromAims_23 : decode cX0_spreadsFromAims 23 = .ok (.getfield 18, 3) := dk_180 0 18 (dk_at dksX0_spreadsFromAims_1 0 rfl rfl)
theorem dX0_spreadsFromAims_26 : decode cX0_spreadsFromAims 26 = .ok (.aload_n 0, 1) := dk_42 (dk_at dksX0_spreadsFromAims_1 3 rfl rfl)
theorem dX0_spreadsFromAims_27 : decode cX0_spreadsFromAims 27 = .ok (.getfield 35, 3) := dk_180 0 35 (dk_at dksX0_spreadsFromAims_1 4 rfl rfl)
theorem dX0_spreadsFromAims_30 : decode cX0_spreadsFromAims 30 = .ok (.iload_n 2, 1) := dk_28 (dk_at dksX0_spreadsFromAims_1 7 rfl rfl)
theorem dX0_spreadsFromAims_31 : decode cX0_spreadsFromAims 31 = .ok (.iaload, 1) := dk_46 (dk_at dksX0_spreadsFromAims_1 8 rfl rfl)
theorem dX0_spreadsFromAims_32 : decode cX0_spreadsFromAims 32 = .ok (.invokevirtual 99, 3) := dk_182 0 99 (dk_at dksX0_spreadsFromAims_1 9 rfl rfl)
theorem dX0_spreadsFromAims_35 : decode cX0_spreadsFromAims 35 = .ok (.checkcast 109, 3) := dk_192 0 109 (dk_at dksX0_spreadsFromAims_1 12 rfl rfl)
theorem dX0_spreadsFromAims_38 : decode cX0_spreadsFromAims 38 = .ok (.getfield 190, 3) := dk_180 0 190 (dk_at dksX0_spreadsFromAims_1 15 rfl rfl)
theorem dX0_spreadsFromAims_41 : decode cX0_spreadsFromAims 41 = .ok (.aload_n 0, 1) := dk_42 (dk_at dksX0_spreadsFromAims_1 18 rfl rfl)
theorem dX0_spreadsFromAims_42 : decode cX0_spreadsFromAims 42 = .ok (.getfield 12, 3) := dk_180 0 12 (dk_at dksX0_spreadsFromAims_1 19 rfl rfl)
theorem dX0_spreadsFromAims_45 : decode cX0_spreadsFromAims 45 = .ok (.invokevirtual 89, 3) := dk_182 0 89 (dk_at dksX0_spreadsFromAims_2 0 rfl rfl)
theorem dX0_spreadsFromAims_48 : decode cX0_spreadsFromAims 48 = .ok (.iconst 3, 1) := dk_6 (dk_at dksX0_spreadsFromAims_2 3 rfl rfl)
theorem dX0_spreadsFromAims_49 : decode cX0_spreadsFromAims 49 = .ok (.iload_n 2, 1) := dk_28 (dk_at dksX0_spreadsFromAims_2 4 rfl rfl)
theorem dX0_spreadsFromAims_50 : decode cX0_spreadsFromAims 50 = .ok (.imul, 1) := dk_104 (dk_at dksX0_spreadsFromAims_2 5 rfl rfl)
theorem dX0_spreadsFromAims_51 : decode cX0_spreadsFromAims 51 = .ok (.iadd, 1) := dk_96 (dk_at dksX0_spreadsFromAims_2 6 rfl rfl)
theorem dX0_spreadsFromAims_52 : decode cX0_spreadsFromAims 52 = .ok (.ishl, 1) := dk_120 (dk_at dksX0_spreadsFromAims_2 7 rfl rfl)
theorem dX0_spreadsFromAims_53 : decode cX0_spreadsFromAims 53 = .ok (.ior, 1) := dk_128 (dk_at dksX0_spreadsFromAims_2 8 rfl rfl)
theorem dX0_spreadsFromAims_54 : decode cX0_spreadsFromAims 54 = .ok (.istore_n 1, 1) := dk_60 (dk_at dksX0_spreadsFromAims_2 9 rfl rfl)
theorem dX0_spreadsFromAims_55 : decode cX0_spreadsFromAims 55 = .ok (.iinc 2 1, 3) := dk_132 2 1 (dk_at dksX0_spreadsFromAims_2 10 rfl rfl)
theorem dX0_spreadsFromAims_58 : decode cX0_spreadsFromAims 58 = .ok (.goto (-45), 3) := dk_167 255 211 (dk_at dksX0_spreadsFromAims_2 13 rfl rfl)
theorem dX0_spreadsFromAims_61 : decode cX0_spreadsFromAims 61 = .ok (.iconst 0, 1) := dk_3 (dk_at dksX0_spreadsFromAims_2 16 rfl rfl)
theorem dX0_spreadsFromAims_62 : decode cX0_spreadsFromAims 62 = .ok (.istore_n 2, 1) := dk_61 (dk_at dksX0_spreadsFromAims_2 17 rfl rfl)
theorem dX0_spreadsFromAims_63 : decode cX0_spreadsFromAims 63 = .ok (.iload_n 2, 1) := dk_28 (dk_at dksX0_spreadsFromAims_2 18 rfl rfl)
theorem dX0_spreadsFromAims_64 : decode cX0_spreadsFromAims 64 = .ok (.iconst 1, 1) := dk_4 (dk_at dksX0_spreadsFromAims_2 19 rfl rfl)
theorem dX0_spreadsFromAims_65 : decode cX0_spreadsFromAims 65 = .ok (.aload_n 0, 1) := dk_42 (dk_at dksX0_spreadsFromAims_2 20 rfl rfl)
theorem dX0_spreadsFromAims_66 : decode cX0_spreadsFromAims 66 = .ok (.getfield 12, 3) := dk_180 0 12 (dk_at dksX0_spreadsFromAims_2 21 rfl rfl)
theorem dX0_spreadsFromAims_69 : decode cX0_spreadsFromAims 69 = .ok (.invokevirtual 89, 3) := dk_182 0 89 (dk_at dksX0_spreadsFromAims_3 0 rfl rfl)
theorem dX0_spreadsFromAims_72 : decode cX0_spreadsFromAims 72 = .ok (.ishl, 1) := dk_120 (dk_at dksX0_spreadsFromAims_3 3 rfl rfl)
theorem dX0_spreadsFromAims_73 : decode cX0_spreadsFromAims 73 = .ok (.if_icmp .ge 17, 3) := dk_162 0 17 (dk_at dksX0_spreadsFromAims_3 4 rfl rfl)
theorem dX0_spreadsFromAims_76 : decode cX0_spreadsFromAims 76 = .ok (.aload_n 0, 1) := dk_42 (dk_at dksX0_spreadsFromAims_3 7 rfl rfl)
theorem dX0_spreadsFromAims_77 : decode cX0_spreadsFromAims 77 = .ok (.iload_n 1, 1) := dk_27 (dk_at dksX0_spreadsFromAims_3 8 rfl rfl)
theorem dX0_spreadsFromAims_78 : decode cX0_spreadsFromAims 78 = .ok (.iload_n 2, 1) := dk_28 (dk_at dksX0_spreadsFromAims_3 9 rfl rfl)
theorem dX0_spreadsFromAims_79 : decode cX0_spreadsFromAims 79 = .ok (.ior, 1) := dk_128 (dk_at dksX0_spreadsFromAims_3 10 rfl rfl)
theorem dX0_spreadsFromAims_80 : decode cX0_spreadsFromAims 80 = .ok (.iconst 0, 1) := dk_3 (dk_at dksX0_spreadsFromAims_3 11 rfl rfl)
theorem dX0_spreadsFromAims_81 : decode cX0_spreadsFromAims 81 = .ok (.invokevirtual 260, 3) := dk_182 1 4 (dk_at dksX0_spreadsFromAims_3 12 rfl rfl)
theorem dX0_spreadsFromAims_84 : decode cX0_spreadsFromAims 84 = .ok (.iinc 2 1, 3) := dk_132 2 1 (dk_at dksX0_spreadsFromAims_3 15 rfl rfl)
theorem dX0_spreadsFromAims_87 : decode cX0_spreadsFromAims 87 = .ok (.goto (-24), 3) := dk_167 255 232 (dk_at dksX0_spreadsFromAims_3 18 rfl rfl)
theorem dX0_spreadsFromAims_90 : decode cX0_spreadsFromAims 90 = .ok (.aload_n 0, 1) := dk_42 (dk_at dksX0_spreadsFromAims_3 21 rfl rfl)
theorem dX0_spreadsFromAims_91 : decode cX0_spreadsFromAims 91 = .ok (.invokevirtual 267, 3) := dk_182 1 11 (dk_at dksX0_spreadsFromAims_4 0 rfl rfl)
theorem dX0_spreadsFromAims_94 : decode cX0_spreadsFromAims 94 = .ok (.return_, 1) := dk_177 (dk_at dksX0_spreadsFromAims_4 3 rfl rfl)
abbrev cX0_begins : ByteArray := prog_1_method_35_code
def yX0_begins : MethodName := ⟨RX0, "begins", "()V"⟩
def dkwX0_begins_4 : List UInt8 := [167, 0, 4, 3, 128, 181, 0, 236, 132, 1, 1, 167, 255, 218, 177]
abbrev dktX0_begins_4 : List UInt8 := dkwX0_begins_4 ++ []
def dkwX0_begins_3 : List UInt8 := [182, 0, 89, 162, 0, 33, 42, 89, 180, 0, 236, 42, 27, 182, 0, 184, 158, 0, 9, 4, 27, 120]
abbrev dktX0_begins_3 : List UInt8 := dkwX0_begins_3 ++ dktX0_begins_4
def dkwX0_begins_2 : List UInt8 := [180, 0, 246, 27, 2, 79, 132, 1, 1, 167, 255, 226, 42, 3, 181, 0, 236, 3, 60, 27, 42, 180, 0, 12]
abbrev dktX0_begins_2 : List UInt8 := dkwX0_begins_2 ++ dktX0_begins_3
def dkwX0_begins_1 : List UInt8 := [60, 27, 4, 42, 180, 0, 12, 182, 0, 89, 6, 42, 180, 0, 233, 104, 96, 120, 162, 0, 16, 42]
abbrev dktX0_begins_1 : List UInt8 := dkwX0_begins_1 ++ dktX0_begins_2
def dkwX0_begins_0 : List UInt8 := [42, 180, 0, 246, 199, 0, 19, 42, 18, 249, 188, 10, 181, 0, 246, 42, 18, 249, 188, 10, 181, 0, 250, 3]
abbrev dktX0_begins_0 : List UInt8 := dkwX0_begins_0 ++ dktX0_begins_1
theorem dksX0_begins_0 : cX0_begins.data.toList.drop 0 = dktX0_begins_0 := by decide +kernel
theorem dksX0_begins_1 : cX0_begins.data.toList.drop 24 = dktX0_begins_1 := dk_seg dksX0_begins_0 24 rfl rfl
theorem dksX0_begins_2 : cX0_begins.data.toList.drop 46 = dktX0_begins_2 := dk_seg dksX0_begins_1 22 rfl rfl
theorem dksX0_begins_3 : cX0_begins.data.toList.drop 70 = dktX0_begins_3 := dk_seg dksX0_begins_2 24 rfl rfl
theorem dksX0_begins_4 : cX0_begins.data.toList.drop 92 = dktX0_begins_4 := dk_seg dksX0_begins_3 22 rfl rfl
theorem dX0_begins_0 : decode cX0_begins 0 = .ok (.aload_n 0, 1) := dk_42 (dk_at dksX0_begins_0 0 rfl rfl)
theorem dX0_begins_1 : decode cX0_begins 1 = .ok (.getfield 246, 3) := dk_180 0 246 (dk_at dksX0_begins_0 1 rfl rfl)
theorem dX0_begins_4 : decode cX0_begins 4 = .ok (.ifnonnull 19, 3) := dk_199 0 19 (dk_at dksX0_begins_0 4 rfl rfl)
theorem dX0_begins_7 : decode cX0_begins 7 = .ok (.aload_n 0, 1) := dk_42 (dk_at dksX0_begins_0 7 rfl rfl)
theorem dX0_begins_8 : decode cX0_begins 8 = .ok (.ldc 249, 2) := dk_18 249 (dk_at dksX0_begins_0 8 rfl rfl)
theorem dX0_begins_10 : decode cX0_begins 10 = .ok (.newarray .int, 2) := dk_188_10 (dk_at dksX0_begins_0 10 rfl rfl)
theorem dX0_begins_12 : decode cX0_begins 12 = .ok (.putfield 246, 3) := dk_181 0 246 (dk_at dksX0_begins_0 12 rfl rfl)
theorem dX0_begins_15 : decode cX0_begins 15 = .ok (.aload_n 0, 1) := dk_42 (dk_at dksX0_begins_0 15 rfl rfl)
theorem dX0_begins_16 : decode cX0_begins 16 = .ok (.ldc 249, 2) := dk_18 249 (dk_at dksX0_begins_0 16 rfl rfl)
theorem dX0_begins_18 : decode cX0_begins 18 = .ok (.newarray .int, 2) := dk_188_10 (dk_at dksX0_begins_0 18 rfl rfl)
theorem dX0_begins_20 : decode cX0_begins 20 = .ok (.putfield 250, 3) := dk_181 0 250 (dk_at dksX0_begins_0 20 rfl rfl)
theorem dX0_begins_23 : decode cX0_begins 23 = .ok (.iconst 0, 1) := dk_3 (dk_at dksX0_begins_0 23 rfl rfl)
theorem dX0_begins_24 : decode cX0_begins 24 = .ok (.istore_n 1, 1) := dk_60 (dk_at dksX0_begins_1 0 rfl rfl)
theorem dX0_begins_25 : decode cX0_begins 25 = .ok (.iload_n 1, 1) := dk_27 (dk_at dksX0_begins_1 1 rfl rfl)
theorem dX0_begins_26 : decode cX0_begins 26 = .ok (.iconst 1, 1) := dk_4 (dk_at dksX0_begins_1 2 rfl rfl)
theorem dX0_begins_27 : decode cX0_begins 27 = .ok (.aload_n 0, 1) := dk_42 (dk_at dksX0_begins_1 3 rfl rfl)
theorem dX0_begins_28 : decode cX0_begins 28 = .ok (.getfield 12, 3) := dk_180 0 12 (dk_at dksX0_begins_1 4 rfl rfl)
theorem dX0_begins_31 : decode cX0_begins 31 = .ok (.invokevirtual 89, 3) := dk_182 0 89 (dk_at dksX0_begins_1 7 rfl rfl)
theorem dX0_begins_34 : decode cX0_begins 34 = .ok (.iconst 3, 1) := dk_6 (dk_at dksX0_begins_1 10 rfl rfl)
theorem dX0_begins_35 : decode cX0_begins 35 = .ok (.aload_n 0, 1) := dk_42 (dk_at dksX0_begins_1 11 rfl rfl)
theorem dX0_begins_36 : decode cX0_begins 36 = .ok (.getfield 233, 3) := dk_180 0 233 (dk_at dksX0_begins_1 12 rfl rfl)
theorem dX0_begins_39 : decode cX0_begins 39 = .ok (.imul, 1) := dk_104 (dk_at dksX0_begins_1 15 rfl rfl)
theorem dX0_begins_40 : decode cX0_begins 40 = .ok (.iadd, 1) := dk_96 (dk_at dksX0_begins_1 16 rfl rfl)
theorem dX0_begins_41 : decode cX0_begins 41 = .ok (.ishl, 1) := dk_120 (dk_at dksX0_begins_1 17 rfl rfl)
theorem dX0_begins_42 : decode cX0_begins 42 = .ok (.if_icmp .ge 16, 3) := dk_162 0 16 (dk_at dksX0_begins_1 18 rfl rfl)
theorem dX0_begins_45 : decode cX0_begins 45 = .ok (.aload_n 0, 1) := dk_42 (dk_at dksX0_begins_1 21 rfl rfl)
theorem dX0_begins_46 : decode cX0_begins 46 = .ok (.getfield 246, 3) := dk_180 0 246 (dk_at dksX0_begins_2 0 rfl rfl)
theorem dX0_begins_49 : decode cX0_begins 49 = .ok (.iload_n 1, 1) := dk_27 (dk_at dksX0_begins_2 3 rfl rfl)
theorem dX0_begins_50 : decode cX0_begins 50 = .ok (.iconst (-1), 1) := dk_2 (dk_at dksX0_begins_2 4 rfl rfl)
theorem dX0_begins_51 : decode cX0_begins 51 = .ok (.iastore, 1) := dk_79 (dk_at dksX0_begins_2 5 rfl rfl)
theorem dX0_begins_52 : decode cX0_begins 52 = .ok (.iinc 1 1, 3) := dk_132 1 1 (dk_at dksX0_begins_2 6 rfl rfl)
theorem dX0_begins_55 : decode cX0_begins 55 = .ok (.goto (-30), 3) := dk_167 255 226 (dk_at dksX0_begins_2 9 rfl rfl)
theorem dX0_begins_58 : decode cX0_begins 58 = .ok (.aload_n 0, 1) := dk_42 (dk_at dksX0_begins_2 12 rfl rfl)
theorem dX0_begins_59 : decode cX0_begins 59 = .ok (.iconst 0, 1) := dk_3 (dk_at dksX0_begins_2 13 rfl rfl)
theorem dX0_begins_60 : decode cX0_begins 60 = .ok (.putfield 236, 3) := dk_181 0 236 (dk_at dksX0_begins_2 14 rfl rfl)
theorem dX0_begins_63 : decode cX0_begins 63 = .ok (.iconst 0, 1) := dk_3 (dk_at dksX0_begins_2 17 rfl rfl)
theorem dX0_begins_64 : decode cX0_begins 64 = .ok (.istore_n 1, 1) := dk_60 (dk_at dksX0_begins_2 18 rfl rfl)
theorem dX0_begins_65 : decode cX0_begins 65 = .ok (.iload_n 1, 1) := dk_27 (dk_at dksX0_begins_2 19 rfl rfl)
theorem dX0_begins_66 : decode cX0_begins 66 = .ok (.aload_n 0, 1) := dk_42 (dk_at dksX0_begins_2 20 rfl rfl)
theorem dX0_begins_67 : decode cX0_begins 67 = .ok (.getfield 12, 3) := dk_180 0 12 (dk_at dksX0_begins_2 21 rfl rfl)
theorem dX0_begins_70 : decode cX0_begins 70 = .ok (.invokevirtual 89, 3) := dk_182 0 89 (dk_at dksX0_begins_3 0 rfl rfl)
theorem dX0_begins_73 : decode cX0_begins 73 = .ok (.if_icmp .ge 33, 3) := dk_162 0 33 (dk_at dksX0_begins_3 3 rfl rfl)
theorem dX0_begins_76 : decode cX0_begins 76 = .ok (.aload_n 0, 1) := dk_42 (dk_at dksX0_begins_3 6 rfl rfl)
theorem dX0_begins_77 : decode cX0_begins 77 = .ok (.dup, 1) := dk_89 (dk_at dksX0_begins_3 7 rfl rfl)
theorem dX0_begins_78 : decode cX0_begins 78 = .ok (.getfield 236, 3) := dk_180 0 236 (dk_at dksX0_begins_3 8 rfl rfl)
theorem dX0_begins_81 : decode cX0_begins 81 = .ok (.aload_n 0, 1) := dk_42 (dk_at dksX0_begins_3 11 rfl rfl)
theorem dX0_begins_82 : decode cX0_begins 82 = .ok (.iload_n 1, 1) := dk_27 (dk_at dksX0_begins_3 12 rfl rfl)
theorem dX0_begins_83 : decode cX0_begins 83 = .ok (.invokevirtual 184, 3) := dk_182 0 184 (dk_at dksX0_begins_3 13 rfl rfl)
theorem dX0_begins_86 : decode cX0_begins 86 = .ok (.ifCond .le 9, 3) := dk_158 0 9 (dk_at dksX0_begins_3 16 rfl rfl)
theorem dX0_begins_89 : decode cX0_begins 89 = .ok (.iconst 1, 1) := dk_4 (dk_at dksX0_begins_3 19 rfl rfl)
theorem dX0_begins_90 : decode cX0_begins 90 = .ok (.iload_n 1, 1) := dk_27 (dk_at dksX0_begins_3 20 rfl rfl)
theorem dX0_begins_91 : decode cX0_begins 91 = .ok (.ishl, 1) := dk_120 (dk_at dksX0_begins_3 21 rfl rfl)
theorem dX0_begins_92 : decode cX0_begins 92 = .ok (.goto 4, 3) := dk_167 0 4 (dk_at dksX0_begins_4 0 rfl rfl)
theorem dX0_begins_95 : decode cX0_begins 95 = .ok (.iconst 0, 1) := dk_3 (dk_at dksX0_begins_4 3 rfl rfl)
theorem dX0_begins_96 : decode cX0_begins 96 = .ok (.ior, 1) := dk_128 (dk_at dksX0_begins_4 4 rfl rfl)
theorem dX0_begins_97 : decode cX0_begins 97 = .ok (.putfield 236, 3) := dk_181 0 236 (dk_at dksX0_begins_4 5 rfl rfl)
theorem dX0_begins_100 : decode cX0_begins 100 = .ok (.iinc 1 1, 3) := dk_132 1 1 (dk_at dksX0_begins_4 8 rfl rfl)
theorem dX0_begins_103 : decode cX0_begins 103 = .ok (.goto (-38), 3) := dk_167 255 218 (dk_at dksX0_begins_4 11 rfl rfl)
theorem dX0_begins_106 : decode cX0_begins 106 = .ok (.return_, 1) := dk_177 (dk_at dksX0_begins_4 14 rfl rfl)
abbrev cX0_puts : ByteArray := prog_1_method_36_code
def yX0_puts : MethodName := ⟨RX0, "puts", "(II)V"⟩
def dkwX0_puts_1 : List UInt8 := [180, 0, 250, 42, 180, 0, 253, 27, 79, 42, 89, 180, 0, 253, 4, 96, 181, 0, 253, 177]
abbrev dktX0_puts_1 : List UInt8 := dkwX0_puts_1 ++ []
def dkwX0_puts_0 : List UInt8 := [27, 2, 159, 0, 13, 42, 180, 0, 246, 27, 46, 2, 159, 0, 4, 177, 42, 180, 0, 246, 27, 28, 79, 42]
abbrev dktX0_puts_0 : List UInt8 := dkwX0_puts_0 ++ dktX0_puts_1
theorem dksX0_puts_0 : cX0_puts.data.toList.drop 0 = dktX0_puts_0 := by decide +kernel
theorem dksX0_puts_1 : cX0_puts.data.toList.drop 24 = dktX0_puts_1 := dk_seg dksX0_puts_0 24 rfl rfl
theorem dX0_puts_0 : decode cX0_puts 0 = .ok (.iload_n 1, 1) := dk_27 (dk_at dksX0_puts_0 0 rfl rfl)
theorem dX0_puts_1 : decode cX0_puts 1 = .ok (.iconst (-1), 1) := dk_2 (dk_at dksX0_puts_0 1 rfl rfl)
theorem dX0_puts_2 : decode cX0_puts 2 = .ok (.if_icmp .eq 13, 3) := dk_159 0 13 (dk_at dksX0_puts_0 2 rfl rfl)
theorem dX0_puts_5 : decode cX0_puts 5 = .ok (.aload_n 0, 1) := dk_42 (dk_at dksX0_puts_0 5 rfl rfl)
theorem dX0_puts_6 : decode cX0_puts 6 = .ok (.getfield 246, 3) := dk_180 0 246 (dk_at dksX0_puts_0 6 rfl rfl)
theorem dX0_puts_9 : decode cX0_puts 9 = .ok (.iload_n 1, 1) := dk_27 (dk_at dksX0_puts_0 9 rfl rfl)
theorem dX0_puts_10 : decode cX0_puts 10 = .ok (.iaload, 1) := dk_46 (dk_at dksX0_puts_0 10 rfl rfl)
theorem dX0_puts_11 : decode cX0_puts 11 = .ok (.iconst (-1), 1) := dk_2 (dk_at dksX0_puts_0 11 rfl rfl)
theorem dX0_puts_12 : decode cX0_puts 12 = .ok (.if_icmp .eq 4, 3) := dk_159 0 4 (dk_at dksX0_puts_0 12 rfl rfl)
theorem dX0_puts_15 : decode cX0_puts 15 = .ok (.return_, 1) := dk_177 (dk_at dksX0_puts_0 15 rfl rfl)
theorem dX0_puts_16 : decode cX0_puts 16 = .ok (.aload_n 0, 1) := dk_42 (dk_at dksX0_puts_0 16 rfl rfl)
theorem dX0_puts_17 : decode cX0_puts 17 = .ok (.getfield 246, 3) := dk_180 0 246 (dk_at dksX0_puts_0 17 rfl rfl)
theorem dX0_puts_20 : decode cX0_puts 20 = .ok (.iload_n 1, 1) := dk_27 (dk_at dksX0_puts_0 20 rfl rfl)
theorem dX0_puts_21 : decode cX0_puts 21 = .ok (.iload_n 2, 1) := dk_28 (dk_at dksX0_puts_0 21 rfl rfl)
theorem dX0_puts_22 : decode cX0_puts 22 = .ok (.iastore, 1) := dk_79 (dk_at dksX0_puts_0 22 rfl rfl)
theorem dX0_puts_23 : decode cX0_puts 23 = .ok (.aload_n 0, 1) := dk_42 (dk_at dksX0_puts_0 23 rfl rfl)
theorem dX0_puts_24 : decode cX0_puts 24 = .ok (.getfield 250, 3) := dk_180 0 250 (dk_at dksX0_puts_1 0 rfl rfl)
theorem dX0_puts_27 : decode cX0_puts 27 = .ok (.aload_n 0, 1) := dk_42 (dk_at dksX0_puts_1 3 rfl rfl)
theorem dX0_puts_28 : decode cX0_puts 28 = .ok (.getfield 253, 3) := dk_180 0 253 (dk_at dksX0_puts_1 4 rfl rfl)
theorem dX0_puts_31 : decode cX0_puts 31 = .ok (.iload_n 1, 1) := dk_27 (dk_at dksX0_puts_1 7 rfl rfl)
theorem dX0_puts_32 : decode cX0_puts 32 = .ok (.iastore, 1) := dk_79 (dk_at dksX0_puts_1 8 rfl rfl)
theorem dX0_puts_33 : decode cX0_puts 33 = .ok (.aload_n 0, 1) := dk_42 (dk_at dksX0_puts_1 9 rfl rfl)
theorem dX0_puts_34 : decode cX0_puts 34 = .ok (.dup, 1) := dk_89 (dk_at dksX0_puts_1 10 rfl rfl)
theorem dX0_puts_35 : decode cX0_puts 35 = .ok (.getfield 253, 3) := dk_180 0 253 (dk_at dksX0_puts_1 11 rfl rfl)
theorem dX0_puts_38 : decode cX0_puts 38 = .ok (.iconst 1, 1) := dk_4 (dk_at dksX0_puts_1 14 rfl rfl)
theorem dX0_puts_39 : decode cX0_puts 39 = .ok (.iadd, 1) := dk_96 (dk_at dksX0_puts_1 15 rfl rfl)
theorem dX0_puts_40 : decode cX0_puts 40 = .ok (.putfield 253, 3) := dk_181 0 253 (dk_at dksX0_puts_1 16 rfl rfl)
theorem dX0_puts_43 : decode cX0_puts 43 = .ok (.return_, 1) := dk_177 (dk_at dksX0_puts_1 19 rfl rfl)
abbrev cX0_spreads : ByteArray := prog_1_method_37_code
def yX0_spreads : MethodName := ⟨RX0, "spreads", "()V"⟩
def dkwX0_spreads_3 : List UInt8 := [167, 255, 197, 132, 1, 1, 167, 255, 181, 177]
abbrev dktX0_spreads_3 : List UInt8 := dkwX0_spreads_3 ++ []
def dkwX0_spreads_2 : List UInt8 := [180, 0, 246, 42, 180, 0, 250, 27, 46, 46, 4, 96, 182, 1, 4, 132, 3, 1, 167, 255, 213, 132, 2, 1]
abbrev dktX0_spreads_2 : List UInt8 := dkwX0_spreads_2 ++ dktX0_spreads_3
def dkwX0_spreads_1 : List UInt8 := [180, 0, 12, 182, 0, 89, 162, 0, 38, 42, 42, 42, 180, 0, 250, 27, 46, 28, 29, 182, 1, 0, 42]
abbrev dktX0_spreads_1 : List UInt8 := dkwX0_spreads_1 ++ dktX0_spreads_2
def dkwX0_spreads_0 : List UInt8 := [3, 60, 27, 42, 180, 0, 253, 162, 0, 73, 3, 61, 28, 42, 180, 0, 233, 162, 0, 57, 3, 62, 29, 42]
abbrev dktX0_spreads_0 : List UInt8 := dkwX0_spreads_0 ++ dktX0_spreads_1
theorem dksX0_spreads_0 : cX0_spreads.data.toList.drop 0 = dktX0_spreads_0 := by decide +kernel
theorem dksX0_spreads_1 : cX0_spreads.data.toList.drop 24 = dktX0_spreads_1 := dk_seg dksX0_spreads_0 24 rfl rfl
theorem dksX0_spreads_2 : cX0_spreads.data.toList.drop 47 = dktX0_spreads_2 := dk_seg dksX0_spreads_1 23 rfl rfl
theorem dksX0_spreads_3 : cX0_spreads.data.toList.drop 71 = dktX0_spreads_3 := dk_seg dksX0_spreads_2 24 rfl rfl
theorem dX0_spreads_0 : decode cX0_spreads 0 = .ok (.iconst 0, 1) := dk_3 (dk_at dksX0_spreads_0 0 rfl rfl)
theorem dX0_spreads_1 : decode cX0_spreads 1 = .ok (.istore_n 1, 1) := dk_60 (dk_at dksX0_spreads_0 1 rfl rfl)
theorem dX0_spreads_2 : decode cX0_spreads 2 = .ok (.iload_n 1, 1) := dk_27 (dk_at dksX0_spreads_0 2 rfl rfl)
theorem dX0_spreads_3 : decode cX0_spreads 3 = .ok (.aload_n 0, 1) := dk_42 (dk_at dksX0_spreads_0 3 rfl rfl)
theorem dX0_spreads_4 : decode cX0_spreads 4 = .ok (.getfield 253, 3) := dk_180 0 253 (dk_at dksX0_spreads_0 4 rfl rfl)
theorem dX0_spreads_7 : decode cX0_spreads 7 = .ok (.if_icmp .ge 73, 3) := dk_162 0 73 (dk_at dksX0_spreads_0 7 rfl rfl)
theorem dX0_spreads_10 : decode cX0_spreads 10 = .ok (.iconst 0, 1) := dk_3 (dk_at dksX0_spreads_0 10 rfl rfl)
theorem dX0_spreads_11 : decode cX0_spreads 11 = .ok (.istore_n 2, 1) := dk_61 (dk_at dksX0_spreads_0 11 rfl rfl)
theorem dX0_spreads_12 : decode cX0_spreads 12 = .ok (.iload_n 2, 1) := dk_28 (dk_at dksX0_spreads_0 12 rfl rfl)
theorem dX0_spreads_13 : decode cX0_spreads 13 = .ok (.aload_n 0, 1) := dk_42 (dk_at dksX0_spreads_0 13 rfl rfl)
theorem dX0_spreads_14 : decode cX0_spreads 14 = .ok (.getfield 233, 3) := dk_180 0 233 (dk_at dksX0_spreads_0 14 rfl rfl)
theorem dX0_spreads_17 : decode cX0_spreads 17 = .ok (.if_icmp .ge 57, 3) := dk_162 0 57 (dk_at dksX0_spreads_0 17 rfl rfl)
theorem dX0_spreads_20 : decode cX0_spreads 20 = .ok (.iconst 0, 1) := dk_3 (dk_at dksX0_spreads_0 20 rfl rfl)
theorem dX0_spreads_21 : decode cX0_spreads 21 = .ok (.istore_n 3, 1) := dk_62 (dk_at dksX0_spreads_0 21 rfl rfl)
theorem dX0_spreads_22 : decode cX0_spreads 22 = .ok (.iload_n 3, 1) := dk_29 (dk_at dksX0_spreads_0 22 rfl rfl)
theorem dX0_spreads_23 : decode cX0_spreads 23 = .ok (.aload_n 0, 1) := dk_42 (dk_at dksX0_spreads_0 23 rfl rfl)
theorem dX0_spreads_24 : decode cX0_spreads 24 = .ok (.getfield 12, 3) := dk_180 0 12 (dk_at dksX0_spreads_1 0 rfl rfl)
theorem dX0_spreads_27 : decode cX0_spreads 27 = .ok (.invokevirtual 89, 3) := dk_182 0 89 (dk_at dksX0_spreads_1 3 rfl rfl)
theorem dX0_spreads_30 : decode cX0_spreads 30 = .ok (.if_icmp .ge 38, 3) := dk_162 0 38 (dk_at dksX0_spreads_1 6 rfl rfl)
theorem dX0_spreads_33 : decode cX0_spreads 33 = .ok (.aload_n 0, 1) := dk_42 (dk_at dksX0_spreads_1 9 rfl rfl)
theorem dX0_spreads_34 : decode cX0_spreads 34 = .ok (.aload_n 0, 1) := dk_42 (dk_at dksX0_spreads_1 10 rfl rfl)
theorem dX0_spreads_35 : decode cX0_spreads 35 = .ok (.aload_n 0, 1) := dk_42 (dk_at dksX0_spreads_1 11 rfl rfl)
theorem dX0_spreads_36 : decode cX0_spreads 36 = .ok (.getfield 250, 3) := dk_180 0 250 (dk_at dksX0_spreads_1 12 rfl rfl)
theorem dX0_spreads_39 : decode cX0_spreads 39 = .ok (.iload_n 1, 1) := dk_27 (dk_at dksX0_spreads_1 15 rfl rfl)
theorem dX0_spreads_40 : decode cX0_spreads 40 = .ok (.iaload, 1) := dk_46 (dk_at dksX0_spreads_1 16 rfl rfl)
theorem dX0_spreads_41 : decode cX0_spreads 41 = .ok (.iload_n 2, 1) := dk_28 (dk_at dksX0_spreads_1 17 rfl rfl)
theorem dX0_spreads_42 : decode cX0_spreads 42 = .ok (.iload_n 3, 1) := dk_29 (dk_at dksX0_spreads_1 18 rfl rfl)
theorem dX0_spreads_43 : decode cX0_spreads 43 = .ok (.invokevirtual 256, 3) := dk_182 1 0 (dk_at dksX0_spreads_1 19 rfl rfl)
theorem dX0_spreads_46 : decode cX0_spreads 46 = .ok (.aload_n 0, 1) := dk_42 (dk_at dksX0_spreads_1 22 rfl rfl)
theorem dX0_spreads_47 : decode cX0_spreads 47 = .ok (.getfield 246, 3) := dk_180 0 246 (dk_at dksX0_spreads_2 0 rfl rfl)
theorem dX0_spreads_50 : decode cX0_spreads 50 = .ok (.aload_n 0, 1) := dk_42 (dk_at dksX0_spreads_2 3 rfl rfl)
theorem dX0_spreads_51 : decode cX0_spreads 51 = .ok (.getfield 250, 3) := dk_180 0 250 (dk_at dksX0_spreads_2 4 rfl rfl)
theorem dX0_spreads_54 : decode cX0_spreads 54 = .ok (.iload_n 1, 1) := dk_27 (dk_at dksX0_spreads_2 7 rfl rfl)
theorem dX0_spreads_55 : decode cX0_spreads 55 = .ok (.iaload, 1) := dk_46 (dk_at dksX0_spreads_2 8 rfl rfl)
theorem dX0_spreads_56 : decode cX0_spreads 56 = .ok (.iaload, 1) := dk_46 (dk_at dksX0_spreads_2 9 rfl rfl)
theorem dX0_spreads_57 : decode cX0_spreads 57 = .ok (.iconst 1, 1) := dk_4 (dk_at dksX0_spreads_2 10 rfl rfl)
theorem dX0_spreads_58 : decode cX0_spreads 58 = .ok (.iadd, 1) := dk_96 (dk_at dksX0_spreads_2 11 rfl rfl)
theorem dX0_spreads_59 : decode cX0_spreads 59 = .ok (.invokevirtual 260, 3) := dk_182 1 4 (dk_at dksX0_spreads_2 12 rfl rfl)
theorem dX0_spreads_62 : decode cX0_spreads 62 = .ok (.iinc 3 1, 3) := dk_132 3 1 (dk_at dksX0_spreads_2 15 rfl rfl)
theorem dX0_spreads_65 : decode cX0_spreads 65 = .ok (.goto (-43), 3) := dk_167 255 213 (dk_at dksX0_spreads_2 18 rfl rfl)
theorem dX0_spreads_68 : decode cX0_spreads 68 = .ok (.iinc 2 1, 3) := dk_132 2 1 (dk_at dksX0_spreads_2 21 rfl rfl)
theorem dX0_spreads_71 : decode cX0_spreads 71 = .ok (.goto (-59), 3) := dk_167 255 197 (dk_at dksX0_spreads_3 0 rfl rfl)
theorem dX0_spreads_74 : decode cX0_spreads 74 = .ok (.iinc 1 1, 3) := dk_132 1 1 (dk_at dksX0_spreads_3 3 rfl rfl)
theorem dX0_spreads_77 : decode cX0_spreads 77 = .ok (.goto (-75), 3) := dk_167 255 181 (dk_at dksX0_spreads_3 6 rfl rfl)
theorem dX0_spreads_80 : decode cX0_spreads 80 = .ok (.return_, 1) := dk_177 (dk_at dksX0_spreads_3 9 rfl rfl)
abbrev cX0_goes : ByteArray := prog_1_method_34_code
def yX0_goes : MethodName := ⟨RX0, "goes", "(III)I"⟩
def dkwX0_goes_3 : List UInt8 := [2, 130, 126, 25, 5, 21, 4, 182, 0, 244, 21, 6, 120, 128, 172]
abbrev dktX0_goes_3 : List UInt8 := dkwX0_goes_3 ++ []
def dkwX0_goes_2 : List UInt8 := [172, 42, 180, 0, 12, 182, 0, 89, 6, 28, 104, 96, 54, 6, 27, 4, 29, 120, 130, 16, 7, 21, 6, 120]
abbrev dktX0_goes_2 : List UInt8 := dkwX0_goes_2 ++ dktX0_goes_3
def dkwX0_goes_1 : List UInt8 := [29, 184, 0, 125, 154, 0, 19, 25, 5, 21, 4, 182, 0, 239, 42, 27, 28, 182, 0, 241, 159, 0, 5, 2]
abbrev dktX0_goes_1 : List UInt8 := dkwX0_goes_1 ++ dktX0_goes_2
def dkwX0_goes_0 : List UInt8 := [27, 29, 122, 4, 126, 54, 4, 42, 180, 0, 12, 29, 182, 0, 99, 192, 0, 103, 58, 5, 42, 180, 0, 236]
abbrev dktX0_goes_0 : List UInt8 := dkwX0_goes_0 ++ dktX0_goes_1
theorem dksX0_goes_0 : cX0_goes.data.toList.drop 0 = dktX0_goes_0 := by decide +kernel
theorem dksX0_goes_1 : cX0_goes.data.toList.drop 24 = dktX0_goes_1 := dk_seg dksX0_goes_0 24 rfl rfl
theorem dksX0_goes_2 : cX0_goes.data.toList.drop 48 = dktX0_goes_2 := dk_seg dksX0_goes_1 24 rfl rfl
theorem dksX0_goes_3 : cX0_goes.data.toList.drop 72 = dktX0_goes_3 := dk_seg dksX0_goes_2 24 rfl rfl
theorem dX0_goes_0 : decode cX0_goes 0 = .ok (.iload_n 1, 1) := dk_27 (dk_at dksX0_goes_0 0 rfl rfl)
theorem dX0_goes_1 : decode cX0_goes 1 = .ok (.iload_n 3, 1) := dk_29 (dk_at dksX0_goes_0 1 rfl rfl)
theorem dX0_goes_2 : decode cX0_goes 2 = .ok (.ishr, 1) := dk_122 (dk_at dksX0_goes_0 2 rfl rfl)
theorem dX0_goes_3 : decode cX0_goes 3 = .ok (.iconst 1, 1) := dk_4 (dk_at dksX0_goes_0 3 rfl rfl)
theorem dX0_goes_4 : decode cX0_goes 4 = .ok (.iand, 1) := dk_126 (dk_at dksX0_goes_0 4 rfl rfl)
theorem dX0_goes_5 : decode cX0_goes 5 = .ok (.istore 4, 2) := dk_54 4 (dk_at dksX0_goes_0 5 rfl rfl)
theorem dX0_goes_7 : decode cX0_goes 7 = .ok (.aload_n 0, 1) := dk_42 (dk_at dksX0_goes_0 7 rfl rfl)
theorem dX0_goes_8 : decode cX0_goes 8 = .ok (.getfield 12, 3) := dk_180 0 12 (dk_at dksX0_goes_0 8 rfl rfl)
theorem dX0_goes_11 : decode cX0_goes 11 = .ok (.iload_n 3, 1) := dk_29 (dk_at dksX0_goes_0 11 rfl rfl)
theorem dX0_goes_12 : decode cX0_goes 12 = .ok (.invokevirtual 99, 3) := dk_182 0 99 (dk_at dksX0_goes_0 12 rfl rfl)
theorem dX0_goes_15 : decode cX0_goes 15 = .ok (.checkcast 103, 3) := dk_192 0 103 (dk_at dksX0_goes_0 15 rfl rfl)
theorem dX0_goes_18 : decode cX0_goes 18 = .ok (.astore 5, 2) := dk_58 5 (dk_at dksX0_goes_0 18 rfl rfl)
theorem dX0_goes_20 : decode cX0_goes 20 = .ok (.aload_n 0, 1) := dk_42 (dk_at dksX0_goes_0 20 rfl rfl)
theorem dX0_goes_21 : decode cX0_goes 21 = .ok (.getfield 236, 3) := dk_180 0 236 (dk_at dksX0_goes_0 21 rfl rfl)
theorem dX0_goes_24 : decode cX0_goes 24 = .ok (.iload_n 3, 1) := dk_29 (dk_at dksX0_goes_1 0 rfl rfl)
theorem dX0_goes_25 : decode cX0_goes 25 = .ok (.invokestatic 125, 3) := dk_184 0 125 (dk_at dksX0_goes_1 1 rfl rfl)
theorem dX0_goes_28 : decode cX0_goes 28 = .ok (.ifCond .ne 19, 3) := dk_154 0 19 (dk_at dksX0_goes_1 4 rfl rfl)
theorem dX0_goes_31 : decode cX0_goes 31 = .ok (.aload 5, 2) := dk_25 5 (dk_at dksX0_goes_1 7 rfl rfl)
theorem dX0_goes_33 : decode cX0_goes 33 = .ok (.iload 4, 2) := dk_21 4 (dk_at dksX0_goes_1 9 rfl rfl)
theorem dX0_goes_35 : decode cX0_goes 35 = .ok (.invokevirtual 239, 3) := dk_182 0 239 (dk_at dksX0_goes_1 11 rfl rfl)
theorem dX0_goes_38 : decode cX0_goes 38 = .ok (.aload_n 0, 1) := dk_42 (dk_at dksX0_goes_1 14 rfl rfl)
theorem dX0_goes_39 : decode cX0_goes 39 = .ok (.iload_n 1, 1) := dk_27 (dk_at dksX0_goes_1 15 rfl rfl)
theorem dX0_goes_40 : decode cX0_goes 40 = .ok (.iload_n 2, 1) := dk_28 (dk_at dksX0_goes_1 16 rfl rfl)
theorem dX0_goes_41 : decode cX0_goes 41 = .ok (.invokevirtual 241, 3) := dk_182 0 241 (dk_at dksX0_goes_1 17 rfl rfl)
theorem dX0_goes_44 : decode cX0_goes 44 = .ok (.if_icmp .eq 5, 3) := dk_159 0 5 (dk_at dksX0_goes_1 20 rfl rfl)
theorem dX0_goes_47 : decode cX0_goes 47 = .ok (.iconst (-1), 1) := dk_2 (dk_at dksX0_goes_1 23 rfl rfl)
theorem dX0_goes_48 : decode cX0_goes 48 = .ok (.ireturn, 1) := dk_172 (dk_at dksX0_goes_2 0 rfl rfl)
theorem dX0_goes_49 : decode cX0_goes 49 = .ok (.aload_n 0, 1) := dk_42 (dk_at dksX0_goes_2 1 rfl rfl)
theorem dX0_goes_50 : decode cX0_goes 50 = .ok (.getfield 12, 3) := dk_180 0 12 (dk_at dksX0_goes_2 2 rfl rfl)
theorem dX0_goes_53 : decode cX0_goes 53 = .ok (.invokevirtual 89, 3) := dk_182 0 89 (dk_at dksX0_goes_2 5 rfl rfl)
theorem dX0_goes_56 : decode cX0_goes 56 = .ok (.iconst 3, 1) := dk_6 (dk_at dksX0_goes_2 8 rfl rfl)
theorem dX0_goes_57 : decode cX0_goes 57 = .ok (.iload_n 2, 1) := dk_28 (dk_at dksX0_goes_2 9 rfl rfl)
theorem dX0_goes_58 : decode cX0_goes 58 = .ok (.imul, 1) := dk_104 (dk_at dksX0_goes_2 10 rfl rfl)
theorem dX0_goes_59 : decode cX0_goes 59 = .ok (.iadd, 1) := dk_96 (dk_at dksX0_goes_2 11 rfl rfl)
theorem dX0_goes_60 : decode cX0_goes 60 = .ok (.istore 6, 2) := dk_54 6 (dk_at dksX0_goes_2 12 rfl rfl)
theorem dX0_goes_62 : decode cX0_goes 62 = .ok (.iload_n 1, 1) := dk_27 (dk_at dksX0_goes_2 14 rfl rfl)
theorem dX0_goes_63 : decode cX0_goes 63 = .ok (.iconst 1, 1) := dk_4 (dk_at dksX0_goes_2 15 rfl rfl)
theorem dX0_goes_64 : decode cX0_goes 64 = .ok (.iload_n 3, 1) := dk_29 (dk_at dksX0_goes_2 16 rfl rfl)
theorem dX0_goes_65 : decode cX0_goes 65 = .ok (.ishl, 1) := dk_120 (dk_at dksX0_goes_2 17 rfl rfl)
theorem dX0_goes_66 : decode cX0_goes 66 = .ok (.ixor, 1) := dk_130 (dk_at dksX0_goes_2 18 rfl rfl)
theorem dX0_goes_67 : decode cX0_goes 67 = .ok (.bipush 7, 2) := dk_16 7 (dk_at dksX0_goes_2 19 rfl rfl)
theorem dX0_goes_69 : decode cX0_goes 69 = .ok (.iload 6, 2) := dk_21 6 (dk_at dksX0_goes_2 21 rfl rfl)
theorem dX0_goes_71 : decode cX0_goes 71 = .ok (.ishl, 1) := dk_120 (dk_at dksX0_goes_2 23 rfl rfl)
theorem dX0_goes_72 : decode cX0_goes 72 = .ok (.iconst (-1), 1) := dk_2 (dk_at dksX0_goes_3 0 rfl rfl)
theorem dX0_goes_73 : decode cX0_goes 73 = .ok (.ixor, 1) := dk_130 (dk_at dksX0_goes_3 1 rfl rfl)
theorem dX0_goes_74 : decode cX0_goes 74 = .ok (.iand, 1) := dk_126 (dk_at dksX0_goes_3 2 rfl rfl)
theorem dX0_goes_75 : decode cX0_goes 75 = .ok (.aload 5, 2) := dk_25 5 (dk_at dksX0_goes_3 3 rfl rfl)
theorem dX0_goes_77 : decode cX0_goes 77 = .ok (.iload 4, 2) := dk_21 4 (dk_at dksX0_goes_3 5 rfl rfl)
theorem dX0_goes_79 : decode cX0_goes 79 = .ok (.invokevirtual 244, 3) := dk_182 0 244 (dk_at dksX0_goes_3 7 rfl rfl)
theorem dX0_goes_82 : decode cX0_goes 82 = .ok (.iload 6, 2) := dk_21 6 (dk_at dksX0_goes_3 10 rfl rfl)
theorem dX0_goes_84 : decode cX0_goes 84 = .ok (.ishl, 1) := dk_120 (dk_at dksX0_goes_3 12 rfl rfl)
theorem dX0_goes_85 : decode cX0_goes 85 = .ok (.ior, 1) := dk_128 (dk_at dksX0_goes_3 13 rfl rfl)
theorem dX0_goes_86 : decode cX0_goes 86 = .ok (.ireturn, 1) := dk_172 (dk_at dksX0_goes_3 14 rfl rfl)
abbrev cX0_placeIn : ByteArray := prog_1_method_32_code
def yX0_placeIn : MethodName := ⟨RX0, "placeIn", "(II)I"⟩
def dkwX0_placeIn_0 : List UInt8 := [27, 42, 180, 0, 12, 182, 0, 89, 6, 28, 104, 96, 122, 16, 7, 126, 172]
abbrev dktX0_placeIn_0 : List UInt8 := dkwX0_placeIn_0 ++ []
theorem dksX0_placeIn_0 : cX0_placeIn.data.toList.drop 0 = dktX0_placeIn_0 := by decide +kernel
theorem dX0_placeIn_0 : decode cX0_placeIn 0 = .ok (.iload_n 1, 1) := dk_27 (dk_at dksX0_placeIn_0 0 rfl rfl)
theorem dX0_placeIn_1 : decode cX0_placeIn 1 = .ok (.aload_n 0, 1) := dk_42 (dk_at dksX0_placeIn_0 1 rfl rfl)
theorem dX0_placeIn_2 : decode cX0_placeIn 2 = .ok (.getfield 12, 3) := dk_180 0 12 (dk_at dksX0_placeIn_0 2 rfl rfl)
theorem dX0_placeIn_5 : decode cX0_placeIn 5 = .ok (.invokevirtual 89, 3) := dk_182 0 89 (dk_at dksX0_placeIn_0 5 rfl rfl)
theorem dX0_placeIn_8 : decode cX0_placeIn 8 = .ok (.iconst 3, 1) := dk_6 (dk_at dksX0_placeIn_0 8 rfl rfl)
theorem dX0_placeIn_9 : decode cX0_placeIn 9 = .ok (.iload_n 2, 1) := dk_28 (dk_at dksX0_placeIn_0 9 rfl rfl)
theorem dX0_placeIn_10 : decode cX0_placeIn 10 = .ok (.imul, 1) := dk_104 (dk_at dksX0_placeIn_0 10 rfl rfl)
theorem dX0_placeIn_11 : decode cX0_placeIn 11 = .ok (.iadd, 1) := dk_96 (dk_at dksX0_placeIn_0 11 rfl rfl)
theorem dX0_placeIn_12 : decode cX0_placeIn 12 = .ok (.ishr, 1) := dk_122 (dk_at dksX0_placeIn_0 12 rfl rfl)
theorem dX0_placeIn_13 : decode cX0_placeIn 13 = .ok (.bipush 7, 2) := dk_16 7 (dk_at dksX0_placeIn_0 13 rfl rfl)
theorem dX0_placeIn_15 : decode cX0_placeIn 15 = .ok (.iand, 1) := dk_126 (dk_at dksX0_placeIn_0 15 rfl rfl)
theorem dX0_placeIn_16 : decode cX0_placeIn 16 = .ok (.ireturn, 1) := dk_172 (dk_at dksX0_placeIn_0 16 rfl rfl)
abbrev cX0_stateNow : ByteArray := prog_1_method_33_code
def yX0_stateNow : MethodName := ⟨RX0, "stateNow", "()I"⟩
def dkwX0_stateNow_2 : List UInt8 := [60, 132, 2, 1, 167, 255, 211, 27, 172]
abbrev dktX0_stateNow_2 : List UInt8 := dkwX0_stateNow_2 ++ []
def dkwX0_stateNow_1 : List UInt8 := [28, 46, 182, 0, 99, 192, 0, 109, 180, 0, 122, 42, 180, 0, 12, 182, 0, 89, 6, 28, 104, 96, 120, 128]
abbrev dktX0_stateNow_1 : List UInt8 := dkwX0_stateNow_1 ++ dktX0_stateNow_2
def dkwX0_stateNow_0 : List UInt8 := [42, 182, 0, 227, 60, 3, 61, 28, 42, 180, 0, 233, 162, 0, 43, 27, 42, 180, 0, 18, 42, 180, 0, 35]
abbrev dktX0_stateNow_0 : List UInt8 := dkwX0_stateNow_0 ++ dktX0_stateNow_1
theorem dksX0_stateNow_0 : cX0_stateNow.data.toList.drop 0 = dktX0_stateNow_0 := by decide +kernel
theorem dksX0_stateNow_1 : cX0_stateNow.data.toList.drop 24 = dktX0_stateNow_1 := dk_seg dksX0_stateNow_0 24 rfl rfl
theorem dksX0_stateNow_2 : cX0_stateNow.data.toList.drop 48 = dktX0_stateNow_2 := dk_seg dksX0_stateNow_1 24 rfl rfl
theorem dX0_stateNow_0 : decode cX0_stateNow 0 = .ok (.aload_n 0, 1) := dk_42 (dk_at dksX0_stateNow_0 0 rfl rfl)
theorem dX0_stateNow_1 : decode cX0_stateNow 1 = .ok (.invokevirtual 227, 3) := dk_182 0 227 (dk_at dksX0_stateNow_0 1 rfl rfl)
theorem dX0_stateNow_4 : decode cX0_stateNow 4 = .ok (.istore_n 1, 1) := dk_60 (dk_at dksX0_stateNow_0 4 rfl rfl)
theorem dX0_stateNow_5 : decode cX0_stateNow 5 = .ok (.iconst 0, 1) := dk_3 (dk_at dksX0_stateNow_0 5 rfl rfl)
theorem dX0_stateNow_6 : decode cX0_stateNow 6 = .ok (.istore_n 2, 1) := dk_61 (dk_at dksX0_stateNow_0 6 rfl rfl)
theorem dX0_stateNow_7 : decode cX0_stateNow 7 = .ok (.iload_n 2, 1) := dk_28 (dk_at dksX0_stateNow_0 7 rfl rfl)
theorem dX0_stateNow_8 : decode cX0_stateNow 8 = .ok (.aload_n 0, 1) := dk_42 (dk_at dksX0_stateNow_0 8 rfl rfl)
theorem dX0_stateNow_9 : decode cX0_stateNow 9 = .ok (.getfield 233, 3) := dk_180 0 233 (dk_at dksX0_stateNow_0 9 rfl rfl)
theorem dX0_stateNow_12 : decode cX0_stateNow 12 = .ok (.if_icmp .ge 43, 3) := dk_162 0 43 (dk_at dksX0_stateNow_0 12 rfl rfl)
theorem dX0_stateNow_15 : decode cX0_stateNow 15 = .ok (.iload_n 1, 1) := dk_27 (dk_at dksX0_stateNow_0 15 rfl rfl)
theorem dX0_stateNow_16 : decode cX0_stateNow 16 = .ok (.aload_n 0, 1) := dk_42 (dk_at dksX0_stateNow_0 16 rfl rfl)
theorem dX0_stateNow_17 : decode cX0_stateNow 17 = .ok (.getfield 18, 3) := dk_180 0 18 (dk_at dksX0_stateNow_0 17 rfl rfl)
theorem dX0_stateNow_20 : decode cX0_stateNow 20 = .ok (.aload_n 0, 1) := dk_42 (dk_at dksX0_stateNow_0 20 rfl rfl)
theorem dX0_stateNow_21 : decode cX0_stateNow 21 = .ok (.getfield 35, 3) := dk_180 0 35 (dk_at dksX0_stateNow_0 21 rfl rfl)
theorem dX0_stateNow_24 : decode cX0_stateNow 24 = .ok (.iload_n 2, 1) := dk_28 (dk_at dksX0_stateNow_1 0 rfl rfl)
theorem dX0_stateNow_25 : decode cX0_stateNow 25 = .ok (.iaload, 1) := dk_46 (dk_at dksX0_stateNow_1 1 rfl rfl)
theorem dX0_stateNow_26 : decode cX0_stateNow 26 = .ok (.invokevirtual 99, 3) := dk_182 0 99 (dk_at dksX0_stateNow_1 2 rfl rfl)
theorem dX0_stateNow_29 : decode cX0_stateNow 29 = .ok (.checkcast 109, 3) := dk_192 0 109 (dk_at dksX0_stateNow_1 5 rfl rfl)
theorem dX0_stateNow_32 : decode cX0_stateNow 32 = .ok (.getfield 122, 3) := dk_180 0 122 (dk_at dksX0_stateNow_1 8 rfl rfl)
theorem dX0_stateNow_35 : decode cX0_stateNow 35 = .ok (.aload_n 0, 1) := dk_42 (dk_at dksX0_stateNow_1 11 rfl rfl)
theorem dX0_stateNow_36 : decode cX0_stateNow 36 = .ok (.getfield 12, 3) := dk_180 0 12 (dk_at dksX0_stateNow_1 12 rfl rfl)
theorem dX0_stateNow_39 : decode cX0_stateNow 39 = .ok (.invokevirtual 89, 3) := dk_182 0 89 (dk_at dksX0_stateNow_1 15 rfl rfl)
theorem dX0_stateNow_42 : decode cX0_stateNow 42 = .ok (.iconst 3, 1) := dk_6 (dk_at dksX0_stateNow_1 18 rfl rfl)
theorem dX0_stateNow_43 : decode cX0_stateNow 43 = .ok (.iload_n 2, 1) := dk_28 (dk_at dksX0_stateNow_1 19 rfl rfl)
theorem dX0_stateNow_44 : decode cX0_stateNow 44 = .ok (.imul, 1) := dk_104 (dk_at dksX0_stateNow_1 20 rfl rfl)
theorem dX0_stateNow_45 : decode cX0_stateNow 45 = .ok (.iadd, 1) := dk_96 (dk_at dksX0_stateNow_1 21 rfl rfl)
theorem dX0_stateNow_46 : decode cX0_stateNow 46 = .ok (.ishl, 1) := dk_120 (dk_at dksX0_stateNow_1 22 rfl rfl)
theorem dX0_stateNow_47 : decode cX0_stateNow 47 = .ok (.ior, 1) := dk_128 (dk_at dksX0_stateNow_1 23 rfl rfl)
theorem dX0_stateNow_48 : decode cX0_stateNow 48 = .ok (.istore_n 1, 1) := dk_60 (dk_at dksX0_stateNow_2 0 rfl rfl)
theorem dX0_stateNow_49 : decode cX0_stateNow 49 = .ok (.iinc 2 1, 3) := dk_132 2 1 (dk_at dksX0_stateNow_2 1 rfl rfl)
theorem dX0_stateNow_52 : decode cX0_stateNow 52 = .ok (.goto (-45), 3) := dk_167 255 211 (dk_at dksX0_stateNow_2 4 rfl rfl)
theorem dX0_stateNow_55 : decode cX0_stateNow 55 = .ok (.iload_n 1, 1) := dk_27 (dk_at dksX0_stateNow_2 7 rfl rfl)
theorem dX0_stateNow_56 : decode cX0_stateNow 56 = .ok (.ireturn, 1) := dk_172 (dk_at dksX0_stateNow_2 8 rfl rfl)
abbrev cX0_step : ByteArray := prog_1_method_41_code
def yX0_step : MethodName := ⟨RX0, "step", "(II)I"⟩
def dkwX0_step_5 : List UInt8 := [96, 172]
abbrev dktX0_step_5 : List UInt8 := dkwX0_step_5 ++ []
def dkwX0_step_4 : List UInt8 := [132, 5, 1, 167, 255, 202, 16, 16, 42, 180, 0, 35, 21, 4, 16, 16, 108, 46, 104, 21, 4, 16, 16, 112]
abbrev dktX0_step_4 : List UInt8 := dkwX0_step_4 ++ dktX0_step_5
def dkwX0_step_3 : List UInt8 := [160, 0, 6, 16, 254, 172, 42, 29, 21, 4, 16, 16, 108, 21, 4, 16, 16, 112, 182, 1, 0, 62]
abbrev dktX0_step_3 : List UInt8 := dkwX0_step_3 ++ dktX0_step_4
def dkwX0_step_2 : List UInt8 := [180, 0, 246, 29, 46, 157, 0, 7, 2, 167, 0, 8, 42, 29, 182, 1, 25, 54, 4, 21, 4, 2]
abbrev dktX0_step_2 : List UInt8 := dkwX0_step_2 ++ dktX0_step_3
def dkwX0_step_1 : List UInt8 := [182, 1, 20, 42, 182, 1, 14, 62, 16, 254, 54, 4, 3, 54, 5, 21, 5, 28, 163, 0, 54, 42]
abbrev dktX0_step_1 : List UInt8 := dkwX0_step_1 ++ dktX0_step_2
def dkwX0_step_0 : List UInt8 := [42, 27, 182, 1, 17, 153, 0, 15, 28, 133, 9, 20, 1, 23, 184, 0, 93, 154, 0, 5, 2, 172, 42]
abbrev dktX0_step_0 : List UInt8 := dkwX0_step_0 ++ dktX0_step_1
theorem dksX0_step_0 : cX0_step.data.toList.drop 0 = dktX0_step_0 := by decide +kernel
theorem dksX0_step_1 : cX0_step.data.toList.drop 23 = dktX0_step_1 := dk_seg dksX0_step_0 23 rfl rfl
theorem dksX0_step_2 : cX0_step.data.toList.drop 45 = dktX0_step_2 := dk_seg dksX0_step_1 22 rfl rfl
theorem dksX0_step_3 : cX0_step.data.toList.drop 67 = dktX0_step_3 := dk_seg dksX0_step_2 22 rfl rfl
theorem dksX0_step_4 : cX0_step.data.toList.drop 89 = dktX0_step_4 := dk_seg dksX0_step_3 22 rfl rfl
theorem dksX0_step_5 : cX0_step.data.toList.drop 113 = dktX0_step_5 := dk_seg dksX0_step_4 24 rfl rfl
theorem dX0_step_0 : decode cX0_step 0 = .ok (.aload_n 0, 1) := dk_42 (dk_at dksX0_step_0 0 rfl rfl)
theorem dX0_step_1 : decode cX0_step 1 = .ok (.iload_n 1, 1) := dk_27 (dk_at dksX0_step_0 1 rfl rfl)
theorem dX0_step_2 : decode cX0_step 2 = .ok (.invokevirtual 273, 3) := dk_182 1 17 (dk_at dksX0_step_0 2 rfl rfl)
theorem dX0_step_5 : decode cX0_step 5 = .ok (.ifCond .eq 15, 3) := dk_153 0 15 (dk_at dksX0_step_0 5 rfl rfl)
theorem dX0_step_8 : decode cX0_step 8 = .ok (.iload_n 2, 1) := dk_28 (dk_at dksX0_step_0 8 rfl rfl)
theorem dX0_step_9 : decode cX0_step 9 = .ok (.i2l, 1) := dk_133 (dk_at dksX0_step_0 9 rfl rfl)
theorem dX0_step_10 : decode cX0_step 10 = .ok (.lconst 0, 1) := dk_9 (dk_at dksX0_step_0 10 rfl rfl)
theorem dX0_step_11 : decode cX0_step 11 = .ok (.ldc2_w 279, 3) := dk_20 1 23 (dk_at dksX0_step_0 11 rfl rfl)
theorem dX0_step_14 : decode cX0_step 14 = .ok (.invokestatic 93, 3) := dk_184 0 93 (dk_at dksX0_step_0 14 rfl rfl)
theorem dX0_step_17 : decode cX0_step 17 = .ok (.ifCond .ne 5, 3) := dk_154 0 5 (dk_at dksX0_step_0 17 rfl rfl)
theorem dX0_step_20 : decode cX0_step 20 = .ok (.iconst (-1), 1) := dk_2 (dk_at dksX0_step_0 20 rfl rfl)
theorem dX0_step_21 : decode cX0_step 21 = .ok (.ireturn, 1) := dk_172 (dk_at dksX0_step_0 21 rfl rfl)
theorem dX0_step_22 : decode cX0_step 22 = .ok (.aload_n 0, 1) := dk_42 (dk_at dksX0_step_0 22 rfl rfl)
theorem dX0_step_23 : decode cX0_step 23 = .ok (.invokevirtual 276, 3) := dk_182 1 20 (dk_at dksX0_step_1 0 rfl rfl)
theorem dX0_step_26 : decode cX0_step 26 = .ok (.aload_n 0, 1) := dk_42 (dk_at dksX0_step_1 3 rfl rfl)
theorem dX0_step_27 : decode cX0_step 27 = .ok (.invokevirtual 270, 3) := dk_182 1 14 (dk_at dksX0_step_1 4 rfl rfl)
theorem dX0_step_30 : decode cX0_step 30 = .ok (.istore_n 3, 1) := dk_62 (dk_at dksX0_step_1 7 rfl rfl)
theorem dX0_step_31 : decode cX0_step 31 = .ok (.bipush (-2), 2) := dk_16 254 (dk_at dksX0_step_1 8 rfl rfl)
theorem dX0_step_33 : decode cX0_step 33 = .ok (.istore 4, 2) := dk_54 4 (dk_at dksX0_step_1 10 rfl rfl)
theorem dX0_step_35 : decode cX0_step 35 = .ok (.iconst 0, 1) := dk_3 (dk_at dksX0_step_1 12 rfl rfl)
theorem dX0_step_36 : decode cX0_step 36 = .ok (.istore 5, 2) := dk_54 5 (dk_at dksX0_step_1 13 rfl rfl)
theorem dX0_step_38 : decode cX0_step 38 = .ok (.iload 5, 2) := dk_21 5 (dk_at dksX0_step_1 15 rfl rfl)
theorem dX0_step_40 : decode cX0_step 40 = .ok (.iload_n 2, 1) := dk_28 (dk_at dksX0_step_1 17 rfl rfl)
theorem dX0_step_41 : decode cX0_step 41 = .ok (.if_icmp .gt 54, 3) := dk_163 0 54 (dk_at dksX0_step_1 18 rfl rfl)
theorem dX0_step_44 : decode cX0_step 44 = .ok (.aload_n 0, 1) := dk_42 (dk_at dksX0_step_1 21 rfl rfl)
theorem dX0_step_45 : decode cX0_step 45 = .ok (.getfield 246, 3) := dk_180 0 246 (dk_at dksX0_step_2 0 rfl rfl)
theorem dX0_step_48 : decode cX0_step 48 = .ok (.iload_n 3, 1) := dk_29 (dk_at dksX0_step_2 3 rfl rfl)
theorem dX0_step_49 : decode cX0_step 49 = .ok (.iaload, 1) := dk_46 (dk_at dksX0_step_2 4 rfl rfl)
theorem dX0_step_50 : decode cX0_step 50 = .ok (.ifCond .gt 7, 3) := dk_157 0 7 (dk_at dksX0_step_2 5 rfl rfl)
theorem dX0_step_53 : decode cX0_step 53 = .ok (.iconst (-1), 1) := dk_2 (dk_at dksX0_step_2 8 rfl rfl)
theorem dX0_step_54 : decode cX0_step 54 = .ok (.goto 8, 3) := dk_167 0 8 (dk_at dksX0_step_2 9 rfl rfl)
theorem dX0_step_57 : decode cX0_step 57 = .ok (.aload_n 0, 1) := dk_42 (dk_at dksX0_step_2 12 rfl rfl)
theorem dX0_step_58 : decode cX0_step 58 = .ok (.iload_n 3, 1) := dk_29 (dk_at dksX0_step_2 13 rfl rfl)
theorem dX0_step_59 : decode cX0_step 59 = .ok (.invokevirtual 281, 3) := dk_182 1 25 (dk_at dksX0_step_2 14 rfl rfl)
theorem dX0_step_62 : decode cX0_step 62 = .ok (.istore 4, 2) := dk_54 4 (dk_at dksX0_step_2 17 rfl rfl)
theorem dX0_step_64 : decode cX0_step 64 = .ok (.iload 4, 2) := dk_21 4 (dk_at dksX0_step_2 19 rfl rfl)
theorem dX0_step_66 : decode cX0_step 66 = .ok (.iconst (-1), 1) := dk_2 (dk_at dksX0_step_2 21 rfl rfl)
theorem dX0_step_67 : decode cX0_step 67 = .ok (.if_icmp .ne 6, 3) := dk_160 0 6 (dk_at dksX0_step_3 0 rfl rfl)
theorem dX0_step_70 : decode cX0_step 70 = .ok (.bipush (-2), 2) := dk_16 254 (dk_at dksX0_step_3 3 rfl rfl)
theorem dX0_step_72 : decode cX0_step 72 = .ok (.ireturn, 1) := dk_172 (dk_at dksX0_step_3 5 rfl rfl)
theorem dX0_step_73 : decode cX0_step 73 = .ok (.aload_n 0, 1) := dk_42 (dk_at dksX0_step_3 6 rfl rfl)
theorem dX0_step_74 : decode cX0_step 74 = .ok (.iload_n 3, 1) := dk_29 (dk_at dksX0_step_3 7 rfl rfl)
theorem dX0_step_75 : decode cX0_step 75 = .ok (.iload 4, 2) := dk_21 4 (dk_at dksX0_step_3 8 rfl rfl)
theorem dX0_step_77 : decode cX0_step 77 = .ok (.bipush 16, 2) := dk_16 16 (dk_at dksX0_step_3 10 rfl rfl)
theorem dX0_step_79 : decode cX0_step 79 = .ok (.idiv, 1) := dk_108 (dk_at dksX0_step_3 12 rfl rfl)
theorem dX0_step_80 : decode cX0_step 80 = .ok (.iload 4, 2) := dk_21 4 (dk_at dksX0_step_3 13 rfl rfl)
theorem dX0_step_82 : decode cX0_step 82 = .ok (.bipush 16, 2) := dk_16 16 (dk_at dksX0_step_3 15 rfl rfl)
theorem dX0_step_84 : decode cX0_step 84 = .ok (.irem, 1) := dk_112 (dk_at dksX0_step_3 17 rfl rfl)
theorem dX0_step_85 : decode cX0_step 85 = .ok (.invokevirtual 256, 3) := dk_182 1 0 (dk_at dksX0_step_3 18 rfl rfl)
theorem dX0_step_88 : decode cX0_step 88 = .ok (.istore_n 3, 1) := dk_62 (dk_at dksX0_step_3 21 rfl rfl)
theorem dX0_step_89 : decode cX0_step 89 = .ok (.iinc 5 1, 3) := dk_132 5 1 (dk_at dksX0_step_4 0 rfl rfl)
theorem dX0_step_92 : decode cX0_step 92 = .ok (.goto (-54), 3) := dk_167 255 202 (dk_at dksX0_step_4 3 rfl rfl)
theorem dX0_step_95 : decode cX0_step 95 = .ok (.bipush 16, 2) := dk_16 16 (dk_at dksX0_step_4 6 rfl rfl)
theorem dX0_step_97 : decode cX0_step 97 = .ok (.aload_n 0, 1) := dk_42 (dk_at dksX0_step_4 8 rfl rfl)
theorem dX0_step_98 : decode cX0_step 98 = .ok (.getfield 35, 3) := dk_180 0 35 (dk_at dksX0_step_4 9 rfl rfl)
theorem dX0_step_101 : decode cX0_step 101 = .ok (.iload 4, 2) := dk_21 4 (dk_at dksX0_step_4 12 rfl rfl)
theorem dX0_step_103 : decode cX0_step 103 = .ok (.bipush 16, 2) := dk_16 16 (dk_at dksX0_step_4 14 rfl rfl)
theorem dX0_step_105 : decode cX0_step 105 = .ok (.idiv, 1) := dk_108 (dk_at dksX0_step_4 16 rfl rfl)
theorem dX0_step_106 : decode cX0_step 106 = .ok (.iaload, 1) := dk_46 (dk_at dksX0_step_4 17 rfl rfl)
theorem dX0_step_107 : decode cX0_step 107 = .ok (.imul, 1) := dk_104 (dk_at dksX0_step_4 18 rfl rfl)
theorem dX0_step_108 : decode cX0_step 108 = .ok (.iload 4, 2) := dk_21 4 (dk_at dksX0_step_4 19 rfl rfl)
theorem dX0_step_110 : decode cX0_step 110 = .ok (.bipush 16, 2) := dk_16 16 (dk_at dksX0_step_4 21 rfl rfl)
theorem dX0_step_112 : decode cX0_step 112 = .ok (.irem, 1) := dk_112 (dk_at dksX0_step_4 23 rfl rfl)
theorem dX0_step_113 : decode cX0_step 113 = .ok (.iadd, 1) := dk_96 (dk_at dksX0_step_5 0 rfl rfl)
theorem dX0_step_114 : decode cX0_step 114 = .ok (.ireturn, 1) := dk_172 (dk_at dksX0_step_5 1 rfl rfl)
abbrev cX0_first : ByteArray := prog_1_method_42_code
def yX0_first : MethodName := ⟨RX0, "first", "(I)I"⟩
def dkwX0_first_3 : List UInt8 := [132, 2, 1, 167, 255, 186, 2, 172]
abbrev dktX0_first_3 : List UInt8 := dkwX0_first_3 ++ []
def dkwX0_first_2 : List UInt8 := [180, 0, 246, 27, 46, 4, 100, 160, 0, 10, 16, 16, 28, 104, 29, 96, 172, 132, 3, 1, 167, 255, 202]
abbrev dktX0_first_2 : List UInt8 := dkwX0_first_2 ++ dktX0_first_3
def dkwX0_first_1 : List UInt8 := [27, 28, 29, 182, 1, 0, 54, 4, 21, 4, 2, 159, 0, 28, 42, 180, 0, 246, 21, 4, 46, 42]
abbrev dktX0_first_1 : List UInt8 := dkwX0_first_1 ++ dktX0_first_2
def dkwX0_first_0 : List UInt8 := [3, 61, 28, 42, 180, 0, 233, 162, 0, 68, 3, 62, 29, 42, 180, 0, 12, 182, 0, 89, 162, 0, 49, 42]
abbrev dktX0_first_0 : List UInt8 := dkwX0_first_0 ++ dktX0_first_1
theorem dksX0_first_0 : cX0_first.data.toList.drop 0 = dktX0_first_0 := by decide +kernel
theorem dksX0_first_1 : cX0_first.data.toList.drop 24 = dktX0_first_1 := dk_seg dksX0_first_0 24 rfl rfl
theorem dksX0_first_2 : cX0_first.data.toList.drop 46 = dktX0_first_2 := dk_seg dksX0_first_1 22 rfl rfl
theorem dksX0_first_3 : cX0_first.data.toList.drop 69 = dktX0_first_3 := dk_seg dksX0_first_2 23 rfl rfl
theorem dX0_first_0 : decode cX0_first 0 = .ok (.iconst 0, 1) := dk_3 (dk_at dksX0_first_0 0 rfl rfl)
theorem dX0_first_1 : decode cX0_first 1 = .ok (.istore_n 2, 1) := dk_61 (dk_at dksX0_first_0 1 rfl rfl)
theorem dX0_first_2 : decode cX0_first 2 = .ok (.iload_n 2, 1) := dk_28 (dk_at dksX0_first_0 2 rfl rfl)
theorem dX0_first_3 : decode cX0_first 3 = .ok (.aload_n 0, 1) := dk_42 (dk_at dksX0_first_0 3 rfl rfl)
theorem dX0_first_4 : decode cX0_first 4 = .ok (.getfield 233, 3) := dk_180 0 233 (dk_at dksX0_first_0 4 rfl rfl)
theorem dX0_first_7 : decode cX0_first 7 = .ok (.if_icmp .ge 68, 3) := dk_162 0 68 (dk_at dksX0_first_0 7 rfl rfl)
theorem dX0_first_10 : decode cX0_first 10 = .ok (.iconst 0, 1) := dk_3 (dk_at dksX0_first_0 10 rfl rfl)
theorem dX0_first_11 : decode cX0_first 11 = .ok (.istore_n 3, 1) := dk_62 (dk_at dksX0_first_0 11 rfl rfl)
theorem dX0_first_12 : decode cX0_first 12 = .ok (.iload_n 3, 1) := dk_29 (dk_at dksX0_first_0 12 rfl rfl)
theorem dX0_first_13 : decode cX0_first 13 = .ok (.aload_n 0, 1) := dk_42 (dk_at dksX0_first_0 13 rfl rfl)
theorem dX0_first_14 : decode cX0_first 14 = .ok (.getfield 12, 3) := dk_180 0 12 (dk_at dksX0_first_0 14 rfl rfl)
theorem dX0_first_17 : decode cX0_first 17 = .ok (.invokevirtual 89, 3) := dk_182 0 89 (dk_at dksX0_first_0 17 rfl rfl)
theorem dX0_first_20 : decode cX0_first 20 = .ok (.if_icmp .ge 49, 3) := dk_162 0 49 (dk_at dksX0_first_0 20 rfl rfl)
theorem dX0_first_23 : decode cX0_first 23 = .ok (.aload_n 0, 1) := dk_42 (dk_at dksX0_first_0 23 rfl rfl)
theorem dX0_first_24 : decode cX0_first 24 = .ok (.iload_n 1, 1) := dk_27 (dk_at dksX0_first_1 0 rfl rfl)
theorem dX0_first_25 : decode cX0_first 25 = .ok (.iload_n 2, 1) := dk_28 (dk_at dksX0_first_1 1 rfl rfl)
theorem dX0_first_26 : decode cX0_first 26 = .ok (.iload_n 3, 1) := dk_29 (dk_at dksX0_first_1 2 rfl rfl)
theorem dX0_first_27 : decode cX0_first 27 = .ok (.invokevirtual 256, 3) := dk_182 1 0 (dk_at dksX0_first_1 3 rfl rfl)
theorem dX0_first_30 : decode cX0_first 30 = .ok (.istore 4, 2) := dk_54 4 (dk_at dksX0_first_1 6 rfl rfl)
theorem dX0_first_32 : decode cX0_first 32 = .ok (.iload 4, 2) := dk_21 4 (dk_at dksX0_first_1 8 rfl rfl)
theorem dX0_first_34 : decode cX0_first 34 = .ok (.iconst (-1), 1) := dk_2 (dk_at dksX0_first_1 10 rfl rfl)
theorem dX0_first_35 : decode cX0_first 35 = .ok (.if_icmp .eq 28, 3) := dk_159 0 28 (dk_at dksX0_first_1 11 rfl rfl)
theorem dX0_first_38 : decode cX0_first 38 = .ok (.aload_n 0, 1) := dk_42 (dk_at dksX0_first_1 14 rfl rfl)
theorem dX0_first_39 : decode cX0_first 39 = .ok (.getfield 246, 3) := dk_180 0 246 (dk_at dksX0_first_1 15 rfl rfl)
theorem dX0_first_42 : decode cX0_first 42 = .ok (.iload 4, 2) := dk_21 4 (dk_at dksX0_first_1 18 rfl rfl)
theorem dX0_first_44 : decode cX0_first 44 = .ok (.iaload, 1) := dk_46 (dk_at dksX0_first_1 20 rfl rfl)
theorem dX0_first_45 : decode cX0_first 45 = .ok (.aload_n 0, 1) := dk_42 (dk_at dksX0_first_1 21 rfl rfl)
theorem dX0_first_46 : decode cX0_first 46 = .ok (.getfield 246, 3) := dk_180 0 246 (dk_at dksX0_first_2 0 rfl rfl)
theorem dX0_first_49 : decode cX0_first 49 = .ok (.iload_n 1, 1) := dk_27 (dk_at dksX0_first_2 3 rfl rfl)
theorem dX0_first_50 : decode cX0_first 50 = .ok (.iaload, 1) := dk_46 (dk_at dksX0_first_2 4 rfl rfl)
theorem dX0_first_51 : decode cX0_first 51 = .ok (.iconst 1, 1) := dk_4 (dk_at dksX0_first_2 5 rfl rfl)
theorem dX0_first_52 : decode cX0_first 52 = .ok (.isub, 1) := dk_100 (dk_at dksX0_first_2 6 rfl rfl)
theorem dX0_first_53 : decode cX0_first 53 = .ok (.if_icmp .ne 10, 3) := dk_160 0 10 (dk_at dksX0_first_2 7 rfl rfl)
theorem dX0_first_56 : decode cX0_first 56 = .ok (.bipush 16, 2) := dk_16 16 (dk_at dksX0_first_2 10 rfl rfl)
theorem dX0_first_58 : decode cX0_first 58 = .ok (.iload_n 2, 1) := dk_28 (dk_at dksX0_first_2 12 rfl rfl)
theorem dX0_first_59 : decode cX0_first 59 = .ok (.imul, 1) := dk_104 (dk_at dksX0_first_2 13 rfl rfl)
theorem dX0_first_60 : decode cX0_first 60 = .ok (.iload_n 3, 1) := dk_29 (dk_at dksX0_first_2 14 rfl rfl)
theorem dX0_first_61 : decode cX0_first 61 = .ok (.iadd, 1) := dk_96 (dk_at dksX0_first_2 15 rfl rfl)
theorem dX0_first_62 : decode cX0_first 62 = .ok (.ireturn, 1) := dk_172 (dk_at dksX0_first_2 16 rfl rfl)
theorem dX0_first_63 : decode cX0_first 63 = .ok (.iinc 3 1, 3) := dk_132 3 1 (dk_at dksX0_first_2 17 rfl rfl)
theorem dX0_first_66 : decode cX0_first 66 = .ok (.goto (-54), 3) := dk_167 255 202 (dk_at dksX0_first_2 20 rfl rfl)
theorem dX0_first_69 : decode cX0_first 69 = .ok (.iinc 2 1, 3) := dk_132 2 1 (dk_at dksX0_first_3 0 rfl rfl)
theorem dX0_first_72 : decode cX0_first 72 = .ok (.goto (-70), 3) := dk_167 255 186 (dk_at dksX0_first_3 3 rfl rfl)
theorem dX0_first_75 : decode cX0_first 75 = .ok (.iconst (-1), 1) := dk_2 (dk_at dksX0_first_3 6 rfl rfl)
theorem dX0_first_76 : decode cX0_first 76 = .ok (.ireturn, 1) := dk_172 (dk_at dksX0_first_3 7 rfl rfl)
abbrev cX0_comes : ByteArray := prog_1_method_43_code
def yX0_comes : MethodName := ⟨RX0, "comes", "(II)I"⟩
def dkwX0_comes_2 : List UInt8 := [180, 0, 12, 182, 0, 89, 120, 126, 28, 128, 46, 2, 159, 0, 7, 4, 167, 0, 4, 3, 172]
abbrev dktX0_comes_2 : List UInt8 := dkwX0_comes_2 ++ []
def dkwX0_comes_1 : List UInt8 := [184, 0, 93, 154, 0, 5, 2, 172, 42, 182, 1, 28, 42, 180, 0, 246, 42, 182, 1, 14, 2, 42]
abbrev dktX0_comes_1 : List UInt8 := dkwX0_comes_1 ++ dktX0_comes_2
def dkwX0_comes_0 : List UInt8 := [42, 27, 182, 1, 17, 153, 0, 24, 28, 133, 9, 4, 42, 180, 0, 12, 182, 0, 89, 120, 4, 100, 133]
abbrev dktX0_comes_0 : List UInt8 := dkwX0_comes_0 ++ dktX0_comes_1
theorem dksX0_comes_0 : cX0_comes.data.toList.drop 0 = dktX0_comes_0 := by decide +kernel
theorem dksX0_comes_1 : cX0_comes.data.toList.drop 23 = dktX0_comes_1 := dk_seg dksX0_comes_0 23 rfl rfl
theorem dksX0_comes_2 : cX0_comes.data.toList.drop 45 = dktX0_comes_2 := dk_seg dksX0_comes_1 22 rfl rfl
theorem dX0_comes_0 : decode cX0_comes 0 = .ok (.aload_n 0, 1) := dk_42 (dk_at dksX0_comes_0 0 rfl rfl)
theorem dX0_comes_1 : decode cX0_comes 1 = .ok (.iload_n 1, 1) := dk_27 (dk_at dksX0_comes_0 1 rfl rfl)
theorem dX0_comes_2 : decode cX0_comes 2 = .ok (.invokevirtual 273, 3) := dk_182 1 17 (dk_at dksX0_comes_0 2 rfl rfl)
theorem dX0_comes_5 : decode cX0_comes 5 = .ok (.ifCond .eq 24, 3) := dk_153 0 24 (dk_at dksX0_comes_0 5 rfl rfl)
theorem dX0_comes_8 : decode cX0_comes 8 = .ok (.iload_n 2, 1) := dk_28 (dk_at dksX0_comes_0 8 rfl rfl)
theorem dX0_comes_9 : decode cX0_comes 9 = .ok (.i2l, 1) := dk_133 (dk_at dksX0_comes_0 9 rfl rfl)
theorem dX0_comes_10 : decode cX0_comes 10 = .ok (.lconst 0, 1) := dk_9 (dk_at dksX0_comes_0 10 rfl rfl)
theorem dX0_comes_11 : decode cX0_comes 11 = .ok (.iconst 1, 1) := dk_4 (dk_at dksX0_comes_0 11 rfl rfl)
theorem dX0_comes_12 : decode cX0_comes 12 = .ok (.aload_n 0, 1) := dk_42 (dk_at dksX0_comes_0 12 rfl rfl)
theorem dX0_comes_13 : decode cX0_comes 13 = .ok (.getfield 12, 3) := dk_180 0 12 (dk_at dksX0_comes_0 13 rfl rfl)
theorem dX0_comes_16 : decode cX0_comes 16 = .ok (.invokevirtual 89, 3) := dk_182 0 89 (dk_at dksX0_comes_0 16 rfl rfl)
theorem dX0_comes_19 : decode cX0_comes 19 = .ok (.ishl, 1) := dk_120 (dk_at dksX0_comes_0 19 rfl rfl)
theorem dX0_comes_20 : decode cX0_comes 20 = .ok (.iconst 1, 1) := dk_4 (dk_at dksX0_comes_0 20 rfl rfl)
theorem dX0_comes_21 : decode cX0_comes 21 = .ok (.isub, 1) := dk_100 (dk_at dksX0_comes_0 21 rfl rfl)
theorem dX0_comes_22 : decode cX0_comes 22 = .ok (.i2l, 1) := dk_133 (dk_at dksX0_comes_0 22 rfl rfl)
theorem dX0_comes_23 : decode cX0_comes 23 = .ok (.invokestatic 93, 3) := dk_184 0 93 (dk_at dksX0_comes_1 0 rfl rfl)
theorem dX0_comes_26 : decode cX0_comes 26 = .ok (.ifCond .ne 5, 3) := dk_154 0 5 (dk_at dksX0_comes_1 3 rfl rfl)
theorem dX0_comes_29 : decode cX0_comes 29 = .ok (.iconst (-1), 1) := dk_2 (dk_at dksX0_comes_1 6 rfl rfl)
theorem dX0_comes_30 : decode cX0_comes 30 = .ok (.ireturn, 1) := dk_172 (dk_at dksX0_comes_1 7 rfl rfl)
theorem dX0_comes_31 : decode cX0_comes 31 = .ok (.aload_n 0, 1) := dk_42 (dk_at dksX0_comes_1 8 rfl rfl)
theorem dX0_comes_32 : decode cX0_comes 32 = .ok (.invokevirtual 284, 3) := dk_182 1 28 (dk_at dksX0_comes_1 9 rfl rfl)
theorem dX0_comes_35 : decode cX0_comes 35 = .ok (.aload_n 0, 1) := dk_42 (dk_at dksX0_comes_1 12 rfl rfl)
theorem dX0_comes_36 : decode cX0_comes 36 = .ok (.getfield 246, 3) := dk_180 0 246 (dk_at dksX0_comes_1 13 rfl rfl)
theorem dX0_comes_39 : decode cX0_comes 39 = .ok (.aload_n 0, 1) := dk_42 (dk_at dksX0_comes_1 16 rfl rfl)
theorem dX0_comes_40 : decode cX0_comes 40 = .ok (.invokevirtual 270, 3) := dk_182 1 14 (dk_at dksX0_comes_1 17 rfl rfl)
theorem dX0_comes_43 : decode cX0_comes 43 = .ok (.iconst (-1), 1) := dk_2 (dk_at dksX0_comes_1 20 rfl rfl)
theorem dX0_comes_44 : decode cX0_comes 44 = .ok (.aload_n 0, 1) := dk_42 (dk_at dksX0_comes_1 21 rfl rfl)
theorem dX0_comes_45 : decode cX0_comes 45 = .ok (.getfield 12, 3) := dk_180 0 12 (dk_at dksX0_comes_2 0 rfl rfl)
theorem dX0_comes_48 : decode cX0_comes 48 = .ok (.invokevirtual 89, 3) := dk_182 0 89 (dk_at dksX0_comes_2 3 rfl rfl)
theorem dX0_comes_51 : decode cX0_comes 51 = .ok (.ishl, 1) := dk_120 (dk_at dksX0_comes_2 6 rfl rfl)
theorem dX0_comes_52 : decode cX0_comes 52 = .ok (.iand, 1) := dk_126 (dk_at dksX0_comes_2 7 rfl rfl)
theorem dX0_comes_53 : decode cX0_comes 53 = .ok (.iload_n 2, 1) := dk_28 (dk_at dksX0_comes_2 8 rfl rfl)
theorem dX0_comes_54 : decode cX0_comes 54 = .ok (.ior, 1) := dk_128 (dk_at dksX0_comes_2 9 rfl rfl)
theorem dX0_comes_55 : decode cX0_comes 55 = .ok (.iaload, 1) := dk_46 (dk_at dksX0_comes_2 10 rfl rfl)
theorem dX0_comes_56 : decode cX0_comes 56 = .ok (.iconst (-1), 1) := dk_2 (dk_at dksX0_comes_2 11 rfl rfl)
theorem dX0_comes_57 : decode cX0_comes 57 = .ok (.if_icmp .eq 7, 3) := dk_159 0 7 (dk_at dksX0_comes_2 12 rfl rfl)
theorem dX0_comes_60 : decode cX0_comes 60 = .ok (.iconst 1, 1) := dk_4 (dk_at dksX0_comes_2 15 rfl rfl)
theorem dX0_comes_61 : decode cX0_comes 61 = .ok (.goto 4, 3) := dk_167 0 4 (dk_at dksX0_comes_2 16 rfl rfl)
theorem dX0_comes_64 : decode cX0_comes 64 = .ok (.iconst 0, 1) := dk_3 (dk_at dksX0_comes_2 19 rfl rfl)
theorem dX0_comes_65 : decode cX0_comes 65 = .ok (.ireturn, 1) := dk_172 (dk_at dksX0_comes_2 20 rfl rfl)
abbrev cX0_spreadsFromNow : ByteArray := prog_1_method_39_code
def yX0_spreadsFromNow : MethodName := ⟨RX0, "spreadsFromNow", "()V"⟩
def dkwX0_spreadsFromNow_0 : List UInt8 := [42, 182, 1, 8, 42, 3, 181, 0, 253, 42, 42, 182, 1, 14, 3, 182, 1, 4, 42, 182, 1, 11, 177]
abbrev dktX0_spreadsFromNow_0 : List UInt8 := dkwX0_spreadsFromNow_0 ++ []
theorem dksX0_spreadsFromNow_0 : cX0_spreadsFromNow.data.toList.drop 0 = dktX0_spreadsFromNow_0 := by decide +kernel
theorem dX0_spreadsFromNow_0 : decode cX0_spreadsFromNow 0 = .ok (.aload_n 0, 1) := dk_42 (dk_at dksX0_spreadsFromNow_0 0 rfl rfl)
theorem dX0_spreadsFromNow_1 : decode cX0_spreadsFromNow 1 = .ok (.invokevirtual 264, 3) := dk_182 1 8 (dk_at dksX0_spreadsFromNow_0 1 rfl rfl)
theorem dX0_spreadsFromNow_4 : decode cX0_spreadsFromNow 4 = .ok (.aload_n 0, 1) := dk_42 (dk_at dksX0_spreadsFromNow_0 4 rfl rfl)
theorem dX0_spreadsFromNow_5 : decode cX0_spreadsFromNow 5 = .ok (.iconst 0, 1) := dk_3 (dk_at dksX0_spreadsFromNow_0 5 rfl rfl)
theorem dX0_spreadsFromNow_6 : decode cX0_spreadsFromNow 6 = .ok (.putfield 253, 3) := dk_181 0 253 (dk_at dksX0_spreadsFromNow_0 6 rfl rfl)
theorem dX0_spreadsFromNow_9 : decode cX0_spreadsFromNow 9 = .ok (.aload_n 0, 1) := dk_42 (dk_at dksX0_spreadsFromNow_0 9 rfl rfl)
theorem dX0_spreadsFromNow_10 : decode cX0_spreadsFromNow 10 = .ok (.aload_n 0, 1) := dk_42 (dk_at dksX0_spreadsFromNow_0 10 rfl rfl)
theorem dX0_spreadsFromNow_11 : decode cX0_spreadsFromNow 11 = .ok (.invokevirtual 270, 3) := dk_182 1 14 (dk_at dksX0_spreadsFromNow_0 11 rfl rfl)
theorem dX0_spreadsFromNow_14 : decode cX0_spreadsFromNow 14 = .ok (.iconst 0, 1) := dk_3 (dk_at dksX0_spreadsFromNow_0 14 rfl rfl)
theorem dX0_spreadsFromNow_15 : decode cX0_spreadsFromNow 15 = .ok (.invokevirtual 260, 3) := dk_182 1 4 (dk_at dksX0_spreadsFromNow_0 15 rfl rfl)
theorem dX0_spreadsFromNow_18 : decode cX0_spreadsFromNow 18 = .ok (.aload_n 0, 1) := dk_42 (dk_at dksX0_spreadsFromNow_0 18 rfl rfl)
theorem dX0_spreadsFromNow_19 : decode cX0_spreadsFromNow 19 = .ok (.invokevirtual 267, 3) := dk_182 1 11 (dk_at dksX0_spreadsFromNow_0 19 rfl rfl)
theorem dX0_spreadsFromNow_22 : decode cX0_spreadsFromNow 22 = .ok (.return_, 1) := dk_177 (dk_at dksX0_spreadsFromNow_0 22 rfl rfl)
abbrev cX0_closed : ByteArray := prog_1_method_48_code
def yX0_closed : MethodName := ⟨RX0, "closed", "(II)I"⟩
def dkwX0_closed_1 : List UInt8 := [42, 182, 1, 37, 167, 0, 15, 42, 182, 1, 40, 153, 0, 7, 4, 167, 0, 4, 3, 172]
abbrev dktX0_closed_1 : List UInt8 := dkwX0_closed_1 ++ []
def dkwX0_closed_0 : List UInt8 := [42, 27, 182, 1, 17, 153, 0, 13, 28, 133, 9, 10, 184, 0, 93, 154, 0, 5, 2, 172, 28, 154, 0, 10]
abbrev dktX0_closed_0 : List UInt8 := dkwX0_closed_0 ++ dktX0_closed_1
theorem dksX0_closed_0 : cX0_closed.data.toList.drop 0 = dktX0_closed_0 := by decide +kernel
theorem dksX0_closed_1 : cX0_closed.data.toList.drop 24 = dktX0_closed_1 := dk_seg dksX0_closed_0 24 rfl rfl
theorem dX0_closed_0 : decode cX0_closed 0 = .ok (.aload_n 0, 1) := dk_42 (dk_at dksX0_closed_0 0 rfl rfl)
theorem dX0_closed_1 : decode cX0_closed 1 = .ok (.iload_n 1, 1) := dk_27 (dk_at dksX0_closed_0 1 rfl rfl)
theorem dX0_closed_2 : decode cX0_closed 2 = .ok (.invokevirtual 273, 3) := dk_182 1 17 (dk_at dksX0_closed_0 2 rfl rfl)
theorem dX0_closed_5 : decode cX0_closed 5 = .ok (.ifCond .eq 13, 3) := dk_153 0 13 (dk_at dksX0_closed_0 5 rfl rfl)
theorem dX0_closed_8 : decode cX0_closed 8 = .ok (.iload_n 2, 1) := dk_28 (dk_at dksX0_closed_0 8 rfl rfl)
theorem dX0_closed_9 : decode cX0_closed 9 = .ok (.i2l, 1) := dk_133 (dk_at dksX0_closed_0 9 rfl rfl)
theorem dX0_closed_10 : decode cX0_closed 10 = .ok (.lconst 0, 1) := dk_9 (dk_at dksX0_closed_0 10 rfl rfl)
theorem dX0_closed_11 : decode cX0_closed 11 = .ok (.lconst 1, 1) := dk_10 (dk_at dksX0_closed_0 11 rfl rfl)
theorem dX0_closed_12 : decode cX0_closed 12 = .ok (.invokestatic 93, 3) := dk_184 0 93 (dk_at dksX0_closed_0 12 rfl rfl)
theorem dX0_closed_15 : decode cX0_closed 15 = .ok (.ifCond .ne 5, 3) := dk_154 0 5 (dk_at dksX0_closed_0 15 rfl rfl)
theorem dX0_closed_18 : decode cX0_closed 18 = .ok (.iconst (-1), 1) := dk_2 (dk_at dksX0_closed_0 18 rfl rfl)
theorem dX0_closed_19 : decode cX0_closed 19 = .ok (.ireturn, 1) := dk_172 (dk_at dksX0_closed_0 19 rfl rfl)
theorem dX0_closed_20 : decode cX0_closed 20 = .ok (.iload_n 2, 1) := dk_28 (dk_at dksX0_closed_0 20 rfl rfl)
theorem dX0_closed_21 : decode cX0_closed 21 = .ok (.ifCond .ne 10, 3) := dk_154 0 10 (dk_at dksX0_closed_0 21 rfl rfl)
theorem dX0_closed_24 : decode cX0_closed 24 = .ok (.aload_n 0, 1) := dk_42 (dk_at dksX0_closed_1 0 rfl rfl)
theorem dX0_closed_25 : decode cX0_closed 25 = .ok (.invokevirtual 293, 3) := dk_182 1 37 (dk_at dksX0_closed_1 1 rfl rfl)
theorem dX0_closed_28 : decode cX0_closed 28 = .ok (.goto 15, 3) := dk_167 0 15 (dk_at dksX0_closed_1 4 rfl rfl)
theorem dX0_closed_31 : decode cX0_closed 31 = .ok (.aload_n 0, 1) := dk_42 (dk_at dksX0_closed_1 7 rfl rfl)
theorem dX0_closed_32 : decode cX0_closed 32 = .ok (.invokevirtual 296, 3) := dk_182 1 40 (dk_at dksX0_closed_1 8 rfl rfl)
theorem dX0_closed_35 : decode cX0_closed 35 = .ok (.ifCond .eq 7, 3) := dk_153 0 7 (dk_at dksX0_closed_1 11 rfl rfl)
theorem dX0_closed_38 : decode cX0_closed 38 = .ok (.iconst 1, 1) := dk_4 (dk_at dksX0_closed_1 14 rfl rfl)
theorem dX0_closed_39 : decode cX0_closed 39 = .ok (.goto 4, 3) := dk_167 0 4 (dk_at dksX0_closed_1 15 rfl rfl)
theorem dX0_closed_42 : decode cX0_closed 42 = .ok (.iconst 0, 1) := dk_3 (dk_at dksX0_closed_1 18 rfl rfl)
theorem dX0_closed_43 : decode cX0_closed 43 = .ok (.ireturn, 1) := dk_172 (dk_at dksX0_closed_1 19 rfl rfl)
abbrev cX0_closedMany : ByteArray := prog_1_method_46_code
def yX0_closedMany : MethodName := ⟨RX0, "closedMany", "()I"⟩
def dkwX0_closedMany_2 : List UInt8 := [159, 0, 7, 4, 167, 0, 4, 3, 96, 61, 132, 3, 1, 167, 255, 220, 28, 172]
abbrev dktX0_closedMany_2 : List UInt8 := dkwX0_closedMany_2 ++ []
def dkwX0_closedMany_1 : List UInt8 := [4, 42, 180, 0, 12, 182, 0, 89, 120, 162, 0, 29, 28, 42, 180, 0, 246, 27, 29, 128, 46, 2]
abbrev dktX0_closedMany_1 : List UInt8 := dkwX0_closedMany_1 ++ dktX0_closedMany_2
def dkwX0_closedMany_0 : List UInt8 := [42, 182, 1, 28, 42, 182, 1, 14, 2, 42, 180, 0, 12, 182, 0, 89, 120, 126, 60, 3, 61, 3, 62, 29]
abbrev dktX0_closedMany_0 : List UInt8 := dkwX0_closedMany_0 ++ dktX0_closedMany_1
theorem dksX0_closedMany_0 : cX0_closedMany.data.toList.drop 0 = dktX0_closedMany_0 := by decide +kernel
theorem dksX0_closedMany_1 : cX0_closedMany.data.toList.drop 24 = dktX0_closedMany_1 := dk_seg dksX0_closedMany_0 24 rfl rfl
theorem dksX0_closedMany_2 : cX0_closedMany.data.toList.drop 46 = dktX0_closedMany_2 := dk_seg dksX0_closedMany_1 22 rfl rfl
theorem dX0_closedMany_0 : decode cX0_closedMany 0 = .ok (.aload_n 0, 1) := dk_42 (dk_at dksX0_closedMany_0 0 rfl rfl)
theorem dX0_closedMany_1 : decode cX0_closedMany 1 = .ok (.invokevirtual 284, 3) := dk_182 1 28 (dk_at dksX0_closedMany_0 1 rfl rfl)
theorem dX0_closedMany_4 : decode cX0_closedMany 4 = .ok (.aload_n 0, 1) := dk_42 (dk_at dksX0_closedMany_0 4 rfl rfl)
theorem dX0_closedMany_5 : decode cX0_closedMany 5 = .ok (.invokevirtual 270, 3) := dk_182 1 14 (dk_at dksX0_closedMany_0 5 rfl rfl)
theorem dX0_closedMany_8 : decode cX0_closedMany 8 = .ok (.iconst (-1), 1) := dk_2 (dk_at dksX0_closedMany_0 8 rfl rfl)
theorem dX0_closedMany_9 : decode cX0_closedMany 9 = .ok (.aload_n 0, 1) := dk_42 (dk_at dksX0_closedMany_0 9 rfl rfl)
theorem dX0_closedMany_10 : decode cX0_closedMany 10 = .ok (.getfield 12, 3) := dk_180 0 12 (dk_at dksX0_closedMany_0 10 rfl rfl)
theorem dX0_closedMany_13 : decode cX0_closedMany 13 = .ok (.invokevirtual 89, 3) := dk_182 0 89 (dk_at dksX0_closedMany_0 13 rfl rfl)
theorem dX0_closedMany_16 : decode cX0_closedMany 16 = .ok (.ishl, 1) := dk_120 (dk_at dksX0_closedMany_0 16 rfl rfl)
theorem dX0_closedMany_17 : decode cX0_closedMany 17 = .ok (.iand, 1) := dk_126 (dk_at dksX0_closedMany_0 17 rfl rfl)
theorem dX0_closedMany_18 : decode cX0_closedMany 18 = .ok (.istore_n 1, 1) := dk_60 (dk_at dksX0_closedMany_0 18 rfl rfl)
theorem dX0_closedMany_19 : decode cX0_closedMany 19 = .ok (.iconst 0, 1) := dk_3 (dk_at dksX0_closedMany_0 19 rfl rfl)
theorem dX0_closedMany_20 : decode cX0_closedMany 20 = .ok (.istore_n 2, 1) := dk_61 (dk_at dksX0_closedMany_0 20 rfl rfl)
theorem dX0_closedMany_21 : decode cX0_closedMany 21 = .ok (.iconst 0, 1) := dk_3 (dk_at dksX0_closedMany_0 21 rfl rfl)
theorem dX0_closedMany_22 : decode cX0_closedMany 22 = .ok (.istore_n 3, 1) := dk_62 (dk_at dksX0_closedMany_0 22 rfl rfl)
theorem dX0_closedMany_23 : decode cX0_closedMany 23 = .ok (.iload_n 3, 1) := dk_29 (dk_at dksX0_closedMany_0 23 rfl rfl)
theorem dX0_closedMany_24 : decode cX0_closedMany 24 = .ok (.iconst 1, 1) := dk_4 (dk_at dksX0_closedMany_1 0 rfl rfl)
theorem dX0_closedMany_25 : decode cX0_closedMany 25 = .ok (.aload_n 0, 1) := dk_42 (dk_at dksX0_closedMany_1 1 rfl rfl)
theorem dX0_closedMany_26 : decode cX0_closedMany 26 = .ok (.getfield 12, 3) := dk_180 0 12 (dk_at dksX0_closedMany_1 2 rfl rfl)
theorem dX0_closedMany_29 : decode cX0_closedMany 29 = .ok (.invokevirtual 89, 3) := dk_182 0 89 (dk_at dksX0_closedMany_1 5 rfl rfl)
theorem dX0_closedMany_32 : decode cX0_closedMany 32 = .ok (.ishl, 1) := dk_120 (dk_at dksX0_closedMany_1 8 rfl rfl)
theorem dX0_closedMany_33 : decode cX0_closedMany 33 = .ok (.if_icmp .ge 29, 3) := dk_162 0 29 (dk_at dksX0_closedMany_1 9 rfl rfl)
theorem dX0_closedMany_36 : decode cX0_closedMany 36 = .ok (.iload_n 2, 1) := dk_28 (dk_at dksX0_closedMany_1 12 rfl rfl)
theorem dX0_closedMany_37 : decode cX0_closedMany 37 = .ok (.aload_n 0, 1) := dk_42 (dk_at dksX0_closedMany_1 13 rfl rfl)
theorem dX0_closedMany_38 : decode cX0_closedMany 38 = .ok (.getfield 246, 3) := dk_180 0 246 (dk_at dksX0_closedMany_1 14 rfl rfl)
theorem dX0_closedMany_41 : decode cX0_closedMany 41 = .ok (.iload_n 1, 1) := dk_27 (dk_at dksX0_closedMany_1 17 rfl rfl)
theorem dX0_closedMany_42 : decode cX0_closedMany 42 = .ok (.iload_n 3, 1) := dk_29 (dk_at dksX0_closedMany_1 18 rfl rfl)
theorem dX0_closedMany_43 : decode cX0_closedMany 43 = .ok (.ior, 1) := dk_128 (dk_at dksX0_closedMany_1 19 rfl rfl)
theorem dX0_closedMany_44 : decode cX0_closedMany 44 = .ok (.iaload, 1) := dk_46 (dk_at dksX0_closedMany_1 20 rfl rfl)
theorem dX0_closedMany_45 : decode cX0_closedMany 45 = .ok (.iconst (-1), 1) := dk_2 (dk_at dksX0_closedMany_1 21 rfl rfl)
theorem dX0_closedMany_46 : decode cX0_closedMany 46 = .ok (.if_icmp .eq 7, 3) := dk_159 0 7 (dk_at dksX0_closedMany_2 0 rfl rfl)
theorem dX0_closedMany_49 : decode cX0_closedMany 49 = .ok (.iconst 1, 1) := dk_4 (dk_at dksX0_closedMany_2 3 rfl rfl)
theorem dX0_closedMany_50 : decode cX0_closedMany 50 = .ok (.goto 4, 3) := dk_167 0 4 (dk_at dksX0_closedMany_2 4 rfl rfl)
theorem dX0_closedMany_53 : decode cX0_closedMany 53 = .ok (.iconst 0, 1) := dk_3 (dk_at dksX0_closedMany_2 7 rfl rfl)
theorem dX0_closedMany_54 : decode cX0_closedMany 54 = .ok (.iadd, 1) := dk_96 (dk_at dksX0_closedMany_2 8 rfl rfl)
theorem dX0_closedMany_55 : decode cX0_closedMany 55 = .ok (.istore_n 2, 1) := dk_61 (dk_at dksX0_closedMany_2 9 rfl rfl)
theorem dX0_closedMany_56 : decode cX0_closedMany 56 = .ok (.iinc 3 1, 3) := dk_132 3 1 (dk_at dksX0_closedMany_2 10 rfl rfl)
theorem dX0_closedMany_59 : decode cX0_closedMany 59 = .ok (.goto (-36), 3) := dk_167 255 220 (dk_at dksX0_closedMany_2 13 rfl rfl)
theorem dX0_closedMany_62 : decode cX0_closedMany 62 = .ok (.iload_n 2, 1) := dk_28 (dk_at dksX0_closedMany_2 16 rfl rfl)
theorem dX0_closedMany_63 : decode cX0_closedMany 63 = .ok (.ireturn, 1) := dk_172 (dk_at dksX0_closedMany_2 17 rfl rfl)
abbrev cX0_hasSums : ByteArray := prog_1_method_47_code
def yX0_hasSums : MethodName := ⟨RX0, "hasSums", "()Z"⟩
def dkwX0_hasSums_4 : List UInt8 := [132, 1, 1, 167, 255, 189, 42, 182, 1, 34, 158, 0, 7, 4, 167, 0, 4, 3, 172]
abbrev dktX0_hasSums_4 : List UInt8 := dkwX0_hasSums_4 ++ []
def dkwX0_hasSums_3 : List UInt8 := [180, 0, 18, 42, 180, 0, 35, 27, 46, 182, 0, 99, 192, 0, 109, 180, 0, 190, 92, 46, 4, 96, 79]
abbrev dktX0_hasSums_3 : List UInt8 := dkwX0_hasSums_3 ++ dktX0_hasSums_4
def dkwX0_hasSums_2 : List UInt8 := [180, 0, 35, 27, 46, 182, 0, 99, 192, 0, 109, 180, 0, 122, 92, 46, 4, 100, 79, 42, 180, 0, 42, 42]
abbrev dktX0_hasSums_2 : List UInt8 := dkwX0_hasSums_2 ++ dktX0_hasSums_3
def dkwX0_hasSums_1 : List UInt8 := [167, 255, 236, 3, 60, 27, 42, 180, 0, 233, 162, 0, 65, 42, 180, 0, 42, 42, 180, 0, 18, 42]
abbrev dktX0_hasSums_1 : List UInt8 := dkwX0_hasSums_1 ++ dktX0_hasSums_2
def dkwX0_hasSums_0 : List UInt8 := [3, 60, 27, 16, 8, 162, 0, 20, 42, 180, 0, 42, 27, 42, 27, 182, 0, 205, 79, 132, 1, 1]
abbrev dktX0_hasSums_0 : List UInt8 := dkwX0_hasSums_0 ++ dktX0_hasSums_1
theorem dksX0_hasSums_0 : cX0_hasSums.data.toList.drop 0 = dktX0_hasSums_0 := by decide +kernel
theorem dksX0_hasSums_1 : cX0_hasSums.data.toList.drop 22 = dktX0_hasSums_1 := dk_seg dksX0_hasSums_0 22 rfl rfl
theorem dksX0_hasSums_2 : cX0_hasSums.data.toList.drop 44 = dktX0_hasSums_2 := dk_seg dksX0_hasSums_1 22 rfl rfl
theorem dksX0_hasSums_3 : cX0_hasSums.data.toList.drop 68 = dktX0_hasSums_3 := dk_seg dksX0_hasSums_2 24 rfl rfl
theorem dksX0_hasSums_4 : cX0_hasSums.data.toList.drop 91 = dktX0_hasSums_4 := dk_seg dksX0_hasSums_3 23 rfl rfl
theorem dX0_hasSums_0 : decode cX0_hasSums 0 = .ok (.iconst 0, 1) := dk_3 (dk_at dksX0_hasSums_0 0 rfl rfl)
theorem dX0_hasSums_1 : decode cX0_hasSums 1 = .ok (.istore_n 1, 1) := dk_60 (dk_at dksX0_hasSums_0 1 rfl rfl)
theorem dX0_hasSums_2 : decode cX0_hasSums 2 = .ok (.iload_n 1, 1) := dk_27 (dk_at dksX0_hasSums_0 2 rfl rfl)
theorem dX0_hasSums_3 : decode cX0_hasSums 3 = .ok (.bipush 8, 2) := dk_16 8 (dk_at dksX0_hasSums_0 3 rfl rfl)
theorem dX0_hasSums_5 : decode cX0_hasSums 5 = .ok (.if_icmp .ge 20, 3) := dk_162 0 20 (dk_at dksX0_hasSums_0 5 rfl rfl)
theorem dX0_hasSums_8 : decode cX0_hasSums 8 = .ok (.aload_n 0, 1) := dk_42 (dk_at dksX0_hasSums_0 8 rfl rfl)
theorem dX0_hasSums_9 : decode cX0_hasSums 9 = .ok (.getfield 42, 3) := dk_180 0 42 (dk_at dksX0_hasSums_0 9 rfl rfl)
theorem dX0_hasSums_12 : decode cX0_hasSums 12 = .ok (.iload_n 1, 1) := dk_27 (dk_at dksX0_hasSums_0 12 rfl rfl)
theorem dX0_hasSums_13 : decode cX0_hasSums 13 = .ok (.aload_n 0, 1) := dk_42 (dk_at dksX0_hasSums_0 13 rfl rfl)
theorem dX0_hasSums_14 : decode cX0_hasSums 14 = .ok (.iload_n 1, 1) := dk_27 (dk_at dksX0_hasSums_0 14 rfl rfl)
theorem dX0_hasSums_15 : decode cX0_hasSums 15 = .ok (.invokevirtual 205, 3) := dk_182 0 205 (dk_at dksX0_hasSums_0 15 rfl rfl)
theorem dX0_hasSums_18 : decode cX0_hasSums 18 = .ok (.iastore, 1) := dk_79 (dk_at dksX0_hasSums_0 18 rfl rfl)
theorem dX0_hasSums_19 : decode cX0_hasSums 19 = .ok (.iinc 1 1, 3) := dk_132 1 1 (dk_at dksX0_hasSums_0 19 rfl rfl)
theorem dX0_hasSums_22 : decode cX0_hasSums 22 = .ok (.goto (-20), 3) := dk_167 255 236 (dk_at dksX0_hasSums_1 0 rfl rfl)
theorem dX0_hasSums_25 : decode cX0_hasSums 25 = .ok (.iconst 0, 1) := dk_3 (dk_at dksX0_hasSums_1 3 rfl rfl)
theorem dX0_hasSums_26 : decode cX0_hasSums 26 = .ok (.istore_n 1, 1) := dk_60 (dk_at dksX0_hasSums_1 4 rfl rfl)
theorem dX0_hasSums_27 : decode cX0_hasSums 27 = .ok (.iload_n 1, 1) := dk_27 (dk_at dksX0_hasSums_1 5 rfl rfl)
theorem dX0_hasSums_28 : decode cX0_hasSums 28 = .ok (.aload_n 0, 1) := dk_42 (dk_at dksX0_hasSums_1 6 rfl rfl)
theorem dX0_hasSums_29 : decode cX0_hasSums 29 = .ok (.getfield 233, 3) := dk_180 0 233 (dk_at dksX0_hasSums_1 7 rfl rfl)
theorem dX0_hasSums_32 : decode cX0_hasSums 32 = .ok (.if_icmp .ge 65, 3) := dk_162 0 65 (dk_at dksX0_hasSums_1 10 rfl rfl)
theorem dX0_hasSums_35 : decode cX0_hasSums 35 = .ok (.aload_n 0, 1) := dk_42 (dk_at dksX0_hasSums_1 13 rfl rfl)
theorem dX0_hasSums_36 : decode cX0_hasSums 36 = .ok (.getfield 42, 3) := dk_180 0 42 (dk_at dksX0_hasSums_1 14 rfl rfl)
theorem dX0_hasSums_39 : decode cX0_hasSums 39 = .ok (.aload_n 0, 1) := dk_42 (dk_at dksX0_hasSums_1 17 rfl rfl)
theorem dX0_hasSums_40 : decode cX0_hasSums 40 = .ok (.getfield 18, 3) := dk_180 0 18 (dk_at dksX0_hasSums_1 18 rfl rfl)
theorem dX0_hasSums_43 : decode cX0_hasSums 43 = .ok (.aload_n 0, 1) := dk_42 (dk_at dksX0_hasSums_1 21 rfl rfl)
theorem dX0_hasSums_44 : decode cX0_hasSums 44 = .ok (.getfield 35, 3) := dk_180 0 35 (dk_at dksX0_hasSums_2 0 rfl rfl)
theorem dX0_hasSums_47 : decode cX0_hasSums 47 = .ok (.iload_n 1, 1) := dk_27 (dk_at dksX0_hasSums_2 3 rfl rfl)
theorem dX0_hasSums_48 : decode cX0_hasSums 48 = .ok (.iaload, 1) := dk_46 (dk_at dksX0_hasSums_2 4 rfl rfl)
theorem dX0_hasSums_49 : decode cX0_hasSums 49 = .ok (.invokevirtual 99, 3) := dk_182 0 99 (dk_at dksX0_hasSums_2 5 rfl rfl)
theorem dX0_hasSums_52 : decode cX0_hasSums 52 = .ok (.checkcast 109, 3) := dk_192 0 109 (dk_at dksX0_hasSums_2 8 rfl rfl)
theorem dX0_hasSums_55 : decode cX0_hasSums 55 = .ok (.getfield 122, 3) := dk_180 0 122 (dk_at dksX0_hasSums_2 11 rfl rfl)
theorem dX0_hasSums_58 : decode cX0_hasSums 58 = .ok (.dup2, 1) := dk_92 (dk_at dksX0_hasSums_2 14 rfl rfl)
theorem dX0_hasSums_59 : decode cX0_hasSums 59 = .ok (.iaload, 1) := dk_46 (dk_at dksX0_hasSums_2 15 rfl rfl)
theorem dX0_hasSums_60 : decode cX0_hasSums 60 = .ok (.iconst 1, 1) := dk_4 (dk_at dksX0_hasSums_2 16 rfl rfl)
theorem dX0_hasSums_61 : decode cX0_hasSums 61 = .ok (.isub, 1) := dk_100 (dk_at dksX0_hasSums_2 17 rfl rfl)
theorem dX0_hasSums_62 : decode cX0_hasSums 62 = .ok (.iastore, 1) := dk_79 (dk_at dksX0_hasSums_2 18 rfl rfl)
theorem dX0_hasSums_63 : decode cX0_hasSums 63 = .ok (.aload_n 0, 1) := dk_42 (dk_at dksX0_hasSums_2 19 rfl rfl)
theorem dX0_hasSums_64 : decode cX0_hasSums 64 = .ok (.getfield 42, 3) := dk_180 0 42 (dk_at dksX0_hasSums_2 20 rfl rfl)
theorem dX0_hasSums_67 : decode cX0_hasSums 67 = .ok (.aload_n 0, 1) := dk_42 (dk_at dksX0_hasSums_2 23 rfl rfl)
theorem dX0_hasSums_68 : decode cX0_hasSums 68 = .ok (.getfield 18, 3) := dk_180 0 18 (dk_at dksX0_hasSums_3 0 rfl rfl)
theorem dX0_hasSums_71 : decode cX0_hasSums 71 = .ok (.aload_n 0, 1) := dk_42 (dk_at dksX0_hasSums_3 3 rfl rfl)
theorem dX0_hasSums_72 : decode cX0_hasSums 72 = .ok (.getfield 35, 3) := dk_180 0 35 (dk_at dksX0_hasSums_3 4 rfl rfl)
theorem dX0_hasSums_75 : decode cX0_hasSums 75 = .ok (.iload_n 1, 1) := dk_27 (dk_at dksX0_hasSums_3 7 rfl rfl)
theorem dX0_hasSums_76 : decode cX0_hasSums 76 = .ok (.iaload, 1) := dk_46 (dk_at dksX0_hasSums_3 8 rfl rfl)
theorem dX0_hasSums_77 : decode cX0_hasSums 77 = .ok (.invokevirtual 99, 3) := dk_182 0 99 (dk_at dksX0_hasSums_3 9 rfl rfl)
theorem dX0_hasSums_80 : decode cX0_hasSums 80 = .ok (.checkcast 109, 3) := dk_192 0 109 (dk_at dksX0_hasSums_3 12 rfl rfl)
theorem dX0_hasSums_83 : decode cX0_hasSums 83 = .ok (.getfield 190, 3) := dk_180 0 190 (dk_at dksX0_hasSums_3 15 rfl rfl)
theorem dX0_hasSums_86 : decode cX0_hasSums 86 = .ok (.dup2, 1) := dk_92 (dk_at dksX0_hasSums_3 18 rfl rfl)
theorem dX0_hasSums_87 : decode cX0_hasSums 87 = .ok (.iaload, 1) := dk_46 (dk_at dksX0_hasSums_3 19 rfl rfl)
theorem dX0_hasSums_88 : decode cX0_hasSums 88 = .ok (.iconst 1, 1) := dk_4 (dk_at dksX0_hasSums_3 20 rfl rfl)
theorem dX0_hasSums_89 : decode cX0_hasSums 89 = .ok (.iadd, 1) := dk_96 (dk_at dksX0_hasSums_3 21 rfl rfl)
theorem dX0_hasSums_90 : decode cX0_hasSums 90 = .ok (.iastore, 1) := dk_79 (dk_at dksX0_hasSums_3 22 rfl rfl)
theorem dX0_hasSums_91 : decode cX0_hasSums 91 = .ok (.iinc 1 1, 3) := dk_132 1 1 (dk_at dksX0_hasSums_4 0 rfl rfl)
theorem dX0_hasSums_94 : decode cX0_hasSums 94 = .ok (.goto (-67), 3) := dk_167 255 189 (dk_at dksX0_hasSums_4 3 rfl rfl)
theorem dX0_hasSums_97 : decode cX0_hasSums 97 = .ok (.aload_n 0, 1) := dk_42 (dk_at dksX0_hasSums_4 6 rfl rfl)
theorem dX0_hasSums_98 : decode cX0_hasSums 98 = .ok (.invokevirtual 290, 3) := dk_182 1 34 (dk_at dksX0_hasSums_4 7 rfl rfl)
theorem dX0_hasSums_101 : decode cX0_hasSums 101 = .ok (.ifCond .le 7, 3) := dk_158 0 7 (dk_at dksX0_hasSums_4 10 rfl rfl)
theorem dX0_hasSums_104 : decode cX0_hasSums 104 = .ok (.iconst 1, 1) := dk_4 (dk_at dksX0_hasSums_4 13 rfl rfl)
theorem dX0_hasSums_105 : decode cX0_hasSums 105 = .ok (.goto 4, 3) := dk_167 0 4 (dk_at dksX0_hasSums_4 14 rfl rfl)
theorem dX0_hasSums_108 : decode cX0_hasSums 108 = .ok (.iconst 0, 1) := dk_3 (dk_at dksX0_hasSums_4 17 rfl rfl)
theorem dX0_hasSums_109 : decode cX0_hasSums 109 = .ok (.ireturn, 1) := dk_172 (dk_at dksX0_hasSums_4 18 rfl rfl)
abbrev cX0_countWanted : ByteArray := prog_1_method_45_code
def yX0_countWanted : MethodName := ⟨RX0, "countWanted", "()I"⟩
def dkwX0_countWanted_1 : List UInt8 := [153, 0, 7, 4, 167, 0, 4, 3, 96, 60, 132, 2, 1, 167, 255, 224, 27, 172]
abbrev dktX0_countWanted_1 : List UInt8 := dkwX0_countWanted_1 ++ []
def dkwX0_countWanted_0 : List UInt8 := [3, 60, 3, 61, 28, 4, 42, 180, 0, 12, 182, 0, 89, 120, 162, 0, 25, 27, 42, 28, 182, 1, 31]
abbrev dktX0_countWanted_0 : List UInt8 := dkwX0_countWanted_0 ++ dktX0_countWanted_1
theorem dksX0_countWanted_0 : cX0_countWanted.data.toList.drop 0 = dktX0_countWanted_0 := by decide +kernel
theorem dksX0_countWanted_1 : cX0_countWanted.data.toList.drop 23 = dktX0_countWanted_1 := dk_seg dksX0_countWanted_0 23 rfl rfl
theorem dX0_countWanted_0 : decode cX0_countWanted 0 = .ok (.iconst 0, 1) := dk_3 (dk_at dksX0_countWanted_0 0 rfl rfl)
theorem dX0_countWanted_1 : decode cX0_countWanted 1 = .ok (.istore_n 1, 1) := dk_60 (dk_at dksX0_countWanted_0 1 rfl rfl)
theorem dX0_countWanted_2 : decode cX0_countWanted 2 = .ok (.iconst 0, 1) := dk_3 (dk_at dksX0_countWanted_0 2 rfl rfl)
theorem dX0_countWanted_3 : decode cX0_countWanted 3 = .ok (.istore_n 2, 1) := dk_61 (dk_at dksX0_countWanted_0 3 rfl rfl)
theorem dX0_countWanted_4 : decode cX0_countWanted 4 = .ok (.iload_n 2, 1) := dk_28 (dk_at dksX0_countWanted_0 4 rfl rfl)
theorem dX0_countWanted_5 : decode cX0_countWanted 5 = .ok (.iconst 1, 1) := dk_4 (dk_at dksX0_countWanted_0 5 rfl rfl)
theorem dX0_countWanted_6 : decode cX0_countWanted 6 = .ok (.aload_n 0, 1) := dk_42 (dk_at dksX0_countWanted_0 6 rfl rfl)
theorem dX0_countWanted_7 : decode cX0_countWanted 7 = .ok (.getfield 12, 3) := dk_180 0 12 (dk_at dksX0_countWanted_0 7 rfl rfl)
theorem dX0_countWanted_10 : decode cX0_countWanted 10 = .ok (.invokevirtual 89, 3) := dk_182 0 89 (dk_at dksX0_countWanted_0 10 rfl rfl)
theorem dX0_countWanted_13 : decode cX0_countWanted 13 = .ok (.ishl, 1) := dk_120 (dk_at dksX0_countWanted_0 13 rfl rfl)
theorem dX0_countWanted_14 : decode cX0_countWanted 14 = .ok (.if_icmp .ge 25, 3) := dk_162 0 25 (dk_at dksX0_countWanted_0 14 rfl rfl)
theorem dX0_countWanted_17 : decode cX0_countWanted 17 = .ok (.iload_n 1, 1) := dk_27 (dk_at dksX0_countWanted_0 17 rfl rfl)
theorem dX0_countWanted_18 : decode cX0_countWanted 18 = .ok (.aload_n 0, 1) := dk_42 (dk_at dksX0_countWanted_0 18 rfl rfl)
theorem dX0_countWanted_19 : decode cX0_countWanted 19 = .ok (.iload_n 2, 1) := dk_28 (dk_at dksX0_countWanted_0 19 rfl rfl)
theorem dX0_countWanted_20 : decode cX0_countWanted 20 = .ok (.invokevirtual 287, 3) := dk_182 1 31 (dk_at dksX0_countWanted_0 20 rfl rfl)
theorem dX0_countWanted_23 : decode cX0_countWanted 23 = .ok (.ifCond .eq 7, 3) := dk_153 0 7 (dk_at dksX0_countWanted_1 0 rfl rfl)
theorem dX0_countWanted_26 : decode cX0_countWanted 26 = .ok (.iconst 1, 1) := dk_4 (dk_at dksX0_countWanted_1 3 rfl rfl)
theorem dX0_countWanted_27 : decode cX0_countWanted 27 = .ok (.goto 4, 3) := dk_167 0 4 (dk_at dksX0_countWanted_1 4 rfl rfl)
theorem dX0_countWanted_30 : decode cX0_countWanted 30 = .ok (.iconst 0, 1) := dk_3 (dk_at dksX0_countWanted_1 7 rfl rfl)
theorem dX0_countWanted_31 : decode cX0_countWanted 31 = .ok (.iadd, 1) := dk_96 (dk_at dksX0_countWanted_1 8 rfl rfl)
theorem dX0_countWanted_32 : decode cX0_countWanted 32 = .ok (.istore_n 1, 1) := dk_60 (dk_at dksX0_countWanted_1 9 rfl rfl)
theorem dX0_countWanted_33 : decode cX0_countWanted 33 = .ok (.iinc 2 1, 3) := dk_132 2 1 (dk_at dksX0_countWanted_1 10 rfl rfl)
theorem dX0_countWanted_36 : decode cX0_countWanted 36 = .ok (.goto (-32), 3) := dk_167 255 224 (dk_at dksX0_countWanted_1 13 rfl rfl)
theorem dX0_countWanted_39 : decode cX0_countWanted 39 = .ok (.iload_n 1, 1) := dk_27 (dk_at dksX0_countWanted_1 16 rfl rfl)
theorem dX0_countWanted_40 : decode cX0_countWanted 40 = .ok (.ireturn, 1) := dk_172 (dk_at dksX0_countWanted_1 17 rfl rfl)
abbrev cX0_isWanted : ByteArray := prog_1_method_44_code
def yX0_isWanted : MethodName := ⟨RX0, "isWanted", "(I)Z"⟩
def dkwX0_isWanted_4 : List UInt8 := [160, 0, 7, 4, 167, 0, 4, 3, 61, 132, 3, 1, 167, 255, 222, 28, 172]
abbrev dktX0_isWanted_4 : List UInt8 := dkwX0_isWanted_4 ++ []
def dkwX0_isWanted_3 : List UInt8 := [3, 62, 29, 16, 8, 162, 0, 34, 28, 153, 0, 22, 42, 180, 0, 39, 29, 46, 42, 180, 0, 42, 29, 46]
abbrev dktX0_isWanted_3 : List UInt8 := dkwX0_isWanted_3 ++ dktX0_isWanted_4
def dkwX0_isWanted_2 : List UInt8 := [192, 0, 103, 27, 28, 122, 4, 126, 182, 0, 239, 92, 46, 4, 96, 79, 132, 2, 1, 167, 255, 214, 4, 61]
abbrev dktX0_isWanted_2 : List UInt8 := dkwX0_isWanted_2 ++ dktX0_isWanted_3
def dkwX0_isWanted_1 : List UInt8 := [42, 180, 0, 12, 182, 0, 89, 162, 0, 37, 42, 180, 0, 39, 42, 180, 0, 12, 28, 182, 0, 99]
abbrev dktX0_isWanted_1 : List UInt8 := dkwX0_isWanted_1 ++ dktX0_isWanted_2
def dkwX0_isWanted_0 : List UInt8 := [3, 61, 28, 16, 8, 162, 0, 16, 42, 180, 0, 39, 28, 3, 79, 132, 2, 1, 167, 255, 240, 3, 61, 28]
abbrev dktX0_isWanted_0 : List UInt8 := dkwX0_isWanted_0 ++ dktX0_isWanted_1
theorem dksX0_isWanted_0 : cX0_isWanted.data.toList.drop 0 = dktX0_isWanted_0 := by decide +kernel
theorem dksX0_isWanted_1 : cX0_isWanted.data.toList.drop 24 = dktX0_isWanted_1 := dk_seg dksX0_isWanted_0 24 rfl rfl
theorem dksX0_isWanted_2 : cX0_isWanted.data.toList.drop 46 = dktX0_isWanted_2 := dk_seg dksX0_isWanted_1 22 rfl rfl
theorem dksX0_isWanted_3 : cX0_isWanted.data.toList.drop 70 = dktX0_isWanted_3 := dk_seg dksX0_isWanted_2 24 rfl rfl
theorem dksX0_isWanted_4 : cX0_isWanted.data.toList.drop 94 = dktX0_isWanted_4 := dk_seg dksX0_isWanted_3 24 rfl rfl
theorem dX0_isWanted_0 : decode cX0_isWanted 0 = .ok (.iconst 0, 1) := dk_3 (dk_at dksX0_isWanted_0 0 rfl rfl)
theorem dX0_isWanted_1 : decode cX0_isWanted 1 = .ok (.istore_n 2, 1) := dk_61 (dk_at dksX0_isWanted_0 1 rfl rfl)
theorem dX0_isWanted_2 : decode cX0_isWanted 2 = .ok (.iload_n 2, 1) := dk_28 (dk_at dksX0_isWanted_0 2 rfl rfl)
theorem dX0_isWanted_3 : decode cX0_isWanted 3 = .ok (.bipush 8, 2) := dk_16 8 (dk_at dksX0_isWanted_0 3 rfl rfl)
theorem dX0_isWanted_5 : decode cX0_isWanted 5 = .ok (.if_icmp .ge 16, 3) := dk_162 0 16 (dk_at dksX0_isWanted_0 5 rfl rfl)
theorem dX0_isWanted_8 : decode cX0_isWanted 8 = .ok (.aload_n 0, 1) := dk_42 (dk_at dksX0_isWanted_0 8 rfl rfl)
theorem dX0_isWanted_9 : decode cX0_isWanted 9 = .ok (.getfield 39, 3) := dk_180 0 39 (dk_at dksX0_isWanted_0 9 rfl rfl)
theorem dX0_isWanted_12 : decode cX0_isWanted 12 = .ok (.iload_n 2, 1) := dk_28 (dk_at dksX0_isWanted_0 12 rfl rfl)
theorem dX0_isWanted_13 : decode cX0_isWanted 13 = .ok (.iconst 0, 1) := dk_3 (dk_at dksX0_isWanted_0 13 rfl rfl)
theorem dX0_isWanted_14 : decode cX0_isWanted 14 = .ok (.iastore, 1) := dk_79 (dk_at dksX0_isWanted_0 14 rfl rfl)
theorem dX0_isWanted_15 : decode cX0_isWanted 15 = .ok (.iinc 2 1, 3) := dk_132 2 1 (dk_at dksX0_isWanted_0 15 rfl rfl)
theorem dX0_isWanted_18 : decode cX0_isWanted 18 = .ok (.goto (-16), 3) := dk_167 255 240 (dk_at dksX0_isWanted_0 18 rfl rfl)
theorem dX0_isWanted_21 : decode cX0_isWanted 21 = .ok (.iconst 0, 1) := dk_3 (dk_at dksX0_isWanted_0 21 rfl rfl)
theorem dX0_isWanted_22 : decode cX0_isWanted 22 = .ok (.istore_n 2, 1) := dk_61 (dk_at dksX0_isWanted_0 22 rfl rfl)
theorem dX0_isWanted_23 : decode cX0_isWanted 23 = .ok (.iload_n 2, 1) := dk_28 (dk_at dksX0_isWanted_0 23 rfl rfl)
theorem dX0_isWanted_24 : decode cX0_isWanted 24 = .ok (.aload_n 0, 1) := dk_42 (dk_at dksX0_isWanted_1 0 rfl rfl)
theorem dX0_isWanted_25 : decode cX0_isWanted 25 = .ok (.getfield 12, 3) := dk_180 0 12 (dk_at dksX0_isWanted_1 1 rfl rfl)
theorem dX0_isWanted_28 : decode cX0_isWanted 28 = .ok (.invokevirtual 89, 3) := dk_182 0 89 (dk_at dksX0_isWanted_1 4 rfl rfl)
theorem dX0_isWanted_31 : decode cX0_isWanted 31 = .ok (.if_icmp .ge 37, 3) := dk_162 0 37 (dk_at dksX0_isWanted_1 7 rfl rfl)
theorem dX0_isWanted_34 : decode cX0_isWanted 34 = .ok (.aload_n 0, 1) := dk_42 (dk_at dksX0_isWanted_1 10 rfl rfl)
theorem dX0_isWanted_35 : decode cX0_isWanted 35 = .ok (.getfield 39, 3) := dk_180 0 39 (dk_at dksX0_isWanted_1 11 rfl rfl)
theorem dX0_isWanted_38 : decode cX0_isWanted 38 = .ok (.aload_n 0, 1) := dk_42 (dk_at dksX0_isWanted_1 14 rfl rfl)
theorem dX0_isWanted_39 : decode cX0_isWanted 39 = .ok (.getfield 12, 3) := dk_180 0 12 (dk_at dksX0_isWanted_1 15 rfl rfl)
theorem dX0_isWanted_42 : decode cX0_isWanted 42 = .ok (.iload_n 2, 1) := dk_28 (dk_at dksX0_isWanted_1 18 rfl rfl)
theorem dX0_isWanted_43 : decode cX0_isWanted 43 = .ok (.invokevirtual 99, 3) := dk_182 0 99 (dk_at dksX0_isWanted_1 19 rfl rfl)
theorem dX0_isWanted_46 : decode cX0_isWanted 46 = .ok (.checkcast 103, 3) := dk_192 0 103 (dk_at dksX0_isWanted_2 0 rfl rfl)
theorem dX0_isWanted_49 : decode cX0_isWanted 49 = .ok (.iload_n 1, 1) := dk_27 (dk_at dksX0_isWanted_2 3 rfl rfl)
theorem dX0_isWanted_50 : decode cX0_isWanted 50 = .ok (.iload_n 2, 1) := dk_28 (dk_at dksX0_isWanted_2 4 rfl rfl)
theorem dX0_isWanted_51 : decode cX0_isWanted 51 = .ok (.ishr, 1) := dk_122 (dk_at dksX0_isWanted_2 5 rfl rfl)
theorem dX0_isWanted_52 : decode cX0_isWanted 52 = .ok (.iconst 1, 1) := dk_4 (dk_at dksX0_isWanted_2 6 rfl rfl)
theorem dX0_isWanted_53 : decode cX0_isWanted 53 = .ok (.iand, 1) := dk_126 (dk_at dksX0_isWanted_2 7 rfl rfl)
theorem dX0_isWanted_54 : decode cX0_isWanted 54 = .ok (.invokevirtual 239, 3) := dk_182 0 239 (dk_at dksX0_isWanted_2 8 rfl rfl)
theorem dX0_isWanted_57 : decode cX0_isWanted 57 = .ok (.dup2, 1) := dk_92 (dk_at dksX0_isWanted_2 11 rfl rfl)
theorem dX0_isWanted_58 : decode cX0_isWanted 58 = .ok (.iaload, 1) := dk_46 (dk_at dksX0_isWanted_2 12 rfl rfl)
theorem dX0_isWanted_59 : decode cX0_isWanted 59 = .ok (.iconst 1, 1) := dk_4 (dk_at dksX0_isWanted_2 13 rfl rfl)
theorem dX0_isWanted_60 : decode cX0_isWanted 60 = .ok (.iadd, 1) := dk_96 (dk_at dksX0_isWanted_2 14 rfl rfl)
theorem dX0_isWanted_61 : decode cX0_isWanted 61 = .ok (.iastore, 1) := dk_79 (dk_at dksX0_isWanted_2 15 rfl rfl)
theorem dX0_isWanted_62 : decode cX0_isWanted 62 = .ok (.iinc 2 1, 3) := dk_132 2 1 (dk_at dksX0_isWanted_2 16 rfl rfl)
theorem dX0_isWanted_65 : decode cX0_isWanted 65 = .ok (.goto (-42), 3) := dk_167 255 214 (dk_at dksX0_isWanted_2 19 rfl rfl)
theorem dX0_isWanted_68 : decode cX0_isWanted 68 = .ok (.iconst 1, 1) := dk_4 (dk_at dksX0_isWanted_2 22 rfl rfl)
theorem dX0_isWanted_69 : decode cX0_isWanted 69 = .ok (.istore_n 2, 1) := dk_61 (dk_at dksX0_isWanted_2 23 rfl rfl)
theorem dX0_isWanted_70 : decode cX0_isWanted 70 = .ok (.iconst 0, 1) := dk_3 (dk_at dksX0_isWanted_3 0 rfl rfl)
theorem dX0_isWanted_71 : decode cX0_isWanted 71 = .ok (.istore_n 3, 1) := dk_62 (dk_at dksX0_isWanted_3 1 rfl rfl)
theorem dX0_isWanted_72 : decode cX0_isWanted 72 = .ok (.iload_n 3, 1) := dk_29 (dk_at dksX0_isWanted_3 2 rfl rfl)
theorem dX0_isWanted_73 : decode cX0_isWanted 73 = .ok (.bipush 8, 2) := dk_16 8 (dk_at dksX0_isWanted_3 3 rfl rfl)
theorem dX0_isWanted_75 : decode cX0_isWanted 75 = .ok (.if_icmp .ge 34, 3) := dk_162 0 34 (dk_at dksX0_isWanted_3 5 rfl rfl)
theorem dX0_isWanted_78 : decode cX0_isWanted 78 = .ok (.iload_n 2, 1) := dk_28 (dk_at dksX0_isWanted_3 8 rfl rfl)
theorem dX0_isWanted_79 : decode cX0_isWanted 79 = .ok (.ifCond .eq 22, 3) := dk_153 0 22 (dk_at dksX0_isWanted_3 9 rfl rfl)
theorem dX0_isWanted_82 : decode cX0_isWanted 82 = .ok (.aload_n 0, 1) := dk_42 (dk_at dksX0_isWanted_3 12 rfl rfl)
theorem dX0_isWanted_83 : decode cX0_isWanted 83 = .ok (.getfield 39, 3) := dk_180 0 39 (dk_at dksX0_isWanted_3 13 rfl rfl)
theorem dX0_isWanted_86 : decode cX0_isWanted 86 = .ok (.iload_n 3, 1) := dk_29 (dk_at dksX0_isWanted_3 16 rfl rfl)
theorem dX0_isWanted_87 : decode cX0_isWanted 87 = .ok (.iaload, 1) := dk_46 (dk_at dksX0_isWanted_3 17 rfl rfl)
theorem dX0_isWanted_88 : decode cX0_isWanted 88 = .ok (.aload_n 0, 1) := dk_42 (dk_at dksX0_isWanted_3 18 rfl rfl)
theorem dX0_isWanted_89 : decode cX0_isWanted 89 = .ok (.getfield 42, 3) := dk_180 0 42 (dk_at dksX0_isWanted_3 19 rfl rfl)
theorem dX0_isWanted_92 : decode cX0_isWanted 92 = .ok (.iload_n 3, 1) := dk_29 (dk_at dksX0_isWanted_3 22 rfl rfl)
theorem dX0_isWanted_93 : decode cX0_isWanted 93 = .ok (.iaload, 1) := dk_46 (dk_at dksX0_isWanted_3 23 rfl rfl)
theorem dX0_isWanted_94 : decode cX0_isWanted 94 = .ok (.if_icmp .ne 7, 3) := dk_160 0 7 (dk_at dksX0_isWanted_4 0 rfl rfl)
theorem dX0_isWanted_97 : decode cX0_isWanted 97 = .ok (.iconst 1, 1) := dk_4 (dk_at dksX0_isWanted_4 3 rfl rfl)
theorem dX0_isWanted_98 : decode cX0_isWanted 98 = .ok (.goto 4, 3) := dk_167 0 4 (dk_at dksX0_isWanted_4 4 rfl rfl)
theorem dX0_isWanted_101 : decode cX0_isWanted 101 = .ok (.iconst 0, 1) := dk_3 (dk_at dksX0_isWanted_4 7 rfl rfl)
theorem dX0_isWanted_102 : decode cX0_isWanted 102 = .ok (.istore_n 2, 1) := dk_61 (dk_at dksX0_isWanted_4 8 rfl rfl)
theorem dX0_isWanted_103 : decode cX0_isWanted 103 = .ok (.iinc 3 1, 3) := dk_132 3 1 (dk_at dksX0_isWanted_4 9 rfl rfl)
theorem dX0_isWanted_106 : decode cX0_isWanted 106 = .ok (.goto (-34), 3) := dk_167 255 222 (dk_at dksX0_isWanted_4 12 rfl rfl)
theorem dX0_isWanted_109 : decode cX0_isWanted 109 = .ok (.iload_n 2, 1) := dk_28 (dk_at dksX0_isWanted_4 15 rfl rfl)
theorem dX0_isWanted_110 : decode cX0_isWanted 110 = .ok (.ireturn, 1) := dk_172 (dk_at dksX0_isWanted_4 16 rfl rfl)
abbrev cX0_alike : ByteArray := prog_1_method_49_code
def yX0_alike : MethodName := ⟨RX0, "alike", "()I"⟩
def dkwX0_alike_1 : List UInt8 := [167, 255, 236, 42, 182, 1, 34, 172]
abbrev dktX0_alike_1 : List UInt8 := dkwX0_alike_1 ++ []
def dkwX0_alike_0 : List UInt8 := [3, 60, 27, 16, 8, 162, 0, 20, 42, 180, 0, 42, 27, 42, 27, 182, 0, 205, 79, 132, 1, 1]
abbrev dktX0_alike_0 : List UInt8 := dkwX0_alike_0 ++ dktX0_alike_1
theorem dksX0_alike_0 : cX0_alike.data.toList.drop 0 = dktX0_alike_0 := by decide +kernel
theorem dksX0_alike_1 : cX0_alike.data.toList.drop 22 = dktX0_alike_1 := dk_seg dksX0_alike_0 22 rfl rfl
theorem dX0_alike_0 : decode cX0_alike 0 = .ok (.iconst 0, 1) := dk_3 (dk_at dksX0_alike_0 0 rfl rfl)
theorem dX0_alike_1 : decode cX0_alike 1 = .ok (.istore_n 1, 1) := dk_60 (dk_at dksX0_alike_0 1 rfl rfl)
theorem dX0_alike_2 : decode cX0_alike 2 = .ok (.iload_n 1, 1) := dk_27 (dk_at dksX0_alike_0 2 rfl rfl)
theorem dX0_alike_3 : decode cX0_alike 3 = .ok (.bipush 8, 2) := dk_16 8 (dk_at dksX0_alike_0 3 rfl rfl)
theorem dX0_alike_5 : decode cX0_alike 5 = .ok (.if_icmp .ge 20, 3) := dk_162 0 20 (dk_at dksX0_alike_0 5 rfl rfl)
theorem dX0_alike_8 : decode cX0_alike 8 = .ok (.aload_n 0, 1) := dk_42 (dk_at dksX0_alike_0 8 rfl rfl)
theorem dX0_alike_9 : decode cX0_alike 9 = .ok (.getfield 42, 3) := dk_180 0 42 (dk_at dksX0_alike_0 9 rfl rfl)
theorem dX0_alike_12 : decode cX0_alike 12 = .ok (.iload_n 1, 1) := dk_27 (dk_at dksX0_alike_0 12 rfl rfl)
theorem dX0_alike_13 : decode cX0_alike 13 = .ok (.aload_n 0, 1) := dk_42 (dk_at dksX0_alike_0 13 rfl rfl)
theorem dX0_alike_14 : decode cX0_alike 14 = .ok (.iload_n 1, 1) := dk_27 (dk_at dksX0_alike_0 14 rfl rfl)
theorem dX0_alike_15 : decode cX0_alike 15 = .ok (.invokevirtual 205, 3) := dk_182 0 205 (dk_at dksX0_alike_0 15 rfl rfl)
theorem dX0_alike_18 : decode cX0_alike 18 = .ok (.iastore, 1) := dk_79 (dk_at dksX0_alike_0 18 rfl rfl)
theorem dX0_alike_19 : decode cX0_alike 19 = .ok (.iinc 1 1, 3) := dk_132 1 1 (dk_at dksX0_alike_0 19 rfl rfl)
theorem dX0_alike_22 : decode cX0_alike 22 = .ok (.goto (-20), 3) := dk_167 255 236 (dk_at dksX0_alike_1 0 rfl rfl)
theorem dX0_alike_25 : decode cX0_alike 25 = .ok (.aload_n 0, 1) := dk_42 (dk_at dksX0_alike_1 3 rfl rfl)
theorem dX0_alike_26 : decode cX0_alike 26 = .ok (.invokevirtual 290, 3) := dk_182 1 34 (dk_at dksX0_alike_1 4 rfl rfl)
theorem dX0_alike_29 : decode cX0_alike 29 = .ok (.ireturn, 1) := dk_172 (dk_at dksX0_alike_1 7 rfl rfl)
abbrev cX0_decoys : ByteArray := prog_1_method_51_code
def yX0_decoys : MethodName := ⟨RX0, "decoys", "(I)I"⟩
def dkwX0_decoys_4 : List UInt8 := [167, 255, 194, 16, 254, 172]
abbrev dktX0_decoys_4 : List UInt8 := dkwX0_decoys_4 ++ []
def dkwX0_decoys_3 : List UInt8 := [160, 0, 14, 42, 27, 29, 182, 1, 48, 153, 0, 5, 29, 172, 132, 3, 1, 167, 255, 213, 132, 2, 1]
abbrev dktX0_decoys_3 : List UInt8 := dkwX0_decoys_3 ++ dktX0_decoys_4
def dkwX0_decoys_2 : List UInt8 := [180, 0, 18, 182, 0, 89, 120, 162, 0, 36, 29, 27, 184, 0, 125, 154, 0, 22, 29, 184, 1, 43, 28]
abbrev dktX0_decoys_2 : List UInt8 := dkwX0_decoys_2 ++ dktX0_decoys_3
def dkwX0_decoys_1 : List UInt8 := [154, 0, 5, 2, 172, 3, 61, 28, 42, 180, 0, 18, 182, 0, 89, 162, 0, 57, 3, 62, 29, 4, 42]
abbrev dktX0_decoys_1 : List UInt8 := dkwX0_decoys_1 ++ dktX0_decoys_2
def dkwX0_decoys_0 : List UInt8 := [42, 27, 182, 0, 187, 153, 0, 20, 42, 180, 0, 18, 27, 182, 0, 99, 192, 0, 109, 182, 0, 115]
abbrev dktX0_decoys_0 : List UInt8 := dkwX0_decoys_0 ++ dktX0_decoys_1
theorem dksX0_decoys_0 : cX0_decoys.data.toList.drop 0 = dktX0_decoys_0 := by decide +kernel
theorem dksX0_decoys_1 : cX0_decoys.data.toList.drop 22 = dktX0_decoys_1 := dk_seg dksX0_decoys_0 22 rfl rfl
theorem dksX0_decoys_2 : cX0_decoys.data.toList.drop 45 = dktX0_decoys_2 := dk_seg dksX0_decoys_1 23 rfl rfl
theorem dksX0_decoys_3 : cX0_decoys.data.toList.drop 68 = dktX0_decoys_3 := dk_seg dksX0_decoys_2 23 rfl rfl
theorem dksX0_decoys_4 : cX0_decoys.data.toList.drop 91 = dktX0_decoys_4 := dk_seg dksX0_decoys_3 23 rfl rfl
theorem dX0_decoys_0 : decode cX0_decoys 0 = .ok (.aload_n 0, 1) := dk_42 (dk_at dksX0_decoys_0 0 rfl rfl)
theorem dX0_decoys_1 : decode cX0_decoys 1 = .ok (.iload_n 1, 1) := dk_27 (dk_at dksX0_decoys_0 1 rfl rfl)
theorem dX0_decoys_2 : decode cX0_decoys 2 = .ok (.invokevirtual 187, 3) := dk_182 0 187 (dk_at dksX0_decoys_0 2 rfl rfl)
theorem dX0_decoys_5 : decode cX0_decoys 5 = .ok (.ifCond .eq 20, 3) := dk_153 0 20 (dk_at dksX0_decoys_0 5 rfl rfl)
theorem dX0_decoys_8 : decode cX0_decoys 8 = .ok (.aload_n 0, 1) := dk_42 (dk_at dksX0_decoys_0 8 rfl rfl)
theorem dX0_decoys_9 : decode cX0_decoys 9 = .ok (.getfield 18, 3) := dk_180 0 18 (dk_at dksX0_decoys_0 9 rfl rfl)
theorem dX0_decoys_12 : decode cX0_decoys 12 = .ok (.iload_n 1, 1) := dk_27 (dk_at dksX0_decoys_0 12 rfl rfl)
theorem dX0_decoys_13 : decode cX0_decoys 13 = .ok (.invokevirtual 99, 3) := dk_182 0 99 (dk_at dksX0_decoys_0 13 rfl rfl)
theorem dX0_decoys_16 : decode cX0_decoys 16 = .ok (.checkcast 109, 3) := dk_192 0 109 (dk_at dksX0_decoys_0 16 rfl rfl)
theorem dX0_decoys_19 : decode cX0_decoys 19 = .ok (.invokevirtual 115, 3) := dk_182 0 115 (dk_at dksX0_decoys_0 19 rfl rfl)
theorem dX0_decoys_22 : decode cX0_decoys 22 = .ok (.ifCond .ne 5, 3) := dk_154 0 5 (dk_at dksX0_decoys_1 0 rfl rfl)
theorem dX0_decoys_25 : decode cX0_decoys 25 = .ok (.iconst (-1), 1) := dk_2 (dk_at dksX0_decoys_1 3 rfl rfl)
theorem dX0_decoys_26 : decode cX0_decoys 26 = .ok (.ireturn, 1) := dk_172 (dk_at dksX0_decoys_1 4 rfl rfl)
theorem dX0_decoys_27 : decode cX0_decoys 27 = .ok (.iconst 0, 1) := dk_3 (dk_at dksX0_decoys_1 5 rfl rfl)
theorem dX0_decoys_28 : decode cX0_decoys 28 = .ok (.istore_n 2, 1) := dk_61 (dk_at dksX0_decoys_1 6 rfl rfl)
theorem dX0_decoys_29 : decode cX0_decoys 29 = .ok (.iload_n 2, 1) := dk_28 (dk_at dksX0_decoys_1 7 rfl rfl)
theorem dX0_decoys_30 : decode cX0_decoys 30 = .ok (.aload_n 0, 1) := dk_42 (dk_at dksX0_decoys_1 8 rfl rfl)
theorem dX0_decoys_31 : decode cX0_decoys 31 = .ok (.getfield 18, 3) := dk_180 0 18 (dk_at dksX0_decoys_1 9 rfl rfl)
theorem dX0_decoys_34 : decode cX0_decoys 34 = .ok (.invokevirtual 89, 3) := dk_182 0 89 (dk_at dksX0_decoys_1 12 rfl rfl)
theorem dX0_decoys_37 : decode cX0_decoys 37 = .ok (.if_icmp .ge 57, 3) := dk_162 0 57 (dk_at dksX0_decoys_1 15 rfl rfl)
theorem dX0_decoys_40 : decode cX0_decoys 40 = .ok (.iconst 0, 1) := dk_3 (dk_at dksX0_decoys_1 18 rfl rfl)
theorem dX0_decoys_41 : decode cX0_decoys 41 = .ok (.istore_n 3, 1) := dk_62 (dk_at dksX0_decoys_1 19 rfl rfl)
theorem dX0_decoys_42 : decode cX0_decoys 42 = .ok (.iload_n 3, 1) := dk_29 (dk_at dksX0_decoys_1 20 rfl rfl)
theorem dX0_decoys_43 : decode cX0_decoys 43 = .ok (.iconst 1, 1) := dk_4 (dk_at dksX0_decoys_1 21 rfl rfl)
theorem dX0_decoys_44 : decode cX0_decoys 44 = .ok (.aload_n 0, 1) := dk_42 (dk_at dksX0_decoys_1 22 rfl rfl)
theorem dX0_decoys_45 : decode cX0_decoys 45 = .ok (.getfield 18, 3) := dk_180 0 18 (dk_at dksX0_decoys_2 0 rfl rfl)
theorem dX0_decoys_48 : decode cX0_decoys 48 = .ok (.invokevirtual 89, 3) := dk_182 0 89 (dk_at dksX0_decoys_2 3 rfl rfl)
theorem dX0_decoys_51 : decode cX0_decoys 51 = .ok (.ishl, 1) := dk_120 (dk_at dksX0_decoys_2 6 rfl rfl)
theorem dX0_decoys_52 : decode cX0_decoys 52 = .ok (.if_icmp .ge 36, 3) := dk_162 0 36 (dk_at dksX0_decoys_2 7 rfl rfl)
theorem dX0_decoys_55 : decode cX0_decoys 55 = .ok (.iload_n 3, 1) := dk_29 (dk_at dksX0_decoys_2 10 rfl rfl)
theorem dX0_decoys_56 : decode cX0_decoys 56 = .ok (.iload_n 1, 1) := dk_27 (dk_at dksX0_decoys_2 11 rfl rfl)
theorem dX0_decoys_57 : decode cX0_decoys 57 = .ok (.invokestatic 125, 3) := dk_184 0 125 (dk_at dksX0_decoys_2 12 rfl rfl)
theorem dX0_decoys_60 : decode cX0_decoys 60 = .ok (.ifCond .ne 22, 3) := dk_154 0 22 (dk_at dksX0_decoys_2 15 rfl rfl)
theorem dX0_decoys_63 : decode cX0_decoys 63 = .ok (.iload_n 3, 1) := dk_29 (dk_at dksX0_decoys_2 18 rfl rfl)
theorem dX0_decoys_64 : decode cX0_decoys 64 = .ok (.invokestatic 299, 3) := dk_184 1 43 (dk_at dksX0_decoys_2 19 rfl rfl)
theorem dX0_decoys_67 : decode cX0_decoys 67 = .ok (.iload_n 2, 1) := dk_28 (dk_at dksX0_decoys_2 22 rfl rfl)
theorem dX0_decoys_68 : decode cX0_decoys 68 = .ok (.if_icmp .ne 14, 3) := dk_160 0 14 (dk_at dksX0_decoys_3 0 rfl rfl)
theorem dX0_decoys_71 : decode cX0_decoys 71 = .ok (.aload_n 0, 1) := dk_42 (dk_at dksX0_decoys_3 3 rfl rfl)
theorem dX0_decoys_72 : decode cX0_decoys 72 = .ok (.iload_n 1, 1) := dk_27 (dk_at dksX0_decoys_3 4 rfl rfl)
theorem dX0_decoys_73 : decode cX0_decoys 73 = .ok (.iload_n 3, 1) := dk_29 (dk_at dksX0_decoys_3 5 rfl rfl)
theorem dX0_decoys_74 : decode cX0_decoys 74 = .ok (.invokevirtual 304, 3) := dk_182 1 48 (dk_at dksX0_decoys_3 6 rfl rfl)
theorem dX0_decoys_77 : decode cX0_decoys 77 = .ok (.ifCond .eq 5, 3) := dk_153 0 5 (dk_at dksX0_decoys_3 9 rfl rfl)
theorem dX0_decoys_80 : decode cX0_decoys 80 = .ok (.iload_n 3, 1) := dk_29 (dk_at dksX0_decoys_3 12 rfl rfl)
theorem dX0_decoys_81 : decode cX0_decoys 81 = .ok (.ireturn, 1) := dk_172 (dk_at dksX0_decoys_3 13 rfl rfl)
theorem dX0_decoys_82 : decode cX0_decoys 82 = .ok (.iinc 3 1, 3) := dk_132 3 1 (dk_at dksX0_decoys_3 14 rfl rfl)
theorem dX0_decoys_85 : decode cX0_decoys 85 = .ok (.goto (-43), 3) := dk_167 255 213 (dk_at dksX0_decoys_3 17 rfl rfl)
theorem dX0_decoys_88 : decode cX0_decoys 88 = .ok (.iinc 2 1, 3) := dk_132 2 1 (dk_at dksX0_decoys_3 20 rfl rfl)
theorem dX0_decoys_91 : decode cX0_decoys 91 = .ok (.goto (-62), 3) := dk_167 255 194 (dk_at dksX0_decoys_4 0 rfl rfl)
theorem dX0_decoys_94 : decode cX0_decoys 94 = .ok (.bipush (-2), 2) := dk_16 254 (dk_at dksX0_decoys_4 3 rfl rfl)
theorem dX0_decoys_96 : decode cX0_decoys 96 = .ok (.ireturn, 1) := dk_172 (dk_at dksX0_decoys_4 5 rfl rfl)
abbrev cX0_canCome : ByteArray := prog_1_method_50_code
def yX0_canCome : MethodName := ⟨RX0, "canCome", "(II)Z"⟩
def dkwX0_canCome_4 : List UInt8 := [167, 255, 203, 21, 4, 172]
abbrev dktX0_canCome_4 : List UInt8 := dkwX0_canCome_4 ++ []
def dkwX0_canCome_3 : List UInt8 := [27, 182, 0, 99, 192, 0, 109, 180, 0, 190, 160, 0, 7, 4, 167, 0, 4, 3, 54, 4, 132, 5, 1]
abbrev dktX0_canCome_3 : List UInt8 := dkwX0_canCome_3 ++ dktX0_canCome_4
def dkwX0_canCome_2 : List UInt8 := [162, 0, 50, 21, 4, 154, 0, 45, 42, 42, 180, 0, 250, 21, 5, 46, 29, 182, 0, 241, 42, 180, 0, 18]
abbrev dktX0_canCome_2 : List UInt8 := dkwX0_canCome_2 ++ dktX0_canCome_3
def dkwX0_canCome_1 : List UInt8 := [29, 46, 27, 159, 0, 9, 132, 3, 1, 167, 255, 243, 3, 54, 4, 3, 54, 5, 21, 5, 42, 180, 0, 253]
abbrev dktX0_canCome_1 : List UInt8 := dkwX0_canCome_1 ++ dktX0_canCome_2
def dkwX0_canCome_0 : List UInt8 := [42, 28, 4, 27, 120, 128, 182, 1, 17, 154, 0, 5, 3, 172, 42, 182, 1, 28, 3, 62, 42, 180, 0, 35]
abbrev dktX0_canCome_0 : List UInt8 := dkwX0_canCome_0 ++ dktX0_canCome_1
theorem dksX0_canCome_0 : cX0_canCome.data.toList.drop 0 = dktX0_canCome_0 := by decide +kernel
theorem dksX0_canCome_1 : cX0_canCome.data.toList.drop 24 = dktX0_canCome_1 := dk_seg dksX0_canCome_0 24 rfl rfl
theorem dksX0_canCome_2 : cX0_canCome.data.toList.drop 48 = dktX0_canCome_2 := dk_seg dksX0_canCome_1 24 rfl rfl
theorem dksX0_canCome_3 : cX0_canCome.data.toList.drop 72 = dktX0_canCome_3 := dk_seg dksX0_canCome_2 24 rfl rfl
theorem dksX0_canCome_4 : cX0_canCome.data.toList.drop 95 = dktX0_canCome_4 := dk_seg dksX0_canCome_3 23 rfl rfl
theorem dX0_canCome_0 : decode cX0_canCome 0 = .ok (.aload_n 0, 1) := dk_42 (dk_at dksX0_canCome_0 0 rfl rfl)
theorem dX0_canCome_1 : decode cX0_canCome 1 = .ok (.iload_n 2, 1) := dk_28 (dk_at dksX0_canCome_0 1 rfl rfl)
theorem dX0_canCome_2 : decode cX0_canCome 2 = .ok (.iconst 1, 1) := dk_4 (dk_at dksX0_canCome_0 2 rfl rfl)
theorem dX0_canCome_3 : decode cX0_canCome 3 = .ok (.iload_n 1, 1) := dk_27 (dk_at dksX0_canCome_0 3 rfl rfl)
theorem dX0_canCome_4 : decode cX0_canCome 4 = .ok (.ishl, 1) := dk_120 (dk_at dksX0_canCome_0 4 rfl rfl)
theorem dX0_canCome_5 : decode cX0_canCome 5 = .ok (.ior, 1) := dk_128 (dk_at dksX0_canCome_0 5 rfl rfl)
theorem dX0_canCome_6 : decode cX0_canCome 6 = .ok (.invokevirtual 273, 3) := dk_182 1 17 (dk_at dksX0_canCome_0 6 rfl rfl)
theorem dX0_canCome_9 : decode cX0_canCome 9 = .ok (.ifCond .ne 5, 3) := dk_154 0 5 (dk_at dksX0_canCome_0 9 rfl rfl)
theorem dX0_canCome_12 : decode cX0_canCome 12 = .ok (.iconst 0, 1) := dk_3 (dk_at dksX0_canCome_0 12 rfl rfl)
theorem dX0_canCome_13 : decode cX0_canCome 13 = .ok (.ireturn, 1) := dk_172 (dk_at dksX0_canCome_0 13 rfl rfl)
theorem dX0_canCome_14 : decode cX0_canCome 14 = .ok (.aload_n 0, 1) := dk_42 (dk_at dksX0_canCome_0 14 rfl rfl)
theorem dX0_canCome_15 : decode cX0_canCome 15 = .ok (.invokevirtual 284, 3) := dk_182 1 28 (dk_at dksX0_canCome_0 15 rfl rfl)
theorem dX0_canCome_18 : decode cX0_canCome 18 = .ok (.iconst 0, 1) := dk_3 (dk_at dksX0_canCome_0 18 rfl rfl)
theorem dX0_canCome_19 : decode cX0_canCome 19 = .ok (.istore_n 3, 1) := dk_62 (dk_at dksX0_canCome_0 19 rfl rfl)
theorem dX0_canCome_20 : decode cX0_canCome 20 = .ok (.aload_n 0, 1) := dk_42 (dk_at dksX0_canCome_0 20 rfl rfl)
theorem dX0_canCome_21 : decode cX0_canCome 21 = .ok (.getfield 35, 3) := dk_180 0 35 (dk_at dksX0_canCome_0 21 rfl rfl)
theorem dX0_canCome_24 : decode cX0_canCome 24 = .ok (.iload_n 3, 1) := dk_29 (dk_at dksX0_canCome_1 0 rfl rfl)
theorem dX0_canCome_25 : decode cX0_canCome 25 = .ok (.iaload, 1) := dk_46 (dk_at dksX0_canCome_1 1 rfl rfl)
theorem dX0_canCome_26 : decode cX0_canCome 26 = .ok (.iload_n 1, 1) := dk_27 (dk_at dksX0_canCome_1 2 rfl rfl)
theorem dX0_canCome_27 : decode cX0_canCome 27 = .ok (.if_icmp .eq 9, 3) := dk_159 0 9 (dk_at dksX0_canCome_1 3 rfl rfl)
theorem dX0_canCome_30 : decode cX0_canCome 30 = .ok (.iinc 3 1, 3) := dk_132 3 1 (dk_at dksX0_canCome_1 6 rfl rfl)
theorem dX0_canCome_33 : decode cX0_canCome 33 = .ok (.goto (-13), 3) := dk_167 255 243 (dk_at dksX0_canCome_1 9 rfl rfl)
theorem dX0_canCome_36 : decode cX0_canCome 36 = .ok (.iconst 0, 1) := dk_3 (dk_at dksX0_canCome_1 12 rfl rfl)
theorem dX0_canCome_37 : decode cX0_canCome 37 = .ok (.istore 4, 2) := dk_54 4 (dk_at dksX0_canCome_1 13 rfl rfl)
theorem dX0_canCome_39 : decode cX0_canCome 39 = .ok (.iconst 0, 1) := dk_3 (dk_at dksX0_canCome_1 15 rfl rfl)
theorem dX0_canCome_40 : decode cX0_canCome 40 = .ok (.istore 5, 2) := dk_54 5 (dk_at dksX0_canCome_1 16 rfl rfl)
theorem dX0_canCome_42 : decode cX0_canCome 42 = .ok (.iload 5, 2) := dk_21 5 (dk_at dksX0_canCome_1 18 rfl rfl)
theorem dX0_canCome_44 : decode cX0_canCome 44 = .ok (.aload_n 0, 1) := dk_42 (dk_at dksX0_canCome_1 20 rfl rfl)
theorem dX0_canCome_45 : decode cX0_canCome 45 = .ok (.getfield 253, 3) := dk_180 0 253 (dk_at dksX0_canCome_1 21 rfl rfl)
theorem dX0_canCome_48 : decode cX0_canCome 48 = .ok (.if_icmp .ge 50, 3) := dk_162 0 50 (dk_at dksX0_canCome_2 0 rfl rfl)
theorem dX0_canCome_51 : decode cX0_canCome 51 = .ok (.iload 4, 2) := dk_21 4 (dk_at dksX0_canCome_2 3 rfl rfl)
theorem dX0_canCome_53 : decode cX0_canCome 53 = .ok (.ifCond .ne 45, 3) := dk_154 0 45 (dk_at dksX0_canCome_2 5 rfl rfl)
theorem dX0_canCome_56 : decode cX0_canCome 56 = .ok (.aload_n 0, 1) := dk_42 (dk_at dksX0_canCome_2 8 rfl rfl)
theorem dX0_canCome_57 : decode cX0_canCome 57 = .ok (.aload_n 0, 1) := dk_42 (dk_at dksX0_canCome_2 9 rfl rfl)
theorem dX0_canCome_58 : decode cX0_canCome 58 = .ok (.getfield 250, 3) := dk_180 0 250 (dk_at dksX0_canCome_2 10 rfl rfl)
theorem dX0_canCome_61 : decode cX0_canCome 61 = .ok (.iload 5, 2) := dk_21 5 (dk_at dksX0_canCome_2 13 rfl rfl)
theorem dX0_canCome_63 : decode cX0_canCome 63 = .ok (.iaload, 1) := dk_46 (dk_at dksX0_canCome_2 15 rfl rfl)
theorem dX0_canCome_64 : decode cX0_canCome 64 = .ok (.iload_n 3, 1) := dk_29 (dk_at dksX0_canCome_2 16 rfl rfl)
theorem dX0_canCome_65 : decode cX0_canCome 65 = .ok (.invokevirtual 241, 3) := dk_182 0 241 (dk_at dksX0_canCome_2 17 rfl rfl)
theorem dX0_canCome_68 : decode cX0_canCome 68 = .ok (.aload_n 0, 1) := dk_42 (dk_at dksX0_canCome_2 20 rfl rfl)
theorem dX0_canCome_69 : decode cX0_canCome 69 = .ok (.getfield 18, 3) := dk_180 0 18 (dk_at dksX0_canCome_2 21 rfl rfl)
theorem dX0_canCome_72 : decode cX0_canCome 72 = .ok (.iload_n 1, 1) := dk_27 (dk_at dksX0_canCome_3 0 rfl rfl)
theorem dX0_canCome_73 : decode cX0_canCome 73 = .ok (.invokevirtual 99, 3) := dk_182 0 99 (dk_at dksX0_canCome_3 1 rfl rfl)
theorem dX0_canCome_76 : decode cX0_canCome 76 = .ok (.checkcast 109, 3) := dk_192 0 109 (dk_at dksX0_canCome_3 4 rfl rfl)
theorem dX0_canCome_79 : decode cX0_canCome 79 = .ok (.getfield 190, 3) := dk_180 0 190 (dk_at dksX0_canCome_3 7 rfl rfl)
theorem dX0_canCome_82 : decode cX0_canCome 82 = .ok (.if_icmp .ne 7, 3) := dk_160 0 7 (dk_at dksX0_canCome_3 10 rfl rfl)
theorem dX0_canCome_85 : decode cX0_canCome 85 = .ok (.iconst 1, 1) := dk_4 (dk_at dksX0_canCome_3 13 rfl rfl)
theorem dX0_canCome_86 : decode cX0_canCome 86 = .ok (.goto 4, 3) := dk_167 0 4 (dk_at dksX0_canCome_3 14 rfl rfl)
theorem dX0_canCome_89 : decode cX0_canCome 89 = .ok (.iconst 0, 1) := dk_3 (dk_at dksX0_canCome_3 17 rfl rfl)
theorem dX0_canCome_90 : decode cX0_canCome 90 = .ok (.istore 4, 2) := dk_54 4 (dk_at dksX0_canCome_3 18 rfl rfl)
theorem dX0_canCome_92 : decode cX0_canCome 92 = .ok (.iinc 5 1, 3) := dk_132 5 1 (dk_at dksX0_canCome_3 20 rfl rfl)
theorem dX0_canCome_95 : decode cX0_canCome 95 = .ok (.goto (-53), 3) := dk_167 255 203 (dk_at dksX0_canCome_4 0 rfl rfl)
theorem dX0_canCome_98 : decode cX0_canCome 98 = .ok (.iload 4, 2) := dk_21 4 (dk_at dksX0_canCome_4 3 rfl rfl)
theorem dX0_canCome_100 : decode cX0_canCome 100 = .ok (.ireturn, 1) := dk_172 (dk_at dksX0_canCome_4 5 rfl rfl)
abbrev cX0_post : ByteArray := prog_1_method_52_code
def yX0_post : MethodName := ⟨RX0, "post", "(IIZ)I"⟩
def dkwX0_post_12 : List UInt8 := [16, 254, 172]
abbrev dktX0_post_12 : List UInt8 := dkwX0_post_12 ++ []
def dkwX0_post_11 : List UInt8 := [180, 0, 250, 21, 6, 46, 46, 4, 96, 182, 1, 4, 132, 9, 1, 167, 255, 186, 132, 6, 1, 167, 255, 105]
abbrev dktX0_post_11 : List UInt8 := dkwX0_post_11 ++ dktX0_post_12
def dkwX0_post_10 : List UInt8 := [21, 8, 4, 42, 21, 10, 3, 182, 0, 241, 120, 28, 126, 128, 21, 5, 120, 128, 42, 180, 0, 246, 42]
abbrev dktX0_post_10 : List UInt8 := dkwX0_post_10 ++ dktX0_post_11
def dkwX0_post_9 : List UInt8 := [162, 0, 64, 42, 21, 7, 3, 21, 9, 182, 1, 0, 54, 10, 21, 10, 2, 159, 0, 41, 42, 21, 10]
abbrev dktX0_post_9 : List UInt8 := dkwX0_post_9 ++ dktX0_post_10
def dkwX0_post_8 : List UInt8 := [180, 0, 246, 42, 180, 0, 250, 21, 6, 46, 46, 172, 3, 54, 9, 21, 9, 42, 180, 0, 12, 182, 0, 89]
abbrev dktX0_post_8 : List UInt8 := dkwX0_post_8 ++ dktX0_post_9
def dkwX0_post_7 : List UInt8 := [21, 8, 28, 160, 0, 32, 29, 153, 0, 15, 42, 21, 7, 3, 182, 0, 241, 21, 4, 160, 0, 16, 42]
abbrev dktX0_post_7 : List UInt8 := dkwX0_post_7 ++ dktX0_post_8
def dkwX0_post_6 : List UInt8 := [21, 6, 46, 4, 21, 5, 120, 4, 100, 126, 54, 7, 42, 180, 0, 250, 21, 6, 46, 21, 5, 122, 54, 8]
abbrev dktX0_post_6 : List UInt8 := dkwX0_post_6 ++ dktX0_post_7
def dkwX0_post_5 : List UInt8 := [21, 5, 120, 128, 3, 182, 1, 4, 3, 54, 6, 21, 6, 42, 180, 0, 253, 162, 0, 148, 42, 180, 0, 250]
abbrev dktX0_post_5 : List UInt8 := dkwX0_post_5 ++ dktX0_post_6
def dkwX0_post_4 : List UInt8 := [2, 79, 132, 6, 1, 167, 255, 233, 42, 3, 181, 0, 253, 42, 42, 182, 1, 14, 4, 21, 4, 120, 28, 126]
abbrev dktX0_post_4 : List UInt8 := dkwX0_post_4 ++ dktX0_post_5
def dkwX0_post_3 : List UInt8 := [182, 1, 8, 3, 54, 6, 21, 6, 4, 21, 5, 16, 8, 96, 120, 162, 0, 17, 42, 180, 0, 246, 21, 6]
abbrev dktX0_post_3 : List UInt8 := dkwX0_post_3 ++ dktX0_post_4
def dkwX0_post_2 : List UInt8 := [27, 182, 0, 99, 192, 0, 109, 180, 0, 122, 54, 4, 42, 180, 0, 12, 182, 0, 89, 6, 96, 54, 5, 42]
abbrev dktX0_post_2 : List UInt8 := dkwX0_post_2 ++ dktX0_post_3
def dkwX0_post_1 : List UInt8 := [182, 0, 89, 16, 9, 163, 0, 13, 42, 4, 27, 120, 182, 1, 17, 154, 0, 5, 2, 172, 42, 180, 0, 18]
abbrev dktX0_post_1 : List UInt8 := dkwX0_post_1 ++ dktX0_post_2
def dkwX0_post_0 : List UInt8 := [42, 27, 182, 0, 187, 153, 0, 37, 28, 133, 9, 20, 1, 51, 184, 0, 93, 153, 0, 25, 42, 180, 0, 12]
abbrev dktX0_post_0 : List UInt8 := dkwX0_post_0 ++ dktX0_post_1
theorem dksX0_post_0 : cX0_post.data.toList.drop 0 = dktX0_post_0 := by decide +kernel
theorem dksX0_post_1 : cX0_post.data.toList.drop 24 = dktX0_post_1 := dk_seg dksX0_post_0 24 rfl rfl
theorem dksX0_post_2 : cX0_post.data.toList.drop 48 = dktX0_post_2 := dk_seg dksX0_post_1 24 rfl rfl
theorem dksX0_post_3 : cX0_post.data.toList.drop 72 = dktX0_post_3 := dk_seg dksX0_post_2 24 rfl rfl
theorem dksX0_post_4 : cX0_post.data.toList.drop 96 = dktX0_post_4 := dk_seg dksX0_post_3 24 rfl rfl
theorem dksX0_post_5 : cX0_post.data.toList.drop 120 = dktX0_post_5 := dk_seg dksX0_post_4 24 rfl rfl
theorem dksX0_post_6 : cX0_post.data.toList.drop 144 = dktX0_post_6 := dk_seg dksX0_post_5 24 rfl rfl
theorem dksX0_post_7 : cX0_post.data.toList.drop 168 = dktX0_post_7 := dk_seg dksX0_post_6 24 rfl rfl
theorem dksX0_post_8 : cX0_post.data.toList.drop 191 = dktX0_post_8 := dk_seg dksX0_post_7 23 rfl rfl
theorem dksX0_post_9 : cX0_post.data.toList.drop 215 = dktX0_post_9 := dk_seg dksX0_post_8 24 rfl rfl
theorem dksX0_post_10 : cX0_post.data.toList.drop 238 = dktX0_post_10 := dk_seg dksX0_post_9 23 rfl rfl
theorem dksX0_post_11 : cX0_post.data.toList.drop 261 = dktX0_post_11 := dk_seg dksX0_post_10 23 rfl rfl
theorem dksX0_post_12 : cX0_post.data.toList.drop 285 = dktX0_post_12 := dk_seg dksX0_post_11 24 rfl rfl
theorem dX0_post_0 : decode cX0_post 0 = .ok (.aload_n 0, 1) := dk_42 (dk_at dksX0_post_0 0 rfl rfl)
theorem dX0_post_1 : decode cX0_post 1 = .ok (.iload_n 1, 1) := dk_27 (dk_at dksX0_post_0 1 rfl rfl)
theorem dX0_post_2 : decode cX0_post 2 = .ok (.invokevirtual 187, 3) := dk_182 0 187 (dk_at dksX0_post_0 2 rfl rfl)
theorem dX0_post_5 : decode cX0_post 5 = .ok (.ifCond .eq 37, 3) := dk_153 0 37 (dk_at dksX0_post_0 5 rfl rfl)
theorem dX0_post_8 : decode cX0_post 8 = .ok (.iload_n 2, 1) := dk_28 (dk_at dksX0_post_0 8 rfl rfl)
theorem dX0_post_9 : decode cX0_post 9 = .ok (.i2l, 1) := dk_133 (dk_at dksX0_post_0 9 rfl rfl)
theorem dX0_post_10 : decode cX0_post 10 = .ok (.lconst 0, 1) := dk_9 (dk_at dksX0_post_0 10 rfl rfl)
theorem dX0_post_11 : decode cX0_post 11 = .ok (.ldc2_w 307, 3) := dk_20 1 51 (dk_at dksX0_post_0 11 rfl rfl)
theorem dX0_post_14 : decode cX0_post 14 = .ok (.invokestatic 93, 3) := dk_184 0 93 (dk_at dksX0_post_0 14 rfl rfl)
theorem dX0_post_17 : decode cX0_post 17 = .ok (.ifCond .eq 25, 3) := dk_153 0 25 (dk_at dksX0_post_0 17 rfl rfl)
theorem dX0_post_20 : decode cX0_post 20 = .ok (.aload_n 0, 1) := dk_42 (dk_at dksX0_post_0 20 rfl rfl)
theorem dX0_post_21 : decode cX0_post 21 = .ok (.getfield 12, 3) := dk_180 0 12 (dk_at dksX0_post_0 21 rfl rfl)
theorem dX0_post_24 : decode cX0_post 24 = .ok (.invokevirtual 89, 3) := dk_182 0 89 (dk_at dksX0_post_1 0 rfl rfl)
theorem dX0_post_27 : decode cX0_post 27 = .ok (.bipush 9, 2) := dk_16 9 (dk_at dksX0_post_1 3 rfl rfl)
theorem dX0_post_29 : decode cX0_post 29 = .ok (.if_icmp .gt 13, 3) := dk_163 0 13 (dk_at dksX0_post_1 5 rfl rfl)
theorem dX0_post_32 : decode cX0_post 32 = .ok (.aload_n 0, 1) := dk_42 (dk_at dksX0_post_1 8 rfl rfl)
theorem dX0_post_33 : decode cX0_post 33 = .ok (.iconst 1, 1) := dk_4 (dk_at dksX0_post_1 9 rfl rfl)
theorem dX0_post_34 : decode cX0_post 34 = .ok (.iload_n 1, 1) := dk_27 (dk_at dksX0_post_1 10 rfl rfl)
theorem dX0_post_35 : decode cX0_post 35 = .ok (.ishl, 1) := dk_120 (dk_at dksX0_post_1 11 rfl rfl)
theorem dX0_post_36 : decode cX0_post 36 = .ok (.invokevirtual 273, 3) := dk_182 1 17 (dk_at dksX0_post_1 12 rfl rfl)
theorem dX0_post_39 : decode cX0_post 39 = .ok (.ifCond .ne 5, 3) := dk_154 0 5 (dk_at dksX0_post_1 15 rfl rfl)
theorem dX0_post_42 : decode cX0_post 42 = .ok (.iconst (-1), 1) := dk_2 (dk_at dksX0_post_1 18 rfl rfl)
theorem dX0_post_43 : decode cX0_post 43 = .ok (.ireturn, 1) := dk_172 (dk_at dksX0_post_1 19 rfl rfl)
theorem dX0_post_44 : decode cX0_post 44 = .ok (.aload_n 0, 1) := dk_42 (dk_at dksX0_post_1 20 rfl rfl)
theorem dX0_post_45 : decode cX0_post 45 = .ok (.getfield 18, 3) := dk_180 0 18 (dk_at dksX0_post_1 21 rfl rfl)
theorem dX0_post_48 : decode cX0_post 48 = .ok (.iload_n 1, 1) := dk_27 (dk_at dksX0_post_2 0 rfl rfl)
theorem dX0_post_49 : decode cX0_post 49 = .ok (.invokevirtual 99, 3) := dk_182 0 99 (dk_at dksX0_post_2 1 rfl rfl)
theorem dX0_post_52 : decode cX0_post 52 = .ok (.checkcast 109, 3) := dk_192 0 109 (dk_at dksX0_post_2 4 rfl rfl)
theorem dX0_post_55 : decode cX0_post 55 = .ok (.getfield 122, 3) := dk_180 0 122 (dk_at dksX0_post_2 7 rfl rfl)
theorem dX0_post_58 : decode cX0_post 58 = .ok (.istore 4, 2) := dk_54 4 (dk_at dksX0_post_2 10 rfl rfl)
theorem dX0_post_60 : decode cX0_post 60 = .ok (.aload_n 0, 1) := dk_42 (dk_at dksX0_post_2 12 rfl rfl)
theorem dX0_post_61 : decode cX0_post 61 = .ok (.getfield 12, 3) := dk_180 0 12 (dk_at dksX0_post_2 13 rfl rfl)
theorem dX0_post_64 : decode cX0_post 64 = .ok (.invokevirtual 89, 3) := dk_182 0 89 (dk_at dksX0_post_2 16 rfl rfl)
theorem dX0_post_67 : decode cX0_post 67 = .ok (.iconst 3, 1) := dk_6 (dk_at dksX0_post_2 19 rfl rfl)
theorem dX0_post_68 : decode cX0_post 68 = .ok (.iadd, 1) := dk_96 (dk_at dksX0_post_2 20 rfl rfl)
theorem dX0_post_69 : decode cX0_post 69 = .ok (.istore 5, 2) := dk_54 5 (dk_at dksX0_post_2 21 rfl rfl)
theorem dX0_post_71 : decode cX0_post 71 = .ok (.aload_n 0, 1) := dk_42 (dk_at dksX0_post_2 23 rfl rfl)
theorem dX0_post_72 : decode cX0_post 72 = .ok (.invokevirtual 264, 3) := dk_182 1 8 (dk_at dksX0_post_3 0 rfl rfl)
theorem dX0_post_75 : decode cX0_post 75 = .ok (.iconst 0, 1) := dk_3 (dk_at dksX0_post_3 3 rfl rfl)
theorem dX0_post_76 : decode cX0_post 76 = .ok (.istore 6, 2) := dk_54 6 (dk_at dksX0_post_3 4 rfl rfl)
theorem dX0_post_78 : decode cX0_post 78 = .ok (.iload 6, 2) := dk_21 6 (dk_at dksX0_post_3 6 rfl rfl)
theorem dX0_post_80 : decode cX0_post 80 = .ok (.iconst 1, 1) := dk_4 (dk_at dksX0_post_3 8 rfl rfl)
theorem dX0_post_81 : decode cX0_post 81 = .ok (.iload 5, 2) := dk_21 5 (dk_at dksX0_post_3 9 rfl rfl)
theorem dX0_post_83 : decode cX0_post 83 = .ok (.bipush 8, 2) := dk_16 8 (dk_at dksX0_post_3 11 rfl rfl)
theorem dX0_post_85 : decode cX0_post 85 = .ok (.iadd, 1) := dk_96 (dk_at dksX0_post_3 13 rfl rfl)
theorem dX0_post_86 : decode cX0_post 86 = .ok (.ishl, 1) := dk_120 (dk_at dksX0_post_3 14 rfl rfl)
theorem dX0_post_87 : decode cX0_post 87 = .ok (.if_icmp .ge 17, 3) := dk_162 0 17 (dk_at dksX0_post_3 15 rfl rfl)
theorem dX0_post_90 : decode cX0_post 90 = .ok (.aload_n 0, 1) := dk_42 (dk_at dksX0_post_3 18 rfl rfl)
theorem dX0_post_91 : decode cX0_post 91 = .ok (.getfield 246, 3) := dk_180 0 246 (dk_at dksX0_post_3 19 rfl rfl)
theorem dX0_post_94 : decode cX0_post 94 = .ok (.iload 6, 2) := dk_21 6 (dk_at dksX0_post_3 22 rfl rfl)
theorem dX0_post_96 : decode cX0_post 96 = .ok (.iconst (-1), 1) := dk_2 (dk_at dksX0_post_4 0 rfl rfl)
theorem dX0_post_97 : decode cX0_post 97 = .ok (.iastore, 1) := dk_79 (dk_at dksX0_post_4 1 rfl rfl)
theorem dX0_post_98 : decode cX0_post 98 = .ok (.iinc 6 1, 3) := dk_132 6 1 (dk_at dksX0_post_4 2 rfl rfl)
theorem dX0_post_101 : decode cX0_post 101 = .ok (.goto (-23), 3) := dk_167 255 233 (dk_at dksX0_post_4 5 rfl rfl)
theorem dX0_post_104 : decode cX0_post 104 = .ok (.aload_n 0, 1) := dk_42 (dk_at dksX0_post_4 8 rfl rfl)
theorem dX0_post_105 : decode cX0_post 105 = .ok (.iconst 0, 1) := dk_3 (dk_at dksX0_post_4 9 rfl rfl)
theorem dX0_post_106 : decode cX0_post 106 = .ok (.putfield 253, 3) := dk_181 0 253 (dk_at dksX0_post_4 10 rfl rfl)
theorem dX0_post_109 : decode cX0_post 109 = .ok (.aload_n 0, 1) := dk_42 (dk_at dksX0_post_4 13 rfl rfl)
theorem dX0_post_110 : decode cX0_post 110 = .ok (.aload_n 0, 1) := dk_42 (dk_at dksX0_post_4 14 rfl rfl)
theorem dX0_post_111 : decode cX0_post 111 = .ok (.invokevirtual 270, 3) := dk_182 1 14 (dk_at dksX0_post_4 15 rfl rfl)
theorem dX0_post_114 : decode cX0_post 114 = .ok (.iconst 1, 1) := dk_4 (dk_at dksX0_post_4 18 rfl rfl)
theorem dX0_post_115 : decode cX0_post 115 = .ok (.iload 4, 2) := dk_21 4 (dk_at dksX0_post_4 19 rfl rfl)
theorem dX0_post_117 : decode cX0_post 117 = .ok (.ishl, 1) := dk_120 (dk_at dksX0_post_4 21 rfl rfl)
theorem dX0_post_118 : decode cX0_post 118 = .ok (.iload_n 2, 1) := dk_28 (dk_at dksX0_post_4 22 rfl rfl)
theorem dX0_post_119 : decode cX0_post 119 = .ok (.iand, 1) := dk_126 (dk_at dksX0_post_4 23 rfl rfl)
theorem dX0_post_120 : decode cX0_post 120 = .ok (.iload 5, 2) := dk_21 5 (dk_at dksX0_post_5 0 rfl rfl)
theorem dX0_post_122 : decode cX0_post 122 = .ok (.ishl, 1) := dk_120 (dk_at dksX0_post_5 2 rfl rfl)
theorem dX0_post_123 : decode cX0_post 123 = .ok (.ior, 1) := dk_128 (dk_at dksX0_post_5 3 rfl rfl)
theorem dX0_post_124 : decode cX0_post 124 = .ok (.iconst 0, 1) := dk_3 (dk_at dksX0_post_5 4 rfl rfl)
theorem dX0_post_125 : decode cX0_post 125 = .ok (.invokevirtual 260, 3) := dk_182 1 4 (dk_at dksX0_post_5 5 rfl rfl)
theorem dX0_post_128 : decode cX0_post 128 = .ok (.iconst 0, 1) := dk_3 (dk_at dksX0_post_5 8 rfl rfl)
theorem dX0_post_129 : decode cX0_post 129 = .ok (.istore 6, 2) := dk_54 6 (dk_at dksX0_post_5 9 rfl rfl)
theorem dX0_post_131 : decode cX0_post 131 = .ok (.iload 6, 2) := dk_21 6 (dk_at dksX0_post_5 11 rfl rfl)
theorem dX0_post_133 : decode cX0_post 133 = .ok (.aload_n 0, 1) := dk_42 (dk_at dksX0_post_5 13 rfl rfl)
theorem dX0_post_134 : decode cX0_post 134 = .ok (.getfield 253, 3) := dk_180 0 253 (dk_at dksX0_post_5 14 rfl rfl)
theorem dX0_post_137 : decode cX0_post 137 = .ok (.if_icmp .ge 148, 3) := dk_162 0 148 (dk_at dksX0_post_5 17 rfl rfl)
theorem dX0_post_140 : decode cX0_post 140 = .ok (.aload_n 0, 1) := dk_42 (dk_at dksX0_post_5 20 rfl rfl)
theorem dX0_post_141 : decode cX0_post 141 = .ok (.getfield 250, 3) := dk_180 0 250 (dk_at dksX0_post_5 21 rfl rfl)
theorem dX0_post_144 : decode cX0_post 144 = .ok (.iload 6, 2) := dk_21 6 (dk_at dksX0_post_6 0 rfl rfl)
theorem dX0_post_146 : decode cX0_post 146 = .ok (.iaload, 1) := dk_46 (dk_at dksX0_post_6 2 rfl rfl)
theorem dX0_post_147 : decode cX0_post 147 = .ok (.iconst 1, 1) := dk_4 (dk_at dksX0_post_6 3 rfl rfl)
theorem dX0_post_148 : decode cX0_post 148 = .ok (.iload 5, 2) := dk_21 5 (dk_at dksX0_post_6 4 rfl rfl)
theorem dX0_post_150 : decode cX0_post 150 = .ok (.ishl, 1) := dk_120 (dk_at dksX0_post_6 6 rfl rfl)
theorem dX0_post_151 : decode cX0_post 151 = .ok (.iconst 1, 1) := dk_4 (dk_at dksX0_post_6 7 rfl rfl)
theorem dX0_post_152 : decode cX0_post 152 = .ok (.isub, 1) := dk_100 (dk_at dksX0_post_6 8 rfl rfl)
theorem dX0_post_153 : decode cX0_post 153 = .ok (.iand, 1) := dk_126 (dk_at dksX0_post_6 9 rfl rfl)
theorem dX0_post_154 : decode cX0_post 154 = .ok (.istore 7, 2) := dk_54 7 (dk_at dksX0_post_6 10 rfl rfl)
theorem dX0_post_156 : decode cX0_post 156 = .ok (.aload_n 0, 1) := dk_42 (dk_at dksX0_post_6 12 rfl rfl)
theorem dX0_post_157 : decode cX0_post 157 = .ok (.getfield 250, 3) := dk_180 0 250 (dk_at dksX0_post_6 13 rfl rfl)
theorem dX0_post_160 : decode cX0_post 160 = .ok (.iload 6, 2) := dk_21 6 (dk_at dksX0_post_6 16 rfl rfl)
theorem dX0_post_162 : decode cX0_post 162 = .ok (.iaload, 1) := dk_46 (dk_at dksX0_post_6 18 rfl rfl)
theorem dX0_post_163 : decode cX0_post 163 = .ok (.iload 5, 2) := dk_21 5 (dk_at dksX0_post_6 19 rfl rfl)
theorem dX0_post_165 : decode cX0_post 165 = .ok (.ishr, 1) := dk_122 (dk_at dksX0_post_6 21 rfl rfl)
theorem dX0_post_166 : decode cX0_post 166 = .ok (.istore 8, 2) := dk_54 8 (dk_at dksX0_post_6 22 rfl rfl)
theorem dX0_post_168 : decode cX0_post 168 = .ok (.iload 8, 2) := dk_21 8 (dk_at dksX0_post_7 0 rfl rfl)
theorem dX0_post_170 : decode cX0_post 170 = .ok (.iload_n 2, 1) := dk_28 (dk_at dksX0_post_7 2 rfl rfl)
theorem dX0_post_171 : decode cX0_post 171 = .ok (.if_icmp .ne 32, 3) := dk_160 0 32 (dk_at dksX0_post_7 3 rfl rfl)
theorem dX0_post_174 : decode cX0_post 174 = .ok (.iload_n 3, 1) := dk_29 (dk_at dksX0_post_7 6 rfl rfl)
theorem dX0_post_175 : decode cX0_post 175 = .ok (.ifCond .eq 15, 3) := dk_153 0 15 (dk_at dksX0_post_7 7 rfl rfl)
theorem dX0_post_178 : decode cX0_post 178 = .ok (.aload_n 0, 1) := dk_42 (dk_at dksX0_post_7 10 rfl rfl)
theorem dX0_post_179 : decode cX0_post 179 = .ok (.iload 7, 2) := dk_21 7 (dk_at dksX0_post_7 11 rfl rfl)
theorem dX0_post_181 : decode cX0_post 181 = .ok (.iconst 0, 1) := dk_3 (dk_at dksX0_post_7 13 rfl rfl)
theorem dX0_post_182 : decode cX0_post 182 = .ok (.invokevirtual 241, 3) := dk_182 0 241 (dk_at dksX0_post_7 14 rfl rfl)
theorem dX0_post_185 : decode cX0_post 185 = .ok (.iload 4, 2) := dk_21 4 (dk_at dksX0_post_7 17 rfl rfl)
theorem dX0_post_187 : decode cX0_post 187 = .ok (.if_icmp .ne 16, 3) := dk_160 0 16 (dk_at dksX0_post_7 19 rfl rfl)
theorem dX0_post_190 : decode cX0_post 190 = .ok (.aload_n 0, 1) := dk_42 (dk_at dksX0_post_7 22 rfl rfl)
theorem dX0_post_191 : decode cX0_post 191 = .ok (.getfield 246, 3) := dk_180 0 246 (dk_at dksX0_post_8 0 rfl rfl)
theorem dX0_post_194 : decode cX0_post 194 = .ok (.aload_n 0, 1) := dk_42 (dk_at dksX0_post_8 3 rfl rfl)
theorem dX0_post_195 : decode cX0_post 195 = .ok (.getfield 250, 3) := dk_180 0 250 (dk_at dksX0_post_8 4 rfl rfl)
theorem dX0_post_198 : decode cX0_post 198 = .ok (.iload 6, 2) := dk_21 6 (dk_at dksX0_post_8 7 rfl rfl)
theorem dX0_post_200 : decode cX0_post 200 = .ok (.iaload, 1) := dk_46 (dk_at dksX0_post_8 9 rfl rfl)
theorem dX0_post_201 : decode cX0_post 201 = .ok (.iaload, 1) := dk_46 (dk_at dksX0_post_8 10 rfl rfl)
theorem dX0_post_202 : decode cX0_post 202 = .ok (.ireturn, 1) := dk_172 (dk_at dksX0_post_8 11 rfl rfl)
theorem dX0_post_203 : decode cX0_post 203 = .ok (.iconst 0, 1) := dk_3 (dk_at dksX0_post_8 12 rfl rfl)
theorem dX0_post_204 : decode cX0_post 204 = .ok (.istore 9, 2) := dk_54 9 (dk_at dksX0_post_8 13 rfl rfl)
theorem dX0_post_206 : decode cX0_post 206 = .ok (.iload 9, 2) := dk_21 9 (dk_at dksX0_post_8 15 rfl rfl)
theorem dX0_post_208 : decode cX0_post 208 = .ok (.aload_n 0, 1) := dk_42 (dk_at dksX0_post_8 17 rfl rfl)
theorem dX0_post_209 : decode cX0_post 209 = .ok (.getfield 12, 3) := dk_180 0 12 (dk_at dksX0_post_8 18 rfl rfl)
theorem dX0_post_212 : decode cX0_post 212 = .ok (.invokevirtual 89, 3) := dk_182 0 89 (dk_at dksX0_post_8 21 rfl rfl)
theorem dX0_post_215 : decode cX0_post 215 = .ok (.if_icmp .ge 64, 3) := dk_162 0 64 (dk_at dksX0_post_9 0 rfl rfl)
theorem dX0_post_218 : decode cX0_post 218 = .ok (.aload_n 0, 1) := dk_42 (dk_at dksX0_post_9 3 rfl rfl)
theorem dX0_post_219 : decode cX0_post 219 = .ok (.iload 7, 2) := dk_21 7 (dk_at dksX0_post_9 4 rfl rfl)
theorem dX0_post_221 : decode cX0_post 221 = .ok (.iconst 0, 1) := dk_3 (dk_at dksX0_post_9 6 rfl rfl)
theorem dX0_post_222 : decode cX0_post 222 = .ok (.iload 9, 2) := dk_21 9 (dk_at dksX0_post_9 7 rfl rfl)
theorem dX0_post_224 : decode cX0_post 224 = .ok (.invokevirtual 256, 3) := dk_182 1 0 (dk_at dksX0_post_9 9 rfl rfl)
theorem dX0_post_227 : decode cX0_post 227 = .ok (.istore 10, 2) := dk_54 10 (dk_at dksX0_post_9 12 rfl rfl)
theorem dX0_post_229 : decode cX0_post 229 = .ok (.iload 10, 2) := dk_21 10 (dk_at dksX0_post_9 14 rfl rfl)
theorem dX0_post_231 : decode cX0_post 231 = .ok (.iconst (-1), 1) := dk_2 (dk_at dksX0_post_9 16 rfl rfl)
theorem dX0_post_232 : decode cX0_post 232 = .ok (.if_icmp .eq 41, 3) := dk_159 0 41 (dk_at dksX0_post_9 17 rfl rfl)
theorem dX0_post_235 : decode cX0_post 235 = .ok (.aload_n 0, 1) := dk_42 (dk_at dksX0_post_9 20 rfl rfl)
theorem dX0_post_236 : decode cX0_post 236 = .ok (.iload 10, 2) := dk_21 10 (dk_at dksX0_post_9 21 rfl rfl)
theorem dX0_post_238 : decode cX0_post 238 = .ok (.iload 8, 2) := dk_21 8 (dk_at dksX0_post_10 0 rfl rfl)
theorem dX0_post_240 : decode cX0_post 240 = .ok (.iconst 1, 1) := dk_4 (dk_at dksX0_post_10 2 rfl rfl)
theorem dX0_post_241 : decode cX0_post 241 = .ok (.aload_n 0, 1) := dk_42 (dk_at dksX0_post_10 3 rfl rfl)
theorem dX0_post_242 : decode cX0_post 242 = .ok (.iload 10, 2) := dk_21 10 (dk_at dksX0_post_10 4 rfl rfl)
theorem dX0_post_244 : decode cX0_post 244 = .ok (.iconst 0, 1) := dk_3 (dk_at dksX0_post_10 6 rfl rfl)
theorem dX0_post_245 : decode cX0_post 245 = .ok (.invokevirtual 241, 3) := dk_182 0 241 (dk_at dksX0_post_10 7 rfl rfl)
theorem dX0_post_248 : decode cX0_post 248 = .ok (.ishl, 1) := dk_120 (dk_at dksX0_post_10 10 rfl rfl)
theorem dX0_post_249 : decode cX0_post 249 = .ok (.iload_n 2, 1) := dk_28 (dk_at dksX0_post_10 11 rfl rfl)
theorem dX0_post_250 : decode cX0_post 250 = .ok (.iand, 1) := dk_126 (dk_at dksX0_post_10 12 rfl rfl)
theorem dX0_post_251 : decode cX0_post 251 = .ok (.ior, 1) := dk_128 (dk_at dksX0_post_10 13 rfl rfl)
theorem dX0_post_252 : decode cX0_post 252 = .ok (.iload 5, 2) := dk_21 5 (dk_at dksX0_post_10 14 rfl rfl)
theorem dX0_post_254 : decode cX0_post 254 = .ok (.ishl, 1) := dk_120 (dk_at dksX0_post_10 16 rfl rfl)
theorem dX0_post_255 : decode cX0_post 255 = .ok (.ior, 1) := dk_128 (dk_at dksX0_post_10 17 rfl rfl)
theorem dX0_post_256 : decode cX0_post 256 = .ok (.aload_n 0, 1) := dk_42 (dk_at dksX0_post_10 18 rfl rfl)
theorem dX0_post_257 : decode cX0_post 257 = .ok (.getfield 246, 3) := dk_180 0 246 (dk_at dksX0_post_10 19 rfl rfl)
theorem dX0_post_260 : decode cX0_post 260 = .ok (.aload_n 0, 1) := dk_42 (dk_at dksX0_post_10 22 rfl rfl)
theorem dX0_post_261 : decode cX0_post 261 = .ok (.getfield 250, 3) := dk_180 0 250 (dk_at dksX0_post_11 0 rfl rfl)
theorem dX0_post_264 : decode cX0_post 264 = .ok (.iload 6, 2) := dk_21 6 (dk_at dksX0_post_11 3 rfl rfl)
theorem dX0_post_266 : decode cX0_post 266 = .ok (.iaload, 1) := dk_46 (dk_at dksX0_post_11 5 rfl rfl)
theorem dX0_post_267 : decode cX0_post 267 = .ok (.iaload, 1) := dk_46 (dk_at dksX0_post_11 6 rfl rfl)
theorem dX0_post_268 : decode cX0_post 268 = .ok (.iconst 1, 1) := dk_4 (dk_at dksX0_post_11 7 rfl rfl)
theorem dX0_post_269 : decode cX0_post 269 = .ok (.iadd, 1) := dk_96 (dk_at dksX0_post_11 8 rfl rfl)
theorem dX0_post_270 : decode cX0_post 270 = .ok (.invokevirtual 260, 3) := dk_182 1 4 (dk_at dksX0_post_11 9 rfl rfl)
theorem dX0_post_273 : decode cX0_post 273 = .ok (.iinc 9 1, 3) := dk_132 9 1 (dk_at dksX0_post_11 12 rfl rfl)
theorem dX0_post_276 : decode cX0_post 276 = .ok (.goto (-70), 3) := dk_167 255 186 (dk_at dksX0_post_11 15 rfl rfl)
theorem dX0_post_279 : decode cX0_post 279 = .ok (.iinc 6 1, 3) := dk_132 6 1 (dk_at dksX0_post_11 18 rfl rfl)
theorem dX0_post_282 : decode cX0_post 282 = .ok (.goto (-151), 3) := dk_167 255 105 (dk_at dksX0_post_11 21 rfl rfl)
theorem dX0_post_285 : decode cX0_post 285 = .ok (.bipush (-2), 2) := dk_16 254 (dk_at dksX0_post_12 0 rfl rfl)
theorem dX0_post_287 : decode cX0_post 287 = .ok (.ireturn, 1) := dk_172 (dk_at dksX0_post_12 2 rfl rfl)
abbrev cX0_longest : ByteArray := prog_1_method_56_code
def yX0_longest : MethodName := ⟨RX0, "longest", "(III)I"⟩
def dkwX0_longest_3 : List UInt8 := [167, 0, 17, 29, 4, 160, 0, 10, 42, 180, 1, 56, 167, 0, 5, 21, 4, 172]
abbrev dktX0_longest_3 : List UInt8 := dkwX0_longest_3 ++ []
def dkwX0_longest_2 : List UInt8 := [162, 0, 16, 42, 182, 1, 75, 153, 0, 9, 132, 4, 1, 167, 255, 240, 29, 154, 0, 10, 42, 180, 1, 53]
abbrev dktX0_longest_2 : List UInt8 := dkwX0_longest_2 ++ dktX0_longest_3
def dkwX0_longest_1 : List UInt8 := [20, 1, 70, 184, 0, 93, 154, 0, 5, 2, 172, 42, 27, 182, 1, 72, 3, 54, 4, 21, 4, 28]
abbrev dktX0_longest_1 : List UInt8 := dkwX0_longest_1 ++ dktX0_longest_2
def dkwX0_longest_0 : List UInt8 := [42, 27, 182, 1, 65, 153, 0, 27, 28, 133, 9, 20, 1, 68, 184, 0, 93, 153, 0, 15, 29, 133, 9]
abbrev dktX0_longest_0 : List UInt8 := dkwX0_longest_0 ++ dktX0_longest_1
theorem dksX0_longest_0 : cX0_longest.data.toList.drop 0 = dktX0_longest_0 := by decide +kernel
theorem dksX0_longest_1 : cX0_longest.data.toList.drop 23 = dktX0_longest_1 := dk_seg dksX0_longest_0 23 rfl rfl
theorem dksX0_longest_2 : cX0_longest.data.toList.drop 45 = dktX0_longest_2 := dk_seg dksX0_longest_1 22 rfl rfl
theorem dksX0_longest_3 : cX0_longest.data.toList.drop 69 = dktX0_longest_3 := dk_seg dksX0_longest_2 24 rfl rfl
theorem dX0_longest_0 : decode cX0_longest 0 = .ok (.aload_n 0, 1) := dk_42 (dk_at dksX0_longest_0 0 rfl rfl)
theorem dX0_longest_1 : decode cX0_longest 1 = .ok (.iload_n 1, 1) := dk_27 (dk_at dksX0_longest_0 1 rfl rfl)
theorem dX0_longest_2 : decode cX0_longest 2 = .ok (.invokevirtual 321, 3) := dk_182 1 65 (dk_at dksX0_longest_0 2 rfl rfl)
theorem dX0_longest_5 : decode cX0_longest 5 = .ok (.ifCond .eq 27, 3) := dk_153 0 27 (dk_at dksX0_longest_0 5 rfl rfl)
theorem dX0_longest_8 : decode cX0_longest 8 = .ok (.iload_n 2, 1) := dk_28 (dk_at dksX0_longest_0 8 rfl rfl)
theorem dX0_longest_9 : decode cX0_longest 9 = .ok (.i2l, 1) := dk_133 (dk_at dksX0_longest_0 9 rfl rfl)
theorem dX0_longest_10 : decode cX0_longest 10 = .ok (.lconst 0, 1) := dk_9 (dk_at dksX0_longest_0 10 rfl rfl)
theorem dX0_longest_11 : decode cX0_longest 11 = .ok (.ldc2_w 324, 3) := dk_20 1 68 (dk_at dksX0_longest_0 11 rfl rfl)
theorem dX0_longest_14 : decode cX0_longest 14 = .ok (.invokestatic 93, 3) := dk_184 0 93 (dk_at dksX0_longest_0 14 rfl rfl)
theorem dX0_longest_17 : decode cX0_longest 17 = .ok (.ifCond .eq 15, 3) := dk_153 0 15 (dk_at dksX0_longest_0 17 rfl rfl)
theorem dX0_longest_20 : decode cX0_longest 20 = .ok (.iload_n 3, 1) := dk_29 (dk_at dksX0_longest_0 20 rfl rfl)
theorem dX0_longest_21 : decode cX0_longest 21 = .ok (.i2l, 1) := dk_133 (dk_at dksX0_longest_0 21 rfl rfl)
theorem dX0_longest_22 : decode cX0_longest 22 = .ok (.lconst 0, 1) := dk_9 (dk_at dksX0_longest_0 22 rfl rfl)
theorem dX0_longest_23 : decode cX0_longest 23 = .ok (.ldc2_w 326, 3) := dk_20 1 70 (dk_at dksX0_longest_1 0 rfl rfl)
theorem dX0_longest_26 : decode cX0_longest 26 = .ok (.invokestatic 93, 3) := dk_184 0 93 (dk_at dksX0_longest_1 3 rfl rfl)
theorem dX0_longest_29 : decode cX0_longest 29 = .ok (.ifCond .ne 5, 3) := dk_154 0 5 (dk_at dksX0_longest_1 6 rfl rfl)
theorem dX0_longest_32 : decode cX0_longest 32 = .ok (.iconst (-1), 1) := dk_2 (dk_at dksX0_longest_1 9 rfl rfl)
theorem dX0_longest_33 : decode cX0_longest 33 = .ok (.ireturn, 1) := dk_172 (dk_at dksX0_longest_1 10 rfl rfl)
theorem dX0_longest_34 : decode cX0_longest 34 = .ok (.aload_n 0, 1) := dk_42 (dk_at dksX0_longest_1 11 rfl rfl)
theorem dX0_longest_35 : decode cX0_longest 35 = .ok (.iload_n 1, 1) := dk_27 (dk_at dksX0_longest_1 12 rfl rfl)
theorem dX0_longest_36 : decode cX0_longest 36 = .ok (.invokevirtual 328, 3) := dk_182 1 72 (dk_at dksX0_longest_1 13 rfl rfl)
theorem dX0_longest_39 : decode cX0_longest 39 = .ok (.iconst 0, 1) := dk_3 (dk_at dksX0_longest_1 16 rfl rfl)
theorem dX0_longest_40 : decode cX0_longest 40 = .ok (.istore 4, 2) := dk_54 4 (dk_at dksX0_longest_1 17 rfl rfl)
theorem dX0_longest_42 : decode cX0_longest 42 = .ok (.iload 4, 2) := dk_21 4 (dk_at dksX0_longest_1 19 rfl rfl)
theorem dX0_longest_44 : decode cX0_longest 44 = .ok (.iload_n 2, 1) := dk_28 (dk_at dksX0_longest_1 21 rfl rfl)
theorem dX0_longest_45 : decode cX0_longest 45 = .ok (.if_icmp .ge 16, 3) := dk_162 0 16 (dk_at dksX0_longest_2 0 rfl rfl)
theorem dX0_longest_48 : decode cX0_longest 48 = .ok (.aload_n 0, 1) := dk_42 (dk_at dksX0_longest_2 3 rfl rfl)
theorem dX0_longest_49 : decode cX0_longest 49 = .ok (.invokevirtual 331, 3) := dk_182 1 75 (dk_at dksX0_longest_2 4 rfl rfl)
theorem dX0_longest_52 : decode cX0_longest 52 = .ok (.ifCond .eq 9, 3) := dk_153 0 9 (dk_at dksX0_longest_2 7 rfl rfl)
theorem dX0_longest_55 : decode cX0_longest 55 = .ok (.iinc 4 1, 3) := dk_132 4 1 (dk_at dksX0_longest_2 10 rfl rfl)
theorem dX0_longest_58 : decode cX0_longest 58 = .ok (.goto (-16), 3) := dk_167 255 240 (dk_at dksX0_longest_2 13 rfl rfl)
theorem dX0_longest_61 : decode cX0_longest 61 = .ok (.iload_n 3, 1) := dk_29 (dk_at dksX0_longest_2 16 rfl rfl)
theorem dX0_longest_62 : decode cX0_longest 62 = .ok (.ifCond .ne 10, 3) := dk_154 0 10 (dk_at dksX0_longest_2 17 rfl rfl)
theorem dX0_longest_65 : decode cX0_longest 65 = .ok (.aload_n 0, 1) := dk_42 (dk_at dksX0_longest_2 20 rfl rfl)
theorem dX0_longest_66 : decode cX0_longest 66 = .ok (.getfield 309, 3) := dk_180 1 53 (dk_at dksX0_longest_2 21 rfl rfl)
theorem dX0_longest_69 : decode cX0_longest 69 = .ok (.goto 17, 3) := dk_167 0 17 (dk_at dksX0_longest_3 0 rfl rfl)
theorem dX0_longest_72 : decode cX0_longest 72 = .ok (.iload_n 3, 1) := dk_29 (dk_at dksX0_longest_3 3 rfl rfl)
theorem dX0_longest_73 : decode cX0_longest 73 = .ok (.iconst 1, 1) := dk_4 (dk_at dksX0_longest_3 4 rfl rfl)
theorem dX0_longest_74 : decode cX0_longest 74 = .ok (.if_icmp .ne 10, 3) := dk_160 0 10 (dk_at dksX0_longest_3 5 rfl rfl)
theorem dX0_longest_77 : decode cX0_longest 77 = .ok (.aload_n 0, 1) := dk_42 (dk_at dksX0_longest_3 8 rfl rfl)
theorem dX0_longest_78 : decode cX0_longest 78 = .ok (.getfield 312, 3) := dk_180 1 56 (dk_at dksX0_longest_3 9 rfl rfl)
theorem dX0_longest_81 : decode cX0_longest 81 = .ok (.goto 5, 3) := dk_167 0 5 (dk_at dksX0_longest_3 12 rfl rfl)
theorem dX0_longest_84 : decode cX0_longest 84 = .ok (.iload 4, 2) := dk_21 4 (dk_at dksX0_longest_3 15 rfl rfl)
theorem dX0_longest_86 : decode cX0_longest 86 = .ok (.ireturn, 1) := dk_172 (dk_at dksX0_longest_3 17 rfl rfl)
abbrev cX0_mayWander : ByteArray := prog_1_method_53_code
def yX0_mayWander : MethodName := ⟨RX0, "mayWander", "(I)Z"⟩
def dkwX0_mayWander_0 : List UInt8 := [42, 27, 182, 0, 187, 153, 0, 14, 42, 182, 0, 224, 153, 0, 7, 4, 167, 0, 4, 3, 172]
abbrev dktX0_mayWander_0 : List UInt8 := dkwX0_mayWander_0 ++ []
theorem dksX0_mayWander_0 : cX0_mayWander.data.toList.drop 0 = dktX0_mayWander_0 := by decide +kernel
theorem dX0_mayWander_0 : decode cX0_mayWander 0 = .ok (.aload_n 0, 1) := dk_42 (dk_at dksX0_mayWander_0 0 rfl rfl)
theorem dX0_mayWander_1 : decode cX0_mayWander 1 = .ok (.iload_n 1, 1) := dk_27 (dk_at dksX0_mayWander_0 1 rfl rfl)
theorem dX0_mayWander_2 : decode cX0_mayWander 2 = .ok (.invokevirtual 187, 3) := dk_182 0 187 (dk_at dksX0_mayWander_0 2 rfl rfl)
theorem dX0_mayWander_5 : decode cX0_mayWander 5 = .ok (.ifCond .eq 14, 3) := dk_153 0 14 (dk_at dksX0_mayWander_0 5 rfl rfl)
theorem dX0_mayWander_8 : decode cX0_mayWander 8 = .ok (.aload_n 0, 1) := dk_42 (dk_at dksX0_mayWander_0 8 rfl rfl)
theorem dX0_mayWander_9 : decode cX0_mayWander 9 = .ok (.invokevirtual 224, 3) := dk_182 0 224 (dk_at dksX0_mayWander_0 9 rfl rfl)
theorem dX0_mayWander_12 : decode cX0_mayWander 12 = .ok (.ifCond .eq 7, 3) := dk_153 0 7 (dk_at dksX0_mayWander_0 12 rfl rfl)
theorem dX0_mayWander_15 : decode cX0_mayWander 15 = .ok (.iconst 1, 1) := dk_4 (dk_at dksX0_mayWander_0 15 rfl rfl)
theorem dX0_mayWander_16 : decode cX0_mayWander 16 = .ok (.goto 4, 3) := dk_167 0 4 (dk_at dksX0_mayWander_0 16 rfl rfl)
theorem dX0_mayWander_19 : decode cX0_mayWander 19 = .ok (.iconst 0, 1) := dk_3 (dk_at dksX0_mayWander_0 19 rfl rfl)
theorem dX0_mayWander_20 : decode cX0_mayWander 20 = .ok (.ireturn, 1) := dk_172 (dk_at dksX0_mayWander_0 20 rfl rfl)
abbrev cX0_setsOut : ByteArray := prog_1_method_54_code
def yX0_setsOut : MethodName := ⟨RX0, "setsOut", "(I)V"⟩
def dkwX0_setsOut_3 : List UInt8 := [180, 0, 181, 79, 132, 2, 1, 167, 255, 222, 177]
abbrev dktX0_setsOut_3 : List UInt8 := dkwX0_setsOut_3 ++ []
def dkwX0_setsOut_2 : List UInt8 := [182, 0, 89, 162, 0, 29, 42, 180, 0, 45, 28, 42, 180, 0, 12, 28, 182, 0, 99, 192, 0, 103]
abbrev dktX0_setsOut_2 : List UInt8 := dkwX0_setsOut_2 ++ dktX0_setsOut_3
def dkwX0_setsOut_1 : List UInt8 := [181, 1, 56, 42, 42, 180, 0, 154, 181, 1, 59, 42, 3, 181, 1, 62, 3, 61, 28, 42, 180, 0, 12]
abbrev dktX0_setsOut_1 : List UInt8 := dkwX0_setsOut_1 ++ dktX0_setsOut_2
def dkwX0_setsOut_0 : List UInt8 := [42, 42, 180, 0, 18, 27, 182, 0, 99, 192, 0, 109, 180, 0, 122, 181, 1, 53, 42, 42, 182, 0, 227]
abbrev dktX0_setsOut_0 : List UInt8 := dkwX0_setsOut_0 ++ dktX0_setsOut_1
theorem dksX0_setsOut_0 : cX0_setsOut.data.toList.drop 0 = dktX0_setsOut_0 := by decide +kernel
theorem dksX0_setsOut_1 : cX0_setsOut.data.toList.drop 23 = dktX0_setsOut_1 := dk_seg dksX0_setsOut_0 23 rfl rfl
theorem dksX0_setsOut_2 : cX0_setsOut.data.toList.drop 46 = dktX0_setsOut_2 := dk_seg dksX0_setsOut_1 23 rfl rfl
theorem dksX0_setsOut_3 : cX0_setsOut.data.toList.drop 68 = dktX0_setsOut_3 := dk_seg dksX0_setsOut_2 22 rfl rfl
theorem dX0_setsOut_0 : decode cX0_setsOut 0 = .ok (.aload_n 0, 1) := dk_42 (dk_at dksX0_setsOut_0 0 rfl rfl)
theorem dX0_setsOut_1 : decode cX0_setsOut 1 = .ok (.aload_n 0, 1) := dk_42 (dk_at dksX0_setsOut_0 1 rfl rfl)
theorem dX0_setsOut_2 : decode cX0_setsOut 2 = .ok (.getfield 18, 3) := dk_180 0 18 (dk_at dksX0_setsOut_0 2 rfl rfl)
theorem dX0_setsOut_5 : decode cX0_setsOut 5 = .ok (.iload_n 1, 1) := dk_27 (dk_at dksX0_setsOut_0 5 rfl rfl)
theorem dX0_setsOut_6 : decode cX0_setsOut 6 = .ok (.invokevirtual 99, 3) := dk_182 0 99 (dk_at dksX0_setsOut_0 6 rfl rfl)
theorem dX0_setsOut_9 : decode cX0_setsOut 9 = .ok (.checkcast 109, 3) := dk_192 0 109 (dk_at dksX0_setsOut_0 9 rfl rfl)
theorem dX0_setsOut_12 : decode cX0_setsOut 12 = .ok (.getfield 122, 3) := dk_180 0 122 (dk_at dksX0_setsOut_0 12 rfl rfl)
theorem dX0_setsOut_15 : decode cX0_setsOut 15 = .ok (.putfield 309, 3) := dk_181 1 53 (dk_at dksX0_setsOut_0 15 rfl rfl)
theorem dX0_setsOut_18 : decode cX0_setsOut 18 = .ok (.aload_n 0, 1) := dk_42 (dk_at dksX0_setsOut_0 18 rfl rfl)
theorem dX0_setsOut_19 : decode cX0_setsOut 19 = .ok (.aload_n 0, 1) := dk_42 (dk_at dksX0_setsOut_0 19 rfl rfl)
theorem dX0_setsOut_20 : decode cX0_setsOut 20 = .ok (.invokevirtual 227, 3) := dk_182 0 227 (dk_at dksX0_setsOut_0 20 rfl rfl)
theorem dX0_setsOut_23 : decode cX0_setsOut 23 = .ok (.putfield 312, 3) := dk_181 1 56 (dk_at dksX0_setsOut_1 0 rfl rfl)
theorem dX0_setsOut_26 : decode cX0_setsOut 26 = .ok (.aload_n 0, 1) := dk_42 (dk_at dksX0_setsOut_1 3 rfl rfl)
theorem dX0_setsOut_27 : decode cX0_setsOut 27 = .ok (.aload_n 0, 1) := dk_42 (dk_at dksX0_setsOut_1 4 rfl rfl)
theorem dX0_setsOut_28 : decode cX0_setsOut 28 = .ok (.getfield 154, 3) := dk_180 0 154 (dk_at dksX0_setsOut_1 5 rfl rfl)
theorem dX0_setsOut_31 : decode cX0_setsOut 31 = .ok (.putfield 315, 3) := dk_181 1 59 (dk_at dksX0_setsOut_1 8 rfl rfl)
theorem dX0_setsOut_34 : decode cX0_setsOut 34 = .ok (.aload_n 0, 1) := dk_42 (dk_at dksX0_setsOut_1 11 rfl rfl)
theorem dX0_setsOut_35 : decode cX0_setsOut 35 = .ok (.iconst 0, 1) := dk_3 (dk_at dksX0_setsOut_1 12 rfl rfl)
theorem dX0_setsOut_36 : decode cX0_setsOut 36 = .ok (.putfield 318, 3) := dk_181 1 62 (dk_at dksX0_setsOut_1 13 rfl rfl)
theorem dX0_setsOut_39 : decode cX0_setsOut 39 = .ok (.iconst 0, 1) := dk_3 (dk_at dksX0_setsOut_1 16 rfl rfl)
theorem dX0_setsOut_40 : decode cX0_setsOut 40 = .ok (.istore_n 2, 1) := dk_61 (dk_at dksX0_setsOut_1 17 rfl rfl)
theorem dX0_setsOut_41 : decode cX0_setsOut 41 = .ok (.iload_n 2, 1) := dk_28 (dk_at dksX0_setsOut_1 18 rfl rfl)
theorem dX0_setsOut_42 : decode cX0_setsOut 42 = .ok (.aload_n 0, 1) := dk_42 (dk_at dksX0_setsOut_1 19 rfl rfl)
theorem dX0_setsOut_43 : decode cX0_setsOut 43 = .ok (.getfield 12, 3) := dk_180 0 12 (dk_at dksX0_setsOut_1 20 rfl rfl)
theorem dX0_setsOut_46 : decode cX0_setsOut 46 = .ok (.invokevirtual 89, 3) := dk_182 0 89 (dk_at dksX0_setsOut_2 0 rfl rfl)
theorem dX0_setsOut_49 : decode cX0_setsOut 49 = .ok (.if_icmp .ge 29, 3) := dk_162 0 29 (dk_at dksX0_setsOut_2 3 rfl rfl)
theorem dX0_setsOut_52 : decode cX0_setsOut 52 = .ok (.aload_n 0, 1) := dk_42 (dk_at dksX0_setsOut_2 6 rfl rfl)
theorem dX0_setsOut_53 : decode cX0_setsOut 53 = .ok (.getfield 45, 3) := dk_180 0 45 (dk_at dksX0_setsOut_2 7 rfl rfl)
theorem dX0_setsOut_56 : decode cX0_setsOut 56 = .ok (.iload_n 2, 1) := dk_28 (dk_at dksX0_setsOut_2 10 rfl rfl)
theorem dX0_setsOut_57 : decode cX0_setsOut 57 = .ok (.aload_n 0, 1) := dk_42 (dk_at dksX0_setsOut_2 11 rfl rfl)
theorem dX0_setsOut_58 : decode cX0_setsOut 58 = .ok (.getfield 12, 3) := dk_180 0 12 (dk_at dksX0_setsOut_2 12 rfl rfl)
theorem dX0_setsOut_61 : decode cX0_setsOut 61 = .ok (.iload_n 2, 1) := dk_28 (dk_at dksX0_setsOut_2 15 rfl rfl)
theorem dX0_setsOut_62 : decode cX0_setsOut 62 = .ok (.invokevirtual 99, 3) := dk_182 0 99 (dk_at dksX0_setsOut_2 16 rfl rfl)
theorem dX0_setsOut_65 : decode cX0_setsOut 65 = .ok (.checkcast 103, 3) := dk_192 0 103 (dk_at dksX0_setsOut_2 19 rfl rfl)
theorem dX0_setsOut_68 : decode cX0_setsOut 68 = .ok (.getfield 181, 3) := dk_180 0 181 (dk_at dksX0_setsOut_3 0 rfl rfl)
theorem dX0_setsOut_71 : decode cX0_setsOut 71 = .ok (.iastore, 1) := dk_79 (dk_at dksX0_setsOut_3 3 rfl rfl)
theorem dX0_setsOut_72 : decode cX0_setsOut 72 = .ok (.iinc 2 1, 3) := dk_132 2 1 (dk_at dksX0_setsOut_3 4 rfl rfl)
theorem dX0_setsOut_75 : decode cX0_setsOut 75 = .ok (.goto (-34), 3) := dk_167 255 222 (dk_at dksX0_setsOut_3 7 rfl rfl)
theorem dX0_setsOut_78 : decode cX0_setsOut 78 = .ok (.return_, 1) := dk_177 (dk_at dksX0_setsOut_3 10 rfl rfl)
abbrev cX0_wanders : ByteArray := prog_1_method_55_code
def yX0_wanders : MethodName := ⟨RX0, "wanders", "()Z"⟩
def dkwX0_wanders_6 : List UInt8 := [89, 180, 1, 62, 4, 27, 120, 128, 181, 1, 62, 4, 172]
abbrev dktX0_wanders_6 : List UInt8 := dkwX0_wanders_6 ++ []
def dkwX0_wanders_5 : List UInt8 := [181, 1, 56, 42, 89, 180, 1, 59, 4, 96, 181, 1, 59, 42, 180, 0, 45, 27, 42, 180, 1, 59, 79, 42]
abbrev dktX0_wanders_5 : List UInt8 := dkwX0_wanders_5 ++ dktX0_wanders_6
def dkwX0_wanders_4 : List UInt8 := [180, 1, 56, 27, 122, 4, 126, 182, 0, 244, 181, 1, 53, 42, 89, 180, 1, 56, 4, 27, 120, 130]
abbrev dktX0_wanders_4 : List UInt8 := dkwX0_wanders_4 ++ dktX0_wanders_5
def dkwX0_wanders_3 : List UInt8 := [167, 255, 191, 27, 2, 160, 0, 5, 3, 172, 42, 42, 180, 0, 12, 27, 182, 0, 99, 192, 0, 103, 42]
abbrev dktX0_wanders_3 : List UInt8 := dkwX0_wanders_3 ++ dktX0_wanders_4
def dkwX0_wanders_2 : List UInt8 := [159, 0, 18, 42, 180, 0, 45, 28, 46, 42, 180, 0, 45, 27, 46, 162, 0, 5, 28, 60, 132, 2, 1]
abbrev dktX0_wanders_2 : List UInt8 := dkwX0_wanders_2 ++ dktX0_wanders_3
def dkwX0_wanders_1 : List UInt8 := [192, 0, 103, 42, 180, 1, 56, 28, 122, 4, 126, 182, 0, 239, 42, 180, 1, 53, 160, 0, 25, 27, 2]
abbrev dktX0_wanders_1 : List UInt8 := dkwX0_wanders_1 ++ dktX0_wanders_2
def dkwX0_wanders_0 : List UInt8 := [2, 60, 3, 61, 28, 42, 180, 0, 12, 182, 0, 89, 162, 0, 60, 42, 180, 0, 12, 28, 182, 0, 99]
abbrev dktX0_wanders_0 : List UInt8 := dkwX0_wanders_0 ++ dktX0_wanders_1
theorem dksX0_wanders_0 : cX0_wanders.data.toList.drop 0 = dktX0_wanders_0 := by decide +kernel
theorem dksX0_wanders_1 : cX0_wanders.data.toList.drop 23 = dktX0_wanders_1 := dk_seg dksX0_wanders_0 23 rfl rfl
theorem dksX0_wanders_2 : cX0_wanders.data.toList.drop 46 = dktX0_wanders_2 := dk_seg dksX0_wanders_1 23 rfl rfl
theorem dksX0_wanders_3 : cX0_wanders.data.toList.drop 69 = dktX0_wanders_3 := dk_seg dksX0_wanders_2 23 rfl rfl
theorem dksX0_wanders_4 : cX0_wanders.data.toList.drop 92 = dktX0_wanders_4 := dk_seg dksX0_wanders_3 23 rfl rfl
theorem dksX0_wanders_5 : cX0_wanders.data.toList.drop 114 = dktX0_wanders_5 := dk_seg dksX0_wanders_4 22 rfl rfl
theorem dksX0_wanders_6 : cX0_wanders.data.toList.drop 138 = dktX0_wanders_6 := dk_seg dksX0_wanders_5 24 rfl rfl
theorem dX0_wanders_0 : decode cX0_wanders 0 = .ok (.iconst (-1), 1) := dk_2 (dk_at dksX0_wanders_0 0 rfl rfl)
theorem dX0_wanders_1 : decode cX0_wanders 1 = .ok (.istore_n 1, 1) := dk_60 (dk_at dksX0_wanders_0 1 rfl rfl)
theorem dX0_wanders_2 : decode cX0_wanders 2 = .ok (.iconst 0, 1) := dk_3 (dk_at dksX0_wanders_0 2 rfl rfl)
theorem dX0_wanders_3 : decode cX0_wanders 3 = .ok (.istore_n 2, 1) := dk_61 (dk_at dksX0_wanders_0 3 rfl rfl)
theorem dX0_wanders_4 : decode cX0_wanders 4 = .ok (.iload_n 2, 1) := dk_28 (dk_at dksX0_wanders_0 4 rfl rfl)
theorem dX0_wanders_5 : decode cX0_wanders 5 = .ok (.aload_n 0, 1) := dk_42 (dk_at dksX0_wanders_0 5 rfl rfl)
theorem dX0_wanders_6 : decode cX0_wanders 6 = .ok (.getfield 12, 3) := dk_180 0 12 (dk_at dksX0_wanders_0 6 rfl rfl)
theorem dX0_wanders_9 : decode cX0_wanders 9 = .ok (.invokevirtual 89, 3) := dk_182 0 89 (dk_at dksX0_wanders_0 9 rfl rfl)
theorem dX0_wanders_12 : decode cX0_wanders 12 = .ok (.if_icmp .ge 60, 3) := dk_162 0 60 (dk_at dksX0_wanders_0 12 rfl rfl)
theorem dX0_wanders_15 : decode cX0_wanders 15 = .ok (.aload_n 0, 1) := dk_42 (dk_at dksX0_wanders_0 15 rfl rfl)
theorem dX0_wanders_16 : decode cX0_wanders 16 = .ok (.getfield 12, 3) := dk_180 0 12 (dk_at dksX0_wanders_0 16 rfl rfl)
theorem dX0_wanders_19 : decode cX0_wanders 19 = .ok (.iload_n 2, 1) := dk_28 (dk_at dksX0_wanders_0 19 rfl rfl)
theorem dX0_wanders_20 : decode cX0_wanders 20 = .ok (.invokevirtual 99, 3) := dk_182 0 99 (dk_at dksX0_wanders_0 20 rfl rfl)
theorem dX0_wanders_23 : decode cX0_wanders 23 = .ok (.checkcast 103, 3) := dk_192 0 103 (dk_at dksX0_wanders_1 0 rfl rfl)
theorem dX0_wanders_26 : decode cX0_wanders 26 = .ok (.aload_n 0, 1) := dk_42 (dk_at dksX0_wanders_1 3 rfl rfl)
theorem dX0_wanders_27 : decode cX0_wanders 27 = .ok (.getfield 312, 3) := dk_180 1 56 (dk_at dksX0_wanders_1 4 rfl rfl)
theorem dX0_wanders_30 : decode cX0_wanders 30 = .ok (.iload_n 2, 1) := dk_28 (dk_at dksX0_wanders_1 7 rfl rfl)
theorem dX0_wanders_31 : decode cX0_wanders 31 = .ok (.ishr, 1) := dk_122 (dk_at dksX0_wanders_1 8 rfl rfl)
theorem dX0_wanders_32 : decode cX0_wanders 32 = .ok (.iconst 1, 1) := dk_4 (dk_at dksX0_wanders_1 9 rfl rfl)
theorem dX0_wanders_33 : decode cX0_wanders 33 = .ok (.iand, 1) := dk_126 (dk_at dksX0_wanders_1 10 rfl rfl)
theorem dX0_wanders_34 : decode cX0_wanders 34 = .ok (.invokevirtual 239, 3) := dk_182 0 239 (dk_at dksX0_wanders_1 11 rfl rfl)
theorem dX0_wanders_37 : decode cX0_wanders 37 = .ok (.aload_n 0, 1) := dk_42 (dk_at dksX0_wanders_1 14 rfl rfl)
theorem dX0_wanders_38 : decode cX0_wanders 38 = .ok (.getfield 309, 3) := dk_180 1 53 (dk_at dksX0_wanders_1 15 rfl rfl)
theorem dX0_wanders_41 : decode cX0_wanders 41 = .ok (.if_icmp .ne 25, 3) := dk_160 0 25 (dk_at dksX0_wanders_1 18 rfl rfl)
theorem dX0_wanders_44 : decode cX0_wanders 44 = .ok (.iload_n 1, 1) := dk_27 (dk_at dksX0_wanders_1 21 rfl rfl)
theorem dX0_wanders_45 : decode cX0_wanders 45 = .ok (.iconst (-1), 1) := dk_2 (dk_at dksX0_wanders_1 22 rfl rfl)
theorem dX0_wanders_46 : decode cX0_wanders 46 = .ok (.if_icmp .eq 18, 3) := dk_159 0 18 (dk_at dksX0_wanders_2 0 rfl rfl)
theorem dX0_wanders_49 : decode cX0_wanders 49 = .ok (.aload_n 0, 1) := dk_42 (dk_at dksX0_wanders_2 3 rfl rfl)
theorem dX0_wanders_50 : decode cX0_wanders 50 = .ok (.getfield 45, 3) := dk_180 0 45 (dk_at dksX0_wanders_2 4 rfl rfl)
theorem dX0_wanders_53 : decode cX0_wanders 53 = .ok (.iload_n 2, 1) := dk_28 (dk_at dksX0_wanders_2 7 rfl rfl)
theorem dX0_wanders_54 : decode cX0_wanders 54 = .ok (.iaload, 1) := dk_46 (dk_at dksX0_wanders_2 8 rfl rfl)
theorem dX0_wanders_55 : decode cX0_wanders 55 = .ok (.aload_n 0, 1) := dk_42 (dk_at dksX0_wanders_2 9 rfl rfl)
theorem dX0_wanders_56 : decode cX0_wanders 56 = .ok (.getfield 45, 3) := dk_180 0 45 (dk_at dksX0_wanders_2 10 rfl rfl)
theorem dX0_wanders_59 : decode cX0_wanders 59 = .ok (.iload_n 1, 1) := dk_27 (dk_at dksX0_wanders_2 13 rfl rfl)
theorem dX0_wanders_60 : decode cX0_wanders 60 = .ok (.iaload, 1) := dk_46 (dk_at dksX0_wanders_2 14 rfl rfl)
theorem dX0_wanders_61 : decode cX0_wanders 61 = .ok (.if_icmp .ge 5, 3) := dk_162 0 5 (dk_at dksX0_wanders_2 15 rfl rfl)
theorem dX0_wanders_64 : decode cX0_wanders 64 = .ok (.iload_n 2, 1) := dk_28 (dk_at dksX0_wanders_2 18 rfl rfl)
theorem dX0_wanders_65 : decode cX0_wanders 65 = .ok (.istore_n 1, 1) := dk_60 (dk_at dksX0_wanders_2 19 rfl rfl)
theorem dX0_wanders_66 : decode cX0_wanders 66 = .ok (.iinc 2 1, 3) := dk_132 2 1 (dk_at dksX0_wanders_2 20 rfl rfl)
theorem dX0_wanders_69 : decode cX0_wanders 69 = .ok (.goto (-65), 3) := dk_167 255 191 (dk_at dksX0_wanders_3 0 rfl rfl)
theorem dX0_wanders_72 : decode cX0_wanders 72 = .ok (.iload_n 1, 1) := dk_27 (dk_at dksX0_wanders_3 3 rfl rfl)
theorem dX0_wanders_73 : decode cX0_wanders 73 = .ok (.iconst (-1), 1) := dk_2 (dk_at dksX0_wanders_3 4 rfl rfl)
theorem dX0_wanders_74 : decode cX0_wanders 74 = .ok (.if_icmp .ne 5, 3) := dk_160 0 5 (dk_at dksX0_wanders_3 5 rfl rfl)
theorem dX0_wanders_77 : decode cX0_wanders 77 = .ok (.iconst 0, 1) := dk_3 (dk_at dksX0_wanders_3 8 rfl rfl)
theorem dX0_wanders_78 : decode cX0_wanders 78 = .ok (.ireturn, 1) := dk_172 (dk_at dksX0_wanders_3 9 rfl rfl)
theorem dX0_wanders_79 : decode cX0_wanders 79 = .ok (.aload_n 0, 1) := dk_42 (dk_at dksX0_wanders_3 10 rfl rfl)
theorem dX0_wanders_80 : decode cX0_wanders 80 = .ok (.aload_n 0, 1) := dk_42 (dk_at dksX0_wanders_3 11 rfl rfl)
theorem dX0_wanders_81 : decode cX0_wanders 81 = .ok (.getfield 12, 3) := dk_180 0 12 (dk_at dksX0_wanders_3 12 rfl rfl)
theorem dX0_wanders_84 : decode cX0_wanders 84 = .ok (.iload_n 1, 1) := dk_27 (dk_at dksX0_wanders_3 15 rfl rfl)
theorem dX0_wanders_85 : decode cX0_wanders 85 = .ok (.invokevirtual 99, 3) := dk_182 0 99 (dk_at dksX0_wanders_3 16 rfl rfl)
theorem dX0_wanders_88 : decode cX0_wanders 88 = .ok (.checkcast 103, 3) := dk_192 0 103 (dk_at dksX0_wanders_3 19 rfl rfl)
theorem dX0_wanders_91 : decode cX0_wanders 91 = .ok (.aload_n 0, 1) := dk_42 (dk_at dksX0_wanders_3 22 rfl rfl)
theorem dX0_wanders_92 : decode cX0_wanders 92 = .ok (.getfield 312, 3) := dk_180 1 56 (dk_at dksX0_wanders_4 0 rfl rfl)
theorem dX0_wanders_95 : decode cX0_wanders 95 = .ok (.iload_n 1, 1) := dk_27 (dk_at dksX0_wanders_4 3 rfl rfl)
theorem dX0_wanders_96 : decode cX0_wanders 96 = .ok (.ishr, 1) := dk_122 (dk_at dksX0_wanders_4 4 rfl rfl)
theorem dX0_wanders_97 : decode cX0_wanders 97 = .ok (.iconst 1, 1) := dk_4 (dk_at dksX0_wanders_4 5 rfl rfl)
theorem dX0_wanders_98 : decode cX0_wanders 98 = .ok (.iand, 1) := dk_126 (dk_at dksX0_wanders_4 6 rfl rfl)
theorem dX0_wanders_99 : decode cX0_wanders 99 = .ok (.invokevirtual 244, 3) := dk_182 0 244 (dk_at dksX0_wanders_4 7 rfl rfl)
theorem dX0_wanders_102 : decode cX0_wanders 102 = .ok (.putfield 309, 3) := dk_181 1 53 (dk_at dksX0_wanders_4 10 rfl rfl)
theorem dX0_wanders_105 : decode cX0_wanders 105 = .ok (.aload_n 0, 1) := dk_42 (dk_at dksX0_wanders_4 13 rfl rfl)
theorem dX0_wanders_106 : decode cX0_wanders 106 = .ok (.dup, 1) := dk_89 (dk_at dksX0_wanders_4 14 rfl rfl)
theorem dX0_wanders_107 : decode cX0_wanders 107 = .ok (.getfield 312, 3) := dk_180 1 56 (dk_at dksX0_wanders_4 15 rfl rfl)
theorem dX0_wanders_110 : decode cX0_wanders 110 = .ok (.iconst 1, 1) := dk_4 (dk_at dksX0_wanders_4 18 rfl rfl)
theorem dX0_wanders_111 : decode cX0_wanders 111 = .ok (.iload_n 1, 1) := dk_27 (dk_at dksX0_wanders_4 19 rfl rfl)
theorem dX0_wanders_112 : decode cX0_wanders 112 = .ok (.ishl, 1) := dk_120 (dk_at dksX0_wanders_4 20 rfl rfl)
theorem dX0_wanders_113 : decode cX0_wanders 113 = .ok (.ixor, 1) := dk_130 (dk_at dksX0_wanders_4 21 rfl rfl)
theorem dX0_wanders_114 : decode cX0_wanders 114 = .ok (.putfield 312, 3) := dk_181 1 56 (dk_at dksX0_wanders_5 0 rfl rfl)
theorem dX0_wanders_117 : decode cX0_wanders 117 = .ok (.aload_n 0, 1) := dk_42 (dk_at dksX0_wanders_5 3 rfl rfl)
theorem dX0_wanders_118 : decode cX0_wanders 118 = .ok (.dup, 1) := dk_89 (dk_at dksX0_wanders_5 4 rfl rfl)
theorem dX0_wanders_119 : decode cX0_wanders 119 = .ok (.getfield 315, 3) := dk_180 1 59 (dk_at dksX0_wanders_5 5 rfl rfl)
theorem dX0_wanders_122 : decode cX0_wanders 122 = .ok (.iconst 1, 1) := dk_4 (dk_at dksX0_wanders_5 8 rfl rfl)
theorem dX0_wanders_123 : decode cX0_wanders 123 = .ok (.iadd, 1) := dk_96 (dk_at dksX0_wanders_5 9 rfl rfl)
theorem dX0_wanders_124 : decode cX0_wanders 124 = .ok (.putfield 315, 3) := dk_181 1 59 (dk_at dksX0_wanders_5 10 rfl rfl)
theorem dX0_wanders_127 : decode cX0_wanders 127 = .ok (.aload_n 0, 1) := dk_42 (dk_at dksX0_wanders_5 13 rfl rfl)
theorem dX0_wanders_128 : decode cX0_wanders 128 = .ok (.getfield 45, 3) := dk_180 0 45 (dk_at dksX0_wanders_5 14 rfl rfl)
theorem dX0_wanders_131 : decode cX0_wanders 131 = .ok (.iload_n 1, 1) := dk_27 (dk_at dksX0_wanders_5 17 rfl rfl)
theorem dX0_wanders_132 : decode cX0_wanders 132 = .ok (.aload_n 0, 1) := dk_42 (dk_at dksX0_wanders_5 18 rfl rfl)
theorem dX0_wanders_133 : decode cX0_wanders 133 = .ok (.getfield 315, 3) := dk_180 1 59 (dk_at dksX0_wanders_5 19 rfl rfl)
theorem dX0_wanders_136 : decode cX0_wanders 136 = .ok (.iastore, 1) := dk_79 (dk_at dksX0_wanders_5 22 rfl rfl)
theorem dX0_wanders_137 : decode cX0_wanders 137 = .ok (.aload_n 0, 1) := dk_42 (dk_at dksX0_wanders_5 23 rfl rfl)
theorem dX0_wanders_138 : decode cX0_wanders 138 = .ok (.dup, 1) := dk_89 (dk_at dksX0_wanders_6 0 rfl rfl)
theorem dX0_wanders_139 : decode cX0_wanders 139 = .ok (.getfield 318, 3) := dk_180 1 62 (dk_at dksX0_wanders_6 1 rfl rfl)
theorem dX0_wanders_142 : decode cX0_wanders 142 = .ok (.iconst 1, 1) := dk_4 (dk_at dksX0_wanders_6 4 rfl rfl)
theorem dX0_wanders_143 : decode cX0_wanders 143 = .ok (.iload_n 1, 1) := dk_27 (dk_at dksX0_wanders_6 5 rfl rfl)
theorem dX0_wanders_144 : decode cX0_wanders 144 = .ok (.ishl, 1) := dk_120 (dk_at dksX0_wanders_6 6 rfl rfl)
theorem dX0_wanders_145 : decode cX0_wanders 145 = .ok (.ior, 1) := dk_128 (dk_at dksX0_wanders_6 7 rfl rfl)
theorem dX0_wanders_146 : decode cX0_wanders 146 = .ok (.putfield 318, 3) := dk_181 1 62 (dk_at dksX0_wanders_6 8 rfl rfl)
theorem dX0_wanders_149 : decode cX0_wanders 149 = .ok (.iconst 1, 1) := dk_4 (dk_at dksX0_wanders_6 11 rfl rfl)
theorem dX0_wanders_150 : decode cX0_wanders 150 = .ok (.ireturn, 1) := dk_172 (dk_at dksX0_wanders_6 12 rfl rfl)
abbrev cX0_covers : ByteArray := prog_1_method_57_code
def yX0_covers : MethodName := ⟨RX0, "covers", "(I)I"⟩
def dkwX0_covers_2 : List UInt8 := [154, 0, 6, 16, 254, 172, 132, 3, 1, 167, 255, 228, 29, 172]
abbrev dktX0_covers_2 : List UInt8 := dkwX0_covers_2 ++ []
def dkwX0_covers_1 : List UInt8 := [4, 100, 61, 3, 62, 42, 180, 1, 62, 28, 159, 0, 26, 29, 17, 7, 208, 159, 0, 10, 42, 182, 1, 75]
abbrev dktX0_covers_1 : List UInt8 := dkwX0_covers_1 ++ dktX0_covers_2
def dkwX0_covers_0 : List UInt8 := [42, 27, 182, 1, 65, 154, 0, 5, 2, 172, 42, 27, 182, 1, 72, 4, 42, 180, 0, 12, 182, 0, 89, 120]
abbrev dktX0_covers_0 : List UInt8 := dkwX0_covers_0 ++ dktX0_covers_1
theorem dksX0_covers_0 : cX0_covers.data.toList.drop 0 = dktX0_covers_0 := by decide +kernel
theorem dksX0_covers_1 : cX0_covers.data.toList.drop 24 = dktX0_covers_1 := dk_seg dksX0_covers_0 24 rfl rfl
theorem dksX0_covers_2 : cX0_covers.data.toList.drop 48 = dktX0_covers_2 := dk_seg dksX0_covers_1 24 rfl rfl
theorem dX0_covers_0 : decode cX0_covers 0 = .ok (.aload_n 0, 1) := dk_42 (dk_at dksX0_covers_0 0 rfl rfl)
theorem dX0_covers_1 : decode cX0_covers 1 = .ok (.iload_n 1, 1) := dk_27 (dk_at dksX0_covers_0 1 rfl rfl)
theorem dX0_covers_2 : decode cX0_covers 2 = .ok (.invokevirtual 321, 3) := dk_182 1 65 (dk_at dksX0_covers_0 2 rfl rfl)
theorem dX0_covers_5 : decode cX0_covers 5 = .ok (.ifCond .ne 5, 3) := dk_154 0 5 (dk_at dksX0_covers_0 5 rfl rfl)
theorem dX0_covers_8 : decode cX0_covers 8 = .ok (.iconst (-1), 1) := dk_2 (dk_at dksX0_covers_0 8 rfl rfl)
theorem dX0_covers_9 : decode cX0_covers 9 = .ok (.ireturn, 1) := dk_172 (dk_at dksX0_covers_0 9 rfl rfl)
theorem dX0_covers_10 : decode cX0_covers 10 = .ok (.aload_n 0, 1) := dk_42 (dk_at dksX0_covers_0 10 rfl rfl)
theorem dX0_covers_11 : decode cX0_covers 11 = .ok (.iload_n 1, 1) := dk_27 (dk_at dksX0_covers_0 11 rfl rfl)
theorem dX0_covers_12 : decode cX0_covers 12 = .ok (.invokevirtual 328, 3) := dk_182 1 72 (dk_at dksX0_covers_0 12 rfl rfl)
theorem dX0_covers_15 : decode cX0_covers 15 = .ok (.iconst 1, 1) := dk_4 (dk_at dksX0_covers_0 15 rfl rfl)
theorem dX0_covers_16 : decode cX0_covers 16 = .ok (.aload_n 0, 1) := dk_42 (dk_at dksX0_covers_0 16 rfl rfl)
theorem dX0_covers_17 : decode cX0_covers 17 = .ok (.getfield 12, 3) := dk_180 0 12 (dk_at dksX0_covers_0 17 rfl rfl)
theorem dX0_covers_20 : decode cX0_covers 20 = .ok (.invokevirtual 89, 3) := dk_182 0 89 (dk_at dksX0_covers_0 20 rfl rfl)
theorem dX0_covers_23 : decode cX0_covers 23 = .ok (.ishl, 1) := dk_120 (dk_at dksX0_covers_0 23 rfl rfl)
theorem dX0_covers_24 : decode cX0_covers 24 = .ok (.iconst 1, 1) := dk_4 (dk_at dksX0_covers_1 0 rfl rfl)
theorem dX0_covers_25 : decode cX0_covers 25 = .ok (.isub, 1) := dk_100 (dk_at dksX0_covers_1 1 rfl rfl)
theorem dX0_covers_26 : decode cX0_covers 26 = .ok (.istore_n 2, 1) := dk_61 (dk_at dksX0_covers_1 2 rfl rfl)
theorem dX0_covers_27 : decode cX0_covers 27 = .ok (.iconst 0, 1) := dk_3 (dk_at dksX0_covers_1 3 rfl rfl)
theorem dX0_covers_28 : decode cX0_covers 28 = .ok (.istore_n 3, 1) := dk_62 (dk_at dksX0_covers_1 4 rfl rfl)
theorem dX0_covers_29 : decode cX0_covers 29 = .ok (.aload_n 0, 1) := dk_42 (dk_at dksX0_covers_1 5 rfl rfl)
theorem dX0_covers_30 : decode cX0_covers 30 = .ok (.getfield 318, 3) := dk_180 1 62 (dk_at dksX0_covers_1 6 rfl rfl)
theorem dX0_covers_33 : decode cX0_covers 33 = .ok (.iload_n 2, 1) := dk_28 (dk_at dksX0_covers_1 9 rfl rfl)
theorem dX0_covers_34 : decode cX0_covers 34 = .ok (.if_icmp .eq 26, 3) := dk_159 0 26 (dk_at dksX0_covers_1 10 rfl rfl)
theorem dX0_covers_37 : decode cX0_covers 37 = .ok (.iload_n 3, 1) := dk_29 (dk_at dksX0_covers_1 13 rfl rfl)
theorem dX0_covers_38 : decode cX0_covers 38 = .ok (.sipush 2000, 3) := dk_17 7 208 (dk_at dksX0_covers_1 14 rfl rfl)
theorem dX0_covers_41 : decode cX0_covers 41 = .ok (.if_icmp .eq 10, 3) := dk_159 0 10 (dk_at dksX0_covers_1 17 rfl rfl)
theorem dX0_covers_44 : decode cX0_covers 44 = .ok (.aload_n 0, 1) := dk_42 (dk_at dksX0_covers_1 20 rfl rfl)
theorem dX0_covers_45 : decode cX0_covers 45 = .ok (.invokevirtual 331, 3) := dk_182 1 75 (dk_at dksX0_covers_1 21 rfl rfl)
theorem dX0_covers_48 : decode cX0_covers 48 = .ok (.ifCond .ne 6, 3) := dk_154 0 6 (dk_at dksX0_covers_2 0 rfl rfl)
theorem dX0_covers_51 : decode cX0_covers 51 = .ok (.bipush (-2), 2) := dk_16 254 (dk_at dksX0_covers_2 3 rfl rfl)
theorem dX0_covers_53 : decode cX0_covers 53 = .ok (.ireturn, 1) := dk_172 (dk_at dksX0_covers_2 5 rfl rfl)
theorem dX0_covers_54 : decode cX0_covers 54 = .ok (.iinc 3 1, 3) := dk_132 3 1 (dk_at dksX0_covers_2 6 rfl rfl)
theorem dX0_covers_57 : decode cX0_covers 57 = .ok (.goto (-28), 3) := dk_167 255 228 (dk_at dksX0_covers_2 9 rfl rfl)
theorem dX0_covers_60 : decode cX0_covers 60 = .ok (.iload_n 3, 1) := dk_29 (dk_at dksX0_covers_2 12 rfl rfl)
theorem dX0_covers_61 : decode cX0_covers 61 = .ok (.ireturn, 1) := dk_172 (dk_at dksX0_covers_2 13 rfl rfl)
abbrev cX0_settles : ByteArray := prog_1_method_59_code
def yX0_settles : MethodName := ⟨RX0, "settles", "(II)I"⟩
def dkwX0_settles_6 : List UInt8 := [16, 254, 172]
abbrev dktX0_settles_6 : List UInt8 := dkwX0_settles_6 ++ []
def dkwX0_settles_5 : List UInt8 := [100, 172, 132, 4, 1, 167, 255, 200, 42, 182, 1, 75, 154, 0, 6, 16, 254, 172, 132, 3, 1, 167, 255, 147]
abbrev dktX0_settles_5 : List UInt8 := dkwX0_settles_5 ++ dktX0_settles_6
def dkwX0_settles_4 : List UInt8 := [21, 4, 46, 42, 180, 0, 52, 29, 46, 160, 0, 17, 28, 154, 0, 8, 21, 4, 167, 0, 7, 29, 21, 4]
abbrev dktX0_settles_4 : List UInt8 := dkwX0_settles_4 ++ dktX0_settles_5
def dkwX0_settles_3 : List UInt8 := [162, 0, 56, 42, 180, 0, 48, 21, 4, 47, 42, 180, 0, 48, 29, 47, 148, 154, 0, 33, 42, 180, 0, 52]
abbrev dktX0_settles_3 : List UInt8 := dkwX0_settles_3 ++ dktX0_settles_4
def dkwX0_settles_2 : List UInt8 := [180, 0, 52, 29, 42, 180, 1, 56, 6, 120, 42, 180, 1, 53, 128, 79, 3, 54, 4, 21, 4, 29]
abbrev dktX0_settles_2 : List UInt8 := dkwX0_settles_2 ++ dktX0_settles_3
def dkwX0_settles_1 : List UInt8 := [182, 1, 72, 3, 62, 29, 17, 7, 208, 163, 0, 108, 42, 180, 0, 48, 29, 42, 182, 1, 78, 80, 42]
abbrev dktX0_settles_1 : List UInt8 := dkwX0_settles_1 ++ dktX0_settles_2
def dkwX0_settles_0 : List UInt8 := [42, 27, 182, 1, 65, 153, 0, 13, 28, 133, 9, 10, 184, 0, 93, 154, 0, 5, 2, 172, 42, 27]
abbrev dktX0_settles_0 : List UInt8 := dkwX0_settles_0 ++ dktX0_settles_1
theorem dksX0_settles_0 : cX0_settles.data.toList.drop 0 = dktX0_settles_0 := by decide +kernel
theorem dksX0_settles_1 : cX0_settles.data.toList.drop 22 = dktX0_settles_1 := dk_seg dksX0_settles_0 22 rfl rfl
theorem dksX0_settles_2 : cX0_settles.data.toList.drop 45 = dktX0_settles_2 := dk_seg dksX0_settles_1 23 rfl rfl
theorem dksX0_settles_3 : cX0_settles.data.toList.drop 67 = dktX0_settles_3 := dk_seg dksX0_settles_2 22 rfl rfl
theorem dksX0_settles_4 : cX0_settles.data.toList.drop 91 = dktX0_settles_4 := dk_seg dksX0_settles_3 24 rfl rfl
theorem dksX0_settles_5 : cX0_settles.data.toList.drop 115 = dktX0_settles_5 := dk_seg dksX0_settles_4 24 rfl rfl
theorem dksX0_settles_6 : cX0_settles.data.toList.drop 139 = dktX0_settles_6 := dk_seg dksX0_settles_5 24 rfl rfl
theorem dX0_settles_0 : decode cX0_settles 0 = .ok (.aload_n 0, 1) := dk_42 (dk_at dksX0_settles_0 0 rfl rfl)
theorem dX0_settles_1 : decode cX0_settles 1 = .ok (.iload_n 1, 1) := dk_27 (dk_at dksX0_settles_0 1 rfl rfl)
theorem dX0_settles_2 : decode cX0_settles 2 = .ok (.invokevirtual 321, 3) := dk_182 1 65 (dk_at dksX0_settles_0 2 rfl rfl)
theorem dX0_settles_5 : decode cX0_settles 5 = .ok (.ifCond .eq 13, 3) := dk_153 0 13 (dk_at dksX0_settles_0 5 rfl rfl)
theorem dX0_settles_8 : decode cX0_settles 8 = .ok (.iload_n 2, 1) := dk_28 (dk_at dksX0_settles_0 8 rfl rfl)
theorem dX0_settles_9 : decode cX0_settles 9 = .ok (.i2l, 1) := dk_133 (dk_at dksX0_settles_0 9 rfl rfl)
theorem dX0_settles_10 : decode cX0_settles 10 = .ok (.lconst 0, 1) := dk_9 (dk_at dksX0_settles_0 10 rfl rfl)
theorem dX0_settles_11 : decode cX0_settles 11 = .ok (.lconst 1, 1) := dk_10 (dk_at dksX0_settles_0 11 rfl rfl)
theorem dX0_settles_12 : decode cX0_settles 12 = .ok (.invokestatic 93, 3) := dk_184 0 93 (dk_at dksX0_settles_0 12 rfl rfl)
theorem dX0_settles_15 : decode cX0_settles 15 = .ok (.ifCond .ne 5, 3) := dk_154 0 5 (dk_at dksX0_settles_0 15 rfl rfl)
theorem dX0_settles_18 : decode cX0_settles 18 = .ok (.iconst (-1), 1) := dk_2 (dk_at dksX0_settles_0 18 rfl rfl)
theorem dX0_settles_19 : decode cX0_settles 19 = .ok (.ireturn, 1) := dk_172 (dk_at dksX0_settles_0 19 rfl rfl)
theorem dX0_settles_20 : decode cX0_settles 20 = .ok (.aload_n 0, 1) := dk_42 (dk_at dksX0_settles_0 20 rfl rfl)
theorem dX0_settles_21 : decode cX0_settles 21 = .ok (.iload_n 1, 1) := dk_27 (dk_at dksX0_settles_0 21 rfl rfl)
theorem dX0_settles_22 : decode cX0_settles 22 = .ok (.invokevirtual 328, 3) := dk_182 1 72 (dk_at dksX0_settles_1 0 rfl rfl)
theorem dX0_settles_25 : decode cX0_settles 25 = .ok (.iconst 0, 1) := dk_3 (dk_at dksX0_settles_1 3 rfl rfl)
theorem dX0_settles_26 : decode cX0_settles 26 = .ok (.istore_n 3, 1) := dk_62 (dk_at dksX0_settles_1 4 rfl rfl)
theorem dX0_settles_27 : decode cX0_settles 27 = .ok (.iload_n 3, 1) := dk_29 (dk_at dksX0_settles_1 5 rfl rfl)
theorem dX0_settles_28 : decode cX0_settles 28 = .ok (.sipush 2000, 3) := dk_17 7 208 (dk_at dksX0_settles_1 6 rfl rfl)
theorem dX0_settles_31 : decode cX0_settles 31 = .ok (.if_icmp .gt 108, 3) := dk_163 0 108 (dk_at dksX0_settles_1 9 rfl rfl)
theorem dX0_settles_34 : decode cX0_settles 34 = .ok (.aload_n 0, 1) := dk_42 (dk_at dksX0_settles_1 12 rfl rfl)
theorem dX0_settles_35 : decode cX0_settles 35 = .ok (.getfield 48, 3) := dk_180 0 48 (dk_at dksX0_settles_1 13 rfl rfl)
theorem dX0_settles_38 : decode cX0_settles 38 = .ok (.iload_n 3, 1) := dk_29 (dk_at dksX0_settles_1 16 rfl rfl)
theorem dX0_settles_39 : decode cX0_settles 39 = .ok (.aload_n 0, 1) := dk_42 (dk_at dksX0_settles_1 17 rfl rfl)
theorem dX0_settles_40 : decode cX0_settles 40 = .ok (.invokevirtual 334, 3) := dk_182 1 78 (dk_at dksX0_settles_1 18 rfl rfl)
theorem dX0_settles_43 : decode cX0_settles 43 = .ok (.lastore, 1) := dk_80 (dk_at dksX0_settles_1 21 rfl rfl)
theorem dX0_settles_44 : decode cX0_settles 44 = .ok (.aload_n 0, 1) := dk_42 (dk_at dksX0_settles_1 22 rfl rfl)
theorem dX0_settles_45 : decode cX0_settles 45 = .ok (.getfield 52, 3) := dk_180 0 52 (dk_at dksX0_settles_2 0 rfl rfl)
theorem dX0_settles_48 : decode cX0_settles 48 = .ok (.iload_n 3, 1) := dk_29 (dk_at dksX0_settles_2 3 rfl rfl)
theorem dX0_settles_49 : decode cX0_settles 49 = .ok (.aload_n 0, 1) := dk_42 (dk_at dksX0_settles_2 4 rfl rfl)
theorem dX0_settles_50 : decode cX0_settles 50 = .ok (.getfield 312, 3) := dk_180 1 56 (dk_at dksX0_settles_2 5 rfl rfl)
theorem dX0_settles_53 : decode cX0_settles 53 = .ok (.iconst 3, 1) := dk_6 (dk_at dksX0_settles_2 8 rfl rfl)
theorem dX0_settles_54 : decode cX0_settles 54 = .ok (.ishl, 1) := dk_120 (dk_at dksX0_settles_2 9 rfl rfl)
theorem dX0_settles_55 : decode cX0_settles 55 = .ok (.aload_n 0, 1) := dk_42 (dk_at dksX0_settles_2 10 rfl rfl)
theorem dX0_settles_56 : decode cX0_settles 56 = .ok (.getfield 309, 3) := dk_180 1 53 (dk_at dksX0_settles_2 11 rfl rfl)
theorem dX0_settles_59 : decode cX0_settles 59 = .ok (.ior, 1) := dk_128 (dk_at dksX0_settles_2 14 rfl rfl)
theorem dX0_settles_60 : decode cX0_settles 60 = .ok (.iastore, 1) := dk_79 (dk_at dksX0_settles_2 15 rfl rfl)
theorem dX0_settles_61 : decode cX0_settles 61 = .ok (.iconst 0, 1) := dk_3 (dk_at dksX0_settles_2 16 rfl rfl)
theorem dX0_settles_62 : decode cX0_settles 62 = .ok (.istore 4, 2) := dk_54 4 (dk_at dksX0_settles_2 17 rfl rfl)
theorem dX0_settles_64 : decode cX0_settles 64 = .ok (.iload 4, 2) := dk_21 4 (dk_at dksX0_settles_2 19 rfl rfl)
theorem dX0_settles_66 : decode cX0_settles 66 = .ok (.iload_n 3, 1) := dk_29 (dk_at dksX0_settles_2 21 rfl rfl)
theorem dX0_settles_67 : decode cX0_settles 67 = .ok (.if_icmp .ge 56, 3) := dk_162 0 56 (dk_at dksX0_settles_3 0 rfl rfl)
theorem dX0_settles_70 : decode cX0_settles 70 = .ok (.aload_n 0, 1) := dk_42 (dk_at dksX0_settles_3 3 rfl rfl)
theorem dX0_settles_71 : decode cX0_settles 71 = .ok (.getfield 48, 3) := dk_180 0 48 (dk_at dksX0_settles_3 4 rfl rfl)
theorem dX0_settles_74 : decode cX0_settles 74 = .ok (.iload 4, 2) := dk_21 4 (dk_at dksX0_settles_3 7 rfl rfl)
theorem dX0_settles_76 : decode cX0_settles 76 = .ok (.laload, 1) := dk_47 (dk_at dksX0_settles_3 9 rfl rfl)
theorem dX0_settles_77 : decode cX0_settles 77 = .ok (.aload_n 0, 1) := dk_42 (dk_at dksX0_settles_3 10 rfl rfl)
theorem dX0_settles_78 : decode cX0_settles 78 = .ok (.getfield 48, 3) := dk_180 0 48 (dk_at dksX0_settles_3 11 rfl rfl)
theorem dX0_settles_81 : decode cX0_settles 81 = .ok (.iload_n 3, 1) := dk_29 (dk_at dksX0_settles_3 14 rfl rfl)
theorem dX0_settles_82 : decode cX0_settles 82 = .ok (.laload, 1) := dk_47 (dk_at dksX0_settles_3 15 rfl rfl)
theorem dX0_settles_83 : decode cX0_settles 83 = .ok (.lcmp, 1) := dk_148 (dk_at dksX0_settles_3 16 rfl rfl)
theorem dX0_settles_84 : decode cX0_settles 84 = .ok (.ifCond .ne 33, 3) := dk_154 0 33 (dk_at dksX0_settles_3 17 rfl rfl)
theorem dX0_settles_87 : decode cX0_settles 87 = .ok (.aload_n 0, 1) := dk_42 (dk_at dksX0_settles_3 20 rfl rfl)
theorem dX0_settles_88 : decode cX0_settles 88 = .ok (.getfield 52, 3) := dk_180 0 52 (dk_at dksX0_settles_3 21 rfl rfl)
theorem dX0_settles_91 : decode cX0_settles 91 = .ok (.iload 4, 2) := dk_21 4 (dk_at dksX0_settles_4 0 rfl rfl)
theorem dX0_settles_93 : decode cX0_settles 93 = .ok (.iaload, 1) := dk_46 (dk_at dksX0_settles_4 2 rfl rfl)
theorem dX0_settles_94 : decode cX0_settles 94 = .ok (.aload_n 0, 1) := dk_42 (dk_at dksX0_settles_4 3 rfl rfl)
theorem dX0_settles_95 : decode cX0_settles 95 = .ok (.getfield 52, 3) := dk_180 0 52 (dk_at dksX0_settles_4 4 rfl rfl)
theorem dX0_settles_98 : decode cX0_settles 98 = .ok (.iload_n 3, 1) := dk_29 (dk_at dksX0_settles_4 7 rfl rfl)
theorem dX0_settles_99 : decode cX0_settles 99 = .ok (.iaload, 1) := dk_46 (dk_at dksX0_settles_4 8 rfl rfl)
theorem dX0_settles_100 : decode cX0_settles 100 = .ok (.if_icmp .ne 17, 3) := dk_160 0 17 (dk_at dksX0_settles_4 9 rfl rfl)
theorem dX0_settles_103 : decode cX0_settles 103 = .ok (.iload_n 2, 1) := dk_28 (dk_at dksX0_settles_4 12 rfl rfl)
theorem dX0_settles_104 : decode cX0_settles 104 = .ok (.ifCond .ne 8, 3) := dk_154 0 8 (dk_at dksX0_settles_4 13 rfl rfl)
theorem dX0_settles_107 : decode cX0_settles 107 = .ok (.iload 4, 2) := dk_21 4 (dk_at dksX0_settles_4 16 rfl rfl)
theorem dX0_settles_109 : decode cX0_settles 109 = .ok (.goto 7, 3) := dk_167 0 7 (dk_at dksX0_settles_4 18 rfl rfl)
theorem dX0_settles_112 : decode cX0_settles 112 = .ok (.iload_n 3, 1) := dk_29 (dk_at dksX0_settles_4 21 rfl rfl)
theorem dX0_settles_113 : decode cX0_settles 113 = .ok (.iload 4, 2) := dk_21 4 (dk_at dksX0_settles_4 22 rfl rfl)
theorem dX0_settles_115 : decode cX0_settles 115 = .ok (.isub, 1) := dk_100 (dk_at dksX0_settles_5 0 rfl rfl)
theorem dX0_settles_116 : decode cX0_settles 116 = .ok (.ireturn, 1) := dk_172 (dk_at dksX0_settles_5 1 rfl rfl)
theorem dX0_settles_117 : decode cX0_settles 117 = .ok (.iinc 4 1, 3) := dk_132 4 1 (dk_at dksX0_settles_5 2 rfl rfl)
theorem dX0_settles_120 : decode cX0_settles 120 = .ok (.goto (-56), 3) := dk_167 255 200 (dk_at dksX0_settles_5 5 rfl rfl)
theorem dX0_settles_123 : decode cX0_settles 123 = .ok (.aload_n 0, 1) := dk_42 (dk_at dksX0_settles_5 8 rfl rfl)
theorem dX0_settles_124 : decode cX0_settles 124 = .ok (.invokevirtual 331, 3) := dk_182 1 75 (dk_at dksX0_settles_5 9 rfl rfl)
theorem dX0_settles_127 : decode cX0_settles 127 = .ok (.ifCond .ne 6, 3) := dk_154 0 6 (dk_at dksX0_settles_5 12 rfl rfl)
theorem dX0_settles_130 : decode cX0_settles 130 = .ok (.bipush (-2), 2) := dk_16 254 (dk_at dksX0_settles_5 15 rfl rfl)
theorem dX0_settles_132 : decode cX0_settles 132 = .ok (.ireturn, 1) := dk_172 (dk_at dksX0_settles_5 17 rfl rfl)
theorem dX0_settles_133 : decode cX0_settles 133 = .ok (.iinc 3 1, 3) := dk_132 3 1 (dk_at dksX0_settles_5 18 rfl rfl)
theorem dX0_settles_136 : decode cX0_settles 136 = .ok (.goto (-109), 3) := dk_167 255 147 (dk_at dksX0_settles_5 21 rfl rfl)
theorem dX0_settles_139 : decode cX0_settles 139 = .ok (.bipush (-2), 2) := dk_16 254 (dk_at dksX0_settles_6 0 rfl rfl)
theorem dX0_settles_141 : decode cX0_settles 141 = .ok (.ireturn, 1) := dk_172 (dk_at dksX0_settles_6 2 rfl rfl)
abbrev cX0_orderNow : ByteArray := prog_1_method_58_code
def yX0_orderNow : MethodName := ⟨RX0, "orderNow", "()J"⟩
def dkwX0_orderNow_3 : List UInt8 := [64, 132, 3, 1, 167, 255, 184, 31, 173]
abbrev dktX0_orderNow_3 : List UInt8 := dkwX0_orderNow_3 ++ []
def dkwX0_orderNow_2 : List UInt8 := [162, 0, 7, 4, 167, 0, 4, 3, 96, 54, 4, 132, 5, 1, 167, 255, 215, 31, 7, 121, 21, 4, 133, 129]
abbrev dktX0_orderNow_2 : List UInt8 := dkwX0_orderNow_2 ++ dktX0_orderNow_3
def dkwX0_orderNow_1 : List UInt8 := [180, 0, 12, 182, 0, 89, 162, 0, 35, 21, 4, 42, 180, 0, 45, 21, 5, 46, 42, 180, 0, 45, 29, 46]
abbrev dktX0_orderNow_1 : List UInt8 := dkwX0_orderNow_1 ++ dktX0_orderNow_2
def dkwX0_orderNow_0 : List UInt8 := [9, 64, 3, 62, 29, 42, 180, 0, 12, 182, 0, 89, 162, 0, 67, 3, 54, 4, 3, 54, 5, 21, 5, 42]
abbrev dktX0_orderNow_0 : List UInt8 := dkwX0_orderNow_0 ++ dktX0_orderNow_1
theorem dksX0_orderNow_0 : cX0_orderNow.data.toList.drop 0 = dktX0_orderNow_0 := by decide +kernel
theorem dksX0_orderNow_1 : cX0_orderNow.data.toList.drop 24 = dktX0_orderNow_1 := dk_seg dksX0_orderNow_0 24 rfl rfl
theorem dksX0_orderNow_2 : cX0_orderNow.data.toList.drop 48 = dktX0_orderNow_2 := dk_seg dksX0_orderNow_1 24 rfl rfl
theorem dksX0_orderNow_3 : cX0_orderNow.data.toList.drop 72 = dktX0_orderNow_3 := dk_seg dksX0_orderNow_2 24 rfl rfl
theorem dX0_orderNow_0 : decode cX0_orderNow 0 = .ok (.lconst 0, 1) := dk_9 (dk_at dksX0_orderNow_0 0 rfl rfl)
theorem dX0_orderNow_1 : decode cX0_orderNow 1 = .ok (.lstore_n 1, 1) := dk_64 (dk_at dksX0_orderNow_0 1 rfl rfl)
theorem dX0_orderNow_2 : decode cX0_orderNow 2 = .ok (.iconst 0, 1) := dk_3 (dk_at dksX0_orderNow_0 2 rfl rfl)
theorem dX0_orderNow_3 : decode cX0_orderNow 3 = .ok (.istore_n 3, 1) := dk_62 (dk_at dksX0_orderNow_0 3 rfl rfl)
theorem dX0_orderNow_4 : decode cX0_orderNow 4 = .ok (.iload_n 3, 1) := dk_29 (dk_at dksX0_orderNow_0 4 rfl rfl)
theorem dX0_orderNow_5 : decode cX0_orderNow 5 = .ok (.aload_n 0, 1) := dk_42 (dk_at dksX0_orderNow_0 5 rfl rfl)
theorem dX0_orderNow_6 : decode cX0_orderNow 6 = .ok (.getfield 12, 3) := dk_180 0 12 (dk_at dksX0_orderNow_0 6 rfl rfl)
theorem dX0_orderNow_9 : decode cX0_orderNow 9 = .ok (.invokevirtual 89, 3) := dk_182 0 89 (dk_at dksX0_orderNow_0 9 rfl rfl)
theorem dX0_orderNow_12 : decode cX0_orderNow 12 = .ok (.if_icmp .ge 67, 3) := dk_162 0 67 (dk_at dksX0_orderNow_0 12 rfl rfl)
theorem dX0_orderNow_15 : decode cX0_orderNow 15 = .ok (.iconst 0, 1) := dk_3 (dk_at dksX0_orderNow_0 15 rfl rfl)
theorem dX0_orderNow_16 : decode cX0_orderNow 16 = .ok (.istore 4, 2) := dk_54 4 (dk_at dksX0_orderNow_0 16 rfl rfl)
theorem dX0_orderNow_18 : decode cX0_orderNow 18 = .ok (.iconst 0, 1) := dk_3 (dk_at dksX0_orderNow_0 18 rfl rfl)
theorem dX0_orderNow_19 : decode cX0_orderNow 19 = .ok (.istore 5, 2) := dk_54 5 (dk_at dksX0_orderNow_0 19 rfl rfl)
theorem dX0_orderNow_21 : decode cX0_orderNow 21 = .ok (.iload 5, 2) := dk_21 5 (dk_at dksX0_orderNow_0 21 rfl rfl)
theorem dX0_orderNow_23 : decode cX0_orderNow 23 = .ok (.aload_n 0, 1) := dk_42 (dk_at dksX0_orderNow_0 23 rfl rfl)
theorem dX0_orderNow_24 : decode cX0_orderNow 24 = .ok (.getfield 12, 3) := dk_180 0 12 (dk_at dksX0_orderNow_1 0 rfl rfl)
theorem dX0_orderNow_27 : decode cX0_orderNow 27 = .ok (.invokevirtual 89, 3) := dk_182 0 89 (dk_at dksX0_orderNow_1 3 rfl rfl)
theorem dX0_orderNow_30 : decode cX0_orderNow 30 = .ok (.if_icmp .ge 35, 3) := dk_162 0 35 (dk_at dksX0_orderNow_1 6 rfl rfl)
theorem dX0_orderNow_33 : decode cX0_orderNow 33 = .ok (.iload 4, 2) := dk_21 4 (dk_at dksX0_orderNow_1 9 rfl rfl)
theorem dX0_orderNow_35 : decode cX0_orderNow 35 = .ok (.aload_n 0, 1) := dk_42 (dk_at dksX0_orderNow_1 11 rfl rfl)
theorem dX0_orderNow_36 : decode cX0_orderNow 36 = .ok (.getfield 45, 3) := dk_180 0 45 (dk_at dksX0_orderNow_1 12 rfl rfl)
theorem dX0_orderNow_39 : decode cX0_orderNow 39 = .ok (.iload 5, 2) := dk_21 5 (dk_at dksX0_orderNow_1 15 rfl rfl)
theorem dX0_orderNow_41 : decode cX0_orderNow 41 = .ok (.iaload, 1) := dk_46 (dk_at dksX0_orderNow_1 17 rfl rfl)
theorem dX0_orderNow_42 : decode cX0_orderNow 42 = .ok (.aload_n 0, 1) := dk_42 (dk_at dksX0_orderNow_1 18 rfl rfl)
theorem dX0_orderNow_43 : decode cX0_orderNow 43 = .ok (.getfield 45, 3) := dk_180 0 45 (dk_at dksX0_orderNow_1 19 rfl rfl)
theorem dX0_orderNow_46 : decode cX0_orderNow 46 = .ok (.iload_n 3, 1) := dk_29 (dk_at dksX0_orderNow_1 22 rfl rfl)
theorem dX0_orderNow_47 : decode cX0_orderNow 47 = .ok (.iaload, 1) := dk_46 (dk_at dksX0_orderNow_1 23 rfl rfl)
theorem dX0_orderNow_48 : decode cX0_orderNow 48 = .ok (.if_icmp .ge 7, 3) := dk_162 0 7 (dk_at dksX0_orderNow_2 0 rfl rfl)
theorem dX0_orderNow_51 : decode cX0_orderNow 51 = .ok (.iconst 1, 1) := dk_4 (dk_at dksX0_orderNow_2 3 rfl rfl)
theorem dX0_orderNow_52 : decode cX0_orderNow 52 = .ok (.goto 4, 3) := dk_167 0 4 (dk_at dksX0_orderNow_2 4 rfl rfl)
theorem dX0_orderNow_55 : decode cX0_orderNow 55 = .ok (.iconst 0, 1) := dk_3 (dk_at dksX0_orderNow_2 7 rfl rfl)
theorem dX0_orderNow_56 : decode cX0_orderNow 56 = .ok (.iadd, 1) := dk_96 (dk_at dksX0_orderNow_2 8 rfl rfl)
theorem dX0_orderNow_57 : decode cX0_orderNow 57 = .ok (.istore 4, 2) := dk_54 4 (dk_at dksX0_orderNow_2 9 rfl rfl)
theorem dX0_orderNow_59 : decode cX0_orderNow 59 = .ok (.iinc 5 1, 3) := dk_132 5 1 (dk_at dksX0_orderNow_2 11 rfl rfl)
theorem dX0_orderNow_62 : decode cX0_orderNow 62 = .ok (.goto (-41), 3) := dk_167 255 215 (dk_at dksX0_orderNow_2 14 rfl rfl)
theorem dX0_orderNow_65 : decode cX0_orderNow 65 = .ok (.lload_n 1, 1) := dk_31 (dk_at dksX0_orderNow_2 17 rfl rfl)
theorem dX0_orderNow_66 : decode cX0_orderNow 66 = .ok (.iconst 4, 1) := dk_7 (dk_at dksX0_orderNow_2 18 rfl rfl)
theorem dX0_orderNow_67 : decode cX0_orderNow 67 = .ok (.lshl, 1) := dk_121 (dk_at dksX0_orderNow_2 19 rfl rfl)
theorem dX0_orderNow_68 : decode cX0_orderNow 68 = .ok (.iload 4, 2) := dk_21 4 (dk_at dksX0_orderNow_2 20 rfl rfl)
theorem dX0_orderNow_70 : decode cX0_orderNow 70 = .ok (.i2l, 1) := dk_133 (dk_at dksX0_orderNow_2 22 rfl rfl)
theorem dX0_orderNow_71 : decode cX0_orderNow 71 = .ok (.lor, 1) := dk_129 (dk_at dksX0_orderNow_2 23 rfl rfl)
theorem dX0_orderNow_72 : decode cX0_orderNow 72 = .ok (.lstore_n 1, 1) := dk_64 (dk_at dksX0_orderNow_3 0 rfl rfl)
theorem dX0_orderNow_73 : decode cX0_orderNow 73 = .ok (.iinc 3 1, 3) := dk_132 3 1 (dk_at dksX0_orderNow_3 1 rfl rfl)
theorem dX0_orderNow_76 : decode cX0_orderNow 76 = .ok (.goto (-72), 3) := dk_167 255 184 (dk_at dksX0_orderNow_3 4 rfl rfl)
theorem dX0_orderNow_79 : decode cX0_orderNow 79 = .ok (.lload_n 1, 1) := dk_31 (dk_at dksX0_orderNow_3 7 rfl rfl)
theorem dX0_orderNow_80 : decode cX0_orderNow 80 = .ok (.lreturn, 1) := dk_173 (dk_at dksX0_orderNow_3 8 rfl rfl)
abbrev cX0_row : ByteArray := prog_1_method_60_code
def yX0_row : MethodName := ⟨RX0, "row", "(II)I"⟩
def dkwX0_row_3 : List UInt8 := [181, 0, 163, 42, 180, 0, 163, 172]
abbrev dktX0_row_3 : List UInt8 := dkwX0_row_3 ++ []
def dkwX0_row_2 : List UInt8 := [180, 0, 163, 27, 79, 42, 180, 0, 58, 42, 180, 0, 163, 28, 79, 42, 89, 180, 0, 163, 4, 96]
abbrev dktX0_row_2 : List UInt8 := dkwX0_row_2 ++ dktX0_row_3
def dkwX0_row_1 : List UInt8 := [182, 0, 171, 153, 0, 12, 42, 180, 0, 163, 16, 40, 160, 0, 6, 16, 254, 172, 42, 180, 0, 55, 42]
abbrev dktX0_row_1 : List UInt8 := dkwX0_row_1 ++ dktX0_row_2
def dkwX0_row_0 : List UInt8 := [27, 2, 160, 0, 10, 42, 3, 181, 0, 163, 3, 172, 42, 27, 182, 0, 187, 153, 0, 20, 42, 28]
abbrev dktX0_row_0 : List UInt8 := dkwX0_row_0 ++ dktX0_row_1
theorem dksX0_row_0 : cX0_row.data.toList.drop 0 = dktX0_row_0 := by decide +kernel
theorem dksX0_row_1 : cX0_row.data.toList.drop 22 = dktX0_row_1 := dk_seg dksX0_row_0 22 rfl rfl
theorem dksX0_row_2 : cX0_row.data.toList.drop 45 = dktX0_row_2 := dk_seg dksX0_row_1 23 rfl rfl
theorem dksX0_row_3 : cX0_row.data.toList.drop 67 = dktX0_row_3 := dk_seg dksX0_row_2 22 rfl rfl
theorem dX0_row_0 : decode cX0_row 0 = .ok (.iload_n 1, 1) := dk_27 (dk_at dksX0_row_0 0 rfl rfl)
theorem dX0_row_1 : decode cX0_row 1 = .ok (.iconst (-1), 1) := dk_2 (dk_at dksX0_row_0 1 rfl rfl)
theorem dX0_row_2 : decode cX0_row 2 = .ok (.if_icmp .ne 10, 3) := dk_160 0 10 (dk_at dksX0_row_0 2 rfl rfl)
theorem dX0_row_5 : decode cX0_row 5 = .ok (.aload_n 0, 1) := dk_42 (dk_at dksX0_row_0 5 rfl rfl)
theorem dX0_row_6 : decode cX0_row 6 = .ok (.iconst 0, 1) := dk_3 (dk_at dksX0_row_0 6 rfl rfl)
theorem dX0_row_7 : decode cX0_row 7 = .ok (.putfield 163, 3) := dk_181 0 163 (dk_at dksX0_row_0 7 rfl rfl)
theorem dX0_row_10 : decode cX0_row 10 = .ok (.iconst 0, 1) := dk_3 (dk_at dksX0_row_0 10 rfl rfl)
theorem dX0_row_11 : decode cX0_row 11 = .ok (.ireturn, 1) := dk_172 (dk_at dksX0_row_0 11 rfl rfl)
theorem dX0_row_12 : decode cX0_row 12 = .ok (.aload_n 0, 1) := dk_42 (dk_at dksX0_row_0 12 rfl rfl)
theorem dX0_row_13 : decode cX0_row 13 = .ok (.iload_n 1, 1) := dk_27 (dk_at dksX0_row_0 13 rfl rfl)
theorem dX0_row_14 : decode cX0_row 14 = .ok (.invokevirtual 187, 3) := dk_182 0 187 (dk_at dksX0_row_0 14 rfl rfl)
theorem dX0_row_17 : decode cX0_row 17 = .ok (.ifCond .eq 20, 3) := dk_153 0 20 (dk_at dksX0_row_0 17 rfl rfl)
theorem dX0_row_20 : decode cX0_row 20 = .ok (.aload_n 0, 1) := dk_42 (dk_at dksX0_row_0 20 rfl rfl)
theorem dX0_row_21 : decode cX0_row 21 = .ok (.iload_n 2, 1) := dk_28 (dk_at dksX0_row_0 21 rfl rfl)
theorem dX0_row_22 : decode cX0_row 22 = .ok (.invokevirtual 171, 3) := dk_182 0 171 (dk_at dksX0_row_1 0 rfl rfl)
theorem dX0_row_25 : decode cX0_row 25 = .ok (.ifCond .eq 12, 3) := dk_153 0 12 (dk_at dksX0_row_1 3 rfl rfl)
theorem dX0_row_28 : decode cX0_row 28 = .ok (.aload_n 0, 1) := dk_42 (dk_at dksX0_row_1 6 rfl rfl)
theorem dX0_row_29 : decode cX0_row 29 = .ok (.getfield 163, 3) := dk_180 0 163 (dk_at dksX0_row_1 7 rfl rfl)
theorem dX0_row_32 : decode cX0_row 32 = .ok (.bipush 40, 2) := dk_16 40 (dk_at dksX0_row_1 10 rfl rfl)
theorem dX0_row_34 : decode cX0_row 34 = .ok (.if_icmp .ne 6, 3) := dk_160 0 6 (dk_at dksX0_row_1 12 rfl rfl)
theorem dX0_row_37 : decode cX0_row 37 = .ok (.bipush (-2), 2) := dk_16 254 (dk_at dksX0_row_1 15 rfl rfl)
theorem dX0_row_39 : decode cX0_row 39 = .ok (.ireturn, 1) := dk_172 (dk_at dksX0_row_1 17 rfl rfl)
theorem dX0_row_40 : decode cX0_row 40 = .ok (.aload_n 0, 1) := dk_42 (dk_at dksX0_row_1 18 rfl rfl)
theorem dX0_row_41 : decode cX0_row 41 = .ok (.getfield 55, 3) := dk_180 0 55 (dk_at dksX0_row_1 19 rfl rfl)
theorem dX0_row_44 : decode cX0_row 44 = .ok (.aload_n 0, 1) := dk_42 (dk_at dksX0_row_1 22 rfl rfl)
theorem dX0_row_45 : decode cX0_row 45 = .ok (.getfield 163, 3) := dk_180 0 163 (dk_at dksX0_row_2 0 rfl rfl)
theorem dX0_row_48 : decode cX0_row 48 = .ok (.iload_n 1, 1) := dk_27 (dk_at dksX0_row_2 3 rfl rfl)
theorem dX0_row_49 : decode cX0_row 49 = .ok (.iastore, 1) := dk_79 (dk_at dksX0_row_2 4 rfl rfl)
theorem dX0_row_50 : decode cX0_row 50 = .ok (.aload_n 0, 1) := dk_42 (dk_at dksX0_row_2 5 rfl rfl)
theorem dX0_row_51 : decode cX0_row 51 = .ok (.getfield 58, 3) := dk_180 0 58 (dk_at dksX0_row_2 6 rfl rfl)
theorem dX0_row_54 : decode cX0_row 54 = .ok (.aload_n 0, 1) := dk_42 (dk_at dksX0_row_2 9 rfl rfl)
theorem dX0_row_55 : decode cX0_row 55 = .ok (.getfield 163, 3) := dk_180 0 163 (dk_at dksX0_row_2 10 rfl rfl)
theorem dX0_row_58 : decode cX0_row 58 = .ok (.iload_n 2, 1) := dk_28 (dk_at dksX0_row_2 13 rfl rfl)
theorem dX0_row_59 : decode cX0_row 59 = .ok (.iastore, 1) := dk_79 (dk_at dksX0_row_2 14 rfl rfl)
theorem dX0_row_60 : decode cX0_row 60 = .ok (.aload_n 0, 1) := dk_42 (dk_at dksX0_row_2 15 rfl rfl)
theorem dX0_row_61 : decode cX0_row 61 = .ok (.dup, 1) := dk_89 (dk_at dksX0_row_2 16 rfl rfl)
theorem dX0_row_62 : decode cX0_row 62 = .ok (.getfield 163, 3) := dk_180 0 163 (dk_at dksX0_row_2 17 rfl rfl)
theorem dX0_row_65 : decode cX0_row 65 = .ok (.iconst 1, 1) := dk_4 (dk_at dksX0_row_2 20 rfl rfl)
theorem dX0_row_66 : decode cX0_row 66 = .ok (.iadd, 1) := dk_96 (dk_at dksX0_row_2 21 rfl rfl)
theorem dX0_row_67 : decode cX0_row 67 = .ok (.putfield 163, 3) := dk_181 0 163 (dk_at dksX0_row_3 0 rfl rfl)
theorem dX0_row_70 : decode cX0_row 70 = .ok (.aload_n 0, 1) := dk_42 (dk_at dksX0_row_3 3 rfl rfl)
theorem dX0_row_71 : decode cX0_row 71 = .ok (.getfield 163, 3) := dk_180 0 163 (dk_at dksX0_row_3 4 rfl rfl)
theorem dX0_row_74 : decode cX0_row 74 = .ok (.ireturn, 1) := dk_172 (dk_at dksX0_row_3 7 rfl rfl)
abbrev cX0_done : ByteArray := prog_1_method_64_code
def yX0_done : MethodName := ⟨RX0, "done", "()I"⟩
def dkwX0_done_0 : List UInt8 := [42, 42, 180, 0, 163, 182, 1, 91, 172]
abbrev dktX0_done_0 : List UInt8 := dkwX0_done_0 ++ []
theorem dksX0_done_0 : cX0_done.data.toList.drop 0 = dktX0_done_0 := by decide +kernel
theorem dX0_done_0 : decode cX0_done 0 = .ok (.aload_n 0, 1) := dk_42 (dk_at dksX0_done_0 0 rfl rfl)
theorem dX0_done_1 : decode cX0_done 1 = .ok (.aload_n 0, 1) := dk_42 (dk_at dksX0_done_0 1 rfl rfl)
theorem dX0_done_2 : decode cX0_done 2 = .ok (.getfield 163, 3) := dk_180 0 163 (dk_at dksX0_done_0 2 rfl rfl)
theorem dX0_done_5 : decode cX0_done 5 = .ok (.invokevirtual 347, 3) := dk_182 1 91 (dk_at dksX0_done_0 5 rfl rfl)
theorem dX0_done_8 : decode cX0_done 8 = .ok (.ireturn, 1) := dk_172 (dk_at dksX0_done_0 8 rfl rfl)
abbrev cX0_doesRow : ByteArray := prog_1_method_63_code
def yX0_doesRow : MethodName := ⟨RX0, "doesRow", "(I)I"⟩
def dkwX0_doesRow_1 : List UInt8 := [167, 255, 240, 28, 172]
abbrev dktX0_doesRow_1 : List UInt8 := dkwX0_doesRow_1 ++ []
def dkwX0_doesRow_0 : List UInt8 := [42, 182, 1, 85, 3, 61, 28, 27, 162, 0, 17, 42, 28, 182, 1, 88, 153, 0, 9, 132, 2, 1]
abbrev dktX0_doesRow_0 : List UInt8 := dkwX0_doesRow_0 ++ dktX0_doesRow_1
theorem dksX0_doesRow_0 : cX0_doesRow.data.toList.drop 0 = dktX0_doesRow_0 := by decide +kernel
theorem dksX0_doesRow_1 : cX0_doesRow.data.toList.drop 22 = dktX0_doesRow_1 := dk_seg dksX0_doesRow_0 22 rfl rfl
theorem dX0_doesRow_0 : decode cX0_doesRow 0 = .ok (.aload_n 0, 1) := dk_42 (dk_at dksX0_doesRow_0 0 rfl rfl)
theorem dX0_doesRow_1 : decode cX0_doesRow 1 = .ok (.invokevirtual 341, 3) := dk_182 1 85 (dk_at dksX0_doesRow_0 1 rfl rfl)
theorem dX0_doesRow_4 : decode cX0_doesRow 4 = .ok (.iconst 0, 1) := dk_3 (dk_at dksX0_doesRow_0 4 rfl rfl)
theorem dX0_doesRow_5 : decode cX0_doesRow 5 = .ok (.istore_n 2, 1) := dk_61 (dk_at dksX0_doesRow_0 5 rfl rfl)
theorem dX0_doesRow_6 : decode cX0_doesRow 6 = .ok (.iload_n 2, 1) := dk_28 (dk_at dksX0_doesRow_0 6 rfl rfl)
theorem dX0_doesRow_7 : decode cX0_doesRow 7 = .ok (.iload_n 1, 1) := dk_27 (dk_at dksX0_doesRow_0 7 rfl rfl)
theorem dX0_doesRow_8 : decode cX0_doesRow 8 = .ok (.if_icmp .ge 17, 3) := dk_162 0 17 (dk_at dksX0_doesRow_0 8 rfl rfl)
theorem dX0_doesRow_11 : decode cX0_doesRow 11 = .ok (.aload_n 0, 1) := dk_42 (dk_at dksX0_doesRow_0 11 rfl rfl)
theorem dX0_doesRow_12 : decode cX0_doesRow 12 = .ok (.iload_n 2, 1) := dk_28 (dk_at dksX0_doesRow_0 12 rfl rfl)
theorem dX0_doesRow_13 : decode cX0_doesRow 13 = .ok (.invokevirtual 344, 3) := dk_182 1 88 (dk_at dksX0_doesRow_0 13 rfl rfl)
theorem dX0_doesRow_16 : decode cX0_doesRow 16 = .ok (.ifCond .eq 9, 3) := dk_153 0 9 (dk_at dksX0_doesRow_0 16 rfl rfl)
theorem dX0_doesRow_19 : decode cX0_doesRow 19 = .ok (.iinc 2 1, 3) := dk_132 2 1 (dk_at dksX0_doesRow_0 19 rfl rfl)
theorem dX0_doesRow_22 : decode cX0_doesRow 22 = .ok (.goto (-16), 3) := dk_167 255 240 (dk_at dksX0_doesRow_1 0 rfl rfl)
theorem dX0_doesRow_25 : decode cX0_doesRow 25 = .ok (.iload_n 2, 1) := dk_28 (dk_at dksX0_doesRow_1 3 rfl rfl)
theorem dX0_doesRow_26 : decode cX0_doesRow 26 = .ok (.ireturn, 1) := dk_172 (dk_at dksX0_doesRow_1 4 rfl rfl)
abbrev cX0_standsAll : ByteArray := prog_1_method_61_code
def yX0_standsAll : MethodName := ⟨RX0, "standsAll", "()V"⟩
def dkwX0_standsAll_3 : List UInt8 := [167, 255, 200, 177]
abbrev dktX0_standsAll_3 : List UInt8 := dkwX0_standsAll_3 ++ []
def dkwX0_standsAll_2 : List UInt8 := [180, 0, 18, 27, 182, 0, 99, 192, 0, 109, 180, 0, 122, 167, 0, 5, 16, 8, 79, 132, 1, 1]
abbrev dktX0_standsAll_2 : List UInt8 := dkwX0_standsAll_2 ++ dktX0_standsAll_3
def dkwX0_standsAll_1 : List UInt8 := [180, 0, 61, 27, 42, 180, 0, 18, 27, 182, 0, 99, 192, 0, 109, 182, 0, 115, 153, 0, 20, 42]
abbrev dktX0_standsAll_1 : List UInt8 := dkwX0_standsAll_1 ++ dktX0_standsAll_2
def dkwX0_standsAll_0 : List UInt8 := [42, 42, 182, 0, 227, 181, 1, 82, 3, 60, 27, 42, 180, 0, 18, 182, 0, 89, 162, 0, 51, 42]
abbrev dktX0_standsAll_0 : List UInt8 := dkwX0_standsAll_0 ++ dktX0_standsAll_1
theorem dksX0_standsAll_0 : cX0_standsAll.data.toList.drop 0 = dktX0_standsAll_0 := by decide +kernel
theorem dksX0_standsAll_1 : cX0_standsAll.data.toList.drop 22 = dktX0_standsAll_1 := dk_seg dksX0_standsAll_0 22 rfl rfl
theorem dksX0_standsAll_2 : cX0_standsAll.data.toList.drop 44 = dktX0_standsAll_2 := dk_seg dksX0_standsAll_1 22 rfl rfl
theorem dksX0_standsAll_3 : cX0_standsAll.data.toList.drop 66 = dktX0_standsAll_3 := dk_seg dksX0_standsAll_2 22 rfl rfl
theorem dX0_standsAll_0 : decode cX0_standsAll 0 = .ok (.aload_n 0, 1) := dk_42 (dk_at dksX0_standsAll_0 0 rfl rfl)
theorem dX0_standsAll_1 : decode cX0_standsAll 1 = .ok (.aload_n 0, 1) := dk_42 (dk_at dksX0_standsAll_0 1 rfl rfl)
theorem dX0_standsAll_2 : decode cX0_standsAll 2 = .ok (.invokevirtual 227, 3) := dk_182 0 227 (dk_at dksX0_standsAll_0 2 rfl rfl)
theorem dX0_standsAll_5 : decode cX0_standsAll 5 = .ok (.putfield 338, 3) := dk_181 1 82 (dk_at dksX0_standsAll_0 5 rfl rfl)
theorem dX0_standsAll_8 : decode cX0_standsAll 8 = .ok (.iconst 0, 1) := dk_3 (dk_at dksX0_standsAll_0 8 rfl rfl)
theorem dX0_standsAll_9 : decode cX0_standsAll 9 = .ok (.istore_n 1, 1) := dk_60 (dk_at dksX0_standsAll_0 9 rfl rfl)
theorem dX0_standsAll_10 : decode cX0_standsAll 10 = .ok (.iload_n 1, 1) := dk_27 (dk_at dksX0_standsAll_0 10 rfl rfl)
theorem dX0_standsAll_11 : decode cX0_standsAll 11 = .ok (.aload_n 0, 1) := dk_42 (dk_at dksX0_standsAll_0 11 rfl rfl)
theorem dX0_standsAll_12 : decode cX0_standsAll 12 = .ok (.getfield 18, 3) := dk_180 0 18 (dk_at dksX0_standsAll_0 12 rfl rfl)
theorem dX0_standsAll_15 : decode cX0_standsAll 15 = .ok (.invokevirtual 89, 3) := dk_182 0 89 (dk_at dksX0_standsAll_0 15 rfl rfl)
theorem dX0_standsAll_18 : decode cX0_standsAll 18 = .ok (.if_icmp .ge 51, 3) := dk_162 0 51 (dk_at dksX0_standsAll_0 18 rfl rfl)
theorem dX0_standsAll_21 : decode cX0_standsAll 21 = .ok (.aload_n 0, 1) := dk_42 (dk_at dksX0_standsAll_0 21 rfl rfl)
theorem dX0_standsAll_22 : decode cX0_standsAll 22 = .ok (.getfield 61, 3) := dk_180 0 61 (dk_at dksX0_standsAll_1 0 rfl rfl)
theorem dX0_standsAll_25 : decode cX0_standsAll 25 = .ok (.iload_n 1, 1) := dk_27 (dk_at dksX0_standsAll_1 3 rfl rfl)
theorem dX0_standsAll_26 : decode cX0_standsAll 26 = .ok (.aload_n 0, 1) := dk_42 (dk_at dksX0_standsAll_1 4 rfl rfl)
theorem dX0_standsAll_27 : decode cX0_standsAll 27 = .ok (.getfield 18, 3) := dk_180 0 18 (dk_at dksX0_standsAll_1 5 rfl rfl)
theorem dX0_standsAll_30 : decode cX0_standsAll 30 = .ok (.iload_n 1, 1) := dk_27 (dk_at dksX0_standsAll_1 8 rfl rfl)
theorem dX0_standsAll_31 : decode cX0_standsAll 31 = .ok (.invokevirtual 99, 3) := dk_182 0 99 (dk_at dksX0_standsAll_1 9 rfl rfl)
theorem dX0_standsAll_34 : decode cX0_standsAll 34 = .ok (.checkcast 109, 3) := dk_192 0 109 (dk_at dksX0_standsAll_1 12 rfl rfl)
theorem dX0_standsAll_37 : decode cX0_standsAll 37 = .ok (.invokevirtual 115, 3) := dk_182 0 115 (dk_at dksX0_standsAll_1 15 rfl rfl)
theorem dX0_standsAll_40 : decode cX0_standsAll 40 = .ok (.ifCond .eq 20, 3) := dk_153 0 20 (dk_at dksX0_standsAll_1 18 rfl rfl)
theorem dX0_standsAll_43 : decode cX0_standsAll 43 = .ok (.aload_n 0, 1) := dk_42 (dk_at dksX0_standsAll_1 21 rfl rfl)
theorem dX0_standsAll_44 : decode cX0_standsAll 44 = .ok (.getfield 18, 3) := dk_180 0 18 (dk_at dksX0_standsAll_2 0 rfl rfl)
theorem dX0_standsAll_47 : decode cX0_standsAll 47 = .ok (.iload_n 1, 1) := dk_27 (dk_at dksX0_standsAll_2 3 rfl rfl)
theorem dX0_standsAll_48 : decode cX0_standsAll 48 = .ok (.invokevirtual 99, 3) := dk_182 0 99 (dk_at dksX0_standsAll_2 4 rfl rfl)
theorem dX0_standsAll_51 : decode cX0_standsAll 51 = .ok (.checkcast 109, 3) := dk_192 0 109 (dk_at dksX0_standsAll_2 7 rfl rfl)
theorem dX0_standsAll_54 : decode cX0_standsAll 54 = .ok (.getfield 122, 3) := dk_180 0 122 (dk_at dksX0_standsAll_2 10 rfl rfl)
theorem dX0_standsAll_57 : decode cX0_standsAll 57 = .ok (.goto 5, 3) := dk_167 0 5 (dk_at dksX0_standsAll_2 13 rfl rfl)
theorem dX0_standsAll_60 : decode cX0_standsAll 60 = .ok (.bipush 8, 2) := dk_16 8 (dk_at dksX0_standsAll_2 16 rfl rfl)
theorem dX0_standsAll_62 : decode cX0_standsAll 62 = .ok (.iastore, 1) := dk_79 (dk_at dksX0_standsAll_2 18 rfl rfl)
theorem dX0_standsAll_63 : decode cX0_standsAll 63 = .ok (.iinc 1 1, 3) := dk_132 1 1 (dk_at dksX0_standsAll_2 19 rfl rfl)
theorem dX0_standsAll_66 : decode cX0_standsAll 66 = .ok (.goto (-56), 3) := dk_167 255 200 (dk_at dksX0_standsAll_3 0 rfl rfl)
theorem dX0_standsAll_69 : decode cX0_standsAll 69 = .ok (.return_, 1) := dk_177 (dk_at dksX0_standsAll_3 3 rfl rfl)
abbrev cX0_does : ByteArray := prog_1_method_62_code
def yX0_does : MethodName := ⟨RX0, "does", "(I)Z"⟩
def dkwX0_does_4 : List UInt8 := [172]
abbrev dktX0_does_4 : List UInt8 := dkwX0_does_4 ++ []
def dkwX0_does_3 : List UInt8 := [182, 0, 99, 192, 0, 103, 29, 182, 0, 244, 79, 42, 89, 180, 1, 82, 4, 28, 120, 130, 181, 1, 82, 4]
abbrev dktX0_does_3 : List UInt8 := dkwX0_does_3 ++ dktX0_does_4
def dkwX0_does_2 : List UInt8 := [46, 46, 159, 0, 5, 3, 172, 42, 180, 0, 61, 42, 180, 0, 55, 27, 46, 42, 180, 0, 12, 28]
abbrev dktX0_does_2 : List UInt8 := dkwX0_does_2 ++ dktX0_does_3
def dkwX0_does_1 : List UInt8 := [42, 180, 0, 12, 28, 182, 0, 99, 192, 0, 103, 29, 182, 0, 239, 42, 180, 0, 61, 42, 180, 0, 55, 27]
abbrev dktX0_does_1 : List UInt8 := dkwX0_does_1 ++ dktX0_does_2
def dkwX0_does_0 : List UInt8 := [42, 180, 0, 58, 27, 46, 61, 42, 180, 1, 82, 28, 122, 4, 126, 62, 42, 28, 182, 0, 184, 157, 0, 32]
abbrev dktX0_does_0 : List UInt8 := dkwX0_does_0 ++ dktX0_does_1
theorem dksX0_does_0 : cX0_does.data.toList.drop 0 = dktX0_does_0 := by decide +kernel
theorem dksX0_does_1 : cX0_does.data.toList.drop 24 = dktX0_does_1 := dk_seg dksX0_does_0 24 rfl rfl
theorem dksX0_does_2 : cX0_does.data.toList.drop 48 = dktX0_does_2 := dk_seg dksX0_does_1 24 rfl rfl
theorem dksX0_does_3 : cX0_does.data.toList.drop 70 = dktX0_does_3 := dk_seg dksX0_does_2 22 rfl rfl
theorem dksX0_does_4 : cX0_does.data.toList.drop 94 = dktX0_does_4 := dk_seg dksX0_does_3 24 rfl rfl
theorem dX0_does_0 : decode cX0_does 0 = .ok (.aload_n 0, 1) := dk_42 (dk_at dksX0_does_0 0 rfl rfl)
theorem dX0_does_1 : decode cX0_does 1 = .ok (.getfield 58, 3) := dk_180 0 58 (dk_at dksX0_does_0 1 rfl rfl)
theorem dX0_does_4 : decode cX0_does 4 = .ok (.iload_n 1, 1) := dk_27 (dk_at dksX0_does_0 4 rfl rfl)
theorem dX0_does_5 : decode cX0_does 5 = .ok (.iaload, 1) := dk_46 (dk_at dksX0_does_0 5 rfl rfl)
theorem dX0_does_6 : decode cX0_does 6 = .ok (.istore_n 2, 1) := dk_61 (dk_at dksX0_does_0 6 rfl rfl)
theorem dX0_does_7 : decode cX0_does 7 = .ok (.aload_n 0, 1) := dk_42 (dk_at dksX0_does_0 7 rfl rfl)
theorem dX0_does_8 : decode cX0_does 8 = .ok (.getfield 338, 3) := dk_180 1 82 (dk_at dksX0_does_0 8 rfl rfl)
theorem dX0_does_11 : decode cX0_does 11 = .ok (.iload_n 2, 1) := dk_28 (dk_at dksX0_does_0 11 rfl rfl)
theorem dX0_does_12 : decode cX0_does 12 = .ok (.ishr, 1) := dk_122 (dk_at dksX0_does_0 12 rfl rfl)
theorem dX0_does_13 : decode cX0_does 13 = .ok (.iconst 1, 1) := dk_4 (dk_at dksX0_does_0 13 rfl rfl)
theorem dX0_does_14 : decode cX0_does 14 = .ok (.iand, 1) := dk_126 (dk_at dksX0_does_0 14 rfl rfl)
theorem dX0_does_15 : decode cX0_does 15 = .ok (.istore_n 3, 1) := dk_62 (dk_at dksX0_does_0 15 rfl rfl)
theorem dX0_does_16 : decode cX0_does 16 = .ok (.aload_n 0, 1) := dk_42 (dk_at dksX0_does_0 16 rfl rfl)
theorem dX0_does_17 : decode cX0_does 17 = .ok (.iload_n 2, 1) := dk_28 (dk_at dksX0_does_0 17 rfl rfl)
theorem dX0_does_18 : decode cX0_does 18 = .ok (.invokevirtual 184, 3) := dk_182 0 184 (dk_at dksX0_does_0 18 rfl rfl)
theorem dX0_does_21 : decode cX0_does 21 = .ok (.ifCond .gt 32, 3) := dk_157 0 32 (dk_at dksX0_does_0 21 rfl rfl)
theorem dX0_does_24 : decode cX0_does 24 = .ok (.aload_n 0, 1) := dk_42 (dk_at dksX0_does_1 0 rfl rfl)
theorem dX0_does_25 : decode cX0_does 25 = .ok (.getfield 12, 3) := dk_180 0 12 (dk_at dksX0_does_1 1 rfl rfl)
theorem dX0_does_28 : decode cX0_does 28 = .ok (.iload_n 2, 1) := dk_28 (dk_at dksX0_does_1 4 rfl rfl)
theorem dX0_does_29 : decode cX0_does 29 = .ok (.invokevirtual 99, 3) := dk_182 0 99 (dk_at dksX0_does_1 5 rfl rfl)
theorem dX0_does_32 : decode cX0_does 32 = .ok (.checkcast 103, 3) := dk_192 0 103 (dk_at dksX0_does_1 8 rfl rfl)
theorem dX0_does_35 : decode cX0_does 35 = .ok (.iload_n 3, 1) := dk_29 (dk_at dksX0_does_1 11 rfl rfl)
theorem dX0_does_36 : decode cX0_does 36 = .ok (.invokevirtual 239, 3) := dk_182 0 239 (dk_at dksX0_does_1 12 rfl rfl)
theorem dX0_does_39 : decode cX0_does 39 = .ok (.aload_n 0, 1) := dk_42 (dk_at dksX0_does_1 15 rfl rfl)
theorem dX0_does_40 : decode cX0_does 40 = .ok (.getfield 61, 3) := dk_180 0 61 (dk_at dksX0_does_1 16 rfl rfl)
theorem dX0_does_43 : decode cX0_does 43 = .ok (.aload_n 0, 1) := dk_42 (dk_at dksX0_does_1 19 rfl rfl)
theorem dX0_does_44 : decode cX0_does 44 = .ok (.getfield 55, 3) := dk_180 0 55 (dk_at dksX0_does_1 20 rfl rfl)
theorem dX0_does_47 : decode cX0_does 47 = .ok (.iload_n 1, 1) := dk_27 (dk_at dksX0_does_1 23 rfl rfl)
theorem dX0_does_48 : decode cX0_does 48 = .ok (.iaload, 1) := dk_46 (dk_at dksX0_does_2 0 rfl rfl)
theorem dX0_does_49 : decode cX0_does 49 = .ok (.iaload, 1) := dk_46 (dk_at dksX0_does_2 1 rfl rfl)
theorem dX0_does_50 : decode cX0_does 50 = .ok (.if_icmp .eq 5, 3) := dk_159 0 5 (dk_at dksX0_does_2 2 rfl rfl)
theorem dX0_does_53 : decode cX0_does 53 = .ok (.iconst 0, 1) := dk_3 (dk_at dksX0_does_2 5 rfl rfl)
theorem dX0_does_54 : decode cX0_does 54 = .ok (.ireturn, 1) := dk_172 (dk_at dksX0_does_2 6 rfl rfl)
theorem dX0_does_55 : decode cX0_does 55 = .ok (.aload_n 0, 1) := dk_42 (dk_at dksX0_does_2 7 rfl rfl)
theorem dX0_does_56 : decode cX0_does 56 = .ok (.getfield 61, 3) := dk_180 0 61 (dk_at dksX0_does_2 8 rfl rfl)
theorem dX0_does_59 : decode cX0_does 59 = .ok (.aload_n 0, 1) := dk_42 (dk_at dksX0_does_2 11 rfl rfl)
theorem dX0_does_60 : decode cX0_does 60 = .ok (.getfield 55, 3) := dk_180 0 55 (dk_at dksX0_does_2 12 rfl rfl)
theorem dX0_does_63 : decode cX0_does 63 = .ok (.iload_n 1, 1) := dk_27 (dk_at dksX0_does_2 15 rfl rfl)
theorem dX0_does_64 : decode cX0_does 64 = .ok (.iaload, 1) := dk_46 (dk_at dksX0_does_2 16 rfl rfl)
theorem dX0_does_65 : decode cX0_does 65 = .ok (.aload_n 0, 1) := dk_42 (dk_at dksX0_does_2 17 rfl rfl)
theorem dX0_does_66 : decode cX0_does 66 = .ok (.getfield 12, 3) := dk_180 0 12 (dk_at dksX0_does_2 18 rfl rfl)
theorem dX0_does_69 : decode cX0_does 69 = .ok (.iload_n 2, 1) := dk_28 (dk_at dksX0_does_2 21 rfl rfl)
theorem dX0_does_70 : decode cX0_does 70 = .ok (.invokevirtual 99, 3) := dk_182 0 99 (dk_at dksX0_does_3 0 rfl rfl)
theorem dX0_does_73 : decode cX0_does 73 = .ok (.checkcast 103, 3) := dk_192 0 103 (dk_at dksX0_does_3 3 rfl rfl)
theorem dX0_does_76 : decode cX0_does 76 = .ok (.iload_n 3, 1) := dk_29 (dk_at dksX0_does_3 6 rfl rfl)
theorem dX0_does_77 : decode cX0_does 77 = .ok (.invokevirtual 244, 3) := dk_182 0 244 (dk_at dksX0_does_3 7 rfl rfl)
theorem dX0_does_80 : decode cX0_does 80 = .ok (.iastore, 1) := dk_79 (dk_at dksX0_does_3 10 rfl rfl)
theorem dX0_does_81 : decode cX0_does 81 = .ok (.aload_n 0, 1) := dk_42 (dk_at dksX0_does_3 11 rfl rfl)
theorem dX0_does_82 : decode cX0_does 82 = .ok (.dup, 1) := dk_89 (dk_at dksX0_does_3 12 rfl rfl)
theorem dX0_does_83 : decode cX0_does 83 = .ok (.getfield 338, 3) := dk_180 1 82 (dk_at dksX0_does_3 13 rfl rfl)
theorem dX0_does_86 : decode cX0_does 86 = .ok (.iconst 1, 1) := dk_4 (dk_at dksX0_does_3 16 rfl rfl)
theorem dX0_does_87 : decode cX0_does 87 = .ok (.iload_n 2, 1) := dk_28 (dk_at dksX0_does_3 17 rfl rfl)
theorem dX0_does_88 : decode cX0_does 88 = .ok (.ishl, 1) := dk_120 (dk_at dksX0_does_3 18 rfl rfl)
theorem dX0_does_89 : decode cX0_does 89 = .ok (.ixor, 1) := dk_130 (dk_at dksX0_does_3 19 rfl rfl)
theorem dX0_does_90 : decode cX0_does 90 = .ok (.putfield 338, 3) := dk_181 1 82 (dk_at dksX0_does_3 20 rfl rfl)
theorem dX0_does_93 : decode cX0_does 93 = .ok (.iconst 1, 1) := dk_4 (dk_at dksX0_does_3 23 rfl rfl)
theorem dX0_does_94 : decode cX0_does 94 = .ok (.ireturn, 1) := dk_172 (dk_at dksX0_does_4 0 rfl rfl)
abbrev cX0_free : ByteArray := prog_1_method_65_code
def yX0_free : MethodName := ⟨RX0, "free", "(I)I"⟩
def dkwX0_free_6 : List UInt8 := [46, 159, 0, 5, 3, 172, 132, 3, 1, 167, 255, 225, 4, 172]
abbrev dktX0_free_6 : List UInt8 := dkwX0_free_6 ++ []
def dkwX0_free_5 : List UInt8 := [3, 62, 29, 42, 180, 0, 18, 182, 0, 89, 162, 0, 26, 42, 180, 0, 64, 29, 46, 42, 180, 0, 61, 29]
abbrev dktX0_free_5 : List UInt8 := dkwX0_free_5 ++ dktX0_free_6
def dkwX0_free_4 : List UInt8 := [182, 1, 88, 153, 0, 19, 42, 27, 182, 1, 88, 153, 0, 11, 42, 180, 1, 82, 28, 159, 0, 5, 3, 172]
abbrev dktX0_free_4 : List UInt8 := dkwX0_free_4 ++ dktX0_free_5
def dkwX0_free_3 : List UInt8 := [180, 0, 61, 29, 46, 79, 132, 3, 1, 167, 255, 230, 42, 27, 182, 1, 91, 87, 42, 27, 4, 96]
abbrev dktX0_free_3 : List UInt8 := dkwX0_free_3 ++ dktX0_free_4
def dkwX0_free_2 : List UInt8 := [180, 1, 82, 61, 3, 62, 29, 42, 180, 0, 18, 182, 0, 89, 162, 0, 21, 42, 180, 0, 64, 29, 42]
abbrev dktX0_free_2 : List UInt8 := dkwX0_free_2 ++ dktX0_free_3
def dkwX0_free_1 : List UInt8 := [161, 0, 21, 42, 27, 182, 1, 88, 153, 0, 13, 42, 27, 4, 96, 182, 1, 88, 154, 0, 5, 3, 172, 42]
abbrev dktX0_free_1 : List UInt8 := dkwX0_free_1 ++ dktX0_free_2
def dkwX0_free_0 : List UInt8 := [27, 133, 9, 42, 180, 0, 163, 5, 100, 133, 184, 0, 93, 154, 0, 5, 2, 172, 42, 27, 182, 1, 91, 27]
abbrev dktX0_free_0 : List UInt8 := dkwX0_free_0 ++ dktX0_free_1
theorem dksX0_free_0 : cX0_free.data.toList.drop 0 = dktX0_free_0 := by decide +kernel
theorem dksX0_free_1 : cX0_free.data.toList.drop 24 = dktX0_free_1 := dk_seg dksX0_free_0 24 rfl rfl
theorem dksX0_free_2 : cX0_free.data.toList.drop 48 = dktX0_free_2 := dk_seg dksX0_free_1 24 rfl rfl
theorem dksX0_free_3 : cX0_free.data.toList.drop 71 = dktX0_free_3 := dk_seg dksX0_free_2 23 rfl rfl
theorem dksX0_free_4 : cX0_free.data.toList.drop 93 = dktX0_free_4 := dk_seg dksX0_free_3 22 rfl rfl
theorem dksX0_free_5 : cX0_free.data.toList.drop 117 = dktX0_free_5 := dk_seg dksX0_free_4 24 rfl rfl
theorem dksX0_free_6 : cX0_free.data.toList.drop 141 = dktX0_free_6 := dk_seg dksX0_free_5 24 rfl rfl
theorem dX0_free_0 : decode cX0_free 0 = .ok (.iload_n 1, 1) := dk_27 (dk_at dksX0_free_0 0 rfl rfl)
theorem dX0_free_1 : decode cX0_free 1 = .ok (.i2l, 1) := dk_133 (dk_at dksX0_free_0 1 rfl rfl)
theorem dX0_free_2 : decode cX0_free 2 = .ok (.lconst 0, 1) := dk_9 (dk_at dksX0_free_0 2 rfl rfl)
theorem dX0_free_3 : decode cX0_free 3 = .ok (.aload_n 0, 1) := dk_42 (dk_at dksX0_free_0 3 rfl rfl)
theorem dX0_free_4 : decode cX0_free 4 = .ok (.getfield 163, 3) := dk_180 0 163 (dk_at dksX0_free_0 4 rfl rfl)
theorem dX0_free_7 : decode cX0_free 7 = .ok (.iconst 2, 1) := dk_5 (dk_at dksX0_free_0 7 rfl rfl)
theorem dX0_free_8 : decode cX0_free 8 = .ok (.isub, 1) := dk_100 (dk_at dksX0_free_0 8 rfl rfl)
theorem dX0_free_9 : decode cX0_free 9 = .ok (.i2l, 1) := dk_133 (dk_at dksX0_free_0 9 rfl rfl)
theorem dX0_free_10 : decode cX0_free 10 = .ok (.invokestatic 93, 3) := dk_184 0 93 (dk_at dksX0_free_0 10 rfl rfl)
theorem dX0_free_13 : decode cX0_free 13 = .ok (.ifCond .ne 5, 3) := dk_154 0 5 (dk_at dksX0_free_0 13 rfl rfl)
theorem dX0_free_16 : decode cX0_free 16 = .ok (.iconst (-1), 1) := dk_2 (dk_at dksX0_free_0 16 rfl rfl)
theorem dX0_free_17 : decode cX0_free 17 = .ok (.ireturn, 1) := dk_172 (dk_at dksX0_free_0 17 rfl rfl)
theorem dX0_free_18 : decode cX0_free 18 = .ok (.aload_n 0, 1) := dk_42 (dk_at dksX0_free_0 18 rfl rfl)
theorem dX0_free_19 : decode cX0_free 19 = .ok (.iload_n 1, 1) := dk_27 (dk_at dksX0_free_0 19 rfl rfl)
theorem dX0_free_20 : decode cX0_free 20 = .ok (.invokevirtual 347, 3) := dk_182 1 91 (dk_at dksX0_free_0 20 rfl rfl)
theorem dX0_free_23 : decode cX0_free 23 = .ok (.iload_n 1, 1) := dk_27 (dk_at dksX0_free_0 23 rfl rfl)
theorem dX0_free_24 : decode cX0_free 24 = .ok (.if_icmp .lt 21, 3) := dk_161 0 21 (dk_at dksX0_free_1 0 rfl rfl)
theorem dX0_free_27 : decode cX0_free 27 = .ok (.aload_n 0, 1) := dk_42 (dk_at dksX0_free_1 3 rfl rfl)
theorem dX0_free_28 : decode cX0_free 28 = .ok (.iload_n 1, 1) := dk_27 (dk_at dksX0_free_1 4 rfl rfl)
theorem dX0_free_29 : decode cX0_free 29 = .ok (.invokevirtual 344, 3) := dk_182 1 88 (dk_at dksX0_free_1 5 rfl rfl)
theorem dX0_free_32 : decode cX0_free 32 = .ok (.ifCond .eq 13, 3) := dk_153 0 13 (dk_at dksX0_free_1 8 rfl rfl)
theorem dX0_free_35 : decode cX0_free 35 = .ok (.aload_n 0, 1) := dk_42 (dk_at dksX0_free_1 11 rfl rfl)
theorem dX0_free_36 : decode cX0_free 36 = .ok (.iload_n 1, 1) := dk_27 (dk_at dksX0_free_1 12 rfl rfl)
theorem dX0_free_37 : decode cX0_free 37 = .ok (.iconst 1, 1) := dk_4 (dk_at dksX0_free_1 13 rfl rfl)
theorem dX0_free_38 : decode cX0_free 38 = .ok (.iadd, 1) := dk_96 (dk_at dksX0_free_1 14 rfl rfl)
theorem dX0_free_39 : decode cX0_free 39 = .ok (.invokevirtual 344, 3) := dk_182 1 88 (dk_at dksX0_free_1 15 rfl rfl)
theorem dX0_free_42 : decode cX0_free 42 = .ok (.ifCond .ne 5, 3) := dk_154 0 5 (dk_at dksX0_free_1 18 rfl rfl)
theorem dX0_free_45 : decode cX0_free 45 = .ok (.iconst 0, 1) := dk_3 (dk_at dksX0_free_1 21 rfl rfl)
theorem dX0_free_46 : decode cX0_free 46 = .ok (.ireturn, 1) := dk_172 (dk_at dksX0_free_1 22 rfl rfl)
theorem dX0_free_47 : decode cX0_free 47 = .ok (.aload_n 0, 1) := dk_42 (dk_at dksX0_free_1 23 rfl rfl)
theorem dX0_free_48 : decode cX0_free 48 = .ok (.getfield 338, 3) := dk_180 1 82 (dk_at dksX0_free_2 0 rfl rfl)
theorem dX0_free_51 : decode cX0_free 51 = .ok (.istore_n 2, 1) := dk_61 (dk_at dksX0_free_2 3 rfl rfl)
theorem dX0_free_52 : decode cX0_free 52 = .ok (.iconst 0, 1) := dk_3 (dk_at dksX0_free_2 4 rfl rfl)
theorem dX0_free_53 : decode cX0_free 53 = .ok (.istore_n 3, 1) := dk_62 (dk_at dksX0_free_2 5 rfl rfl)
theorem dX0_free_54 : decode cX0_free 54 = .ok (.iload_n 3, 1) := dk_29 (dk_at dksX0_free_2 6 rfl rfl)
theorem dX0_free_55 : decode cX0_free 55 = .ok (.aload_n 0, 1) := dk_42 (dk_at dksX0_free_2 7 rfl rfl)
theorem dX0_free_56 : decode cX0_free 56 = .ok (.getfield 18, 3) := dk_180 0 18 (dk_at dksX0_free_2 8 rfl rfl)
theorem dX0_free_59 : decode cX0_free 59 = .ok (.invokevirtual 89, 3) := dk_182 0 89 (dk_at dksX0_free_2 11 rfl rfl)
theorem dX0_free_62 : decode cX0_free 62 = .ok (.if_icmp .ge 21, 3) := dk_162 0 21 (dk_at dksX0_free_2 14 rfl rfl)
theorem dX0_free_65 : decode cX0_free 65 = .ok (.aload_n 0, 1) := dk_42 (dk_at dksX0_free_2 17 rfl rfl)
theorem dX0_free_66 : decode cX0_free 66 = .ok (.getfield 64, 3) := dk_180 0 64 (dk_at dksX0_free_2 18 rfl rfl)
theorem dX0_free_69 : decode cX0_free 69 = .ok (.iload_n 3, 1) := dk_29 (dk_at dksX0_free_2 21 rfl rfl)
theorem dX0_free_70 : decode cX0_free 70 = .ok (.aload_n 0, 1) := dk_42 (dk_at dksX0_free_2 22 rfl rfl)
theorem dX0_free_71 : decode cX0_free 71 = .ok (.getfield 61, 3) := dk_180 0 61 (dk_at dksX0_free_3 0 rfl rfl)
theorem dX0_free_74 : decode cX0_free 74 = .ok (.iload_n 3, 1) := dk_29 (dk_at dksX0_free_3 3 rfl rfl)
theorem dX0_free_75 : decode cX0_free 75 = .ok (.iaload, 1) := dk_46 (dk_at dksX0_free_3 4 rfl rfl)
theorem dX0_free_76 : decode cX0_free 76 = .ok (.iastore, 1) := dk_79 (dk_at dksX0_free_3 5 rfl rfl)
theorem dX0_free_77 : decode cX0_free 77 = .ok (.iinc 3 1, 3) := dk_132 3 1 (dk_at dksX0_free_3 6 rfl rfl)
theorem dX0_free_80 : decode cX0_free 80 = .ok (.goto (-26), 3) := dk_167 255 230 (dk_at dksX0_free_3 9 rfl rfl)
theorem dX0_free_83 : decode cX0_free 83 = .ok (.aload_n 0, 1) := dk_42 (dk_at dksX0_free_3 12 rfl rfl)
theorem dX0_free_84 : decode cX0_free 84 = .ok (.iload_n 1, 1) := dk_27 (dk_at dksX0_free_3 13 rfl rfl)
theorem dX0_free_85 : decode cX0_free 85 = .ok (.invokevirtual 347, 3) := dk_182 1 91 (dk_at dksX0_free_3 14 rfl rfl)
theorem dX0_free_88 : decode cX0_free 88 = .ok (.pop, 1) := dk_87 (dk_at dksX0_free_3 17 rfl rfl)
theorem dX0_free_89 : decode cX0_free 89 = .ok (.aload_n 0, 1) := dk_42 (dk_at dksX0_free_3 18 rfl rfl)
theorem dX0_free_90 : decode cX0_free 90 = .ok (.iload_n 1, 1) := dk_27 (dk_at dksX0_free_3 19 rfl rfl)
theorem dX0_free_91 : decode cX0_free 91 = .ok (.iconst 1, 1) := dk_4 (dk_at dksX0_free_3 20 rfl rfl)
theorem dX0_free_92 : decode cX0_free 92 = .ok (.iadd, 1) := dk_96 (dk_at dksX0_free_3 21 rfl rfl)
theorem dX0_free_93 : decode cX0_free 93 = .ok (.invokevirtual 344, 3) := dk_182 1 88 (dk_at dksX0_free_4 0 rfl rfl)
theorem dX0_free_96 : decode cX0_free 96 = .ok (.ifCond .eq 19, 3) := dk_153 0 19 (dk_at dksX0_free_4 3 rfl rfl)
theorem dX0_free_99 : decode cX0_free 99 = .ok (.aload_n 0, 1) := dk_42 (dk_at dksX0_free_4 6 rfl rfl)
theorem dX0_free_100 : decode cX0_free 100 = .ok (.iload_n 1, 1) := dk_27 (dk_at dksX0_free_4 7 rfl rfl)
theorem dX0_free_101 : decode cX0_free 101 = .ok (.invokevirtual 344, 3) := dk_182 1 88 (dk_at dksX0_free_4 8 rfl rfl)
theorem dX0_free_104 : decode cX0_free 104 = .ok (.ifCond .eq 11, 3) := dk_153 0 11 (dk_at dksX0_free_4 11 rfl rfl)
theorem dX0_free_107 : decode cX0_free 107 = .ok (.aload_n 0, 1) := dk_42 (dk_at dksX0_free_4 14 rfl rfl)
theorem dX0_free_108 : decode cX0_free 108 = .ok (.getfield 338, 3) := dk_180 1 82 (dk_at dksX0_free_4 15 rfl rfl)
theorem dX0_free_111 : decode cX0_free 111 = .ok (.iload_n 2, 1) := dk_28 (dk_at dksX0_free_4 18 rfl rfl)
theorem dX0_free_112 : decode cX0_free 112 = .ok (.if_icmp .eq 5, 3) := dk_159 0 5 (dk_at dksX0_free_4 19 rfl rfl)
theorem dX0_free_115 : decode cX0_free 115 = .ok (.iconst 0, 1) := dk_3 (dk_at dksX0_free_4 22 rfl rfl)
theorem dX0_free_116 : decode cX0_free 116 = .ok (.ireturn, 1) := dk_172 (dk_at dksX0_free_4 23 rfl rfl)
theorem dX0_free_117 : decode cX0_free 117 = .ok (.iconst 0, 1) := dk_3 (dk_at dksX0_free_5 0 rfl rfl)
theorem dX0_free_118 : decode cX0_free 118 = .ok (.istore_n 3, 1) := dk_62 (dk_at dksX0_free_5 1 rfl rfl)
theorem dX0_free_119 : decode cX0_free 119 = .ok (.iload_n 3, 1) := dk_29 (dk_at dksX0_free_5 2 rfl rfl)
theorem dX0_free_120 : decode cX0_free 120 = .ok (.aload_n 0, 1) := dk_42 (dk_at dksX0_free_5 3 rfl rfl)
theorem dX0_free_121 : decode cX0_free 121 = .ok (.getfield 18, 3) := dk_180 0 18 (dk_at dksX0_free_5 4 rfl rfl)
theorem dX0_free_124 : decode cX0_free 124 = .ok (.invokevirtual 89, 3) := dk_182 0 89 (dk_at dksX0_free_5 7 rfl rfl)
theorem dX0_free_127 : decode cX0_free 127 = .ok (.if_icmp .ge 26, 3) := dk_162 0 26 (dk_at dksX0_free_5 10 rfl rfl)
theorem dX0_free_130 : decode cX0_free 130 = .ok (.aload_n 0, 1) := dk_42 (dk_at dksX0_free_5 13 rfl rfl)
theorem dX0_free_131 : decode cX0_free 131 = .ok (.getfield 64, 3) := dk_180 0 64 (dk_at dksX0_free_5 14 rfl rfl)
theorem dX0_free_134 : decode cX0_free 134 = .ok (.iload_n 3, 1) := dk_29 (dk_at dksX0_free_5 17 rfl rfl)
theorem dX0_free_135 : decode cX0_free 135 = .ok (.iaload, 1) := dk_46 (dk_at dksX0_free_5 18 rfl rfl)
theorem dX0_free_136 : decode cX0_free 136 = .ok (.aload_n 0, 1) := dk_42 (dk_at dksX0_free_5 19 rfl rfl)
theorem dX0_free_137 : decode cX0_free 137 = .ok (.getfield 61, 3) := dk_180 0 61 (dk_at dksX0_free_5 20 rfl rfl)
theorem dX0_free_140 : decode cX0_free 140 = .ok (.iload_n 3, 1) := dk_29 (dk_at dksX0_free_5 23 rfl rfl)
theorem dX0_free_141 : decode cX0_free 141 = .ok (.iaload, 1) := dk_46 (dk_at dksX0_free_6 0 rfl rfl)
theorem dX0_free_142 : decode cX0_free 142 = .ok (.if_icmp .eq 5, 3) := dk_159 0 5 (dk_at dksX0_free_6 1 rfl rfl)
theorem dX0_free_145 : decode cX0_free 145 = .ok (.iconst 0, 1) := dk_3 (dk_at dksX0_free_6 4 rfl rfl)
theorem dX0_free_146 : decode cX0_free 146 = .ok (.ireturn, 1) := dk_172 (dk_at dksX0_free_6 5 rfl rfl)
theorem dX0_free_147 : decode cX0_free 147 = .ok (.iinc 3 1, 3) := dk_132 3 1 (dk_at dksX0_free_6 6 rfl rfl)
theorem dX0_free_150 : decode cX0_free 150 = .ok (.goto (-31), 3) := dk_167 255 225 (dk_at dksX0_free_6 9 rfl rfl)
theorem dX0_free_153 : decode cX0_free 153 = .ok (.iconst 1, 1) := dk_4 (dk_at dksX0_free_6 12 rfl rfl)
theorem dX0_free_154 : decode cX0_free 154 = .ok (.ireturn, 1) := dk_172 (dk_at dksX0_free_6 13 rfl rfl)
abbrev cX0_tick : ByteArray := prog_1_method_72_code
def yX0_tick : MethodName := ⟨RX0, "tick", "(II)I"⟩
def dkwX0_tick_2 : List UInt8 := [182, 0, 99, 192, 1, 98, 182, 1, 142, 132, 3, 1, 167, 255, 233, 42, 180, 0, 157, 172]
abbrev dktX0_tick_2 : List UInt8 := dkwX0_tick_2 ++ []
def dkwX0_tick_1 : List UInt8 := [28, 96, 19, 1, 141, 164, 0, 5, 2, 172, 3, 62, 29, 28, 162, 0, 24, 42, 42, 180, 0, 21, 27]
abbrev dktX0_tick_1 : List UInt8 := dkwX0_tick_1 ++ dktX0_tick_2
def dkwX0_tick_0 : List UInt8 := [42, 27, 182, 1, 136, 153, 0, 27, 28, 133, 10, 20, 1, 139, 184, 0, 93, 153, 0, 15, 42, 180, 0, 157]
abbrev dktX0_tick_0 : List UInt8 := dkwX0_tick_0 ++ dktX0_tick_1
theorem dksX0_tick_0 : cX0_tick.data.toList.drop 0 = dktX0_tick_0 := by decide +kernel
theorem dksX0_tick_1 : cX0_tick.data.toList.drop 24 = dktX0_tick_1 := dk_seg dksX0_tick_0 24 rfl rfl
theorem dksX0_tick_2 : cX0_tick.data.toList.drop 47 = dktX0_tick_2 := dk_seg dksX0_tick_1 23 rfl rfl
theorem dX0_tick_0 : decode cX0_tick 0 = .ok (.aload_n 0, 1) := dk_42 (dk_at dksX0_tick_0 0 rfl rfl)
theorem dX0_tick_1 : decode cX0_tick 1 = .ok (.iload_n 1, 1) := dk_27 (dk_at dksX0_tick_0 1 rfl rfl)
theorem dX0_tick_2 : decode cX0_tick 2 = .ok (.invokevirtual 392, 3) := dk_182 1 136 (dk_at dksX0_tick_0 2 rfl rfl)
theorem dX0_tick_5 : decode cX0_tick 5 = .ok (.ifCond .eq 27, 3) := dk_153 0 27 (dk_at dksX0_tick_0 5 rfl rfl)
theorem dX0_tick_8 : decode cX0_tick 8 = .ok (.iload_n 2, 1) := dk_28 (dk_at dksX0_tick_0 8 rfl rfl)
theorem dX0_tick_9 : decode cX0_tick 9 = .ok (.i2l, 1) := dk_133 (dk_at dksX0_tick_0 9 rfl rfl)
theorem dX0_tick_10 : decode cX0_tick 10 = .ok (.lconst 1, 1) := dk_10 (dk_at dksX0_tick_0 10 rfl rfl)
theorem dX0_tick_11 : decode cX0_tick 11 = .ok (.ldc2_w 395, 3) := dk_20 1 139 (dk_at dksX0_tick_0 11 rfl rfl)
theorem dX0_tick_14 : decode cX0_tick 14 = .ok (.invokestatic 93, 3) := dk_184 0 93 (dk_at dksX0_tick_0 14 rfl rfl)
theorem dX0_tick_17 : decode cX0_tick 17 = .ok (.ifCond .eq 15, 3) := dk_153 0 15 (dk_at dksX0_tick_0 17 rfl rfl)
theorem dX0_tick_20 : decode cX0_tick 20 = .ok (.aload_n 0, 1) := dk_42 (dk_at dksX0_tick_0 20 rfl rfl)
theorem dX0_tick_21 : decode cX0_tick 21 = .ok (.getfield 157, 3) := dk_180 0 157 (dk_at dksX0_tick_0 21 rfl rfl)
theorem dX0_tick_24 : decode cX0_tick 24 = .ok (.iload_n 2, 1) := dk_28 (dk_at dksX0_tick_1 0 rfl rfl)
theorem dX0_tick_25 : decode cX0_tick 25 = .ok (.iadd, 1) := dk_96 (dk_at dksX0_tick_1 1 rfl rfl)
theorem dX0_tick_26 : decode cX0_tick 26 = .ok (.ldc_w 397, 3) := dk_19 1 141 (dk_at dksX0_tick_1 2 rfl rfl)
theorem dX0_tick_29 : decode cX0_tick 29 = .ok (.if_icmp .le 5, 3) := dk_164 0 5 (dk_at dksX0_tick_1 5 rfl rfl)
theorem dX0_tick_32 : decode cX0_tick 32 = .ok (.iconst (-1), 1) := dk_2 (dk_at dksX0_tick_1 8 rfl rfl)
theorem dX0_tick_33 : decode cX0_tick 33 = .ok (.ireturn, 1) := dk_172 (dk_at dksX0_tick_1 9 rfl rfl)
theorem dX0_tick_34 : decode cX0_tick 34 = .ok (.iconst 0, 1) := dk_3 (dk_at dksX0_tick_1 10 rfl rfl)
theorem dX0_tick_35 : decode cX0_tick 35 = .ok (.istore_n 3, 1) := dk_62 (dk_at dksX0_tick_1 11 rfl rfl)
theorem dX0_tick_36 : decode cX0_tick 36 = .ok (.iload_n 3, 1) := dk_29 (dk_at dksX0_tick_1 12 rfl rfl)
theorem dX0_tick_37 : decode cX0_tick 37 = .ok (.iload_n 2, 1) := dk_28 (dk_at dksX0_tick_1 13 rfl rfl)
theorem dX0_tick_38 : decode cX0_tick 38 = .ok (.if_icmp .ge 24, 3) := dk_162 0 24 (dk_at dksX0_tick_1 14 rfl rfl)
theorem dX0_tick_41 : decode cX0_tick 41 = .ok (.aload_n 0, 1) := dk_42 (dk_at dksX0_tick_1 17 rfl rfl)
theorem dX0_tick_42 : decode cX0_tick 42 = .ok (.aload_n 0, 1) := dk_42 (dk_at dksX0_tick_1 18 rfl rfl)
theorem dX0_tick_43 : decode cX0_tick 43 = .ok (.getfield 21, 3) := dk_180 0 21 (dk_at dksX0_tick_1 19 rfl rfl)
theorem dX0_tick_46 : decode cX0_tick 46 = .ok (.iload_n 1, 1) := dk_27 (dk_at dksX0_tick_1 22 rfl rfl)
theorem dX0_tick_47 : decode cX0_tick 47 = .ok (.invokevirtual 99, 3) := dk_182 0 99 (dk_at dksX0_tick_2 0 rfl rfl)
theorem dX0_tick_50 : decode cX0_tick 50 = .ok (.checkcast 354, 3) := dk_192 1 98 (dk_at dksX0_tick_2 3 rfl rfl)
theorem dX0_tick_53 : decode cX0_tick 53 = .ok (.invokevirtual 398, 3) := dk_182 1 142 (dk_at dksX0_tick_2 6 rfl rfl)
theorem dX0_tick_56 : decode cX0_tick 56 = .ok (.iinc 3 1, 3) := dk_132 3 1 (dk_at dksX0_tick_2 9 rfl rfl)
theorem dX0_tick_59 : decode cX0_tick 59 = .ok (.goto (-23), 3) := dk_167 255 233 (dk_at dksX0_tick_2 12 rfl rfl)
theorem dX0_tick_62 : decode cX0_tick 62 = .ok (.aload_n 0, 1) := dk_42 (dk_at dksX0_tick_2 15 rfl rfl)
theorem dX0_tick_63 : decode cX0_tick 63 = .ok (.getfield 157, 3) := dk_180 0 157 (dk_at dksX0_tick_2 16 rfl rfl)
theorem dX0_tick_66 : decode cX0_tick 66 = .ok (.ireturn, 1) := dk_172 (dk_at dksX0_tick_2 19 rfl rfl)
abbrev cX0_isRule : ByteArray := prog_1_method_15_code
def yX0_isRule : MethodName := ⟨RX0, "isRule", "(I)Z"⟩
def dkwX0_isRule_0 : List UInt8 := [27, 133, 9, 42, 180, 0, 21, 182, 0, 89, 4, 100, 133, 184, 0, 93, 172]
abbrev dktX0_isRule_0 : List UInt8 := dkwX0_isRule_0 ++ []
theorem dksX0_isRule_0 : cX0_isRule.data.toList.drop 0 = dktX0_isRule_0 := by decide +kernel
theorem dX0_isRule_0 : decode cX0_isRule 0 = .ok (.iload_n 1, 1) := dk_27 (dk_at dksX0_isRule_0 0 rfl rfl)
theorem dX0_isRule_1 : decode cX0_isRule 1 = .ok (.i2l, 1) := dk_133 (dk_at dksX0_isRule_0 1 rfl rfl)
theorem dX0_isRule_2 : decode cX0_isRule 2 = .ok (.lconst 0, 1) := dk_9 (dk_at dksX0_isRule_0 2 rfl rfl)
theorem dX0_isRule_3 : decode cX0_isRule 3 = .ok (.aload_n 0, 1) := dk_42 (dk_at dksX0_isRule_0 3 rfl rfl)
theorem dX0_isRule_4 : decode cX0_isRule 4 = .ok (.getfield 21, 3) := dk_180 0 21 (dk_at dksX0_isRule_0 4 rfl rfl)
theorem dX0_isRule_7 : decode cX0_isRule 7 = .ok (.invokevirtual 89, 3) := dk_182 0 89 (dk_at dksX0_isRule_0 7 rfl rfl)
theorem dX0_isRule_10 : decode cX0_isRule 10 = .ok (.iconst 1, 1) := dk_4 (dk_at dksX0_isRule_0 10 rfl rfl)
theorem dX0_isRule_11 : decode cX0_isRule 11 = .ok (.isub, 1) := dk_100 (dk_at dksX0_isRule_0 11 rfl rfl)
theorem dX0_isRule_12 : decode cX0_isRule 12 = .ok (.i2l, 1) := dk_133 (dk_at dksX0_isRule_0 12 rfl rfl)
theorem dX0_isRule_13 : decode cX0_isRule 13 = .ok (.invokestatic 93, 3) := dk_184 0 93 (dk_at dksX0_isRule_0 13 rfl rfl)
theorem dX0_isRule_16 : decode cX0_isRule 16 = .ok (.ireturn, 1) := dk_172 (dk_at dksX0_isRule_0 16 rfl rfl)
abbrev cX0_minute : ByteArray := prog_1_method_71_code
def yX0_minute : MethodName := ⟨RX0, "minute", "(LTurningRoads$Rule;)V"⟩
def dkwX0_minute_7 : List UInt8 := [42, 89, 180, 0, 157, 4, 96, 181, 0, 157, 177]
abbrev dktX0_minute_7 : List UInt8 := dkwX0_minute_7 ++ []
def dkwX0_minute_6 : List UInt8 := [45, 3, 181, 0, 196, 132, 2, 1, 167, 255, 146, 42, 89, 180, 0, 160, 42, 182, 1, 133, 96, 181, 0, 160]
abbrev dktX0_minute_6 : List UInt8 := dkwX0_minute_6 ++ dktX0_minute_7
def dkwX0_minute_5 : List UInt8 := [21, 4, 181, 0, 111, 45, 42, 180, 0, 12, 21, 4, 182, 0, 99, 192, 0, 103, 182, 0, 129, 181, 0, 200]
abbrev dktX0_minute_5 : List UInt8 := dkwX0_minute_5 ++ dktX0_minute_6
def dkwX0_minute_4 : List UInt8 := [162, 0, 6, 167, 0, 50, 42, 43, 28, 182, 1, 129, 54, 4, 21, 4, 2, 160, 0, 6, 167, 0, 33, 45]
abbrev dktX0_minute_4 : List UInt8 := dkwX0_minute_4 ++ dktX0_minute_5
def dkwX0_minute_3 : List UInt8 := [180, 0, 122, 45, 180, 0, 190, 159, 0, 69, 42, 180, 0, 157, 45, 180, 0, 193, 45, 180, 1, 126, 96]
abbrev dktX0_minute_3 : List UInt8 := dkwX0_minute_3 ++ dktX0_minute_4
def dkwX0_minute_2 : List UInt8 := [162, 0, 105, 42, 180, 0, 18, 28, 182, 0, 99, 192, 0, 109, 78, 45, 182, 0, 115, 153, 0, 80, 45]
abbrev dktX0_minute_2 : List UInt8 := dkwX0_minute_2 ++ dktX0_minute_3
def dkwX0_minute_1 : List UInt8 := [192, 0, 109, 182, 1, 122, 132, 2, 1, 167, 255, 227, 3, 61, 28, 42, 180, 0, 18, 182, 0, 89]
abbrev dktX0_minute_1 : List UInt8 := dkwX0_minute_1 ++ dktX0_minute_2
def dkwX0_minute_0 : List UInt8 := [3, 61, 28, 42, 180, 0, 18, 182, 0, 89, 162, 0, 24, 42, 42, 180, 0, 18, 28, 182, 0, 99]
abbrev dktX0_minute_0 : List UInt8 := dkwX0_minute_0 ++ dktX0_minute_1
theorem dksX0_minute_0 : cX0_minute.data.toList.drop 0 = dktX0_minute_0 := by decide +kernel
theorem dksX0_minute_1 : cX0_minute.data.toList.drop 22 = dktX0_minute_1 := dk_seg dksX0_minute_0 22 rfl rfl
theorem dksX0_minute_2 : cX0_minute.data.toList.drop 44 = dktX0_minute_2 := dk_seg dksX0_minute_1 22 rfl rfl
theorem dksX0_minute_3 : cX0_minute.data.toList.drop 67 = dktX0_minute_3 := dk_seg dksX0_minute_2 23 rfl rfl
theorem dksX0_minute_4 : cX0_minute.data.toList.drop 90 = dktX0_minute_4 := dk_seg dksX0_minute_3 23 rfl rfl
theorem dksX0_minute_5 : cX0_minute.data.toList.drop 114 = dktX0_minute_5 := dk_seg dksX0_minute_4 24 rfl rfl
theorem dksX0_minute_6 : cX0_minute.data.toList.drop 138 = dktX0_minute_6 := dk_seg dksX0_minute_5 24 rfl rfl
theorem dksX0_minute_7 : cX0_minute.data.toList.drop 162 = dktX0_minute_7 := dk_seg dksX0_minute_6 24 rfl rfl
theorem dX0_minute_0 : decode cX0_minute 0 = .ok (.iconst 0, 1) := dk_3 (dk_at dksX0_minute_0 0 rfl rfl)
theorem dX0_minute_1 : decode cX0_minute 1 = .ok (.istore_n 2, 1) := dk_61 (dk_at dksX0_minute_0 1 rfl rfl)
theorem dX0_minute_2 : decode cX0_minute 2 = .ok (.iload_n 2, 1) := dk_28 (dk_at dksX0_minute_0 2 rfl rfl)
theorem dX0_minute_3 : decode cX0_minute 3 = .ok (.aload_n 0, 1) := dk_42 (dk_at dksX0_minute_0 3 rfl rfl)
theorem dX0_minute_4 : decode cX0_minute 4 = .ok (.getfield 18, 3) := dk_180 0 18 (dk_at dksX0_minute_0 4 rfl rfl)
theorem dX0_minute_7 : decode cX0_minute 7 = .ok (.invokevirtual 89, 3) := dk_182 0 89 (dk_at dksX0_minute_0 7 rfl rfl)
theorem dX0_minute_10 : decode cX0_minute 10 = .ok (.if_icmp .ge 24, 3) := dk_162 0 24 (dk_at dksX0_minute_0 10 rfl rfl)
theorem dX0_minute_13 : decode cX0_minute 13 = .ok (.aload_n 0, 1) := dk_42 (dk_at dksX0_minute_0 13 rfl rfl)
theorem dX0_minute_14 : decode cX0_minute 14 = .ok (.aload_n 0, 1) := dk_42 (dk_at dksX0_minute_0 14 rfl rfl)
theorem dX0_minute_15 : decode cX0_minute 15 = .ok (.getfield 18, 3) := dk_180 0 18 (dk_at dksX0_minute_0 15 rfl rfl)
theorem dX0_minute_18 : decode cX0_minute 18 = .ok (.iload_n 2, 1) := dk_28 (dk_at dksX0_minute_0 18 rfl rfl)
theorem dX0_minute_19 : decode cX0_minute 19 = .ok (.invokevirtual 99, 3) := dk_182 0 99 (dk_at dksX0_minute_0 19 rfl rfl)
theorem dX0_minute_22 : decode cX0_minute 22 = .ok (.checkcast 109, 3) := dk_192 0 109 (dk_at dksX0_minute_1 0 rfl rfl)
theorem dX0_minute_25 : decode cX0_minute 25 = .ok (.invokevirtual 378, 3) := dk_182 1 122 (dk_at dksX0_minute_1 3 rfl rfl)
theorem dX0_minute_28 : decode cX0_minute 28 = .ok (.iinc 2 1, 3) := dk_132 2 1 (dk_at dksX0_minute_1 6 rfl rfl)
theorem dX0_minute_31 : decode cX0_minute 31 = .ok (.goto (-29), 3) := dk_167 255 227 (dk_at dksX0_minute_1 9 rfl rfl)
theorem dX0_minute_34 : decode cX0_minute 34 = .ok (.iconst 0, 1) := dk_3 (dk_at dksX0_minute_1 12 rfl rfl)
theorem dX0_minute_35 : decode cX0_minute 35 = .ok (.istore_n 2, 1) := dk_61 (dk_at dksX0_minute_1 13 rfl rfl)
theorem dX0_minute_36 : decode cX0_minute 36 = .ok (.iload_n 2, 1) := dk_28 (dk_at dksX0_minute_1 14 rfl rfl)
theorem dX0_minute_37 : decode cX0_minute 37 = .ok (.aload_n 0, 1) := dk_42 (dk_at dksX0_minute_1 15 rfl rfl)
theorem dX0_minute_38 : decode cX0_minute 38 = .ok (.getfield 18, 3) := dk_180 0 18 (dk_at dksX0_minute_1 16 rfl rfl)
theorem dX0_minute_41 : decode cX0_minute 41 = .ok (.invokevirtual 89, 3) := dk_182 0 89 (dk_at dksX0_minute_1 19 rfl rfl)
theorem dX0_minute_44 : decode cX0_minute 44 = .ok (.if_icmp .ge 105, 3) := dk_162 0 105 (dk_at dksX0_minute_2 0 rfl rfl)
theorem dX0_minute_47 : decode cX0_minute 47 = .ok (.aload_n 0, 1) := dk_42 (dk_at dksX0_minute_2 3 rfl rfl)
theorem dX0_minute_48 : decode cX0_minute 48 = .ok (.getfield 18, 3) := dk_180 0 18 (dk_at dksX0_minute_2 4 rfl rfl)
theorem dX0_minute_51 : decode cX0_minute 51 = .ok (.iload_n 2, 1) := dk_28 (dk_at dksX0_minute_2 7 rfl rfl)
theorem dX0_minute_52 : decode cX0_minute 52 = .ok (.invokevirtual 99, 3) := dk_182 0 99 (dk_at dksX0_minute_2 8 rfl rfl)
theorem dX0_minute_55 : decode cX0_minute 55 = .ok (.checkcast 109, 3) := dk_192 0 109 (dk_at dksX0_minute_2 11 rfl rfl)
theorem dX0_minute_58 : decode cX0_minute 58 = .ok (.astore_n 3, 1) := dk_78 (dk_at dksX0_minute_2 14 rfl rfl)
theorem dX0_minute_59 : decode cX0_minute 59 = .ok (.aload_n 3, 1) := dk_45 (dk_at dksX0_minute_2 15 rfl rfl)
theorem dX0_minute_60 : decode cX0_minute 60 = .ok (.invokevirtual 115, 3) := dk_182 0 115 (dk_at dksX0_minute_2 16 rfl rfl)
theorem dX0_minute_63 : decode cX0_minute 63 = .ok (.ifCond .eq 80, 3) := dk_153 0 80 (dk_at dksX0_minute_2 19 rfl rfl)
theorem dX0_minute_66 : decode cX0_minute 66 = .ok (.aload_n 3, 1) := dk_45 (dk_at dksX0_minute_2 22 rfl rfl)
theorem dX0_minute_67 : decode cX0_minute 67 = .ok (.getfield 122, 3) := dk_180 0 122 (dk_at dksX0_minute_3 0 rfl rfl)
theorem dX0_minute_70 : decode cX0_minute 70 = .ok (.aload_n 3, 1) := dk_45 (dk_at dksX0_minute_3 3 rfl rfl)
theorem dX0_minute_71 : decode cX0_minute 71 = .ok (.getfield 190, 3) := dk_180 0 190 (dk_at dksX0_minute_3 4 rfl rfl)
theorem dX0_minute_74 : decode cX0_minute 74 = .ok (.if_icmp .eq 69, 3) := dk_159 0 69 (dk_at dksX0_minute_3 7 rfl rfl)
theorem dX0_minute_77 : decode cX0_minute 77 = .ok (.aload_n 0, 1) := dk_42 (dk_at dksX0_minute_3 10 rfl rfl)
theorem dX0_minute_78 : decode cX0_minute 78 = .ok (.getfield 157, 3) := dk_180 0 157 (dk_at dksX0_minute_3 11 rfl rfl)
theorem dX0_minute_81 : decode cX0_minute 81 = .ok (.aload_n 3, 1) := dk_45 (dk_at dksX0_minute_3 14 rfl rfl)
theorem dX0_minute_82 : decode cX0_minute 82 = .ok (.getfield 193, 3) := dk_180 0 193 (dk_at dksX0_minute_3 15 rfl rfl)
theorem dX0_minute_85 : decode cX0_minute 85 = .ok (.aload_n 3, 1) := dk_45 (dk_at dksX0_minute_3 18 rfl rfl)
theorem dX0_minute_86 : decode cX0_minute 86 = .ok (.getfield 382, 3) := dk_180 1 126 (dk_at dksX0_minute_3 19 rfl rfl)
theorem dX0_minute_89 : decode cX0_minute 89 = .ok (.iadd, 1) := dk_96 (dk_at dksX0_minute_3 22 rfl rfl)
theorem dX0_minute_90 : decode cX0_minute 90 = .ok (.if_icmp .ge 6, 3) := dk_162 0 6 (dk_at dksX0_minute_4 0 rfl rfl)
theorem dX0_minute_93 : decode cX0_minute 93 = .ok (.goto 50, 3) := dk_167 0 50 (dk_at dksX0_minute_4 3 rfl rfl)
theorem dX0_minute_96 : decode cX0_minute 96 = .ok (.aload_n 0, 1) := dk_42 (dk_at dksX0_minute_4 6 rfl rfl)
theorem dX0_minute_97 : decode cX0_minute 97 = .ok (.aload_n 1, 1) := dk_43 (dk_at dksX0_minute_4 7 rfl rfl)
theorem dX0_minute_98 : decode cX0_minute 98 = .ok (.iload_n 2, 1) := dk_28 (dk_at dksX0_minute_4 8 rfl rfl)
theorem dX0_minute_99 : decode cX0_minute 99 = .ok (.invokevirtual 385, 3) := dk_182 1 129 (dk_at dksX0_minute_4 9 rfl rfl)
theorem dX0_minute_102 : decode cX0_minute 102 = .ok (.istore 4, 2) := dk_54 4 (dk_at dksX0_minute_4 12 rfl rfl)
theorem dX0_minute_104 : decode cX0_minute 104 = .ok (.iload 4, 2) := dk_21 4 (dk_at dksX0_minute_4 14 rfl rfl)
theorem dX0_minute_106 : decode cX0_minute 106 = .ok (.iconst (-1), 1) := dk_2 (dk_at dksX0_minute_4 16 rfl rfl)
theorem dX0_minute_107 : decode cX0_minute 107 = .ok (.if_icmp .ne 6, 3) := dk_160 0 6 (dk_at dksX0_minute_4 17 rfl rfl)
theorem dX0_minute_110 : decode cX0_minute 110 = .ok (.goto 33, 3) := dk_167 0 33 (dk_at dksX0_minute_4 20 rfl rfl)
theorem dX0_minute_113 : decode cX0_minute 113 = .ok (.aload_n 3, 1) := dk_45 (dk_at dksX0_minute_4 23 rfl rfl)
theorem dX0_minute_114 : decode cX0_minute 114 = .ok (.iload 4, 2) := dk_21 4 (dk_at dksX0_minute_5 0 rfl rfl)
theorem dX0_minute_116 : decode cX0_minute 116 = .ok (.putfield 111, 3) := dk_181 0 111 (dk_at dksX0_minute_5 2 rfl rfl)
theorem dX0_minute_119 : decode cX0_minute 119 = .ok (.aload_n 3, 1) := dk_45 (dk_at dksX0_minute_5 5 rfl rfl)
theorem dX0_minute_120 : decode cX0_minute 120 = .ok (.aload_n 0, 1) := dk_42 (dk_at dksX0_minute_5 6 rfl rfl)
theorem dX0_minute_121 : decode cX0_minute 121 = .ok (.getfield 12, 3) := dk_180 0 12 (dk_at dksX0_minute_5 7 rfl rfl)
theorem dX0_minute_124 : decode cX0_minute 124 = .ok (.iload 4, 2) := dk_21 4 (dk_at dksX0_minute_5 10 rfl rfl)
theorem dX0_minute_126 : decode cX0_minute 126 = .ok (.invokevirtual 99, 3) := dk_182 0 99 (dk_at dksX0_minute_5 12 rfl rfl)
theorem dX0_minute_129 : decode cX0_minute 129 = .ok (.checkcast 103, 3) := dk_192 0 103 (dk_at dksX0_minute_5 15 rfl rfl)
theorem dX0_minute_132 : decode cX0_minute 132 = .ok (.invokevirtual 129, 3) := dk_182 0 129 (dk_at dksX0_minute_5 18 rfl rfl)
theorem dX0_minute_135 : decode cX0_minute 135 = .ok (.putfield 200, 3) := dk_181 0 200 (dk_at dksX0_minute_5 21 rfl rfl)
theorem dX0_minute_138 : decode cX0_minute 138 = .ok (.aload_n 3, 1) := dk_45 (dk_at dksX0_minute_6 0 rfl rfl)
theorem dX0_minute_139 : decode cX0_minute 139 = .ok (.iconst 0, 1) := dk_3 (dk_at dksX0_minute_6 1 rfl rfl)
theorem dX0_minute_140 : decode cX0_minute 140 = .ok (.putfield 196, 3) := dk_181 0 196 (dk_at dksX0_minute_6 2 rfl rfl)
theorem dX0_minute_143 : decode cX0_minute 143 = .ok (.iinc 2 1, 3) := dk_132 2 1 (dk_at dksX0_minute_6 5 rfl rfl)
theorem dX0_minute_146 : decode cX0_minute 146 = .ok (.goto (-110), 3) := dk_167 255 146 (dk_at dksX0_minute_6 8 rfl rfl)
theorem dX0_minute_149 : decode cX0_minute 149 = .ok (.aload_n 0, 1) := dk_42 (dk_at dksX0_minute_6 11 rfl rfl)
theorem dX0_minute_150 : decode cX0_minute 150 = .ok (.dup, 1) := dk_89 (dk_at dksX0_minute_6 12 rfl rfl)
theorem dX0_minute_151 : decode cX0_minute 151 = .ok (.getfield 160, 3) := dk_180 0 160 (dk_at dksX0_minute_6 13 rfl rfl)
theorem dX0_minute_154 : decode cX0_minute 154 = .ok (.aload_n 0, 1) := dk_42 (dk_at dksX0_minute_6 16 rfl rfl)
theorem dX0_minute_155 : decode cX0_minute 155 = .ok (.invokevirtual 389, 3) := dk_182 1 133 (dk_at dksX0_minute_6 17 rfl rfl)
theorem dX0_minute_158 : decode cX0_minute 158 = .ok (.iadd, 1) := dk_96 (dk_at dksX0_minute_6 20 rfl rfl)
theorem dX0_minute_159 : decode cX0_minute 159 = .ok (.putfield 160, 3) := dk_181 0 160 (dk_at dksX0_minute_6 21 rfl rfl)
theorem dX0_minute_162 : decode cX0_minute 162 = .ok (.aload_n 0, 1) := dk_42 (dk_at dksX0_minute_7 0 rfl rfl)
theorem dX0_minute_163 : decode cX0_minute 163 = .ok (.dup, 1) := dk_89 (dk_at dksX0_minute_7 1 rfl rfl)
theorem dX0_minute_164 : decode cX0_minute 164 = .ok (.getfield 157, 3) := dk_180 0 157 (dk_at dksX0_minute_7 2 rfl rfl)
theorem dX0_minute_167 : decode cX0_minute 167 = .ok (.iconst 1, 1) := dk_4 (dk_at dksX0_minute_7 5 rfl rfl)
theorem dX0_minute_168 : decode cX0_minute 168 = .ok (.iadd, 1) := dk_96 (dk_at dksX0_minute_7 6 rfl rfl)
theorem dX0_minute_169 : decode cX0_minute 169 = .ok (.putfield 157, 3) := dk_181 0 157 (dk_at dksX0_minute_7 7 rfl rfl)
theorem dX0_minute_172 : decode cX0_minute 172 = .ok (.return_, 1) := dk_177 (dk_at dksX0_minute_7 10 rfl rfl)
abbrev cX0_goesOn : ByteArray := prog_1_method_69_code
def yX0_goesOn : MethodName := ⟨RX0, "goesOn", "(LTurningRoads$Goer;)V"⟩
def dkwX0_goesOn_3 : List UInt8 := [181, 0, 200, 43, 3, 181, 0, 196, 42, 43, 44, 29, 42, 180, 0, 157, 4, 96, 182, 0, 221, 177]
abbrev dktX0_goesOn_3 : List UInt8 := dkwX0_goesOn_3 ++ []
def dkwX0_goesOn_2 : List UInt8 := [43, 180, 0, 111, 182, 0, 99, 192, 0, 103, 77, 43, 180, 0, 200, 62, 43, 2, 181, 0, 111, 43, 2]
abbrev dktX0_goesOn_2 : List UInt8 := dkwX0_goesOn_2 ++ dktX0_goesOn_3
def dkwX0_goesOn_1 : List UInt8 := [180, 0, 12, 43, 180, 0, 111, 182, 0, 99, 192, 0, 103, 180, 0, 175, 162, 0, 4, 177, 42, 180, 0, 12]
abbrev dktX0_goesOn_1 : List UInt8 := dkwX0_goesOn_1 ++ dktX0_goesOn_2
def dkwX0_goesOn_0 : List UInt8 := [43, 182, 0, 115, 153, 0, 4, 177, 43, 89, 180, 0, 196, 4, 96, 181, 0, 196, 43, 180, 0, 196, 42]
abbrev dktX0_goesOn_0 : List UInt8 := dkwX0_goesOn_0 ++ dktX0_goesOn_1
theorem dksX0_goesOn_0 : cX0_goesOn.data.toList.drop 0 = dktX0_goesOn_0 := by decide +kernel
theorem dksX0_goesOn_1 : cX0_goesOn.data.toList.drop 23 = dktX0_goesOn_1 := dk_seg dksX0_goesOn_0 23 rfl rfl
theorem dksX0_goesOn_2 : cX0_goesOn.data.toList.drop 47 = dktX0_goesOn_2 := dk_seg dksX0_goesOn_1 24 rfl rfl
theorem dksX0_goesOn_3 : cX0_goesOn.data.toList.drop 70 = dktX0_goesOn_3 := dk_seg dksX0_goesOn_2 23 rfl rfl
theorem dX0_goesOn_0 : decode cX0_goesOn 0 = .ok (.aload_n 1, 1) := dk_43 (dk_at dksX0_goesOn_0 0 rfl rfl)
theorem dX0_goesOn_1 : decode cX0_goesOn 1 = .ok (.invokevirtual 115, 3) := dk_182 0 115 (dk_at dksX0_goesOn_0 1 rfl rfl)
theorem dX0_goesOn_4 : decode cX0_goesOn 4 = .ok (.ifCond .eq 4, 3) := dk_153 0 4 (dk_at dksX0_goesOn_0 4 rfl rfl)
theorem dX0_goesOn_7 : decode cX0_goesOn 7 = .ok (.return_, 1) := dk_177 (dk_at dksX0_goesOn_0 7 rfl rfl)
theorem dX0_goesOn_8 : decode cX0_goesOn 8 = .ok (.aload_n 1, 1) := dk_43 (dk_at dksX0_goesOn_0 8 rfl rfl)
theorem dX0_goesOn_9 : decode cX0_goesOn 9 = .ok (.dup, 1) := dk_89 (dk_at dksX0_goesOn_0 9 rfl rfl)
theorem dX0_goesOn_10 : decode cX0_goesOn 10 = .ok (.getfield 196, 3) := dk_180 0 196 (dk_at dksX0_goesOn_0 10 rfl rfl)
theorem dX0_goesOn_13 : decode cX0_goesOn 13 = .ok (.iconst 1, 1) := dk_4 (dk_at dksX0_goesOn_0 13 rfl rfl)
theorem dX0_goesOn_14 : decode cX0_goesOn 14 = .ok (.iadd, 1) := dk_96 (dk_at dksX0_goesOn_0 14 rfl rfl)
theorem dX0_goesOn_15 : decode cX0_goesOn 15 = .ok (.putfield 196, 3) := dk_181 0 196 (dk_at dksX0_goesOn_0 15 rfl rfl)
theorem dX0_goesOn_18 : decode cX0_goesOn 18 = .ok (.aload_n 1, 1) := dk_43 (dk_at dksX0_goesOn_0 18 rfl rfl)
theorem dX0_goesOn_19 : decode cX0_goesOn 19 = .ok (.getfield 196, 3) := dk_180 0 196 (dk_at dksX0_goesOn_0 19 rfl rfl)
theorem dX0_goesOn_22 : decode cX0_goesOn 22 = .ok (.aload_n 0, 1) := dk_42 (dk_at dksX0_goesOn_0 22 rfl rfl)
theorem dX0_goesOn_23 : decode cX0_goesOn 23 = .ok (.getfield 12, 3) := dk_180 0 12 (dk_at dksX0_goesOn_1 0 rfl rfl)
theorem dX0_goesOn_26 : decode cX0_goesOn 26 = .ok (.aload_n 1, 1) := dk_43 (dk_at dksX0_goesOn_1 3 rfl rfl)
theorem dX0_goesOn_27 : decode cX0_goesOn 27 = .ok (.getfield 111, 3) := dk_180 0 111 (dk_at dksX0_goesOn_1 4 rfl rfl)
theorem dX0_goesOn_30 : decode cX0_goesOn 30 = .ok (.invokevirtual 99, 3) := dk_182 0 99 (dk_at dksX0_goesOn_1 7 rfl rfl)
theorem dX0_goesOn_33 : decode cX0_goesOn 33 = .ok (.checkcast 103, 3) := dk_192 0 103 (dk_at dksX0_goesOn_1 10 rfl rfl)
theorem dX0_goesOn_36 : decode cX0_goesOn 36 = .ok (.getfield 175, 3) := dk_180 0 175 (dk_at dksX0_goesOn_1 13 rfl rfl)
theorem dX0_goesOn_39 : decode cX0_goesOn 39 = .ok (.if_icmp .ge 4, 3) := dk_162 0 4 (dk_at dksX0_goesOn_1 16 rfl rfl)
theorem dX0_goesOn_42 : decode cX0_goesOn 42 = .ok (.return_, 1) := dk_177 (dk_at dksX0_goesOn_1 19 rfl rfl)
theorem dX0_goesOn_43 : decode cX0_goesOn 43 = .ok (.aload_n 0, 1) := dk_42 (dk_at dksX0_goesOn_1 20 rfl rfl)
theorem dX0_goesOn_44 : decode cX0_goesOn 44 = .ok (.getfield 12, 3) := dk_180 0 12 (dk_at dksX0_goesOn_1 21 rfl rfl)
theorem dX0_goesOn_47 : decode cX0_goesOn 47 = .ok (.aload_n 1, 1) := dk_43 (dk_at dksX0_goesOn_2 0 rfl rfl)
theorem dX0_goesOn_48 : decode cX0_goesOn 48 = .ok (.getfield 111, 3) := dk_180 0 111 (dk_at dksX0_goesOn_2 1 rfl rfl)
theorem dX0_goesOn_51 : decode cX0_goesOn 51 = .ok (.invokevirtual 99, 3) := dk_182 0 99 (dk_at dksX0_goesOn_2 4 rfl rfl)
theorem dX0_goesOn_54 : decode cX0_goesOn 54 = .ok (.checkcast 103, 3) := dk_192 0 103 (dk_at dksX0_goesOn_2 7 rfl rfl)
theorem dX0_goesOn_57 : decode cX0_goesOn 57 = .ok (.astore_n 2, 1) := dk_77 (dk_at dksX0_goesOn_2 10 rfl rfl)
theorem dX0_goesOn_58 : decode cX0_goesOn 58 = .ok (.aload_n 1, 1) := dk_43 (dk_at dksX0_goesOn_2 11 rfl rfl)
theorem dX0_goesOn_59 : decode cX0_goesOn 59 = .ok (.getfield 200, 3) := dk_180 0 200 (dk_at dksX0_goesOn_2 12 rfl rfl)
theorem dX0_goesOn_62 : decode cX0_goesOn 62 = .ok (.istore_n 3, 1) := dk_62 (dk_at dksX0_goesOn_2 15 rfl rfl)
theorem dX0_goesOn_63 : decode cX0_goesOn 63 = .ok (.aload_n 1, 1) := dk_43 (dk_at dksX0_goesOn_2 16 rfl rfl)
theorem dX0_goesOn_64 : decode cX0_goesOn 64 = .ok (.iconst (-1), 1) := dk_2 (dk_at dksX0_goesOn_2 17 rfl rfl)
theorem dX0_goesOn_65 : decode cX0_goesOn 65 = .ok (.putfield 111, 3) := dk_181 0 111 (dk_at dksX0_goesOn_2 18 rfl rfl)
theorem dX0_goesOn_68 : decode cX0_goesOn 68 = .ok (.aload_n 1, 1) := dk_43 (dk_at dksX0_goesOn_2 21 rfl rfl)
theorem dX0_goesOn_69 : decode cX0_goesOn 69 = .ok (.iconst (-1), 1) := dk_2 (dk_at dksX0_goesOn_2 22 rfl rfl)
theorem dX0_goesOn_70 : decode cX0_goesOn 70 = .ok (.putfield 200, 3) := dk_181 0 200 (dk_at dksX0_goesOn_3 0 rfl rfl)
theorem dX0_goesOn_73 : decode cX0_goesOn 73 = .ok (.aload_n 1, 1) := dk_43 (dk_at dksX0_goesOn_3 3 rfl rfl)
theorem dX0_goesOn_74 : decode cX0_goesOn 74 = .ok (.iconst 0, 1) := dk_3 (dk_at dksX0_goesOn_3 4 rfl rfl)
theorem dX0_goesOn_75 : decode cX0_goesOn 75 = .ok (.putfield 196, 3) := dk_181 0 196 (dk_at dksX0_goesOn_3 5 rfl rfl)
theorem dX0_goesOn_78 : decode cX0_goesOn 78 = .ok (.aload_n 0, 1) := dk_42 (dk_at dksX0_goesOn_3 8 rfl rfl)
theorem dX0_goesOn_79 : decode cX0_goesOn 79 = .ok (.aload_n 1, 1) := dk_43 (dk_at dksX0_goesOn_3 9 rfl rfl)
theorem dX0_goesOn_80 : decode cX0_goesOn 80 = .ok (.aload_n 2, 1) := dk_44 (dk_at dksX0_goesOn_3 10 rfl rfl)
theorem dX0_goesOn_81 : decode cX0_goesOn 81 = .ok (.iload_n 3, 1) := dk_29 (dk_at dksX0_goesOn_3 11 rfl rfl)
theorem dX0_goesOn_82 : decode cX0_goesOn 82 = .ok (.aload_n 0, 1) := dk_42 (dk_at dksX0_goesOn_3 12 rfl rfl)
theorem dX0_goesOn_83 : decode cX0_goesOn 83 = .ok (.getfield 157, 3) := dk_180 0 157 (dk_at dksX0_goesOn_3 13 rfl rfl)
theorem dX0_goesOn_86 : decode cX0_goesOn 86 = .ok (.iconst 1, 1) := dk_4 (dk_at dksX0_goesOn_3 16 rfl rfl)
theorem dX0_goesOn_87 : decode cX0_goesOn 87 = .ok (.iadd, 1) := dk_96 (dk_at dksX0_goesOn_3 17 rfl rfl)
theorem dX0_goesOn_88 : decode cX0_goesOn 88 = .ok (.invokevirtual 221, 3) := dk_182 0 221 (dk_at dksX0_goesOn_3 18 rfl rfl)
theorem dX0_goesOn_91 : decode cX0_goesOn 91 = .ok (.return_, 1) := dk_177 (dk_at dksX0_goesOn_3 21 rfl rfl)
abbrev cX0_taken : ByteArray := prog_1_method_68_code
def yX0_taken : MethodName := ⟨RX0, "taken", "(LTurningRoads$Rule;I)I"⟩
def dkwX0_taken_6 : List UInt8 := [22, 4, 148, 157, 0, 6, 167, 0, 10, 21, 6, 62, 22, 8, 55, 4, 132, 6, 1, 167, 255, 138, 29, 172]
abbrev dktX0_taken_6 : List UInt8 := dkwX0_taken_6 ++ []
def dkwX0_taken_5 : List UInt8 := [180, 1, 110, 42, 180, 0, 71, 182, 1, 116, 55, 8, 25, 7, 198, 0, 26, 29, 2, 159, 0, 14, 22, 8]
abbrev dktX0_taken_5 : List UInt8 := dkwX0_taken_5 ++ dktX0_taken_6
def dkwX0_taken_4 : List UInt8 := [182, 1, 103, 43, 42, 180, 0, 71, 182, 1, 106, 58, 7, 25, 7, 199, 0, 7, 9, 167, 0, 15, 25, 7]
abbrev dktX0_taken_4 : List UInt8 := dkwX0_taken_4 ++ dktX0_taken_5
def dkwX0_taken_3 : List UInt8 := [180, 0, 18, 28, 182, 0, 99, 192, 0, 109, 180, 0, 122, 159, 0, 6, 167, 0, 71, 42, 28, 21, 6]
abbrev dktX0_taken_3 : List UInt8 := dkwX0_taken_3 ++ dktX0_taken_4
def dkwX0_taken_2 : List UInt8 := [182, 0, 89, 162, 0, 112, 42, 180, 0, 12, 21, 6, 182, 0, 99, 192, 0, 103, 182, 0, 119, 42]
abbrev dktX0_taken_2 : List UInt8 := dkwX0_taken_2 ++ dktX0_taken_3
def dkwX0_taken_1 : List UInt8 := [182, 1, 97, 153, 0, 5, 2, 172, 2, 62, 9, 55, 4, 3, 54, 6, 21, 6, 42, 180, 0, 12]
abbrev dktX0_taken_1 : List UInt8 := dkwX0_taken_1 ++ dktX0_taken_2
def dkwX0_taken_0 : List UInt8 := [42, 28, 42, 180, 0, 18, 28, 182, 0, 99, 192, 0, 109, 180, 0, 122, 182, 1, 94, 43, 42, 180, 0, 71]
abbrev dktX0_taken_0 : List UInt8 := dkwX0_taken_0 ++ dktX0_taken_1
theorem dksX0_taken_0 : cX0_taken.data.toList.drop 0 = dktX0_taken_0 := by decide +kernel
theorem dksX0_taken_1 : cX0_taken.data.toList.drop 24 = dktX0_taken_1 := dk_seg dksX0_taken_0 24 rfl rfl
theorem dksX0_taken_2 : cX0_taken.data.toList.drop 46 = dktX0_taken_2 := dk_seg dksX0_taken_1 22 rfl rfl
theorem dksX0_taken_3 : cX0_taken.data.toList.drop 68 = dktX0_taken_3 := dk_seg dksX0_taken_2 22 rfl rfl
theorem dksX0_taken_4 : cX0_taken.data.toList.drop 91 = dktX0_taken_4 := dk_seg dksX0_taken_3 23 rfl rfl
theorem dksX0_taken_5 : cX0_taken.data.toList.drop 115 = dktX0_taken_5 := dk_seg dksX0_taken_4 24 rfl rfl
theorem dksX0_taken_6 : cX0_taken.data.toList.drop 139 = dktX0_taken_6 := dk_seg dksX0_taken_5 24 rfl rfl
theorem dX0_taken_0 : decode cX0_taken 0 = .ok (.aload_n 0, 1) := dk_42 (dk_at dksX0_taken_0 0 rfl rfl)
theorem dX0_taken_1 : decode cX0_taken 1 = .ok (.iload_n 2, 1) := dk_28 (dk_at dksX0_taken_0 1 rfl rfl)
theorem dX0_taken_2 : decode cX0_taken 2 = .ok (.aload_n 0, 1) := dk_42 (dk_at dksX0_taken_0 2 rfl rfl)
theorem dX0_taken_3 : decode cX0_taken 3 = .ok (.getfield 18, 3) := dk_180 0 18 (dk_at dksX0_taken_0 3 rfl rfl)
theorem dX0_taken_6 : decode cX0_taken 6 = .ok (.iload_n 2, 1) := dk_28 (dk_at dksX0_taken_0 6 rfl rfl)
theorem dX0_taken_7 : decode cX0_taken 7 = .ok (.invokevirtual 99, 3) := dk_182 0 99 (dk_at dksX0_taken_0 7 rfl rfl)
theorem dX0_taken_10 : decode cX0_taken 10 = .ok (.checkcast 109, 3) := dk_192 0 109 (dk_at dksX0_taken_0 10 rfl rfl)
theorem dX0_taken_13 : decode cX0_taken 13 = .ok (.getfield 122, 3) := dk_180 0 122 (dk_at dksX0_taken_0 13 rfl rfl)
theorem dX0_taken_16 : decode cX0_taken 16 = .ok (.invokevirtual 350, 3) := dk_182 1 94 (dk_at dksX0_taken_0 16 rfl rfl)
theorem dX0_taken_19 : decode cX0_taken 19 = .ok (.aload_n 1, 1) := dk_43 (dk_at dksX0_taken_0 19 rfl rfl)
theorem dX0_taken_20 : decode cX0_taken 20 = .ok (.aload_n 0, 1) := dk_42 (dk_at dksX0_taken_0 20 rfl rfl)
theorem dX0_taken_21 : decode cX0_taken 21 = .ok (.getfield 71, 3) := dk_180 0 71 (dk_at dksX0_taken_0 21 rfl rfl)
theorem dX0_taken_24 : decode cX0_taken 24 = .ok (.invokevirtual 353, 3) := dk_182 1 97 (dk_at dksX0_taken_1 0 rfl rfl)
theorem dX0_taken_27 : decode cX0_taken 27 = .ok (.ifCond .eq 5, 3) := dk_153 0 5 (dk_at dksX0_taken_1 3 rfl rfl)
theorem dX0_taken_30 : decode cX0_taken 30 = .ok (.iconst (-1), 1) := dk_2 (dk_at dksX0_taken_1 6 rfl rfl)
theorem dX0_taken_31 : decode cX0_taken 31 = .ok (.ireturn, 1) := dk_172 (dk_at dksX0_taken_1 7 rfl rfl)
theorem dX0_taken_32 : decode cX0_taken 32 = .ok (.iconst (-1), 1) := dk_2 (dk_at dksX0_taken_1 8 rfl rfl)
theorem dX0_taken_33 : decode cX0_taken 33 = .ok (.istore_n 3, 1) := dk_62 (dk_at dksX0_taken_1 9 rfl rfl)
theorem dX0_taken_34 : decode cX0_taken 34 = .ok (.lconst 0, 1) := dk_9 (dk_at dksX0_taken_1 10 rfl rfl)
theorem dX0_taken_35 : decode cX0_taken 35 = .ok (.lstore 4, 2) := dk_55 4 (dk_at dksX0_taken_1 11 rfl rfl)
theorem dX0_taken_37 : decode cX0_taken 37 = .ok (.iconst 0, 1) := dk_3 (dk_at dksX0_taken_1 13 rfl rfl)
theorem dX0_taken_38 : decode cX0_taken 38 = .ok (.istore 6, 2) := dk_54 6 (dk_at dksX0_taken_1 14 rfl rfl)
theorem dX0_taken_40 : decode cX0_taken 40 = .ok (.iload 6, 2) := dk_21 6 (dk_at dksX0_taken_1 16 rfl rfl)
theorem dX0_taken_42 : decode cX0_taken 42 = .ok (.aload_n 0, 1) := dk_42 (dk_at dksX0_taken_1 18 rfl rfl)
theorem dX0_taken_43 : decode cX0_taken 43 = .ok (.getfield 12, 3) := dk_180 0 12 (dk_at dksX0_taken_1 19 rfl rfl)
theorem dX0_taken_46 : decode cX0_taken 46 = .ok (.invokevirtual 89, 3) := dk_182 0 89 (dk_at dksX0_taken_2 0 rfl rfl)
theorem dX0_taken_49 : decode cX0_taken 49 = .ok (.if_icmp .ge 112, 3) := dk_162 0 112 (dk_at dksX0_taken_2 3 rfl rfl)
theorem dX0_taken_52 : decode cX0_taken 52 = .ok (.aload_n 0, 1) := dk_42 (dk_at dksX0_taken_2 6 rfl rfl)
theorem dX0_taken_53 : decode cX0_taken 53 = .ok (.getfield 12, 3) := dk_180 0 12 (dk_at dksX0_taken_2 7 rfl rfl)
theorem dX0_taken_56 : decode cX0_taken 56 = .ok (.iload 6, 2) := dk_21 6 (dk_at dksX0_taken_2 10 rfl rfl)
theorem dX0_taken_58 : decode cX0_taken 58 = .ok (.invokevirtual 99, 3) := dk_182 0 99 (dk_at dksX0_taken_2 12 rfl rfl)
theorem dX0_taken_61 : decode cX0_taken 61 = .ok (.checkcast 103, 3) := dk_192 0 103 (dk_at dksX0_taken_2 15 rfl rfl)
theorem dX0_taken_64 : decode cX0_taken 64 = .ok (.invokevirtual 119, 3) := dk_182 0 119 (dk_at dksX0_taken_2 18 rfl rfl)
theorem dX0_taken_67 : decode cX0_taken 67 = .ok (.aload_n 0, 1) := dk_42 (dk_at dksX0_taken_2 21 rfl rfl)
theorem dX0_taken_68 : decode cX0_taken 68 = .ok (.getfield 18, 3) := dk_180 0 18 (dk_at dksX0_taken_3 0 rfl rfl)
theorem dX0_taken_71 : decode cX0_taken 71 = .ok (.iload_n 2, 1) := dk_28 (dk_at dksX0_taken_3 3 rfl rfl)
theorem dX0_taken_72 : decode cX0_taken 72 = .ok (.invokevirtual 99, 3) := dk_182 0 99 (dk_at dksX0_taken_3 4 rfl rfl)
theorem dX0_taken_75 : decode cX0_taken 75 = .ok (.checkcast 109, 3) := dk_192 0 109 (dk_at dksX0_taken_3 7 rfl rfl)
theorem dX0_taken_78 : decode cX0_taken 78 = .ok (.getfield 122, 3) := dk_180 0 122 (dk_at dksX0_taken_3 10 rfl rfl)
theorem dX0_taken_81 : decode cX0_taken 81 = .ok (.if_icmp .eq 6, 3) := dk_159 0 6 (dk_at dksX0_taken_3 13 rfl rfl)
theorem dX0_taken_84 : decode cX0_taken 84 = .ok (.goto 71, 3) := dk_167 0 71 (dk_at dksX0_taken_3 16 rfl rfl)
theorem dX0_taken_87 : decode cX0_taken 87 = .ok (.aload_n 0, 1) := dk_42 (dk_at dksX0_taken_3 19 rfl rfl)
theorem dX0_taken_88 : decode cX0_taken 88 = .ok (.iload_n 2, 1) := dk_28 (dk_at dksX0_taken_3 20 rfl rfl)
theorem dX0_taken_89 : decode cX0_taken 89 = .ok (.iload 6, 2) := dk_21 6 (dk_at dksX0_taken_3 21 rfl rfl)
theorem dX0_taken_91 : decode cX0_taken 91 = .ok (.invokevirtual 359, 3) := dk_182 1 103 (dk_at dksX0_taken_4 0 rfl rfl)
theorem dX0_taken_94 : decode cX0_taken 94 = .ok (.aload_n 1, 1) := dk_43 (dk_at dksX0_taken_4 3 rfl rfl)
theorem dX0_taken_95 : decode cX0_taken 95 = .ok (.aload_n 0, 1) := dk_42 (dk_at dksX0_taken_4 4 rfl rfl)
theorem dX0_taken_96 : decode cX0_taken 96 = .ok (.getfield 71, 3) := dk_180 0 71 (dk_at dksX0_taken_4 5 rfl rfl)
theorem dX0_taken_99 : decode cX0_taken 99 = .ok (.invokevirtual 362, 3) := dk_182 1 106 (dk_at dksX0_taken_4 8 rfl rfl)
theorem dX0_taken_102 : decode cX0_taken 102 = .ok (.astore 7, 2) := dk_58 7 (dk_at dksX0_taken_4 11 rfl rfl)
theorem dX0_taken_104 : decode cX0_taken 104 = .ok (.aload 7, 2) := dk_25 7 (dk_at dksX0_taken_4 13 rfl rfl)
theorem dX0_taken_106 : decode cX0_taken 106 = .ok (.ifnonnull 7, 3) := dk_199 0 7 (dk_at dksX0_taken_4 15 rfl rfl)
theorem dX0_taken_109 : decode cX0_taken 109 = .ok (.lconst 0, 1) := dk_9 (dk_at dksX0_taken_4 18 rfl rfl)
theorem dX0_taken_110 : decode cX0_taken 110 = .ok (.goto 15, 3) := dk_167 0 15 (dk_at dksX0_taken_4 19 rfl rfl)
theorem dX0_taken_113 : decode cX0_taken 113 = .ok (.aload 7, 2) := dk_25 7 (dk_at dksX0_taken_4 22 rfl rfl)
theorem dX0_taken_115 : decode cX0_taken 115 = .ok (.getfield 366, 3) := dk_180 1 110 (dk_at dksX0_taken_5 0 rfl rfl)
theorem dX0_taken_118 : decode cX0_taken 118 = .ok (.aload_n 0, 1) := dk_42 (dk_at dksX0_taken_5 3 rfl rfl)
theorem dX0_taken_119 : decode cX0_taken 119 = .ok (.getfield 71, 3) := dk_180 0 71 (dk_at dksX0_taken_5 4 rfl rfl)
theorem dX0_taken_122 : decode cX0_taken 122 = .ok (.invokevirtual 372, 3) := dk_182 1 116 (dk_at dksX0_taken_5 7 rfl rfl)
theorem dX0_taken_125 : decode cX0_taken 125 = .ok (.lstore 8, 2) := dk_55 8 (dk_at dksX0_taken_5 10 rfl rfl)
theorem dX0_taken_127 : decode cX0_taken 127 = .ok (.aload 7, 2) := dk_25 7 (dk_at dksX0_taken_5 12 rfl rfl)
theorem dX0_taken_129 : decode cX0_taken 129 = .ok (.ifnull 26, 3) := dk_198 0 26 (dk_at dksX0_taken_5 14 rfl rfl)
theorem dX0_taken_132 : decode cX0_taken 132 = .ok (.iload_n 3, 1) := dk_29 (dk_at dksX0_taken_5 17 rfl rfl)
theorem dX0_taken_133 : decode cX0_taken 133 = .ok (.iconst (-1), 1) := dk_2 (dk_at dksX0_taken_5 18 rfl rfl)
theorem dX0_taken_134 : decode cX0_taken 134 = .ok (.if_icmp .eq 14, 3) := dk_159 0 14 (dk_at dksX0_taken_5 19 rfl rfl)
theorem dX0_taken_137 : decode cX0_taken 137 = .ok (.lload 8, 2) := dk_22 8 (dk_at dksX0_taken_5 22 rfl rfl)
theorem dX0_taken_139 : decode cX0_taken 139 = .ok (.lload 4, 2) := dk_22 4 (dk_at dksX0_taken_6 0 rfl rfl)
theorem dX0_taken_141 : decode cX0_taken 141 = .ok (.lcmp, 1) := dk_148 (dk_at dksX0_taken_6 2 rfl rfl)
theorem dX0_taken_142 : decode cX0_taken 142 = .ok (.ifCond .gt 6, 3) := dk_157 0 6 (dk_at dksX0_taken_6 3 rfl rfl)
theorem dX0_taken_145 : decode cX0_taken 145 = .ok (.goto 10, 3) := dk_167 0 10 (dk_at dksX0_taken_6 6 rfl rfl)
theorem dX0_taken_148 : decode cX0_taken 148 = .ok (.iload 6, 2) := dk_21 6 (dk_at dksX0_taken_6 9 rfl rfl)
theorem dX0_taken_150 : decode cX0_taken 150 = .ok (.istore_n 3, 1) := dk_62 (dk_at dksX0_taken_6 11 rfl rfl)
theorem dX0_taken_151 : decode cX0_taken 151 = .ok (.lload 8, 2) := dk_22 8 (dk_at dksX0_taken_6 12 rfl rfl)
theorem dX0_taken_153 : decode cX0_taken 153 = .ok (.lstore 4, 2) := dk_55 4 (dk_at dksX0_taken_6 14 rfl rfl)
theorem dX0_taken_155 : decode cX0_taken 155 = .ok (.iinc 6 1, 3) := dk_132 6 1 (dk_at dksX0_taken_6 16 rfl rfl)
theorem dX0_taken_158 : decode cX0_taken 158 = .ok (.goto (-118), 3) := dk_167 255 138 (dk_at dksX0_taken_6 19 rfl rfl)
theorem dX0_taken_161 : decode cX0_taken 161 = .ok (.iload_n 3, 1) := dk_29 (dk_at dksX0_taken_6 22 rfl rfl)
theorem dX0_taken_162 : decode cX0_taken 162 = .ok (.ireturn, 1) := dk_172 (dk_at dksX0_taken_6 23 rfl rfl)
abbrev cX0_asks : ByteArray := prog_1_method_66_code
def yX0_asks : MethodName := ⟨RX0, "asks", "(II)V"⟩
def dkwX0_asks_5 : List UInt8 := [180, 0, 71, 16, 10, 42, 180, 0, 157, 133, 80, 42, 180, 0, 71, 16, 11, 9, 80, 177]
abbrev dktX0_asks_5 : List UInt8 := dkwX0_asks_5 ++ []
def dkwX0_asks_4 : List UInt8 := [180, 0, 71, 16, 9, 42, 180, 0, 18, 27, 182, 0, 99, 192, 0, 109, 180, 0, 190, 133, 80, 42]
abbrev dktX0_asks_4 : List UInt8 := dkwX0_asks_4 ++ dktX0_asks_5
def dkwX0_asks_3 : List UInt8 := [180, 0, 71, 16, 7, 42, 28, 182, 0, 211, 133, 80, 42, 180, 0, 71, 16, 8, 27, 133, 80, 42]
abbrev dktX0_asks_3 : List UInt8 := dkwX0_asks_3 ++ dktX0_asks_4
def dkwX0_asks_2 : List UInt8 := [180, 0, 190, 182, 0, 217, 133, 80, 42, 180, 0, 71, 16, 6, 42, 28, 182, 0, 205, 133, 80, 42]
abbrev dktX0_asks_2 : List UInt8 := dkwX0_asks_2 ++ dktX0_asks_3
def dkwX0_asks_1 : List UInt8 := [7, 28, 133, 80, 42, 180, 0, 71, 8, 42, 28, 42, 180, 0, 18, 27, 182, 0, 99, 192, 0, 109]
abbrev dktX0_asks_1 : List UInt8 := dkwX0_asks_1 ++ dktX0_asks_2
def dkwX0_asks_0 : List UInt8 := [3, 62, 29, 7, 162, 0, 16, 42, 180, 0, 71, 29, 9, 80, 132, 3, 1, 167, 255, 241, 42, 180, 0, 71]
abbrev dktX0_asks_0 : List UInt8 := dkwX0_asks_0 ++ dktX0_asks_1
theorem dksX0_asks_0 : cX0_asks.data.toList.drop 0 = dktX0_asks_0 := by decide +kernel
theorem dksX0_asks_1 : cX0_asks.data.toList.drop 24 = dktX0_asks_1 := dk_seg dksX0_asks_0 24 rfl rfl
theorem dksX0_asks_2 : cX0_asks.data.toList.drop 46 = dktX0_asks_2 := dk_seg dksX0_asks_1 22 rfl rfl
theorem dksX0_asks_3 : cX0_asks.data.toList.drop 68 = dktX0_asks_3 := dk_seg dksX0_asks_2 22 rfl rfl
theorem dksX0_asks_4 : cX0_asks.data.toList.drop 90 = dktX0_asks_4 := dk_seg dksX0_asks_3 22 rfl rfl
theorem dksX0_asks_5 : cX0_asks.data.toList.drop 112 = dktX0_asks_5 := dk_seg dksX0_asks_4 22 rfl rfl
theorem dX0_asks_0 : decode cX0_asks 0 = .ok (.iconst 0, 1) := dk_3 (dk_at dksX0_asks_0 0 rfl rfl)
theorem dX0_asks_1 : decode cX0_asks 1 = .ok (.istore_n 3, 1) := dk_62 (dk_at dksX0_asks_0 1 rfl rfl)
theorem dX0_asks_2 : decode cX0_asks 2 = .ok (.iload_n 3, 1) := dk_29 (dk_at dksX0_asks_0 2 rfl rfl)
theorem dX0_asks_3 : decode cX0_asks 3 = .ok (.iconst 4, 1) := dk_7 (dk_at dksX0_asks_0 3 rfl rfl)
theorem dX0_asks_4 : decode cX0_asks 4 = .ok (.if_icmp .ge 16, 3) := dk_162 0 16 (dk_at dksX0_asks_0 4 rfl rfl)
theorem dX0_asks_7 : decode cX0_asks 7 = .ok (.aload_n 0, 1) := dk_42 (dk_at dksX0_asks_0 7 rfl rfl)
theorem dX0_asks_8 : decode cX0_asks 8 = .ok (.getfield 71, 3) := dk_180 0 71 (dk_at dksX0_asks_0 8 rfl rfl)
theorem dX0_asks_11 : decode cX0_asks 11 = .ok (.iload_n 3, 1) := dk_29 (dk_at dksX0_asks_0 11 rfl rfl)
theorem dX0_asks_12 : decode cX0_asks 12 = .ok (.lconst 0, 1) := dk_9 (dk_at dksX0_asks_0 12 rfl rfl)
theorem dX0_asks_13 : decode cX0_asks 13 = .ok (.lastore, 1) := dk_80 (dk_at dksX0_asks_0 13 rfl rfl)
theorem dX0_asks_14 : decode cX0_asks 14 = .ok (.iinc 3 1, 3) := dk_132 3 1 (dk_at dksX0_asks_0 14 rfl rfl)
theorem dX0_asks_17 : decode cX0_asks 17 = .ok (.goto (-15), 3) := dk_167 255 241 (dk_at dksX0_asks_0 17 rfl rfl)
theorem dX0_asks_20 : decode cX0_asks 20 = .ok (.aload_n 0, 1) := dk_42 (dk_at dksX0_asks_0 20 rfl rfl)
theorem dX0_asks_21 : decode cX0_asks 21 = .ok (.getfield 71, 3) := dk_180 0 71 (dk_at dksX0_asks_0 21 rfl rfl)
theorem dX0_asks_24 : decode cX0_asks 24 = .ok (.iconst 4, 1) := dk_7 (dk_at dksX0_asks_1 0 rfl rfl)
theorem dX0_asks_25 : decode cX0_asks 25 = .ok (.iload_n 2, 1) := dk_28 (dk_at dksX0_asks_1 1 rfl rfl)
theorem dX0_asks_26 : decode cX0_asks 26 = .ok (.i2l, 1) := dk_133 (dk_at dksX0_asks_1 2 rfl rfl)
theorem dX0_asks_27 : decode cX0_asks 27 = .ok (.lastore, 1) := dk_80 (dk_at dksX0_asks_1 3 rfl rfl)
theorem dX0_asks_28 : decode cX0_asks 28 = .ok (.aload_n 0, 1) := dk_42 (dk_at dksX0_asks_1 4 rfl rfl)
theorem dX0_asks_29 : decode cX0_asks 29 = .ok (.getfield 71, 3) := dk_180 0 71 (dk_at dksX0_asks_1 5 rfl rfl)
theorem dX0_asks_32 : decode cX0_asks 32 = .ok (.iconst 5, 1) := dk_8 (dk_at dksX0_asks_1 8 rfl rfl)
theorem dX0_asks_33 : decode cX0_asks 33 = .ok (.aload_n 0, 1) := dk_42 (dk_at dksX0_asks_1 9 rfl rfl)
theorem dX0_asks_34 : decode cX0_asks 34 = .ok (.iload_n 2, 1) := dk_28 (dk_at dksX0_asks_1 10 rfl rfl)
theorem dX0_asks_35 : decode cX0_asks 35 = .ok (.aload_n 0, 1) := dk_42 (dk_at dksX0_asks_1 11 rfl rfl)
theorem dX0_asks_36 : decode cX0_asks 36 = .ok (.getfield 18, 3) := dk_180 0 18 (dk_at dksX0_asks_1 12 rfl rfl)
theorem dX0_asks_39 : decode cX0_asks 39 = .ok (.iload_n 1, 1) := dk_27 (dk_at dksX0_asks_1 15 rfl rfl)
theorem dX0_asks_40 : decode cX0_asks 40 = .ok (.invokevirtual 99, 3) := dk_182 0 99 (dk_at dksX0_asks_1 16 rfl rfl)
theorem dX0_asks_43 : decode cX0_asks 43 = .ok (.checkcast 109, 3) := dk_192 0 109 (dk_at dksX0_asks_1 19 rfl rfl)
theorem dX0_asks_46 : decode cX0_asks 46 = .ok (.getfield 190, 3) := dk_180 0 190 (dk_at dksX0_asks_2 0 rfl rfl)
theorem dX0_asks_49 : decode cX0_asks 49 = .ok (.invokevirtual 217, 3) := dk_182 0 217 (dk_at dksX0_asks_2 3 rfl rfl)
theorem dX0_asks_52 : decode cX0_asks 52 = .ok (.i2l, 1) := dk_133 (dk_at dksX0_asks_2 6 rfl rfl)
theorem dX0_asks_53 : decode cX0_asks 53 = .ok (.lastore, 1) := dk_80 (dk_at dksX0_asks_2 7 rfl rfl)
theorem dX0_asks_54 : decode cX0_asks 54 = .ok (.aload_n 0, 1) := dk_42 (dk_at dksX0_asks_2 8 rfl rfl)
theorem dX0_asks_55 : decode cX0_asks 55 = .ok (.getfield 71, 3) := dk_180 0 71 (dk_at dksX0_asks_2 9 rfl rfl)
theorem dX0_asks_58 : decode cX0_asks 58 = .ok (.bipush 6, 2) := dk_16 6 (dk_at dksX0_asks_2 12 rfl rfl)
theorem dX0_asks_60 : decode cX0_asks 60 = .ok (.aload_n 0, 1) := dk_42 (dk_at dksX0_asks_2 14 rfl rfl)
theorem dX0_asks_61 : decode cX0_asks 61 = .ok (.iload_n 2, 1) := dk_28 (dk_at dksX0_asks_2 15 rfl rfl)
theorem dX0_asks_62 : decode cX0_asks 62 = .ok (.invokevirtual 205, 3) := dk_182 0 205 (dk_at dksX0_asks_2 16 rfl rfl)
theorem dX0_asks_65 : decode cX0_asks 65 = .ok (.i2l, 1) := dk_133 (dk_at dksX0_asks_2 19 rfl rfl)
theorem dX0_asks_66 : decode cX0_asks 66 = .ok (.lastore, 1) := dk_80 (dk_at dksX0_asks_2 20 rfl rfl)
theorem dX0_asks_67 : decode cX0_asks 67 = .ok (.aload_n 0, 1) := dk_42 (dk_at dksX0_asks_2 21 rfl rfl)
theorem dX0_asks_68 : decode cX0_asks 68 = .ok (.getfield 71, 3) := dk_180 0 71 (dk_at dksX0_asks_3 0 rfl rfl)
theorem dX0_asks_71 : decode cX0_asks 71 = .ok (.bipush 7, 2) := dk_16 7 (dk_at dksX0_asks_3 3 rfl rfl)
theorem dX0_asks_73 : decode cX0_asks 73 = .ok (.aload_n 0, 1) := dk_42 (dk_at dksX0_asks_3 5 rfl rfl)
theorem dX0_asks_74 : decode cX0_asks 74 = .ok (.iload_n 2, 1) := dk_28 (dk_at dksX0_asks_3 6 rfl rfl)
theorem dX0_asks_75 : decode cX0_asks 75 = .ok (.invokevirtual 211, 3) := dk_182 0 211 (dk_at dksX0_asks_3 7 rfl rfl)
theorem dX0_asks_78 : decode cX0_asks 78 = .ok (.i2l, 1) := dk_133 (dk_at dksX0_asks_3 10 rfl rfl)
theorem dX0_asks_79 : decode cX0_asks 79 = .ok (.lastore, 1) := dk_80 (dk_at dksX0_asks_3 11 rfl rfl)
theorem dX0_asks_80 : decode cX0_asks 80 = .ok (.aload_n 0, 1) := dk_42 (dk_at dksX0_asks_3 12 rfl rfl)
theorem dX0_asks_81 : decode cX0_asks 81 = .ok (.getfield 71, 3) := dk_180 0 71 (dk_at dksX0_asks_3 13 rfl rfl)
theorem dX0_asks_84 : decode cX0_asks 84 = .ok (.bipush 8, 2) := dk_16 8 (dk_at dksX0_asks_3 16 rfl rfl)
theorem dX0_asks_86 : decode cX0_asks 86 = .ok (.iload_n 1, 1) := dk_27 (dk_at dksX0_asks_3 18 rfl rfl)
theorem dX0_asks_87 : decode cX0_asks 87 = .ok (.i2l, 1) := dk_133 (dk_at dksX0_asks_3 19 rfl rfl)
theorem dX0_asks_88 : decode cX0_asks 88 = .ok (.lastore, 1) := dk_80 (dk_at dksX0_asks_3 20 rfl rfl)
theorem dX0_asks_89 : decode cX0_asks 89 = .ok (.aload_n 0, 1) := dk_42 (dk_at dksX0_asks_3 21 rfl rfl)
theorem dX0_asks_90 : decode cX0_asks 90 = .ok (.getfield 71, 3) := dk_180 0 71 (dk_at dksX0_asks_4 0 rfl rfl)
theorem dX0_asks_93 : decode cX0_asks 93 = .ok (.bipush 9, 2) := dk_16 9 (dk_at dksX0_asks_4 3 rfl rfl)
theorem dX0_asks_95 : decode cX0_asks 95 = .ok (.aload_n 0, 1) := dk_42 (dk_at dksX0_asks_4 5 rfl rfl)
theorem dX0_asks_96 : decode cX0_asks 96 = .ok (.getfield 18, 3) := dk_180 0 18 (dk_at dksX0_asks_4 6 rfl rfl)
theorem dX0_asks_99 : decode cX0_asks 99 = .ok (.iload_n 1, 1) := dk_27 (dk_at dksX0_asks_4 9 rfl rfl)
theorem dX0_asks_100 : decode cX0_asks 100 = .ok (.invokevirtual 99, 3) := dk_182 0 99 (dk_at dksX0_asks_4 10 rfl rfl)
theorem dX0_asks_103 : decode cX0_asks 103 = .ok (.checkcast 109, 3) := dk_192 0 109 (dk_at dksX0_asks_4 13 rfl rfl)
theorem dX0_asks_106 : decode cX0_asks 106 = .ok (.getfield 190, 3) := dk_180 0 190 (dk_at dksX0_asks_4 16 rfl rfl)
theorem dX0_asks_109 : decode cX0_asks 109 = .ok (.i2l, 1) := dk_133 (dk_at dksX0_asks_4 19 rfl rfl)
theorem dX0_asks_110 : decode cX0_asks 110 = .ok (.lastore, 1) := dk_80 (dk_at dksX0_asks_4 20 rfl rfl)
theorem dX0_asks_111 : decode cX0_asks 111 = .ok (.aload_n 0, 1) := dk_42 (dk_at dksX0_asks_4 21 rfl rfl)
theorem dX0_asks_112 : decode cX0_asks 112 = .ok (.getfield 71, 3) := dk_180 0 71 (dk_at dksX0_asks_5 0 rfl rfl)
theorem dX0_asks_115 : decode cX0_asks 115 = .ok (.bipush 10, 2) := dk_16 10 (dk_at dksX0_asks_5 3 rfl rfl)
theorem dX0_asks_117 : decode cX0_asks 117 = .ok (.aload_n 0, 1) := dk_42 (dk_at dksX0_asks_5 5 rfl rfl)
theorem dX0_asks_118 : decode cX0_asks 118 = .ok (.getfield 157, 3) := dk_180 0 157 (dk_at dksX0_asks_5 6 rfl rfl)
theorem dX0_asks_121 : decode cX0_asks 121 = .ok (.i2l, 1) := dk_133 (dk_at dksX0_asks_5 9 rfl rfl)
theorem dX0_asks_122 : decode cX0_asks 122 = .ok (.lastore, 1) := dk_80 (dk_at dksX0_asks_5 10 rfl rfl)
theorem dX0_asks_123 : decode cX0_asks 123 = .ok (.aload_n 0, 1) := dk_42 (dk_at dksX0_asks_5 11 rfl rfl)
theorem dX0_asks_124 : decode cX0_asks 124 = .ok (.getfield 71, 3) := dk_180 0 71 (dk_at dksX0_asks_5 12 rfl rfl)
theorem dX0_asks_127 : decode cX0_asks 127 = .ok (.bipush 11, 2) := dk_16 11 (dk_at dksX0_asks_5 15 rfl rfl)
theorem dX0_asks_129 : decode cX0_asks 129 = .ok (.lconst 0, 1) := dk_9 (dk_at dksX0_asks_5 17 rfl rfl)
theorem dX0_asks_130 : decode cX0_asks 130 = .ok (.lastore, 1) := dk_80 (dk_at dksX0_asks_5 18 rfl rfl)
theorem dX0_asks_131 : decode cX0_asks 131 = .ok (.return_, 1) := dk_177 (dk_at dksX0_asks_5 19 rfl rfl)
abbrev cX0_asksOf : ByteArray := prog_1_method_67_code
def yX0_asksOf : MethodName := ⟨RX0, "asksOf", "(II)V"⟩
def dkwX0_asksOf_3 : List UInt8 := [182, 0, 184, 133, 80, 177]
abbrev dktX0_asksOf_3 : List UInt8 := dkwX0_asksOf_3 ++ []
def dkwX0_asksOf_2 : List UInt8 := [180, 0, 178, 133, 80, 42, 180, 0, 71, 6, 45, 180, 0, 181, 133, 80, 42, 180, 0, 71, 16, 11, 42, 28]
abbrev dktX0_asksOf_2 : List UInt8 := dkwX0_asksOf_2 ++ dktX0_asksOf_3
def dkwX0_asksOf_1 : List UInt8 := [180, 0, 71, 3, 28, 133, 80, 42, 180, 0, 71, 4, 45, 180, 0, 175, 133, 80, 42, 180, 0, 71, 5, 45]
abbrev dktX0_asksOf_1 : List UInt8 := dkwX0_asksOf_1 ++ dktX0_asksOf_2
def dkwX0_asksOf_0 : List UInt8 := [42, 180, 0, 12, 28, 182, 0, 99, 192, 0, 103, 78, 42, 27, 45, 182, 0, 129, 182, 1, 94, 42]
abbrev dktX0_asksOf_0 : List UInt8 := dkwX0_asksOf_0 ++ dktX0_asksOf_1
theorem dksX0_asksOf_0 : cX0_asksOf.data.toList.drop 0 = dktX0_asksOf_0 := by decide +kernel
theorem dksX0_asksOf_1 : cX0_asksOf.data.toList.drop 22 = dktX0_asksOf_1 := dk_seg dksX0_asksOf_0 22 rfl rfl
theorem dksX0_asksOf_2 : cX0_asksOf.data.toList.drop 46 = dktX0_asksOf_2 := dk_seg dksX0_asksOf_1 24 rfl rfl
theorem dksX0_asksOf_3 : cX0_asksOf.data.toList.drop 70 = dktX0_asksOf_3 := dk_seg dksX0_asksOf_2 24 rfl rfl
theorem dX0_asksOf_0 : decode cX0_asksOf 0 = .ok (.aload_n 0, 1) := dk_42 (dk_at dksX0_asksOf_0 0 rfl rfl)
theorem dX0_asksOf_1 : decode cX0_asksOf 1 = .ok (.getfield 12, 3) := dk_180 0 12 (dk_at dksX0_asksOf_0 1 rfl rfl)
theorem dX0_asksOf_4 : decode cX0_asksOf 4 = .ok (.iload_n 2, 1) := dk_28 (dk_at dksX0_asksOf_0 4 rfl rfl)
theorem dX0_asksOf_5 : decode cX0_asksOf 5 = .ok (.invokevirtual 99, 3) := dk_182 0 99 (dk_at dksX0_asksOf_0 5 rfl rfl)
theorem dX0_asksOf_8 : decode cX0_asksOf 8 = .ok (.checkcast 103, 3) := dk_192 0 103 (dk_at dksX0_asksOf_0 8 rfl rfl)
theorem dX0_asksOf_11 : decode cX0_asksOf 11 = .ok (.astore_n 3, 1) := dk_78 (dk_at dksX0_asksOf_0 11 rfl rfl)
theorem dX0_asksOf_12 : decode cX0_asksOf 12 = .ok (.aload_n 0, 1) := dk_42 (dk_at dksX0_asksOf_0 12 rfl rfl)
theorem dX0_asksOf_13 : decode cX0_asksOf 13 = .ok (.iload_n 1, 1) := dk_27 (dk_at dksX0_asksOf_0 13 rfl rfl)
theorem dX0_asksOf_14 : decode cX0_asksOf 14 = .ok (.aload_n 3, 1) := dk_45 (dk_at dksX0_asksOf_0 14 rfl rfl)
theorem dX0_asksOf_15 : decode cX0_asksOf 15 = .ok (.invokevirtual 129, 3) := dk_182 0 129 (dk_at dksX0_asksOf_0 15 rfl rfl)
theorem dX0_asksOf_18 : decode cX0_asksOf 18 = .ok (.invokevirtual 350, 3) := dk_182 1 94 (dk_at dksX0_asksOf_0 18 rfl rfl)
theorem dX0_asksOf_21 : decode cX0_asksOf 21 = .ok (.aload_n 0, 1) := dk_42 (dk_at dksX0_asksOf_0 21 rfl rfl)
theorem dX0_asksOf_22 : decode cX0_asksOf 22 = .ok (.getfield 71, 3) := dk_180 0 71 (dk_at dksX0_asksOf_1 0 rfl rfl)
theorem dX0_asksOf_25 : decode cX0_asksOf 25 = .ok (.iconst 0, 1) := dk_3 (dk_at dksX0_asksOf_1 3 rfl rfl)
theorem dX0_asksOf_26 : decode cX0_asksOf 26 = .ok (.iload_n 2, 1) := dk_28 (dk_at dksX0_asksOf_1 4 rfl rfl)
theorem dX0_asksOf_27 : decode cX0_asksOf 27 = .ok (.i2l, 1) := dk_133 (dk_at dksX0_asksOf_1 5 rfl rfl)
theorem dX0_asksOf_28 : decode cX0_asksOf 28 = .ok (.lastore, 1) := dk_80 (dk_at dksX0_asksOf_1 6 rfl rfl)
theorem dX0_asksOf_29 : decode cX0_asksOf 29 = .ok (.aload_n 0, 1) := dk_42 (dk_at dksX0_asksOf_1 7 rfl rfl)
theorem dX0_asksOf_30 : decode cX0_asksOf 30 = .ok (.getfield 71, 3) := dk_180 0 71 (dk_at dksX0_asksOf_1 8 rfl rfl)
theorem dX0_asksOf_33 : decode cX0_asksOf 33 = .ok (.iconst 1, 1) := dk_4 (dk_at dksX0_asksOf_1 11 rfl rfl)
theorem dX0_asksOf_34 : decode cX0_asksOf 34 = .ok (.aload_n 3, 1) := dk_45 (dk_at dksX0_asksOf_1 12 rfl rfl)
theorem dX0_asksOf_35 : decode cX0_asksOf 35 = .ok (.getfield 175, 3) := dk_180 0 175 (dk_at dksX0_asksOf_1 13 rfl rfl)
theorem dX0_asksOf_38 : decode cX0_asksOf 38 = .ok (.i2l, 1) := dk_133 (dk_at dksX0_asksOf_1 16 rfl rfl)
theorem dX0_asksOf_39 : decode cX0_asksOf 39 = .ok (.lastore, 1) := dk_80 (dk_at dksX0_asksOf_1 17 rfl rfl)
theorem dX0_asksOf_40 : decode cX0_asksOf 40 = .ok (.aload_n 0, 1) := dk_42 (dk_at dksX0_asksOf_1 18 rfl rfl)
theorem dX0_asksOf_41 : decode cX0_asksOf 41 = .ok (.getfield 71, 3) := dk_180 0 71 (dk_at dksX0_asksOf_1 19 rfl rfl)
theorem dX0_asksOf_44 : decode cX0_asksOf 44 = .ok (.iconst 2, 1) := dk_5 (dk_at dksX0_asksOf_1 22 rfl rfl)
theorem dX0_asksOf_45 : decode cX0_asksOf 45 = .ok (.aload_n 3, 1) := dk_45 (dk_at dksX0_asksOf_1 23 rfl rfl)
theorem dX0_asksOf_46 : decode cX0_asksOf 46 = .ok (.getfield 178, 3) := dk_180 0 178 (dk_at dksX0_asksOf_2 0 rfl rfl)
theorem dX0_asksOf_49 : decode cX0_asksOf 49 = .ok (.i2l, 1) := dk_133 (dk_at dksX0_asksOf_2 3 rfl rfl)
theorem dX0_asksOf_50 : decode cX0_asksOf 50 = .ok (.lastore, 1) := dk_80 (dk_at dksX0_asksOf_2 4 rfl rfl)
theorem dX0_asksOf_51 : decode cX0_asksOf 51 = .ok (.aload_n 0, 1) := dk_42 (dk_at dksX0_asksOf_2 5 rfl rfl)
theorem dX0_asksOf_52 : decode cX0_asksOf 52 = .ok (.getfield 71, 3) := dk_180 0 71 (dk_at dksX0_asksOf_2 6 rfl rfl)
theorem dX0_asksOf_55 : decode cX0_asksOf 55 = .ok (.iconst 3, 1) := dk_6 (dk_at dksX0_asksOf_2 9 rfl rfl)
theorem dX0_asksOf_56 : decode cX0_asksOf 56 = .ok (.aload_n 3, 1) := dk_45 (dk_at dksX0_asksOf_2 10 rfl rfl)
theorem dX0_asksOf_57 : decode cX0_asksOf 57 = .ok (.getfield 181, 3) := dk_180 0 181 (dk_at dksX0_asksOf_2 11 rfl rfl)
theorem dX0_asksOf_60 : decode cX0_asksOf 60 = .ok (.i2l, 1) := dk_133 (dk_at dksX0_asksOf_2 14 rfl rfl)
theorem dX0_asksOf_61 : decode cX0_asksOf 61 = .ok (.lastore, 1) := dk_80 (dk_at dksX0_asksOf_2 15 rfl rfl)
theorem dX0_asksOf_62 : decode cX0_asksOf 62 = .ok (.aload_n 0, 1) := dk_42 (dk_at dksX0_asksOf_2 16 rfl rfl)
theorem dX0_asksOf_63 : decode cX0_asksOf 63 = .ok (.getfield 71, 3) := dk_180 0 71 (dk_at dksX0_asksOf_2 17 rfl rfl)
theorem dX0_asksOf_66 : decode cX0_asksOf 66 = .ok (.bipush 11, 2) := dk_16 11 (dk_at dksX0_asksOf_2 20 rfl rfl)
theorem dX0_asksOf_68 : decode cX0_asksOf 68 = .ok (.aload_n 0, 1) := dk_42 (dk_at dksX0_asksOf_2 22 rfl rfl)
theorem dX0_asksOf_69 : decode cX0_asksOf 69 = .ok (.iload_n 2, 1) := dk_28 (dk_at dksX0_asksOf_2 23 rfl rfl)
theorem dX0_asksOf_70 : decode cX0_asksOf 70 = .ok (.invokevirtual 184, 3) := dk_182 0 184 (dk_at dksX0_asksOf_3 0 rfl rfl)
theorem dX0_asksOf_73 : decode cX0_asksOf 73 = .ok (.i2l, 1) := dk_133 (dk_at dksX0_asksOf_3 3 rfl rfl)
theorem dX0_asksOf_74 : decode cX0_asksOf 74 = .ok (.lastore, 1) := dk_80 (dk_at dksX0_asksOf_3 4 rfl rfl)
theorem dX0_asksOf_75 : decode cX0_asksOf 75 = .ok (.return_, 1) := dk_177 (dk_at dksX0_asksOf_3 5 rfl rfl)
abbrev cX0_meeting : ByteArray := prog_1_method_70_code
def yX0_meeting : MethodName := ⟨RX0, "meeting", "()I"⟩
def dkwX0_meeting_5 : List UInt8 := [167, 255, 142, 27, 172]
abbrev dktX0_meeting_5 : List UInt8 := dkwX0_meeting_5 ++ []
def dkwX0_meeting_4 : List UInt8 := [180, 0, 200, 159, 0, 7, 4, 167, 0, 4, 3, 96, 60, 132, 3, 1, 167, 255, 161, 132, 2, 1]
abbrev dktX0_meeting_4 : List UInt8 := dkwX0_meeting_4 ++ dktX0_meeting_5
def dkwX0_meeting_3 : List UInt8 := [180, 0, 18, 28, 182, 0, 99, 192, 0, 109, 180, 0, 200, 42, 180, 0, 18, 29, 182, 0, 99, 192, 0, 109]
abbrev dktX0_meeting_3 : List UInt8 := dkwX0_meeting_3 ++ dktX0_meeting_4
def dkwX0_meeting_2 : List UInt8 := [192, 0, 109, 180, 0, 111, 42, 180, 0, 18, 29, 182, 0, 99, 192, 0, 109, 180, 0, 111, 160, 0, 38, 42]
abbrev dktX0_meeting_2 : List UInt8 := dkwX0_meeting_2 ++ dktX0_meeting_3
def dkwX0_meeting_1 : List UInt8 := [180, 0, 18, 28, 182, 0, 99, 192, 0, 109, 182, 0, 115, 154, 0, 69, 42, 180, 0, 18, 28, 182, 0, 99]
abbrev dktX0_meeting_1 : List UInt8 := dkwX0_meeting_1 ++ dktX0_meeting_2
def dkwX0_meeting_0 : List UInt8 := [3, 60, 3, 61, 28, 42, 180, 0, 18, 182, 0, 89, 162, 0, 109, 3, 62, 29, 28, 162, 0, 96, 27, 42]
abbrev dktX0_meeting_0 : List UInt8 := dkwX0_meeting_0 ++ dktX0_meeting_1
theorem dksX0_meeting_0 : cX0_meeting.data.toList.drop 0 = dktX0_meeting_0 := by decide +kernel
theorem dksX0_meeting_1 : cX0_meeting.data.toList.drop 24 = dktX0_meeting_1 := dk_seg dksX0_meeting_0 24 rfl rfl
theorem dksX0_meeting_2 : cX0_meeting.data.toList.drop 48 = dktX0_meeting_2 := dk_seg dksX0_meeting_1 24 rfl rfl
theorem dksX0_meeting_3 : cX0_meeting.data.toList.drop 72 = dktX0_meeting_3 := dk_seg dksX0_meeting_2 24 rfl rfl
theorem dksX0_meeting_4 : cX0_meeting.data.toList.drop 96 = dktX0_meeting_4 := dk_seg dksX0_meeting_3 24 rfl rfl
theorem dksX0_meeting_5 : cX0_meeting.data.toList.drop 118 = dktX0_meeting_5 := dk_seg dksX0_meeting_4 22 rfl rfl
theorem dX0_meeting_0 : decode cX0_meeting 0 = .ok (.iconst 0, 1) := dk_3 (dk_at dksX0_meeting_0 0 rfl rfl)
theorem dX0_meeting_1 : decode cX0_meeting 1 = .ok (.istore_n 1, 1) := dk_60 (dk_at dksX0_meeting_0 1 rfl rfl)
theorem dX0_meeting_2 : decode cX0_meeting 2 = .ok (.iconst 0, 1) := dk_3 (dk_at dksX0_meeting_0 2 rfl rfl)
theorem dX0_meeting_3 : decode cX0_meeting 3 = .ok (.istore_n 2, 1) := dk_61 (dk_at dksX0_meeting_0 3 rfl rfl)
theorem dX0_meeting_4 : decode cX0_meeting 4 = .ok (.iload_n 2, 1) := dk_28 (dk_at dksX0_meeting_0 4 rfl rfl)
theorem dX0_meeting_5 : decode cX0_meeting 5 = .ok (.aload_n 0, 1) := dk_42 (dk_at dksX0_meeting_0 5 rfl rfl)
theorem dX0_meeting_6 : decode cX0_meeting 6 = .ok (.getfield 18, 3) := dk_180 0 18 (dk_at dksX0_meeting_0 6 rfl rfl)
theorem dX0_meeting_9 : decode cX0_meeting 9 = .ok (.invokevirtual 89, 3) := dk_182 0 89 (dk_at dksX0_meeting_0 9 rfl rfl)
theorem dX0_meeting_12 : decode cX0_meeting 12 = .ok (.if_icmp .ge 109, 3) := dk_162 0 109 (dk_at dksX0_meeting_0 12 rfl rfl)
theorem dX0_meeting_15 : decode cX0_meeting 15 = .ok (.iconst 0, 1) := dk_3 (dk_at dksX0_meeting_0 15 rfl rfl)
theorem dX0_meeting_16 : decode cX0_meeting 16 = .ok (.istore_n 3, 1) := dk_62 (dk_at dksX0_meeting_0 16 rfl rfl)
theorem dX0_meeting_17 : decode cX0_meeting 17 = .ok (.iload_n 3, 1) := dk_29 (dk_at dksX0_meeting_0 17 rfl rfl)
theorem dX0_meeting_18 : decode cX0_meeting 18 = .ok (.iload_n 2, 1) := dk_28 (dk_at dksX0_meeting_0 18 rfl rfl)
theorem dX0_meeting_19 : decode cX0_meeting 19 = .ok (.if_icmp .ge 96, 3) := dk_162 0 96 (dk_at dksX0_meeting_0 19 rfl rfl)
theorem dX0_meeting_22 : decode cX0_meeting 22 = .ok (.iload_n 1, 1) := dk_27 (dk_at dksX0_meeting_0 22 rfl rfl)
theorem dX0_meeting_23 : decode cX0_meeting 23 = .ok (.aload_n 0, 1) := dk_42 (dk_at dksX0_meeting_0 23 rfl rfl)
theorem dX0_meeting_24 : decode cX0_meeting 24 = .ok (.getfield 18, 3) := dk_180 0 18 (dk_at dksX0_meeting_1 0 rfl rfl)
theorem dX0_meeting_27 : decode cX0_meeting 27 = .ok (.iload_n 2, 1) := dk_28 (dk_at dksX0_meeting_1 3 rfl rfl)
theorem dX0_meeting_28 : decode cX0_meeting 28 = .ok (.invokevirtual 99, 3) := dk_182 0 99 (dk_at dksX0_meeting_1 4 rfl rfl)
theorem dX0_meeting_31 : decode cX0_meeting 31 = .ok (.checkcast 109, 3) := dk_192 0 109 (dk_at dksX0_meeting_1 7 rfl rfl)
theorem dX0_meeting_34 : decode cX0_meeting 34 = .ok (.invokevirtual 115, 3) := dk_182 0 115 (dk_at dksX0_meeting_1 10 rfl rfl)
theorem dX0_meeting_37 : decode cX0_meeting 37 = .ok (.ifCond .ne 69, 3) := dk_154 0 69 (dk_at dksX0_meeting_1 13 rfl rfl)
theorem dX0_meeting_40 : decode cX0_meeting 40 = .ok (.aload_n 0, 1) := dk_42 (dk_at dksX0_meeting_1 16 rfl rfl)
theorem dX0_meeting_41 : decode cX0_meeting 41 = .ok (.getfield 18, 3) := dk_180 0 18 (dk_at dksX0_meeting_1 17 rfl rfl)
theorem dX0_meeting_44 : decode cX0_meeting 44 = .ok (.iload_n 2, 1) := dk_28 (dk_at dksX0_meeting_1 20 rfl rfl)
theorem dX0_meeting_45 : decode cX0_meeting 45 = .ok (.invokevirtual 99, 3) := dk_182 0 99 (dk_at dksX0_meeting_1 21 rfl rfl)
theorem dX0_meeting_48 : decode cX0_meeting 48 = .ok (.checkcast 109, 3) := dk_192 0 109 (dk_at dksX0_meeting_2 0 rfl rfl)
theorem dX0_meeting_51 : decode cX0_meeting 51 = .ok (.getfield 111, 3) := dk_180 0 111 (dk_at dksX0_meeting_2 3 rfl rfl)
theorem dX0_meeting_54 : decode cX0_meeting 54 = .ok (.aload_n 0, 1) := dk_42 (dk_at dksX0_meeting_2 6 rfl rfl)
theorem dX0_meeting_55 : decode cX0_meeting 55 = .ok (.getfield 18, 3) := dk_180 0 18 (dk_at dksX0_meeting_2 7 rfl rfl)
theorem dX0_meeting_58 : decode cX0_meeting 58 = .ok (.iload_n 3, 1) := dk_29 (dk_at dksX0_meeting_2 10 rfl rfl)
theorem dX0_meeting_59 : decode cX0_meeting 59 = .ok (.invokevirtual 99, 3) := dk_182 0 99 (dk_at dksX0_meeting_2 11 rfl rfl)
theorem dX0_meeting_62 : decode cX0_meeting 62 = .ok (.checkcast 109, 3) := dk_192 0 109 (dk_at dksX0_meeting_2 14 rfl rfl)
theorem dX0_meeting_65 : decode cX0_meeting 65 = .ok (.getfield 111, 3) := dk_180 0 111 (dk_at dksX0_meeting_2 17 rfl rfl)
theorem dX0_meeting_68 : decode cX0_meeting 68 = .ok (.if_icmp .ne 38, 3) := dk_160 0 38 (dk_at dksX0_meeting_2 20 rfl rfl)
theorem dX0_meeting_71 : decode cX0_meeting 71 = .ok (.aload_n 0, 1) := dk_42 (dk_at dksX0_meeting_2 23 rfl rfl)
theorem dX0_meeting_72 : decode cX0_meeting 72 = .ok (.getfield 18, 3) := dk_180 0 18 (dk_at dksX0_meeting_3 0 rfl rfl)
theorem dX0_meeting_75 : decode cX0_meeting 75 = .ok (.iload_n 2, 1) := dk_28 (dk_at dksX0_meeting_3 3 rfl rfl)
theorem dX0_meeting_76 : decode cX0_meeting 76 = .ok (.invokevirtual 99, 3) := dk_182 0 99 (dk_at dksX0_meeting_3 4 rfl rfl)
theorem dX0_meeting_79 : decode cX0_meeting 79 = .ok (.checkcast 109, 3) := dk_192 0 109 (dk_at dksX0_meeting_3 7 rfl rfl)
theorem dX0_meeting_82 : decode cX0_meeting 82 = .ok (.getfield 200, 3) := dk_180 0 200 (dk_at dksX0_meeting_3 10 rfl rfl)
theorem dX0_meeting_85 : decode cX0_meeting 85 = .ok (.aload_n 0, 1) := dk_42 (dk_at dksX0_meeting_3 13 rfl rfl)
theorem dX0_meeting_86 : decode cX0_meeting 86 = .ok (.getfield 18, 3) := dk_180 0 18 (dk_at dksX0_meeting_3 14 rfl rfl)
theorem dX0_meeting_89 : decode cX0_meeting 89 = .ok (.iload_n 3, 1) := dk_29 (dk_at dksX0_meeting_3 17 rfl rfl)
theorem dX0_meeting_90 : decode cX0_meeting 90 = .ok (.invokevirtual 99, 3) := dk_182 0 99 (dk_at dksX0_meeting_3 18 rfl rfl)
theorem dX0_meeting_93 : decode cX0_meeting 93 = .ok (.checkcast 109, 3) := dk_192 0 109 (dk_at dksX0_meeting_3 21 rfl rfl)
theorem dX0_meeting_96 : decode cX0_meeting 96 = .ok (.getfield 200, 3) := dk_180 0 200 (dk_at dksX0_meeting_4 0 rfl rfl)
theorem dX0_meeting_99 : decode cX0_meeting 99 = .ok (.if_icmp .eq 7, 3) := dk_159 0 7 (dk_at dksX0_meeting_4 3 rfl rfl)
theorem dX0_meeting_102 : decode cX0_meeting 102 = .ok (.iconst 1, 1) := dk_4 (dk_at dksX0_meeting_4 6 rfl rfl)
theorem dX0_meeting_103 : decode cX0_meeting 103 = .ok (.goto 4, 3) := dk_167 0 4 (dk_at dksX0_meeting_4 7 rfl rfl)
theorem dX0_meeting_106 : decode cX0_meeting 106 = .ok (.iconst 0, 1) := dk_3 (dk_at dksX0_meeting_4 10 rfl rfl)
theorem dX0_meeting_107 : decode cX0_meeting 107 = .ok (.iadd, 1) := dk_96 (dk_at dksX0_meeting_4 11 rfl rfl)
theorem dX0_meeting_108 : decode cX0_meeting 108 = .ok (.istore_n 1, 1) := dk_60 (dk_at dksX0_meeting_4 12 rfl rfl)
theorem dX0_meeting_109 : decode cX0_meeting 109 = .ok (.iinc 3 1, 3) := dk_132 3 1 (dk_at dksX0_meeting_4 13 rfl rfl)
theorem dX0_meeting_112 : decode cX0_meeting 112 = .ok (.goto (-95), 3) := dk_167 255 161 (dk_at dksX0_meeting_4 16 rfl rfl)
theorem dX0_meeting_115 : decode cX0_meeting 115 = .ok (.iinc 2 1, 3) := dk_132 2 1 (dk_at dksX0_meeting_4 19 rfl rfl)
theorem dX0_meeting_118 : decode cX0_meeting 118 = .ok (.goto (-114), 3) := dk_167 255 142 (dk_at dksX0_meeting_5 0 rfl rfl)
theorem dX0_meeting_121 : decode cX0_meeting 121 = .ok (.iload_n 1, 1) := dk_27 (dk_at dksX0_meeting_5 3 rfl rfl)
theorem dX0_meeting_122 : decode cX0_meeting 122 = .ok (.ireturn, 1) := dk_172 (dk_at dksX0_meeting_5 4 rfl rfl)
abbrev cX0_ahead : ByteArray := prog_1_method_74_code
def yX0_ahead : MethodName := ⟨RX0, "ahead", "(III)I"⟩
def dkwX0_ahead_5 : List UInt8 := [167, 0, 7, 42, 182, 0, 227, 54, 4, 42, 180, 0, 79, 182, 1, 163, 21, 4, 172]
abbrev dktX0_ahead_5 : List UInt8 := dkwX0_ahead_5 ++ []
def dkwX0_ahead_4 : List UInt8 := [180, 1, 157, 100, 167, 0, 27, 29, 5, 160, 0, 18, 42, 180, 0, 154, 42, 180, 0, 79, 180, 1, 160, 100]
abbrev dktX0_ahead_4 : List UInt8 := dkwX0_ahead_4 ++ dktX0_ahead_5
def dkwX0_ahead_3 : List UInt8 := [29, 154, 0, 10, 42, 182, 1, 154, 167, 0, 47, 29, 4, 160, 0, 18, 42, 180, 0, 160, 42, 180, 0, 79]
abbrev dktX0_ahead_3 : List UInt8 := dkwX0_ahead_3 ++ dktX0_ahead_4
def dkwX0_ahead_2 : List UInt8 := [162, 0, 24, 42, 42, 180, 0, 21, 27, 182, 0, 99, 192, 1, 98, 182, 1, 142, 132, 4, 1, 167, 255, 232]
abbrev dktX0_ahead_2 : List UInt8 := dkwX0_ahead_2 ++ dktX0_ahead_3
def dkwX0_ahead_1 : List UInt8 := [20, 1, 149, 184, 0, 93, 154, 0, 5, 2, 172, 42, 180, 0, 79, 182, 1, 151, 3, 54, 4, 21, 4, 28]
abbrev dktX0_ahead_1 : List UInt8 := dkwX0_ahead_1 ++ dktX0_ahead_2
def dkwX0_ahead_0 : List UInt8 := [42, 27, 182, 1, 136, 153, 0, 27, 28, 133, 9, 20, 1, 139, 184, 0, 93, 153, 0, 15, 29, 133, 9]
abbrev dktX0_ahead_0 : List UInt8 := dkwX0_ahead_0 ++ dktX0_ahead_1
theorem dksX0_ahead_0 : cX0_ahead.data.toList.drop 0 = dktX0_ahead_0 := by decide +kernel
theorem dksX0_ahead_1 : cX0_ahead.data.toList.drop 23 = dktX0_ahead_1 := dk_seg dksX0_ahead_0 23 rfl rfl
theorem dksX0_ahead_2 : cX0_ahead.data.toList.drop 47 = dktX0_ahead_2 := dk_seg dksX0_ahead_1 24 rfl rfl
theorem dksX0_ahead_3 : cX0_ahead.data.toList.drop 71 = dktX0_ahead_3 := dk_seg dksX0_ahead_2 24 rfl rfl
theorem dksX0_ahead_4 : cX0_ahead.data.toList.drop 95 = dktX0_ahead_4 := dk_seg dksX0_ahead_3 24 rfl rfl
theorem dksX0_ahead_5 : cX0_ahead.data.toList.drop 119 = dktX0_ahead_5 := dk_seg dksX0_ahead_4 24 rfl rfl
theorem dX0_ahead_0 : decode cX0_ahead 0 = .ok (.aload_n 0, 1) := dk_42 (dk_at dksX0_ahead_0 0 rfl rfl)
theorem dX0_ahead_1 : decode cX0_ahead 1 = .ok (.iload_n 1, 1) := dk_27 (dk_at dksX0_ahead_0 1 rfl rfl)
theorem dX0_ahead_2 : decode cX0_ahead 2 = .ok (.invokevirtual 392, 3) := dk_182 1 136 (dk_at dksX0_ahead_0 2 rfl rfl)
theorem dX0_ahead_5 : decode cX0_ahead 5 = .ok (.ifCond .eq 27, 3) := dk_153 0 27 (dk_at dksX0_ahead_0 5 rfl rfl)
theorem dX0_ahead_8 : decode cX0_ahead 8 = .ok (.iload_n 2, 1) := dk_28 (dk_at dksX0_ahead_0 8 rfl rfl)
theorem dX0_ahead_9 : decode cX0_ahead 9 = .ok (.i2l, 1) := dk_133 (dk_at dksX0_ahead_0 9 rfl rfl)
theorem dX0_ahead_10 : decode cX0_ahead 10 = .ok (.lconst 0, 1) := dk_9 (dk_at dksX0_ahead_0 10 rfl rfl)
theorem dX0_ahead_11 : decode cX0_ahead 11 = .ok (.ldc2_w 395, 3) := dk_20 1 139 (dk_at dksX0_ahead_0 11 rfl rfl)
theorem dX0_ahead_14 : decode cX0_ahead 14 = .ok (.invokestatic 93, 3) := dk_184 0 93 (dk_at dksX0_ahead_0 14 rfl rfl)
theorem dX0_ahead_17 : decode cX0_ahead 17 = .ok (.ifCond .eq 15, 3) := dk_153 0 15 (dk_at dksX0_ahead_0 17 rfl rfl)
theorem dX0_ahead_20 : decode cX0_ahead 20 = .ok (.iload_n 3, 1) := dk_29 (dk_at dksX0_ahead_0 20 rfl rfl)
theorem dX0_ahead_21 : decode cX0_ahead 21 = .ok (.i2l, 1) := dk_133 (dk_at dksX0_ahead_0 21 rfl rfl)
theorem dX0_ahead_22 : decode cX0_ahead 22 = .ok (.lconst 0, 1) := dk_9 (dk_at dksX0_ahead_0 22 rfl rfl)
theorem dX0_ahead_23 : decode cX0_ahead 23 = .ok (.ldc2_w 405, 3) := dk_20 1 149 (dk_at dksX0_ahead_1 0 rfl rfl)
theorem dX0_ahead_26 : decode cX0_ahead 26 = .ok (.invokestatic 93, 3) := dk_184 0 93 (dk_at dksX0_ahead_1 3 rfl rfl)
theorem dX0_ahead_29 : decode cX0_ahead 29 = .ok (.ifCond .ne 5, 3) := dk_154 0 5 (dk_at dksX0_ahead_1 6 rfl rfl)
theorem dX0_ahead_32 : decode cX0_ahead 32 = .ok (.iconst (-1), 1) := dk_2 (dk_at dksX0_ahead_1 9 rfl rfl)
theorem dX0_ahead_33 : decode cX0_ahead 33 = .ok (.ireturn, 1) := dk_172 (dk_at dksX0_ahead_1 10 rfl rfl)
theorem dX0_ahead_34 : decode cX0_ahead 34 = .ok (.aload_n 0, 1) := dk_42 (dk_at dksX0_ahead_1 11 rfl rfl)
theorem dX0_ahead_35 : decode cX0_ahead 35 = .ok (.getfield 79, 3) := dk_180 0 79 (dk_at dksX0_ahead_1 12 rfl rfl)
theorem dX0_ahead_38 : decode cX0_ahead 38 = .ok (.invokevirtual 407, 3) := dk_182 1 151 (dk_at dksX0_ahead_1 15 rfl rfl)
theorem dX0_ahead_41 : decode cX0_ahead 41 = .ok (.iconst 0, 1) := dk_3 (dk_at dksX0_ahead_1 18 rfl rfl)
theorem dX0_ahead_42 : decode cX0_ahead 42 = .ok (.istore 4, 2) := dk_54 4 (dk_at dksX0_ahead_1 19 rfl rfl)
theorem dX0_ahead_44 : decode cX0_ahead 44 = .ok (.iload 4, 2) := dk_21 4 (dk_at dksX0_ahead_1 21 rfl rfl)
theorem dX0_ahead_46 : decode cX0_ahead 46 = .ok (.iload_n 2, 1) := dk_28 (dk_at dksX0_ahead_1 23 rfl rfl)
theorem dX0_ahead_47 : decode cX0_ahead 47 = .ok (.if_icmp .ge 24, 3) := dk_162 0 24 (dk_at dksX0_ahead_2 0 rfl rfl)
theorem dX0_ahead_50 : decode cX0_ahead 50 = .ok (.aload_n 0, 1) := dk_42 (dk_at dksX0_ahead_2 3 rfl rfl)
theorem dX0_ahead_51 : decode cX0_ahead 51 = .ok (.aload_n 0, 1) := dk_42 (dk_at dksX0_ahead_2 4 rfl rfl)
theorem dX0_ahead_52 : decode cX0_ahead 52 = .ok (.getfield 21, 3) := dk_180 0 21 (dk_at dksX0_ahead_2 5 rfl rfl)
theorem dX0_ahead_55 : decode cX0_ahead 55 = .ok (.iload_n 1, 1) := dk_27 (dk_at dksX0_ahead_2 8 rfl rfl)
theorem dX0_ahead_56 : decode cX0_ahead 56 = .ok (.invokevirtual 99, 3) := dk_182 0 99 (dk_at dksX0_ahead_2 9 rfl rfl)
theorem dX0_ahead_59 : decode cX0_ahead 59 = .ok (.checkcast 354, 3) := dk_192 1 98 (dk_at dksX0_ahead_2 12 rfl rfl)
theorem dX0_ahead_62 : decode cX0_ahead 62 = .ok (.invokevirtual 398, 3) := dk_182 1 142 (dk_at dksX0_ahead_2 15 rfl rfl)
theorem dX0_ahead_65 : decode cX0_ahead 65 = .ok (.iinc 4 1, 3) := dk_132 4 1 (dk_at dksX0_ahead_2 18 rfl rfl)
theorem dX0_ahead_68 : decode cX0_ahead 68 = .ok (.goto (-24), 3) := dk_167 255 232 (dk_at dksX0_ahead_2 21 rfl rfl)
theorem dX0_ahead_71 : decode cX0_ahead 71 = .ok (.iload_n 3, 1) := dk_29 (dk_at dksX0_ahead_3 0 rfl rfl)
theorem dX0_ahead_72 : decode cX0_ahead 72 = .ok (.ifCond .ne 10, 3) := dk_154 0 10 (dk_at dksX0_ahead_3 1 rfl rfl)
theorem dX0_ahead_75 : decode cX0_ahead 75 = .ok (.aload_n 0, 1) := dk_42 (dk_at dksX0_ahead_3 4 rfl rfl)
theorem dX0_ahead_76 : decode cX0_ahead 76 = .ok (.invokevirtual 410, 3) := dk_182 1 154 (dk_at dksX0_ahead_3 5 rfl rfl)
theorem dX0_ahead_79 : decode cX0_ahead 79 = .ok (.goto 47, 3) := dk_167 0 47 (dk_at dksX0_ahead_3 8 rfl rfl)
theorem dX0_ahead_82 : decode cX0_ahead 82 = .ok (.iload_n 3, 1) := dk_29 (dk_at dksX0_ahead_3 11 rfl rfl)
theorem dX0_ahead_83 : decode cX0_ahead 83 = .ok (.iconst 1, 1) := dk_4 (dk_at dksX0_ahead_3 12 rfl rfl)
theorem dX0_ahead_84 : decode cX0_ahead 84 = .ok (.if_icmp .ne 18, 3) := dk_160 0 18 (dk_at dksX0_ahead_3 13 rfl rfl)
theorem dX0_ahead_87 : decode cX0_ahead 87 = .ok (.aload_n 0, 1) := dk_42 (dk_at dksX0_ahead_3 16 rfl rfl)
theorem dX0_ahead_88 : decode cX0_ahead 88 = .ok (.getfield 160, 3) := dk_180 0 160 (dk_at dksX0_ahead_3 17 rfl rfl)
theorem dX0_ahead_91 : decode cX0_ahead 91 = .ok (.aload_n 0, 1) := dk_42 (dk_at dksX0_ahead_3 20 rfl rfl)
theorem dX0_ahead_92 : decode cX0_ahead 92 = .ok (.getfield 79, 3) := dk_180 0 79 (dk_at dksX0_ahead_3 21 rfl rfl)
theorem dX0_ahead_95 : decode cX0_ahead 95 = .ok (.getfield 413, 3) := dk_180 1 157 (dk_at dksX0_ahead_4 0 rfl rfl)
theorem dX0_ahead_98 : decode cX0_ahead 98 = .ok (.isub, 1) := dk_100 (dk_at dksX0_ahead_4 3 rfl rfl)
theorem dX0_ahead_99 : decode cX0_ahead 99 = .ok (.goto 27, 3) := dk_167 0 27 (dk_at dksX0_ahead_4 4 rfl rfl)
theorem dX0_ahead_102 : decode cX0_ahead 102 = .ok (.iload_n 3, 1) := dk_29 (dk_at dksX0_ahead_4 7 rfl rfl)
theorem dX0_ahead_103 : decode cX0_ahead 103 = .ok (.iconst 2, 1) := dk_5 (dk_at dksX0_ahead_4 8 rfl rfl)
theorem dX0_ahead_104 : decode cX0_ahead 104 = .ok (.if_icmp .ne 18, 3) := dk_160 0 18 (dk_at dksX0_ahead_4 9 rfl rfl)
theorem dX0_ahead_107 : decode cX0_ahead 107 = .ok (.aload_n 0, 1) := dk_42 (dk_at dksX0_ahead_4 12 rfl rfl)
theorem dX0_ahead_108 : decode cX0_ahead 108 = .ok (.getfield 154, 3) := dk_180 0 154 (dk_at dksX0_ahead_4 13 rfl rfl)
theorem dX0_ahead_111 : decode cX0_ahead 111 = .ok (.aload_n 0, 1) := dk_42 (dk_at dksX0_ahead_4 16 rfl rfl)
theorem dX0_ahead_112 : decode cX0_ahead 112 = .ok (.getfield 79, 3) := dk_180 0 79 (dk_at dksX0_ahead_4 17 rfl rfl)
theorem dX0_ahead_115 : decode cX0_ahead 115 = .ok (.getfield 416, 3) := dk_180 1 160 (dk_at dksX0_ahead_4 20 rfl rfl)
theorem dX0_ahead_118 : decode cX0_ahead 118 = .ok (.isub, 1) := dk_100 (dk_at dksX0_ahead_4 23 rfl rfl)
theorem dX0_ahead_119 : decode cX0_ahead 119 = .ok (.goto 7, 3) := dk_167 0 7 (dk_at dksX0_ahead_5 0 rfl rfl)
theorem dX0_ahead_122 : decode cX0_ahead 122 = .ok (.aload_n 0, 1) := dk_42 (dk_at dksX0_ahead_5 3 rfl rfl)
theorem dX0_ahead_123 : decode cX0_ahead 123 = .ok (.invokevirtual 227, 3) := dk_182 0 227 (dk_at dksX0_ahead_5 4 rfl rfl)
theorem dX0_ahead_126 : decode cX0_ahead 126 = .ok (.istore 4, 2) := dk_54 4 (dk_at dksX0_ahead_5 7 rfl rfl)
theorem dX0_ahead_128 : decode cX0_ahead 128 = .ok (.aload_n 0, 1) := dk_42 (dk_at dksX0_ahead_5 9 rfl rfl)
theorem dX0_ahead_129 : decode cX0_ahead 129 = .ok (.getfield 79, 3) := dk_180 0 79 (dk_at dksX0_ahead_5 10 rfl rfl)
theorem dX0_ahead_132 : decode cX0_ahead 132 = .ok (.invokevirtual 419, 3) := dk_182 1 163 (dk_at dksX0_ahead_5 13 rfl rfl)
theorem dX0_ahead_135 : decode cX0_ahead 135 = .ok (.iload 4, 2) := dk_21 4 (dk_at dksX0_ahead_5 16 rfl rfl)
theorem dX0_ahead_137 : decode cX0_ahead 137 = .ok (.ireturn, 1) := dk_172 (dk_at dksX0_ahead_5 18 rfl rfl)
abbrev cX0_atAims : ByteArray := prog_1_method_73_code
def yX0_atAims : MethodName := ⟨RX0, "atAims", "()I"⟩
def dkwX0_atAims_1 : List UInt8 := [192, 0, 109, 182, 1, 146, 153, 0, 7, 4, 167, 0, 4, 3, 96, 60, 132, 2, 1, 167, 255, 217, 27, 172]
abbrev dktX0_atAims_1 : List UInt8 := dkwX0_atAims_1 ++ []
def dkwX0_atAims_0 : List UInt8 := [3, 60, 3, 61, 28, 42, 180, 0, 18, 182, 0, 89, 162, 0, 34, 27, 42, 180, 0, 18, 28, 182, 0, 99]
abbrev dktX0_atAims_0 : List UInt8 := dkwX0_atAims_0 ++ dktX0_atAims_1
theorem dksX0_atAims_0 : cX0_atAims.data.toList.drop 0 = dktX0_atAims_0 := by decide +kernel
theorem dksX0_atAims_1 : cX0_atAims.data.toList.drop 24 = dktX0_atAims_1 := dk_seg dksX0_atAims_0 24 rfl rfl
theorem dX0_atAims_0 : decode cX0_atAims 0 = .ok (.iconst 0, 1) := dk_3 (dk_at dksX0_atAims_0 0 rfl rfl)
theorem dX0_atAims_1 : decode cX0_atAims 1 = .ok (.istore_n 1, 1) := dk_60 (dk_at dksX0_atAims_0 1 rfl rfl)
theorem dX0_atAims_2 : decode cX0_atAims 2 = .ok (.iconst 0, 1) := dk_3 (dk_at dksX0_atAims_0 2 rfl rfl)
theorem dX0_atAims_3 : decode cX0_atAims 3 = .ok (.istore_n 2, 1) := dk_61 (dk_at dksX0_atAims_0 3 rfl rfl)
theorem dX0_atAims_4 : decode cX0_atAims 4 = .ok (.iload_n 2, 1) := dk_28 (dk_at dksX0_atAims_0 4 rfl rfl)
theorem dX0_atAims_5 : decode cX0_atAims 5 = .ok (.aload_n 0, 1) := dk_42 (dk_at dksX0_atAims_0 5 rfl rfl)
theorem dX0_atAims_6 : decode cX0_atAims 6 = .ok (.getfield 18, 3) := dk_180 0 18 (dk_at dksX0_atAims_0 6 rfl rfl)
theorem dX0_atAims_9 : decode cX0_atAims 9 = .ok (.invokevirtual 89, 3) := dk_182 0 89 (dk_at dksX0_atAims_0 9 rfl rfl)
theorem dX0_atAims_12 : decode cX0_atAims 12 = .ok (.if_icmp .ge 34, 3) := dk_162 0 34 (dk_at dksX0_atAims_0 12 rfl rfl)
theorem dX0_atAims_15 : decode cX0_atAims 15 = .ok (.iload_n 1, 1) := dk_27 (dk_at dksX0_atAims_0 15 rfl rfl)
theorem dX0_atAims_16 : decode cX0_atAims 16 = .ok (.aload_n 0, 1) := dk_42 (dk_at dksX0_atAims_0 16 rfl rfl)
theorem dX0_atAims_17 : decode cX0_atAims 17 = .ok (.getfield 18, 3) := dk_180 0 18 (dk_at dksX0_atAims_0 17 rfl rfl)
theorem dX0_atAims_20 : decode cX0_atAims 20 = .ok (.iload_n 2, 1) := dk_28 (dk_at dksX0_atAims_0 20 rfl rfl)
theorem dX0_atAims_21 : decode cX0_atAims 21 = .ok (.invokevirtual 99, 3) := dk_182 0 99 (dk_at dksX0_atAims_0 21 rfl rfl)
theorem dX0_atAims_24 : decode cX0_atAims 24 = .ok (.checkcast 109, 3) := dk_192 0 109 (dk_at dksX0_atAims_1 0 rfl rfl)
theorem dX0_atAims_27 : decode cX0_atAims 27 = .ok (.invokevirtual 402, 3) := dk_182 1 146 (dk_at dksX0_atAims_1 3 rfl rfl)
theorem dX0_atAims_30 : decode cX0_atAims 30 = .ok (.ifCond .eq 7, 3) := dk_153 0 7 (dk_at dksX0_atAims_1 6 rfl rfl)
theorem dX0_atAims_33 : decode cX0_atAims 33 = .ok (.iconst 1, 1) := dk_4 (dk_at dksX0_atAims_1 9 rfl rfl)
theorem dX0_atAims_34 : decode cX0_atAims 34 = .ok (.goto 4, 3) := dk_167 0 4 (dk_at dksX0_atAims_1 10 rfl rfl)
theorem dX0_atAims_37 : decode cX0_atAims 37 = .ok (.iconst 0, 1) := dk_3 (dk_at dksX0_atAims_1 13 rfl rfl)
theorem dX0_atAims_38 : decode cX0_atAims 38 = .ok (.iadd, 1) := dk_96 (dk_at dksX0_atAims_1 14 rfl rfl)
theorem dX0_atAims_39 : decode cX0_atAims 39 = .ok (.istore_n 1, 1) := dk_60 (dk_at dksX0_atAims_1 15 rfl rfl)
theorem dX0_atAims_40 : decode cX0_atAims 40 = .ok (.iinc 2 1, 3) := dk_132 2 1 (dk_at dksX0_atAims_1 16 rfl rfl)
theorem dX0_atAims_43 : decode cX0_atAims 43 = .ok (.goto (-39), 3) := dk_167 255 217 (dk_at dksX0_atAims_1 19 rfl rfl)
theorem dX0_atAims_46 : decode cX0_atAims 46 = .ok (.iload_n 1, 1) := dk_27 (dk_at dksX0_atAims_1 22 rfl rfl)
theorem dX0_atAims_47 : decode cX0_atAims 47 = .ok (.ireturn, 1) := dk_172 (dk_at dksX0_atAims_1 23 rfl rfl)
abbrev cX0_finest : ByteArray := prog_1_method_75_code
def yX0_finest : MethodName := ⟨RX0, "finest", "(I)I"⟩
def dkwX0_finest_6 : List UInt8 := [132, 5, 1, 167, 255, 147, 28, 172]
abbrev dktX0_finest_6 : List UInt8 := dkwX0_finest_6 ++ []
def dkwX0_finest_5 : List UInt8 := [160, 0, 13, 21, 7, 21, 4, 161, 0, 6, 167, 0, 13, 21, 5, 61, 21, 6, 62, 21, 7, 54, 4]
abbrev dktX0_finest_5 : List UInt8 := dkwX0_finest_5 ++ dktX0_finest_6
def dkwX0_finest_4 : List UInt8 := [54, 7, 42, 180, 0, 79, 182, 1, 163, 28, 155, 0, 25, 21, 6, 29, 161, 0, 29, 21, 6, 29]
abbrev dktX0_finest_4 : List UInt8 := dkwX0_finest_4 ++ dktX0_finest_5
def dkwX0_finest_3 : List UInt8 := [132, 6, 1, 167, 255, 231, 42, 182, 1, 154, 54, 6, 42, 180, 0, 160, 42, 180, 0, 79, 180, 1, 157, 100]
abbrev dktX0_finest_3 : List UInt8 := dkwX0_finest_3 ++ dktX0_finest_4
def dkwX0_finest_2 : List UInt8 := [21, 6, 27, 162, 0, 25, 42, 42, 180, 0, 21, 21, 5, 182, 0, 99, 192, 1, 98, 182, 1, 142]
abbrev dktX0_finest_2 : List UInt8 := dkwX0_finest_2 ++ dktX0_finest_3
def dkwX0_finest_1 : List UInt8 := [180, 0, 79, 182, 1, 151, 3, 54, 5, 21, 5, 42, 180, 0, 21, 182, 0, 89, 162, 0, 103, 3, 54, 6]
abbrev dktX0_finest_1 : List UInt8 := dkwX0_finest_1 ++ dktX0_finest_2
def dkwX0_finest_0 : List UInt8 := [27, 133, 9, 20, 1, 139, 184, 0, 93, 154, 0, 5, 2, 172, 16, 254, 61, 3, 62, 3, 54, 4, 42]
abbrev dktX0_finest_0 : List UInt8 := dkwX0_finest_0 ++ dktX0_finest_1
theorem dksX0_finest_0 : cX0_finest.data.toList.drop 0 = dktX0_finest_0 := by decide +kernel
theorem dksX0_finest_1 : cX0_finest.data.toList.drop 23 = dktX0_finest_1 := dk_seg dksX0_finest_0 23 rfl rfl
theorem dksX0_finest_2 : cX0_finest.data.toList.drop 47 = dktX0_finest_2 := dk_seg dksX0_finest_1 24 rfl rfl
theorem dksX0_finest_3 : cX0_finest.data.toList.drop 69 = dktX0_finest_3 := dk_seg dksX0_finest_2 22 rfl rfl
theorem dksX0_finest_4 : cX0_finest.data.toList.drop 93 = dktX0_finest_4 := dk_seg dksX0_finest_3 24 rfl rfl
theorem dksX0_finest_5 : cX0_finest.data.toList.drop 115 = dktX0_finest_5 := dk_seg dksX0_finest_4 22 rfl rfl
theorem dksX0_finest_6 : cX0_finest.data.toList.drop 138 = dktX0_finest_6 := dk_seg dksX0_finest_5 23 rfl rfl
theorem dX0_finest_0 : decode cX0_finest 0 = .ok (.iload_n 1, 1) := dk_27 (dk_at dksX0_finest_0 0 rfl rfl)
theorem dX0_finest_1 : decode cX0_finest 1 = .ok (.i2l, 1) := dk_133 (dk_at dksX0_finest_0 1 rfl rfl)
theorem dX0_finest_2 : decode cX0_finest 2 = .ok (.lconst 0, 1) := dk_9 (dk_at dksX0_finest_0 2 rfl rfl)
theorem dX0_finest_3 : decode cX0_finest 3 = .ok (.ldc2_w 395, 3) := dk_20 1 139 (dk_at dksX0_finest_0 3 rfl rfl)
theorem dX0_finest_6 : decode cX0_finest 6 = .ok (.invokestatic 93, 3) := dk_184 0 93 (dk_at dksX0_finest_0 6 rfl rfl)
theorem dX0_finest_9 : decode cX0_finest 9 = .ok (.ifCond .ne 5, 3) := dk_154 0 5 (dk_at dksX0_finest_0 9 rfl rfl)
theorem dX0_finest_12 : decode cX0_finest 12 = .ok (.iconst (-1), 1) := dk_2 (dk_at dksX0_finest_0 12 rfl rfl)
theorem dX0_finest_13 : decode cX0_finest 13 = .ok (.ireturn, 1) := dk_172 (dk_at dksX0_finest_0 13 rfl rfl)
theorem dX0_finest_14 : decode cX0_finest 14 = .ok (.bipush (-2), 2) := dk_16 254 (dk_at dksX0_finest_0 14 rfl rfl)
theorem dX0_finest_16 : decode cX0_finest 16 = .ok (.istore_n 2, 1) := dk_61 (dk_at dksX0_finest_0 16 rfl rfl)
theorem dX0_finest_17 : decode cX0_finest 17 = .ok (.iconst 0, 1) := dk_3 (dk_at dksX0_finest_0 17 rfl rfl)
theorem dX0_finest_18 : decode cX0_finest 18 = .ok (.istore_n 3, 1) := dk_62 (dk_at dksX0_finest_0 18 rfl rfl)
theorem dX0_finest_19 : decode cX0_finest 19 = .ok (.iconst 0, 1) := dk_3 (dk_at dksX0_finest_0 19 rfl rfl)
theorem dX0_finest_20 : decode cX0_finest 20 = .ok (.istore 4, 2) := dk_54 4 (dk_at dksX0_finest_0 20 rfl rfl)
theorem dX0_finest_22 : decode cX0_finest 22 = .ok (.aload_n 0, 1) := dk_42 (dk_at dksX0_finest_0 22 rfl rfl)
theorem dX0_finest_23 : decode cX0_finest 23 = .ok (.getfield 79, 3) := dk_180 0 79 (dk_at dksX0_finest_1 0 rfl rfl)
theorem dX0_finest_26 : decode cX0_finest 26 = .ok (.invokevirtual 407, 3) := dk_182 1 151 (dk_at dksX0_finest_1 3 rfl rfl)
theorem dX0_finest_29 : decode cX0_finest 29 = .ok (.iconst 0, 1) := dk_3 (dk_at dksX0_finest_1 6 rfl rfl)
theorem dX0_finest_30 : decode cX0_finest 30 = .ok (.istore 5, 2) := dk_54 5 (dk_at dksX0_finest_1 7 rfl rfl)
theorem dX0_finest_32 : decode cX0_finest 32 = .ok (.iload 5, 2) := dk_21 5 (dk_at dksX0_finest_1 9 rfl rfl)
theorem dX0_finest_34 : decode cX0_finest 34 = .ok (.aload_n 0, 1) := dk_42 (dk_at dksX0_finest_1 11 rfl rfl)
theorem dX0_finest_35 : decode cX0_finest 35 = .ok (.getfield 21, 3) := dk_180 0 21 (dk_at dksX0_finest_1 12 rfl rfl)
theorem dX0_finest_38 : decode cX0_finest 38 = .ok (.invokevirtual 89, 3) := dk_182 0 89 (dk_at dksX0_finest_1 15 rfl rfl)
theorem dX0_finest_41 : decode cX0_finest 41 = .ok (.if_icmp .ge 103, 3) := dk_162 0 103 (dk_at dksX0_finest_1 18 rfl rfl)
theorem dX0_finest_44 : decode cX0_finest 44 = .ok (.iconst 0, 1) := dk_3 (dk_at dksX0_finest_1 21 rfl rfl)
theorem dX0_finest_45 : decode cX0_finest 45 = .ok (.istore 6, 2) := dk_54 6 (dk_at dksX0_finest_1 22 rfl rfl)
theorem dX0_finest_47 : decode cX0_finest 47 = .ok (.iload 6, 2) := dk_21 6 (dk_at dksX0_finest_2 0 rfl rfl)
theorem dX0_finest_49 : decode cX0_finest 49 = .ok (.iload_n 1, 1) := dk_27 (dk_at dksX0_finest_2 2 rfl rfl)
theorem dX0_finest_50 : decode cX0_finest 50 = .ok (.if_icmp .ge 25, 3) := dk_162 0 25 (dk_at dksX0_finest_2 3 rfl rfl)
theorem dX0_finest_53 : decode cX0_finest 53 = .ok (.aload_n 0, 1) := dk_42 (dk_at dksX0_finest_2 6 rfl rfl)
theorem dX0_finest_54 : decode cX0_finest 54 = .ok (.aload_n 0, 1) := dk_42 (dk_at dksX0_finest_2 7 rfl rfl)
theorem dX0_finest_55 : decode cX0_finest 55 = .ok (.getfield 21, 3) := dk_180 0 21 (dk_at dksX0_finest_2 8 rfl rfl)
theorem dX0_finest_58 : decode cX0_finest 58 = .ok (.iload 5, 2) := dk_21 5 (dk_at dksX0_finest_2 11 rfl rfl)
theorem dX0_finest_60 : decode cX0_finest 60 = .ok (.invokevirtual 99, 3) := dk_182 0 99 (dk_at dksX0_finest_2 13 rfl rfl)
theorem dX0_finest_63 : decode cX0_finest 63 = .ok (.checkcast 354, 3) := dk_192 1 98 (dk_at dksX0_finest_2 16 rfl rfl)
theorem dX0_finest_66 : decode cX0_finest 66 = .ok (.invokevirtual 398, 3) := dk_182 1 142 (dk_at dksX0_finest_2 19 rfl rfl)
theorem dX0_finest_69 : decode cX0_finest 69 = .ok (.iinc 6 1, 3) := dk_132 6 1 (dk_at dksX0_finest_3 0 rfl rfl)
theorem dX0_finest_72 : decode cX0_finest 72 = .ok (.goto (-25), 3) := dk_167 255 231 (dk_at dksX0_finest_3 3 rfl rfl)
theorem dX0_finest_75 : decode cX0_finest 75 = .ok (.aload_n 0, 1) := dk_42 (dk_at dksX0_finest_3 6 rfl rfl)
theorem dX0_finest_76 : decode cX0_finest 76 = .ok (.invokevirtual 410, 3) := dk_182 1 154 (dk_at dksX0_finest_3 7 rfl rfl)
theorem dX0_finest_79 : decode cX0_finest 79 = .ok (.istore 6, 2) := dk_54 6 (dk_at dksX0_finest_3 10 rfl rfl)
theorem dX0_finest_81 : decode cX0_finest 81 = .ok (.aload_n 0, 1) := dk_42 (dk_at dksX0_finest_3 12 rfl rfl)
theorem dX0_finest_82 : decode cX0_finest 82 = .ok (.getfield 160, 3) := dk_180 0 160 (dk_at dksX0_finest_3 13 rfl rfl)
theorem dX0_finest_85 : decode cX0_finest 85 = .ok (.aload_n 0, 1) := dk_42 (dk_at dksX0_finest_3 16 rfl rfl)
theorem dX0_finest_86 : decode cX0_finest 86 = .ok (.getfield 79, 3) := dk_180 0 79 (dk_at dksX0_finest_3 17 rfl rfl)
theorem dX0_finest_89 : decode cX0_finest 89 = .ok (.getfield 413, 3) := dk_180 1 157 (dk_at dksX0_finest_3 20 rfl rfl)
theorem dX0_finest_92 : decode cX0_finest 92 = .ok (.isub, 1) := dk_100 (dk_at dksX0_finest_3 23 rfl rfl)
theorem dX0_finest_93 : decode cX0_finest 93 = .ok (.istore 7, 2) := dk_54 7 (dk_at dksX0_finest_4 0 rfl rfl)
theorem dX0_finest_95 : decode cX0_finest 95 = .ok (.aload_n 0, 1) := dk_42 (dk_at dksX0_finest_4 2 rfl rfl)
theorem dX0_finest_96 : decode cX0_finest 96 = .ok (.getfield 79, 3) := dk_180 0 79 (dk_at dksX0_finest_4 3 rfl rfl)
theorem dX0_finest_99 : decode cX0_finest 99 = .ok (.invokevirtual 419, 3) := dk_182 1 163 (dk_at dksX0_finest_4 6 rfl rfl)
theorem dX0_finest_102 : decode cX0_finest 102 = .ok (.iload_n 2, 1) := dk_28 (dk_at dksX0_finest_4 9 rfl rfl)
theorem dX0_finest_103 : decode cX0_finest 103 = .ok (.ifCond .lt 25, 3) := dk_155 0 25 (dk_at dksX0_finest_4 10 rfl rfl)
theorem dX0_finest_106 : decode cX0_finest 106 = .ok (.iload 6, 2) := dk_21 6 (dk_at dksX0_finest_4 13 rfl rfl)
theorem dX0_finest_108 : decode cX0_finest 108 = .ok (.iload_n 3, 1) := dk_29 (dk_at dksX0_finest_4 15 rfl rfl)
theorem dX0_finest_109 : decode cX0_finest 109 = .ok (.if_icmp .lt 29, 3) := dk_161 0 29 (dk_at dksX0_finest_4 16 rfl rfl)
theorem dX0_finest_112 : decode cX0_finest 112 = .ok (.iload 6, 2) := dk_21 6 (dk_at dksX0_finest_4 19 rfl rfl)
theorem dX0_finest_114 : decode cX0_finest 114 = .ok (.iload_n 3, 1) := dk_29 (dk_at dksX0_finest_4 21 rfl rfl)
theorem dX0_finest_115 : decode cX0_finest 115 = .ok (.if_icmp .ne 13, 3) := dk_160 0 13 (dk_at dksX0_finest_5 0 rfl rfl)
theorem dX0_finest_118 : decode cX0_finest 118 = .ok (.iload 7, 2) := dk_21 7 (dk_at dksX0_finest_5 3 rfl rfl)
theorem dX0_finest_120 : decode cX0_finest 120 = .ok (.iload 4, 2) := dk_21 4 (dk_at dksX0_finest_5 5 rfl rfl)
theorem dX0_finest_122 : decode cX0_finest 122 = .ok (.if_icmp .lt 6, 3) := dk_161 0 6 (dk_at dksX0_finest_5 7 rfl rfl)
theorem dX0_finest_125 : decode cX0_finest 125 = .ok (.goto 13, 3) := dk_167 0 13 (dk_at dksX0_finest_5 10 rfl rfl)
theorem dX0_finest_128 : decode cX0_finest 128 = .ok (.iload 5, 2) := dk_21 5 (dk_at dksX0_finest_5 13 rfl rfl)
theorem dX0_finest_130 : decode cX0_finest 130 = .ok (.istore_n 2, 1) := dk_61 (dk_at dksX0_finest_5 15 rfl rfl)
theorem dX0_finest_131 : decode cX0_finest 131 = .ok (.iload 6, 2) := dk_21 6 (dk_at dksX0_finest_5 16 rfl rfl)
theorem dX0_finest_133 : decode cX0_finest 133 = .ok (.istore_n 3, 1) := dk_62 (dk_at dksX0_finest_5 18 rfl rfl)
theorem dX0_finest_134 : decode cX0_finest 134 = .ok (.iload 7, 2) := dk_21 7 (dk_at dksX0_finest_5 19 rfl rfl)
theorem dX0_finest_136 : decode cX0_finest 136 = .ok (.istore 4, 2) := dk_54 4 (dk_at dksX0_finest_5 21 rfl rfl)
theorem dX0_finest_138 : decode cX0_finest 138 = .ok (.iinc 5 1, 3) := dk_132 5 1 (dk_at dksX0_finest_6 0 rfl rfl)
theorem dX0_finest_141 : decode cX0_finest 141 = .ok (.goto (-109), 3) := dk_167 255 147 (dk_at dksX0_finest_6 3 rfl rfl)
theorem dX0_finest_144 : decode cX0_finest 144 = .ok (.iload_n 2, 1) := dk_28 (dk_at dksX0_finest_6 6 rfl rfl)
theorem dX0_finest_145 : decode cX0_finest 145 = .ok (.ireturn, 1) := dk_172 (dk_at dksX0_finest_6 7 rfl rfl)
abbrev cX0_home : ByteArray := prog_1_method_76_code
def yX0_home : MethodName := ⟨RX0, "home", "(II)I"⟩
def dkwX0_home_4 : List UInt8 := [21, 4, 167, 0, 5, 16, 254, 62, 132, 4, 1, 167, 255, 204, 42, 180, 0, 79, 182, 1, 163, 29, 172]
abbrev dktX0_home_4 : List UInt8 := dkwX0_home_4 ++ []
def dkwX0_home_3 : List UInt8 := [182, 0, 99, 192, 1, 98, 182, 1, 142, 42, 182, 1, 154, 42, 180, 0, 18, 182, 0, 89, 160, 0, 8]
abbrev dktX0_home_3 : List UInt8 := dkwX0_home_3 ++ dktX0_home_4
def dkwX0_home_2 : List UInt8 := [16, 254, 62, 4, 54, 4, 21, 4, 28, 163, 0, 52, 29, 16, 254, 160, 0, 46, 42, 42, 180, 0, 21, 27]
abbrev dktX0_home_2 : List UInt8 := dkwX0_home_2 ++ dktX0_home_3
def dkwX0_home_1 : List UInt8 := [180, 0, 79, 182, 1, 151, 42, 182, 1, 154, 42, 180, 0, 18, 182, 0, 89, 160, 0, 7, 3, 167, 0, 5]
abbrev dktX0_home_1 : List UInt8 := dkwX0_home_1 ++ dktX0_home_2
def dkwX0_home_0 : List UInt8 := [42, 27, 182, 1, 136, 153, 0, 15, 28, 133, 9, 20, 1, 139, 184, 0, 93, 154, 0, 5, 2, 172, 42]
abbrev dktX0_home_0 : List UInt8 := dkwX0_home_0 ++ dktX0_home_1
theorem dksX0_home_0 : cX0_home.data.toList.drop 0 = dktX0_home_0 := by decide +kernel
theorem dksX0_home_1 : cX0_home.data.toList.drop 23 = dktX0_home_1 := dk_seg dksX0_home_0 23 rfl rfl
theorem dksX0_home_2 : cX0_home.data.toList.drop 47 = dktX0_home_2 := dk_seg dksX0_home_1 24 rfl rfl
theorem dksX0_home_3 : cX0_home.data.toList.drop 71 = dktX0_home_3 := dk_seg dksX0_home_2 24 rfl rfl
theorem dksX0_home_4 : cX0_home.data.toList.drop 94 = dktX0_home_4 := dk_seg dksX0_home_3 23 rfl rfl
theorem dX0_home_0 : decode cX0_home 0 = .ok (.aload_n 0, 1) := dk_42 (dk_at dksX0_home_0 0 rfl rfl)
theorem dX0_home_1 : decode cX0_home 1 = .ok (.iload_n 1, 1) := dk_27 (dk_at dksX0_home_0 1 rfl rfl)
theorem dX0_home_2 : decode cX0_home 2 = .ok (.invokevirtual 392, 3) := dk_182 1 136 (dk_at dksX0_home_0 2 rfl rfl)
theorem dX0_home_5 : decode cX0_home 5 = .ok (.ifCond .eq 15, 3) := dk_153 0 15 (dk_at dksX0_home_0 5 rfl rfl)
theorem dX0_home_8 : decode cX0_home 8 = .ok (.iload_n 2, 1) := dk_28 (dk_at dksX0_home_0 8 rfl rfl)
theorem dX0_home_9 : decode cX0_home 9 = .ok (.i2l, 1) := dk_133 (dk_at dksX0_home_0 9 rfl rfl)
theorem dX0_home_10 : decode cX0_home 10 = .ok (.lconst 0, 1) := dk_9 (dk_at dksX0_home_0 10 rfl rfl)
theorem dX0_home_11 : decode cX0_home 11 = .ok (.ldc2_w 395, 3) := dk_20 1 139 (dk_at dksX0_home_0 11 rfl rfl)
theorem dX0_home_14 : decode cX0_home 14 = .ok (.invokestatic 93, 3) := dk_184 0 93 (dk_at dksX0_home_0 14 rfl rfl)
theorem dX0_home_17 : decode cX0_home 17 = .ok (.ifCond .ne 5, 3) := dk_154 0 5 (dk_at dksX0_home_0 17 rfl rfl)
theorem dX0_home_20 : decode cX0_home 20 = .ok (.iconst (-1), 1) := dk_2 (dk_at dksX0_home_0 20 rfl rfl)
theorem dX0_home_21 : decode cX0_home 21 = .ok (.ireturn, 1) := dk_172 (dk_at dksX0_home_0 21 rfl rfl)
theorem dX0_home_22 : decode cX0_home 22 = .ok (.aload_n 0, 1) := dk_42 (dk_at dksX0_home_0 22 rfl rfl)
theorem dX0_home_23 : decode cX0_home 23 = .ok (.getfield 79, 3) := dk_180 0 79 (dk_at dksX0_home_1 0 rfl rfl)
theorem dX0_home_26 : decode cX0_home 26 = .ok (.invokevirtual 407, 3) := dk_182 1 151 (dk_at dksX0_home_1 3 rfl rfl)
theorem dX0_home_29 : decode cX0_home 29 = .ok (.aload_n 0, 1) := dk_42 (dk_at dksX0_home_1 6 rfl rfl)
theorem dX0_home_30 : decode cX0_home 30 = .ok (.invokevirtual 410, 3) := dk_182 1 154 (dk_at dksX0_home_1 7 rfl rfl)
theorem dX0_home_33 : decode cX0_home 33 = .ok (.aload_n 0, 1) := dk_42 (dk_at dksX0_home_1 10 rfl rfl)
theorem dX0_home_34 : decode cX0_home 34 = .ok (.getfield 18, 3) := dk_180 0 18 (dk_at dksX0_home_1 11 rfl rfl)
theorem dX0_home_37 : decode cX0_home 37 = .ok (.invokevirtual 89, 3) := dk_182 0 89 (dk_at dksX0_home_1 14 rfl rfl)
theorem dX0_home_40 : decode cX0_home 40 = .ok (.if_icmp .ne 7, 3) := dk_160 0 7 (dk_at dksX0_home_1 17 rfl rfl)
theorem dX0_home_43 : decode cX0_home 43 = .ok (.iconst 0, 1) := dk_3 (dk_at dksX0_home_1 20 rfl rfl)
theorem dX0_home_44 : decode cX0_home 44 = .ok (.goto 5, 3) := dk_167 0 5 (dk_at dksX0_home_1 21 rfl rfl)
theorem dX0_home_47 : decode cX0_home 47 = .ok (.bipush (-2), 2) := dk_16 254 (dk_at dksX0_home_2 0 rfl rfl)
theorem dX0_home_49 : decode cX0_home 49 = .ok (.istore_n 3, 1) := dk_62 (dk_at dksX0_home_2 2 rfl rfl)
theorem dX0_home_50 : decode cX0_home 50 = .ok (.iconst 1, 1) := dk_4 (dk_at dksX0_home_2 3 rfl rfl)
theorem dX0_home_51 : decode cX0_home 51 = .ok (.istore 4, 2) := dk_54 4 (dk_at dksX0_home_2 4 rfl rfl)
theorem dX0_home_53 : decode cX0_home 53 = .ok (.iload 4, 2) := dk_21 4 (dk_at dksX0_home_2 6 rfl rfl)
theorem dX0_home_55 : decode cX0_home 55 = .ok (.iload_n 2, 1) := dk_28 (dk_at dksX0_home_2 8 rfl rfl)
theorem dX0_home_56 : decode cX0_home 56 = .ok (.if_icmp .gt 52, 3) := dk_163 0 52 (dk_at dksX0_home_2 9 rfl rfl)
theorem dX0_home_59 : decode cX0_home 59 = .ok (.iload_n 3, 1) := dk_29 (dk_at dksX0_home_2 12 rfl rfl)
theorem dX0_home_60 : decode cX0_home 60 = .ok (.bipush (-2), 2) := dk_16 254 (dk_at dksX0_home_2 13 rfl rfl)
theorem dX0_home_62 : decode cX0_home 62 = .ok (.if_icmp .ne 46, 3) := dk_160 0 46 (dk_at dksX0_home_2 15 rfl rfl)
theorem dX0_home_65 : decode cX0_home 65 = .ok (.aload_n 0, 1) := dk_42 (dk_at dksX0_home_2 18 rfl rfl)
theorem dX0_home_66 : decode cX0_home 66 = .ok (.aload_n 0, 1) := dk_42 (dk_at dksX0_home_2 19 rfl rfl)
theorem dX0_home_67 : decode cX0_home 67 = .ok (.getfield 21, 3) := dk_180 0 21 (dk_at dksX0_home_2 20 rfl rfl)
theorem dX0_home_70 : decode cX0_home 70 = .ok (.iload_n 1, 1) := dk_27 (dk_at dksX0_home_2 23 rfl rfl)
theorem dX0_home_71 : decode cX0_home 71 = .ok (.invokevirtual 99, 3) := dk_182 0 99 (dk_at dksX0_home_3 0 rfl rfl)
theorem dX0_home_74 : decode cX0_home 74 = .ok (.checkcast 354, 3) := dk_192 1 98 (dk_at dksX0_home_3 3 rfl rfl)
theorem dX0_home_77 : decode cX0_home 77 = .ok (.invokevirtual 398, 3) := dk_182 1 142 (dk_at dksX0_home_3 6 rfl rfl)
theorem dX0_home_80 : decode cX0_home 80 = .ok (.aload_n 0, 1) := dk_42 (dk_at dksX0_home_3 9 rfl rfl)
theorem dX0_home_81 : decode cX0_home 81 = .ok (.invokevirtual 410, 3) := dk_182 1 154 (dk_at dksX0_home_3 10 rfl rfl)
theorem dX0_home_84 : decode cX0_home 84 = .ok (.aload_n 0, 1) := dk_42 (dk_at dksX0_home_3 13 rfl rfl)
theorem dX0_home_85 : decode cX0_home 85 = .ok (.getfield 18, 3) := dk_180 0 18 (dk_at dksX0_home_3 14 rfl rfl)
theorem dX0_home_88 : decode cX0_home 88 = .ok (.invokevirtual 89, 3) := dk_182 0 89 (dk_at dksX0_home_3 17 rfl rfl)
theorem dX0_home_91 : decode cX0_home 91 = .ok (.if_icmp .ne 8, 3) := dk_160 0 8 (dk_at dksX0_home_3 20 rfl rfl)
theorem dX0_home_94 : decode cX0_home 94 = .ok (.iload 4, 2) := dk_21 4 (dk_at dksX0_home_4 0 rfl rfl)
theorem dX0_home_96 : decode cX0_home 96 = .ok (.goto 5, 3) := dk_167 0 5 (dk_at dksX0_home_4 2 rfl rfl)
theorem dX0_home_99 : decode cX0_home 99 = .ok (.bipush (-2), 2) := dk_16 254 (dk_at dksX0_home_4 5 rfl rfl)
theorem dX0_home_101 : decode cX0_home 101 = .ok (.istore_n 3, 1) := dk_62 (dk_at dksX0_home_4 7 rfl rfl)
theorem dX0_home_102 : decode cX0_home 102 = .ok (.iinc 4 1, 3) := dk_132 4 1 (dk_at dksX0_home_4 8 rfl rfl)
theorem dX0_home_105 : decode cX0_home 105 = .ok (.goto (-52), 3) := dk_167 255 204 (dk_at dksX0_home_4 11 rfl rfl)
theorem dX0_home_108 : decode cX0_home 108 = .ok (.aload_n 0, 1) := dk_42 (dk_at dksX0_home_4 14 rfl rfl)
theorem dX0_home_109 : decode cX0_home 109 = .ok (.getfield 79, 3) := dk_180 0 79 (dk_at dksX0_home_4 15 rfl rfl)
theorem dX0_home_112 : decode cX0_home 112 = .ok (.invokevirtual 419, 3) := dk_182 1 163 (dk_at dksX0_home_4 18 rfl rfl)
theorem dX0_home_115 : decode cX0_home 115 = .ok (.iload_n 3, 1) := dk_29 (dk_at dksX0_home_4 21 rfl rfl)
theorem dX0_home_116 : decode cX0_home 116 = .ok (.ireturn, 1) := dk_172 (dk_at dksX0_home_4 22 rfl rfl)
abbrev cX0_seed : ByteArray := prog_1_method_77_code
def yX0_seed : MethodName := ⟨RX0, "seed", "(I)I"⟩
def dkwX0_seed_0 : List UInt8 := [27, 156, 0, 5, 2, 172, 42, 180, 1, 166, 61, 42, 27, 181, 1, 166, 28, 172]
abbrev dktX0_seed_0 : List UInt8 := dkwX0_seed_0 ++ []
theorem dksX0_seed_0 : cX0_seed.data.toList.drop 0 = dktX0_seed_0 := by decide +kernel
theorem dX0_seed_0 : decode cX0_seed 0 = .ok (.iload_n 1, 1) := dk_27 (dk_at dksX0_seed_0 0 rfl rfl)
theorem dX0_seed_1 : decode cX0_seed 1 = .ok (.ifCond .ge 5, 3) := dk_156 0 5 (dk_at dksX0_seed_0 1 rfl rfl)
theorem dX0_seed_4 : decode cX0_seed 4 = .ok (.iconst (-1), 1) := dk_2 (dk_at dksX0_seed_0 4 rfl rfl)
theorem dX0_seed_5 : decode cX0_seed 5 = .ok (.ireturn, 1) := dk_172 (dk_at dksX0_seed_0 5 rfl rfl)
theorem dX0_seed_6 : decode cX0_seed 6 = .ok (.aload_n 0, 1) := dk_42 (dk_at dksX0_seed_0 6 rfl rfl)
theorem dX0_seed_7 : decode cX0_seed 7 = .ok (.getfield 422, 3) := dk_180 1 166 (dk_at dksX0_seed_0 7 rfl rfl)
theorem dX0_seed_10 : decode cX0_seed 10 = .ok (.istore_n 2, 1) := dk_61 (dk_at dksX0_seed_0 10 rfl rfl)
theorem dX0_seed_11 : decode cX0_seed 11 = .ok (.aload_n 0, 1) := dk_42 (dk_at dksX0_seed_0 11 rfl rfl)
theorem dX0_seed_12 : decode cX0_seed 12 = .ok (.iload_n 1, 1) := dk_27 (dk_at dksX0_seed_0 12 rfl rfl)
theorem dX0_seed_13 : decode cX0_seed 13 = .ok (.putfield 422, 3) := dk_181 1 166 (dk_at dksX0_seed_0 13 rfl rfl)
theorem dX0_seed_16 : decode cX0_seed 16 = .ok (.iload_n 2, 1) := dk_28 (dk_at dksX0_seed_0 16 rfl rfl)
theorem dX0_seed_17 : decode cX0_seed 17 = .ok (.ireturn, 1) := dk_172 (dk_at dksX0_seed_0 17 rfl rfl)
abbrev cX0_days : ByteArray := prog_1_method_79_code
def yX0_days : MethodName := ⟨RX0, "days", "(IIII)I"⟩
def dkwX0_days_11 : List UInt8 := [21, 6, 167, 0, 16, 21, 4, 4, 160, 0, 8, 21, 7, 167, 0, 5, 21, 8, 172]
abbrev dktX0_days_11 : List UInt8 := dkwX0_days_11 ++ []
def dkwX0_days_10 : List UInt8 := [192, 0, 109, 3, 181, 1, 126, 132, 9, 1, 167, 255, 225, 42, 21, 5, 181, 1, 166, 21, 4, 154, 0, 8]
abbrev dktX0_days_10 : List UInt8 := dkwX0_days_10 ++ dktX0_days_11
def dkwX0_days_9 : List UInt8 := [3, 54, 9, 21, 9, 42, 180, 0, 18, 182, 0, 89, 162, 0, 25, 42, 180, 0, 18, 21, 9, 182, 0, 99]
abbrev dktX0_days_9 : List UInt8 := dkwX0_days_9 ++ dktX0_days_10
def dkwX0_days_8 : List UInt8 := [160, 0, 7, 4, 167, 0, 4, 3, 96, 54, 8, 42, 180, 0, 79, 182, 1, 163, 132, 9, 1, 167, 255, 118]
abbrev dktX0_days_8 : List UInt8 := dkwX0_days_8 ++ dktX0_days_9
def dkwX0_days_7 : List UInt8 := [42, 180, 0, 79, 180, 1, 157, 100, 96, 54, 7, 21, 8, 42, 182, 1, 154, 42, 180, 0, 18, 182, 0, 89]
abbrev dktX0_days_7 : List UInt8 := dkwX0_days_7 ++ dktX0_days_8
def dkwX0_days_6 : List UInt8 := [182, 1, 142, 132, 10, 1, 167, 255, 232, 21, 6, 42, 182, 1, 154, 96, 54, 6, 21, 7, 42, 180, 0, 160]
abbrev dktX0_days_6 : List UInt8 := dkwX0_days_6 ++ dktX0_days_7
def dkwX0_days_5 : List UInt8 := [167, 255, 220, 3, 54, 10, 21, 10, 29, 162, 0, 24, 42, 42, 180, 0, 21, 27, 182, 0, 99, 192, 1, 98]
abbrev dktX0_days_5 : List UInt8 := dkwX0_days_5 ++ dktX0_days_6
def dkwX0_days_4 : List UInt8 := [180, 0, 18, 21, 10, 182, 0, 99, 192, 0, 109, 42, 16, 60, 182, 1, 180, 181, 1, 126, 132, 10, 1]
abbrev dktX0_days_4 : List UInt8 := dkwX0_days_4 ++ dktX0_days_5
def dkwX0_days_3 : List UInt8 := [54, 9, 21, 9, 28, 162, 0, 138, 3, 54, 10, 21, 10, 42, 180, 0, 18, 182, 0, 89, 162, 0, 30, 42]
abbrev dktX0_days_3 : List UInt8 := dkwX0_days_3 ++ dktX0_days_4
def dkwX0_days_2 : List UInt8 := [42, 180, 1, 166, 54, 5, 3, 54, 6, 3, 54, 7, 3, 54, 8, 42, 180, 0, 79, 182, 1, 151, 3]
abbrev dktX0_days_2 : List UInt8 := dkwX0_days_2 ++ dktX0_days_3
def dkwX0_days_1 : List UInt8 := [20, 1, 178, 184, 0, 93, 153, 0, 16, 21, 4, 133, 9, 20, 1, 70, 184, 0, 93, 154, 0, 5, 2, 172]
abbrev dktX0_days_1 : List UInt8 := dkwX0_days_1 ++ dktX0_days_2
def dkwX0_days_0 : List UInt8 := [42, 27, 182, 1, 136, 153, 0, 40, 28, 133, 10, 20, 1, 176, 184, 0, 93, 153, 0, 28, 29, 133, 9]
abbrev dktX0_days_0 : List UInt8 := dkwX0_days_0 ++ dktX0_days_1
theorem dksX0_days_0 : cX0_days.data.toList.drop 0 = dktX0_days_0 := by decide +kernel
theorem dksX0_days_1 : cX0_days.data.toList.drop 23 = dktX0_days_1 := dk_seg dksX0_days_0 23 rfl rfl
theorem dksX0_days_2 : cX0_days.data.toList.drop 47 = dktX0_days_2 := dk_seg dksX0_days_1 24 rfl rfl
theorem dksX0_days_3 : cX0_days.data.toList.drop 70 = dktX0_days_3 := dk_seg dksX0_days_2 23 rfl rfl
theorem dksX0_days_4 : cX0_days.data.toList.drop 94 = dktX0_days_4 := dk_seg dksX0_days_3 24 rfl rfl
theorem dksX0_days_5 : cX0_days.data.toList.drop 117 = dktX0_days_5 := dk_seg dksX0_days_4 23 rfl rfl
theorem dksX0_days_6 : cX0_days.data.toList.drop 141 = dktX0_days_6 := dk_seg dksX0_days_5 24 rfl rfl
theorem dksX0_days_7 : cX0_days.data.toList.drop 165 = dktX0_days_7 := dk_seg dksX0_days_6 24 rfl rfl
theorem dksX0_days_8 : cX0_days.data.toList.drop 189 = dktX0_days_8 := dk_seg dksX0_days_7 24 rfl rfl
theorem dksX0_days_9 : cX0_days.data.toList.drop 213 = dktX0_days_9 := dk_seg dksX0_days_8 24 rfl rfl
theorem dksX0_days_10 : cX0_days.data.toList.drop 237 = dktX0_days_10 := dk_seg dksX0_days_9 24 rfl rfl
theorem dksX0_days_11 : cX0_days.data.toList.drop 261 = dktX0_days_11 := dk_seg dksX0_days_10 24 rfl rfl
theorem dX0_days_0 : decode cX0_days 0 = .ok (.aload_n 0, 1) := dk_42 (dk_at dksX0_days_0 0 rfl rfl)
theorem dX0_days_1 : decode cX0_days 1 = .ok (.iload_n 1, 1) := dk_27 (dk_at dksX0_days_0 1 rfl rfl)
theorem dX0_days_2 : decode cX0_days 2 = .ok (.invokevirtual 392, 3) := dk_182 1 136 (dk_at dksX0_days_0 2 rfl rfl)
theorem dX0_days_5 : decode cX0_days 5 = .ok (.ifCond .eq 40, 3) := dk_153 0 40 (dk_at dksX0_days_0 5 rfl rfl)
theorem dX0_days_8 : decode cX0_days 8 = .ok (.iload_n 2, 1) := dk_28 (dk_at dksX0_days_0 8 rfl rfl)
theorem dX0_days_9 : decode cX0_days 9 = .ok (.i2l, 1) := dk_133 (dk_at dksX0_days_0 9 rfl rfl)
theorem dX0_days_10 : decode cX0_days 10 = .ok (.lconst 1, 1) := dk_10 (dk_at dksX0_days_0 10 rfl rfl)
theorem dX0_days_11 : decode cX0_days 11 = .ok (.ldc2_w 432, 3) := dk_20 1 176 (dk_at dksX0_days_0 11 rfl rfl)
theorem dX0_days_14 : decode cX0_days 14 = .ok (.invokestatic 93, 3) := dk_184 0 93 (dk_at dksX0_days_0 14 rfl rfl)
theorem dX0_days_17 : decode cX0_days 17 = .ok (.ifCond .eq 28, 3) := dk_153 0 28 (dk_at dksX0_days_0 17 rfl rfl)
theorem dX0_days_20 : decode cX0_days 20 = .ok (.iload_n 3, 1) := dk_29 (dk_at dksX0_days_0 20 rfl rfl)
theorem dX0_days_21 : decode cX0_days 21 = .ok (.i2l, 1) := dk_133 (dk_at dksX0_days_0 21 rfl rfl)
theorem dX0_days_22 : decode cX0_days 22 = .ok (.lconst 0, 1) := dk_9 (dk_at dksX0_days_0 22 rfl rfl)
theorem dX0_days_23 : decode cX0_days 23 = .ok (.ldc2_w 434, 3) := dk_20 1 178 (dk_at dksX0_days_1 0 rfl rfl)
theorem dX0_days_26 : decode cX0_days 26 = .ok (.invokestatic 93, 3) := dk_184 0 93 (dk_at dksX0_days_1 3 rfl rfl)
theorem dX0_days_29 : decode cX0_days 29 = .ok (.ifCond .eq 16, 3) := dk_153 0 16 (dk_at dksX0_days_1 6 rfl rfl)
theorem dX0_days_32 : decode cX0_days 32 = .ok (.iload 4, 2) := dk_21 4 (dk_at dksX0_days_1 9 rfl rfl)
theorem dX0_days_34 : decode cX0_days 34 = .ok (.i2l, 1) := dk_133 (dk_at dksX0_days_1 11 rfl rfl)
theorem dX0_days_35 : decode cX0_days 35 = .ok (.lconst 0, 1) := dk_9 (dk_at dksX0_days_1 12 rfl rfl)
theorem dX0_days_36 : decode cX0_days 36 = .ok (.ldc2_w 326, 3) := dk_20 1 70 (dk_at dksX0_days_1 13 rfl rfl)
theorem dX0_days_39 : decode cX0_days 39 = .ok (.invokestatic 93, 3) := dk_184 0 93 (dk_at dksX0_days_1 16 rfl rfl)
theorem dX0_days_42 : decode cX0_days 42 = .ok (.ifCond .ne 5, 3) := dk_154 0 5 (dk_at dksX0_days_1 19 rfl rfl)
theorem dX0_days_45 : decode cX0_days 45 = .ok (.iconst (-1), 1) := dk_2 (dk_at dksX0_days_1 22 rfl rfl)
theorem dX0_days_46 : decode cX0_days 46 = .ok (.ireturn, 1) := dk_172 (dk_at dksX0_days_1 23 rfl rfl)
theorem dX0_days_47 : decode cX0_days 47 = .ok (.aload_n 0, 1) := dk_42 (dk_at dksX0_days_2 0 rfl rfl)
theorem dX0_days_48 : decode cX0_days 48 = .ok (.getfield 422, 3) := dk_180 1 166 (dk_at dksX0_days_2 1 rfl rfl)
theorem dX0_days_51 : decode cX0_days 51 = .ok (.istore 5, 2) := dk_54 5 (dk_at dksX0_days_2 4 rfl rfl)
theorem dX0_days_53 : decode cX0_days 53 = .ok (.iconst 0, 1) := dk_3 (dk_at dksX0_days_2 6 rfl rfl)
theorem dX0_days_54 : decode cX0_days 54 = .ok (.istore 6, 2) := dk_54 6 (dk_at dksX0_days_2 7 rfl rfl)
theorem dX0_days_56 : decode cX0_days 56 = .ok (.iconst 0, 1) := dk_3 (dk_at dksX0_days_2 9 rfl rfl)
theorem dX0_days_57 : decode cX0_days 57 = .ok (.istore 7, 2) := dk_54 7 (dk_at dksX0_days_2 10 rfl rfl)
theorem dX0_days_59 : decode cX0_days 59 = .ok (.iconst 0, 1) := dk_3 (dk_at dksX0_days_2 12 rfl rfl)
theorem dX0_days_60 : decode cX0_days 60 = .ok (.istore 8, 2) := dk_54 8 (dk_at dksX0_days_2 13 rfl rfl)
theorem dX0_days_62 : decode cX0_days 62 = .ok (.aload_n 0, 1) := dk_42 (dk_at dksX0_days_2 15 rfl rfl)
theorem dX0_days_63 : decode cX0_days 63 = .ok (.getfield 79, 3) := dk_180 0 79 (dk_at dksX0_days_2 16 rfl rfl)
theorem dX0_days_66 : decode cX0_days 66 = .ok (.invokevirtual 407, 3) := dk_182 1 151 (dk_at dksX0_days_2 19 rfl rfl)
theorem dX0_days_69 : decode cX0_days 69 = .ok (.iconst 0, 1) := dk_3 (dk_at dksX0_days_2 22 rfl rfl)
theorem dX0_days_70 : decode cX0_days 70 = .ok (.istore 9, 2) := dk_54 9 (dk_at dksX0_days_3 0 rfl rfl)
theorem dX0_days_72 : decode cX0_days 72 = .ok (.iload 9, 2) := dk_21 9 (dk_at dksX0_days_3 2 rfl rfl)
theorem dX0_days_74 : decode cX0_days 74 = .ok (.iload_n 2, 1) := dk_28 (dk_at dksX0_days_3 4 rfl rfl)
theorem dX0_days_75 : decode cX0_days 75 = .ok (.if_icmp .ge 138, 3) := dk_162 0 138 (dk_at dksX0_days_3 5 rfl rfl)
theorem dX0_days_78 : decode cX0_days 78 = .ok (.iconst 0, 1) := dk_3 (dk_at dksX0_days_3 8 rfl rfl)
theorem dX0_days_79 : decode cX0_days 79 = .ok (.istore 10, 2) := dk_54 10 (dk_at dksX0_days_3 9 rfl rfl)
theorem dX0_days_81 : decode cX0_days 81 = .ok (.iload 10, 2) := dk_21 10 (dk_at dksX0_days_3 11 rfl rfl)
theorem dX0_days_83 : decode cX0_days 83 = .ok (.aload_n 0, 1) := dk_42 (dk_at dksX0_days_3 13 rfl rfl)
theorem dX0_days_84 : decode cX0_days 84 = .ok (.getfield 18, 3) := dk_180 0 18 (dk_at dksX0_days_3 14 rfl rfl)
theorem dX0_days_87 : decode cX0_days 87 = .ok (.invokevirtual 89, 3) := dk_182 0 89 (dk_at dksX0_days_3 17 rfl rfl)
theorem dX0_days_90 : decode cX0_days 90 = .ok (.if_icmp .ge 30, 3) := dk_162 0 30 (dk_at dksX0_days_3 20 rfl rfl)
theorem dX0_days_93 : decode cX0_days 93 = .ok (.aload_n 0, 1) := dk_42 (dk_at dksX0_days_3 23 rfl rfl)
theorem dX0_days_94 : decode cX0_days 94 = .ok (.getfield 18, 3) := dk_180 0 18 (dk_at dksX0_days_4 0 rfl rfl)
theorem dX0_days_97 : decode cX0_days 97 = .ok (.iload 10, 2) := dk_21 10 (dk_at dksX0_days_4 3 rfl rfl)
theorem dX0_days_99 : decode cX0_days 99 = .ok (.invokevirtual 99, 3) := dk_182 0 99 (dk_at dksX0_days_4 5 rfl rfl)
theorem dX0_days_102 : decode cX0_days 102 = .ok (.checkcast 109, 3) := dk_192 0 109 (dk_at dksX0_days_4 8 rfl rfl)
theorem dX0_days_105 : decode cX0_days 105 = .ok (.aload_n 0, 1) := dk_42 (dk_at dksX0_days_4 11 rfl rfl)
theorem dX0_days_106 : decode cX0_days 106 = .ok (.bipush 60, 2) := dk_16 60 (dk_at dksX0_days_4 12 rfl rfl)
theorem dX0_days_108 : decode cX0_days 108 = .ok (.invokevirtual 436, 3) := dk_182 1 180 (dk_at dksX0_days_4 14 rfl rfl)
theorem dX0_days_111 : decode cX0_days 111 = .ok (.putfield 382, 3) := dk_181 1 126 (dk_at dksX0_days_4 17 rfl rfl)
theorem dX0_days_114 : decode cX0_days 114 = .ok (.iinc 10 1, 3) := dk_132 10 1 (dk_at dksX0_days_4 20 rfl rfl)
theorem dX0_days_117 : decode cX0_days 117 = .ok (.goto (-36), 3) := dk_167 255 220 (dk_at dksX0_days_5 0 rfl rfl)
theorem dX0_days_120 : decode cX0_days 120 = .ok (.iconst 0, 1) := dk_3 (dk_at dksX0_days_5 3 rfl rfl)
theorem dX0_days_121 : decode cX0_days 121 = .ok (.istore 10, 2) := dk_54 10 (dk_at dksX0_days_5 4 rfl rfl)
theorem dX0_days_123 : decode cX0_days 123 = .ok (.iload 10, 2) := dk_21 10 (dk_at dksX0_days_5 6 rfl rfl)
theorem dX0_days_125 : decode cX0_days 125 = .ok (.iload_n 3, 1) := dk_29 (dk_at dksX0_days_5 8 rfl rfl)
theorem dX0_days_126 : decode cX0_days 126 = .ok (.if_icmp .ge 24, 3) := dk_162 0 24 (dk_at dksX0_days_5 9 rfl rfl)
theorem dX0_days_129 : decode cX0_days 129 = .ok (.aload_n 0, 1) := dk_42 (dk_at dksX0_days_5 12 rfl rfl)
theorem dX0_days_130 : decode cX0_days 130 = .ok (.aload_n 0, 1) := dk_42 (dk_at dksX0_days_5 13 rfl rfl)
theorem dX0_days_131 : decode cX0_days 131 = .ok (.getfield 21, 3) := dk_180 0 21 (dk_at dksX0_days_5 14 rfl rfl)
theorem dX0_days_134 : decode cX0_days 134 = .ok (.iload_n 1, 1) := dk_27 (dk_at dksX0_days_5 17 rfl rfl)
theorem dX0_days_135 : decode cX0_days 135 = .ok (.invokevirtual 99, 3) := dk_182 0 99 (dk_at dksX0_days_5 18 rfl rfl)
theorem dX0_days_138 : decode cX0_days 138 = .ok (.checkcast 354, 3) := dk_192 1 98 (dk_at dksX0_days_5 21 rfl rfl)
theorem dX0_days_141 : decode cX0_days 141 = .ok (.invokevirtual 398, 3) := dk_182 1 142 (dk_at dksX0_days_6 0 rfl rfl)
theorem dX0_days_144 : decode cX0_days 144 = .ok (.iinc 10 1, 3) := dk_132 10 1 (dk_at dksX0_days_6 3 rfl rfl)
theorem dX0_days_147 : decode cX0_days 147 = .ok (.goto (-24), 3) := dk_167 255 232 (dk_at dksX0_days_6 6 rfl rfl)
theorem dX0_days_150 : decode cX0_days 150 = .ok (.iload 6, 2) := dk_21 6 (dk_at dksX0_days_6 9 rfl rfl)
theorem dX0_days_152 : decode cX0_days 152 = .ok (.aload_n 0, 1) := dk_42 (dk_at dksX0_days_6 11 rfl rfl)
theorem dX0_days_153 : decode cX0_days 153 = .ok (.invokevirtual 410, 3) := dk_182 1 154 (dk_at dksX0_days_6 12 rfl rfl)
theorem dX0_days_156 : decode cX0_days 156 = .ok (.iadd, 1) := dk_96 (dk_at dksX0_days_6 15 rfl rfl)
theorem dX0_days_157 : decode cX0_days 157 = .ok (.istore 6, 2) := dk_54 6 (dk_at dksX0_days_6 16 rfl rfl)
theorem dX0_days_159 : decode cX0_days 159 = .ok (.iload 7, 2) := dk_21 7 (dk_at dksX0_days_6 18 rfl rfl)
theorem dX0_days_161 : decode cX0_days 161 = .ok (.aload_n 0, 1) := dk_42 (dk_at dksX0_days_6 20 rfl rfl)
theorem dX0_days_162 : decode cX0_days 162 = .ok (.getfield 160, 3) := dk_180 0 160 (dk_at dksX0_days_6 21 rfl rfl)
theorem dX0_days_165 : decode cX0_days 165 = .ok (.aload_n 0, 1) := dk_42 (dk_at dksX0_days_7 0 rfl rfl)
theorem dX0_days_166 : decode cX0_days 166 = .ok (.getfield 79, 3) := dk_180 0 79 (dk_at dksX0_days_7 1 rfl rfl)
theorem dX0_days_169 : decode cX0_days 169 = .ok (.getfield 413, 3) := dk_180 1 157 (dk_at dksX0_days_7 4 rfl rfl)
theorem dX0_days_172 : decode cX0_days 172 = .ok (.isub, 1) := dk_100 (dk_at dksX0_days_7 7 rfl rfl)
theorem dX0_days_173 : decode cX0_days 173 = .ok (.iadd, 1) := dk_96 (dk_at dksX0_days_7 8 rfl rfl)
theorem dX0_days_174 : decode cX0_days 174 = .ok (.istore 7, 2) := dk_54 7 (dk_at dksX0_days_7 9 rfl rfl)
theorem dX0_days_176 : decode cX0_days 176 = .ok (.iload 8, 2) := dk_21 8 (dk_at dksX0_days_7 11 rfl rfl)
theorem dX0_days_178 : decode cX0_days 178 = .ok (.aload_n 0, 1) := dk_42 (dk_at dksX0_days_7 13 rfl rfl)
theorem dX0_days_179 : decode cX0_days 179 = .ok (.invokevirtual 410, 3) := dk_182 1 154 (dk_at dksX0_days_7 14 rfl rfl)
theorem dX0_days_182 : decode cX0_days 182 = .ok (.aload_n 0, 1) := dk_42 (dk_at dksX0_days_7 17 rfl rfl)
theorem dX0_days_183 : decode cX0_days 183 = .ok (.getfield 18, 3) := dk_180 0 18 (dk_at dksX0_days_7 18 rfl rfl)
theorem dX0_days_186 : decode cX0_days 186 = .ok (.invokevirtual 89, 3) := dk_182 0 89 (dk_at dksX0_days_7 21 rfl rfl)
theorem dX0_days_189 : decode cX0_days 189 = .ok (.if_icmp .ne 7, 3) := dk_160 0 7 (dk_at dksX0_days_8 0 rfl rfl)
theorem dX0_days_192 : decode cX0_days 192 = .ok (.iconst 1, 1) := dk_4 (dk_at dksX0_days_8 3 rfl rfl)
theorem dX0_days_193 : decode cX0_days 193 = .ok (.goto 4, 3) := dk_167 0 4 (dk_at dksX0_days_8 4 rfl rfl)
theorem dX0_days_196 : decode cX0_days 196 = .ok (.iconst 0, 1) := dk_3 (dk_at dksX0_days_8 7 rfl rfl)
theorem dX0_days_197 : decode cX0_days 197 = .ok (.iadd, 1) := dk_96 (dk_at dksX0_days_8 8 rfl rfl)
theorem dX0_days_198 : decode cX0_days 198 = .ok (.istore 8, 2) := dk_54 8 (dk_at dksX0_days_8 9 rfl rfl)
theorem dX0_days_200 : decode cX0_days 200 = .ok (.aload_n 0, 1) := dk_42 (dk_at dksX0_days_8 11 rfl rfl)
theorem dX0_days_201 : decode cX0_days 201 = .ok (.getfield 79, 3) := dk_180 0 79 (dk_at dksX0_days_8 12 rfl rfl)
theorem dX0_days_204 : decode cX0_days 204 = .ok (.invokevirtual 419, 3) := dk_182 1 163 (dk_at dksX0_days_8 15 rfl rfl)
theorem dX0_days_207 : decode cX0_days 207 = .ok (.iinc 9 1, 3) := dk_132 9 1 (dk_at dksX0_days_8 18 rfl rfl)
theorem dX0_days_210 : decode cX0_days 210 = .ok (.goto (-138), 3) := dk_167 255 118 (dk_at dksX0_days_8 21 rfl rfl)
theorem dX0_days_213 : decode cX0_days 213 = .ok (.iconst 0, 1) := dk_3 (dk_at dksX0_days_9 0 rfl rfl)
theorem dX0_days_214 : decode cX0_days 214 = .ok (.istore 9, 2) := dk_54 9 (dk_at dksX0_days_9 1 rfl rfl)
theorem dX0_days_216 : decode cX0_days 216 = .ok (.iload 9, 2) := dk_21 9 (dk_at dksX0_days_9 3 rfl rfl)
theorem dX0_days_218 : decode cX0_days 218 = .ok (.aload_n 0, 1) := dk_42 (dk_at dksX0_days_9 5 rfl rfl)
theorem dX0_days_219 : decode cX0_days 219 = .ok (.getfield 18, 3) := dk_180 0 18 (dk_at dksX0_days_9 6 rfl rfl)
theorem dX0_days_222 : decode cX0_days 222 = .ok (.invokevirtual 89, 3) := dk_182 0 89 (dk_at dksX0_days_9 9 rfl rfl)
theorem dX0_days_225 : decode cX0_days 225 = .ok (.if_icmp .ge 25, 3) := dk_162 0 25 (dk_at dksX0_days_9 12 rfl rfl)
theorem dX0_days_228 : decode cX0_days 228 = .ok (.aload_n 0, 1) := dk_42 (dk_at dksX0_days_9 15 rfl rfl)
theorem dX0_days_229 : decode cX0_days 229 = .ok (.getfield 18, 3) := dk_180 0 18 (dk_at dksX0_days_9 16 rfl rfl)
theorem dX0_days_232 : decode cX0_days 232 = .ok (.iload 9, 2) := dk_21 9 (dk_at dksX0_days_9 19 rfl rfl)
theorem dX0_days_234 : decode cX0_days 234 = .ok (.invokevirtual 99, 3) := dk_182 0 99 (dk_at dksX0_days_9 21 rfl rfl)
theorem dX0_days_237 : decode cX0_days 237 = .ok (.checkcast 109, 3) := dk_192 0 109 (dk_at dksX0_days_10 0 rfl rfl)
theorem dX0_days_240 : decode cX0_days 240 = .ok (.iconst 0, 1) := dk_3 (dk_at dksX0_days_10 3 rfl rfl)
theorem dX0_days_241 : decode cX0_days 241 = .ok (.putfield 382, 3) := dk_181 1 126 (dk_at dksX0_days_10 4 rfl rfl)
theorem dX0_days_244 : decode cX0_days 244 = .ok (.iinc 9 1, 3) := dk_132 9 1 (dk_at dksX0_days_10 7 rfl rfl)
theorem dX0_days_247 : decode cX0_days 247 = .ok (.goto (-31), 3) := dk_167 255 225 (dk_at dksX0_days_10 10 rfl rfl)
theorem dX0_days_250 : decode cX0_days 250 = .ok (.aload_n 0, 1) := dk_42 (dk_at dksX0_days_10 13 rfl rfl)
theorem dX0_days_251 : decode cX0_days 251 = .ok (.iload 5, 2) := dk_21 5 (dk_at dksX0_days_10 14 rfl rfl)
theorem dX0_days_253 : decode cX0_days 253 = .ok (.putfield 422, 3) := dk_181 1 166 (dk_at dksX0_days_10 16 rfl rfl)
theorem dX0_days_256 : decode cX0_days 256 = .ok (.iload 4, 2) := dk_21 4 (dk_at dksX0_days_10 19 rfl rfl)
theorem dX0_days_258 : decode cX0_days 258 = .ok (.ifCond .ne 8, 3) := dk_154 0 8 (dk_at dksX0_days_10 21 rfl rfl)
theorem dX0_days_261 : decode cX0_days 261 = .ok (.iload 6, 2) := dk_21 6 (dk_at dksX0_days_11 0 rfl rfl)
theorem dX0_days_263 : decode cX0_days 263 = .ok (.goto 16, 3) := dk_167 0 16 (dk_at dksX0_days_11 2 rfl rfl)
theorem dX0_days_266 : decode cX0_days 266 = .ok (.iload 4, 2) := dk_21 4 (dk_at dksX0_days_11 5 rfl rfl)
theorem dX0_days_268 : decode cX0_days 268 = .ok (.iconst 1, 1) := dk_4 (dk_at dksX0_days_11 7 rfl rfl)
theorem dX0_days_269 : decode cX0_days 269 = .ok (.if_icmp .ne 8, 3) := dk_160 0 8 (dk_at dksX0_days_11 8 rfl rfl)
theorem dX0_days_272 : decode cX0_days 272 = .ok (.iload 7, 2) := dk_21 7 (dk_at dksX0_days_11 11 rfl rfl)
theorem dX0_days_274 : decode cX0_days 274 = .ok (.goto 5, 3) := dk_167 0 5 (dk_at dksX0_days_11 13 rfl rfl)
theorem dX0_days_277 : decode cX0_days 277 = .ok (.iload 8, 2) := dk_21 8 (dk_at dksX0_days_11 16 rfl rfl)
theorem dX0_days_279 : decode cX0_days 279 = .ok (.ireturn, 1) := dk_172 (dk_at dksX0_days_11 18 rfl rfl)
abbrev cX0_draws : ByteArray := prog_1_method_78_code
def yX0_draws : MethodName := ⟨RX0, "draws", "(I)I"⟩
def dkwX0_draws_1 : List UInt8 := [180, 1, 166, 19, 1, 175, 108, 27, 112, 172]
abbrev dktX0_draws_1 : List UInt8 := dkwX0_draws_1 ++ []
def dkwX0_draws_0 : List UInt8 := [42, 42, 180, 1, 166, 133, 20, 1, 169, 105, 20, 1, 171, 97, 20, 1, 173, 113, 136, 181, 1, 166, 42]
abbrev dktX0_draws_0 : List UInt8 := dkwX0_draws_0 ++ dktX0_draws_1
theorem dksX0_draws_0 : cX0_draws.data.toList.drop 0 = dktX0_draws_0 := by decide +kernel
theorem dksX0_draws_1 : cX0_draws.data.toList.drop 23 = dktX0_draws_1 := dk_seg dksX0_draws_0 23 rfl rfl
theorem dX0_draws_0 : decode cX0_draws 0 = .ok (.aload_n 0, 1) := dk_42 (dk_at dksX0_draws_0 0 rfl rfl)
theorem dX0_draws_1 : decode cX0_draws 1 = .ok (.aload_n 0, 1) := dk_42 (dk_at dksX0_draws_0 1 rfl rfl)
theorem dX0_draws_2 : decode cX0_draws 2 = .ok (.getfield 422, 3) := dk_180 1 166 (dk_at dksX0_draws_0 2 rfl rfl)
theorem dX0_draws_5 : decode cX0_draws 5 = .ok (.i2l, 1) := dk_133 (dk_at dksX0_draws_0 5 rfl rfl)
theorem dX0_draws_6 : decode cX0_draws 6 = .ok (.ldc2_w 425, 3) := dk_20 1 169 (dk_at dksX0_draws_0 6 rfl rfl)
theorem dX0_draws_9 : decode cX0_draws 9 = .ok (.lmul, 1) := dk_105 (dk_at dksX0_draws_0 9 rfl rfl)
theorem dX0_draws_10 : decode cX0_draws 10 = .ok (.ldc2_w 427, 3) := dk_20 1 171 (dk_at dksX0_draws_0 10 rfl rfl)
theorem dX0_draws_13 : decode cX0_draws 13 = .ok (.ladd, 1) := dk_97 (dk_at dksX0_draws_0 13 rfl rfl)
theorem dX0_draws_14 : decode cX0_draws 14 = .ok (.ldc2_w 429, 3) := dk_20 1 173 (dk_at dksX0_draws_0 14 rfl rfl)
theorem dX0_draws_17 : decode cX0_draws 17 = .ok (.lrem, 1) := dk_113 (dk_at dksX0_draws_0 17 rfl rfl)
theorem dX0_draws_18 : decode cX0_draws 18 = .ok (.l2i, 1) := dk_136 (dk_at dksX0_draws_0 18 rfl rfl)
theorem dX0_draws_19 : decode cX0_draws 19 = .ok (.putfield 422, 3) := dk_181 1 166 (dk_at dksX0_draws_0 19 rfl rfl)
theorem dX0_draws_22 : decode cX0_draws 22 = .ok (.aload_n 0, 1) := dk_42 (dk_at dksX0_draws_0 22 rfl rfl)
theorem dX0_draws_23 : decode cX0_draws 23 = .ok (.getfield 422, 3) := dk_180 1 166 (dk_at dksX0_draws_1 0 rfl rfl)
theorem dX0_draws_26 : decode cX0_draws 26 = .ok (.ldc_w 431, 3) := dk_19 1 175 (dk_at dksX0_draws_1 3 rfl rfl)
theorem dX0_draws_29 : decode cX0_draws 29 = .ok (.idiv, 1) := dk_108 (dk_at dksX0_draws_1 6 rfl rfl)
theorem dX0_draws_30 : decode cX0_draws 30 = .ok (.iload_n 1, 1) := dk_27 (dk_at dksX0_draws_1 7 rfl rfl)
theorem dX0_draws_31 : decode cX0_draws 31 = .ok (.irem, 1) := dk_112 (dk_at dksX0_draws_1 8 rfl rfl)
theorem dX0_draws_32 : decode cX0_draws 32 = .ok (.ireturn, 1) := dk_172 (dk_at dksX0_draws_1 9 rfl rfl)
abbrev cX0_count : ByteArray := prog_1_method_80_code
def yX0_count : MethodName := ⟨RX0, "count", "(I)I"⟩
def dkwX0_count_4 : List UInt8 := [172, 42, 180, 1, 166, 172, 42, 180, 0, 139, 172, 2, 172]
abbrev dktX0_count_4 : List UInt8 := dkwX0_count_4 ++ []
def dkwX0_count_3 : List UInt8 := [42, 182, 0, 227, 172, 42, 180, 0, 154, 172, 42, 180, 0, 157, 172, 42, 180, 0, 160, 172, 42, 180, 0, 163]
abbrev dktX0_count_3 : List UInt8 := dkwX0_count_3 ++ dktX0_count_4
def dkwX0_count_2 : List UInt8 := [42, 180, 0, 12, 182, 0, 89, 172, 42, 180, 0, 18, 182, 0, 89, 172, 42, 180, 0, 21, 182, 0, 89, 172]
abbrev dktX0_count_2 : List UInt8 := dkwX0_count_2 ++ dktX0_count_3
def dkwX0_count_1 : List UInt8 := [170, 0, 0, 0, 0, 0, 114, 0, 0, 0, 0, 0, 0, 0, 9, 0, 0, 0, 55, 0, 0, 0, 63, 0, 0, 0, 71, 0, 0, 0, 79, 0, 0, 0, 84, 0, 0, 0, 89, 0, 0, 0, 94, 0, 0, 0, 99, 0, 0, 0, 104, 0, 0, 0, 109]
abbrev dktX0_count_1 : List UInt8 := dkwX0_count_1 ++ dktX0_count_2
def dkwX0_count_0 : List UInt8 := [27]
abbrev dktX0_count_0 : List UInt8 := dkwX0_count_0 ++ dktX0_count_1
theorem dksX0_count_0 : cX0_count.data.toList.drop 0 = dktX0_count_0 := by decide +kernel
theorem dksX0_count_1 : cX0_count.data.toList.drop 1 = dktX0_count_1 := dk_seg dksX0_count_0 1 rfl rfl
theorem dksX0_count_2 : cX0_count.data.toList.drop 56 = dktX0_count_2 := dk_seg dksX0_count_1 55 rfl rfl
theorem dksX0_count_3 : cX0_count.data.toList.drop 80 = dktX0_count_3 := dk_seg dksX0_count_2 24 rfl rfl
theorem dksX0_count_4 : cX0_count.data.toList.drop 104 = dktX0_count_4 := dk_seg dksX0_count_3 24 rfl rfl
theorem dX0_count_0 : decode cX0_count 0 = .ok (.iload_n 1, 1) := dk_27 (dk_at dksX0_count_0 0 rfl rfl)
theorem dX0_count_1 : decode cX0_count 1 = .ok (.tableswitch 114 0 9 #[55, 63, 71, 79, 84, 89, 94, 99, 104, 109], 55) := by decide +kernel
theorem dX0_count_56 : decode cX0_count 56 = .ok (.aload_n 0, 1) := dk_42 (dk_at dksX0_count_2 0 rfl rfl)
theorem dX0_count_57 : decode cX0_count 57 = .ok (.getfield 12, 3) := dk_180 0 12 (dk_at dksX0_count_2 1 rfl rfl)
theorem dX0_count_60 : decode cX0_count 60 = .ok (.invokevirtual 89, 3) := dk_182 0 89 (dk_at dksX0_count_2 4 rfl rfl)
theorem dX0_count_63 : decode cX0_count 63 = .ok (.ireturn, 1) := dk_172 (dk_at dksX0_count_2 7 rfl rfl)
theorem dX0_count_64 : decode cX0_count 64 = .ok (.aload_n 0, 1) := dk_42 (dk_at dksX0_count_2 8 rfl rfl)
theorem dX0_count_65 : decode cX0_count 65 = .ok (.getfield 18, 3) := dk_180 0 18 (dk_at dksX0_count_2 9 rfl rfl)
theorem dX0_count_68 : decode cX0_count 68 = .ok (.invokevirtual 89, 3) := dk_182 0 89 (dk_at dksX0_count_2 12 rfl rfl)
theorem dX0_count_71 : decode cX0_count 71 = .ok (.ireturn, 1) := dk_172 (dk_at dksX0_count_2 15 rfl rfl)
theorem dX0_count_72 : decode cX0_count 72 = .ok (.aload_n 0, 1) := dk_42 (dk_at dksX0_count_2 16 rfl rfl)
theorem dX0_count_73 : decode cX0_count 73 = .ok (.getfield 21, 3) := dk_180 0 21 (dk_at dksX0_count_2 17 rfl rfl)
theorem dX0_count_76 : decode cX0_count 76 = .ok (.invokevirtual 89, 3) := dk_182 0 89 (dk_at dksX0_count_2 20 rfl rfl)
theorem dX0_count_79 : decode cX0_count 79 = .ok (.ireturn, 1) := dk_172 (dk_at dksX0_count_2 23 rfl rfl)
theorem dX0_count_80 : decode cX0_count 80 = .ok (.aload_n 0, 1) := dk_42 (dk_at dksX0_count_3 0 rfl rfl)
theorem dX0_count_81 : decode cX0_count 81 = .ok (.invokevirtual 227, 3) := dk_182 0 227 (dk_at dksX0_count_3 1 rfl rfl)
theorem dX0_count_84 : decode cX0_count 84 = .ok (.ireturn, 1) := dk_172 (dk_at dksX0_count_3 4 rfl rfl)
theorem dX0_count_85 : decode cX0_count 85 = .ok (.aload_n 0, 1) := dk_42 (dk_at dksX0_count_3 5 rfl rfl)
theorem dX0_count_86 : decode cX0_count 86 = .ok (.getfield 154, 3) := dk_180 0 154 (dk_at dksX0_count_3 6 rfl rfl)
theorem dX0_count_89 : decode cX0_count 89 = .ok (.ireturn, 1) := dk_172 (dk_at dksX0_count_3 9 rfl rfl)
theorem dX0_count_90 : decode cX0_count 90 = .ok (.aload_n 0, 1) := dk_42 (dk_at dksX0_count_3 10 rfl rfl)
theorem dX0_count_91 : decode cX0_count 91 = .ok (.getfield 157, 3) := dk_180 0 157 (dk_at dksX0_count_3 11 rfl rfl)
theorem dX0_count_94 : decode cX0_count 94 = .ok (.ireturn, 1) := dk_172 (dk_at dksX0_count_3 14 rfl rfl)
theorem dX0_count_95 : decode cX0_count 95 = .ok (.aload_n 0, 1) := dk_42 (dk_at dksX0_count_3 15 rfl rfl)
theorem dX0_count_96 : decode cX0_count 96 = .ok (.getfield 160, 3) := dk_180 0 160 (dk_at dksX0_count_3 16 rfl rfl)
theorem dX0_count_99 : decode cX0_count 99 = .ok (.ireturn, 1) := dk_172 (dk_at dksX0_count_3 19 rfl rfl)
theorem dX0_count_100 : decode cX0_count 100 = .ok (.aload_n 0, 1) := dk_42 (dk_at dksX0_count_3 20 rfl rfl)
theorem dX0_count_101 : decode cX0_count 101 = .ok (.getfield 163, 3) := dk_180 0 163 (dk_at dksX0_count_3 21 rfl rfl)
theorem dX0_count_104 : decode cX0_count 104 = .ok (.ireturn, 1) := dk_172 (dk_at dksX0_count_4 0 rfl rfl)
theorem dX0_count_105 : decode cX0_count 105 = .ok (.aload_n 0, 1) := dk_42 (dk_at dksX0_count_4 1 rfl rfl)
theorem dX0_count_106 : decode cX0_count 106 = .ok (.getfield 422, 3) := dk_180 1 166 (dk_at dksX0_count_4 2 rfl rfl)
theorem dX0_count_109 : decode cX0_count 109 = .ok (.ireturn, 1) := dk_172 (dk_at dksX0_count_4 5 rfl rfl)
theorem dX0_count_110 : decode cX0_count 110 = .ok (.aload_n 0, 1) := dk_42 (dk_at dksX0_count_4 6 rfl rfl)
theorem dX0_count_111 : decode cX0_count 111 = .ok (.getfield 139, 3) := dk_180 0 139 (dk_at dksX0_count_4 7 rfl rfl)
theorem dX0_count_114 : decode cX0_count 114 = .ok (.ireturn, 1) := dk_172 (dk_at dksX0_count_4 10 rfl rfl)
theorem dX0_count_115 : decode cX0_count 115 = .ok (.iconst (-1), 1) := dk_2 (dk_at dksX0_count_4 11 rfl rfl)
theorem dX0_count_116 : decode cX0_count 116 = .ok (.ireturn, 1) := dk_172 (dk_at dksX0_count_4 12 rfl rfl)
abbrev cX0_image : ByteArray := prog_1_method_81_code
def yX0_image : MethodName := ⟨RX0, "image", "(I)I"⟩
def dkwX0_image_2 : List UInt8 := [180, 0, 157, 172]
abbrev dktX0_image_2 : List UInt8 := dkwX0_image_2 ++ []
def dkwX0_image_1 : List UInt8 := [180, 0, 85, 27, 187, 0, 83, 89, 42, 183, 1, 183, 83, 42, 180, 0, 85, 27, 50, 182, 1, 184, 42]
abbrev dktX0_image_1 : List UInt8 := dkwX0_image_1 ++ dktX0_image_2
def dkwX0_image_0 : List UInt8 := [27, 133, 9, 20, 1, 149, 184, 0, 93, 154, 0, 5, 2, 172, 42, 180, 0, 85, 27, 50, 199, 0, 17, 42]
abbrev dktX0_image_0 : List UInt8 := dkwX0_image_0 ++ dktX0_image_1
theorem dksX0_image_0 : cX0_image.data.toList.drop 0 = dktX0_image_0 := by decide +kernel
theorem dksX0_image_1 : cX0_image.data.toList.drop 24 = dktX0_image_1 := dk_seg dksX0_image_0 24 rfl rfl
theorem dksX0_image_2 : cX0_image.data.toList.drop 47 = dktX0_image_2 := dk_seg dksX0_image_1 23 rfl rfl
theorem dX0_image_0 : decode cX0_image 0 = .ok (.iload_n 1, 1) := dk_27 (dk_at dksX0_image_0 0 rfl rfl)
theorem dX0_image_1 : decode cX0_image 1 = .ok (.i2l, 1) := dk_133 (dk_at dksX0_image_0 1 rfl rfl)
theorem dX0_image_2 : decode cX0_image 2 = .ok (.lconst 0, 1) := dk_9 (dk_at dksX0_image_0 2 rfl rfl)
theorem dX0_image_3 : decode cX0_image 3 = .ok (.ldc2_w 405, 3) := dk_20 1 149 (dk_at dksX0_image_0 3 rfl rfl)
theorem dX0_image_6 : decode cX0_image 6 = .ok (.invokestatic 93, 3) := dk_184 0 93 (dk_at dksX0_image_0 6 rfl rfl)
theorem dX0_image_9 : decode cX0_image 9 = .ok (.ifCond .ne 5, 3) := dk_154 0 5 (dk_at dksX0_image_0 9 rfl rfl)
theorem dX0_image_12 : decode cX0_image 12 = .ok (.iconst (-1), 1) := dk_2 (dk_at dksX0_image_0 12 rfl rfl)
theorem dX0_image_13 : decode cX0_image 13 = .ok (.ireturn, 1) := dk_172 (dk_at dksX0_image_0 13 rfl rfl)
theorem dX0_image_14 : decode cX0_image 14 = .ok (.aload_n 0, 1) := dk_42 (dk_at dksX0_image_0 14 rfl rfl)
theorem dX0_image_15 : decode cX0_image 15 = .ok (.getfield 85, 3) := dk_180 0 85 (dk_at dksX0_image_0 15 rfl rfl)
theorem dX0_image_18 : decode cX0_image 18 = .ok (.iload_n 1, 1) := dk_27 (dk_at dksX0_image_0 18 rfl rfl)
theorem dX0_image_19 : decode cX0_image 19 = .ok (.aaload, 1) := dk_50 (dk_at dksX0_image_0 19 rfl rfl)
theorem dX0_image_20 : decode cX0_image 20 = .ok (.ifnonnull 17, 3) := dk_199 0 17 (dk_at dksX0_image_0 20 rfl rfl)
theorem dX0_image_23 : decode cX0_image 23 = .ok (.aload_n 0, 1) := dk_42 (dk_at dksX0_image_0 23 rfl rfl)
theorem dX0_image_24 : decode cX0_image 24 = .ok (.getfield 85, 3) := dk_180 0 85 (dk_at dksX0_image_1 0 rfl rfl)
theorem dX0_image_27 : decode cX0_image 27 = .ok (.iload_n 1, 1) := dk_27 (dk_at dksX0_image_1 3 rfl rfl)
theorem dX0_image_28 : decode cX0_image 28 = .ok (.new 83, 3) := dk_187 0 83 (dk_at dksX0_image_1 4 rfl rfl)
theorem dX0_image_31 : decode cX0_image 31 = .ok (.dup, 1) := dk_89 (dk_at dksX0_image_1 7 rfl rfl)
theorem dX0_image_32 : decode cX0_image 32 = .ok (.aload_n 0, 1) := dk_42 (dk_at dksX0_image_1 8 rfl rfl)
theorem dX0_image_33 : decode cX0_image 33 = .ok (.invokespecial 439, 3) := dk_183 1 183 (dk_at dksX0_image_1 9 rfl rfl)
theorem dX0_image_36 : decode cX0_image 36 = .ok (.aastore, 1) := dk_83 (dk_at dksX0_image_1 12 rfl rfl)
theorem dX0_image_37 : decode cX0_image 37 = .ok (.aload_n 0, 1) := dk_42 (dk_at dksX0_image_1 13 rfl rfl)
theorem dX0_image_38 : decode cX0_image 38 = .ok (.getfield 85, 3) := dk_180 0 85 (dk_at dksX0_image_1 14 rfl rfl)
theorem dX0_image_41 : decode cX0_image 41 = .ok (.iload_n 1, 1) := dk_27 (dk_at dksX0_image_1 17 rfl rfl)
theorem dX0_image_42 : decode cX0_image 42 = .ok (.aaload, 1) := dk_50 (dk_at dksX0_image_1 18 rfl rfl)
theorem dX0_image_43 : decode cX0_image 43 = .ok (.invokevirtual 440, 3) := dk_182 1 184 (dk_at dksX0_image_1 19 rfl rfl)
theorem dX0_image_46 : decode cX0_image 46 = .ok (.aload_n 0, 1) := dk_42 (dk_at dksX0_image_1 22 rfl rfl)
theorem dX0_image_47 : decode cX0_image 47 = .ok (.getfield 157, 3) := dk_180 0 157 (dk_at dksX0_image_2 0 rfl rfl)
theorem dX0_image_50 : decode cX0_image 50 = .ok (.ireturn, 1) := dk_172 (dk_at dksX0_image_2 3 rfl rfl)
abbrev cX0_back : ByteArray := prog_1_method_82_code
def yX0_back : MethodName := ⟨RX0, "back", "(I)I"⟩
def dkwX0_back_1 : List UInt8 := [180, 0, 85, 27, 50, 182, 1, 185, 42, 180, 0, 157, 172]
abbrev dktX0_back_1 : List UInt8 := dkwX0_back_1 ++ []
def dkwX0_back_0 : List UInt8 := [27, 133, 9, 20, 1, 149, 184, 0, 93, 153, 0, 12, 42, 180, 0, 85, 27, 50, 199, 0, 5, 2, 172, 42]
abbrev dktX0_back_0 : List UInt8 := dkwX0_back_0 ++ dktX0_back_1
theorem dksX0_back_0 : cX0_back.data.toList.drop 0 = dktX0_back_0 := by decide +kernel
theorem dksX0_back_1 : cX0_back.data.toList.drop 24 = dktX0_back_1 := dk_seg dksX0_back_0 24 rfl rfl
theorem dX0_back_0 : decode cX0_back 0 = .ok (.iload_n 1, 1) := dk_27 (dk_at dksX0_back_0 0 rfl rfl)
theorem dX0_back_1 : decode cX0_back 1 = .ok (.i2l, 1) := dk_133 (dk_at dksX0_back_0 1 rfl rfl)
theorem dX0_back_2 : decode cX0_back 2 = .ok (.lconst 0, 1) := dk_9 (dk_at dksX0_back_0 2 rfl rfl)
theorem dX0_back_3 : decode cX0_back 3 = .ok (.ldc2_w 405, 3) := dk_20 1 149 (dk_at dksX0_back_0 3 rfl rfl)
theorem dX0_back_6 : decode cX0_back 6 = .ok (.invokestatic 93, 3) := dk_184 0 93 (dk_at dksX0_back_0 6 rfl rfl)
theorem dX0_back_9 : decode cX0_back 9 = .ok (.ifCond .eq 12, 3) := dk_153 0 12 (dk_at dksX0_back_0 9 rfl rfl)
theorem dX0_back_12 : decode cX0_back 12 = .ok (.aload_n 0, 1) := dk_42 (dk_at dksX0_back_0 12 rfl rfl)
theorem dX0_back_13 : decode cX0_back 13 = .ok (.getfield 85, 3) := dk_180 0 85 (dk_at dksX0_back_0 13 rfl rfl)
theorem dX0_back_16 : decode cX0_back 16 = .ok (.iload_n 1, 1) := dk_27 (dk_at dksX0_back_0 16 rfl rfl)
theorem dX0_back_17 : decode cX0_back 17 = .ok (.aaload, 1) := dk_50 (dk_at dksX0_back_0 17 rfl rfl)
theorem dX0_back_18 : decode cX0_back 18 = .ok (.ifnonnull 5, 3) := dk_199 0 5 (dk_at dksX0_back_0 18 rfl rfl)
theorem dX0_back_21 : decode cX0_back 21 = .ok (.iconst (-1), 1) := dk_2 (dk_at dksX0_back_0 21 rfl rfl)
theorem dX0_back_22 : decode cX0_back 22 = .ok (.ireturn, 1) := dk_172 (dk_at dksX0_back_0 22 rfl rfl)
theorem dX0_back_23 : decode cX0_back 23 = .ok (.aload_n 0, 1) := dk_42 (dk_at dksX0_back_0 23 rfl rfl)
theorem dX0_back_24 : decode cX0_back 24 = .ok (.getfield 85, 3) := dk_180 0 85 (dk_at dksX0_back_1 0 rfl rfl)
theorem dX0_back_27 : decode cX0_back 27 = .ok (.iload_n 1, 1) := dk_27 (dk_at dksX0_back_1 3 rfl rfl)
theorem dX0_back_28 : decode cX0_back 28 = .ok (.aaload, 1) := dk_50 (dk_at dksX0_back_1 4 rfl rfl)
theorem dX0_back_29 : decode cX0_back 29 = .ok (.invokevirtual 441, 3) := dk_182 1 185 (dk_at dksX0_back_1 5 rfl rfl)
theorem dX0_back_32 : decode cX0_back 32 = .ok (.aload_n 0, 1) := dk_42 (dk_at dksX0_back_1 8 rfl rfl)
theorem dX0_back_33 : decode cX0_back 33 = .ok (.getfield 157, 3) := dk_180 0 157 (dk_at dksX0_back_1 9 rfl rfl)
theorem dX0_back_36 : decode cX0_back 36 = .ok (.ireturn, 1) := dk_172 (dk_at dksX0_back_1 12 rfl rfl)
theorem q143 : (Jvm.Cond.initialized "TurningRoads") ∈ lw_all := lw_g (lw_at lw_m1 1 rfl) rfl
theorem q178 : (Jvm.Cond.instantiable "TurningRoads" (34 : Nat)) ∈ lw_all := lw_g (lw_at lw_m1 36 rfl) rfl
theorem q180 : (Jvm.Cond.instanceMethod ({ cls := "TurningRoads", name := "<init>", desc := "()V" } : Jvm.MethodName)) ∈ lw_all := lw_g (lw_at lw_m1 38 rfl) rfl
theorem q181 : (Jvm.Cond.code ({ cls := "TurningRoads", name := "<init>", desc := "()V" } : Jvm.MethodName) prog_1_method_3_code (1 : Nat) (Option.none : Option Jvm.ClassFile.FieldType)) ∈ lw_all := lw_g (lw_at lw_m1 39 rfl) rfl
theorem q182 : (Jvm.Cond.methodLink "TurningRoads" (1 : Nat) ({ cls := "java/lang/Object", name := "<init>", desc := "()V" } : Jvm.MethodName)) ∈ lw_all := lw_g (lw_at lw_m1 40 rfl) rfl
theorem q185 : (Jvm.Cond.classLink "TurningRoads" (7 : Nat) "java/util/ArrayList") ∈ lw_all := lw_g (lw_at lw_m1 43 rfl) rfl
theorem q187 : (Jvm.Cond.methodLink "TurningRoads" (9 : Nat) ({ cls := "java/util/ArrayList", name := "<init>", desc := "(I)V" } : Jvm.MethodName)) ∈ lw_all := lw_g (lw_at lw_m1 45 rfl) rfl
theorem q213 : (Jvm.Cond.classLink "TurningRoads" (24 : Nat) "TurningRoads$Wrong") ∈ lw_all := lw_g (lw_at lw_m1 71 rfl) rfl
theorem q250 : (Jvm.Cond.methodLinkNest "TurningRoads" (26 : Nat) ({ cls := "TurningRoads$Wrong", name := "<init>", desc := "()V" } : Jvm.MethodName) "TurningRoads") ∈ lw_tbl := lw_at lw_m1 108 rfl
theorem q257 : (Jvm.Cond.fieldLinkNest "TurningRoads" (136 : Nat) "TurningRoads$Wrong" "number" "I" "TurningRoads") ∈ lw_tbl := lw_at lw_m1 115 rfl
theorem q272 : (Jvm.Cond.fieldLink "TurningRoads" (67 : Nat) "TurningRoads" "NAMES" "[Ljava/lang/String;") ∈ lw_all := lw_g (lw_at lw_m1 130 rfl) rfl
theorem q273 : (Jvm.Cond.laysStatic "TurningRoads" "NAMES" "[Ljava/lang/String;") ∈ lw_tbl := lw_at lw_m1 131 rfl
theorem q274 : (Jvm.Cond.classLink "TurningRoads" (74 : Nat) "TurningRoads$Kept") ∈ lw_all := lw_g (lw_at lw_m1 132 rfl) rfl
theorem q276 : (Jvm.Cond.methodLinkNest "TurningRoads" (76 : Nat) ({ cls := "TurningRoads$Kept", name := "<init>", desc := "(LTurningRoads;)V" } : Jvm.MethodName) "TurningRoads") ∈ lw_tbl := lw_at lw_m1 134 rfl
theorem q289 : (Jvm.Cond.fieldLinkNest "TurningRoads" (416 : Nat) "TurningRoads$Kept" "all" "I" "TurningRoads") ∈ lw_tbl := lw_at lw_m1 147 rfl
theorem q292 : (Jvm.Cond.fieldLinkNest "TurningRoads" (413 : Nat) "TurningRoads$Kept" "meetings" "I" "TurningRoads") ∈ lw_tbl := lw_at lw_m1 150 rfl
theorem q322 : (Jvm.Cond.classLink "TurningRoads" (83 : Nat) "TurningRoads$Image") ∈ lw_all := lw_g (lw_at lw_m1 180 rfl) rfl
theorem q326 : (Jvm.Cond.fieldLink "TurningRoads" (12 : Nat) "TurningRoads" "ways" "Ljava/util/ArrayList;") ∈ lw_all := lw_g (lw_at lw_m1 184 rfl) rfl
theorem q329 : (Jvm.Cond.fieldLink "TurningRoads" (18 : Nat) "TurningRoads" "goers" "Ljava/util/ArrayList;") ∈ lw_all := lw_g (lw_at lw_m1 187 rfl) rfl
theorem q331 : (Jvm.Cond.fieldLink "TurningRoads" (154 : Nat) "TurningRoads" "goings" "I") ∈ lw_all := lw_g (lw_at lw_m1 189 rfl) rfl
theorem q333 : (Jvm.Cond.fieldLink "TurningRoads" (157 : Nat) "TurningRoads" "clock" "I") ∈ lw_all := lw_g (lw_at lw_m1 191 rfl) rfl
theorem q335 : (Jvm.Cond.fieldLink "TurningRoads" (160 : Nat) "TurningRoads" "met" "I") ∈ lw_all := lw_g (lw_at lw_m1 193 rfl) rfl
theorem q337 : (Jvm.Cond.fieldLink "TurningRoads" (422 : Nat) "TurningRoads" "draw" "I") ∈ lw_all := lw_g (lw_at lw_m1 195 rfl) rfl
theorem q338 : (Jvm.Cond.fieldLink "TurningRoads" (21 : Nat) "TurningRoads" "rules" "Ljava/util/ArrayList;") ∈ lw_all := lw_g (lw_at lw_m1 196 rfl) rfl
theorem q340 : (Jvm.Cond.fieldLink "TurningRoads" (27 : Nat) "TurningRoads" "wrong" "LTurningRoads$Wrong;") ∈ lw_all := lw_g (lw_at lw_m1 198 rfl) rfl
theorem q342 : (Jvm.Cond.fieldLink "TurningRoads" (31 : Nat) "TurningRoads" "tape" "[B") ∈ lw_all := lw_g (lw_at lw_m1 200 rfl) rfl
theorem q344 : (Jvm.Cond.fieldLink "TurningRoads" (139 : Nat) "TurningRoads" "taped" "I") ∈ lw_all := lw_g (lw_at lw_m1 202 rfl) rfl
theorem q345 : (Jvm.Cond.fieldLink "TurningRoads" (246 : Nat) "TurningRoads" "steps" "[I") ∈ lw_all := lw_g (lw_at lw_m1 203 rfl) rfl
theorem q346 : (Jvm.Cond.fieldLink "TurningRoads" (250 : Nat) "TurningRoads" "queue" "[I") ∈ lw_all := lw_g (lw_at lw_m1 204 rfl) rfl
theorem q347 : (Jvm.Cond.fieldLink "TurningRoads" (35 : Nat) "TurningRoads" "chosen" "[I") ∈ lw_all := lw_g (lw_at lw_m1 205 rfl) rfl
theorem q348 : (Jvm.Cond.fieldLink "TurningRoads" (233 : Nat) "TurningRoads" "many" "I") ∈ lw_all := lw_g (lw_at lw_m1 206 rfl) rfl
theorem q349 : (Jvm.Cond.fieldLink "TurningRoads" (236 : Nat) "TurningRoads" "shut" "I") ∈ lw_all := lw_g (lw_at lw_m1 207 rfl) rfl
theorem q350 : (Jvm.Cond.fieldLink "TurningRoads" (253 : Nat) "TurningRoads" "queued" "I") ∈ lw_all := lw_g (lw_at lw_m1 208 rfl) rfl
theorem q351 : (Jvm.Cond.fieldLink "TurningRoads" (39 : Nat) "TurningRoads" "outs" "[I") ∈ lw_all := lw_g (lw_at lw_m1 209 rfl) rfl
theorem q352 : (Jvm.Cond.fieldLink "TurningRoads" (42 : Nat) "TurningRoads" "wanted" "[I") ∈ lw_all := lw_g (lw_at lw_m1 210 rfl) rfl
theorem q353 : (Jvm.Cond.fieldLink "TurningRoads" (45 : Nat) "TurningRoads" "lasts" "[I") ∈ lw_all := lw_g (lw_at lw_m1 211 rfl) rfl
theorem q354 : (Jvm.Cond.fieldLink "TurningRoads" (309 : Nat) "TurningRoads" "itsPlace" "I") ∈ lw_all := lw_g (lw_at lw_m1 212 rfl) rfl
theorem q355 : (Jvm.Cond.fieldLink "TurningRoads" (312 : Nat) "TurningRoads" "itsDirections" "I") ∈ lw_all := lw_g (lw_at lw_m1 213 rfl) rfl
theorem q356 : (Jvm.Cond.fieldLink "TurningRoads" (315 : Nat) "TurningRoads" "itsGoings" "I") ∈ lw_all := lw_g (lw_at lw_m1 214 rfl) rfl
theorem q357 : (Jvm.Cond.fieldLink "TurningRoads" (318 : Nat) "TurningRoads" "passed" "I") ∈ lw_all := lw_g (lw_at lw_m1 215 rfl) rfl
theorem q358 : (Jvm.Cond.fieldLink "TurningRoads" (48 : Nat) "TurningRoads" "orders" "[J") ∈ lw_all := lw_g (lw_at lw_m1 216 rfl) rfl
theorem q359 : (Jvm.Cond.fieldLink "TurningRoads" (52 : Nat) "TurningRoads" "situations" "[I") ∈ lw_all := lw_g (lw_at lw_m1 217 rfl) rfl
theorem q361 : (Jvm.Cond.fieldLink "TurningRoads" (55 : Nat) "TurningRoads" "rowGoer" "[I") ∈ lw_all := lw_g (lw_at lw_m1 219 rfl) rfl
theorem q363 : (Jvm.Cond.fieldLink "TurningRoads" (58 : Nat) "TurningRoads" "rowWay" "[I") ∈ lw_all := lw_g (lw_at lw_m1 221 rfl) rfl
theorem q364 : (Jvm.Cond.fieldLink "TurningRoads" (61 : Nat) "TurningRoads" "stood" "[I") ∈ lw_all := lw_g (lw_at lw_m1 222 rfl) rfl
theorem q365 : (Jvm.Cond.fieldLink "TurningRoads" (64 : Nat) "TurningRoads" "stoodOnce" "[I") ∈ lw_all := lw_g (lw_at lw_m1 223 rfl) rfl
theorem q367 : (Jvm.Cond.fieldLink "TurningRoads" (163 : Nat) "TurningRoads" "rowMany" "I") ∈ lw_all := lw_g (lw_at lw_m1 225 rfl) rfl
theorem q368 : (Jvm.Cond.fieldLink "TurningRoads" (338 : Nat) "TurningRoads" "stoodDirections" "I") ∈ lw_all := lw_g (lw_at lw_m1 226 rfl) rfl
theorem q369 : (Jvm.Cond.fieldLink "TurningRoads" (71 : Nat) "TurningRoads" "words" "[J") ∈ lw_all := lw_g (lw_at lw_m1 227 rfl) rfl
theorem q370 : (Jvm.Cond.fieldLink "TurningRoads" (79 : Nat) "TurningRoads" "kept" "LTurningRoads$Kept;") ∈ lw_all := lw_g (lw_at lw_m1 228 rfl) rfl
theorem q371 : (Jvm.Cond.fieldLink "TurningRoads" (85 : Nat) "TurningRoads" "images" "[LTurningRoads$Image;") ∈ lw_all := lw_g (lw_at lw_m1 229 rfl) rfl
theorem q372 : (Jvm.Cond.lays "TurningRoads" "TurningRoads" "ways" "Ljava/util/ArrayList;") ∈ lw_all := lw_g (lw_at lw_m1 230 rfl) rfl
theorem q373 : (Jvm.Cond.soleField "TurningRoads" "ways") ∈ lw_all := lw_g (lw_at lw_m1 231 rfl) rfl
theorem q374 : (Jvm.Cond.lays "TurningRoads" "TurningRoads" "goers" "Ljava/util/ArrayList;") ∈ lw_all := lw_g (lw_at lw_m1 232 rfl) rfl
theorem q375 : (Jvm.Cond.soleField "TurningRoads" "goers") ∈ lw_all := lw_g (lw_at lw_m1 233 rfl) rfl
theorem q376 : (Jvm.Cond.lays "TurningRoads" "TurningRoads" "goings" "I") ∈ lw_all := lw_g (lw_at lw_m1 234 rfl) rfl
theorem q377 : (Jvm.Cond.soleField "TurningRoads" "goings") ∈ lw_all := lw_g (lw_at lw_m1 235 rfl) rfl
theorem q378 : (Jvm.Cond.lays "TurningRoads" "TurningRoads" "clock" "I") ∈ lw_all := lw_g (lw_at lw_m1 236 rfl) rfl
theorem q379 : (Jvm.Cond.soleField "TurningRoads" "clock") ∈ lw_all := lw_g (lw_at lw_m1 237 rfl) rfl
theorem q380 : (Jvm.Cond.lays "TurningRoads" "TurningRoads" "met" "I") ∈ lw_all := lw_g (lw_at lw_m1 238 rfl) rfl
theorem q381 : (Jvm.Cond.soleField "TurningRoads" "met") ∈ lw_all := lw_g (lw_at lw_m1 239 rfl) rfl
theorem q382 : (Jvm.Cond.lays "TurningRoads" "TurningRoads" "draw" "I") ∈ lw_all := lw_g (lw_at lw_m2 0 rfl) rfl
theorem q383 : (Jvm.Cond.soleField "TurningRoads" "draw") ∈ lw_all := lw_g (lw_at lw_m2 1 rfl) rfl
theorem q384 : (Jvm.Cond.laysFinal "TurningRoads" "TurningRoads" "rules" "Ljava/util/ArrayList;") ∈ lw_all := lw_g (lw_at lw_m2 2 rfl) rfl
theorem q385 : (Jvm.Cond.soleField "TurningRoads" "rules") ∈ lw_all := lw_g (lw_at lw_m2 3 rfl) rfl
theorem q386 : (Jvm.Cond.laysFinal "TurningRoads" "TurningRoads" "wrong" "LTurningRoads$Wrong;") ∈ lw_all := lw_g (lw_at lw_m2 4 rfl) rfl
theorem q387 : (Jvm.Cond.soleField "TurningRoads" "wrong") ∈ lw_all := lw_g (lw_at lw_m2 5 rfl) rfl
theorem q388 : (Jvm.Cond.laysFinal "TurningRoads" "TurningRoads" "tape" "[B") ∈ lw_all := lw_g (lw_at lw_m2 6 rfl) rfl
theorem q389 : (Jvm.Cond.soleField "TurningRoads" "tape") ∈ lw_all := lw_g (lw_at lw_m2 7 rfl) rfl
theorem q390 : (Jvm.Cond.lays "TurningRoads" "TurningRoads" "taped" "I") ∈ lw_all := lw_g (lw_at lw_m2 8 rfl) rfl
theorem q391 : (Jvm.Cond.soleField "TurningRoads" "taped") ∈ lw_all := lw_g (lw_at lw_m2 9 rfl) rfl
theorem q392 : (Jvm.Cond.lays "TurningRoads" "TurningRoads" "steps" "[I") ∈ lw_all := lw_g (lw_at lw_m2 10 rfl) rfl
theorem q393 : (Jvm.Cond.soleField "TurningRoads" "steps") ∈ lw_all := lw_g (lw_at lw_m2 11 rfl) rfl
theorem q394 : (Jvm.Cond.lays "TurningRoads" "TurningRoads" "queue" "[I") ∈ lw_all := lw_g (lw_at lw_m2 12 rfl) rfl
theorem q395 : (Jvm.Cond.soleField "TurningRoads" "queue") ∈ lw_all := lw_g (lw_at lw_m2 13 rfl) rfl
theorem q396 : (Jvm.Cond.laysFinal "TurningRoads" "TurningRoads" "chosen" "[I") ∈ lw_all := lw_g (lw_at lw_m2 14 rfl) rfl
theorem q397 : (Jvm.Cond.soleField "TurningRoads" "chosen") ∈ lw_all := lw_g (lw_at lw_m2 15 rfl) rfl
theorem q398 : (Jvm.Cond.lays "TurningRoads" "TurningRoads" "many" "I") ∈ lw_all := lw_g (lw_at lw_m2 16 rfl) rfl
theorem q399 : (Jvm.Cond.soleField "TurningRoads" "many") ∈ lw_all := lw_g (lw_at lw_m2 17 rfl) rfl
theorem q400 : (Jvm.Cond.lays "TurningRoads" "TurningRoads" "shut" "I") ∈ lw_all := lw_g (lw_at lw_m2 18 rfl) rfl
theorem q401 : (Jvm.Cond.soleField "TurningRoads" "shut") ∈ lw_all := lw_g (lw_at lw_m2 19 rfl) rfl
theorem q402 : (Jvm.Cond.lays "TurningRoads" "TurningRoads" "queued" "I") ∈ lw_all := lw_g (lw_at lw_m2 20 rfl) rfl
theorem q403 : (Jvm.Cond.soleField "TurningRoads" "queued") ∈ lw_all := lw_g (lw_at lw_m2 21 rfl) rfl
theorem q404 : (Jvm.Cond.laysFinal "TurningRoads" "TurningRoads" "outs" "[I") ∈ lw_all := lw_g (lw_at lw_m2 22 rfl) rfl
theorem q405 : (Jvm.Cond.soleField "TurningRoads" "outs") ∈ lw_all := lw_g (lw_at lw_m2 23 rfl) rfl
theorem q406 : (Jvm.Cond.laysFinal "TurningRoads" "TurningRoads" "wanted" "[I") ∈ lw_all := lw_g (lw_at lw_m2 24 rfl) rfl
theorem q407 : (Jvm.Cond.soleField "TurningRoads" "wanted") ∈ lw_all := lw_g (lw_at lw_m2 25 rfl) rfl
theorem q408 : (Jvm.Cond.laysFinal "TurningRoads" "TurningRoads" "lasts" "[I") ∈ lw_all := lw_g (lw_at lw_m2 26 rfl) rfl
theorem q409 : (Jvm.Cond.soleField "TurningRoads" "lasts") ∈ lw_all := lw_g (lw_at lw_m2 27 rfl) rfl
theorem q410 : (Jvm.Cond.lays "TurningRoads" "TurningRoads" "itsPlace" "I") ∈ lw_all := lw_g (lw_at lw_m2 28 rfl) rfl
theorem q411 : (Jvm.Cond.soleField "TurningRoads" "itsPlace") ∈ lw_all := lw_g (lw_at lw_m2 29 rfl) rfl
theorem q412 : (Jvm.Cond.lays "TurningRoads" "TurningRoads" "itsDirections" "I") ∈ lw_all := lw_g (lw_at lw_m2 30 rfl) rfl
theorem q413 : (Jvm.Cond.soleField "TurningRoads" "itsDirections") ∈ lw_all := lw_g (lw_at lw_m2 31 rfl) rfl
theorem q414 : (Jvm.Cond.lays "TurningRoads" "TurningRoads" "itsGoings" "I") ∈ lw_all := lw_g (lw_at lw_m2 32 rfl) rfl
theorem q415 : (Jvm.Cond.soleField "TurningRoads" "itsGoings") ∈ lw_all := lw_g (lw_at lw_m2 33 rfl) rfl
theorem q416 : (Jvm.Cond.lays "TurningRoads" "TurningRoads" "passed" "I") ∈ lw_all := lw_g (lw_at lw_m2 34 rfl) rfl
theorem q417 : (Jvm.Cond.soleField "TurningRoads" "passed") ∈ lw_all := lw_g (lw_at lw_m2 35 rfl) rfl
theorem q418 : (Jvm.Cond.laysFinal "TurningRoads" "TurningRoads" "orders" "[J") ∈ lw_all := lw_g (lw_at lw_m2 36 rfl) rfl
theorem q419 : (Jvm.Cond.soleField "TurningRoads" "orders") ∈ lw_all := lw_g (lw_at lw_m2 37 rfl) rfl
theorem q420 : (Jvm.Cond.laysFinal "TurningRoads" "TurningRoads" "situations" "[I") ∈ lw_all := lw_g (lw_at lw_m2 38 rfl) rfl
theorem q421 : (Jvm.Cond.soleField "TurningRoads" "situations") ∈ lw_all := lw_g (lw_at lw_m2 39 rfl) rfl
theorem q422 : (Jvm.Cond.laysFinal "TurningRoads" "TurningRoads" "rowGoer" "[I") ∈ lw_all := lw_g (lw_at lw_m2 40 rfl) rfl
theorem q423 : (Jvm.Cond.soleField "TurningRoads" "rowGoer") ∈ lw_all := lw_g (lw_at lw_m2 41 rfl) rfl
theorem q424 : (Jvm.Cond.laysFinal "TurningRoads" "TurningRoads" "rowWay" "[I") ∈ lw_all := lw_g (lw_at lw_m2 42 rfl) rfl
theorem q425 : (Jvm.Cond.soleField "TurningRoads" "rowWay") ∈ lw_all := lw_g (lw_at lw_m2 43 rfl) rfl
theorem q426 : (Jvm.Cond.laysFinal "TurningRoads" "TurningRoads" "stood" "[I") ∈ lw_all := lw_g (lw_at lw_m2 44 rfl) rfl
theorem q427 : (Jvm.Cond.soleField "TurningRoads" "stood") ∈ lw_all := lw_g (lw_at lw_m2 45 rfl) rfl
theorem q428 : (Jvm.Cond.laysFinal "TurningRoads" "TurningRoads" "stoodOnce" "[I") ∈ lw_all := lw_g (lw_at lw_m2 46 rfl) rfl
theorem q429 : (Jvm.Cond.soleField "TurningRoads" "stoodOnce") ∈ lw_all := lw_g (lw_at lw_m2 47 rfl) rfl
theorem q430 : (Jvm.Cond.lays "TurningRoads" "TurningRoads" "rowMany" "I") ∈ lw_all := lw_g (lw_at lw_m2 48 rfl) rfl
theorem q431 : (Jvm.Cond.soleField "TurningRoads" "rowMany") ∈ lw_all := lw_g (lw_at lw_m2 49 rfl) rfl
theorem q432 : (Jvm.Cond.lays "TurningRoads" "TurningRoads" "stoodDirections" "I") ∈ lw_all := lw_g (lw_at lw_m2 50 rfl) rfl
theorem q433 : (Jvm.Cond.soleField "TurningRoads" "stoodDirections") ∈ lw_all := lw_g (lw_at lw_m2 51 rfl) rfl
theorem q434 : (Jvm.Cond.laysFinal "TurningRoads" "TurningRoads" "words" "[J") ∈ lw_all := lw_g (lw_at lw_m2 52 rfl) rfl
theorem q435 : (Jvm.Cond.soleField "TurningRoads" "words") ∈ lw_all := lw_g (lw_at lw_m2 53 rfl) rfl
theorem q436 : (Jvm.Cond.laysFinal "TurningRoads" "TurningRoads" "kept" "LTurningRoads$Kept;") ∈ lw_all := lw_g (lw_at lw_m2 54 rfl) rfl
theorem q437 : (Jvm.Cond.soleField "TurningRoads" "kept") ∈ lw_all := lw_g (lw_at lw_m2 55 rfl) rfl
theorem q438 : (Jvm.Cond.laysFinal "TurningRoads" "TurningRoads" "images" "[LTurningRoads$Image;") ∈ lw_all := lw_g (lw_at lw_m2 56 rfl) rfl
theorem q439 : (Jvm.Cond.soleField "TurningRoads" "images") ∈ lw_all := lw_g (lw_at lw_m2 57 rfl) rfl
theorem q440 : (Jvm.Cond.superclass "TurningRoads" "java/lang/Object") ∈ lw_all := lw_g (lw_at lw_m2 58 rfl) rfl
theorem q442 : (Jvm.Cond.instanceMethod ({ cls := "TurningRoads", name := "feed", desc := "(IIIII)I" } : Jvm.MethodName)) ∈ lw_all := lw_g (lw_at lw_m2 60 rfl) rfl
theorem q443 : (Jvm.Cond.selects "TurningRoads" ({ cls := "TurningRoads", name := "feed", desc := "(IIIII)I" } : Jvm.MethodName) ({ cls := "TurningRoads", name := "feed", desc := "(IIIII)I" } : Jvm.MethodName)) ∈ lw_all := lw_g (lw_at lw_m2 61 rfl) rfl
theorem q444 : (Jvm.Cond.code ({ cls := "TurningRoads", name := "feed", desc := "(IIIII)I" } : Jvm.MethodName) prog_1_method_17_code (6 : Nat) (Option.some Jvm.ClassFile.FieldType.int)) ∈ lw_all := lw_g (lw_at lw_m2 62 rfl) rfl
theorem q445 : (Jvm.Cond.methodLink "TurningRoads" (142 : Nat) ({ cls := "TurningRoads", name := "put", desc := "(I)V" } : Jvm.MethodName)) ∈ lw_all := lw_g (lw_at lw_m2 63 rfl) rfl
theorem q446 : (Jvm.Cond.privateMethod ({ cls := "TurningRoads", name := "put", desc := "(I)V" } : Jvm.MethodName)) ∈ lw_tbl := lw_at lw_m2 64 rfl
theorem q447 : (Jvm.Cond.instanceMethod ({ cls := "TurningRoads", name := "put", desc := "(I)V" } : Jvm.MethodName)) ∈ lw_all := lw_g (lw_at lw_m2 65 rfl) rfl
theorem q448 : (Jvm.Cond.code ({ cls := "TurningRoads", name := "put", desc := "(I)V" } : Jvm.MethodName) prog_1_method_18_code (3 : Nat) (Option.none : Option Jvm.ClassFile.FieldType)) ∈ lw_all := lw_g (lw_at lw_m2 66 rfl) rfl
theorem q450 : (Jvm.Cond.instanceMethod ({ cls := "TurningRoads", name := "end", desc := "(I)I" } : Jvm.MethodName)) ∈ lw_all := lw_g (lw_at lw_m2 68 rfl) rfl
theorem q451 : (Jvm.Cond.selects "TurningRoads" ({ cls := "TurningRoads", name := "end", desc := "(I)I" } : Jvm.MethodName) ({ cls := "TurningRoads", name := "end", desc := "(I)I" } : Jvm.MethodName)) ∈ lw_all := lw_g (lw_at lw_m2 69 rfl) rfl
theorem q452 : (Jvm.Cond.code ({ cls := "TurningRoads", name := "end", desc := "(I)I" } : Jvm.MethodName) prog_1_method_19_code (2 : Nat) (Option.some Jvm.ClassFile.FieldType.int)) ∈ lw_all := lw_g (lw_at lw_m2 70 rfl) rfl
theorem q454 : (Jvm.Cond.instanceMethod ({ cls := "TurningRoads", name := "land", desc := "()I" } : Jvm.MethodName)) ∈ lw_all := lw_g (lw_at lw_m2 72 rfl) rfl
theorem q455 : (Jvm.Cond.selects "TurningRoads" ({ cls := "TurningRoads", name := "land", desc := "()I" } : Jvm.MethodName) ({ cls := "TurningRoads", name := "land", desc := "()I" } : Jvm.MethodName)) ∈ lw_all := lw_g (lw_at lw_m2 73 rfl) rfl
theorem q456 : (Jvm.Cond.codeWith ({ cls := "TurningRoads", name := "land", desc := "()I" } : Jvm.MethodName) prog_1_method_20_code (5 : Nat) (Option.some Jvm.ClassFile.FieldType.int) [((0 : Nat), (108 : Nat), (115 : Nat), (24 : Nat)), ((0 : Nat), (108 : Nat), (131 : Nat), (0 : Nat)), ((115 : Nat), (124 : Nat), (131 : Nat), (0 : Nat)), ((131 : Nat), (133 : Nat), (131 : Nat), (0 : Nat))]) ∈ lw_all := lw_g (lw_at lw_m2 74 rfl) rfl
theorem q457 : (Jvm.Cond.classLink "TurningRoads" (145 : Nat) "TurningRoads$Parser") ∈ lw_all := lw_g (lw_at lw_m2 75 rfl) rfl
theorem q459 : (Jvm.Cond.methodLink "TurningRoads" (147 : Nat) ({ cls := "TurningRoads$Parser", name := "<init>", desc := "(LTurningRoads;[Ljava/lang/String;I)V" } : Jvm.MethodName)) ∈ lw_all := lw_g (lw_at lw_m2 77 rfl) rfl
theorem q485 : (Jvm.Cond.methodLink "TurningRoads" (150 : Nat) ({ cls := "TurningRoads$Parser", name := "land", desc := "(Ljava/util/ArrayList;Ljava/util/ArrayList;)V" } : Jvm.MethodName)) ∈ lw_all := lw_g (lw_at lw_m2 103 rfl) rfl
theorem q517 : (Jvm.Cond.static ({ cls := "TurningRoads", name := "in", desc := "(JJJ)Z" } : Jvm.MethodName)) ∈ lw_all := lw_g (lw_at lw_m2 135 rfl) rfl
theorem q518 : (Jvm.Cond.code ({ cls := "TurningRoads", name := "in", desc := "(JJJ)Z" } : Jvm.MethodName) prog_1_method_1_code (6 : Nat) (Option.some Jvm.ClassFile.FieldType.boolean)) ∈ lw_all := lw_g (lw_at lw_m2 136 rfl) rfl
theorem q568 : (Jvm.Cond.privateMethod ({ cls := "TurningRoads", name := "fails", desc := "(II)LTurningRoads$Wrong;" } : Jvm.MethodName)) ∈ lw_tbl := lw_at lw_m2 186 rfl
theorem q569 : (Jvm.Cond.instanceMethod ({ cls := "TurningRoads", name := "fails", desc := "(II)LTurningRoads$Wrong;" } : Jvm.MethodName)) ∈ lw_all := lw_g (lw_at lw_m2 187 rfl) rfl
theorem q570 : (Jvm.Cond.code ({ cls := "TurningRoads", name := "fails", desc := "(II)LTurningRoads$Wrong;" } : Jvm.MethodName) prog_1_method_16_code (3 : Nat) (Option.some (Jvm.ClassFile.FieldType.object "TurningRoads$Wrong"))) ∈ lw_all := lw_g (lw_at lw_m2 188 rfl) rfl
theorem q594 : (Jvm.Cond.fieldLinkNest "TurningRoads" (175 : Nat) "TurningRoads$Way" "minutes" "I" "TurningRoads") ∈ lw_tbl := lw_at lw_m2 212 rfl
theorem q596 : (Jvm.Cond.fieldLinkNest "TurningRoads" (178 : Nat) "TurningRoads$Way" "gone" "I" "TurningRoads") ∈ lw_tbl := lw_at lw_m2 214 rfl
theorem q598 : (Jvm.Cond.fieldLinkNest "TurningRoads" (181 : Nat) "TurningRoads$Way" "last" "I" "TurningRoads") ∈ lw_tbl := lw_at lw_m2 216 rfl
theorem q600 : (Jvm.Cond.fieldLinkNest "TurningRoads" (105 : Nat) "TurningRoads$Way" "isTurned" "Z" "TurningRoads") ∈ lw_tbl := lw_at lw_m2 218 rfl
theorem q648 : (Jvm.Cond.selects "TurningRoads" ({ cls := "java/lang/Object", name := "getClass", desc := "()Ljava/lang/Class;" } : Jvm.MethodName) ({ cls := "java/lang/Object", name := "getClass", desc := "()Ljava/lang/Class;" } : Jvm.MethodName)) ∈ lw_all := lw_g (lw_at lw_m3 26 rfl) rfl
theorem q686 : (Jvm.Cond.fieldLinkNest "TurningRoads" (190 : Nat) "TurningRoads$Goer" "aim" "I" "TurningRoads") ∈ lw_tbl := lw_at lw_m3 64 rfl
theorem q688 : (Jvm.Cond.fieldLinkNest "TurningRoads" (193 : Nat) "TurningRoads$Goer" "leaves" "I" "TurningRoads") ∈ lw_tbl := lw_at lw_m3 66 rfl
theorem q691 : (Jvm.Cond.fieldLinkNest "TurningRoads" (122 : Nat) "TurningRoads$Goer" "place" "I" "TurningRoads") ∈ lw_tbl := lw_at lw_m3 69 rfl
theorem q694 : (Jvm.Cond.fieldLinkNest "TurningRoads" (111 : Nat) "TurningRoads$Goer" "way" "I" "TurningRoads") ∈ lw_tbl := lw_at lw_m3 72 rfl
theorem q696 : (Jvm.Cond.fieldLinkNest "TurningRoads" (196 : Nat) "TurningRoads$Goer" "minutes" "I" "TurningRoads") ∈ lw_tbl := lw_at lw_m3 74 rfl
theorem q699 : (Jvm.Cond.fieldLinkNest "TurningRoads" (200 : Nat) "TurningRoads$Goer" "to" "I" "TurningRoads") ∈ lw_tbl := lw_at lw_m3 77 rfl
theorem q702 : (Jvm.Cond.fieldLinkNest "TurningRoads" (197 : Nat) "TurningRoads$Goer" "home" "I" "TurningRoads") ∈ lw_tbl := lw_at lw_m3 80 rfl
theorem q703 : (Jvm.Cond.fieldLinkNest "TurningRoads" (382 : Nat) "TurningRoads$Goer" "later" "I" "TurningRoads") ∈ lw_tbl := lw_at lw_m3 81 rfl
theorem q725 : (Jvm.Cond.methodLink "TurningRoads" (89 : Nat) ({ cls := "java/util/ArrayList", name := "size", desc := "()I" } : Jvm.MethodName)) ∈ lw_all := lw_g (lw_at lw_m3 103 rfl) rfl
theorem q726 : (Jvm.Cond.methodLink "TurningRoads" (99 : Nat) ({ cls := "java/util/ArrayList", name := "get", desc := "(I)Ljava/lang/Object;" } : Jvm.MethodName)) ∈ lw_all := lw_g (lw_at lw_m3 104 rfl) rfl
theorem q738 : (Jvm.Cond.classLink "TurningRoads" (109 : Nat) "TurningRoads$Goer") ∈ lw_all := lw_g (lw_at lw_m3 116 rfl) rfl
theorem q739 : (Jvm.Cond.methodLink "TurningRoads" (166 : Nat) ({ cls := "TurningRoads$Goer", name := "stands", desc := "(I)V" } : Jvm.MethodName)) ∈ lw_all := lw_g (lw_at lw_m3 117 rfl) rfl
theorem q752 : (Jvm.Cond.instanceMethod ({ cls := "TurningRoads", name := "rule", desc := "()I" } : Jvm.MethodName)) ∈ lw_all := lw_g (lw_at lw_m3 130 rfl) rfl
theorem q753 : (Jvm.Cond.selects "TurningRoads" ({ cls := "TurningRoads", name := "rule", desc := "()I" } : Jvm.MethodName) ({ cls := "TurningRoads", name := "rule", desc := "()I" } : Jvm.MethodName)) ∈ lw_all := lw_g (lw_at lw_m3 131 rfl) rfl
theorem q754 : (Jvm.Cond.codeWith ({ cls := "TurningRoads", name := "rule", desc := "()I" } : Jvm.MethodName) prog_1_method_21_code (4 : Nat) (Option.some Jvm.ClassFile.FieldType.int) [((14 : Nat), (31 : Nat), (38 : Nat), (24 : Nat)), ((14 : Nat), (31 : Nat), (54 : Nat), (0 : Nat)), ((38 : Nat), (47 : Nat), (54 : Nat), (0 : Nat))]) ∈ lw_all := lw_g (lw_at lw_m3 132 rfl) rfl
theorem q755 : (Jvm.Cond.methodLink "TurningRoads" (168 : Nat) ({ cls := "TurningRoads$Parser", name := "rule", desc := "()I" } : Jvm.MethodName)) ∈ lw_all := lw_g (lw_at lw_m3 133 rfl) rfl
theorem q924 : (Jvm.Cond.fieldLinkNest "TurningRoads" (366 : Nat) "TurningRoads$Told" "sum" "LTurningRoads$Value;" "TurningRoads") ∈ lw_tbl := lw_at lw_m4 62 rfl
theorem q935 : (Jvm.Cond.instanceMethod ({ cls := "TurningRoads", name := "way", desc := "(II)I" } : Jvm.MethodName)) ∈ lw_all := lw_g (lw_at lw_m4 73 rfl) rfl
theorem q936 : (Jvm.Cond.selects "TurningRoads" ({ cls := "TurningRoads", name := "way", desc := "(II)I" } : Jvm.MethodName) ({ cls := "TurningRoads", name := "way", desc := "(II)I" } : Jvm.MethodName)) ∈ lw_all := lw_g (lw_at lw_m4 74 rfl) rfl
theorem q937 : (Jvm.Cond.code ({ cls := "TurningRoads", name := "way", desc := "(II)I" } : Jvm.MethodName) prog_1_method_22_code (4 : Nat) (Option.some Jvm.ClassFile.FieldType.int)) ∈ lw_all := lw_g (lw_at lw_m4 75 rfl) rfl
theorem q938 : (Jvm.Cond.methodLink "TurningRoads" (171 : Nat) ({ cls := "TurningRoads", name := "isWay", desc := "(I)Z" } : Jvm.MethodName)) ∈ lw_all := lw_g (lw_at lw_m4 76 rfl) rfl
theorem q939 : (Jvm.Cond.privateMethod ({ cls := "TurningRoads", name := "isWay", desc := "(I)Z" } : Jvm.MethodName)) ∈ lw_tbl := lw_at lw_m4 77 rfl
theorem q940 : (Jvm.Cond.instanceMethod ({ cls := "TurningRoads", name := "isWay", desc := "(I)Z" } : Jvm.MethodName)) ∈ lw_all := lw_g (lw_at lw_m4 78 rfl) rfl
theorem q941 : (Jvm.Cond.code ({ cls := "TurningRoads", name := "isWay", desc := "(I)Z" } : Jvm.MethodName) prog_1_method_4_code (2 : Nat) (Option.some Jvm.ClassFile.FieldType.boolean)) ∈ lw_all := lw_g (lw_at lw_m4 79 rfl) rfl
theorem q942 : (Jvm.Cond.methodLink "TurningRoads" (93 : Nat) ({ cls := "TurningRoads", name := "in", desc := "(JJJ)Z" } : Jvm.MethodName)) ∈ lw_all := lw_g (lw_at lw_m4 80 rfl) rfl
theorem q943 : (Jvm.Cond.classLink "TurningRoads" (103 : Nat) "TurningRoads$Way") ∈ lw_all := lw_g (lw_at lw_m4 81 rfl) rfl
theorem q944 : (Jvm.Cond.methodLink "TurningRoads" (119 : Nat) ({ cls := "TurningRoads$Way", name := "from", desc := "()I" } : Jvm.MethodName)) ∈ lw_all := lw_g (lw_at lw_m4 82 rfl) rfl
theorem q948 : (Jvm.Cond.methodLink "TurningRoads" (129 : Nat) ({ cls := "TurningRoads$Way", name := "to", desc := "()I" } : Jvm.MethodName)) ∈ lw_all := lw_g (lw_at lw_m4 86 rfl) rfl
theorem q952 : (Jvm.Cond.methodLink "TurningRoads" (184 : Nat) ({ cls := "TurningRoads", name := "on", desc := "(I)I" } : Jvm.MethodName)) ∈ lw_all := lw_g (lw_at lw_m4 90 rfl) rfl
theorem q953 : (Jvm.Cond.privateMethod ({ cls := "TurningRoads", name := "on", desc := "(I)I" } : Jvm.MethodName)) ∈ lw_tbl := lw_at lw_m4 91 rfl
theorem q954 : (Jvm.Cond.instanceMethod ({ cls := "TurningRoads", name := "on", desc := "(I)I" } : Jvm.MethodName)) ∈ lw_all := lw_g (lw_at lw_m4 92 rfl) rfl
theorem q955 : (Jvm.Cond.code ({ cls := "TurningRoads", name := "on", desc := "(I)I" } : Jvm.MethodName) prog_1_method_8_code (4 : Nat) (Option.some Jvm.ClassFile.FieldType.int)) ∈ lw_all := lw_g (lw_at lw_m4 93 rfl) rfl
theorem q957 : (Jvm.Cond.instanceMethod ({ cls := "TurningRoads", name := "goer", desc := "(II)I" } : Jvm.MethodName)) ∈ lw_all := lw_g (lw_at lw_m4 95 rfl) rfl
theorem q958 : (Jvm.Cond.selects "TurningRoads" ({ cls := "TurningRoads", name := "goer", desc := "(II)I" } : Jvm.MethodName) ({ cls := "TurningRoads", name := "goer", desc := "(II)I" } : Jvm.MethodName)) ∈ lw_all := lw_g (lw_at lw_m4 96 rfl) rfl
theorem q959 : (Jvm.Cond.code ({ cls := "TurningRoads", name := "goer", desc := "(II)I" } : Jvm.MethodName) prog_1_method_23_code (4 : Nat) (Option.some Jvm.ClassFile.FieldType.int)) ∈ lw_all := lw_g (lw_at lw_m4 97 rfl) rfl
theorem q960 : (Jvm.Cond.methodLink "TurningRoads" (187 : Nat) ({ cls := "TurningRoads", name := "isGoer", desc := "(I)Z" } : Jvm.MethodName)) ∈ lw_all := lw_g (lw_at lw_m4 98 rfl) rfl
theorem q961 : (Jvm.Cond.privateMethod ({ cls := "TurningRoads", name := "isGoer", desc := "(I)Z" } : Jvm.MethodName)) ∈ lw_tbl := lw_at lw_m4 99 rfl
theorem q962 : (Jvm.Cond.instanceMethod ({ cls := "TurningRoads", name := "isGoer", desc := "(I)Z" } : Jvm.MethodName)) ∈ lw_all := lw_g (lw_at lw_m4 100 rfl) rfl
theorem q963 : (Jvm.Cond.code ({ cls := "TurningRoads", name := "isGoer", desc := "(I)Z" } : Jvm.MethodName) prog_1_method_5_code (2 : Nat) (Option.some Jvm.ClassFile.FieldType.boolean)) ∈ lw_all := lw_g (lw_at lw_m4 101 rfl) rfl
theorem q964 : (Jvm.Cond.methodLink "TurningRoads" (115 : Nat) ({ cls := "TurningRoads$Goer", name := "stands", desc := "()Z" } : Jvm.MethodName)) ∈ lw_all := lw_g (lw_at lw_m4 102 rfl) rfl
theorem q966 : (Jvm.Cond.instanceMethod ({ cls := "TurningRoads", name := "place", desc := "(II)I" } : Jvm.MethodName)) ∈ lw_all := lw_g (lw_at lw_m4 104 rfl) rfl
theorem q967 : (Jvm.Cond.selects "TurningRoads" ({ cls := "TurningRoads", name := "place", desc := "(II)I" } : Jvm.MethodName) ({ cls := "TurningRoads", name := "place", desc := "(II)I" } : Jvm.MethodName)) ∈ lw_all := lw_g (lw_at lw_m4 105 rfl) rfl
theorem q968 : (Jvm.Cond.code ({ cls := "TurningRoads", name := "place", desc := "(II)I" } : Jvm.MethodName) prog_1_method_25_code (3 : Nat) (Option.some Jvm.ClassFile.FieldType.int)) ∈ lw_all := lw_g (lw_at lw_m4 106 rfl) rfl
theorem q969 : (Jvm.Cond.methodLink "TurningRoads" (202 : Nat) ({ cls := "TurningRoads", name := "isPlace", desc := "(I)Z" } : Jvm.MethodName)) ∈ lw_all := lw_g (lw_at lw_m4 107 rfl) rfl
theorem q970 : (Jvm.Cond.static ({ cls := "TurningRoads", name := "isPlace", desc := "(I)Z" } : Jvm.MethodName)) ∈ lw_all := lw_g (lw_at lw_m4 108 rfl) rfl
theorem q971 : (Jvm.Cond.code ({ cls := "TurningRoads", name := "isPlace", desc := "(I)Z" } : Jvm.MethodName) prog_1_method_6_code (1 : Nat) (Option.some Jvm.ClassFile.FieldType.boolean)) ∈ lw_all := lw_g (lw_at lw_m4 109 rfl) rfl
theorem q972 : (Jvm.Cond.constantLong "TurningRoads" (97 : Nat) (7 : Int64)) ∈ lw_all := lw_g (lw_at lw_m4 110 rfl) rfl
theorem q973 : (Jvm.Cond.methodLink "TurningRoads" (205 : Nat) ({ cls := "TurningRoads", name := "out", desc := "(I)I" } : Jvm.MethodName)) ∈ lw_all := lw_g (lw_at lw_m4 111 rfl) rfl
theorem q974 : (Jvm.Cond.privateMethod ({ cls := "TurningRoads", name := "out", desc := "(I)I" } : Jvm.MethodName)) ∈ lw_tbl := lw_at lw_m4 112 rfl
theorem q975 : (Jvm.Cond.instanceMethod ({ cls := "TurningRoads", name := "out", desc := "(I)I" } : Jvm.MethodName)) ∈ lw_all := lw_g (lw_at lw_m4 113 rfl) rfl
theorem q976 : (Jvm.Cond.code ({ cls := "TurningRoads", name := "out", desc := "(I)I" } : Jvm.MethodName) prog_1_method_10_code (4 : Nat) (Option.some Jvm.ClassFile.FieldType.int)) ∈ lw_all := lw_g (lw_at lw_m4 114 rfl) rfl
theorem q977 : (Jvm.Cond.methodLink "TurningRoads" (208 : Nat) ({ cls := "TurningRoads", name := "into", desc := "(I)I" } : Jvm.MethodName)) ∈ lw_all := lw_g (lw_at lw_m4 115 rfl) rfl
theorem q978 : (Jvm.Cond.privateMethod ({ cls := "TurningRoads", name := "into", desc := "(I)I" } : Jvm.MethodName)) ∈ lw_tbl := lw_at lw_m4 116 rfl
theorem q979 : (Jvm.Cond.instanceMethod ({ cls := "TurningRoads", name := "into", desc := "(I)I" } : Jvm.MethodName)) ∈ lw_all := lw_g (lw_at lw_m4 117 rfl) rfl
theorem q980 : (Jvm.Cond.code ({ cls := "TurningRoads", name := "into", desc := "(I)I" } : Jvm.MethodName) prog_1_method_24_code (4 : Nat) (Option.some Jvm.ClassFile.FieldType.int)) ∈ lw_all := lw_g (lw_at lw_m4 118 rfl) rfl
theorem q981 : (Jvm.Cond.methodLink "TurningRoads" (211 : Nat) ({ cls := "TurningRoads", name := "standing", desc := "(I)I" } : Jvm.MethodName)) ∈ lw_all := lw_g (lw_at lw_m4 119 rfl) rfl
theorem q982 : (Jvm.Cond.privateMethod ({ cls := "TurningRoads", name := "standing", desc := "(I)I" } : Jvm.MethodName)) ∈ lw_tbl := lw_at lw_m4 120 rfl
theorem q983 : (Jvm.Cond.instanceMethod ({ cls := "TurningRoads", name := "standing", desc := "(I)I" } : Jvm.MethodName)) ∈ lw_all := lw_g (lw_at lw_m4 121 rfl) rfl
theorem q984 : (Jvm.Cond.code ({ cls := "TurningRoads", name := "standing", desc := "(I)I" } : Jvm.MethodName) prog_1_method_11_code (4 : Nat) (Option.some Jvm.ClassFile.FieldType.int)) ∈ lw_all := lw_g (lw_at lw_m4 122 rfl) rfl
theorem q985 : (Jvm.Cond.methodLink "TurningRoads" (214 : Nat) ({ cls := "TurningRoads", name := "reach", desc := "(I)I" } : Jvm.MethodName)) ∈ lw_all := lw_g (lw_at lw_m4 123 rfl) rfl
theorem q986 : (Jvm.Cond.privateMethod ({ cls := "TurningRoads", name := "reach", desc := "(I)I" } : Jvm.MethodName)) ∈ lw_tbl := lw_at lw_m4 124 rfl
theorem q987 : (Jvm.Cond.instanceMethod ({ cls := "TurningRoads", name := "reach", desc := "(I)I" } : Jvm.MethodName)) ∈ lw_all := lw_g (lw_at lw_m4 125 rfl) rfl
theorem q988 : (Jvm.Cond.code ({ cls := "TurningRoads", name := "reach", desc := "(I)I" } : Jvm.MethodName) prog_1_method_13_code (3 : Nat) (Option.some Jvm.ClassFile.FieldType.int)) ∈ lw_all := lw_g (lw_at lw_m4 126 rfl) rfl
theorem q989 : (Jvm.Cond.methodLink "TurningRoads" (132 : Nat) ({ cls := "TurningRoads", name := "next", desc := "(I)I" } : Jvm.MethodName)) ∈ lw_all := lw_g (lw_at lw_m4 127 rfl) rfl
theorem q990 : (Jvm.Cond.privateMethod ({ cls := "TurningRoads", name := "next", desc := "(I)I" } : Jvm.MethodName)) ∈ lw_tbl := lw_at lw_m4 128 rfl
theorem q991 : (Jvm.Cond.instanceMethod ({ cls := "TurningRoads", name := "next", desc := "(I)I" } : Jvm.MethodName)) ∈ lw_all := lw_g (lw_at lw_m4 129 rfl) rfl
theorem q992 : (Jvm.Cond.code ({ cls := "TurningRoads", name := "next", desc := "(I)I" } : Jvm.MethodName) prog_1_method_12_code (4 : Nat) (Option.some Jvm.ClassFile.FieldType.int)) ∈ lw_all := lw_g (lw_at lw_m4 130 rfl) rfl
theorem q993 : (Jvm.Cond.methodLink "TurningRoads" (125 : Nat) ({ cls := "TurningRoads", name := "has", desc := "(II)Z" } : Jvm.MethodName)) ∈ lw_all := lw_g (lw_at lw_m4 131 rfl) rfl
theorem q994 : (Jvm.Cond.static ({ cls := "TurningRoads", name := "has", desc := "(II)Z" } : Jvm.MethodName)) ∈ lw_all := lw_g (lw_at lw_m4 132 rfl) rfl
theorem q995 : (Jvm.Cond.code ({ cls := "TurningRoads", name := "has", desc := "(II)Z" } : Jvm.MethodName) prog_1_method_2_code (2 : Nat) (Option.some Jvm.ClassFile.FieldType.boolean)) ∈ lw_all := lw_g (lw_at lw_m4 133 rfl) rfl
theorem q997 : (Jvm.Cond.instanceMethod ({ cls := "TurningRoads", name := "far", desc := "(II)I" } : Jvm.MethodName)) ∈ lw_all := lw_g (lw_at lw_m4 135 rfl) rfl
theorem q998 : (Jvm.Cond.selects "TurningRoads" ({ cls := "TurningRoads", name := "far", desc := "(II)I" } : Jvm.MethodName) ({ cls := "TurningRoads", name := "far", desc := "(II)I" } : Jvm.MethodName)) ∈ lw_all := lw_g (lw_at lw_m4 136 rfl) rfl
theorem q999 : (Jvm.Cond.code ({ cls := "TurningRoads", name := "far", desc := "(II)I" } : Jvm.MethodName) prog_1_method_26_code (4 : Nat) (Option.some Jvm.ClassFile.FieldType.int)) ∈ lw_all := lw_g (lw_at lw_m4 137 rfl) rfl
theorem q1000 : (Jvm.Cond.methodLink "TurningRoads" (217 : Nat) ({ cls := "TurningRoads", name := "farOf", desc := "(II)I" } : Jvm.MethodName)) ∈ lw_all := lw_g (lw_at lw_m4 138 rfl) rfl
theorem q1001 : (Jvm.Cond.privateMethod ({ cls := "TurningRoads", name := "farOf", desc := "(II)I" } : Jvm.MethodName)) ∈ lw_tbl := lw_at lw_m4 139 rfl
theorem q1002 : (Jvm.Cond.instanceMethod ({ cls := "TurningRoads", name := "farOf", desc := "(II)I" } : Jvm.MethodName)) ∈ lw_all := lw_g (lw_at lw_m4 140 rfl) rfl
theorem q1003 : (Jvm.Cond.code ({ cls := "TurningRoads", name := "farOf", desc := "(II)I" } : Jvm.MethodName) prog_1_method_14_code (6 : Nat) (Option.some Jvm.ClassFile.FieldType.int)) ∈ lw_all := lw_g (lw_at lw_m4 141 rfl) rfl
theorem q1005 : (Jvm.Cond.instanceMethod ({ cls := "TurningRoads", name := "go", desc := "(II)I" } : Jvm.MethodName)) ∈ lw_all := lw_g (lw_at lw_m4 143 rfl) rfl
theorem q1006 : (Jvm.Cond.selects "TurningRoads" ({ cls := "TurningRoads", name := "go", desc := "(II)I" } : Jvm.MethodName) ({ cls := "TurningRoads", name := "go", desc := "(II)I" } : Jvm.MethodName)) ∈ lw_all := lw_g (lw_at lw_m4 144 rfl) rfl
theorem q1007 : (Jvm.Cond.code ({ cls := "TurningRoads", name := "go", desc := "(II)I" } : Jvm.MethodName) prog_1_method_28_code (3 : Nat) (Option.some Jvm.ClassFile.FieldType.int)) ∈ lw_all := lw_g (lw_at lw_m4 145 rfl) rfl
theorem q1008 : (Jvm.Cond.methodLink "TurningRoads" (221 : Nat) ({ cls := "TurningRoads", name := "gone", desc := "(LTurningRoads$Goer;LTurningRoads$Way;II)V" } : Jvm.MethodName)) ∈ lw_all := lw_g (lw_at lw_m4 146 rfl) rfl
theorem q1009 : (Jvm.Cond.privateMethod ({ cls := "TurningRoads", name := "gone", desc := "(LTurningRoads$Goer;LTurningRoads$Way;II)V" } : Jvm.MethodName)) ∈ lw_tbl := lw_at lw_m4 147 rfl
theorem q1010 : (Jvm.Cond.instanceMethod ({ cls := "TurningRoads", name := "gone", desc := "(LTurningRoads$Goer;LTurningRoads$Way;II)V" } : Jvm.MethodName)) ∈ lw_all := lw_g (lw_at lw_m4 148 rfl) rfl
theorem q1011 : (Jvm.Cond.code ({ cls := "TurningRoads", name := "gone", desc := "(LTurningRoads$Goer;LTurningRoads$Way;II)V" } : Jvm.MethodName) prog_1_method_27_code (5 : Nat) (Option.none : Option Jvm.ClassFile.FieldType)) ∈ lw_all := lw_g (lw_at lw_m4 149 rfl) rfl
theorem q1013 : (Jvm.Cond.instanceMethod ({ cls := "TurningRoads", name := "turn", desc := "(I)I" } : Jvm.MethodName)) ∈ lw_all := lw_g (lw_at lw_m4 151 rfl) rfl
theorem q1014 : (Jvm.Cond.selects "TurningRoads" ({ cls := "TurningRoads", name := "turn", desc := "(I)I" } : Jvm.MethodName) ({ cls := "TurningRoads", name := "turn", desc := "(I)I" } : Jvm.MethodName)) ∈ lw_all := lw_g (lw_at lw_m4 152 rfl) rfl
theorem q1015 : (Jvm.Cond.code ({ cls := "TurningRoads", name := "turn", desc := "(I)I" } : Jvm.MethodName) prog_1_method_30_code (3 : Nat) (Option.some Jvm.ClassFile.FieldType.int)) ∈ lw_all := lw_g (lw_at lw_m4 153 rfl) rfl
theorem q1016 : (Jvm.Cond.methodLink "TurningRoads" (224 : Nat) ({ cls := "TurningRoads", name := "isQuiet", desc := "()Z" } : Jvm.MethodName)) ∈ lw_all := lw_g (lw_at lw_m4 154 rfl) rfl
theorem q1017 : (Jvm.Cond.privateMethod ({ cls := "TurningRoads", name := "isQuiet", desc := "()Z" } : Jvm.MethodName)) ∈ lw_tbl := lw_at lw_m4 155 rfl
theorem q1018 : (Jvm.Cond.instanceMethod ({ cls := "TurningRoads", name := "isQuiet", desc := "()Z" } : Jvm.MethodName)) ∈ lw_all := lw_g (lw_at lw_m4 156 rfl) rfl
theorem q1019 : (Jvm.Cond.code ({ cls := "TurningRoads", name := "isQuiet", desc := "()Z" } : Jvm.MethodName) prog_1_method_9_code (3 : Nat) (Option.some Jvm.ClassFile.FieldType.boolean)) ∈ lw_all := lw_g (lw_at lw_m4 157 rfl) rfl
theorem q1020 : (Jvm.Cond.methodLink "TurningRoads" (227 : Nat) ({ cls := "TurningRoads", name := "directions", desc := "()I" } : Jvm.MethodName)) ∈ lw_all := lw_g (lw_at lw_m4 158 rfl) rfl
theorem q1021 : (Jvm.Cond.privateMethod ({ cls := "TurningRoads", name := "directions", desc := "()I" } : Jvm.MethodName)) ∈ lw_tbl := lw_at lw_m4 159 rfl
theorem q1022 : (Jvm.Cond.instanceMethod ({ cls := "TurningRoads", name := "directions", desc := "()I" } : Jvm.MethodName)) ∈ lw_all := lw_g (lw_at lw_m4 160 rfl) rfl
theorem q1023 : (Jvm.Cond.code ({ cls := "TurningRoads", name := "directions", desc := "()I" } : Jvm.MethodName) prog_1_method_7_code (3 : Nat) (Option.some Jvm.ClassFile.FieldType.int)) ∈ lw_all := lw_g (lw_at lw_m4 161 rfl) rfl
theorem q1024 : (Jvm.Cond.methodLink "TurningRoads" (230 : Nat) ({ cls := "TurningRoads", name := "lays", desc := "(I)V" } : Jvm.MethodName)) ∈ lw_all := lw_g (lw_at lw_m4 162 rfl) rfl
theorem q1025 : (Jvm.Cond.privateMethod ({ cls := "TurningRoads", name := "lays", desc := "(I)V" } : Jvm.MethodName)) ∈ lw_tbl := lw_at lw_m4 163 rfl
theorem q1026 : (Jvm.Cond.instanceMethod ({ cls := "TurningRoads", name := "lays", desc := "(I)V" } : Jvm.MethodName)) ∈ lw_all := lw_g (lw_at lw_m4 164 rfl) rfl
theorem q1027 : (Jvm.Cond.code ({ cls := "TurningRoads", name := "lays", desc := "(I)V" } : Jvm.MethodName) prog_1_method_29_code (3 : Nat) (Option.none : Option Jvm.ClassFile.FieldType)) ∈ lw_all := lw_g (lw_at lw_m4 165 rfl) rfl
theorem q1029 : (Jvm.Cond.instanceMethod ({ cls := "TurningRoads", name := "fewest", desc := "(I)I" } : Jvm.MethodName)) ∈ lw_all := lw_g (lw_at lw_m4 167 rfl) rfl
theorem q1030 : (Jvm.Cond.selects "TurningRoads" ({ cls := "TurningRoads", name := "fewest", desc := "(I)I" } : Jvm.MethodName) ({ cls := "TurningRoads", name := "fewest", desc := "(I)I" } : Jvm.MethodName)) ∈ lw_all := lw_g (lw_at lw_m4 168 rfl) rfl
theorem q1031 : (Jvm.Cond.code ({ cls := "TurningRoads", name := "fewest", desc := "(I)I" } : Jvm.MethodName) prog_1_method_40_code (3 : Nat) (Option.some Jvm.ClassFile.FieldType.int)) ∈ lw_all := lw_g (lw_at lw_m4 169 rfl) rfl
theorem q1032 : (Jvm.Cond.methodLink "TurningRoads" (273 : Nat) ({ cls := "TurningRoads", name := "chooses", desc := "(I)Z" } : Jvm.MethodName)) ∈ lw_all := lw_g (lw_at lw_m4 170 rfl) rfl
theorem q1033 : (Jvm.Cond.privateMethod ({ cls := "TurningRoads", name := "chooses", desc := "(I)Z" } : Jvm.MethodName)) ∈ lw_tbl := lw_at lw_m4 171 rfl
theorem q1034 : (Jvm.Cond.instanceMethod ({ cls := "TurningRoads", name := "chooses", desc := "(I)Z" } : Jvm.MethodName)) ∈ lw_all := lw_g (lw_at lw_m4 172 rfl) rfl
theorem q1035 : (Jvm.Cond.code ({ cls := "TurningRoads", name := "chooses", desc := "(I)Z" } : Jvm.MethodName) prog_1_method_31_code (4 : Nat) (Option.some Jvm.ClassFile.FieldType.boolean)) ∈ lw_all := lw_g (lw_at lw_m4 173 rfl) rfl
theorem q1036 : (Jvm.Cond.methodLink "TurningRoads" (276 : Nat) ({ cls := "TurningRoads", name := "spreadsFromAims", desc := "()V" } : Jvm.MethodName)) ∈ lw_all := lw_g (lw_at lw_m4 174 rfl) rfl
theorem q1037 : (Jvm.Cond.privateMethod ({ cls := "TurningRoads", name := "spreadsFromAims", desc := "()V" } : Jvm.MethodName)) ∈ lw_tbl := lw_at lw_m4 175 rfl
theorem q1038 : (Jvm.Cond.instanceMethod ({ cls := "TurningRoads", name := "spreadsFromAims", desc := "()V" } : Jvm.MethodName)) ∈ lw_all := lw_g (lw_at lw_m4 176 rfl) rfl
theorem q1039 : (Jvm.Cond.code ({ cls := "TurningRoads", name := "spreadsFromAims", desc := "()V" } : Jvm.MethodName) prog_1_method_38_code (3 : Nat) (Option.none : Option Jvm.ClassFile.FieldType)) ∈ lw_all := lw_g (lw_at lw_m4 177 rfl) rfl
theorem q1040 : (Jvm.Cond.methodLink "TurningRoads" (264 : Nat) ({ cls := "TurningRoads", name := "begins", desc := "()V" } : Jvm.MethodName)) ∈ lw_all := lw_g (lw_at lw_m4 178 rfl) rfl
theorem q1041 : (Jvm.Cond.privateMethod ({ cls := "TurningRoads", name := "begins", desc := "()V" } : Jvm.MethodName)) ∈ lw_tbl := lw_at lw_m4 179 rfl
theorem q1042 : (Jvm.Cond.instanceMethod ({ cls := "TurningRoads", name := "begins", desc := "()V" } : Jvm.MethodName)) ∈ lw_all := lw_g (lw_at lw_m4 180 rfl) rfl
theorem q1043 : (Jvm.Cond.code ({ cls := "TurningRoads", name := "begins", desc := "()V" } : Jvm.MethodName) prog_1_method_35_code (2 : Nat) (Option.none : Option Jvm.ClassFile.FieldType)) ∈ lw_all := lw_g (lw_at lw_m4 181 rfl) rfl
theorem q1044 : (Jvm.Cond.constant "TurningRoads" (249 : Nat) (1048576 : Int32)) ∈ lw_all := lw_g (lw_at lw_m4 182 rfl) rfl
theorem q1045 : (Jvm.Cond.methodLink "TurningRoads" (260 : Nat) ({ cls := "TurningRoads", name := "puts", desc := "(II)V" } : Jvm.MethodName)) ∈ lw_all := lw_g (lw_at lw_m4 183 rfl) rfl
theorem q1046 : (Jvm.Cond.privateMethod ({ cls := "TurningRoads", name := "puts", desc := "(II)V" } : Jvm.MethodName)) ∈ lw_tbl := lw_at lw_m4 184 rfl
theorem q1047 : (Jvm.Cond.instanceMethod ({ cls := "TurningRoads", name := "puts", desc := "(II)V" } : Jvm.MethodName)) ∈ lw_all := lw_g (lw_at lw_m4 185 rfl) rfl
theorem q1048 : (Jvm.Cond.code ({ cls := "TurningRoads", name := "puts", desc := "(II)V" } : Jvm.MethodName) prog_1_method_36_code (3 : Nat) (Option.none : Option Jvm.ClassFile.FieldType)) ∈ lw_all := lw_g (lw_at lw_m4 186 rfl) rfl
theorem q1049 : (Jvm.Cond.methodLink "TurningRoads" (267 : Nat) ({ cls := "TurningRoads", name := "spreads", desc := "()V" } : Jvm.MethodName)) ∈ lw_all := lw_g (lw_at lw_m4 187 rfl) rfl
theorem q1050 : (Jvm.Cond.privateMethod ({ cls := "TurningRoads", name := "spreads", desc := "()V" } : Jvm.MethodName)) ∈ lw_tbl := lw_at lw_m4 188 rfl
theorem q1051 : (Jvm.Cond.instanceMethod ({ cls := "TurningRoads", name := "spreads", desc := "()V" } : Jvm.MethodName)) ∈ lw_all := lw_g (lw_at lw_m4 189 rfl) rfl
theorem q1052 : (Jvm.Cond.code ({ cls := "TurningRoads", name := "spreads", desc := "()V" } : Jvm.MethodName) prog_1_method_37_code (4 : Nat) (Option.none : Option Jvm.ClassFile.FieldType)) ∈ lw_all := lw_g (lw_at lw_m4 190 rfl) rfl
theorem q1053 : (Jvm.Cond.methodLink "TurningRoads" (256 : Nat) ({ cls := "TurningRoads", name := "goes", desc := "(III)I" } : Jvm.MethodName)) ∈ lw_all := lw_g (lw_at lw_m4 191 rfl) rfl
theorem q1054 : (Jvm.Cond.privateMethod ({ cls := "TurningRoads", name := "goes", desc := "(III)I" } : Jvm.MethodName)) ∈ lw_tbl := lw_at lw_m4 192 rfl
theorem q1055 : (Jvm.Cond.instanceMethod ({ cls := "TurningRoads", name := "goes", desc := "(III)I" } : Jvm.MethodName)) ∈ lw_all := lw_g (lw_at lw_m4 193 rfl) rfl
theorem q1056 : (Jvm.Cond.code ({ cls := "TurningRoads", name := "goes", desc := "(III)I" } : Jvm.MethodName) prog_1_method_34_code (7 : Nat) (Option.some Jvm.ClassFile.FieldType.int)) ∈ lw_all := lw_g (lw_at lw_m4 194 rfl) rfl
theorem q1057 : (Jvm.Cond.methodLink "TurningRoads" (239 : Nat) ({ cls := "TurningRoads$Way", name := "from", desc := "(I)I" } : Jvm.MethodName)) ∈ lw_all := lw_g (lw_at lw_m4 195 rfl) rfl
theorem q1061 : (Jvm.Cond.methodLink "TurningRoads" (241 : Nat) ({ cls := "TurningRoads", name := "placeIn", desc := "(II)I" } : Jvm.MethodName)) ∈ lw_all := lw_g (lw_at lw_m4 199 rfl) rfl
theorem q1062 : (Jvm.Cond.privateMethod ({ cls := "TurningRoads", name := "placeIn", desc := "(II)I" } : Jvm.MethodName)) ∈ lw_tbl := lw_at lw_m4 200 rfl
theorem q1063 : (Jvm.Cond.instanceMethod ({ cls := "TurningRoads", name := "placeIn", desc := "(II)I" } : Jvm.MethodName)) ∈ lw_all := lw_g (lw_at lw_m4 201 rfl) rfl
theorem q1064 : (Jvm.Cond.code ({ cls := "TurningRoads", name := "placeIn", desc := "(II)I" } : Jvm.MethodName) prog_1_method_32_code (3 : Nat) (Option.some Jvm.ClassFile.FieldType.int)) ∈ lw_all := lw_g (lw_at lw_m4 202 rfl) rfl
theorem q1065 : (Jvm.Cond.methodLink "TurningRoads" (244 : Nat) ({ cls := "TurningRoads$Way", name := "to", desc := "(I)I" } : Jvm.MethodName)) ∈ lw_all := lw_g (lw_at lw_m4 203 rfl) rfl
theorem q1069 : (Jvm.Cond.methodLink "TurningRoads" (270 : Nat) ({ cls := "TurningRoads", name := "stateNow", desc := "()I" } : Jvm.MethodName)) ∈ lw_all := lw_g (lw_at lw_m4 207 rfl) rfl
theorem q1070 : (Jvm.Cond.privateMethod ({ cls := "TurningRoads", name := "stateNow", desc := "()I" } : Jvm.MethodName)) ∈ lw_tbl := lw_at lw_m4 208 rfl
theorem q1071 : (Jvm.Cond.instanceMethod ({ cls := "TurningRoads", name := "stateNow", desc := "()I" } : Jvm.MethodName)) ∈ lw_all := lw_g (lw_at lw_m4 209 rfl) rfl
theorem q1072 : (Jvm.Cond.code ({ cls := "TurningRoads", name := "stateNow", desc := "()I" } : Jvm.MethodName) prog_1_method_33_code (3 : Nat) (Option.some Jvm.ClassFile.FieldType.int)) ∈ lw_all := lw_g (lw_at lw_m4 210 rfl) rfl
theorem q1074 : (Jvm.Cond.instanceMethod ({ cls := "TurningRoads", name := "step", desc := "(II)I" } : Jvm.MethodName)) ∈ lw_all := lw_g (lw_at lw_m4 212 rfl) rfl
theorem q1075 : (Jvm.Cond.selects "TurningRoads" ({ cls := "TurningRoads", name := "step", desc := "(II)I" } : Jvm.MethodName) ({ cls := "TurningRoads", name := "step", desc := "(II)I" } : Jvm.MethodName)) ∈ lw_all := lw_g (lw_at lw_m4 213 rfl) rfl
theorem q1076 : (Jvm.Cond.code ({ cls := "TurningRoads", name := "step", desc := "(II)I" } : Jvm.MethodName) prog_1_method_41_code (6 : Nat) (Option.some Jvm.ClassFile.FieldType.int)) ∈ lw_all := lw_g (lw_at lw_m4 214 rfl) rfl
theorem q1077 : (Jvm.Cond.constantLong "TurningRoads" (279 : Nat) (999 : Int64)) ∈ lw_all := lw_g (lw_at lw_m4 215 rfl) rfl
theorem q1078 : (Jvm.Cond.methodLink "TurningRoads" (281 : Nat) ({ cls := "TurningRoads", name := "first", desc := "(I)I" } : Jvm.MethodName)) ∈ lw_all := lw_g (lw_at lw_m4 216 rfl) rfl
theorem q1079 : (Jvm.Cond.privateMethod ({ cls := "TurningRoads", name := "first", desc := "(I)I" } : Jvm.MethodName)) ∈ lw_tbl := lw_at lw_m4 217 rfl
theorem q1080 : (Jvm.Cond.instanceMethod ({ cls := "TurningRoads", name := "first", desc := "(I)I" } : Jvm.MethodName)) ∈ lw_all := lw_g (lw_at lw_m4 218 rfl) rfl
theorem q1081 : (Jvm.Cond.code ({ cls := "TurningRoads", name := "first", desc := "(I)I" } : Jvm.MethodName) prog_1_method_42_code (5 : Nat) (Option.some Jvm.ClassFile.FieldType.int)) ∈ lw_all := lw_g (lw_at lw_m4 219 rfl) rfl
theorem q1083 : (Jvm.Cond.instanceMethod ({ cls := "TurningRoads", name := "comes", desc := "(II)I" } : Jvm.MethodName)) ∈ lw_all := lw_g (lw_at lw_m4 221 rfl) rfl
theorem q1084 : (Jvm.Cond.selects "TurningRoads" ({ cls := "TurningRoads", name := "comes", desc := "(II)I" } : Jvm.MethodName) ({ cls := "TurningRoads", name := "comes", desc := "(II)I" } : Jvm.MethodName)) ∈ lw_all := lw_g (lw_at lw_m4 222 rfl) rfl
theorem q1085 : (Jvm.Cond.code ({ cls := "TurningRoads", name := "comes", desc := "(II)I" } : Jvm.MethodName) prog_1_method_43_code (3 : Nat) (Option.some Jvm.ClassFile.FieldType.int)) ∈ lw_all := lw_g (lw_at lw_m4 223 rfl) rfl
theorem q1086 : (Jvm.Cond.methodLink "TurningRoads" (284 : Nat) ({ cls := "TurningRoads", name := "spreadsFromNow", desc := "()V" } : Jvm.MethodName)) ∈ lw_all := lw_g (lw_at lw_m4 224 rfl) rfl
theorem q1087 : (Jvm.Cond.privateMethod ({ cls := "TurningRoads", name := "spreadsFromNow", desc := "()V" } : Jvm.MethodName)) ∈ lw_tbl := lw_at lw_m4 225 rfl
theorem q1088 : (Jvm.Cond.instanceMethod ({ cls := "TurningRoads", name := "spreadsFromNow", desc := "()V" } : Jvm.MethodName)) ∈ lw_all := lw_g (lw_at lw_m4 226 rfl) rfl
theorem q1089 : (Jvm.Cond.code ({ cls := "TurningRoads", name := "spreadsFromNow", desc := "()V" } : Jvm.MethodName) prog_1_method_39_code (1 : Nat) (Option.none : Option Jvm.ClassFile.FieldType)) ∈ lw_all := lw_g (lw_at lw_m4 227 rfl) rfl
theorem q1091 : (Jvm.Cond.instanceMethod ({ cls := "TurningRoads", name := "closed", desc := "(II)I" } : Jvm.MethodName)) ∈ lw_all := lw_g (lw_at lw_m4 229 rfl) rfl
theorem q1092 : (Jvm.Cond.selects "TurningRoads" ({ cls := "TurningRoads", name := "closed", desc := "(II)I" } : Jvm.MethodName) ({ cls := "TurningRoads", name := "closed", desc := "(II)I" } : Jvm.MethodName)) ∈ lw_all := lw_g (lw_at lw_m4 230 rfl) rfl
theorem q1093 : (Jvm.Cond.code ({ cls := "TurningRoads", name := "closed", desc := "(II)I" } : Jvm.MethodName) prog_1_method_48_code (3 : Nat) (Option.some Jvm.ClassFile.FieldType.int)) ∈ lw_all := lw_g (lw_at lw_m4 231 rfl) rfl
theorem q1094 : (Jvm.Cond.methodLink "TurningRoads" (293 : Nat) ({ cls := "TurningRoads", name := "closedMany", desc := "()I" } : Jvm.MethodName)) ∈ lw_all := lw_g (lw_at lw_m4 232 rfl) rfl
theorem q1095 : (Jvm.Cond.privateMethod ({ cls := "TurningRoads", name := "closedMany", desc := "()I" } : Jvm.MethodName)) ∈ lw_tbl := lw_at lw_m4 233 rfl
theorem q1096 : (Jvm.Cond.instanceMethod ({ cls := "TurningRoads", name := "closedMany", desc := "()I" } : Jvm.MethodName)) ∈ lw_all := lw_g (lw_at lw_m4 234 rfl) rfl
theorem q1097 : (Jvm.Cond.code ({ cls := "TurningRoads", name := "closedMany", desc := "()I" } : Jvm.MethodName) prog_1_method_46_code (4 : Nat) (Option.some Jvm.ClassFile.FieldType.int)) ∈ lw_all := lw_g (lw_at lw_m4 235 rfl) rfl
theorem q1098 : (Jvm.Cond.methodLink "TurningRoads" (296 : Nat) ({ cls := "TurningRoads", name := "hasSums", desc := "()Z" } : Jvm.MethodName)) ∈ lw_all := lw_g (lw_at lw_m4 236 rfl) rfl
theorem q1099 : (Jvm.Cond.privateMethod ({ cls := "TurningRoads", name := "hasSums", desc := "()Z" } : Jvm.MethodName)) ∈ lw_tbl := lw_at lw_m4 237 rfl
theorem q1100 : (Jvm.Cond.instanceMethod ({ cls := "TurningRoads", name := "hasSums", desc := "()Z" } : Jvm.MethodName)) ∈ lw_all := lw_g (lw_at lw_m4 238 rfl) rfl
theorem q1101 : (Jvm.Cond.code ({ cls := "TurningRoads", name := "hasSums", desc := "()Z" } : Jvm.MethodName) prog_1_method_47_code (2 : Nat) (Option.some Jvm.ClassFile.FieldType.boolean)) ∈ lw_all := lw_g (lw_at lw_m4 239 rfl) rfl
theorem q1102 : (Jvm.Cond.methodLink "TurningRoads" (290 : Nat) ({ cls := "TurningRoads", name := "countWanted", desc := "()I" } : Jvm.MethodName)) ∈ lw_all := lw_g (lw_at lw_m5 0 rfl) rfl
theorem q1103 : (Jvm.Cond.privateMethod ({ cls := "TurningRoads", name := "countWanted", desc := "()I" } : Jvm.MethodName)) ∈ lw_tbl := lw_at lw_m5 1 rfl
theorem q1104 : (Jvm.Cond.instanceMethod ({ cls := "TurningRoads", name := "countWanted", desc := "()I" } : Jvm.MethodName)) ∈ lw_all := lw_g (lw_at lw_m5 2 rfl) rfl
theorem q1105 : (Jvm.Cond.code ({ cls := "TurningRoads", name := "countWanted", desc := "()I" } : Jvm.MethodName) prog_1_method_45_code (3 : Nat) (Option.some Jvm.ClassFile.FieldType.int)) ∈ lw_all := lw_g (lw_at lw_m5 3 rfl) rfl
theorem q1106 : (Jvm.Cond.methodLink "TurningRoads" (287 : Nat) ({ cls := "TurningRoads", name := "isWanted", desc := "(I)Z" } : Jvm.MethodName)) ∈ lw_all := lw_g (lw_at lw_m5 4 rfl) rfl
theorem q1107 : (Jvm.Cond.privateMethod ({ cls := "TurningRoads", name := "isWanted", desc := "(I)Z" } : Jvm.MethodName)) ∈ lw_tbl := lw_at lw_m5 5 rfl
theorem q1108 : (Jvm.Cond.instanceMethod ({ cls := "TurningRoads", name := "isWanted", desc := "(I)Z" } : Jvm.MethodName)) ∈ lw_all := lw_g (lw_at lw_m5 6 rfl) rfl
theorem q1109 : (Jvm.Cond.code ({ cls := "TurningRoads", name := "isWanted", desc := "(I)Z" } : Jvm.MethodName) prog_1_method_44_code (4 : Nat) (Option.some Jvm.ClassFile.FieldType.boolean)) ∈ lw_all := lw_g (lw_at lw_m5 7 rfl) rfl
theorem q1111 : (Jvm.Cond.instanceMethod ({ cls := "TurningRoads", name := "alike", desc := "()I" } : Jvm.MethodName)) ∈ lw_all := lw_g (lw_at lw_m5 9 rfl) rfl
theorem q1112 : (Jvm.Cond.selects "TurningRoads" ({ cls := "TurningRoads", name := "alike", desc := "()I" } : Jvm.MethodName) ({ cls := "TurningRoads", name := "alike", desc := "()I" } : Jvm.MethodName)) ∈ lw_all := lw_g (lw_at lw_m5 10 rfl) rfl
theorem q1113 : (Jvm.Cond.code ({ cls := "TurningRoads", name := "alike", desc := "()I" } : Jvm.MethodName) prog_1_method_49_code (2 : Nat) (Option.some Jvm.ClassFile.FieldType.int)) ∈ lw_all := lw_g (lw_at lw_m5 11 rfl) rfl
theorem q1115 : (Jvm.Cond.instanceMethod ({ cls := "TurningRoads", name := "decoys", desc := "(I)I" } : Jvm.MethodName)) ∈ lw_all := lw_g (lw_at lw_m5 13 rfl) rfl
theorem q1116 : (Jvm.Cond.selects "TurningRoads" ({ cls := "TurningRoads", name := "decoys", desc := "(I)I" } : Jvm.MethodName) ({ cls := "TurningRoads", name := "decoys", desc := "(I)I" } : Jvm.MethodName)) ∈ lw_all := lw_g (lw_at lw_m5 14 rfl) rfl
theorem q1117 : (Jvm.Cond.code ({ cls := "TurningRoads", name := "decoys", desc := "(I)I" } : Jvm.MethodName) prog_1_method_51_code (4 : Nat) (Option.some Jvm.ClassFile.FieldType.int)) ∈ lw_all := lw_g (lw_at lw_m5 15 rfl) rfl
theorem q1118 : (Jvm.Cond.methodLink "TurningRoads" (299 : Nat) ({ cls := "java/lang/Integer", name := "bitCount", desc := "(I)I" } : Jvm.MethodName)) ∈ lw_all := lw_g (lw_at lw_m5 16 rfl) rfl
theorem q1124 : (Jvm.Cond.methodLink "TurningRoads" (304 : Nat) ({ cls := "TurningRoads", name := "canCome", desc := "(II)Z" } : Jvm.MethodName)) ∈ lw_all := lw_g (lw_at lw_m5 22 rfl) rfl
theorem q1125 : (Jvm.Cond.privateMethod ({ cls := "TurningRoads", name := "canCome", desc := "(II)Z" } : Jvm.MethodName)) ∈ lw_tbl := lw_at lw_m5 23 rfl
theorem q1126 : (Jvm.Cond.instanceMethod ({ cls := "TurningRoads", name := "canCome", desc := "(II)Z" } : Jvm.MethodName)) ∈ lw_all := lw_g (lw_at lw_m5 24 rfl) rfl
theorem q1127 : (Jvm.Cond.code ({ cls := "TurningRoads", name := "canCome", desc := "(II)Z" } : Jvm.MethodName) prog_1_method_50_code (6 : Nat) (Option.some Jvm.ClassFile.FieldType.boolean)) ∈ lw_all := lw_g (lw_at lw_m5 25 rfl) rfl
theorem q1129 : (Jvm.Cond.instanceMethod ({ cls := "TurningRoads", name := "post", desc := "(IIZ)I" } : Jvm.MethodName)) ∈ lw_all := lw_g (lw_at lw_m5 27 rfl) rfl
theorem q1130 : (Jvm.Cond.selects "TurningRoads" ({ cls := "TurningRoads", name := "post", desc := "(IIZ)I" } : Jvm.MethodName) ({ cls := "TurningRoads", name := "post", desc := "(IIZ)I" } : Jvm.MethodName)) ∈ lw_all := lw_g (lw_at lw_m5 28 rfl) rfl
theorem q1131 : (Jvm.Cond.code ({ cls := "TurningRoads", name := "post", desc := "(IIZ)I" } : Jvm.MethodName) prog_1_method_52_code (11 : Nat) (Option.some Jvm.ClassFile.FieldType.int)) ∈ lw_all := lw_g (lw_at lw_m5 29 rfl) rfl
theorem q1132 : (Jvm.Cond.constantLong "TurningRoads" (307 : Nat) (255 : Int64)) ∈ lw_all := lw_g (lw_at lw_m5 30 rfl) rfl
theorem q1134 : (Jvm.Cond.instanceMethod ({ cls := "TurningRoads", name := "longest", desc := "(III)I" } : Jvm.MethodName)) ∈ lw_all := lw_g (lw_at lw_m5 32 rfl) rfl
theorem q1135 : (Jvm.Cond.selects "TurningRoads" ({ cls := "TurningRoads", name := "longest", desc := "(III)I" } : Jvm.MethodName) ({ cls := "TurningRoads", name := "longest", desc := "(III)I" } : Jvm.MethodName)) ∈ lw_all := lw_g (lw_at lw_m5 33 rfl) rfl
theorem q1136 : (Jvm.Cond.code ({ cls := "TurningRoads", name := "longest", desc := "(III)I" } : Jvm.MethodName) prog_1_method_56_code (5 : Nat) (Option.some Jvm.ClassFile.FieldType.int)) ∈ lw_all := lw_g (lw_at lw_m5 34 rfl) rfl
theorem q1137 : (Jvm.Cond.methodLink "TurningRoads" (321 : Nat) ({ cls := "TurningRoads", name := "mayWander", desc := "(I)Z" } : Jvm.MethodName)) ∈ lw_all := lw_g (lw_at lw_m5 35 rfl) rfl
theorem q1138 : (Jvm.Cond.privateMethod ({ cls := "TurningRoads", name := "mayWander", desc := "(I)Z" } : Jvm.MethodName)) ∈ lw_tbl := lw_at lw_m5 36 rfl
theorem q1139 : (Jvm.Cond.instanceMethod ({ cls := "TurningRoads", name := "mayWander", desc := "(I)Z" } : Jvm.MethodName)) ∈ lw_all := lw_g (lw_at lw_m5 37 rfl) rfl
theorem q1140 : (Jvm.Cond.code ({ cls := "TurningRoads", name := "mayWander", desc := "(I)Z" } : Jvm.MethodName) prog_1_method_53_code (2 : Nat) (Option.some Jvm.ClassFile.FieldType.boolean)) ∈ lw_all := lw_g (lw_at lw_m5 38 rfl) rfl
theorem q1141 : (Jvm.Cond.constantLong "TurningRoads" (324 : Nat) (2000 : Int64)) ∈ lw_all := lw_g (lw_at lw_m5 39 rfl) rfl
theorem q1142 : (Jvm.Cond.constantLong "TurningRoads" (326 : Nat) (2 : Int64)) ∈ lw_all := lw_g (lw_at lw_m5 40 rfl) rfl
theorem q1143 : (Jvm.Cond.methodLink "TurningRoads" (328 : Nat) ({ cls := "TurningRoads", name := "setsOut", desc := "(I)V" } : Jvm.MethodName)) ∈ lw_all := lw_g (lw_at lw_m5 41 rfl) rfl
theorem q1144 : (Jvm.Cond.privateMethod ({ cls := "TurningRoads", name := "setsOut", desc := "(I)V" } : Jvm.MethodName)) ∈ lw_tbl := lw_at lw_m5 42 rfl
theorem q1145 : (Jvm.Cond.instanceMethod ({ cls := "TurningRoads", name := "setsOut", desc := "(I)V" } : Jvm.MethodName)) ∈ lw_all := lw_g (lw_at lw_m5 43 rfl) rfl
theorem q1146 : (Jvm.Cond.code ({ cls := "TurningRoads", name := "setsOut", desc := "(I)V" } : Jvm.MethodName) prog_1_method_54_code (3 : Nat) (Option.none : Option Jvm.ClassFile.FieldType)) ∈ lw_all := lw_g (lw_at lw_m5 44 rfl) rfl
theorem q1147 : (Jvm.Cond.methodLink "TurningRoads" (331 : Nat) ({ cls := "TurningRoads", name := "wanders", desc := "()Z" } : Jvm.MethodName)) ∈ lw_all := lw_g (lw_at lw_m5 45 rfl) rfl
theorem q1148 : (Jvm.Cond.privateMethod ({ cls := "TurningRoads", name := "wanders", desc := "()Z" } : Jvm.MethodName)) ∈ lw_tbl := lw_at lw_m5 46 rfl
theorem q1149 : (Jvm.Cond.instanceMethod ({ cls := "TurningRoads", name := "wanders", desc := "()Z" } : Jvm.MethodName)) ∈ lw_all := lw_g (lw_at lw_m5 47 rfl) rfl
theorem q1150 : (Jvm.Cond.code ({ cls := "TurningRoads", name := "wanders", desc := "()Z" } : Jvm.MethodName) prog_1_method_55_code (3 : Nat) (Option.some Jvm.ClassFile.FieldType.boolean)) ∈ lw_all := lw_g (lw_at lw_m5 48 rfl) rfl
theorem q1152 : (Jvm.Cond.instanceMethod ({ cls := "TurningRoads", name := "covers", desc := "(I)I" } : Jvm.MethodName)) ∈ lw_all := lw_g (lw_at lw_m5 50 rfl) rfl
theorem q1153 : (Jvm.Cond.selects "TurningRoads" ({ cls := "TurningRoads", name := "covers", desc := "(I)I" } : Jvm.MethodName) ({ cls := "TurningRoads", name := "covers", desc := "(I)I" } : Jvm.MethodName)) ∈ lw_all := lw_g (lw_at lw_m5 51 rfl) rfl
theorem q1154 : (Jvm.Cond.code ({ cls := "TurningRoads", name := "covers", desc := "(I)I" } : Jvm.MethodName) prog_1_method_57_code (4 : Nat) (Option.some Jvm.ClassFile.FieldType.int)) ∈ lw_all := lw_g (lw_at lw_m5 52 rfl) rfl
theorem q1156 : (Jvm.Cond.instanceMethod ({ cls := "TurningRoads", name := "settles", desc := "(II)I" } : Jvm.MethodName)) ∈ lw_all := lw_g (lw_at lw_m5 54 rfl) rfl
theorem q1157 : (Jvm.Cond.selects "TurningRoads" ({ cls := "TurningRoads", name := "settles", desc := "(II)I" } : Jvm.MethodName) ({ cls := "TurningRoads", name := "settles", desc := "(II)I" } : Jvm.MethodName)) ∈ lw_all := lw_g (lw_at lw_m5 55 rfl) rfl
theorem q1158 : (Jvm.Cond.code ({ cls := "TurningRoads", name := "settles", desc := "(II)I" } : Jvm.MethodName) prog_1_method_59_code (5 : Nat) (Option.some Jvm.ClassFile.FieldType.int)) ∈ lw_all := lw_g (lw_at lw_m5 56 rfl) rfl
theorem q1159 : (Jvm.Cond.methodLink "TurningRoads" (334 : Nat) ({ cls := "TurningRoads", name := "orderNow", desc := "()J" } : Jvm.MethodName)) ∈ lw_all := lw_g (lw_at lw_m5 57 rfl) rfl
theorem q1160 : (Jvm.Cond.privateMethod ({ cls := "TurningRoads", name := "orderNow", desc := "()J" } : Jvm.MethodName)) ∈ lw_tbl := lw_at lw_m5 58 rfl
theorem q1161 : (Jvm.Cond.instanceMethod ({ cls := "TurningRoads", name := "orderNow", desc := "()J" } : Jvm.MethodName)) ∈ lw_all := lw_g (lw_at lw_m5 59 rfl) rfl
theorem q1162 : (Jvm.Cond.code ({ cls := "TurningRoads", name := "orderNow", desc := "()J" } : Jvm.MethodName) prog_1_method_58_code (6 : Nat) (Option.some Jvm.ClassFile.FieldType.long)) ∈ lw_all := lw_g (lw_at lw_m5 60 rfl) rfl
theorem q1164 : (Jvm.Cond.instanceMethod ({ cls := "TurningRoads", name := "row", desc := "(II)I" } : Jvm.MethodName)) ∈ lw_all := lw_g (lw_at lw_m5 62 rfl) rfl
theorem q1165 : (Jvm.Cond.selects "TurningRoads" ({ cls := "TurningRoads", name := "row", desc := "(II)I" } : Jvm.MethodName) ({ cls := "TurningRoads", name := "row", desc := "(II)I" } : Jvm.MethodName)) ∈ lw_all := lw_g (lw_at lw_m5 63 rfl) rfl
theorem q1166 : (Jvm.Cond.code ({ cls := "TurningRoads", name := "row", desc := "(II)I" } : Jvm.MethodName) prog_1_method_60_code (3 : Nat) (Option.some Jvm.ClassFile.FieldType.int)) ∈ lw_all := lw_g (lw_at lw_m5 64 rfl) rfl
theorem q1168 : (Jvm.Cond.instanceMethod ({ cls := "TurningRoads", name := "done", desc := "()I" } : Jvm.MethodName)) ∈ lw_all := lw_g (lw_at lw_m5 66 rfl) rfl
theorem q1169 : (Jvm.Cond.selects "TurningRoads" ({ cls := "TurningRoads", name := "done", desc := "()I" } : Jvm.MethodName) ({ cls := "TurningRoads", name := "done", desc := "()I" } : Jvm.MethodName)) ∈ lw_all := lw_g (lw_at lw_m5 67 rfl) rfl
theorem q1170 : (Jvm.Cond.code ({ cls := "TurningRoads", name := "done", desc := "()I" } : Jvm.MethodName) prog_1_method_64_code (1 : Nat) (Option.some Jvm.ClassFile.FieldType.int)) ∈ lw_all := lw_g (lw_at lw_m5 68 rfl) rfl
theorem q1171 : (Jvm.Cond.methodLink "TurningRoads" (347 : Nat) ({ cls := "TurningRoads", name := "doesRow", desc := "(I)I" } : Jvm.MethodName)) ∈ lw_all := lw_g (lw_at lw_m5 69 rfl) rfl
theorem q1172 : (Jvm.Cond.privateMethod ({ cls := "TurningRoads", name := "doesRow", desc := "(I)I" } : Jvm.MethodName)) ∈ lw_tbl := lw_at lw_m5 70 rfl
theorem q1173 : (Jvm.Cond.instanceMethod ({ cls := "TurningRoads", name := "doesRow", desc := "(I)I" } : Jvm.MethodName)) ∈ lw_all := lw_g (lw_at lw_m5 71 rfl) rfl
theorem q1174 : (Jvm.Cond.code ({ cls := "TurningRoads", name := "doesRow", desc := "(I)I" } : Jvm.MethodName) prog_1_method_63_code (3 : Nat) (Option.some Jvm.ClassFile.FieldType.int)) ∈ lw_all := lw_g (lw_at lw_m5 72 rfl) rfl
theorem q1175 : (Jvm.Cond.methodLink "TurningRoads" (341 : Nat) ({ cls := "TurningRoads", name := "standsAll", desc := "()V" } : Jvm.MethodName)) ∈ lw_all := lw_g (lw_at lw_m5 73 rfl) rfl
theorem q1176 : (Jvm.Cond.privateMethod ({ cls := "TurningRoads", name := "standsAll", desc := "()V" } : Jvm.MethodName)) ∈ lw_tbl := lw_at lw_m5 74 rfl
theorem q1177 : (Jvm.Cond.instanceMethod ({ cls := "TurningRoads", name := "standsAll", desc := "()V" } : Jvm.MethodName)) ∈ lw_all := lw_g (lw_at lw_m5 75 rfl) rfl
theorem q1178 : (Jvm.Cond.code ({ cls := "TurningRoads", name := "standsAll", desc := "()V" } : Jvm.MethodName) prog_1_method_61_code (2 : Nat) (Option.none : Option Jvm.ClassFile.FieldType)) ∈ lw_all := lw_g (lw_at lw_m5 76 rfl) rfl
theorem q1179 : (Jvm.Cond.methodLink "TurningRoads" (344 : Nat) ({ cls := "TurningRoads", name := "does", desc := "(I)Z" } : Jvm.MethodName)) ∈ lw_all := lw_g (lw_at lw_m5 77 rfl) rfl
theorem q1180 : (Jvm.Cond.privateMethod ({ cls := "TurningRoads", name := "does", desc := "(I)Z" } : Jvm.MethodName)) ∈ lw_tbl := lw_at lw_m5 78 rfl
theorem q1181 : (Jvm.Cond.instanceMethod ({ cls := "TurningRoads", name := "does", desc := "(I)Z" } : Jvm.MethodName)) ∈ lw_all := lw_g (lw_at lw_m5 79 rfl) rfl
theorem q1182 : (Jvm.Cond.code ({ cls := "TurningRoads", name := "does", desc := "(I)Z" } : Jvm.MethodName) prog_1_method_62_code (4 : Nat) (Option.some Jvm.ClassFile.FieldType.boolean)) ∈ lw_all := lw_g (lw_at lw_m5 80 rfl) rfl
theorem q1184 : (Jvm.Cond.instanceMethod ({ cls := "TurningRoads", name := "free", desc := "(I)I" } : Jvm.MethodName)) ∈ lw_all := lw_g (lw_at lw_m5 82 rfl) rfl
theorem q1185 : (Jvm.Cond.selects "TurningRoads" ({ cls := "TurningRoads", name := "free", desc := "(I)I" } : Jvm.MethodName) ({ cls := "TurningRoads", name := "free", desc := "(I)I" } : Jvm.MethodName)) ∈ lw_all := lw_g (lw_at lw_m5 83 rfl) rfl
theorem q1186 : (Jvm.Cond.code ({ cls := "TurningRoads", name := "free", desc := "(I)I" } : Jvm.MethodName) prog_1_method_65_code (4 : Nat) (Option.some Jvm.ClassFile.FieldType.int)) ∈ lw_all := lw_g (lw_at lw_m5 84 rfl) rfl
theorem q1188 : (Jvm.Cond.instanceMethod ({ cls := "TurningRoads", name := "tick", desc := "(II)I" } : Jvm.MethodName)) ∈ lw_all := lw_g (lw_at lw_m5 86 rfl) rfl
theorem q1189 : (Jvm.Cond.selects "TurningRoads" ({ cls := "TurningRoads", name := "tick", desc := "(II)I" } : Jvm.MethodName) ({ cls := "TurningRoads", name := "tick", desc := "(II)I" } : Jvm.MethodName)) ∈ lw_all := lw_g (lw_at lw_m5 87 rfl) rfl
theorem q1190 : (Jvm.Cond.code ({ cls := "TurningRoads", name := "tick", desc := "(II)I" } : Jvm.MethodName) prog_1_method_72_code (4 : Nat) (Option.some Jvm.ClassFile.FieldType.int)) ∈ lw_all := lw_g (lw_at lw_m5 88 rfl) rfl
theorem q1191 : (Jvm.Cond.methodLink "TurningRoads" (392 : Nat) ({ cls := "TurningRoads", name := "isRule", desc := "(I)Z" } : Jvm.MethodName)) ∈ lw_all := lw_g (lw_at lw_m5 89 rfl) rfl
theorem q1192 : (Jvm.Cond.privateMethod ({ cls := "TurningRoads", name := "isRule", desc := "(I)Z" } : Jvm.MethodName)) ∈ lw_tbl := lw_at lw_m5 90 rfl
theorem q1193 : (Jvm.Cond.instanceMethod ({ cls := "TurningRoads", name := "isRule", desc := "(I)Z" } : Jvm.MethodName)) ∈ lw_all := lw_g (lw_at lw_m5 91 rfl) rfl
theorem q1194 : (Jvm.Cond.code ({ cls := "TurningRoads", name := "isRule", desc := "(I)Z" } : Jvm.MethodName) prog_1_method_15_code (2 : Nat) (Option.some Jvm.ClassFile.FieldType.boolean)) ∈ lw_all := lw_g (lw_at lw_m5 92 rfl) rfl
theorem q1195 : (Jvm.Cond.constantLong "TurningRoads" (395 : Nat) (600 : Int64)) ∈ lw_all := lw_g (lw_at lw_m5 93 rfl) rfl
theorem q1196 : (Jvm.Cond.constant "TurningRoads" (397 : Nat) (99999 : Int32)) ∈ lw_all := lw_g (lw_at lw_m5 94 rfl) rfl
theorem q1197 : (Jvm.Cond.classLink "TurningRoads" (354 : Nat) "TurningRoads$Rule") ∈ lw_all := lw_g (lw_at lw_m5 95 rfl) rfl
theorem q1198 : (Jvm.Cond.methodLink "TurningRoads" (398 : Nat) ({ cls := "TurningRoads", name := "minute", desc := "(LTurningRoads$Rule;)V" } : Jvm.MethodName)) ∈ lw_all := lw_g (lw_at lw_m5 96 rfl) rfl
theorem q1199 : (Jvm.Cond.privateMethod ({ cls := "TurningRoads", name := "minute", desc := "(LTurningRoads$Rule;)V" } : Jvm.MethodName)) ∈ lw_tbl := lw_at lw_m5 97 rfl
theorem q1200 : (Jvm.Cond.instanceMethod ({ cls := "TurningRoads", name := "minute", desc := "(LTurningRoads$Rule;)V" } : Jvm.MethodName)) ∈ lw_all := lw_g (lw_at lw_m5 98 rfl) rfl
theorem q1201 : (Jvm.Cond.code ({ cls := "TurningRoads", name := "minute", desc := "(LTurningRoads$Rule;)V" } : Jvm.MethodName) prog_1_method_71_code (5 : Nat) (Option.none : Option Jvm.ClassFile.FieldType)) ∈ lw_all := lw_g (lw_at lw_m5 99 rfl) rfl
theorem q1202 : (Jvm.Cond.methodLink "TurningRoads" (378 : Nat) ({ cls := "TurningRoads", name := "goesOn", desc := "(LTurningRoads$Goer;)V" } : Jvm.MethodName)) ∈ lw_all := lw_g (lw_at lw_m5 100 rfl) rfl
theorem q1203 : (Jvm.Cond.privateMethod ({ cls := "TurningRoads", name := "goesOn", desc := "(LTurningRoads$Goer;)V" } : Jvm.MethodName)) ∈ lw_tbl := lw_at lw_m5 101 rfl
theorem q1204 : (Jvm.Cond.instanceMethod ({ cls := "TurningRoads", name := "goesOn", desc := "(LTurningRoads$Goer;)V" } : Jvm.MethodName)) ∈ lw_all := lw_g (lw_at lw_m5 102 rfl) rfl
theorem q1205 : (Jvm.Cond.code ({ cls := "TurningRoads", name := "goesOn", desc := "(LTurningRoads$Goer;)V" } : Jvm.MethodName) prog_1_method_69_code (4 : Nat) (Option.none : Option Jvm.ClassFile.FieldType)) ∈ lw_all := lw_g (lw_at lw_m5 103 rfl) rfl
theorem q1206 : (Jvm.Cond.methodLink "TurningRoads" (385 : Nat) ({ cls := "TurningRoads", name := "taken", desc := "(LTurningRoads$Rule;I)I" } : Jvm.MethodName)) ∈ lw_all := lw_g (lw_at lw_m5 104 rfl) rfl
theorem q1207 : (Jvm.Cond.privateMethod ({ cls := "TurningRoads", name := "taken", desc := "(LTurningRoads$Rule;I)I" } : Jvm.MethodName)) ∈ lw_tbl := lw_at lw_m5 105 rfl
theorem q1208 : (Jvm.Cond.instanceMethod ({ cls := "TurningRoads", name := "taken", desc := "(LTurningRoads$Rule;I)I" } : Jvm.MethodName)) ∈ lw_all := lw_g (lw_at lw_m5 106 rfl) rfl
theorem q1209 : (Jvm.Cond.code ({ cls := "TurningRoads", name := "taken", desc := "(LTurningRoads$Rule;I)I" } : Jvm.MethodName) prog_1_method_68_code (10 : Nat) (Option.some Jvm.ClassFile.FieldType.int)) ∈ lw_all := lw_g (lw_at lw_m5 107 rfl) rfl
theorem q1210 : (Jvm.Cond.methodLink "TurningRoads" (350 : Nat) ({ cls := "TurningRoads", name := "asks", desc := "(II)V" } : Jvm.MethodName)) ∈ lw_all := lw_g (lw_at lw_m5 108 rfl) rfl
theorem q1211 : (Jvm.Cond.privateMethod ({ cls := "TurningRoads", name := "asks", desc := "(II)V" } : Jvm.MethodName)) ∈ lw_tbl := lw_at lw_m5 109 rfl
theorem q1212 : (Jvm.Cond.instanceMethod ({ cls := "TurningRoads", name := "asks", desc := "(II)V" } : Jvm.MethodName)) ∈ lw_all := lw_g (lw_at lw_m5 110 rfl) rfl
theorem q1213 : (Jvm.Cond.code ({ cls := "TurningRoads", name := "asks", desc := "(II)V" } : Jvm.MethodName) prog_1_method_66_code (4 : Nat) (Option.none : Option Jvm.ClassFile.FieldType)) ∈ lw_all := lw_g (lw_at lw_m5 111 rfl) rfl
theorem q1214 : (Jvm.Cond.methodLink "TurningRoads" (353 : Nat) ({ cls := "TurningRoads$Rule", name := "isWait", desc := "([J)Z" } : Jvm.MethodName)) ∈ lw_all := lw_g (lw_at lw_m5 112 rfl) rfl
theorem q1248 : (Jvm.Cond.methodLink "TurningRoads" (359 : Nat) ({ cls := "TurningRoads", name := "asksOf", desc := "(II)V" } : Jvm.MethodName)) ∈ lw_all := lw_g (lw_at lw_m5 146 rfl) rfl
theorem q1249 : (Jvm.Cond.privateMethod ({ cls := "TurningRoads", name := "asksOf", desc := "(II)V" } : Jvm.MethodName)) ∈ lw_tbl := lw_at lw_m5 147 rfl
theorem q1250 : (Jvm.Cond.instanceMethod ({ cls := "TurningRoads", name := "asksOf", desc := "(II)V" } : Jvm.MethodName)) ∈ lw_all := lw_g (lw_at lw_m5 148 rfl) rfl
theorem q1251 : (Jvm.Cond.code ({ cls := "TurningRoads", name := "asksOf", desc := "(II)V" } : Jvm.MethodName) prog_1_method_67_code (4 : Nat) (Option.none : Option Jvm.ClassFile.FieldType)) ∈ lw_all := lw_g (lw_at lw_m5 149 rfl) rfl
theorem q1252 : (Jvm.Cond.methodLink "TurningRoads" (362 : Nat) ({ cls := "TurningRoads$Rule", name := "take", desc := "([J)LTurningRoads$Told;" } : Jvm.MethodName)) ∈ lw_all := lw_g (lw_at lw_m5 150 rfl) rfl
theorem q1262 : (Jvm.Cond.methodLink "TurningRoads" (372 : Nat) ({ cls := "TurningRoads$Value", name := "of", desc := "([J)J" } : Jvm.MethodName)) ∈ lw_all := lw_g (lw_at lw_m5 160 rfl) rfl
theorem q1263 : (Jvm.Cond.methodLink "TurningRoads" (389 : Nat) ({ cls := "TurningRoads", name := "meeting", desc := "()I" } : Jvm.MethodName)) ∈ lw_all := lw_g (lw_at lw_m5 161 rfl) rfl
theorem q1264 : (Jvm.Cond.privateMethod ({ cls := "TurningRoads", name := "meeting", desc := "()I" } : Jvm.MethodName)) ∈ lw_tbl := lw_at lw_m5 162 rfl
theorem q1265 : (Jvm.Cond.instanceMethod ({ cls := "TurningRoads", name := "meeting", desc := "()I" } : Jvm.MethodName)) ∈ lw_all := lw_g (lw_at lw_m5 163 rfl) rfl
theorem q1266 : (Jvm.Cond.code ({ cls := "TurningRoads", name := "meeting", desc := "()I" } : Jvm.MethodName) prog_1_method_70_code (4 : Nat) (Option.some Jvm.ClassFile.FieldType.int)) ∈ lw_all := lw_g (lw_at lw_m5 164 rfl) rfl
theorem q1268 : (Jvm.Cond.instanceMethod ({ cls := "TurningRoads", name := "ahead", desc := "(III)I" } : Jvm.MethodName)) ∈ lw_all := lw_g (lw_at lw_m5 166 rfl) rfl
theorem q1269 : (Jvm.Cond.selects "TurningRoads" ({ cls := "TurningRoads", name := "ahead", desc := "(III)I" } : Jvm.MethodName) ({ cls := "TurningRoads", name := "ahead", desc := "(III)I" } : Jvm.MethodName)) ∈ lw_all := lw_g (lw_at lw_m5 167 rfl) rfl
theorem q1270 : (Jvm.Cond.code ({ cls := "TurningRoads", name := "ahead", desc := "(III)I" } : Jvm.MethodName) prog_1_method_74_code (5 : Nat) (Option.some Jvm.ClassFile.FieldType.int)) ∈ lw_all := lw_g (lw_at lw_m5 168 rfl) rfl
theorem q1271 : (Jvm.Cond.constantLong "TurningRoads" (405 : Nat) (3 : Int64)) ∈ lw_all := lw_g (lw_at lw_m5 169 rfl) rfl
theorem q1272 : (Jvm.Cond.methodLink "TurningRoads" (407 : Nat) ({ cls := "TurningRoads$Kept", name := "keep", desc := "()V" } : Jvm.MethodName)) ∈ lw_all := lw_g (lw_at lw_m5 170 rfl) rfl
theorem q1281 : (Jvm.Cond.methodLink "TurningRoads" (410 : Nat) ({ cls := "TurningRoads", name := "atAims", desc := "()I" } : Jvm.MethodName)) ∈ lw_all := lw_g (lw_at lw_m5 179 rfl) rfl
theorem q1282 : (Jvm.Cond.privateMethod ({ cls := "TurningRoads", name := "atAims", desc := "()I" } : Jvm.MethodName)) ∈ lw_tbl := lw_at lw_m5 180 rfl
theorem q1283 : (Jvm.Cond.instanceMethod ({ cls := "TurningRoads", name := "atAims", desc := "()I" } : Jvm.MethodName)) ∈ lw_all := lw_g (lw_at lw_m5 181 rfl) rfl
theorem q1284 : (Jvm.Cond.code ({ cls := "TurningRoads", name := "atAims", desc := "()I" } : Jvm.MethodName) prog_1_method_73_code (3 : Nat) (Option.some Jvm.ClassFile.FieldType.int)) ∈ lw_all := lw_g (lw_at lw_m5 182 rfl) rfl
theorem q1285 : (Jvm.Cond.methodLink "TurningRoads" (402 : Nat) ({ cls := "TurningRoads$Goer", name := "isThere", desc := "()Z" } : Jvm.MethodName)) ∈ lw_all := lw_g (lw_at lw_m5 183 rfl) rfl
theorem q1286 : (Jvm.Cond.methodLink "TurningRoads" (419 : Nat) ({ cls := "TurningRoads$Kept", name := "back", desc := "()V" } : Jvm.MethodName)) ∈ lw_all := lw_g (lw_at lw_m5 184 rfl) rfl
theorem q1292 : (Jvm.Cond.instanceMethod ({ cls := "TurningRoads", name := "finest", desc := "(I)I" } : Jvm.MethodName)) ∈ lw_all := lw_g (lw_at lw_m5 190 rfl) rfl
theorem q1293 : (Jvm.Cond.selects "TurningRoads" ({ cls := "TurningRoads", name := "finest", desc := "(I)I" } : Jvm.MethodName) ({ cls := "TurningRoads", name := "finest", desc := "(I)I" } : Jvm.MethodName)) ∈ lw_all := lw_g (lw_at lw_m5 191 rfl) rfl
theorem q1294 : (Jvm.Cond.code ({ cls := "TurningRoads", name := "finest", desc := "(I)I" } : Jvm.MethodName) prog_1_method_75_code (8 : Nat) (Option.some Jvm.ClassFile.FieldType.int)) ∈ lw_all := lw_g (lw_at lw_m5 192 rfl) rfl
theorem q1296 : (Jvm.Cond.instanceMethod ({ cls := "TurningRoads", name := "home", desc := "(II)I" } : Jvm.MethodName)) ∈ lw_all := lw_g (lw_at lw_m5 194 rfl) rfl
theorem q1297 : (Jvm.Cond.selects "TurningRoads" ({ cls := "TurningRoads", name := "home", desc := "(II)I" } : Jvm.MethodName) ({ cls := "TurningRoads", name := "home", desc := "(II)I" } : Jvm.MethodName)) ∈ lw_all := lw_g (lw_at lw_m5 195 rfl) rfl
theorem q1298 : (Jvm.Cond.code ({ cls := "TurningRoads", name := "home", desc := "(II)I" } : Jvm.MethodName) prog_1_method_76_code (5 : Nat) (Option.some Jvm.ClassFile.FieldType.int)) ∈ lw_all := lw_g (lw_at lw_m5 196 rfl) rfl
theorem q1300 : (Jvm.Cond.instanceMethod ({ cls := "TurningRoads", name := "seed", desc := "(I)I" } : Jvm.MethodName)) ∈ lw_all := lw_g (lw_at lw_m5 198 rfl) rfl
theorem q1301 : (Jvm.Cond.selects "TurningRoads" ({ cls := "TurningRoads", name := "seed", desc := "(I)I" } : Jvm.MethodName) ({ cls := "TurningRoads", name := "seed", desc := "(I)I" } : Jvm.MethodName)) ∈ lw_all := lw_g (lw_at lw_m5 199 rfl) rfl
theorem q1302 : (Jvm.Cond.code ({ cls := "TurningRoads", name := "seed", desc := "(I)I" } : Jvm.MethodName) prog_1_method_77_code (3 : Nat) (Option.some Jvm.ClassFile.FieldType.int)) ∈ lw_all := lw_g (lw_at lw_m5 200 rfl) rfl
theorem q1304 : (Jvm.Cond.instanceMethod ({ cls := "TurningRoads", name := "days", desc := "(IIII)I" } : Jvm.MethodName)) ∈ lw_all := lw_g (lw_at lw_m5 202 rfl) rfl
theorem q1305 : (Jvm.Cond.selects "TurningRoads" ({ cls := "TurningRoads", name := "days", desc := "(IIII)I" } : Jvm.MethodName) ({ cls := "TurningRoads", name := "days", desc := "(IIII)I" } : Jvm.MethodName)) ∈ lw_all := lw_g (lw_at lw_m5 203 rfl) rfl
theorem q1306 : (Jvm.Cond.code ({ cls := "TurningRoads", name := "days", desc := "(IIII)I" } : Jvm.MethodName) prog_1_method_79_code (11 : Nat) (Option.some Jvm.ClassFile.FieldType.int)) ∈ lw_all := lw_g (lw_at lw_m5 204 rfl) rfl
theorem q1307 : (Jvm.Cond.constantLong "TurningRoads" (432 : Nat) (20 : Int64)) ∈ lw_all := lw_g (lw_at lw_m5 205 rfl) rfl
theorem q1308 : (Jvm.Cond.constantLong "TurningRoads" (434 : Nat) (300 : Int64)) ∈ lw_all := lw_g (lw_at lw_m5 206 rfl) rfl
theorem q1309 : (Jvm.Cond.methodLink "TurningRoads" (436 : Nat) ({ cls := "TurningRoads", name := "draws", desc := "(I)I" } : Jvm.MethodName)) ∈ lw_all := lw_g (lw_at lw_m5 207 rfl) rfl
theorem q1310 : (Jvm.Cond.privateMethod ({ cls := "TurningRoads", name := "draws", desc := "(I)I" } : Jvm.MethodName)) ∈ lw_tbl := lw_at lw_m5 208 rfl
theorem q1311 : (Jvm.Cond.instanceMethod ({ cls := "TurningRoads", name := "draws", desc := "(I)I" } : Jvm.MethodName)) ∈ lw_all := lw_g (lw_at lw_m5 209 rfl) rfl
theorem q1312 : (Jvm.Cond.code ({ cls := "TurningRoads", name := "draws", desc := "(I)I" } : Jvm.MethodName) prog_1_method_78_code (2 : Nat) (Option.some Jvm.ClassFile.FieldType.int)) ∈ lw_all := lw_g (lw_at lw_m5 210 rfl) rfl
theorem q1313 : (Jvm.Cond.constantLong "TurningRoads" (425 : Nat) (1103515245 : Int64)) ∈ lw_all := lw_g (lw_at lw_m5 211 rfl) rfl
theorem q1314 : (Jvm.Cond.constantLong "TurningRoads" (427 : Nat) (12345 : Int64)) ∈ lw_all := lw_g (lw_at lw_m5 212 rfl) rfl
theorem q1315 : (Jvm.Cond.constantLong "TurningRoads" (429 : Nat) (2147483648 : Int64)) ∈ lw_all := lw_g (lw_at lw_m5 213 rfl) rfl
theorem q1316 : (Jvm.Cond.constant "TurningRoads" (431 : Nat) (65536 : Int32)) ∈ lw_all := lw_g (lw_at lw_m5 214 rfl) rfl
theorem q1318 : (Jvm.Cond.instanceMethod ({ cls := "TurningRoads", name := "count", desc := "(I)I" } : Jvm.MethodName)) ∈ lw_all := lw_g (lw_at lw_m5 216 rfl) rfl
theorem q1319 : (Jvm.Cond.selects "TurningRoads" ({ cls := "TurningRoads", name := "count", desc := "(I)I" } : Jvm.MethodName) ({ cls := "TurningRoads", name := "count", desc := "(I)I" } : Jvm.MethodName)) ∈ lw_all := lw_g (lw_at lw_m5 217 rfl) rfl
theorem q1320 : (Jvm.Cond.code ({ cls := "TurningRoads", name := "count", desc := "(I)I" } : Jvm.MethodName) prog_1_method_80_code (2 : Nat) (Option.some Jvm.ClassFile.FieldType.int)) ∈ lw_all := lw_g (lw_at lw_m5 218 rfl) rfl
theorem q1322 : (Jvm.Cond.instanceMethod ({ cls := "TurningRoads", name := "image", desc := "(I)I" } : Jvm.MethodName)) ∈ lw_all := lw_g (lw_at lw_m5 220 rfl) rfl
theorem q1323 : (Jvm.Cond.selects "TurningRoads" ({ cls := "TurningRoads", name := "image", desc := "(I)I" } : Jvm.MethodName) ({ cls := "TurningRoads", name := "image", desc := "(I)I" } : Jvm.MethodName)) ∈ lw_all := lw_g (lw_at lw_m5 221 rfl) rfl
theorem q1324 : (Jvm.Cond.code ({ cls := "TurningRoads", name := "image", desc := "(I)I" } : Jvm.MethodName) prog_1_method_81_code (2 : Nat) (Option.some Jvm.ClassFile.FieldType.int)) ∈ lw_all := lw_g (lw_at lw_m5 222 rfl) rfl
theorem q1326 : (Jvm.Cond.methodLinkNest "TurningRoads" (439 : Nat) ({ cls := "TurningRoads$Image", name := "<init>", desc := "(LTurningRoads;)V" } : Jvm.MethodName) "TurningRoads") ∈ lw_tbl := lw_at lw_m5 224 rfl
theorem q1357 : (Jvm.Cond.methodLink "TurningRoads" (440 : Nat) ({ cls := "TurningRoads$Image", name := "keep", desc := "()V" } : Jvm.MethodName)) ∈ lw_all := lw_g (lw_at lw_m6 15 rfl) rfl
theorem q1363 : (Jvm.Cond.instanceMethod ({ cls := "TurningRoads", name := "back", desc := "(I)I" } : Jvm.MethodName)) ∈ lw_all := lw_g (lw_at lw_m6 21 rfl) rfl
theorem q1364 : (Jvm.Cond.selects "TurningRoads" ({ cls := "TurningRoads", name := "back", desc := "(I)I" } : Jvm.MethodName) ({ cls := "TurningRoads", name := "back", desc := "(I)I" } : Jvm.MethodName)) ∈ lw_all := lw_g (lw_at lw_m6 22 rfl) rfl
theorem q1365 : (Jvm.Cond.code ({ cls := "TurningRoads", name := "back", desc := "(I)I" } : Jvm.MethodName) prog_1_method_82_code (2 : Nat) (Option.some Jvm.ClassFile.FieldType.int)) ∈ lw_all := lw_g (lw_at lw_m6 23 rfl) rfl
theorem q1366 : (Jvm.Cond.methodLink "TurningRoads" (441 : Nat) ({ cls := "TurningRoads$Image", name := "back", desc := "()V" } : Jvm.MethodName)) ∈ lw_all := lw_g (lw_at lw_m6 24 rfl) rfl
theorem q1983 : (Jvm.Cond.castable "TurningRoads" "java/lang/Object") ∈ lw_tbl := lw_at lw_m8 161 rfl
theorem q2012 : (Jvm.Cond.stringRef "TurningRoads" (444 : Nat) "way") ∈ lw_tbl := lw_at lw_m8 190 rfl
theorem q2013 : (Jvm.Cond.stringRef "TurningRoads" (445 : Nat) "minutes") ∈ lw_tbl := lw_at lw_m8 191 rfl
theorem q2014 : (Jvm.Cond.stringRef "TurningRoads" (446 : Nat) "gone") ∈ lw_tbl := lw_at lw_m8 192 rfl
theorem q2015 : (Jvm.Cond.stringRef "TurningRoads" (447 : Nat) "last") ∈ lw_tbl := lw_at lw_m8 193 rfl
theorem q2016 : (Jvm.Cond.stringRef "TurningRoads" (448 : Nat) "to") ∈ lw_tbl := lw_at lw_m8 194 rfl
theorem q2017 : (Jvm.Cond.stringRef "TurningRoads" (449 : Nat) "far") ∈ lw_tbl := lw_at lw_m8 195 rfl
theorem q2018 : (Jvm.Cond.stringRef "TurningRoads" (451 : Nat) "out") ∈ lw_tbl := lw_at lw_m8 196 rfl
theorem q2019 : (Jvm.Cond.stringRef "TurningRoads" (452 : Nat) "there") ∈ lw_tbl := lw_at lw_m8 197 rfl
theorem q2020 : (Jvm.Cond.stringRef "TurningRoads" (454 : Nat) "goer") ∈ lw_tbl := lw_at lw_m8 198 rfl
theorem q2021 : (Jvm.Cond.stringRef "TurningRoads" (456 : Nat) "aim") ∈ lw_tbl := lw_at lw_m8 199 rfl
theorem q2022 : (Jvm.Cond.stringRef "TurningRoads" (457 : Nat) "clock") ∈ lw_tbl := lw_at lw_m8 200 rfl
theorem q2023 : (Jvm.Cond.stringRef "TurningRoads" (458 : Nat) "on") ∈ lw_tbl := lw_at lw_m8 201 rfl
theorem in_X0 : ∀ w ∈ wsX00, w ∈ lw_all := lw_in wsX00 [372, 374, 376, 378, 380, 382, 384, 386, 388, 390, 392, 394, 396, 398, 400, 402, 404, 406, 408, 410, 412, 414, 416, 418, 420, 422, 424, 426, 428, 430, 432, 434, 436, 438] (by decide +kernel) (by decide +kernel)
