/-! TurningRoadsModel -/
set_option maxRecDepth 100000
def RX3 : String := "TurningRoadsModel"
def TX3 : u_T := fun k => match k with
  | 0 => ("TurningRoadsModel", "tape", "[B", true)
  | 1 => ("TurningRoadsModel", "taped", "I", false)
  | 2 => ("TurningRoadsModel", "rules", "I", false)
  | 3 => ("TurningRoadsModel", "sign", "[I", true)
  | 4 => ("TurningRoadsModel", "length", "[I", true)
  | 5 => ("TurningRoadsModel", "clause", "[I", true)
  | 6 => ("TurningRoadsModel", "clauses", "[I", true)
  | 7 => ("TurningRoadsModel", "waysRead", "I", false)
  | 8 => ("TurningRoadsModel", "goersRead", "I", false)
  | 9 => ("TurningRoadsModel", "wayRead", "[I", true)
  | 10 => ("TurningRoadsModel", "goerRead", "[I", true)
  | 11 => ("TurningRoadsModel", "next", "I", false)
  | 12 => ("TurningRoadsModel", "wrong", "I", false)
  | 13 => ("TurningRoadsModel", "number", "I", false)
  | 14 => ("TurningRoadsModel", "text", "I", false)
  | 15 => ("TurningRoadsModel", "made", "I", false)
  | 16 => ("TurningRoadsModel", "deep", "I", false)
  | 17 => ("TurningRoadsModel", "lines", "I", false)
  | 18 => ("TurningRoadsModel", "open", "[I", true)
  | 19 => ("TurningRoadsModel", "opened", "I", false)
  | 20 => ("TurningRoadsModel", "stack", "[J", true)
  | 21 => ("TurningRoadsModel", "top", "I", false)
  | 22 => ("TurningRoadsModel", "word", "[J", true)
  | 23 => ("TurningRoadsModel", "said", "[I", true)
  | 24 => ("TurningRoadsModel", "kept", "[I", true)
  | 25 => ("TurningRoadsModel", "far", "[I", true)
  | 26 => ("TurningRoadsModel", "state", "[I", true)
  | 27 => ("TurningRoadsModel", "from", "[I", true)
  | 28 => ("TurningRoadsModel", "metAt", "[I", true)
  | 29 => ("TurningRoadsModel", "states", "I", false)
  | 30 => ("TurningRoadsModel", "mover", "[I", true)
  | 31 => ("TurningRoadsModel", "movers", "I", false)
  | 32 => ("TurningRoadsModel", "isBarred", "[Z", true)
  | 33 => ("TurningRoadsModel", "longPlace", "I", false)
  | 34 => ("TurningRoadsModel", "longDirections", "I", false)
  | 35 => ("TurningRoadsModel", "longGoings", "I", false)
  | 36 => ("TurningRoadsModel", "longLast", "[I", true)
  | 37 => ("TurningRoadsModel", "seenPlace", "[I", true)
  | 38 => ("TurningRoadsModel", "seenOrder", "[J", true)
  | 39 => ("TurningRoadsModel", "rowPlace", "[I", true)
  | 40 => ("TurningRoadsModel", "rowDirections", "I", false)
  | 41 => ("TurningRoadsModel", "images", "[I", true)
  | _ => ("TurningRoadsModel", "isMade", "[Z", true)
def tyX3 : Nat → FieldType := fun k => match k with
  | 0 => .array .byte
  | 1 => .int
  | 2 => .int
  | 3 => .array .int
  | 4 => .array .int
  | 5 => .array .int
  | 6 => .array .int
  | 7 => .int
  | 8 => .int
  | 9 => .array .int
  | 10 => .array .int
  | 11 => .int
  | 12 => .int
  | 13 => .int
  | 14 => .int
  | 15 => .int
  | 16 => .int
  | 17 => .int
  | 18 => .array .int
  | 19 => .int
  | 20 => .array .long
  | 21 => .int
  | 22 => .array .long
  | 23 => .array .int
  | 24 => .array .int
  | 25 => .array .int
  | 26 => .array .int
  | 27 => .array .int
  | 28 => .array .int
  | 29 => .int
  | 30 => .array .int
  | 31 => .int
  | 32 => .array .boolean
  | 33 => .int
  | 34 => .int
  | 35 => .int
  | 36 => .array .int
  | 37 => .array .int
  | 38 => .array .long
  | 39 => .array .int
  | 40 => .int
  | 41 => .array .int
  | _ => .array .boolean
abbrev wsX30 : List Cond := u_ws RX3 TX3 43
set_option maxRecDepth 100000 in
theorem nmX3 : ∀ a, a < 43 → ∀ b, b < 43 → a ≠ b → (TX3 a).2.1 ≠ (TX3 b).2.1 := by decide +kernel
set_option maxRecDepth 100000 in
theorem tyX3_ok : ∀ k, k < 43 → parseFieldDescriptor (TX3 k).2.2.1 = some (tyX3 k) := by decide +kernel
abbrev cX3_init : ByteArray := prog_19_method_1_code
def yX3_init : MethodName := ⟨RX3, "<init>", "()V"⟩
def dkwX3_init_8 : List UInt8 := [181, 0, 77, 42, 17, 3, 40, 188, 10, 181, 0, 80, 42, 7, 188, 4, 181, 0, 83, 177]
abbrev dktX3_init_8 : List UInt8 := dkwX3_init_8 ++ []
def dkwX3_init_7 : List UInt8 := [17, 7, 209, 188, 10, 181, 0, 71, 42, 17, 7, 209, 188, 11, 181, 0, 74, 42, 16, 6, 188, 10]
abbrev dktX3_init_7 : List UInt8 := dkwX3_init_7 ++ dktX3_init_8
def dkwX3_init_6 : List UInt8 := [16, 6, 188, 10, 181, 0, 61, 42, 16, 14, 188, 4, 181, 0, 64, 42, 16, 14, 188, 10, 181, 0, 68, 42]
abbrev dktX3_init_6 : List UInt8 := dkwX3_init_6 ++ dktX3_init_7
def dkwX3_init_5 : List UInt8 := [18, 51, 188, 10, 181, 0, 52, 42, 18, 51, 188, 10, 181, 0, 55, 42, 18, 51, 188, 10, 181, 0, 58, 42]
abbrev dktX3_init_5 : List UInt8 := dkwX3_init_5 ++ dktX3_init_6
def dkwX3_init_4 : List UInt8 := [188, 10, 181, 0, 42, 42, 17, 0, 202, 188, 10, 181, 0, 45, 42, 16, 8, 188, 10, 181, 0, 48, 42]
abbrev dktX3_init_4 : List UInt8 := dkwX3_init_4 ++ dktX3_init_5
def dkwX3_init_3 : List UInt8 := [181, 0, 32, 42, 16, 64, 188, 11, 181, 0, 35, 42, 16, 12, 188, 11, 181, 0, 39, 42, 17, 0, 202]
abbrev dktX3_init_3 : List UInt8 := dkwX3_init_3 ++ dktX3_init_4
def dkwX3_init_2 : List UInt8 := [42, 16, 42, 188, 10, 181, 0, 26, 42, 16, 18, 188, 10, 181, 0, 29, 42, 17, 1, 144, 188, 10]
abbrev dktX3_init_2 : List UInt8 := dkwX3_init_2 ++ dktX3_init_3
def dkwX3_init_1 : List UInt8 := [16, 7, 188, 10, 181, 0, 17, 42, 17, 1, 104, 188, 10, 181, 0, 20, 42, 16, 6, 188, 10, 181, 0, 23]
abbrev dktX3_init_1 : List UInt8 := dkwX3_init_1 ++ dktX3_init_2
def dkwX3_init_0 : List UInt8 := [42, 183, 0, 1, 42, 17, 1, 144, 188, 8, 181, 0, 7, 42, 17, 9, 96, 188, 10, 181, 0, 13, 42]
abbrev dktX3_init_0 : List UInt8 := dkwX3_init_0 ++ dktX3_init_1
theorem dksX3_init_0 : cX3_init.data.toList.drop 0 = dktX3_init_0 := by decide +kernel
theorem dksX3_init_1 : cX3_init.data.toList.drop 23 = dktX3_init_1 := dk_seg dksX3_init_0 23 rfl rfl
theorem dksX3_init_2 : cX3_init.data.toList.drop 47 = dktX3_init_2 := dk_seg dksX3_init_1 24 rfl rfl
theorem dksX3_init_3 : cX3_init.data.toList.drop 69 = dktX3_init_3 := dk_seg dksX3_init_2 22 rfl rfl
theorem dksX3_init_4 : cX3_init.data.toList.drop 92 = dktX3_init_4 := dk_seg dksX3_init_3 23 rfl rfl
theorem dksX3_init_5 : cX3_init.data.toList.drop 115 = dktX3_init_5 := dk_seg dksX3_init_4 23 rfl rfl
theorem dksX3_init_6 : cX3_init.data.toList.drop 139 = dktX3_init_6 := dk_seg dksX3_init_5 24 rfl rfl
theorem dksX3_init_7 : cX3_init.data.toList.drop 163 = dktX3_init_7 := dk_seg dksX3_init_6 24 rfl rfl
theorem dksX3_init_8 : cX3_init.data.toList.drop 185 = dktX3_init_8 := dk_seg dksX3_init_7 22 rfl rfl
theorem dX3_init_0 : decode cX3_init 0 = .ok (.aload_n 0, 1) := dk_42 (dk_at dksX3_init_0 0 rfl rfl)
theorem dX3_init_1 : decode cX3_init 1 = .ok (.invokespecial 1, 3) := dk_183 0 1 (dk_at dksX3_init_0 1 rfl rfl)
theorem dX3_init_4 : decode cX3_init 4 = .ok (.aload_n 0, 1) := dk_42 (dk_at dksX3_init_0 4 rfl rfl)
theorem dX3_init_5 : decode cX3_init 5 = .ok (.sipush 400, 3) := dk_17 1 144 (dk_at dksX3_init_0 5 rfl rfl)
theorem dX3_init_8 : decode cX3_init 8 = .ok (.newarray .byte, 2) := dk_188_8 (dk_at dksX3_init_0 8 rfl rfl)
theorem dX3_init_10 : decode cX3_init 10 = .ok (.putfield 7, 3) := dk_181 0 7 (dk_at dksX3_init_0 10 rfl rfl)
theorem dX3_init_13 : decode cX3_init 13 = .ok (.aload_n 0, 1) := dk_42 (dk_at dksX3_init_0 13 rfl rfl)
theorem dX3_init_14 : decode cX3_init 14 = .ok (.sipush 2400, 3) := dk_17 9 96 (dk_at dksX3_init_0 14 rfl rfl)
theorem dX3_init_17 : decode cX3_init 17 = .ok (.newarray .int, 2) := dk_188_10 (dk_at dksX3_init_0 17 rfl rfl)
theorem dX3_init_19 : decode cX3_init 19 = .ok (.putfield 13, 3) := dk_181 0 13 (dk_at dksX3_init_0 19 rfl rfl)
theorem dX3_init_22 : decode cX3_init 22 = .ok (.aload_n 0, 1) := dk_42 (dk_at dksX3_init_0 22 rfl rfl)
theorem dX3_init_23 : decode cX3_init 23 = .ok (.bipush 7, 2) := dk_16 7 (dk_at dksX3_init_1 0 rfl rfl)
theorem dX3_init_25 : decode cX3_init 25 = .ok (.newarray .int, 2) := dk_188_10 (dk_at dksX3_init_1 2 rfl rfl)
theorem dX3_init_27 : decode cX3_init 27 = .ok (.putfield 17, 3) := dk_181 0 17 (dk_at dksX3_init_1 4 rfl rfl)
theorem dX3_init_30 : decode cX3_init 30 = .ok (.aload_n 0, 1) := dk_42 (dk_at dksX3_init_1 7 rfl rfl)
theorem dX3_init_31 : decode cX3_init 31 = .ok (.sipush 360, 3) := dk_17 1 104 (dk_at dksX3_init_1 8 rfl rfl)
theorem dX3_init_34 : decode cX3_init 34 = .ok (.newarray .int, 2) := dk_188_10 (dk_at dksX3_init_1 11 rfl rfl)
theorem dX3_init_36 : decode cX3_init 36 = .ok (.putfield 20, 3) := dk_181 0 20 (dk_at dksX3_init_1 13 rfl rfl)
theorem dX3_init_39 : decode cX3_init 39 = .ok (.aload_n 0, 1) := dk_42 (dk_at dksX3_init_1 16 rfl rfl)
theorem dX3_init_40 : decode cX3_init 40 = .ok (.bipush 6, 2) := dk_16 6 (dk_at dksX3_init_1 17 rfl rfl)
theorem dX3_init_42 : decode cX3_init 42 = .ok (.newarray .int, 2) := dk_188_10 (dk_at dksX3_init_1 19 rfl rfl)
theorem dX3_init_44 : decode cX3_init 44 = .ok (.putfield 23, 3) := dk_181 0 23 (dk_at dksX3_init_1 21 rfl rfl)
theorem dX3_init_47 : decode cX3_init 47 = .ok (.aload_n 0, 1) := dk_42 (dk_at dksX3_init_2 0 rfl rfl)
theorem dX3_init_48 : decode cX3_init 48 = .ok (.bipush 42, 2) := dk_16 42 (dk_at dksX3_init_2 1 rfl rfl)
theorem dX3_init_50 : decode cX3_init 50 = .ok (.newarray .int, 2) := dk_188_10 (dk_at dksX3_init_2 3 rfl rfl)
theorem dX3_init_52 : decode cX3_init 52 = .ok (.putfield 26, 3) := dk_181 0 26 (dk_at dksX3_init_2 5 rfl rfl)
theorem dX3_init_55 : decode cX3_init 55 = .ok (.aload_n 0, 1) := dk_42 (dk_at dksX3_init_2 8 rfl rfl)
theorem dX3_init_56 : decode cX3_init 56 = .ok (.bipush 18, 2) := dk_16 18 (dk_at dksX3_init_2 9 rfl rfl)
theorem dX3_init_58 : decode cX3_init 58 = .ok (.newarray .int, 2) := dk_188_10 (dk_at dksX3_init_2 11 rfl rfl)
theorem dX3_init_60 : decode cX3_init 60 = .ok (.putfield 29, 3) := dk_181 0 29 (dk_at dksX3_init_2 13 rfl rfl)
theorem dX3_init_63 : decode cX3_init 63 = .ok (.aload_n 0, 1) := dk_42 (dk_at dksX3_init_2 16 rfl rfl)
theorem dX3_init_64 : decode cX3_init 64 = .ok (.sipush 400, 3) := dk_17 1 144 (dk_at dksX3_init_2 17 rfl rfl)
theorem dX3_init_67 : decode cX3_init 67 = .ok (.newarray .int, 2) := dk_188_10 (dk_at dksX3_init_2 20 rfl rfl)
theorem dX3_init_69 : decode cX3_init 69 = .ok (.putfield 32, 3) := dk_181 0 32 (dk_at dksX3_init_3 0 rfl rfl)
theorem dX3_init_72 : decode cX3_init 72 = .ok (.aload_n 0, 1) := dk_42 (dk_at dksX3_init_3 3 rfl rfl)
theorem dX3_init_73 : decode cX3_init 73 = .ok (.bipush 64, 2) := dk_16 64 (dk_at dksX3_init_3 4 rfl rfl)
theorem dX3_init_75 : decode cX3_init 75 = .ok (.newarray .long, 2) := dk_188_11 (dk_at dksX3_init_3 6 rfl rfl)
theorem dX3_init_77 : decode cX3_init 77 = .ok (.putfield 35, 3) := dk_181 0 35 (dk_at dksX3_init_3 8 rfl rfl)
theorem dX3_init_80 : decode cX3_init 80 = .ok (.aload_n 0, 1) := dk_42 (dk_at dksX3_init_3 11 rfl rfl)
theorem dX3_init_81 : decode cX3_init 81 = .ok (.bipush 12, 2) := dk_16 12 (dk_at dksX3_init_3 12 rfl rfl)
theorem dX3_init_83 : decode cX3_init 83 = .ok (.newarray .long, 2) := dk_188_11 (dk_at dksX3_init_3 14 rfl rfl)
theorem dX3_init_85 : decode cX3_init 85 = .ok (.putfield 39, 3) := dk_181 0 39 (dk_at dksX3_init_3 16 rfl rfl)
theorem dX3_init_88 : decode cX3_init 88 = .ok (.aload_n 0, 1) := dk_42 (dk_at dksX3_init_3 19 rfl rfl)
theorem dX3_init_89 : decode cX3_init 89 = .ok (.sipush 202, 3) := dk_17 0 202 (dk_at dksX3_init_3 20 rfl rfl)
theorem dX3_init_92 : decode cX3_init 92 = .ok (.newarray .int, 2) := dk_188_10 (dk_at dksX3_init_4 0 rfl rfl)
theorem dX3_init_94 : decode cX3_init 94 = .ok (.putfield 42, 3) := dk_181 0 42 (dk_at dksX3_init_4 2 rfl rfl)
theorem dX3_init_97 : decode cX3_init 97 = .ok (.aload_n 0, 1) := dk_42 (dk_at dksX3_init_4 5 rfl rfl)
theorem dX3_init_98 : decode cX3_init 98 = .ok (.sipush 202, 3) := dk_17 0 202 (dk_at dksX3_init_4 6 rfl rfl)
theorem dX3_init_101 : decode cX3_init 101 = .ok (.newarray .int, 2) := dk_188_10 (dk_at dksX3_init_4 9 rfl rfl)
theorem dX3_init_103 : decode cX3_init 103 = .ok (.putfield 45, 3) := dk_181 0 45 (dk_at dksX3_init_4 11 rfl rfl)
theorem dX3_init_106 : decode cX3_init 106 = .ok (.aload_n 0, 1) := dk_42 (dk_at dksX3_init_4 14 rfl rfl)
theorem dX3_init_107 : decode cX3_init 107 = .ok (.bipush 8, 2) := dk_16 8 (dk_at dksX3_init_4 15 rfl rfl)
theorem dX3_init_109 : decode cX3_init 109 = .ok (.newarray .int, 2) := dk_188_10 (dk_at dksX3_init_4 17 rfl rfl)
theorem dX3_init_111 : decode cX3_init 111 = .ok (.putfield 48, 3) := dk_181 0 48 (dk_at dksX3_init_4 19 rfl rfl)
theorem dX3_init_114 : decode cX3_init 114 = .ok (.aload_n 0, 1) := dk_42 (dk_at dksX3_init_4 22 rfl rfl)
theorem dX3_init_115 : decode cX3_init 115 = .ok (.ldc 51, 2) := dk_18 51 (dk_at dksX3_init_5 0 rfl rfl)
theorem dX3_init_117 : decode cX3_init 117 = .ok (.newarray .int, 2) := dk_188_10 (dk_at dksX3_init_5 2 rfl rfl)
theorem dX3_init_119 : decode cX3_init 119 = .ok (.putfield 52, 3) := dk_181 0 52 (dk_at dksX3_init_5 4 rfl rfl)
theorem dX3_init_122 : decode cX3_init 122 = .ok (.aload_n 0, 1) := dk_42 (dk_at dksX3_init_5 7 rfl rfl)
theorem dX3_init_123 : decode cX3_init 123 = .ok (.ldc 51, 2) := dk_18 51 (dk_at dksX3_init_5 8 rfl rfl)
theorem dX3_init_125 : decode cX3_init 125 = .ok (.newarray .int, 2) := dk_188_10 (dk_at dksX3_init_5 10 rfl rfl)
theorem dX3_init_127 : decode cX3_init 127 = .ok (.putfield 55, 3) := dk_181 0 55 (dk_at dksX3_init_5 12 rfl rfl)
theorem dX3_init_130 : decode cX3_init 130 = .ok (.aload_n 0, 1) := dk_42 (dk_at dksX3_init_5 15 rfl rfl)
theorem dX3_init_131 : decode cX3_init 131 = .ok (.ldc 51, 2) := dk_18 51 (dk_at dksX3_init_5 16 rfl rfl)
theorem dX3_init_133 : decode cX3_init 133 = .ok (.newarray .int, 2) := dk_188_10 (dk_at dksX3_init_5 18 rfl rfl)
theorem dX3_init_135 : decode cX3_init 135 = .ok (.putfield 58, 3) := dk_181 0 58 (dk_at dksX3_init_5 20 rfl rfl)
theorem dX3_init_138 : decode cX3_init 138 = .ok (.aload_n 0, 1) := dk_42 (dk_at dksX3_init_5 23 rfl rfl)
theorem dX3_init_139 : decode cX3_init 139 = .ok (.bipush 6, 2) := dk_16 6 (dk_at dksX3_init_6 0 rfl rfl)
theorem dX3_init_141 : decode cX3_init 141 = .ok (.newarray .int, 2) := dk_188_10 (dk_at dksX3_init_6 2 rfl rfl)
theorem dX3_init_143 : decode cX3_init 143 = .ok (.putfield 61, 3) := dk_181 0 61 (dk_at dksX3_init_6 4 rfl rfl)
theorem dX3_init_146 : decode cX3_init 146 = .ok (.aload_n 0, 1) := dk_42 (dk_at dksX3_init_6 7 rfl rfl)
theorem dX3_init_147 : decode cX3_init 147 = .ok (.bipush 14, 2) := dk_16 14 (dk_at dksX3_init_6 8 rfl rfl)
theorem dX3_init_149 : decode cX3_init 149 = .ok (.newarray .boolean, 2) := dk_188_4 (dk_at dksX3_init_6 10 rfl rfl)
theorem dX3_init_151 : decode cX3_init 151 = .ok (.putfield 64, 3) := dk_181 0 64 (dk_at dksX3_init_6 12 rfl rfl)
theorem dX3_init_154 : decode cX3_init 154 = .ok (.aload_n 0, 1) := dk_42 (dk_at dksX3_init_6 15 rfl rfl)
theorem dX3_init_155 : decode cX3_init 155 = .ok (.bipush 14, 2) := dk_16 14 (dk_at dksX3_init_6 16 rfl rfl)
theorem dX3_init_157 : decode cX3_init 157 = .ok (.newarray .int, 2) := dk_188_10 (dk_at dksX3_init_6 18 rfl rfl)
theorem dX3_init_159 : decode cX3_init 159 = .ok (.putfield 68, 3) := dk_181 0 68 (dk_at dksX3_init_6 20 rfl rfl)
theorem dX3_init_162 : decode cX3_init 162 = .ok (.aload_n 0, 1) := dk_42 (dk_at dksX3_init_6 23 rfl rfl)
theorem dX3_init_163 : decode cX3_init 163 = .ok (.sipush 2001, 3) := dk_17 7 209 (dk_at dksX3_init_7 0 rfl rfl)
theorem dX3_init_166 : decode cX3_init 166 = .ok (.newarray .int, 2) := dk_188_10 (dk_at dksX3_init_7 3 rfl rfl)
theorem dX3_init_168 : decode cX3_init 168 = .ok (.putfield 71, 3) := dk_181 0 71 (dk_at dksX3_init_7 5 rfl rfl)
theorem dX3_init_171 : decode cX3_init 171 = .ok (.aload_n 0, 1) := dk_42 (dk_at dksX3_init_7 8 rfl rfl)
theorem dX3_init_172 : decode cX3_init 172 = .ok (.sipush 2001, 3) := dk_17 7 209 (dk_at dksX3_init_7 9 rfl rfl)
theorem dX3_init_175 : decode cX3_init 175 = .ok (.newarray .long, 2) := dk_188_11 (dk_at dksX3_init_7 12 rfl rfl)
theorem dX3_init_177 : decode cX3_init 177 = .ok (.putfield 74, 3) := dk_181 0 74 (dk_at dksX3_init_7 14 rfl rfl)
theorem dX3_init_180 : decode cX3_init 180 = .ok (.aload_n 0, 1) := dk_42 (dk_at dksX3_init_7 17 rfl rfl)
theorem dX3_init_181 : decode cX3_init 181 = .ok (.bipush 6, 2) := dk_16 6 (dk_at dksX3_init_7 18 rfl rfl)
theorem dX3_init_183 : decode cX3_init 183 = .ok (.newarray .int, 2) := dk_188_10 (dk_at dksX3_init_7 20 rfl rfl)
theorem dX3_init_185 : decode cX3_init 185 = .ok (.putfield 77, 3) := dk_181 0 77 (dk_at dksX3_init_8 0 rfl rfl)
theorem dX3_init_188 : decode cX3_init 188 = .ok (.aload_n 0, 1) := dk_42 (dk_at dksX3_init_8 3 rfl rfl)
theorem dX3_init_189 : decode cX3_init 189 = .ok (.sipush 808, 3) := dk_17 3 40 (dk_at dksX3_init_8 4 rfl rfl)
theorem dX3_init_192 : decode cX3_init 192 = .ok (.newarray .int, 2) := dk_188_10 (dk_at dksX3_init_8 7 rfl rfl)
theorem dX3_init_194 : decode cX3_init 194 = .ok (.putfield 80, 3) := dk_181 0 80 (dk_at dksX3_init_8 9 rfl rfl)
theorem dX3_init_197 : decode cX3_init 197 = .ok (.aload_n 0, 1) := dk_42 (dk_at dksX3_init_8 12 rfl rfl)
theorem dX3_init_198 : decode cX3_init 198 = .ok (.iconst 4, 1) := dk_7 (dk_at dksX3_init_8 13 rfl rfl)
theorem dX3_init_199 : decode cX3_init 199 = .ok (.newarray .boolean, 2) := dk_188_4 (dk_at dksX3_init_8 14 rfl rfl)
theorem dX3_init_201 : decode cX3_init 201 = .ok (.putfield 83, 3) := dk_181 0 83 (dk_at dksX3_init_8 16 rfl rfl)
theorem dX3_init_204 : decode cX3_init 204 = .ok (.return_, 1) := dk_177 (dk_at dksX3_init_8 19 rfl rfl)
abbrev cX3_feed : ByteArray := prog_19_method_4_code
def yX3_feed : MethodName := ⟨RX3, "feed", "(IIIII)I"⟩
def dkwX3_feed_2 : List UInt8 := [172]
abbrev dktX3_feed_2 : List UInt8 := dkwX3_feed_2 ++ []
def dkwX3_feed_1 : List UInt8 := [182, 0, 90, 42, 29, 182, 0, 90, 42, 21, 4, 182, 0, 90, 42, 21, 5, 182, 0, 90, 42, 180, 0, 86]
abbrev dktX3_feed_1 : List UInt8 := dkwX3_feed_1 ++ dktX3_feed_2
def dkwX3_feed_0 : List UInt8 := [42, 180, 0, 86, 16, 20, 96, 17, 1, 144, 164, 0, 5, 2, 172, 42, 27, 182, 0, 90, 42, 28]
abbrev dktX3_feed_0 : List UInt8 := dkwX3_feed_0 ++ dktX3_feed_1
theorem dksX3_feed_0 : cX3_feed.data.toList.drop 0 = dktX3_feed_0 := by decide +kernel
theorem dksX3_feed_1 : cX3_feed.data.toList.drop 22 = dktX3_feed_1 := dk_seg dksX3_feed_0 22 rfl rfl
theorem dksX3_feed_2 : cX3_feed.data.toList.drop 46 = dktX3_feed_2 := dk_seg dksX3_feed_1 24 rfl rfl
theorem dX3_feed_0 : decode cX3_feed 0 = .ok (.aload_n 0, 1) := dk_42 (dk_at dksX3_feed_0 0 rfl rfl)
theorem dX3_feed_1 : decode cX3_feed 1 = .ok (.getfield 86, 3) := dk_180 0 86 (dk_at dksX3_feed_0 1 rfl rfl)
theorem dX3_feed_4 : decode cX3_feed 4 = .ok (.bipush 20, 2) := dk_16 20 (dk_at dksX3_feed_0 4 rfl rfl)
theorem dX3_feed_6 : decode cX3_feed 6 = .ok (.iadd, 1) := dk_96 (dk_at dksX3_feed_0 6 rfl rfl)
theorem dX3_feed_7 : decode cX3_feed 7 = .ok (.sipush 400, 3) := dk_17 1 144 (dk_at dksX3_feed_0 7 rfl rfl)
theorem dX3_feed_10 : decode cX3_feed 10 = .ok (.if_icmp .le 5, 3) := dk_164 0 5 (dk_at dksX3_feed_0 10 rfl rfl)
theorem dX3_feed_13 : decode cX3_feed 13 = .ok (.iconst (-1), 1) := dk_2 (dk_at dksX3_feed_0 13 rfl rfl)
theorem dX3_feed_14 : decode cX3_feed 14 = .ok (.ireturn, 1) := dk_172 (dk_at dksX3_feed_0 14 rfl rfl)
theorem dX3_feed_15 : decode cX3_feed 15 = .ok (.aload_n 0, 1) := dk_42 (dk_at dksX3_feed_0 15 rfl rfl)
theorem dX3_feed_16 : decode cX3_feed 16 = .ok (.iload_n 1, 1) := dk_27 (dk_at dksX3_feed_0 16 rfl rfl)
theorem dX3_feed_17 : decode cX3_feed 17 = .ok (.invokevirtual 90, 3) := dk_182 0 90 (dk_at dksX3_feed_0 17 rfl rfl)
theorem dX3_feed_20 : decode cX3_feed 20 = .ok (.aload_n 0, 1) := dk_42 (dk_at dksX3_feed_0 20 rfl rfl)
theorem dX3_feed_21 : decode cX3_feed 21 = .ok (.iload_n 2, 1) := dk_28 (dk_at dksX3_feed_0 21 rfl rfl)
theorem dX3_feed_22 : decode cX3_feed 22 = .ok (.invokevirtual 90, 3) := dk_182 0 90 (dk_at dksX3_feed_1 0 rfl rfl)
theorem dX3_feed_25 : decode cX3_feed 25 = .ok (.aload_n 0, 1) := dk_42 (dk_at dksX3_feed_1 3 rfl rfl)
theorem dX3_feed_26 : decode cX3_feed 26 = .ok (.iload_n 3, 1) := dk_29 (dk_at dksX3_feed_1 4 rfl rfl)
theorem dX3_feed_27 : decode cX3_feed 27 = .ok (.invokevirtual 90, 3) := dk_182 0 90 (dk_at dksX3_feed_1 5 rfl rfl)
theorem dX3_feed_30 : decode cX3_feed 30 = .ok (.aload_n 0, 1) := dk_42 (dk_at dksX3_feed_1 8 rfl rfl)
theorem dX3_feed_31 : decode cX3_feed 31 = .ok (.iload 4, 2) := dk_21 4 (dk_at dksX3_feed_1 9 rfl rfl)
theorem dX3_feed_33 : decode cX3_feed 33 = .ok (.invokevirtual 90, 3) := dk_182 0 90 (dk_at dksX3_feed_1 11 rfl rfl)
theorem dX3_feed_36 : decode cX3_feed 36 = .ok (.aload_n 0, 1) := dk_42 (dk_at dksX3_feed_1 14 rfl rfl)
theorem dX3_feed_37 : decode cX3_feed 37 = .ok (.iload 5, 2) := dk_21 5 (dk_at dksX3_feed_1 15 rfl rfl)
theorem dX3_feed_39 : decode cX3_feed 39 = .ok (.invokevirtual 90, 3) := dk_182 0 90 (dk_at dksX3_feed_1 17 rfl rfl)
theorem dX3_feed_42 : decode cX3_feed 42 = .ok (.aload_n 0, 1) := dk_42 (dk_at dksX3_feed_1 20 rfl rfl)
theorem dX3_feed_43 : decode cX3_feed 43 = .ok (.getfield 86, 3) := dk_180 0 86 (dk_at dksX3_feed_1 21 rfl rfl)
theorem dX3_feed_46 : decode cX3_feed 46 = .ok (.ireturn, 1) := dk_172 (dk_at dksX3_feed_2 0 rfl rfl)
abbrev cX3_four : ByteArray := prog_19_method_3_code
def yX3_four : MethodName := ⟨RX3, "four", "(I)V"⟩
def dkwX3_four_1 : List UInt8 := [180, 0, 86, 4, 96, 181, 0, 86, 132, 2, 248, 167, 255, 226, 177]
abbrev dktX3_four_1 : List UInt8 := dkwX3_four_1 ++ []
def dkwX3_four_0 : List UInt8 := [16, 24, 61, 28, 155, 0, 32, 42, 180, 0, 7, 42, 180, 0, 86, 27, 28, 122, 145, 84, 42, 89]
abbrev dktX3_four_0 : List UInt8 := dkwX3_four_0 ++ dktX3_four_1
theorem dksX3_four_0 : cX3_four.data.toList.drop 0 = dktX3_four_0 := by decide +kernel
theorem dksX3_four_1 : cX3_four.data.toList.drop 22 = dktX3_four_1 := dk_seg dksX3_four_0 22 rfl rfl
theorem dX3_four_0 : decode cX3_four 0 = .ok (.bipush 24, 2) := dk_16 24 (dk_at dksX3_four_0 0 rfl rfl)
theorem dX3_four_2 : decode cX3_four 2 = .ok (.istore_n 2, 1) := dk_61 (dk_at dksX3_four_0 2 rfl rfl)
theorem dX3_four_3 : decode cX3_four 3 = .ok (.iload_n 2, 1) := dk_28 (dk_at dksX3_four_0 3 rfl rfl)
theorem dX3_four_4 : decode cX3_four 4 = .ok (.ifCond .lt 32, 3) := dk_155 0 32 (dk_at dksX3_four_0 4 rfl rfl)
theorem dX3_four_7 : decode cX3_four 7 = .ok (.aload_n 0, 1) := dk_42 (dk_at dksX3_four_0 7 rfl rfl)
theorem dX3_four_8 : decode cX3_four 8 = .ok (.getfield 7, 3) := dk_180 0 7 (dk_at dksX3_four_0 8 rfl rfl)
theorem dX3_four_11 : decode cX3_four 11 = .ok (.aload_n 0, 1) := dk_42 (dk_at dksX3_four_0 11 rfl rfl)
theorem dX3_four_12 : decode cX3_four 12 = .ok (.getfield 86, 3) := dk_180 0 86 (dk_at dksX3_four_0 12 rfl rfl)
theorem dX3_four_15 : decode cX3_four 15 = .ok (.iload_n 1, 1) := dk_27 (dk_at dksX3_four_0 15 rfl rfl)
theorem dX3_four_16 : decode cX3_four 16 = .ok (.iload_n 2, 1) := dk_28 (dk_at dksX3_four_0 16 rfl rfl)
theorem dX3_four_17 : decode cX3_four 17 = .ok (.ishr, 1) := dk_122 (dk_at dksX3_four_0 17 rfl rfl)
theorem dX3_four_18 : decode cX3_four 18 = .ok (.i2b, 1) := dk_145 (dk_at dksX3_four_0 18 rfl rfl)
theorem dX3_four_19 : decode cX3_four 19 = .ok (.bastore, 1) := dk_84 (dk_at dksX3_four_0 19 rfl rfl)
theorem dX3_four_20 : decode cX3_four 20 = .ok (.aload_n 0, 1) := dk_42 (dk_at dksX3_four_0 20 rfl rfl)
theorem dX3_four_21 : decode cX3_four 21 = .ok (.dup, 1) := dk_89 (dk_at dksX3_four_0 21 rfl rfl)
theorem dX3_four_22 : decode cX3_four 22 = .ok (.getfield 86, 3) := dk_180 0 86 (dk_at dksX3_four_1 0 rfl rfl)
theorem dX3_four_25 : decode cX3_four 25 = .ok (.iconst 1, 1) := dk_4 (dk_at dksX3_four_1 3 rfl rfl)
theorem dX3_four_26 : decode cX3_four 26 = .ok (.iadd, 1) := dk_96 (dk_at dksX3_four_1 4 rfl rfl)
theorem dX3_four_27 : decode cX3_four 27 = .ok (.putfield 86, 3) := dk_181 0 86 (dk_at dksX3_four_1 5 rfl rfl)
theorem dX3_four_30 : decode cX3_four 30 = .ok (.iinc 2 (-8), 3) := dk_132 2 248 (dk_at dksX3_four_1 8 rfl rfl)
theorem dX3_four_33 : decode cX3_four 33 = .ok (.goto (-30), 3) := dk_167 255 226 (dk_at dksX3_four_1 11 rfl rfl)
theorem dX3_four_36 : decode cX3_four 36 = .ok (.return_, 1) := dk_177 (dk_at dksX3_four_1 14 rfl rfl)
abbrev cX3_end : ByteArray := prog_19_method_5_code
def yX3_end : MethodName := ⟨RX3, "end", "(I)I"⟩
def dkwX3_end_0 : List UInt8 := [27, 155, 0, 11, 27, 42, 180, 0, 86, 164, 0, 5, 2, 172, 42, 27, 181, 0, 86, 27, 172]
abbrev dktX3_end_0 : List UInt8 := dkwX3_end_0 ++ []
theorem dksX3_end_0 : cX3_end.data.toList.drop 0 = dktX3_end_0 := by decide +kernel
theorem dX3_end_0 : decode cX3_end 0 = .ok (.iload_n 1, 1) := dk_27 (dk_at dksX3_end_0 0 rfl rfl)
theorem dX3_end_1 : decode cX3_end 1 = .ok (.ifCond .lt 11, 3) := dk_155 0 11 (dk_at dksX3_end_0 1 rfl rfl)
theorem dX3_end_4 : decode cX3_end 4 = .ok (.iload_n 1, 1) := dk_27 (dk_at dksX3_end_0 4 rfl rfl)
theorem dX3_end_5 : decode cX3_end 5 = .ok (.aload_n 0, 1) := dk_42 (dk_at dksX3_end_0 5 rfl rfl)
theorem dX3_end_6 : decode cX3_end 6 = .ok (.getfield 86, 3) := dk_180 0 86 (dk_at dksX3_end_0 6 rfl rfl)
theorem dX3_end_9 : decode cX3_end 9 = .ok (.if_icmp .le 5, 3) := dk_164 0 5 (dk_at dksX3_end_0 9 rfl rfl)
theorem dX3_end_12 : decode cX3_end 12 = .ok (.iconst (-1), 1) := dk_2 (dk_at dksX3_end_0 12 rfl rfl)
theorem dX3_end_13 : decode cX3_end 13 = .ok (.ireturn, 1) := dk_172 (dk_at dksX3_end_0 13 rfl rfl)
theorem dX3_end_14 : decode cX3_end 14 = .ok (.aload_n 0, 1) := dk_42 (dk_at dksX3_end_0 14 rfl rfl)
theorem dX3_end_15 : decode cX3_end 15 = .ok (.iload_n 1, 1) := dk_27 (dk_at dksX3_end_0 15 rfl rfl)
theorem dX3_end_16 : decode cX3_end 16 = .ok (.putfield 86, 3) := dk_181 0 86 (dk_at dksX3_end_0 16 rfl rfl)
theorem dX3_end_19 : decode cX3_end 19 = .ok (.iload_n 1, 1) := dk_27 (dk_at dksX3_end_0 19 rfl rfl)
theorem dX3_end_20 : decode cX3_end 20 = .ok (.ireturn, 1) := dk_172 (dk_at dksX3_end_0 20 rfl rfl)
abbrev cX3_rule : ByteArray := prog_19_method_33_code
def yX3_rule : MethodName := ⟨RX3, "rule", "()I"⟩
def dkwX3_rule_2 : List UInt8 := [180, 0, 250, 4, 96, 181, 0, 250, 42, 180, 0, 250, 4, 100, 172]
abbrev dktX3_rule_2 : List UInt8 := dkwX3_rule_2 ++ []
def dkwX3_rule_1 : List UInt8 := [180, 0, 153, 3, 79, 42, 182, 0, 253, 154, 0, 11, 16, 254, 42, 180, 0, 94, 100, 172, 42, 89]
abbrev dktX3_rule_1 : List UInt8 := dkwX3_rule_1 ++ dktX3_rule_2
def dkwX3_rule_0 : List UInt8 := [42, 180, 0, 250, 16, 6, 160, 0, 5, 2, 172, 42, 42, 180, 0, 250, 181, 0, 153, 42, 180, 0, 23, 42]
abbrev dktX3_rule_0 : List UInt8 := dkwX3_rule_0 ++ dktX3_rule_1
theorem dksX3_rule_0 : cX3_rule.data.toList.drop 0 = dktX3_rule_0 := by decide +kernel
theorem dksX3_rule_1 : cX3_rule.data.toList.drop 24 = dktX3_rule_1 := dk_seg dksX3_rule_0 24 rfl rfl
theorem dksX3_rule_2 : cX3_rule.data.toList.drop 46 = dktX3_rule_2 := dk_seg dksX3_rule_1 22 rfl rfl
theorem dX3_rule_0 : decode cX3_rule 0 = .ok (.aload_n 0, 1) := dk_42 (dk_at dksX3_rule_0 0 rfl rfl)
theorem dX3_rule_1 : decode cX3_rule 1 = .ok (.getfield 250, 3) := dk_180 0 250 (dk_at dksX3_rule_0 1 rfl rfl)
theorem dX3_rule_4 : decode cX3_rule 4 = .ok (.bipush 6, 2) := dk_16 6 (dk_at dksX3_rule_0 4 rfl rfl)
theorem dX3_rule_6 : decode cX3_rule 6 = .ok (.if_icmp .ne 5, 3) := dk_160 0 5 (dk_at dksX3_rule_0 6 rfl rfl)
theorem dX3_rule_9 : decode cX3_rule 9 = .ok (.iconst (-1), 1) := dk_2 (dk_at dksX3_rule_0 9 rfl rfl)
theorem dX3_rule_10 : decode cX3_rule 10 = .ok (.ireturn, 1) := dk_172 (dk_at dksX3_rule_0 10 rfl rfl)
theorem dX3_rule_11 : decode cX3_rule 11 = .ok (.aload_n 0, 1) := dk_42 (dk_at dksX3_rule_0 11 rfl rfl)
theorem dX3_rule_12 : decode cX3_rule 12 = .ok (.aload_n 0, 1) := dk_42 (dk_at dksX3_rule_0 12 rfl rfl)
theorem dX3_rule_13 : decode cX3_rule 13 = .ok (.getfield 250, 3) := dk_180 0 250 (dk_at dksX3_rule_0 13 rfl rfl)
theorem dX3_rule_16 : decode cX3_rule 16 = .ok (.putfield 153, 3) := dk_181 0 153 (dk_at dksX3_rule_0 16 rfl rfl)
theorem dX3_rule_19 : decode cX3_rule 19 = .ok (.aload_n 0, 1) := dk_42 (dk_at dksX3_rule_0 19 rfl rfl)
theorem dX3_rule_20 : decode cX3_rule 20 = .ok (.getfield 23, 3) := dk_180 0 23 (dk_at dksX3_rule_0 20 rfl rfl)
theorem dX3_rule_23 : decode cX3_rule 23 = .ok (.aload_n 0, 1) := dk_42 (dk_at dksX3_rule_0 23 rfl rfl)
theorem dX3_rule_24 : decode cX3_rule 24 = .ok (.getfield 153, 3) := dk_180 0 153 (dk_at dksX3_rule_1 0 rfl rfl)
theorem dX3_rule_27 : decode cX3_rule 27 = .ok (.iconst 0, 1) := dk_3 (dk_at dksX3_rule_1 3 rfl rfl)
theorem dX3_rule_28 : decode cX3_rule 28 = .ok (.iastore, 1) := dk_79 (dk_at dksX3_rule_1 4 rfl rfl)
theorem dX3_rule_29 : decode cX3_rule 29 = .ok (.aload_n 0, 1) := dk_42 (dk_at dksX3_rule_1 5 rfl rfl)
theorem dX3_rule_30 : decode cX3_rule 30 = .ok (.invokevirtual 253, 3) := dk_182 0 253 (dk_at dksX3_rule_1 6 rfl rfl)
theorem dX3_rule_33 : decode cX3_rule 33 = .ok (.ifCond .ne 11, 3) := dk_154 0 11 (dk_at dksX3_rule_1 9 rfl rfl)
theorem dX3_rule_36 : decode cX3_rule 36 = .ok (.bipush (-2), 2) := dk_16 254 (dk_at dksX3_rule_1 12 rfl rfl)
theorem dX3_rule_38 : decode cX3_rule 38 = .ok (.aload_n 0, 1) := dk_42 (dk_at dksX3_rule_1 14 rfl rfl)
theorem dX3_rule_39 : decode cX3_rule 39 = .ok (.getfield 94, 3) := dk_180 0 94 (dk_at dksX3_rule_1 15 rfl rfl)
theorem dX3_rule_42 : decode cX3_rule 42 = .ok (.isub, 1) := dk_100 (dk_at dksX3_rule_1 18 rfl rfl)
theorem dX3_rule_43 : decode cX3_rule 43 = .ok (.ireturn, 1) := dk_172 (dk_at dksX3_rule_1 19 rfl rfl)
theorem dX3_rule_44 : decode cX3_rule 44 = .ok (.aload_n 0, 1) := dk_42 (dk_at dksX3_rule_1 20 rfl rfl)
theorem dX3_rule_45 : decode cX3_rule 45 = .ok (.dup, 1) := dk_89 (dk_at dksX3_rule_1 21 rfl rfl)
theorem dX3_rule_46 : decode cX3_rule 46 = .ok (.getfield 250, 3) := dk_180 0 250 (dk_at dksX3_rule_2 0 rfl rfl)
theorem dX3_rule_49 : decode cX3_rule 49 = .ok (.iconst 1, 1) := dk_4 (dk_at dksX3_rule_2 3 rfl rfl)
theorem dX3_rule_50 : decode cX3_rule 50 = .ok (.iadd, 1) := dk_96 (dk_at dksX3_rule_2 4 rfl rfl)
theorem dX3_rule_51 : decode cX3_rule 51 = .ok (.putfield 250, 3) := dk_181 0 250 (dk_at dksX3_rule_2 5 rfl rfl)
theorem dX3_rule_54 : decode cX3_rule 54 = .ok (.aload_n 0, 1) := dk_42 (dk_at dksX3_rule_2 8 rfl rfl)
theorem dX3_rule_55 : decode cX3_rule 55 = .ok (.getfield 250, 3) := dk_180 0 250 (dk_at dksX3_rule_2 9 rfl rfl)
theorem dX3_rule_58 : decode cX3_rule 58 = .ok (.iconst 1, 1) := dk_4 (dk_at dksX3_rule_2 12 rfl rfl)
theorem dX3_rule_59 : decode cX3_rule 59 = .ok (.isub, 1) := dk_100 (dk_at dksX3_rule_2 13 rfl rfl)
theorem dX3_rule_60 : decode cX3_rule 60 = .ok (.ireturn, 1) := dk_172 (dk_at dksX3_rule_2 14 rfl rfl)
abbrev cX3_readsAll : ByteArray := prog_19_method_32_code
def yX3_readsAll : MethodName := ⟨RX3, "readsAll", "()Z"⟩
def dkwX3_readsAll_4 : List UInt8 := [181, 0, 86, 42, 180, 0, 94, 154, 0, 7, 4, 167, 0, 4, 3, 172]
abbrev dktX3_readsAll_4 : List UInt8 := dkwX3_readsAll_4 ++ []
def dkwX3_readsAll_3 : List UInt8 := [153, 0, 21, 42, 182, 0, 100, 2, 159, 0, 13, 42, 3, 42, 180, 0, 97, 182, 0, 118, 87, 42, 3]
abbrev dktX3_readsAll_3 : List UInt8 := dkwX3_readsAll_3 ++ dktX3_readsAll_4
def dkwX3_readsAll_2 : List UInt8 := [160, 0, 21, 42, 89, 180, 0, 97, 4, 96, 181, 0, 97, 42, 182, 0, 247, 60, 167, 255, 228, 27]
abbrev dktX3_readsAll_2 : List UInt8 := dkwX3_readsAll_2 ++ dktX3_readsAll_3
def dkwX3_readsAll_1 : List UInt8 := [181, 0, 94, 42, 3, 181, 0, 156, 42, 182, 0, 247, 60, 27, 153, 0, 30, 42, 182, 0, 100, 16, 59]
abbrev dktX3_readsAll_1 : List UInt8 := dkwX3_readsAll_1 ++ dktX3_readsAll_2
def dkwX3_readsAll_0 : List UInt8 := [42, 180, 0, 17, 42, 180, 0, 153, 3, 79, 42, 3, 181, 0, 235, 42, 3, 181, 0, 97, 42, 3]
abbrev dktX3_readsAll_0 : List UInt8 := dkwX3_readsAll_0 ++ dktX3_readsAll_1
theorem dksX3_readsAll_0 : cX3_readsAll.data.toList.drop 0 = dktX3_readsAll_0 := by decide +kernel
theorem dksX3_readsAll_1 : cX3_readsAll.data.toList.drop 22 = dktX3_readsAll_1 := dk_seg dksX3_readsAll_0 22 rfl rfl
theorem dksX3_readsAll_2 : cX3_readsAll.data.toList.drop 45 = dktX3_readsAll_2 := dk_seg dksX3_readsAll_1 23 rfl rfl
theorem dksX3_readsAll_3 : cX3_readsAll.data.toList.drop 67 = dktX3_readsAll_3 := dk_seg dksX3_readsAll_2 22 rfl rfl
theorem dksX3_readsAll_4 : cX3_readsAll.data.toList.drop 90 = dktX3_readsAll_4 := dk_seg dksX3_readsAll_3 23 rfl rfl
theorem dX3_readsAll_0 : decode cX3_readsAll 0 = .ok (.aload_n 0, 1) := dk_42 (dk_at dksX3_readsAll_0 0 rfl rfl)
theorem dX3_readsAll_1 : decode cX3_readsAll 1 = .ok (.getfield 17, 3) := dk_180 0 17 (dk_at dksX3_readsAll_0 1 rfl rfl)
theorem dX3_readsAll_4 : decode cX3_readsAll 4 = .ok (.aload_n 0, 1) := dk_42 (dk_at dksX3_readsAll_0 4 rfl rfl)
theorem dX3_readsAll_5 : decode cX3_readsAll 5 = .ok (.getfield 153, 3) := dk_180 0 153 (dk_at dksX3_readsAll_0 5 rfl rfl)
theorem dX3_readsAll_8 : decode cX3_readsAll 8 = .ok (.iconst 0, 1) := dk_3 (dk_at dksX3_readsAll_0 8 rfl rfl)
theorem dX3_readsAll_9 : decode cX3_readsAll 9 = .ok (.iastore, 1) := dk_79 (dk_at dksX3_readsAll_0 9 rfl rfl)
theorem dX3_readsAll_10 : decode cX3_readsAll 10 = .ok (.aload_n 0, 1) := dk_42 (dk_at dksX3_readsAll_0 10 rfl rfl)
theorem dX3_readsAll_11 : decode cX3_readsAll 11 = .ok (.iconst 0, 1) := dk_3 (dk_at dksX3_readsAll_0 11 rfl rfl)
theorem dX3_readsAll_12 : decode cX3_readsAll 12 = .ok (.putfield 235, 3) := dk_181 0 235 (dk_at dksX3_readsAll_0 12 rfl rfl)
theorem dX3_readsAll_15 : decode cX3_readsAll 15 = .ok (.aload_n 0, 1) := dk_42 (dk_at dksX3_readsAll_0 15 rfl rfl)
theorem dX3_readsAll_16 : decode cX3_readsAll 16 = .ok (.iconst 0, 1) := dk_3 (dk_at dksX3_readsAll_0 16 rfl rfl)
theorem dX3_readsAll_17 : decode cX3_readsAll 17 = .ok (.putfield 97, 3) := dk_181 0 97 (dk_at dksX3_readsAll_0 17 rfl rfl)
theorem dX3_readsAll_20 : decode cX3_readsAll 20 = .ok (.aload_n 0, 1) := dk_42 (dk_at dksX3_readsAll_0 20 rfl rfl)
theorem dX3_readsAll_21 : decode cX3_readsAll 21 = .ok (.iconst 0, 1) := dk_3 (dk_at dksX3_readsAll_0 21 rfl rfl)
theorem dX3_readsAll_22 : decode cX3_readsAll 22 = .ok (.putfield 94, 3) := dk_181 0 94 (dk_at dksX3_readsAll_1 0 rfl rfl)
theorem dX3_readsAll_25 : decode cX3_readsAll 25 = .ok (.aload_n 0, 1) := dk_42 (dk_at dksX3_readsAll_1 3 rfl rfl)
theorem dX3_readsAll_26 : decode cX3_readsAll 26 = .ok (.iconst 0, 1) := dk_3 (dk_at dksX3_readsAll_1 4 rfl rfl)
theorem dX3_readsAll_27 : decode cX3_readsAll 27 = .ok (.putfield 156, 3) := dk_181 0 156 (dk_at dksX3_readsAll_1 5 rfl rfl)
theorem dX3_readsAll_30 : decode cX3_readsAll 30 = .ok (.aload_n 0, 1) := dk_42 (dk_at dksX3_readsAll_1 8 rfl rfl)
theorem dX3_readsAll_31 : decode cX3_readsAll 31 = .ok (.invokevirtual 247, 3) := dk_182 0 247 (dk_at dksX3_readsAll_1 9 rfl rfl)
theorem dX3_readsAll_34 : decode cX3_readsAll 34 = .ok (.istore_n 1, 1) := dk_60 (dk_at dksX3_readsAll_1 12 rfl rfl)
theorem dX3_readsAll_35 : decode cX3_readsAll 35 = .ok (.iload_n 1, 1) := dk_27 (dk_at dksX3_readsAll_1 13 rfl rfl)
theorem dX3_readsAll_36 : decode cX3_readsAll 36 = .ok (.ifCond .eq 30, 3) := dk_153 0 30 (dk_at dksX3_readsAll_1 14 rfl rfl)
theorem dX3_readsAll_39 : decode cX3_readsAll 39 = .ok (.aload_n 0, 1) := dk_42 (dk_at dksX3_readsAll_1 17 rfl rfl)
theorem dX3_readsAll_40 : decode cX3_readsAll 40 = .ok (.invokevirtual 100, 3) := dk_182 0 100 (dk_at dksX3_readsAll_1 18 rfl rfl)
theorem dX3_readsAll_43 : decode cX3_readsAll 43 = .ok (.bipush 59, 2) := dk_16 59 (dk_at dksX3_readsAll_1 21 rfl rfl)
theorem dX3_readsAll_45 : decode cX3_readsAll 45 = .ok (.if_icmp .ne 21, 3) := dk_160 0 21 (dk_at dksX3_readsAll_2 0 rfl rfl)
theorem dX3_readsAll_48 : decode cX3_readsAll 48 = .ok (.aload_n 0, 1) := dk_42 (dk_at dksX3_readsAll_2 3 rfl rfl)
theorem dX3_readsAll_49 : decode cX3_readsAll 49 = .ok (.dup, 1) := dk_89 (dk_at dksX3_readsAll_2 4 rfl rfl)
theorem dX3_readsAll_50 : decode cX3_readsAll 50 = .ok (.getfield 97, 3) := dk_180 0 97 (dk_at dksX3_readsAll_2 5 rfl rfl)
theorem dX3_readsAll_53 : decode cX3_readsAll 53 = .ok (.iconst 1, 1) := dk_4 (dk_at dksX3_readsAll_2 8 rfl rfl)
theorem dX3_readsAll_54 : decode cX3_readsAll 54 = .ok (.iadd, 1) := dk_96 (dk_at dksX3_readsAll_2 9 rfl rfl)
theorem dX3_readsAll_55 : decode cX3_readsAll 55 = .ok (.putfield 97, 3) := dk_181 0 97 (dk_at dksX3_readsAll_2 10 rfl rfl)
theorem dX3_readsAll_58 : decode cX3_readsAll 58 = .ok (.aload_n 0, 1) := dk_42 (dk_at dksX3_readsAll_2 13 rfl rfl)
theorem dX3_readsAll_59 : decode cX3_readsAll 59 = .ok (.invokevirtual 247, 3) := dk_182 0 247 (dk_at dksX3_readsAll_2 14 rfl rfl)
theorem dX3_readsAll_62 : decode cX3_readsAll 62 = .ok (.istore_n 1, 1) := dk_60 (dk_at dksX3_readsAll_2 17 rfl rfl)
theorem dX3_readsAll_63 : decode cX3_readsAll 63 = .ok (.goto (-28), 3) := dk_167 255 228 (dk_at dksX3_readsAll_2 18 rfl rfl)
theorem dX3_readsAll_66 : decode cX3_readsAll 66 = .ok (.iload_n 1, 1) := dk_27 (dk_at dksX3_readsAll_2 21 rfl rfl)
theorem dX3_readsAll_67 : decode cX3_readsAll 67 = .ok (.ifCond .eq 21, 3) := dk_153 0 21 (dk_at dksX3_readsAll_3 0 rfl rfl)
theorem dX3_readsAll_70 : decode cX3_readsAll 70 = .ok (.aload_n 0, 1) := dk_42 (dk_at dksX3_readsAll_3 3 rfl rfl)
theorem dX3_readsAll_71 : decode cX3_readsAll 71 = .ok (.invokevirtual 100, 3) := dk_182 0 100 (dk_at dksX3_readsAll_3 4 rfl rfl)
theorem dX3_readsAll_74 : decode cX3_readsAll 74 = .ok (.iconst (-1), 1) := dk_2 (dk_at dksX3_readsAll_3 7 rfl rfl)
theorem dX3_readsAll_75 : decode cX3_readsAll 75 = .ok (.if_icmp .eq 13, 3) := dk_159 0 13 (dk_at dksX3_readsAll_3 8 rfl rfl)
theorem dX3_readsAll_78 : decode cX3_readsAll 78 = .ok (.aload_n 0, 1) := dk_42 (dk_at dksX3_readsAll_3 11 rfl rfl)
theorem dX3_readsAll_79 : decode cX3_readsAll 79 = .ok (.iconst 0, 1) := dk_3 (dk_at dksX3_readsAll_3 12 rfl rfl)
theorem dX3_readsAll_80 : decode cX3_readsAll 80 = .ok (.aload_n 0, 1) := dk_42 (dk_at dksX3_readsAll_3 13 rfl rfl)
theorem dX3_readsAll_81 : decode cX3_readsAll 81 = .ok (.getfield 97, 3) := dk_180 0 97 (dk_at dksX3_readsAll_3 14 rfl rfl)
theorem dX3_readsAll_84 : decode cX3_readsAll 84 = .ok (.invokevirtual 118, 3) := dk_182 0 118 (dk_at dksX3_readsAll_3 17 rfl rfl)
theorem dX3_readsAll_87 : decode cX3_readsAll 87 = .ok (.pop, 1) := dk_87 (dk_at dksX3_readsAll_3 20 rfl rfl)
theorem dX3_readsAll_88 : decode cX3_readsAll 88 = .ok (.aload_n 0, 1) := dk_42 (dk_at dksX3_readsAll_3 21 rfl rfl)
theorem dX3_readsAll_89 : decode cX3_readsAll 89 = .ok (.iconst 0, 1) := dk_3 (dk_at dksX3_readsAll_3 22 rfl rfl)
theorem dX3_readsAll_90 : decode cX3_readsAll 90 = .ok (.putfield 86, 3) := dk_181 0 86 (dk_at dksX3_readsAll_4 0 rfl rfl)
theorem dX3_readsAll_93 : decode cX3_readsAll 93 = .ok (.aload_n 0, 1) := dk_42 (dk_at dksX3_readsAll_4 3 rfl rfl)
theorem dX3_readsAll_94 : decode cX3_readsAll 94 = .ok (.getfield 94, 3) := dk_180 0 94 (dk_at dksX3_readsAll_4 4 rfl rfl)
theorem dX3_readsAll_97 : decode cX3_readsAll 97 = .ok (.ifCond .ne 7, 3) := dk_154 0 7 (dk_at dksX3_readsAll_4 7 rfl rfl)
theorem dX3_readsAll_100 : decode cX3_readsAll 100 = .ok (.iconst 1, 1) := dk_4 (dk_at dksX3_readsAll_4 10 rfl rfl)
theorem dX3_readsAll_101 : decode cX3_readsAll 101 = .ok (.goto 4, 3) := dk_167 0 4 (dk_at dksX3_readsAll_4 11 rfl rfl)
theorem dX3_readsAll_104 : decode cX3_readsAll 104 = .ok (.iconst 0, 1) := dk_3 (dk_at dksX3_readsAll_4 14 rfl rfl)
theorem dX3_readsAll_105 : decode cX3_readsAll 105 = .ok (.ireturn, 1) := dk_172 (dk_at dksX3_readsAll_4 15 rfl rfl)
abbrev cX3_clauseHere : ByteArray := prog_19_method_31_code
def yX3_clauseHere : MethodName := ⟨RX3, "clauseHere", "()Z"⟩
def dkwX3_clauseHere_7 : List UInt8 := [20, 0, 233, 182, 0, 108, 153, 0, 7, 4, 167, 0, 4, 3, 182, 0, 244, 172]
abbrev dktX3_clauseHere_7 : List UInt8 := dkwX3_clauseHere_7 ++ []
def dkwX3_clauseHere_6 : List UInt8 := [182, 0, 108, 153, 0, 11, 42, 27, 182, 0, 238, 167, 0, 8, 42, 27, 182, 0, 241, 172, 42, 42]
abbrev dktX3_clauseHere_6 : List UInt8 := dkwX3_clauseHere_6 ++ dktX3_clauseHere_7
def dkwX3_clauseHere_5 : List UInt8 := [27, 182, 0, 118, 172, 42, 89, 180, 0, 235, 4, 96, 181, 0, 235, 28, 153, 0, 27, 42, 20, 0, 129]
abbrev dktX3_clauseHere_5 : List UInt8 := dkwX3_clauseHere_5 ++ dktX3_clauseHere_6
def dkwX3_clauseHere_4 : List UInt8 := [182, 0, 118, 172, 42, 180, 0, 235, 28, 153, 0, 8, 16, 24, 167, 0, 5, 16, 12, 160, 0, 10, 42, 7]
abbrev dktX3_clauseHere_4 : List UInt8 := dkwX3_clauseHere_4 ++ dktX3_clauseHere_5
def dkwX3_clauseHere_3 : List UInt8 := [20, 0, 233, 182, 0, 108, 153, 0, 7, 4, 167, 0, 4, 3, 62, 29, 154, 0, 10, 42, 3, 27]
abbrev dktX3_clauseHere_3 : List UInt8 := dkwX3_clauseHere_3 ++ dktX3_clauseHere_4
def dkwX3_clauseHere_2 : List UInt8 := [153, 0, 7, 4, 167, 0, 32, 3, 167, 0, 28, 42, 20, 0, 231, 182, 0, 108, 154, 0, 13, 42]
abbrev dktX3_clauseHere_2 : List UInt8 := dkwX3_clauseHere_2 ++ dktX3_clauseHere_3
def dkwX3_clauseHere_1 : List UInt8 := [61, 28, 153, 0, 31, 42, 20, 0, 129, 182, 0, 108, 154, 0, 13, 42, 20, 0, 145, 182, 0, 108]
abbrev dktX3_clauseHere_1 : List UInt8 := dkwX3_clauseHere_1 ++ dktX3_clauseHere_2
def dkwX3_clauseHere_0 : List UInt8 := [42, 182, 0, 100, 87, 42, 180, 0, 97, 60, 42, 180, 0, 153, 16, 6, 160, 0, 7, 4, 167, 0, 4, 3]
abbrev dktX3_clauseHere_0 : List UInt8 := dkwX3_clauseHere_0 ++ dktX3_clauseHere_1
theorem dksX3_clauseHere_0 : cX3_clauseHere.data.toList.drop 0 = dktX3_clauseHere_0 := by decide +kernel
theorem dksX3_clauseHere_1 : cX3_clauseHere.data.toList.drop 24 = dktX3_clauseHere_1 := dk_seg dksX3_clauseHere_0 24 rfl rfl
theorem dksX3_clauseHere_2 : cX3_clauseHere.data.toList.drop 46 = dktX3_clauseHere_2 := dk_seg dksX3_clauseHere_1 22 rfl rfl
theorem dksX3_clauseHere_3 : cX3_clauseHere.data.toList.drop 68 = dktX3_clauseHere_3 := dk_seg dksX3_clauseHere_2 22 rfl rfl
theorem dksX3_clauseHere_4 : cX3_clauseHere.data.toList.drop 90 = dktX3_clauseHere_4 := dk_seg dksX3_clauseHere_3 22 rfl rfl
theorem dksX3_clauseHere_5 : cX3_clauseHere.data.toList.drop 114 = dktX3_clauseHere_5 := dk_seg dksX3_clauseHere_4 24 rfl rfl
theorem dksX3_clauseHere_6 : cX3_clauseHere.data.toList.drop 137 = dktX3_clauseHere_6 := dk_seg dksX3_clauseHere_5 23 rfl rfl
theorem dksX3_clauseHere_7 : cX3_clauseHere.data.toList.drop 159 = dktX3_clauseHere_7 := dk_seg dksX3_clauseHere_6 22 rfl rfl
theorem dX3_clauseHere_0 : decode cX3_clauseHere 0 = .ok (.aload_n 0, 1) := dk_42 (dk_at dksX3_clauseHere_0 0 rfl rfl)
theorem dX3_clauseHere_1 : decode cX3_clauseHere 1 = .ok (.invokevirtual 100, 3) := dk_182 0 100 (dk_at dksX3_clauseHere_0 1 rfl rfl)
theorem dX3_clauseHere_4 : decode cX3_clauseHere 4 = .ok (.pop, 1) := dk_87 (dk_at dksX3_clauseHere_0 4 rfl rfl)
theorem dX3_clauseHere_5 : decode cX3_clauseHere 5 = .ok (.aload_n 0, 1) := dk_42 (dk_at dksX3_clauseHere_0 5 rfl rfl)
theorem dX3_clauseHere_6 : decode cX3_clauseHere 6 = .ok (.getfield 97, 3) := dk_180 0 97 (dk_at dksX3_clauseHere_0 6 rfl rfl)
theorem dX3_clauseHere_9 : decode cX3_clauseHere 9 = .ok (.istore_n 1, 1) := dk_60 (dk_at dksX3_clauseHere_0 9 rfl rfl)
theorem dX3_clauseHere_10 : decode cX3_clauseHere 10 = .ok (.aload_n 0, 1) := dk_42 (dk_at dksX3_clauseHere_0 10 rfl rfl)
theorem dX3_clauseHere_11 : decode cX3_clauseHere 11 = .ok (.getfield 153, 3) := dk_180 0 153 (dk_at dksX3_clauseHere_0 11 rfl rfl)
theorem dX3_clauseHere_14 : decode cX3_clauseHere 14 = .ok (.bipush 6, 2) := dk_16 6 (dk_at dksX3_clauseHere_0 14 rfl rfl)
theorem dX3_clauseHere_16 : decode cX3_clauseHere 16 = .ok (.if_icmp .ne 7, 3) := dk_160 0 7 (dk_at dksX3_clauseHere_0 16 rfl rfl)
theorem dX3_clauseHere_19 : decode cX3_clauseHere 19 = .ok (.iconst 1, 1) := dk_4 (dk_at dksX3_clauseHere_0 19 rfl rfl)
theorem dX3_clauseHere_20 : decode cX3_clauseHere 20 = .ok (.goto 4, 3) := dk_167 0 4 (dk_at dksX3_clauseHere_0 20 rfl rfl)
theorem dX3_clauseHere_23 : decode cX3_clauseHere 23 = .ok (.iconst 0, 1) := dk_3 (dk_at dksX3_clauseHere_0 23 rfl rfl)
theorem dX3_clauseHere_24 : decode cX3_clauseHere 24 = .ok (.istore_n 2, 1) := dk_61 (dk_at dksX3_clauseHere_1 0 rfl rfl)
theorem dX3_clauseHere_25 : decode cX3_clauseHere 25 = .ok (.iload_n 2, 1) := dk_28 (dk_at dksX3_clauseHere_1 1 rfl rfl)
theorem dX3_clauseHere_26 : decode cX3_clauseHere 26 = .ok (.ifCond .eq 31, 3) := dk_153 0 31 (dk_at dksX3_clauseHere_1 2 rfl rfl)
theorem dX3_clauseHere_29 : decode cX3_clauseHere 29 = .ok (.aload_n 0, 1) := dk_42 (dk_at dksX3_clauseHere_1 5 rfl rfl)
theorem dX3_clauseHere_30 : decode cX3_clauseHere 30 = .ok (.ldc2_w 129, 3) := dk_20 0 129 (dk_at dksX3_clauseHere_1 6 rfl rfl)
theorem dX3_clauseHere_33 : decode cX3_clauseHere 33 = .ok (.invokevirtual 108, 3) := dk_182 0 108 (dk_at dksX3_clauseHere_1 9 rfl rfl)
theorem dX3_clauseHere_36 : decode cX3_clauseHere 36 = .ok (.ifCond .ne 13, 3) := dk_154 0 13 (dk_at dksX3_clauseHere_1 12 rfl rfl)
theorem dX3_clauseHere_39 : decode cX3_clauseHere 39 = .ok (.aload_n 0, 1) := dk_42 (dk_at dksX3_clauseHere_1 15 rfl rfl)
theorem dX3_clauseHere_40 : decode cX3_clauseHere 40 = .ok (.ldc2_w 145, 3) := dk_20 0 145 (dk_at dksX3_clauseHere_1 16 rfl rfl)
theorem dX3_clauseHere_43 : decode cX3_clauseHere 43 = .ok (.invokevirtual 108, 3) := dk_182 0 108 (dk_at dksX3_clauseHere_1 19 rfl rfl)
theorem dX3_clauseHere_46 : decode cX3_clauseHere 46 = .ok (.ifCond .eq 7, 3) := dk_153 0 7 (dk_at dksX3_clauseHere_2 0 rfl rfl)
theorem dX3_clauseHere_49 : decode cX3_clauseHere 49 = .ok (.iconst 1, 1) := dk_4 (dk_at dksX3_clauseHere_2 3 rfl rfl)
theorem dX3_clauseHere_50 : decode cX3_clauseHere 50 = .ok (.goto 32, 3) := dk_167 0 32 (dk_at dksX3_clauseHere_2 4 rfl rfl)
theorem dX3_clauseHere_53 : decode cX3_clauseHere 53 = .ok (.iconst 0, 1) := dk_3 (dk_at dksX3_clauseHere_2 7 rfl rfl)
theorem dX3_clauseHere_54 : decode cX3_clauseHere 54 = .ok (.goto 28, 3) := dk_167 0 28 (dk_at dksX3_clauseHere_2 8 rfl rfl)
theorem dX3_clauseHere_57 : decode cX3_clauseHere 57 = .ok (.aload_n 0, 1) := dk_42 (dk_at dksX3_clauseHere_2 11 rfl rfl)
theorem dX3_clauseHere_58 : decode cX3_clauseHere 58 = .ok (.ldc2_w 231, 3) := dk_20 0 231 (dk_at dksX3_clauseHere_2 12 rfl rfl)
theorem dX3_clauseHere_61 : decode cX3_clauseHere 61 = .ok (.invokevirtual 108, 3) := dk_182 0 108 (dk_at dksX3_clauseHere_2 15 rfl rfl)
theorem dX3_clauseHere_64 : decode cX3_clauseHere 64 = .ok (.ifCond .ne 13, 3) := dk_154 0 13 (dk_at dksX3_clauseHere_2 18 rfl rfl)
theorem dX3_clauseHere_67 : decode cX3_clauseHere 67 = .ok (.aload_n 0, 1) := dk_42 (dk_at dksX3_clauseHere_2 21 rfl rfl)
theorem dX3_clauseHere_68 : decode cX3_clauseHere 68 = .ok (.ldc2_w 233, 3) := dk_20 0 233 (dk_at dksX3_clauseHere_3 0 rfl rfl)
theorem dX3_clauseHere_71 : decode cX3_clauseHere 71 = .ok (.invokevirtual 108, 3) := dk_182 0 108 (dk_at dksX3_clauseHere_3 3 rfl rfl)
theorem dX3_clauseHere_74 : decode cX3_clauseHere 74 = .ok (.ifCond .eq 7, 3) := dk_153 0 7 (dk_at dksX3_clauseHere_3 6 rfl rfl)
theorem dX3_clauseHere_77 : decode cX3_clauseHere 77 = .ok (.iconst 1, 1) := dk_4 (dk_at dksX3_clauseHere_3 9 rfl rfl)
theorem dX3_clauseHere_78 : decode cX3_clauseHere 78 = .ok (.goto 4, 3) := dk_167 0 4 (dk_at dksX3_clauseHere_3 10 rfl rfl)
theorem dX3_clauseHere_81 : decode cX3_clauseHere 81 = .ok (.iconst 0, 1) := dk_3 (dk_at dksX3_clauseHere_3 13 rfl rfl)
theorem dX3_clauseHere_82 : decode cX3_clauseHere 82 = .ok (.istore_n 3, 1) := dk_62 (dk_at dksX3_clauseHere_3 14 rfl rfl)
theorem dX3_clauseHere_83 : decode cX3_clauseHere 83 = .ok (.iload_n 3, 1) := dk_29 (dk_at dksX3_clauseHere_3 15 rfl rfl)
theorem dX3_clauseHere_84 : decode cX3_clauseHere 84 = .ok (.ifCond .ne 10, 3) := dk_154 0 10 (dk_at dksX3_clauseHere_3 16 rfl rfl)
theorem dX3_clauseHere_87 : decode cX3_clauseHere 87 = .ok (.aload_n 0, 1) := dk_42 (dk_at dksX3_clauseHere_3 19 rfl rfl)
theorem dX3_clauseHere_88 : decode cX3_clauseHere 88 = .ok (.iconst 0, 1) := dk_3 (dk_at dksX3_clauseHere_3 20 rfl rfl)
theorem dX3_clauseHere_89 : decode cX3_clauseHere 89 = .ok (.iload_n 1, 1) := dk_27 (dk_at dksX3_clauseHere_3 21 rfl rfl)
theorem dX3_clauseHere_90 : decode cX3_clauseHere 90 = .ok (.invokevirtual 118, 3) := dk_182 0 118 (dk_at dksX3_clauseHere_4 0 rfl rfl)
theorem dX3_clauseHere_93 : decode cX3_clauseHere 93 = .ok (.ireturn, 1) := dk_172 (dk_at dksX3_clauseHere_4 3 rfl rfl)
theorem dX3_clauseHere_94 : decode cX3_clauseHere 94 = .ok (.aload_n 0, 1) := dk_42 (dk_at dksX3_clauseHere_4 4 rfl rfl)
theorem dX3_clauseHere_95 : decode cX3_clauseHere 95 = .ok (.getfield 235, 3) := dk_180 0 235 (dk_at dksX3_clauseHere_4 5 rfl rfl)
theorem dX3_clauseHere_98 : decode cX3_clauseHere 98 = .ok (.iload_n 2, 1) := dk_28 (dk_at dksX3_clauseHere_4 8 rfl rfl)
theorem dX3_clauseHere_99 : decode cX3_clauseHere 99 = .ok (.ifCond .eq 8, 3) := dk_153 0 8 (dk_at dksX3_clauseHere_4 9 rfl rfl)
theorem dX3_clauseHere_102 : decode cX3_clauseHere 102 = .ok (.bipush 24, 2) := dk_16 24 (dk_at dksX3_clauseHere_4 12 rfl rfl)
theorem dX3_clauseHere_104 : decode cX3_clauseHere 104 = .ok (.goto 5, 3) := dk_167 0 5 (dk_at dksX3_clauseHere_4 14 rfl rfl)
theorem dX3_clauseHere_107 : decode cX3_clauseHere 107 = .ok (.bipush 12, 2) := dk_16 12 (dk_at dksX3_clauseHere_4 17 rfl rfl)
theorem dX3_clauseHere_109 : decode cX3_clauseHere 109 = .ok (.if_icmp .ne 10, 3) := dk_160 0 10 (dk_at dksX3_clauseHere_4 19 rfl rfl)
theorem dX3_clauseHere_112 : decode cX3_clauseHere 112 = .ok (.aload_n 0, 1) := dk_42 (dk_at dksX3_clauseHere_4 22 rfl rfl)
theorem dX3_clauseHere_113 : decode cX3_clauseHere 113 = .ok (.iconst 4, 1) := dk_7 (dk_at dksX3_clauseHere_4 23 rfl rfl)
theorem dX3_clauseHere_114 : decode cX3_clauseHere 114 = .ok (.iload_n 1, 1) := dk_27 (dk_at dksX3_clauseHere_5 0 rfl rfl)
theorem dX3_clauseHere_115 : decode cX3_clauseHere 115 = .ok (.invokevirtual 118, 3) := dk_182 0 118 (dk_at dksX3_clauseHere_5 1 rfl rfl)
theorem dX3_clauseHere_118 : decode cX3_clauseHere 118 = .ok (.ireturn, 1) := dk_172 (dk_at dksX3_clauseHere_5 4 rfl rfl)
theorem dX3_clauseHere_119 : decode cX3_clauseHere 119 = .ok (.aload_n 0, 1) := dk_42 (dk_at dksX3_clauseHere_5 5 rfl rfl)
theorem dX3_clauseHere_120 : decode cX3_clauseHere 120 = .ok (.dup, 1) := dk_89 (dk_at dksX3_clauseHere_5 6 rfl rfl)
theorem dX3_clauseHere_121 : decode cX3_clauseHere 121 = .ok (.getfield 235, 3) := dk_180 0 235 (dk_at dksX3_clauseHere_5 7 rfl rfl)
theorem dX3_clauseHere_124 : decode cX3_clauseHere 124 = .ok (.iconst 1, 1) := dk_4 (dk_at dksX3_clauseHere_5 10 rfl rfl)
theorem dX3_clauseHere_125 : decode cX3_clauseHere 125 = .ok (.iadd, 1) := dk_96 (dk_at dksX3_clauseHere_5 11 rfl rfl)
theorem dX3_clauseHere_126 : decode cX3_clauseHere 126 = .ok (.putfield 235, 3) := dk_181 0 235 (dk_at dksX3_clauseHere_5 12 rfl rfl)
theorem dX3_clauseHere_129 : decode cX3_clauseHere 129 = .ok (.iload_n 2, 1) := dk_28 (dk_at dksX3_clauseHere_5 15 rfl rfl)
theorem dX3_clauseHere_130 : decode cX3_clauseHere 130 = .ok (.ifCond .eq 27, 3) := dk_153 0 27 (dk_at dksX3_clauseHere_5 16 rfl rfl)
theorem dX3_clauseHere_133 : decode cX3_clauseHere 133 = .ok (.aload_n 0, 1) := dk_42 (dk_at dksX3_clauseHere_5 19 rfl rfl)
theorem dX3_clauseHere_134 : decode cX3_clauseHere 134 = .ok (.ldc2_w 129, 3) := dk_20 0 129 (dk_at dksX3_clauseHere_5 20 rfl rfl)
theorem dX3_clauseHere_137 : decode cX3_clauseHere 137 = .ok (.invokevirtual 108, 3) := dk_182 0 108 (dk_at dksX3_clauseHere_6 0 rfl rfl)
theorem dX3_clauseHere_140 : decode cX3_clauseHere 140 = .ok (.ifCond .eq 11, 3) := dk_153 0 11 (dk_at dksX3_clauseHere_6 3 rfl rfl)
theorem dX3_clauseHere_143 : decode cX3_clauseHere 143 = .ok (.aload_n 0, 1) := dk_42 (dk_at dksX3_clauseHere_6 6 rfl rfl)
theorem dX3_clauseHere_144 : decode cX3_clauseHere 144 = .ok (.iload_n 1, 1) := dk_27 (dk_at dksX3_clauseHere_6 7 rfl rfl)
theorem dX3_clauseHere_145 : decode cX3_clauseHere 145 = .ok (.invokevirtual 238, 3) := dk_182 0 238 (dk_at dksX3_clauseHere_6 8 rfl rfl)
theorem dX3_clauseHere_148 : decode cX3_clauseHere 148 = .ok (.goto 8, 3) := dk_167 0 8 (dk_at dksX3_clauseHere_6 11 rfl rfl)
theorem dX3_clauseHere_151 : decode cX3_clauseHere 151 = .ok (.aload_n 0, 1) := dk_42 (dk_at dksX3_clauseHere_6 14 rfl rfl)
theorem dX3_clauseHere_152 : decode cX3_clauseHere 152 = .ok (.iload_n 1, 1) := dk_27 (dk_at dksX3_clauseHere_6 15 rfl rfl)
theorem dX3_clauseHere_153 : decode cX3_clauseHere 153 = .ok (.invokevirtual 241, 3) := dk_182 0 241 (dk_at dksX3_clauseHere_6 16 rfl rfl)
theorem dX3_clauseHere_156 : decode cX3_clauseHere 156 = .ok (.ireturn, 1) := dk_172 (dk_at dksX3_clauseHere_6 19 rfl rfl)
theorem dX3_clauseHere_157 : decode cX3_clauseHere 157 = .ok (.aload_n 0, 1) := dk_42 (dk_at dksX3_clauseHere_6 20 rfl rfl)
theorem dX3_clauseHere_158 : decode cX3_clauseHere 158 = .ok (.aload_n 0, 1) := dk_42 (dk_at dksX3_clauseHere_6 21 rfl rfl)
theorem dX3_clauseHere_159 : decode cX3_clauseHere 159 = .ok (.ldc2_w 233, 3) := dk_20 0 233 (dk_at dksX3_clauseHere_7 0 rfl rfl)
theorem dX3_clauseHere_162 : decode cX3_clauseHere 162 = .ok (.invokevirtual 108, 3) := dk_182 0 108 (dk_at dksX3_clauseHere_7 3 rfl rfl)
theorem dX3_clauseHere_165 : decode cX3_clauseHere 165 = .ok (.ifCond .eq 7, 3) := dk_153 0 7 (dk_at dksX3_clauseHere_7 6 rfl rfl)
theorem dX3_clauseHere_168 : decode cX3_clauseHere 168 = .ok (.iconst 1, 1) := dk_4 (dk_at dksX3_clauseHere_7 9 rfl rfl)
theorem dX3_clauseHere_169 : decode cX3_clauseHere 169 = .ok (.goto 4, 3) := dk_167 0 4 (dk_at dksX3_clauseHere_7 10 rfl rfl)
theorem dX3_clauseHere_172 : decode cX3_clauseHere 172 = .ok (.iconst 0, 1) := dk_3 (dk_at dksX3_clauseHere_7 13 rfl rfl)
theorem dX3_clauseHere_173 : decode cX3_clauseHere 173 = .ok (.invokevirtual 244, 3) := dk_182 0 244 (dk_at dksX3_clauseHere_7 14 rfl rfl)
theorem dX3_clauseHere_176 : decode cX3_clauseHere 176 = .ok (.ireturn, 1) := dk_172 (dk_at dksX3_clauseHere_7 17 rfl rfl)
abbrev cX3_see : ByteArray := prog_19_method_7_code
def yX3_see : MethodName := ⟨RX3, "see", "()I"⟩
def dkwX3_see_2 : List UInt8 := [162, 0, 19, 42, 180, 0, 7, 42, 180, 0, 97, 51, 17, 0, 255, 126, 167, 0, 4, 2, 172]
abbrev dktX3_see_2 : List UInt8 := dkwX3_see_2 ++ []
def dkwX3_see_1 : List UInt8 := [160, 0, 16, 42, 89, 180, 0, 97, 4, 96, 181, 0, 97, 167, 255, 221, 42, 180, 0, 97, 42, 180, 0, 86]
abbrev dktX3_see_1 : List UInt8 := dkwX3_see_1 ++ dktX3_see_2
def dkwX3_see_0 : List UInt8 := [42, 180, 0, 97, 42, 180, 0, 86, 162, 0, 30, 42, 180, 0, 7, 42, 180, 0, 97, 51, 16, 32]
abbrev dktX3_see_0 : List UInt8 := dkwX3_see_0 ++ dktX3_see_1
theorem dksX3_see_0 : cX3_see.data.toList.drop 0 = dktX3_see_0 := by decide +kernel
theorem dksX3_see_1 : cX3_see.data.toList.drop 22 = dktX3_see_1 := dk_seg dksX3_see_0 22 rfl rfl
theorem dksX3_see_2 : cX3_see.data.toList.drop 46 = dktX3_see_2 := dk_seg dksX3_see_1 24 rfl rfl
theorem dX3_see_0 : decode cX3_see 0 = .ok (.aload_n 0, 1) := dk_42 (dk_at dksX3_see_0 0 rfl rfl)
theorem dX3_see_1 : decode cX3_see 1 = .ok (.getfield 97, 3) := dk_180 0 97 (dk_at dksX3_see_0 1 rfl rfl)
theorem dX3_see_4 : decode cX3_see 4 = .ok (.aload_n 0, 1) := dk_42 (dk_at dksX3_see_0 4 rfl rfl)
theorem dX3_see_5 : decode cX3_see 5 = .ok (.getfield 86, 3) := dk_180 0 86 (dk_at dksX3_see_0 5 rfl rfl)
theorem dX3_see_8 : decode cX3_see 8 = .ok (.if_icmp .ge 30, 3) := dk_162 0 30 (dk_at dksX3_see_0 8 rfl rfl)
theorem dX3_see_11 : decode cX3_see 11 = .ok (.aload_n 0, 1) := dk_42 (dk_at dksX3_see_0 11 rfl rfl)
theorem dX3_see_12 : decode cX3_see 12 = .ok (.getfield 7, 3) := dk_180 0 7 (dk_at dksX3_see_0 12 rfl rfl)
theorem dX3_see_15 : decode cX3_see 15 = .ok (.aload_n 0, 1) := dk_42 (dk_at dksX3_see_0 15 rfl rfl)
theorem dX3_see_16 : decode cX3_see 16 = .ok (.getfield 97, 3) := dk_180 0 97 (dk_at dksX3_see_0 16 rfl rfl)
theorem dX3_see_19 : decode cX3_see 19 = .ok (.baload, 1) := dk_51 (dk_at dksX3_see_0 19 rfl rfl)
theorem dX3_see_20 : decode cX3_see 20 = .ok (.bipush 32, 2) := dk_16 32 (dk_at dksX3_see_0 20 rfl rfl)
theorem dX3_see_22 : decode cX3_see 22 = .ok (.if_icmp .ne 16, 3) := dk_160 0 16 (dk_at dksX3_see_1 0 rfl rfl)
theorem dX3_see_25 : decode cX3_see 25 = .ok (.aload_n 0, 1) := dk_42 (dk_at dksX3_see_1 3 rfl rfl)
theorem dX3_see_26 : decode cX3_see 26 = .ok (.dup, 1) := dk_89 (dk_at dksX3_see_1 4 rfl rfl)
theorem dX3_see_27 : decode cX3_see 27 = .ok (.getfield 97, 3) := dk_180 0 97 (dk_at dksX3_see_1 5 rfl rfl)
theorem dX3_see_30 : decode cX3_see 30 = .ok (.iconst 1, 1) := dk_4 (dk_at dksX3_see_1 8 rfl rfl)
theorem dX3_see_31 : decode cX3_see 31 = .ok (.iadd, 1) := dk_96 (dk_at dksX3_see_1 9 rfl rfl)
theorem dX3_see_32 : decode cX3_see 32 = .ok (.putfield 97, 3) := dk_181 0 97 (dk_at dksX3_see_1 10 rfl rfl)
theorem dX3_see_35 : decode cX3_see 35 = .ok (.goto (-35), 3) := dk_167 255 221 (dk_at dksX3_see_1 13 rfl rfl)
theorem dX3_see_38 : decode cX3_see 38 = .ok (.aload_n 0, 1) := dk_42 (dk_at dksX3_see_1 16 rfl rfl)
theorem dX3_see_39 : decode cX3_see 39 = .ok (.getfield 97, 3) := dk_180 0 97 (dk_at dksX3_see_1 17 rfl rfl)
theorem dX3_see_42 : decode cX3_see 42 = .ok (.aload_n 0, 1) := dk_42 (dk_at dksX3_see_1 20 rfl rfl)
theorem dX3_see_43 : decode cX3_see 43 = .ok (.getfield 86, 3) := dk_180 0 86 (dk_at dksX3_see_1 21 rfl rfl)
theorem dX3_see_46 : decode cX3_see 46 = .ok (.if_icmp .ge 19, 3) := dk_162 0 19 (dk_at dksX3_see_2 0 rfl rfl)
theorem dX3_see_49 : decode cX3_see 49 = .ok (.aload_n 0, 1) := dk_42 (dk_at dksX3_see_2 3 rfl rfl)
theorem dX3_see_50 : decode cX3_see 50 = .ok (.getfield 7, 3) := dk_180 0 7 (dk_at dksX3_see_2 4 rfl rfl)
theorem dX3_see_53 : decode cX3_see 53 = .ok (.aload_n 0, 1) := dk_42 (dk_at dksX3_see_2 7 rfl rfl)
theorem dX3_see_54 : decode cX3_see 54 = .ok (.getfield 97, 3) := dk_180 0 97 (dk_at dksX3_see_2 8 rfl rfl)
theorem dX3_see_57 : decode cX3_see 57 = .ok (.baload, 1) := dk_51 (dk_at dksX3_see_2 11 rfl rfl)
theorem dX3_see_58 : decode cX3_see 58 = .ok (.sipush 255, 3) := dk_17 0 255 (dk_at dksX3_see_2 12 rfl rfl)
theorem dX3_see_61 : decode cX3_see 61 = .ok (.iand, 1) := dk_126 (dk_at dksX3_see_2 15 rfl rfl)
theorem dX3_see_62 : decode cX3_see 62 = .ok (.goto 4, 3) := dk_167 0 4 (dk_at dksX3_see_2 16 rfl rfl)
theorem dX3_see_65 : decode cX3_see 65 = .ok (.iconst (-1), 1) := dk_2 (dk_at dksX3_see_2 19 rfl rfl)
theorem dX3_see_66 : decode cX3_see 66 = .ok (.ireturn, 1) := dk_172 (dk_at dksX3_see_2 20 rfl rfl)
abbrev cX3_isWord : ByteArray := prog_19_method_10_code
def yX3_isWord : MethodName := ⟨RX3, "isWord", "(J)Z"⟩
def dkwX3_isWord_3 : List UInt8 := [154, 0, 7, 4, 167, 0, 4, 3, 172]
abbrev dktX3_isWord_3 : List UInt8 := dkwX3_isWord_3 ++ []
def dkwX3_isWord_2 : List UInt8 := [129, 66, 132, 5, 1, 167, 255, 213, 21, 5, 158, 0, 20, 21, 5, 16, 8, 162, 0, 13, 33, 31, 148]
abbrev dktX3_isWord_2 : List UInt8 := dkwX3_isWord_2 ++ dktX3_isWord_3
def dkwX3_isWord_1 : List UInt8 := [21, 5, 16, 8, 162, 0, 22, 33, 16, 8, 121, 42, 180, 0, 7, 42, 180, 0, 97, 21, 5, 96, 51, 133]
abbrev dktX3_isWord_1 : List UInt8 := dkwX3_isWord_1 ++ dktX3_isWord_2
def dkwX3_isWord_0 : List UInt8 := [42, 182, 0, 100, 87, 9, 66, 3, 54, 5, 42, 42, 180, 0, 97, 21, 5, 96, 182, 0, 104, 153, 0, 35]
abbrev dktX3_isWord_0 : List UInt8 := dkwX3_isWord_0 ++ dktX3_isWord_1
theorem dksX3_isWord_0 : cX3_isWord.data.toList.drop 0 = dktX3_isWord_0 := by decide +kernel
theorem dksX3_isWord_1 : cX3_isWord.data.toList.drop 24 = dktX3_isWord_1 := dk_seg dksX3_isWord_0 24 rfl rfl
theorem dksX3_isWord_2 : cX3_isWord.data.toList.drop 48 = dktX3_isWord_2 := dk_seg dksX3_isWord_1 24 rfl rfl
theorem dksX3_isWord_3 : cX3_isWord.data.toList.drop 71 = dktX3_isWord_3 := dk_seg dksX3_isWord_2 23 rfl rfl
theorem dX3_isWord_0 : decode cX3_isWord 0 = .ok (.aload_n 0, 1) := dk_42 (dk_at dksX3_isWord_0 0 rfl rfl)
theorem dX3_isWord_1 : decode cX3_isWord 1 = .ok (.invokevirtual 100, 3) := dk_182 0 100 (dk_at dksX3_isWord_0 1 rfl rfl)
theorem dX3_isWord_4 : decode cX3_isWord 4 = .ok (.pop, 1) := dk_87 (dk_at dksX3_isWord_0 4 rfl rfl)
theorem dX3_isWord_5 : decode cX3_isWord 5 = .ok (.lconst 0, 1) := dk_9 (dk_at dksX3_isWord_0 5 rfl rfl)
theorem dX3_isWord_6 : decode cX3_isWord 6 = .ok (.lstore_n 3, 1) := dk_66 (dk_at dksX3_isWord_0 6 rfl rfl)
theorem dX3_isWord_7 : decode cX3_isWord 7 = .ok (.iconst 0, 1) := dk_3 (dk_at dksX3_isWord_0 7 rfl rfl)
theorem dX3_isWord_8 : decode cX3_isWord 8 = .ok (.istore 5, 2) := dk_54 5 (dk_at dksX3_isWord_0 8 rfl rfl)
theorem dX3_isWord_10 : decode cX3_isWord 10 = .ok (.aload_n 0, 1) := dk_42 (dk_at dksX3_isWord_0 10 rfl rfl)
theorem dX3_isWord_11 : decode cX3_isWord 11 = .ok (.aload_n 0, 1) := dk_42 (dk_at dksX3_isWord_0 11 rfl rfl)
theorem dX3_isWord_12 : decode cX3_isWord 12 = .ok (.getfield 97, 3) := dk_180 0 97 (dk_at dksX3_isWord_0 12 rfl rfl)
theorem dX3_isWord_15 : decode cX3_isWord 15 = .ok (.iload 5, 2) := dk_21 5 (dk_at dksX3_isWord_0 15 rfl rfl)
theorem dX3_isWord_17 : decode cX3_isWord 17 = .ok (.iadd, 1) := dk_96 (dk_at dksX3_isWord_0 17 rfl rfl)
theorem dX3_isWord_18 : decode cX3_isWord 18 = .ok (.invokevirtual 104, 3) := dk_182 0 104 (dk_at dksX3_isWord_0 18 rfl rfl)
theorem dX3_isWord_21 : decode cX3_isWord 21 = .ok (.ifCond .eq 35, 3) := dk_153 0 35 (dk_at dksX3_isWord_0 21 rfl rfl)
theorem dX3_isWord_24 : decode cX3_isWord 24 = .ok (.iload 5, 2) := dk_21 5 (dk_at dksX3_isWord_1 0 rfl rfl)
theorem dX3_isWord_26 : decode cX3_isWord 26 = .ok (.bipush 8, 2) := dk_16 8 (dk_at dksX3_isWord_1 2 rfl rfl)
theorem dX3_isWord_28 : decode cX3_isWord 28 = .ok (.if_icmp .ge 22, 3) := dk_162 0 22 (dk_at dksX3_isWord_1 4 rfl rfl)
theorem dX3_isWord_31 : decode cX3_isWord 31 = .ok (.lload_n 3, 1) := dk_33 (dk_at dksX3_isWord_1 7 rfl rfl)
theorem dX3_isWord_32 : decode cX3_isWord 32 = .ok (.bipush 8, 2) := dk_16 8 (dk_at dksX3_isWord_1 8 rfl rfl)
theorem dX3_isWord_34 : decode cX3_isWord 34 = .ok (.lshl, 1) := dk_121 (dk_at dksX3_isWord_1 10 rfl rfl)
theorem dX3_isWord_35 : decode cX3_isWord 35 = .ok (.aload_n 0, 1) := dk_42 (dk_at dksX3_isWord_1 11 rfl rfl)
theorem dX3_isWord_36 : decode cX3_isWord 36 = .ok (.getfield 7, 3) := dk_180 0 7 (dk_at dksX3_isWord_1 12 rfl rfl)
theorem dX3_isWord_39 : decode cX3_isWord 39 = .ok (.aload_n 0, 1) := dk_42 (dk_at dksX3_isWord_1 15 rfl rfl)
theorem dX3_isWord_40 : decode cX3_isWord 40 = .ok (.getfield 97, 3) := dk_180 0 97 (dk_at dksX3_isWord_1 16 rfl rfl)
theorem dX3_isWord_43 : decode cX3_isWord 43 = .ok (.iload 5, 2) := dk_21 5 (dk_at dksX3_isWord_1 19 rfl rfl)
theorem dX3_isWord_45 : decode cX3_isWord 45 = .ok (.iadd, 1) := dk_96 (dk_at dksX3_isWord_1 21 rfl rfl)
theorem dX3_isWord_46 : decode cX3_isWord 46 = .ok (.baload, 1) := dk_51 (dk_at dksX3_isWord_1 22 rfl rfl)
theorem dX3_isWord_47 : decode cX3_isWord 47 = .ok (.i2l, 1) := dk_133 (dk_at dksX3_isWord_1 23 rfl rfl)
theorem dX3_isWord_48 : decode cX3_isWord 48 = .ok (.lor, 1) := dk_129 (dk_at dksX3_isWord_2 0 rfl rfl)
theorem dX3_isWord_49 : decode cX3_isWord 49 = .ok (.lstore_n 3, 1) := dk_66 (dk_at dksX3_isWord_2 1 rfl rfl)
theorem dX3_isWord_50 : decode cX3_isWord 50 = .ok (.iinc 5 1, 3) := dk_132 5 1 (dk_at dksX3_isWord_2 2 rfl rfl)
theorem dX3_isWord_53 : decode cX3_isWord 53 = .ok (.goto (-43), 3) := dk_167 255 213 (dk_at dksX3_isWord_2 5 rfl rfl)
theorem dX3_isWord_56 : decode cX3_isWord 56 = .ok (.iload 5, 2) := dk_21 5 (dk_at dksX3_isWord_2 8 rfl rfl)
theorem dX3_isWord_58 : decode cX3_isWord 58 = .ok (.ifCond .le 20, 3) := dk_158 0 20 (dk_at dksX3_isWord_2 10 rfl rfl)
theorem dX3_isWord_61 : decode cX3_isWord 61 = .ok (.iload 5, 2) := dk_21 5 (dk_at dksX3_isWord_2 13 rfl rfl)
theorem dX3_isWord_63 : decode cX3_isWord 63 = .ok (.bipush 8, 2) := dk_16 8 (dk_at dksX3_isWord_2 15 rfl rfl)
theorem dX3_isWord_65 : decode cX3_isWord 65 = .ok (.if_icmp .ge 13, 3) := dk_162 0 13 (dk_at dksX3_isWord_2 17 rfl rfl)
theorem dX3_isWord_68 : decode cX3_isWord 68 = .ok (.lload_n 3, 1) := dk_33 (dk_at dksX3_isWord_2 20 rfl rfl)
theorem dX3_isWord_69 : decode cX3_isWord 69 = .ok (.lload_n 1, 1) := dk_31 (dk_at dksX3_isWord_2 21 rfl rfl)
theorem dX3_isWord_70 : decode cX3_isWord 70 = .ok (.lcmp, 1) := dk_148 (dk_at dksX3_isWord_2 22 rfl rfl)
theorem dX3_isWord_71 : decode cX3_isWord 71 = .ok (.ifCond .ne 7, 3) := dk_154 0 7 (dk_at dksX3_isWord_3 0 rfl rfl)
theorem dX3_isWord_74 : decode cX3_isWord 74 = .ok (.iconst 1, 1) := dk_4 (dk_at dksX3_isWord_3 3 rfl rfl)
theorem dX3_isWord_75 : decode cX3_isWord 75 = .ok (.goto 4, 3) := dk_167 0 4 (dk_at dksX3_isWord_3 4 rfl rfl)
theorem dX3_isWord_78 : decode cX3_isWord 78 = .ok (.iconst 0, 1) := dk_3 (dk_at dksX3_isWord_3 7 rfl rfl)
theorem dX3_isWord_79 : decode cX3_isWord 79 = .ok (.ireturn, 1) := dk_172 (dk_at dksX3_isWord_3 8 rfl rfl)
abbrev cX3_isLetter : ByteArray := prog_19_method_9_code
def yX3_isLetter : MethodName := ⟨RX3, "isLetter", "(I)Z"⟩
def dkwX3_isLetter_1 : List UInt8 := [51, 16, 122, 163, 0, 7, 4, 167, 0, 4, 3, 172]
abbrev dktX3_isLetter_1 : List UInt8 := dkwX3_isLetter_1 ++ []
def dkwX3_isLetter_0 : List UInt8 := [27, 42, 180, 0, 86, 162, 0, 29, 42, 180, 0, 7, 27, 51, 16, 97, 161, 0, 18, 42, 180, 0, 7, 27]
abbrev dktX3_isLetter_0 : List UInt8 := dkwX3_isLetter_0 ++ dktX3_isLetter_1
theorem dksX3_isLetter_0 : cX3_isLetter.data.toList.drop 0 = dktX3_isLetter_0 := by decide +kernel
theorem dksX3_isLetter_1 : cX3_isLetter.data.toList.drop 24 = dktX3_isLetter_1 := dk_seg dksX3_isLetter_0 24 rfl rfl
theorem dX3_isLetter_0 : decode cX3_isLetter 0 = .ok (.iload_n 1, 1) := dk_27 (dk_at dksX3_isLetter_0 0 rfl rfl)
theorem dX3_isLetter_1 : decode cX3_isLetter 1 = .ok (.aload_n 0, 1) := dk_42 (dk_at dksX3_isLetter_0 1 rfl rfl)
theorem dX3_isLetter_2 : decode cX3_isLetter 2 = .ok (.getfield 86, 3) := dk_180 0 86 (dk_at dksX3_isLetter_0 2 rfl rfl)
theorem dX3_isLetter_5 : decode cX3_isLetter 5 = .ok (.if_icmp .ge 29, 3) := dk_162 0 29 (dk_at dksX3_isLetter_0 5 rfl rfl)
theorem dX3_isLetter_8 : decode cX3_isLetter 8 = .ok (.aload_n 0, 1) := dk_42 (dk_at dksX3_isLetter_0 8 rfl rfl)
theorem dX3_isLetter_9 : decode cX3_isLetter 9 = .ok (.getfield 7, 3) := dk_180 0 7 (dk_at dksX3_isLetter_0 9 rfl rfl)
theorem dX3_isLetter_12 : decode cX3_isLetter 12 = .ok (.iload_n 1, 1) := dk_27 (dk_at dksX3_isLetter_0 12 rfl rfl)
theorem dX3_isLetter_13 : decode cX3_isLetter 13 = .ok (.baload, 1) := dk_51 (dk_at dksX3_isLetter_0 13 rfl rfl)
theorem dX3_isLetter_14 : decode cX3_isLetter 14 = .ok (.bipush 97, 2) := dk_16 97 (dk_at dksX3_isLetter_0 14 rfl rfl)
theorem dX3_isLetter_16 : decode cX3_isLetter 16 = .ok (.if_icmp .lt 18, 3) := dk_161 0 18 (dk_at dksX3_isLetter_0 16 rfl rfl)
theorem dX3_isLetter_19 : decode cX3_isLetter 19 = .ok (.aload_n 0, 1) := dk_42 (dk_at dksX3_isLetter_0 19 rfl rfl)
theorem dX3_isLetter_20 : decode cX3_isLetter 20 = .ok (.getfield 7, 3) := dk_180 0 7 (dk_at dksX3_isLetter_0 20 rfl rfl)
theorem dX3_isLetter_23 : decode cX3_isLetter 23 = .ok (.iload_n 1, 1) := dk_27 (dk_at dksX3_isLetter_0 23 rfl rfl)
theorem dX3_isLetter_24 : decode cX3_isLetter 24 = .ok (.baload, 1) := dk_51 (dk_at dksX3_isLetter_1 0 rfl rfl)
theorem dX3_isLetter_25 : decode cX3_isLetter 25 = .ok (.bipush 122, 2) := dk_16 122 (dk_at dksX3_isLetter_1 1 rfl rfl)
theorem dX3_isLetter_27 : decode cX3_isLetter 27 = .ok (.if_icmp .gt 7, 3) := dk_163 0 7 (dk_at dksX3_isLetter_1 3 rfl rfl)
theorem dX3_isLetter_30 : decode cX3_isLetter 30 = .ok (.iconst 1, 1) := dk_4 (dk_at dksX3_isLetter_1 6 rfl rfl)
theorem dX3_isLetter_31 : decode cX3_isLetter 31 = .ok (.goto 4, 3) := dk_167 0 4 (dk_at dksX3_isLetter_1 7 rfl rfl)
theorem dX3_isLetter_34 : decode cX3_isLetter 34 = .ok (.iconst 0, 1) := dk_3 (dk_at dksX3_isLetter_1 10 rfl rfl)
theorem dX3_isLetter_35 : decode cX3_isLetter 35 = .ok (.ireturn, 1) := dk_172 (dk_at dksX3_isLetter_1 11 rfl rfl)
abbrev cX3_fails : ByteArray := prog_19_method_6_code
def yX3_fails : MethodName := ⟨RX3, "fails", "(II)Z"⟩
def dkwX3_fails_0 : List UInt8 := [42, 180, 0, 94, 154, 0, 15, 42, 4, 16, 8, 28, 104, 96, 27, 96, 181, 0, 94, 3, 172]
abbrev dktX3_fails_0 : List UInt8 := dkwX3_fails_0 ++ []
theorem dksX3_fails_0 : cX3_fails.data.toList.drop 0 = dktX3_fails_0 := by decide +kernel
theorem dX3_fails_0 : decode cX3_fails 0 = .ok (.aload_n 0, 1) := dk_42 (dk_at dksX3_fails_0 0 rfl rfl)
theorem dX3_fails_1 : decode cX3_fails 1 = .ok (.getfield 94, 3) := dk_180 0 94 (dk_at dksX3_fails_0 1 rfl rfl)
theorem dX3_fails_4 : decode cX3_fails 4 = .ok (.ifCond .ne 15, 3) := dk_154 0 15 (dk_at dksX3_fails_0 4 rfl rfl)
theorem dX3_fails_7 : decode cX3_fails 7 = .ok (.aload_n 0, 1) := dk_42 (dk_at dksX3_fails_0 7 rfl rfl)
theorem dX3_fails_8 : decode cX3_fails 8 = .ok (.iconst 1, 1) := dk_4 (dk_at dksX3_fails_0 8 rfl rfl)
theorem dX3_fails_9 : decode cX3_fails 9 = .ok (.bipush 8, 2) := dk_16 8 (dk_at dksX3_fails_0 9 rfl rfl)
theorem dX3_fails_11 : decode cX3_fails 11 = .ok (.iload_n 2, 1) := dk_28 (dk_at dksX3_fails_0 11 rfl rfl)
theorem dX3_fails_12 : decode cX3_fails 12 = .ok (.imul, 1) := dk_104 (dk_at dksX3_fails_0 12 rfl rfl)
theorem dX3_fails_13 : decode cX3_fails 13 = .ok (.iadd, 1) := dk_96 (dk_at dksX3_fails_0 13 rfl rfl)
theorem dX3_fails_14 : decode cX3_fails 14 = .ok (.iload_n 1, 1) := dk_27 (dk_at dksX3_fails_0 14 rfl rfl)
theorem dX3_fails_15 : decode cX3_fails 15 = .ok (.iadd, 1) := dk_96 (dk_at dksX3_fails_0 15 rfl rfl)
theorem dX3_fails_16 : decode cX3_fails 16 = .ok (.putfield 94, 3) := dk_181 0 94 (dk_at dksX3_fails_0 16 rfl rfl)
theorem dX3_fails_19 : decode cX3_fails 19 = .ok (.iconst 0, 1) := dk_3 (dk_at dksX3_fails_0 19 rfl rfl)
theorem dX3_fails_20 : decode cX3_fails 20 = .ok (.ireturn, 1) := dk_172 (dk_at dksX3_fails_0 20 rfl rfl)
abbrev cX3_isWayHere : ByteArray := prog_19_method_29_code
def yX3_isWayHere : MethodName := ⟨RX3, "isWayHere", "(I)Z"⟩
def dkwX3_isWayHere_5 : List UInt8 := [180, 0, 26, 28, 5, 96, 42, 180, 0, 122, 79, 42, 89, 180, 0, 225, 4, 96, 181, 0, 225, 4, 172]
abbrev dktX3_isWayHere_5 : List UInt8 := dkwX3_isWayHere_5 ++ []
def dkwX3_isWayHere_4 : List UInt8 := [180, 0, 26, 28, 4, 96, 42, 180, 0, 122, 79, 42, 4, 16, 60, 182, 0, 174, 154, 0, 5, 3, 172, 42]
abbrev dktX3_isWayHere_4 : List UInt8 := dkwX3_isWayHere_4 ++ dktX3_isWayHere_5
def dkwX3_isWayHere_3 : List UInt8 := [3, 172, 42, 180, 0, 122, 42, 180, 0, 26, 28, 46, 160, 0, 10, 42, 4, 29, 182, 0, 118, 172, 42]
abbrev dktX3_isWayHere_3 : List UInt8 := dkwX3_isWayHere_3 ++ dktX3_isWayHere_4
def dkwX3_isWayHere_2 : List UInt8 := [180, 0, 122, 79, 42, 182, 0, 100, 87, 42, 180, 0, 97, 62, 42, 3, 16, 7, 182, 0, 174, 154, 0, 5]
abbrev dktX3_isWayHere_2 : List UInt8 := dkwX3_isWayHere_2 ++ dktX3_isWayHere_3
def dkwX3_isWayHere_1 : List UInt8 := [180, 0, 225, 104, 61, 42, 3, 16, 7, 182, 0, 174, 154, 0, 5, 3, 172, 42, 180, 0, 26, 28, 42]
abbrev dktX3_isWayHere_1 : List UInt8 := dkwX3_isWayHere_1 ++ dktX3_isWayHere_2
def dkwX3_isWayHere_0 : List UInt8 := [42, 180, 0, 225, 16, 14, 160, 0, 10, 42, 7, 27, 182, 0, 118, 172, 42, 182, 0, 112, 6, 42]
abbrev dktX3_isWayHere_0 : List UInt8 := dkwX3_isWayHere_0 ++ dktX3_isWayHere_1
theorem dksX3_isWayHere_0 : cX3_isWayHere.data.toList.drop 0 = dktX3_isWayHere_0 := by decide +kernel
theorem dksX3_isWayHere_1 : cX3_isWayHere.data.toList.drop 22 = dktX3_isWayHere_1 := dk_seg dksX3_isWayHere_0 22 rfl rfl
theorem dksX3_isWayHere_2 : cX3_isWayHere.data.toList.drop 45 = dktX3_isWayHere_2 := dk_seg dksX3_isWayHere_1 23 rfl rfl
theorem dksX3_isWayHere_3 : cX3_isWayHere.data.toList.drop 69 = dktX3_isWayHere_3 := dk_seg dksX3_isWayHere_2 24 rfl rfl
theorem dksX3_isWayHere_4 : cX3_isWayHere.data.toList.drop 92 = dktX3_isWayHere_4 := dk_seg dksX3_isWayHere_3 23 rfl rfl
theorem dksX3_isWayHere_5 : cX3_isWayHere.data.toList.drop 116 = dktX3_isWayHere_5 := dk_seg dksX3_isWayHere_4 24 rfl rfl
theorem dX3_isWayHere_0 : decode cX3_isWayHere 0 = .ok (.aload_n 0, 1) := dk_42 (dk_at dksX3_isWayHere_0 0 rfl rfl)
theorem dX3_isWayHere_1 : decode cX3_isWayHere 1 = .ok (.getfield 225, 3) := dk_180 0 225 (dk_at dksX3_isWayHere_0 1 rfl rfl)
theorem dX3_isWayHere_4 : decode cX3_isWayHere 4 = .ok (.bipush 14, 2) := dk_16 14 (dk_at dksX3_isWayHere_0 4 rfl rfl)
theorem dX3_isWayHere_6 : decode cX3_isWayHere 6 = .ok (.if_icmp .ne 10, 3) := dk_160 0 10 (dk_at dksX3_isWayHere_0 6 rfl rfl)
theorem dX3_isWayHere_9 : decode cX3_isWayHere 9 = .ok (.aload_n 0, 1) := dk_42 (dk_at dksX3_isWayHere_0 9 rfl rfl)
theorem dX3_isWayHere_10 : decode cX3_isWayHere 10 = .ok (.iconst 4, 1) := dk_7 (dk_at dksX3_isWayHere_0 10 rfl rfl)
theorem dX3_isWayHere_11 : decode cX3_isWayHere 11 = .ok (.iload_n 1, 1) := dk_27 (dk_at dksX3_isWayHere_0 11 rfl rfl)
theorem dX3_isWayHere_12 : decode cX3_isWayHere 12 = .ok (.invokevirtual 118, 3) := dk_182 0 118 (dk_at dksX3_isWayHere_0 12 rfl rfl)
theorem dX3_isWayHere_15 : decode cX3_isWayHere 15 = .ok (.ireturn, 1) := dk_172 (dk_at dksX3_isWayHere_0 15 rfl rfl)
theorem dX3_isWayHere_16 : decode cX3_isWayHere 16 = .ok (.aload_n 0, 1) := dk_42 (dk_at dksX3_isWayHere_0 16 rfl rfl)
theorem dX3_isWayHere_17 : decode cX3_isWayHere 17 = .ok (.invokevirtual 112, 3) := dk_182 0 112 (dk_at dksX3_isWayHere_0 17 rfl rfl)
theorem dX3_isWayHere_20 : decode cX3_isWayHere 20 = .ok (.iconst 3, 1) := dk_6 (dk_at dksX3_isWayHere_0 20 rfl rfl)
theorem dX3_isWayHere_21 : decode cX3_isWayHere 21 = .ok (.aload_n 0, 1) := dk_42 (dk_at dksX3_isWayHere_0 21 rfl rfl)
theorem dX3_isWayHere_22 : decode cX3_isWayHere 22 = .ok (.getfield 225, 3) := dk_180 0 225 (dk_at dksX3_isWayHere_1 0 rfl rfl)
theorem dX3_isWayHere_25 : decode cX3_isWayHere 25 = .ok (.imul, 1) := dk_104 (dk_at dksX3_isWayHere_1 3 rfl rfl)
theorem dX3_isWayHere_26 : decode cX3_isWayHere 26 = .ok (.istore_n 2, 1) := dk_61 (dk_at dksX3_isWayHere_1 4 rfl rfl)
theorem dX3_isWayHere_27 : decode cX3_isWayHere 27 = .ok (.aload_n 0, 1) := dk_42 (dk_at dksX3_isWayHere_1 5 rfl rfl)
theorem dX3_isWayHere_28 : decode cX3_isWayHere 28 = .ok (.iconst 0, 1) := dk_3 (dk_at dksX3_isWayHere_1 6 rfl rfl)
theorem dX3_isWayHere_29 : decode cX3_isWayHere 29 = .ok (.bipush 7, 2) := dk_16 7 (dk_at dksX3_isWayHere_1 7 rfl rfl)
theorem dX3_isWayHere_31 : decode cX3_isWayHere 31 = .ok (.invokevirtual 174, 3) := dk_182 0 174 (dk_at dksX3_isWayHere_1 9 rfl rfl)
theorem dX3_isWayHere_34 : decode cX3_isWayHere 34 = .ok (.ifCond .ne 5, 3) := dk_154 0 5 (dk_at dksX3_isWayHere_1 12 rfl rfl)
theorem dX3_isWayHere_37 : decode cX3_isWayHere 37 = .ok (.iconst 0, 1) := dk_3 (dk_at dksX3_isWayHere_1 15 rfl rfl)
theorem dX3_isWayHere_38 : decode cX3_isWayHere 38 = .ok (.ireturn, 1) := dk_172 (dk_at dksX3_isWayHere_1 16 rfl rfl)
theorem dX3_isWayHere_39 : decode cX3_isWayHere 39 = .ok (.aload_n 0, 1) := dk_42 (dk_at dksX3_isWayHere_1 17 rfl rfl)
theorem dX3_isWayHere_40 : decode cX3_isWayHere 40 = .ok (.getfield 26, 3) := dk_180 0 26 (dk_at dksX3_isWayHere_1 18 rfl rfl)
theorem dX3_isWayHere_43 : decode cX3_isWayHere 43 = .ok (.iload_n 2, 1) := dk_28 (dk_at dksX3_isWayHere_1 21 rfl rfl)
theorem dX3_isWayHere_44 : decode cX3_isWayHere 44 = .ok (.aload_n 0, 1) := dk_42 (dk_at dksX3_isWayHere_1 22 rfl rfl)
theorem dX3_isWayHere_45 : decode cX3_isWayHere 45 = .ok (.getfield 122, 3) := dk_180 0 122 (dk_at dksX3_isWayHere_2 0 rfl rfl)
theorem dX3_isWayHere_48 : decode cX3_isWayHere 48 = .ok (.iastore, 1) := dk_79 (dk_at dksX3_isWayHere_2 3 rfl rfl)
theorem dX3_isWayHere_49 : decode cX3_isWayHere 49 = .ok (.aload_n 0, 1) := dk_42 (dk_at dksX3_isWayHere_2 4 rfl rfl)
theorem dX3_isWayHere_50 : decode cX3_isWayHere 50 = .ok (.invokevirtual 100, 3) := dk_182 0 100 (dk_at dksX3_isWayHere_2 5 rfl rfl)
theorem dX3_isWayHere_53 : decode cX3_isWayHere 53 = .ok (.pop, 1) := dk_87 (dk_at dksX3_isWayHere_2 8 rfl rfl)
theorem dX3_isWayHere_54 : decode cX3_isWayHere 54 = .ok (.aload_n 0, 1) := dk_42 (dk_at dksX3_isWayHere_2 9 rfl rfl)
theorem dX3_isWayHere_55 : decode cX3_isWayHere 55 = .ok (.getfield 97, 3) := dk_180 0 97 (dk_at dksX3_isWayHere_2 10 rfl rfl)
theorem dX3_isWayHere_58 : decode cX3_isWayHere 58 = .ok (.istore_n 3, 1) := dk_62 (dk_at dksX3_isWayHere_2 13 rfl rfl)
theorem dX3_isWayHere_59 : decode cX3_isWayHere 59 = .ok (.aload_n 0, 1) := dk_42 (dk_at dksX3_isWayHere_2 14 rfl rfl)
theorem dX3_isWayHere_60 : decode cX3_isWayHere 60 = .ok (.iconst 0, 1) := dk_3 (dk_at dksX3_isWayHere_2 15 rfl rfl)
theorem dX3_isWayHere_61 : decode cX3_isWayHere 61 = .ok (.bipush 7, 2) := dk_16 7 (dk_at dksX3_isWayHere_2 16 rfl rfl)
theorem dX3_isWayHere_63 : decode cX3_isWayHere 63 = .ok (.invokevirtual 174, 3) := dk_182 0 174 (dk_at dksX3_isWayHere_2 18 rfl rfl)
theorem dX3_isWayHere_66 : decode cX3_isWayHere 66 = .ok (.ifCond .ne 5, 3) := dk_154 0 5 (dk_at dksX3_isWayHere_2 21 rfl rfl)
theorem dX3_isWayHere_69 : decode cX3_isWayHere 69 = .ok (.iconst 0, 1) := dk_3 (dk_at dksX3_isWayHere_3 0 rfl rfl)
theorem dX3_isWayHere_70 : decode cX3_isWayHere 70 = .ok (.ireturn, 1) := dk_172 (dk_at dksX3_isWayHere_3 1 rfl rfl)
theorem dX3_isWayHere_71 : decode cX3_isWayHere 71 = .ok (.aload_n 0, 1) := dk_42 (dk_at dksX3_isWayHere_3 2 rfl rfl)
theorem dX3_isWayHere_72 : decode cX3_isWayHere 72 = .ok (.getfield 122, 3) := dk_180 0 122 (dk_at dksX3_isWayHere_3 3 rfl rfl)
theorem dX3_isWayHere_75 : decode cX3_isWayHere 75 = .ok (.aload_n 0, 1) := dk_42 (dk_at dksX3_isWayHere_3 6 rfl rfl)
theorem dX3_isWayHere_76 : decode cX3_isWayHere 76 = .ok (.getfield 26, 3) := dk_180 0 26 (dk_at dksX3_isWayHere_3 7 rfl rfl)
theorem dX3_isWayHere_79 : decode cX3_isWayHere 79 = .ok (.iload_n 2, 1) := dk_28 (dk_at dksX3_isWayHere_3 10 rfl rfl)
theorem dX3_isWayHere_80 : decode cX3_isWayHere 80 = .ok (.iaload, 1) := dk_46 (dk_at dksX3_isWayHere_3 11 rfl rfl)
theorem dX3_isWayHere_81 : decode cX3_isWayHere 81 = .ok (.if_icmp .ne 10, 3) := dk_160 0 10 (dk_at dksX3_isWayHere_3 12 rfl rfl)
theorem dX3_isWayHere_84 : decode cX3_isWayHere 84 = .ok (.aload_n 0, 1) := dk_42 (dk_at dksX3_isWayHere_3 15 rfl rfl)
theorem dX3_isWayHere_85 : decode cX3_isWayHere 85 = .ok (.iconst 1, 1) := dk_4 (dk_at dksX3_isWayHere_3 16 rfl rfl)
theorem dX3_isWayHere_86 : decode cX3_isWayHere 86 = .ok (.iload_n 3, 1) := dk_29 (dk_at dksX3_isWayHere_3 17 rfl rfl)
theorem dX3_isWayHere_87 : decode cX3_isWayHere 87 = .ok (.invokevirtual 118, 3) := dk_182 0 118 (dk_at dksX3_isWayHere_3 18 rfl rfl)
theorem dX3_isWayHere_90 : decode cX3_isWayHere 90 = .ok (.ireturn, 1) := dk_172 (dk_at dksX3_isWayHere_3 21 rfl rfl)
theorem dX3_isWayHere_91 : decode cX3_isWayHere 91 = .ok (.aload_n 0, 1) := dk_42 (dk_at dksX3_isWayHere_3 22 rfl rfl)
theorem dX3_isWayHere_92 : decode cX3_isWayHere 92 = .ok (.getfield 26, 3) := dk_180 0 26 (dk_at dksX3_isWayHere_4 0 rfl rfl)
theorem dX3_isWayHere_95 : decode cX3_isWayHere 95 = .ok (.iload_n 2, 1) := dk_28 (dk_at dksX3_isWayHere_4 3 rfl rfl)
theorem dX3_isWayHere_96 : decode cX3_isWayHere 96 = .ok (.iconst 1, 1) := dk_4 (dk_at dksX3_isWayHere_4 4 rfl rfl)
theorem dX3_isWayHere_97 : decode cX3_isWayHere 97 = .ok (.iadd, 1) := dk_96 (dk_at dksX3_isWayHere_4 5 rfl rfl)
theorem dX3_isWayHere_98 : decode cX3_isWayHere 98 = .ok (.aload_n 0, 1) := dk_42 (dk_at dksX3_isWayHere_4 6 rfl rfl)
theorem dX3_isWayHere_99 : decode cX3_isWayHere 99 = .ok (.getfield 122, 3) := dk_180 0 122 (dk_at dksX3_isWayHere_4 7 rfl rfl)
theorem dX3_isWayHere_102 : decode cX3_isWayHere 102 = .ok (.iastore, 1) := dk_79 (dk_at dksX3_isWayHere_4 10 rfl rfl)
theorem dX3_isWayHere_103 : decode cX3_isWayHere 103 = .ok (.aload_n 0, 1) := dk_42 (dk_at dksX3_isWayHere_4 11 rfl rfl)
theorem dX3_isWayHere_104 : decode cX3_isWayHere 104 = .ok (.iconst 1, 1) := dk_4 (dk_at dksX3_isWayHere_4 12 rfl rfl)
theorem dX3_isWayHere_105 : decode cX3_isWayHere 105 = .ok (.bipush 60, 2) := dk_16 60 (dk_at dksX3_isWayHere_4 13 rfl rfl)
theorem dX3_isWayHere_107 : decode cX3_isWayHere 107 = .ok (.invokevirtual 174, 3) := dk_182 0 174 (dk_at dksX3_isWayHere_4 15 rfl rfl)
theorem dX3_isWayHere_110 : decode cX3_isWayHere 110 = .ok (.ifCond .ne 5, 3) := dk_154 0 5 (dk_at dksX3_isWayHere_4 18 rfl rfl)
theorem dX3_isWayHere_113 : decode cX3_isWayHere 113 = .ok (.iconst 0, 1) := dk_3 (dk_at dksX3_isWayHere_4 21 rfl rfl)
theorem dX3_isWayHere_114 : decode cX3_isWayHere 114 = .ok (.ireturn, 1) := dk_172 (dk_at dksX3_isWayHere_4 22 rfl rfl)
theorem dX3_isWayHere_115 : decode cX3_isWayHere 115 = .ok (.aload_n 0, 1) := dk_42 (dk_at dksX3_isWayHere_4 23 rfl rfl)
theorem dX3_isWayHere_116 : decode cX3_isWayHere 116 = .ok (.getfield 26, 3) := dk_180 0 26 (dk_at dksX3_isWayHere_5 0 rfl rfl)
theorem dX3_isWayHere_119 : decode cX3_isWayHere 119 = .ok (.iload_n 2, 1) := dk_28 (dk_at dksX3_isWayHere_5 3 rfl rfl)
theorem dX3_isWayHere_120 : decode cX3_isWayHere 120 = .ok (.iconst 2, 1) := dk_5 (dk_at dksX3_isWayHere_5 4 rfl rfl)
theorem dX3_isWayHere_121 : decode cX3_isWayHere 121 = .ok (.iadd, 1) := dk_96 (dk_at dksX3_isWayHere_5 5 rfl rfl)
theorem dX3_isWayHere_122 : decode cX3_isWayHere 122 = .ok (.aload_n 0, 1) := dk_42 (dk_at dksX3_isWayHere_5 6 rfl rfl)
theorem dX3_isWayHere_123 : decode cX3_isWayHere 123 = .ok (.getfield 122, 3) := dk_180 0 122 (dk_at dksX3_isWayHere_5 7 rfl rfl)
theorem dX3_isWayHere_126 : decode cX3_isWayHere 126 = .ok (.iastore, 1) := dk_79 (dk_at dksX3_isWayHere_5 10 rfl rfl)
theorem dX3_isWayHere_127 : decode cX3_isWayHere 127 = .ok (.aload_n 0, 1) := dk_42 (dk_at dksX3_isWayHere_5 11 rfl rfl)
theorem dX3_isWayHere_128 : decode cX3_isWayHere 128 = .ok (.dup, 1) := dk_89 (dk_at dksX3_isWayHere_5 12 rfl rfl)
theorem dX3_isWayHere_129 : decode cX3_isWayHere 129 = .ok (.getfield 225, 3) := dk_180 0 225 (dk_at dksX3_isWayHere_5 13 rfl rfl)
theorem dX3_isWayHere_132 : decode cX3_isWayHere 132 = .ok (.iconst 1, 1) := dk_4 (dk_at dksX3_isWayHere_5 16 rfl rfl)
theorem dX3_isWayHere_133 : decode cX3_isWayHere 133 = .ok (.iadd, 1) := dk_96 (dk_at dksX3_isWayHere_5 17 rfl rfl)
theorem dX3_isWayHere_134 : decode cX3_isWayHere 134 = .ok (.putfield 225, 3) := dk_181 0 225 (dk_at dksX3_isWayHere_5 18 rfl rfl)
theorem dX3_isWayHere_137 : decode cX3_isWayHere 137 = .ok (.iconst 1, 1) := dk_4 (dk_at dksX3_isWayHere_5 21 rfl rfl)
theorem dX3_isWayHere_138 : decode cX3_isWayHere 138 = .ok (.ireturn, 1) := dk_172 (dk_at dksX3_isWayHere_5 22 rfl rfl)
abbrev cX3_passWord : ByteArray := prog_19_method_11_code
def yX3_passWord : MethodName := ⟨RX3, "passWord", "()V"⟩
def dkwX3_passWord_1 : List UInt8 := [177]
abbrev dktX3_passWord_1 : List UInt8 := dkwX3_passWord_1 ++ []
def dkwX3_passWord_0 : List UInt8 := [42, 42, 180, 0, 97, 182, 0, 104, 153, 0, 16, 42, 89, 180, 0, 97, 4, 96, 181, 0, 97, 167, 255, 235]
abbrev dktX3_passWord_0 : List UInt8 := dkwX3_passWord_0 ++ dktX3_passWord_1
theorem dksX3_passWord_0 : cX3_passWord.data.toList.drop 0 = dktX3_passWord_0 := by decide +kernel
theorem dksX3_passWord_1 : cX3_passWord.data.toList.drop 24 = dktX3_passWord_1 := dk_seg dksX3_passWord_0 24 rfl rfl
theorem dX3_passWord_0 : decode cX3_passWord 0 = .ok (.aload_n 0, 1) := dk_42 (dk_at dksX3_passWord_0 0 rfl rfl)
theorem dX3_passWord_1 : decode cX3_passWord 1 = .ok (.aload_n 0, 1) := dk_42 (dk_at dksX3_passWord_0 1 rfl rfl)
theorem dX3_passWord_2 : decode cX3_passWord 2 = .ok (.getfield 97, 3) := dk_180 0 97 (dk_at dksX3_passWord_0 2 rfl rfl)
theorem dX3_passWord_5 : decode cX3_passWord 5 = .ok (.invokevirtual 104, 3) := dk_182 0 104 (dk_at dksX3_passWord_0 5 rfl rfl)
theorem dX3_passWord_8 : decode cX3_passWord 8 = .ok (.ifCond .eq 16, 3) := dk_153 0 16 (dk_at dksX3_passWord_0 8 rfl rfl)
theorem dX3_passWord_11 : decode cX3_passWord 11 = .ok (.aload_n 0, 1) := dk_42 (dk_at dksX3_passWord_0 11 rfl rfl)
theorem dX3_passWord_12 : decode cX3_passWord 12 = .ok (.dup, 1) := dk_89 (dk_at dksX3_passWord_0 12 rfl rfl)
theorem dX3_passWord_13 : decode cX3_passWord 13 = .ok (.getfield 97, 3) := dk_180 0 97 (dk_at dksX3_passWord_0 13 rfl rfl)
theorem dX3_passWord_16 : decode cX3_passWord 16 = .ok (.iconst 1, 1) := dk_4 (dk_at dksX3_passWord_0 16 rfl rfl)
theorem dX3_passWord_17 : decode cX3_passWord 17 = .ok (.iadd, 1) := dk_96 (dk_at dksX3_passWord_0 17 rfl rfl)
theorem dX3_passWord_18 : decode cX3_passWord 18 = .ok (.putfield 97, 3) := dk_181 0 97 (dk_at dksX3_passWord_0 18 rfl rfl)
theorem dX3_passWord_21 : decode cX3_passWord 21 = .ok (.goto (-21), 3) := dk_167 255 235 (dk_at dksX3_passWord_0 21 rfl rfl)
theorem dX3_passWord_24 : decode cX3_passWord 24 = .ok (.return_, 1) := dk_177 (dk_at dksX3_passWord_1 0 rfl rfl)
abbrev cX3_numberHere : ByteArray := prog_19_method_13_code
def yX3_numberHere : MethodName := ⟨RX3, "numberHere", "(II)Z"⟩
def dkwX3_numberHere_5 : List UInt8 := [4, 29, 182, 0, 118, 153, 0, 7, 4, 167, 0, 4, 3, 172]
abbrev dktX3_numberHere_5 : List UInt8 := dkwX3_numberHere_5 ++ []
def dkwX3_numberHere_4 : List UInt8 := [42, 180, 0, 97, 29, 100, 8, 163, 0, 16, 21, 4, 133, 27, 133, 28, 133, 184, 0, 125, 154, 0, 12, 42]
abbrev dktX3_numberHere_4 : List UInt8 := dkwX3_numberHere_4 ++ dktX3_numberHere_5
def dkwX3_numberHere_3 : List UInt8 := [16, 48, 100, 54, 4, 42, 89, 180, 0, 97, 4, 96, 181, 0, 97, 167, 255, 205, 42, 21, 4, 181, 0, 122]
abbrev dktX3_numberHere_3 : List UInt8 := dkwX3_numberHere_3 ++ dktX3_numberHere_4
def dkwX3_numberHere_2 : List UInt8 := [180, 0, 97, 29, 100, 8, 162, 0, 23, 16, 10, 21, 4, 104, 42, 180, 0, 7, 42, 180, 0, 97, 51, 96]
abbrev dktX3_numberHere_2 : List UInt8 := dkwX3_numberHere_2 ++ dktX3_numberHere_3
def dkwX3_numberHere_1 : List UInt8 := [182, 0, 118, 172, 42, 180, 0, 97, 62, 3, 54, 4, 42, 42, 180, 0, 97, 182, 0, 115, 153, 0, 46, 42]
abbrev dktX3_numberHere_1 : List UInt8 := dkwX3_numberHere_1 ++ dktX3_numberHere_2
def dkwX3_numberHere_0 : List UInt8 := [42, 182, 0, 100, 87, 42, 42, 180, 0, 97, 182, 0, 115, 154, 0, 13, 42, 3, 42, 180, 0, 97]
abbrev dktX3_numberHere_0 : List UInt8 := dkwX3_numberHere_0 ++ dktX3_numberHere_1
theorem dksX3_numberHere_0 : cX3_numberHere.data.toList.drop 0 = dktX3_numberHere_0 := by decide +kernel
theorem dksX3_numberHere_1 : cX3_numberHere.data.toList.drop 22 = dktX3_numberHere_1 := dk_seg dksX3_numberHere_0 22 rfl rfl
theorem dksX3_numberHere_2 : cX3_numberHere.data.toList.drop 46 = dktX3_numberHere_2 := dk_seg dksX3_numberHere_1 24 rfl rfl
theorem dksX3_numberHere_3 : cX3_numberHere.data.toList.drop 70 = dktX3_numberHere_3 := dk_seg dksX3_numberHere_2 24 rfl rfl
theorem dksX3_numberHere_4 : cX3_numberHere.data.toList.drop 94 = dktX3_numberHere_4 := dk_seg dksX3_numberHere_3 24 rfl rfl
theorem dksX3_numberHere_5 : cX3_numberHere.data.toList.drop 118 = dktX3_numberHere_5 := dk_seg dksX3_numberHere_4 24 rfl rfl
theorem dX3_numberHere_0 : decode cX3_numberHere 0 = .ok (.aload_n 0, 1) := dk_42 (dk_at dksX3_numberHere_0 0 rfl rfl)
theorem dX3_numberHere_1 : decode cX3_numberHere 1 = .ok (.invokevirtual 100, 3) := dk_182 0 100 (dk_at dksX3_numberHere_0 1 rfl rfl)
theorem dX3_numberHere_4 : decode cX3_numberHere 4 = .ok (.pop, 1) := dk_87 (dk_at dksX3_numberHere_0 4 rfl rfl)
theorem dX3_numberHere_5 : decode cX3_numberHere 5 = .ok (.aload_n 0, 1) := dk_42 (dk_at dksX3_numberHere_0 5 rfl rfl)
theorem dX3_numberHere_6 : decode cX3_numberHere 6 = .ok (.aload_n 0, 1) := dk_42 (dk_at dksX3_numberHere_0 6 rfl rfl)
theorem dX3_numberHere_7 : decode cX3_numberHere 7 = .ok (.getfield 97, 3) := dk_180 0 97 (dk_at dksX3_numberHere_0 7 rfl rfl)
theorem dX3_numberHere_10 : decode cX3_numberHere 10 = .ok (.invokevirtual 115, 3) := dk_182 0 115 (dk_at dksX3_numberHere_0 10 rfl rfl)
theorem dX3_numberHere_13 : decode cX3_numberHere 13 = .ok (.ifCond .ne 13, 3) := dk_154 0 13 (dk_at dksX3_numberHere_0 13 rfl rfl)
theorem dX3_numberHere_16 : decode cX3_numberHere 16 = .ok (.aload_n 0, 1) := dk_42 (dk_at dksX3_numberHere_0 16 rfl rfl)
theorem dX3_numberHere_17 : decode cX3_numberHere 17 = .ok (.iconst 0, 1) := dk_3 (dk_at dksX3_numberHere_0 17 rfl rfl)
theorem dX3_numberHere_18 : decode cX3_numberHere 18 = .ok (.aload_n 0, 1) := dk_42 (dk_at dksX3_numberHere_0 18 rfl rfl)
theorem dX3_numberHere_19 : decode cX3_numberHere 19 = .ok (.getfield 97, 3) := dk_180 0 97 (dk_at dksX3_numberHere_0 19 rfl rfl)
theorem dX3_numberHere_22 : decode cX3_numberHere 22 = .ok (.invokevirtual 118, 3) := dk_182 0 118 (dk_at dksX3_numberHere_1 0 rfl rfl)
theorem dX3_numberHere_25 : decode cX3_numberHere 25 = .ok (.ireturn, 1) := dk_172 (dk_at dksX3_numberHere_1 3 rfl rfl)
theorem dX3_numberHere_26 : decode cX3_numberHere 26 = .ok (.aload_n 0, 1) := dk_42 (dk_at dksX3_numberHere_1 4 rfl rfl)
theorem dX3_numberHere_27 : decode cX3_numberHere 27 = .ok (.getfield 97, 3) := dk_180 0 97 (dk_at dksX3_numberHere_1 5 rfl rfl)
theorem dX3_numberHere_30 : decode cX3_numberHere 30 = .ok (.istore_n 3, 1) := dk_62 (dk_at dksX3_numberHere_1 8 rfl rfl)
theorem dX3_numberHere_31 : decode cX3_numberHere 31 = .ok (.iconst 0, 1) := dk_3 (dk_at dksX3_numberHere_1 9 rfl rfl)
theorem dX3_numberHere_32 : decode cX3_numberHere 32 = .ok (.istore 4, 2) := dk_54 4 (dk_at dksX3_numberHere_1 10 rfl rfl)
theorem dX3_numberHere_34 : decode cX3_numberHere 34 = .ok (.aload_n 0, 1) := dk_42 (dk_at dksX3_numberHere_1 12 rfl rfl)
theorem dX3_numberHere_35 : decode cX3_numberHere 35 = .ok (.aload_n 0, 1) := dk_42 (dk_at dksX3_numberHere_1 13 rfl rfl)
theorem dX3_numberHere_36 : decode cX3_numberHere 36 = .ok (.getfield 97, 3) := dk_180 0 97 (dk_at dksX3_numberHere_1 14 rfl rfl)
theorem dX3_numberHere_39 : decode cX3_numberHere 39 = .ok (.invokevirtual 115, 3) := dk_182 0 115 (dk_at dksX3_numberHere_1 17 rfl rfl)
theorem dX3_numberHere_42 : decode cX3_numberHere 42 = .ok (.ifCond .eq 46, 3) := dk_153 0 46 (dk_at dksX3_numberHere_1 20 rfl rfl)
theorem dX3_numberHere_45 : decode cX3_numberHere 45 = .ok (.aload_n 0, 1) := dk_42 (dk_at dksX3_numberHere_1 23 rfl rfl)
theorem dX3_numberHere_46 : decode cX3_numberHere 46 = .ok (.getfield 97, 3) := dk_180 0 97 (dk_at dksX3_numberHere_2 0 rfl rfl)
theorem dX3_numberHere_49 : decode cX3_numberHere 49 = .ok (.iload_n 3, 1) := dk_29 (dk_at dksX3_numberHere_2 3 rfl rfl)
theorem dX3_numberHere_50 : decode cX3_numberHere 50 = .ok (.isub, 1) := dk_100 (dk_at dksX3_numberHere_2 4 rfl rfl)
theorem dX3_numberHere_51 : decode cX3_numberHere 51 = .ok (.iconst 5, 1) := dk_8 (dk_at dksX3_numberHere_2 5 rfl rfl)
theorem dX3_numberHere_52 : decode cX3_numberHere 52 = .ok (.if_icmp .ge 23, 3) := dk_162 0 23 (dk_at dksX3_numberHere_2 6 rfl rfl)
theorem dX3_numberHere_55 : decode cX3_numberHere 55 = .ok (.bipush 10, 2) := dk_16 10 (dk_at dksX3_numberHere_2 9 rfl rfl)
theorem dX3_numberHere_57 : decode cX3_numberHere 57 = .ok (.iload 4, 2) := dk_21 4 (dk_at dksX3_numberHere_2 11 rfl rfl)
theorem dX3_numberHere_59 : decode cX3_numberHere 59 = .ok (.imul, 1) := dk_104 (dk_at dksX3_numberHere_2 13 rfl rfl)
theorem dX3_numberHere_60 : decode cX3_numberHere 60 = .ok (.aload_n 0, 1) := dk_42 (dk_at dksX3_numberHere_2 14 rfl rfl)
theorem dX3_numberHere_61 : decode cX3_numberHere 61 = .ok (.getfield 7, 3) := dk_180 0 7 (dk_at dksX3_numberHere_2 15 rfl rfl)
theorem dX3_numberHere_64 : decode cX3_numberHere 64 = .ok (.aload_n 0, 1) := dk_42 (dk_at dksX3_numberHere_2 18 rfl rfl)
theorem dX3_numberHere_65 : decode cX3_numberHere 65 = .ok (.getfield 97, 3) := dk_180 0 97 (dk_at dksX3_numberHere_2 19 rfl rfl)
theorem dX3_numberHere_68 : decode cX3_numberHere 68 = .ok (.baload, 1) := dk_51 (dk_at dksX3_numberHere_2 22 rfl rfl)
theorem dX3_numberHere_69 : decode cX3_numberHere 69 = .ok (.iadd, 1) := dk_96 (dk_at dksX3_numberHere_2 23 rfl rfl)
theorem dX3_numberHere_70 : decode cX3_numberHere 70 = .ok (.bipush 48, 2) := dk_16 48 (dk_at dksX3_numberHere_3 0 rfl rfl)
theorem dX3_numberHere_72 : decode cX3_numberHere 72 = .ok (.isub, 1) := dk_100 (dk_at dksX3_numberHere_3 2 rfl rfl)
theorem dX3_numberHere_73 : decode cX3_numberHere 73 = .ok (.istore 4, 2) := dk_54 4 (dk_at dksX3_numberHere_3 3 rfl rfl)
theorem dX3_numberHere_75 : decode cX3_numberHere 75 = .ok (.aload_n 0, 1) := dk_42 (dk_at dksX3_numberHere_3 5 rfl rfl)
theorem dX3_numberHere_76 : decode cX3_numberHere 76 = .ok (.dup, 1) := dk_89 (dk_at dksX3_numberHere_3 6 rfl rfl)
theorem dX3_numberHere_77 : decode cX3_numberHere 77 = .ok (.getfield 97, 3) := dk_180 0 97 (dk_at dksX3_numberHere_3 7 rfl rfl)
theorem dX3_numberHere_80 : decode cX3_numberHere 80 = .ok (.iconst 1, 1) := dk_4 (dk_at dksX3_numberHere_3 10 rfl rfl)
theorem dX3_numberHere_81 : decode cX3_numberHere 81 = .ok (.iadd, 1) := dk_96 (dk_at dksX3_numberHere_3 11 rfl rfl)
theorem dX3_numberHere_82 : decode cX3_numberHere 82 = .ok (.putfield 97, 3) := dk_181 0 97 (dk_at dksX3_numberHere_3 12 rfl rfl)
theorem dX3_numberHere_85 : decode cX3_numberHere 85 = .ok (.goto (-51), 3) := dk_167 255 205 (dk_at dksX3_numberHere_3 15 rfl rfl)
theorem dX3_numberHere_88 : decode cX3_numberHere 88 = .ok (.aload_n 0, 1) := dk_42 (dk_at dksX3_numberHere_3 18 rfl rfl)
theorem dX3_numberHere_89 : decode cX3_numberHere 89 = .ok (.iload 4, 2) := dk_21 4 (dk_at dksX3_numberHere_3 19 rfl rfl)
theorem dX3_numberHere_91 : decode cX3_numberHere 91 = .ok (.putfield 122, 3) := dk_181 0 122 (dk_at dksX3_numberHere_3 21 rfl rfl)
theorem dX3_numberHere_94 : decode cX3_numberHere 94 = .ok (.aload_n 0, 1) := dk_42 (dk_at dksX3_numberHere_4 0 rfl rfl)
theorem dX3_numberHere_95 : decode cX3_numberHere 95 = .ok (.getfield 97, 3) := dk_180 0 97 (dk_at dksX3_numberHere_4 1 rfl rfl)
theorem dX3_numberHere_98 : decode cX3_numberHere 98 = .ok (.iload_n 3, 1) := dk_29 (dk_at dksX3_numberHere_4 4 rfl rfl)
theorem dX3_numberHere_99 : decode cX3_numberHere 99 = .ok (.isub, 1) := dk_100 (dk_at dksX3_numberHere_4 5 rfl rfl)
theorem dX3_numberHere_100 : decode cX3_numberHere 100 = .ok (.iconst 5, 1) := dk_8 (dk_at dksX3_numberHere_4 6 rfl rfl)
theorem dX3_numberHere_101 : decode cX3_numberHere 101 = .ok (.if_icmp .gt 16, 3) := dk_163 0 16 (dk_at dksX3_numberHere_4 7 rfl rfl)
theorem dX3_numberHere_104 : decode cX3_numberHere 104 = .ok (.iload 4, 2) := dk_21 4 (dk_at dksX3_numberHere_4 10 rfl rfl)
theorem dX3_numberHere_106 : decode cX3_numberHere 106 = .ok (.i2l, 1) := dk_133 (dk_at dksX3_numberHere_4 12 rfl rfl)
theorem dX3_numberHere_107 : decode cX3_numberHere 107 = .ok (.iload_n 1, 1) := dk_27 (dk_at dksX3_numberHere_4 13 rfl rfl)
theorem dX3_numberHere_108 : decode cX3_numberHere 108 = .ok (.i2l, 1) := dk_133 (dk_at dksX3_numberHere_4 14 rfl rfl)
theorem dX3_numberHere_109 : decode cX3_numberHere 109 = .ok (.iload_n 2, 1) := dk_28 (dk_at dksX3_numberHere_4 15 rfl rfl)
theorem dX3_numberHere_110 : decode cX3_numberHere 110 = .ok (.i2l, 1) := dk_133 (dk_at dksX3_numberHere_4 16 rfl rfl)
theorem dX3_numberHere_111 : decode cX3_numberHere 111 = .ok (.invokestatic 125, 3) := dk_184 0 125 (dk_at dksX3_numberHere_4 17 rfl rfl)
theorem dX3_numberHere_114 : decode cX3_numberHere 114 = .ok (.ifCond .ne 12, 3) := dk_154 0 12 (dk_at dksX3_numberHere_4 20 rfl rfl)
theorem dX3_numberHere_117 : decode cX3_numberHere 117 = .ok (.aload_n 0, 1) := dk_42 (dk_at dksX3_numberHere_4 23 rfl rfl)
theorem dX3_numberHere_118 : decode cX3_numberHere 118 = .ok (.iconst 1, 1) := dk_4 (dk_at dksX3_numberHere_5 0 rfl rfl)
theorem dX3_numberHere_119 : decode cX3_numberHere 119 = .ok (.iload_n 3, 1) := dk_29 (dk_at dksX3_numberHere_5 1 rfl rfl)
theorem dX3_numberHere_120 : decode cX3_numberHere 120 = .ok (.invokevirtual 118, 3) := dk_182 0 118 (dk_at dksX3_numberHere_5 2 rfl rfl)
theorem dX3_numberHere_123 : decode cX3_numberHere 123 = .ok (.ifCond .eq 7, 3) := dk_153 0 7 (dk_at dksX3_numberHere_5 5 rfl rfl)
theorem dX3_numberHere_126 : decode cX3_numberHere 126 = .ok (.iconst 1, 1) := dk_4 (dk_at dksX3_numberHere_5 8 rfl rfl)
theorem dX3_numberHere_127 : decode cX3_numberHere 127 = .ok (.goto 4, 3) := dk_167 0 4 (dk_at dksX3_numberHere_5 9 rfl rfl)
theorem dX3_numberHere_130 : decode cX3_numberHere 130 = .ok (.iconst 0, 1) := dk_3 (dk_at dksX3_numberHere_5 12 rfl rfl)
theorem dX3_numberHere_131 : decode cX3_numberHere 131 = .ok (.ireturn, 1) := dk_172 (dk_at dksX3_numberHere_5 13 rfl rfl)
abbrev cX3_isDigit : ByteArray := prog_19_method_8_code
def yX3_isDigit : MethodName := ⟨RX3, "isDigit", "(I)Z"⟩
def dkwX3_isDigit_1 : List UInt8 := [51, 16, 57, 163, 0, 7, 4, 167, 0, 4, 3, 172]
abbrev dktX3_isDigit_1 : List UInt8 := dkwX3_isDigit_1 ++ []
def dkwX3_isDigit_0 : List UInt8 := [27, 42, 180, 0, 86, 162, 0, 29, 42, 180, 0, 7, 27, 51, 16, 48, 161, 0, 18, 42, 180, 0, 7, 27]
abbrev dktX3_isDigit_0 : List UInt8 := dkwX3_isDigit_0 ++ dktX3_isDigit_1
theorem dksX3_isDigit_0 : cX3_isDigit.data.toList.drop 0 = dktX3_isDigit_0 := by decide +kernel
theorem dksX3_isDigit_1 : cX3_isDigit.data.toList.drop 24 = dktX3_isDigit_1 := dk_seg dksX3_isDigit_0 24 rfl rfl
theorem dX3_isDigit_0 : decode cX3_isDigit 0 = .ok (.iload_n 1, 1) := dk_27 (dk_at dksX3_isDigit_0 0 rfl rfl)
theorem dX3_isDigit_1 : decode cX3_isDigit 1 = .ok (.aload_n 0, 1) := dk_42 (dk_at dksX3_isDigit_0 1 rfl rfl)
theorem dX3_isDigit_2 : decode cX3_isDigit 2 = .ok (.getfield 86, 3) := dk_180 0 86 (dk_at dksX3_isDigit_0 2 rfl rfl)
theorem dX3_isDigit_5 : decode cX3_isDigit 5 = .ok (.if_icmp .ge 29, 3) := dk_162 0 29 (dk_at dksX3_isDigit_0 5 rfl rfl)
theorem dX3_isDigit_8 : decode cX3_isDigit 8 = .ok (.aload_n 0, 1) := dk_42 (dk_at dksX3_isDigit_0 8 rfl rfl)
theorem dX3_isDigit_9 : decode cX3_isDigit 9 = .ok (.getfield 7, 3) := dk_180 0 7 (dk_at dksX3_isDigit_0 9 rfl rfl)
theorem dX3_isDigit_12 : decode cX3_isDigit 12 = .ok (.iload_n 1, 1) := dk_27 (dk_at dksX3_isDigit_0 12 rfl rfl)
theorem dX3_isDigit_13 : decode cX3_isDigit 13 = .ok (.baload, 1) := dk_51 (dk_at dksX3_isDigit_0 13 rfl rfl)
theorem dX3_isDigit_14 : decode cX3_isDigit 14 = .ok (.bipush 48, 2) := dk_16 48 (dk_at dksX3_isDigit_0 14 rfl rfl)
theorem dX3_isDigit_16 : decode cX3_isDigit 16 = .ok (.if_icmp .lt 18, 3) := dk_161 0 18 (dk_at dksX3_isDigit_0 16 rfl rfl)
theorem dX3_isDigit_19 : decode cX3_isDigit 19 = .ok (.aload_n 0, 1) := dk_42 (dk_at dksX3_isDigit_0 19 rfl rfl)
theorem dX3_isDigit_20 : decode cX3_isDigit 20 = .ok (.getfield 7, 3) := dk_180 0 7 (dk_at dksX3_isDigit_0 20 rfl rfl)
theorem dX3_isDigit_23 : decode cX3_isDigit 23 = .ok (.iload_n 1, 1) := dk_27 (dk_at dksX3_isDigit_0 23 rfl rfl)
theorem dX3_isDigit_24 : decode cX3_isDigit 24 = .ok (.baload, 1) := dk_51 (dk_at dksX3_isDigit_1 0 rfl rfl)
theorem dX3_isDigit_25 : decode cX3_isDigit 25 = .ok (.bipush 57, 2) := dk_16 57 (dk_at dksX3_isDigit_1 1 rfl rfl)
theorem dX3_isDigit_27 : decode cX3_isDigit 27 = .ok (.if_icmp .gt 7, 3) := dk_163 0 7 (dk_at dksX3_isDigit_1 3 rfl rfl)
theorem dX3_isDigit_30 : decode cX3_isDigit 30 = .ok (.iconst 1, 1) := dk_4 (dk_at dksX3_isDigit_1 6 rfl rfl)
theorem dX3_isDigit_31 : decode cX3_isDigit 31 = .ok (.goto 4, 3) := dk_167 0 4 (dk_at dksX3_isDigit_1 7 rfl rfl)
theorem dX3_isDigit_34 : decode cX3_isDigit 34 = .ok (.iconst 0, 1) := dk_3 (dk_at dksX3_isDigit_1 10 rfl rfl)
theorem dX3_isDigit_35 : decode cX3_isDigit 35 = .ok (.ireturn, 1) := dk_172 (dk_at dksX3_isDigit_1 11 rfl rfl)
abbrev cX3_in : ByteArray := prog_19_method_2_code
def yX3_in : MethodName := ⟨RX3, "in", "(JJJ)Z"⟩
def dkwX3_in_0 : List UInt8 := [30, 32, 148, 155, 0, 14, 30, 22, 4, 148, 157, 0, 7, 4, 167, 0, 4, 3, 172]
abbrev dktX3_in_0 : List UInt8 := dkwX3_in_0 ++ []
theorem dksX3_in_0 : cX3_in.data.toList.drop 0 = dktX3_in_0 := by decide +kernel
theorem dX3_in_0 : decode cX3_in 0 = .ok (.lload_n 0, 1) := dk_30 (dk_at dksX3_in_0 0 rfl rfl)
theorem dX3_in_1 : decode cX3_in 1 = .ok (.lload_n 2, 1) := dk_32 (dk_at dksX3_in_0 1 rfl rfl)
theorem dX3_in_2 : decode cX3_in 2 = .ok (.lcmp, 1) := dk_148 (dk_at dksX3_in_0 2 rfl rfl)
theorem dX3_in_3 : decode cX3_in 3 = .ok (.ifCond .lt 14, 3) := dk_155 0 14 (dk_at dksX3_in_0 3 rfl rfl)
theorem dX3_in_6 : decode cX3_in 6 = .ok (.lload_n 0, 1) := dk_30 (dk_at dksX3_in_0 6 rfl rfl)
theorem dX3_in_7 : decode cX3_in 7 = .ok (.lload 4, 2) := dk_22 4 (dk_at dksX3_in_0 7 rfl rfl)
theorem dX3_in_9 : decode cX3_in 9 = .ok (.lcmp, 1) := dk_148 (dk_at dksX3_in_0 9 rfl rfl)
theorem dX3_in_10 : decode cX3_in 10 = .ok (.ifCond .gt 7, 3) := dk_157 0 7 (dk_at dksX3_in_0 10 rfl rfl)
theorem dX3_in_13 : decode cX3_in 13 = .ok (.iconst 1, 1) := dk_4 (dk_at dksX3_in_0 13 rfl rfl)
theorem dX3_in_14 : decode cX3_in 14 = .ok (.goto 4, 3) := dk_167 0 4 (dk_at dksX3_in_0 14 rfl rfl)
theorem dX3_in_17 : decode cX3_in 17 = .ok (.iconst 0, 1) := dk_3 (dk_at dksX3_in_0 17 rfl rfl)
theorem dX3_in_18 : decode cX3_in 18 = .ok (.ireturn, 1) := dk_172 (dk_at dksX3_in_0 18 rfl rfl)
abbrev cX3_isGoerHere : ByteArray := prog_19_method_30_code
def yX3_isGoerHere : MethodName := ⟨RX3, "isGoerHere", "(I)Z"⟩
def dkwX3_isGoerHere_3 : List UInt8 := [167, 255, 208, 42, 89, 180, 0, 228, 4, 96, 181, 0, 228, 4, 172]
abbrev dktX3_isGoerHere_3 : List UInt8 := dkwX3_isGoerHere_3 ++ []
def dkwX3_isGoerHere_2 : List UInt8 := [3, 172, 42, 180, 0, 29, 6, 42, 180, 0, 228, 104, 28, 96, 42, 180, 0, 122, 79, 132, 2, 1]
abbrev dktX3_isGoerHere_2 : List UInt8 := dkwX3_isGoerHere_2 ++ dktX3_isGoerHere_3
def dkwX3_isGoerHere_1 : List UInt8 := [162, 0, 49, 42, 3, 28, 5, 162, 0, 8, 16, 7, 167, 0, 6, 17, 3, 231, 182, 0, 174, 154, 0, 5]
abbrev dktX3_isGoerHere_1 : List UInt8 := dkwX3_isGoerHere_1 ++ dktX3_isGoerHere_2
def dkwX3_isGoerHere_0 : List UInt8 := [42, 180, 0, 228, 16, 6, 160, 0, 10, 42, 7, 27, 182, 0, 118, 172, 42, 182, 0, 112, 3, 61, 28, 6]
abbrev dktX3_isGoerHere_0 : List UInt8 := dkwX3_isGoerHere_0 ++ dktX3_isGoerHere_1
theorem dksX3_isGoerHere_0 : cX3_isGoerHere.data.toList.drop 0 = dktX3_isGoerHere_0 := by decide +kernel
theorem dksX3_isGoerHere_1 : cX3_isGoerHere.data.toList.drop 24 = dktX3_isGoerHere_1 := dk_seg dksX3_isGoerHere_0 24 rfl rfl
theorem dksX3_isGoerHere_2 : cX3_isGoerHere.data.toList.drop 48 = dktX3_isGoerHere_2 := dk_seg dksX3_isGoerHere_1 24 rfl rfl
theorem dksX3_isGoerHere_3 : cX3_isGoerHere.data.toList.drop 70 = dktX3_isGoerHere_3 := dk_seg dksX3_isGoerHere_2 22 rfl rfl
theorem dX3_isGoerHere_0 : decode cX3_isGoerHere 0 = .ok (.aload_n 0, 1) := dk_42 (dk_at dksX3_isGoerHere_0 0 rfl rfl)
theorem dX3_isGoerHere_1 : decode cX3_isGoerHere 1 = .ok (.getfield 228, 3) := dk_180 0 228 (dk_at dksX3_isGoerHere_0 1 rfl rfl)
theorem dX3_isGoerHere_4 : decode cX3_isGoerHere 4 = .ok (.bipush 6, 2) := dk_16 6 (dk_at dksX3_isGoerHere_0 4 rfl rfl)
theorem dX3_isGoerHere_6 : decode cX3_isGoerHere 6 = .ok (.if_icmp .ne 10, 3) := dk_160 0 10 (dk_at dksX3_isGoerHere_0 6 rfl rfl)
theorem dX3_isGoerHere_9 : decode cX3_isGoerHere 9 = .ok (.aload_n 0, 1) := dk_42 (dk_at dksX3_isGoerHere_0 9 rfl rfl)
theorem dX3_isGoerHere_10 : decode cX3_isGoerHere 10 = .ok (.iconst 4, 1) := dk_7 (dk_at dksX3_isGoerHere_0 10 rfl rfl)
theorem dX3_isGoerHere_11 : decode cX3_isGoerHere 11 = .ok (.iload_n 1, 1) := dk_27 (dk_at dksX3_isGoerHere_0 11 rfl rfl)
theorem dX3_isGoerHere_12 : decode cX3_isGoerHere 12 = .ok (.invokevirtual 118, 3) := dk_182 0 118 (dk_at dksX3_isGoerHere_0 12 rfl rfl)
theorem dX3_isGoerHere_15 : decode cX3_isGoerHere 15 = .ok (.ireturn, 1) := dk_172 (dk_at dksX3_isGoerHere_0 15 rfl rfl)
theorem dX3_isGoerHere_16 : decode cX3_isGoerHere 16 = .ok (.aload_n 0, 1) := dk_42 (dk_at dksX3_isGoerHere_0 16 rfl rfl)
theorem dX3_isGoerHere_17 : decode cX3_isGoerHere 17 = .ok (.invokevirtual 112, 3) := dk_182 0 112 (dk_at dksX3_isGoerHere_0 17 rfl rfl)
theorem dX3_isGoerHere_20 : decode cX3_isGoerHere 20 = .ok (.iconst 0, 1) := dk_3 (dk_at dksX3_isGoerHere_0 20 rfl rfl)
theorem dX3_isGoerHere_21 : decode cX3_isGoerHere 21 = .ok (.istore_n 2, 1) := dk_61 (dk_at dksX3_isGoerHere_0 21 rfl rfl)
theorem dX3_isGoerHere_22 : decode cX3_isGoerHere 22 = .ok (.iload_n 2, 1) := dk_28 (dk_at dksX3_isGoerHere_0 22 rfl rfl)
theorem dX3_isGoerHere_23 : decode cX3_isGoerHere 23 = .ok (.iconst 3, 1) := dk_6 (dk_at dksX3_isGoerHere_0 23 rfl rfl)
theorem dX3_isGoerHere_24 : decode cX3_isGoerHere 24 = .ok (.if_icmp .ge 49, 3) := dk_162 0 49 (dk_at dksX3_isGoerHere_1 0 rfl rfl)
theorem dX3_isGoerHere_27 : decode cX3_isGoerHere 27 = .ok (.aload_n 0, 1) := dk_42 (dk_at dksX3_isGoerHere_1 3 rfl rfl)
theorem dX3_isGoerHere_28 : decode cX3_isGoerHere 28 = .ok (.iconst 0, 1) := dk_3 (dk_at dksX3_isGoerHere_1 4 rfl rfl)
theorem dX3_isGoerHere_29 : decode cX3_isGoerHere 29 = .ok (.iload_n 2, 1) := dk_28 (dk_at dksX3_isGoerHere_1 5 rfl rfl)
theorem dX3_isGoerHere_30 : decode cX3_isGoerHere 30 = .ok (.iconst 2, 1) := dk_5 (dk_at dksX3_isGoerHere_1 6 rfl rfl)
theorem dX3_isGoerHere_31 : decode cX3_isGoerHere 31 = .ok (.if_icmp .ge 8, 3) := dk_162 0 8 (dk_at dksX3_isGoerHere_1 7 rfl rfl)
theorem dX3_isGoerHere_34 : decode cX3_isGoerHere 34 = .ok (.bipush 7, 2) := dk_16 7 (dk_at dksX3_isGoerHere_1 10 rfl rfl)
theorem dX3_isGoerHere_36 : decode cX3_isGoerHere 36 = .ok (.goto 6, 3) := dk_167 0 6 (dk_at dksX3_isGoerHere_1 12 rfl rfl)
theorem dX3_isGoerHere_39 : decode cX3_isGoerHere 39 = .ok (.sipush 999, 3) := dk_17 3 231 (dk_at dksX3_isGoerHere_1 15 rfl rfl)
theorem dX3_isGoerHere_42 : decode cX3_isGoerHere 42 = .ok (.invokevirtual 174, 3) := dk_182 0 174 (dk_at dksX3_isGoerHere_1 18 rfl rfl)
theorem dX3_isGoerHere_45 : decode cX3_isGoerHere 45 = .ok (.ifCond .ne 5, 3) := dk_154 0 5 (dk_at dksX3_isGoerHere_1 21 rfl rfl)
theorem dX3_isGoerHere_48 : decode cX3_isGoerHere 48 = .ok (.iconst 0, 1) := dk_3 (dk_at dksX3_isGoerHere_2 0 rfl rfl)
theorem dX3_isGoerHere_49 : decode cX3_isGoerHere 49 = .ok (.ireturn, 1) := dk_172 (dk_at dksX3_isGoerHere_2 1 rfl rfl)
theorem dX3_isGoerHere_50 : decode cX3_isGoerHere 50 = .ok (.aload_n 0, 1) := dk_42 (dk_at dksX3_isGoerHere_2 2 rfl rfl)
theorem dX3_isGoerHere_51 : decode cX3_isGoerHere 51 = .ok (.getfield 29, 3) := dk_180 0 29 (dk_at dksX3_isGoerHere_2 3 rfl rfl)
theorem dX3_isGoerHere_54 : decode cX3_isGoerHere 54 = .ok (.iconst 3, 1) := dk_6 (dk_at dksX3_isGoerHere_2 6 rfl rfl)
theorem dX3_isGoerHere_55 : decode cX3_isGoerHere 55 = .ok (.aload_n 0, 1) := dk_42 (dk_at dksX3_isGoerHere_2 7 rfl rfl)
theorem dX3_isGoerHere_56 : decode cX3_isGoerHere 56 = .ok (.getfield 228, 3) := dk_180 0 228 (dk_at dksX3_isGoerHere_2 8 rfl rfl)
theorem dX3_isGoerHere_59 : decode cX3_isGoerHere 59 = .ok (.imul, 1) := dk_104 (dk_at dksX3_isGoerHere_2 11 rfl rfl)
theorem dX3_isGoerHere_60 : decode cX3_isGoerHere 60 = .ok (.iload_n 2, 1) := dk_28 (dk_at dksX3_isGoerHere_2 12 rfl rfl)
theorem dX3_isGoerHere_61 : decode cX3_isGoerHere 61 = .ok (.iadd, 1) := dk_96 (dk_at dksX3_isGoerHere_2 13 rfl rfl)
theorem dX3_isGoerHere_62 : decode cX3_isGoerHere 62 = .ok (.aload_n 0, 1) := dk_42 (dk_at dksX3_isGoerHere_2 14 rfl rfl)
theorem dX3_isGoerHere_63 : decode cX3_isGoerHere 63 = .ok (.getfield 122, 3) := dk_180 0 122 (dk_at dksX3_isGoerHere_2 15 rfl rfl)
theorem dX3_isGoerHere_66 : decode cX3_isGoerHere 66 = .ok (.iastore, 1) := dk_79 (dk_at dksX3_isGoerHere_2 18 rfl rfl)
theorem dX3_isGoerHere_67 : decode cX3_isGoerHere 67 = .ok (.iinc 2 1, 3) := dk_132 2 1 (dk_at dksX3_isGoerHere_2 19 rfl rfl)
theorem dX3_isGoerHere_70 : decode cX3_isGoerHere 70 = .ok (.goto (-48), 3) := dk_167 255 208 (dk_at dksX3_isGoerHere_3 0 rfl rfl)
theorem dX3_isGoerHere_73 : decode cX3_isGoerHere 73 = .ok (.aload_n 0, 1) := dk_42 (dk_at dksX3_isGoerHere_3 3 rfl rfl)
theorem dX3_isGoerHere_74 : decode cX3_isGoerHere 74 = .ok (.dup, 1) := dk_89 (dk_at dksX3_isGoerHere_3 4 rfl rfl)
theorem dX3_isGoerHere_75 : decode cX3_isGoerHere 75 = .ok (.getfield 228, 3) := dk_180 0 228 (dk_at dksX3_isGoerHere_3 5 rfl rfl)
theorem dX3_isGoerHere_78 : decode cX3_isGoerHere 78 = .ok (.iconst 1, 1) := dk_4 (dk_at dksX3_isGoerHere_3 8 rfl rfl)
theorem dX3_isGoerHere_79 : decode cX3_isGoerHere 79 = .ok (.iadd, 1) := dk_96 (dk_at dksX3_isGoerHere_3 9 rfl rfl)
theorem dX3_isGoerHere_80 : decode cX3_isGoerHere 80 = .ok (.putfield 228, 3) := dk_181 0 228 (dk_at dksX3_isGoerHere_3 10 rfl rfl)
theorem dX3_isGoerHere_83 : decode cX3_isGoerHere 83 = .ok (.iconst 1, 1) := dk_4 (dk_at dksX3_isGoerHere_3 13 rfl rfl)
theorem dX3_isGoerHere_84 : decode cX3_isGoerHere 84 = .ok (.ireturn, 1) := dk_172 (dk_at dksX3_isGoerHere_3 14 rfl rfl)
abbrev cX3_clauseOf : ByteArray := prog_19_method_28_code
def yX3_clauseOf : MethodName := ⟨RX3, "clauseOf", "(I)Z"⟩
def dkwX3_clauseOf_6 : List UInt8 := [79, 42, 180, 0, 23, 42, 180, 0, 153, 92, 46, 4, 96, 79, 4, 172]
abbrev dktX3_clauseOf_6 : List UInt8 := dkwX3_clauseOf_6 ++ []
def dkwX3_clauseOf_5 : List UInt8 := [182, 0, 222, 154, 0, 5, 3, 172, 42, 180, 0, 20, 28, 7, 96, 42, 180, 0, 17, 42, 180, 0, 153, 46]
abbrev dktX3_clauseOf_5 : List UInt8 := dkwX3_clauseOf_5 ++ dktX3_clauseOf_6
def dkwX3_clauseOf_4 : List UInt8 := [182, 0, 219, 153, 0, 29, 42, 180, 0, 20, 28, 6, 96, 42, 180, 0, 17, 42, 180, 0, 153, 46, 79, 42]
abbrev dktX3_clauseOf_4 : List UInt8 := dkwX3_clauseOf_4 ++ dktX3_clauseOf_5
def dkwX3_clauseOf_3 : List UInt8 := [42, 180, 0, 153, 46, 79, 42, 180, 0, 20, 28, 6, 96, 2, 79, 27, 4, 159, 0, 13, 42, 20, 0, 217]
abbrev dktX3_clauseOf_3 : List UInt8 := dkwX3_clauseOf_3 ++ dktX3_clauseOf_4
def dkwX3_clauseOf_2 : List UInt8 := [27, 154, 0, 12, 42, 182, 0, 190, 154, 0, 5, 3, 172, 42, 180, 0, 20, 28, 5, 96, 42, 180, 0, 17]
abbrev dktX3_clauseOf_2 : List UInt8 := dkwX3_clauseOf_2 ++ dktX3_clauseOf_3
def dkwX3_clauseOf_1 : List UInt8 := [42, 180, 0, 20, 28, 27, 79, 42, 180, 0, 20, 28, 4, 96, 42, 180, 0, 17, 42, 180, 0, 153, 46, 79]
abbrev dktX3_clauseOf_1 : List UInt8 := dkwX3_clauseOf_1 ++ dktX3_clauseOf_2
def dkwX3_clauseOf_0 : List UInt8 := [42, 182, 0, 112, 16, 60, 42, 180, 0, 153, 104, 8, 42, 180, 0, 23, 42, 180, 0, 153, 46, 104, 96, 61]
abbrev dktX3_clauseOf_0 : List UInt8 := dkwX3_clauseOf_0 ++ dktX3_clauseOf_1
theorem dksX3_clauseOf_0 : cX3_clauseOf.data.toList.drop 0 = dktX3_clauseOf_0 := by decide +kernel
theorem dksX3_clauseOf_1 : cX3_clauseOf.data.toList.drop 24 = dktX3_clauseOf_1 := dk_seg dksX3_clauseOf_0 24 rfl rfl
theorem dksX3_clauseOf_2 : cX3_clauseOf.data.toList.drop 48 = dktX3_clauseOf_2 := dk_seg dksX3_clauseOf_1 24 rfl rfl
theorem dksX3_clauseOf_3 : cX3_clauseOf.data.toList.drop 72 = dktX3_clauseOf_3 := dk_seg dksX3_clauseOf_2 24 rfl rfl
theorem dksX3_clauseOf_4 : cX3_clauseOf.data.toList.drop 96 = dktX3_clauseOf_4 := dk_seg dksX3_clauseOf_3 24 rfl rfl
theorem dksX3_clauseOf_5 : cX3_clauseOf.data.toList.drop 120 = dktX3_clauseOf_5 := dk_seg dksX3_clauseOf_4 24 rfl rfl
theorem dksX3_clauseOf_6 : cX3_clauseOf.data.toList.drop 144 = dktX3_clauseOf_6 := dk_seg dksX3_clauseOf_5 24 rfl rfl
theorem dX3_clauseOf_0 : decode cX3_clauseOf 0 = .ok (.aload_n 0, 1) := dk_42 (dk_at dksX3_clauseOf_0 0 rfl rfl)
theorem dX3_clauseOf_1 : decode cX3_clauseOf 1 = .ok (.invokevirtual 112, 3) := dk_182 0 112 (dk_at dksX3_clauseOf_0 1 rfl rfl)
theorem dX3_clauseOf_4 : decode cX3_clauseOf 4 = .ok (.bipush 60, 2) := dk_16 60 (dk_at dksX3_clauseOf_0 4 rfl rfl)
theorem dX3_clauseOf_6 : decode cX3_clauseOf 6 = .ok (.aload_n 0, 1) := dk_42 (dk_at dksX3_clauseOf_0 6 rfl rfl)
theorem dX3_clauseOf_7 : decode cX3_clauseOf 7 = .ok (.getfield 153, 3) := dk_180 0 153 (dk_at dksX3_clauseOf_0 7 rfl rfl)
theorem dX3_clauseOf_10 : decode cX3_clauseOf 10 = .ok (.imul, 1) := dk_104 (dk_at dksX3_clauseOf_0 10 rfl rfl)
theorem dX3_clauseOf_11 : decode cX3_clauseOf 11 = .ok (.iconst 5, 1) := dk_8 (dk_at dksX3_clauseOf_0 11 rfl rfl)
theorem dX3_clauseOf_12 : decode cX3_clauseOf 12 = .ok (.aload_n 0, 1) := dk_42 (dk_at dksX3_clauseOf_0 12 rfl rfl)
theorem dX3_clauseOf_13 : decode cX3_clauseOf 13 = .ok (.getfield 23, 3) := dk_180 0 23 (dk_at dksX3_clauseOf_0 13 rfl rfl)
theorem dX3_clauseOf_16 : decode cX3_clauseOf 16 = .ok (.aload_n 0, 1) := dk_42 (dk_at dksX3_clauseOf_0 16 rfl rfl)
theorem dX3_clauseOf_17 : decode cX3_clauseOf 17 = .ok (.getfield 153, 3) := dk_180 0 153 (dk_at dksX3_clauseOf_0 17 rfl rfl)
theorem dX3_clauseOf_20 : decode cX3_clauseOf 20 = .ok (.iaload, 1) := dk_46 (dk_at dksX3_clauseOf_0 20 rfl rfl)
theorem dX3_clauseOf_21 : decode cX3_clauseOf 21 = .ok (.imul, 1) := dk_104 (dk_at dksX3_clauseOf_0 21 rfl rfl)
theorem dX3_clauseOf_22 : decode cX3_clauseOf 22 = .ok (.iadd, 1) := dk_96 (dk_at dksX3_clauseOf_0 22 rfl rfl)
theorem dX3_clauseOf_23 : decode cX3_clauseOf 23 = .ok (.istore_n 2, 1) := dk_61 (dk_at dksX3_clauseOf_0 23 rfl rfl)
theorem dX3_clauseOf_24 : decode cX3_clauseOf 24 = .ok (.aload_n 0, 1) := dk_42 (dk_at dksX3_clauseOf_1 0 rfl rfl)
theorem dX3_clauseOf_25 : decode cX3_clauseOf 25 = .ok (.getfield 20, 3) := dk_180 0 20 (dk_at dksX3_clauseOf_1 1 rfl rfl)
theorem dX3_clauseOf_28 : decode cX3_clauseOf 28 = .ok (.iload_n 2, 1) := dk_28 (dk_at dksX3_clauseOf_1 4 rfl rfl)
theorem dX3_clauseOf_29 : decode cX3_clauseOf 29 = .ok (.iload_n 1, 1) := dk_27 (dk_at dksX3_clauseOf_1 5 rfl rfl)
theorem dX3_clauseOf_30 : decode cX3_clauseOf 30 = .ok (.iastore, 1) := dk_79 (dk_at dksX3_clauseOf_1 6 rfl rfl)
theorem dX3_clauseOf_31 : decode cX3_clauseOf 31 = .ok (.aload_n 0, 1) := dk_42 (dk_at dksX3_clauseOf_1 7 rfl rfl)
theorem dX3_clauseOf_32 : decode cX3_clauseOf 32 = .ok (.getfield 20, 3) := dk_180 0 20 (dk_at dksX3_clauseOf_1 8 rfl rfl)
theorem dX3_clauseOf_35 : decode cX3_clauseOf 35 = .ok (.iload_n 2, 1) := dk_28 (dk_at dksX3_clauseOf_1 11 rfl rfl)
theorem dX3_clauseOf_36 : decode cX3_clauseOf 36 = .ok (.iconst 1, 1) := dk_4 (dk_at dksX3_clauseOf_1 12 rfl rfl)
theorem dX3_clauseOf_37 : decode cX3_clauseOf 37 = .ok (.iadd, 1) := dk_96 (dk_at dksX3_clauseOf_1 13 rfl rfl)
theorem dX3_clauseOf_38 : decode cX3_clauseOf 38 = .ok (.aload_n 0, 1) := dk_42 (dk_at dksX3_clauseOf_1 14 rfl rfl)
theorem dX3_clauseOf_39 : decode cX3_clauseOf 39 = .ok (.getfield 17, 3) := dk_180 0 17 (dk_at dksX3_clauseOf_1 15 rfl rfl)
theorem dX3_clauseOf_42 : decode cX3_clauseOf 42 = .ok (.aload_n 0, 1) := dk_42 (dk_at dksX3_clauseOf_1 18 rfl rfl)
theorem dX3_clauseOf_43 : decode cX3_clauseOf 43 = .ok (.getfield 153, 3) := dk_180 0 153 (dk_at dksX3_clauseOf_1 19 rfl rfl)
theorem dX3_clauseOf_46 : decode cX3_clauseOf 46 = .ok (.iaload, 1) := dk_46 (dk_at dksX3_clauseOf_1 22 rfl rfl)
theorem dX3_clauseOf_47 : decode cX3_clauseOf 47 = .ok (.iastore, 1) := dk_79 (dk_at dksX3_clauseOf_1 23 rfl rfl)
theorem dX3_clauseOf_48 : decode cX3_clauseOf 48 = .ok (.iload_n 1, 1) := dk_27 (dk_at dksX3_clauseOf_2 0 rfl rfl)
theorem dX3_clauseOf_49 : decode cX3_clauseOf 49 = .ok (.ifCond .ne 12, 3) := dk_154 0 12 (dk_at dksX3_clauseOf_2 1 rfl rfl)
theorem dX3_clauseOf_52 : decode cX3_clauseOf 52 = .ok (.aload_n 0, 1) := dk_42 (dk_at dksX3_clauseOf_2 4 rfl rfl)
theorem dX3_clauseOf_53 : decode cX3_clauseOf 53 = .ok (.invokevirtual 190, 3) := dk_182 0 190 (dk_at dksX3_clauseOf_2 5 rfl rfl)
theorem dX3_clauseOf_56 : decode cX3_clauseOf 56 = .ok (.ifCond .ne 5, 3) := dk_154 0 5 (dk_at dksX3_clauseOf_2 8 rfl rfl)
theorem dX3_clauseOf_59 : decode cX3_clauseOf 59 = .ok (.iconst 0, 1) := dk_3 (dk_at dksX3_clauseOf_2 11 rfl rfl)
theorem dX3_clauseOf_60 : decode cX3_clauseOf 60 = .ok (.ireturn, 1) := dk_172 (dk_at dksX3_clauseOf_2 12 rfl rfl)
theorem dX3_clauseOf_61 : decode cX3_clauseOf 61 = .ok (.aload_n 0, 1) := dk_42 (dk_at dksX3_clauseOf_2 13 rfl rfl)
theorem dX3_clauseOf_62 : decode cX3_clauseOf 62 = .ok (.getfield 20, 3) := dk_180 0 20 (dk_at dksX3_clauseOf_2 14 rfl rfl)
theorem dX3_clauseOf_65 : decode cX3_clauseOf 65 = .ok (.iload_n 2, 1) := dk_28 (dk_at dksX3_clauseOf_2 17 rfl rfl)
theorem dX3_clauseOf_66 : decode cX3_clauseOf 66 = .ok (.iconst 2, 1) := dk_5 (dk_at dksX3_clauseOf_2 18 rfl rfl)
theorem dX3_clauseOf_67 : decode cX3_clauseOf 67 = .ok (.iadd, 1) := dk_96 (dk_at dksX3_clauseOf_2 19 rfl rfl)
theorem dX3_clauseOf_68 : decode cX3_clauseOf 68 = .ok (.aload_n 0, 1) := dk_42 (dk_at dksX3_clauseOf_2 20 rfl rfl)
theorem dX3_clauseOf_69 : decode cX3_clauseOf 69 = .ok (.getfield 17, 3) := dk_180 0 17 (dk_at dksX3_clauseOf_2 21 rfl rfl)
theorem dX3_clauseOf_72 : decode cX3_clauseOf 72 = .ok (.aload_n 0, 1) := dk_42 (dk_at dksX3_clauseOf_3 0 rfl rfl)
theorem dX3_clauseOf_73 : decode cX3_clauseOf 73 = .ok (.getfield 153, 3) := dk_180 0 153 (dk_at dksX3_clauseOf_3 1 rfl rfl)
theorem dX3_clauseOf_76 : decode cX3_clauseOf 76 = .ok (.iaload, 1) := dk_46 (dk_at dksX3_clauseOf_3 4 rfl rfl)
theorem dX3_clauseOf_77 : decode cX3_clauseOf 77 = .ok (.iastore, 1) := dk_79 (dk_at dksX3_clauseOf_3 5 rfl rfl)
theorem dX3_clauseOf_78 : decode cX3_clauseOf 78 = .ok (.aload_n 0, 1) := dk_42 (dk_at dksX3_clauseOf_3 6 rfl rfl)
theorem dX3_clauseOf_79 : decode cX3_clauseOf 79 = .ok (.getfield 20, 3) := dk_180 0 20 (dk_at dksX3_clauseOf_3 7 rfl rfl)
theorem dX3_clauseOf_82 : decode cX3_clauseOf 82 = .ok (.iload_n 2, 1) := dk_28 (dk_at dksX3_clauseOf_3 10 rfl rfl)
theorem dX3_clauseOf_83 : decode cX3_clauseOf 83 = .ok (.iconst 3, 1) := dk_6 (dk_at dksX3_clauseOf_3 11 rfl rfl)
theorem dX3_clauseOf_84 : decode cX3_clauseOf 84 = .ok (.iadd, 1) := dk_96 (dk_at dksX3_clauseOf_3 12 rfl rfl)
theorem dX3_clauseOf_85 : decode cX3_clauseOf 85 = .ok (.iconst (-1), 1) := dk_2 (dk_at dksX3_clauseOf_3 13 rfl rfl)
theorem dX3_clauseOf_86 : decode cX3_clauseOf 86 = .ok (.iastore, 1) := dk_79 (dk_at dksX3_clauseOf_3 14 rfl rfl)
theorem dX3_clauseOf_87 : decode cX3_clauseOf 87 = .ok (.iload_n 1, 1) := dk_27 (dk_at dksX3_clauseOf_3 15 rfl rfl)
theorem dX3_clauseOf_88 : decode cX3_clauseOf 88 = .ok (.iconst 1, 1) := dk_4 (dk_at dksX3_clauseOf_3 16 rfl rfl)
theorem dX3_clauseOf_89 : decode cX3_clauseOf 89 = .ok (.if_icmp .eq 13, 3) := dk_159 0 13 (dk_at dksX3_clauseOf_3 17 rfl rfl)
theorem dX3_clauseOf_92 : decode cX3_clauseOf 92 = .ok (.aload_n 0, 1) := dk_42 (dk_at dksX3_clauseOf_3 20 rfl rfl)
theorem dX3_clauseOf_93 : decode cX3_clauseOf 93 = .ok (.ldc2_w 217, 3) := dk_20 0 217 (dk_at dksX3_clauseOf_3 21 rfl rfl)
theorem dX3_clauseOf_96 : decode cX3_clauseOf 96 = .ok (.invokevirtual 219, 3) := dk_182 0 219 (dk_at dksX3_clauseOf_4 0 rfl rfl)
theorem dX3_clauseOf_99 : decode cX3_clauseOf 99 = .ok (.ifCond .eq 29, 3) := dk_153 0 29 (dk_at dksX3_clauseOf_4 3 rfl rfl)
theorem dX3_clauseOf_102 : decode cX3_clauseOf 102 = .ok (.aload_n 0, 1) := dk_42 (dk_at dksX3_clauseOf_4 6 rfl rfl)
theorem dX3_clauseOf_103 : decode cX3_clauseOf 103 = .ok (.getfield 20, 3) := dk_180 0 20 (dk_at dksX3_clauseOf_4 7 rfl rfl)
theorem dX3_clauseOf_106 : decode cX3_clauseOf 106 = .ok (.iload_n 2, 1) := dk_28 (dk_at dksX3_clauseOf_4 10 rfl rfl)
theorem dX3_clauseOf_107 : decode cX3_clauseOf 107 = .ok (.iconst 3, 1) := dk_6 (dk_at dksX3_clauseOf_4 11 rfl rfl)
theorem dX3_clauseOf_108 : decode cX3_clauseOf 108 = .ok (.iadd, 1) := dk_96 (dk_at dksX3_clauseOf_4 12 rfl rfl)
theorem dX3_clauseOf_109 : decode cX3_clauseOf 109 = .ok (.aload_n 0, 1) := dk_42 (dk_at dksX3_clauseOf_4 13 rfl rfl)
theorem dX3_clauseOf_110 : decode cX3_clauseOf 110 = .ok (.getfield 17, 3) := dk_180 0 17 (dk_at dksX3_clauseOf_4 14 rfl rfl)
theorem dX3_clauseOf_113 : decode cX3_clauseOf 113 = .ok (.aload_n 0, 1) := dk_42 (dk_at dksX3_clauseOf_4 17 rfl rfl)
theorem dX3_clauseOf_114 : decode cX3_clauseOf 114 = .ok (.getfield 153, 3) := dk_180 0 153 (dk_at dksX3_clauseOf_4 18 rfl rfl)
theorem dX3_clauseOf_117 : decode cX3_clauseOf 117 = .ok (.iaload, 1) := dk_46 (dk_at dksX3_clauseOf_4 21 rfl rfl)
theorem dX3_clauseOf_118 : decode cX3_clauseOf 118 = .ok (.iastore, 1) := dk_79 (dk_at dksX3_clauseOf_4 22 rfl rfl)
theorem dX3_clauseOf_119 : decode cX3_clauseOf 119 = .ok (.aload_n 0, 1) := dk_42 (dk_at dksX3_clauseOf_4 23 rfl rfl)
theorem dX3_clauseOf_120 : decode cX3_clauseOf 120 = .ok (.invokevirtual 222, 3) := dk_182 0 222 (dk_at dksX3_clauseOf_5 0 rfl rfl)
theorem dX3_clauseOf_123 : decode cX3_clauseOf 123 = .ok (.ifCond .ne 5, 3) := dk_154 0 5 (dk_at dksX3_clauseOf_5 3 rfl rfl)
theorem dX3_clauseOf_126 : decode cX3_clauseOf 126 = .ok (.iconst 0, 1) := dk_3 (dk_at dksX3_clauseOf_5 6 rfl rfl)
theorem dX3_clauseOf_127 : decode cX3_clauseOf 127 = .ok (.ireturn, 1) := dk_172 (dk_at dksX3_clauseOf_5 7 rfl rfl)
theorem dX3_clauseOf_128 : decode cX3_clauseOf 128 = .ok (.aload_n 0, 1) := dk_42 (dk_at dksX3_clauseOf_5 8 rfl rfl)
theorem dX3_clauseOf_129 : decode cX3_clauseOf 129 = .ok (.getfield 20, 3) := dk_180 0 20 (dk_at dksX3_clauseOf_5 9 rfl rfl)
theorem dX3_clauseOf_132 : decode cX3_clauseOf 132 = .ok (.iload_n 2, 1) := dk_28 (dk_at dksX3_clauseOf_5 12 rfl rfl)
theorem dX3_clauseOf_133 : decode cX3_clauseOf 133 = .ok (.iconst 4, 1) := dk_7 (dk_at dksX3_clauseOf_5 13 rfl rfl)
theorem dX3_clauseOf_134 : decode cX3_clauseOf 134 = .ok (.iadd, 1) := dk_96 (dk_at dksX3_clauseOf_5 14 rfl rfl)
theorem dX3_clauseOf_135 : decode cX3_clauseOf 135 = .ok (.aload_n 0, 1) := dk_42 (dk_at dksX3_clauseOf_5 15 rfl rfl)
theorem dX3_clauseOf_136 : decode cX3_clauseOf 136 = .ok (.getfield 17, 3) := dk_180 0 17 (dk_at dksX3_clauseOf_5 16 rfl rfl)
theorem dX3_clauseOf_139 : decode cX3_clauseOf 139 = .ok (.aload_n 0, 1) := dk_42 (dk_at dksX3_clauseOf_5 19 rfl rfl)
theorem dX3_clauseOf_140 : decode cX3_clauseOf 140 = .ok (.getfield 153, 3) := dk_180 0 153 (dk_at dksX3_clauseOf_5 20 rfl rfl)
theorem dX3_clauseOf_143 : decode cX3_clauseOf 143 = .ok (.iaload, 1) := dk_46 (dk_at dksX3_clauseOf_5 23 rfl rfl)
theorem dX3_clauseOf_144 : decode cX3_clauseOf 144 = .ok (.iastore, 1) := dk_79 (dk_at dksX3_clauseOf_6 0 rfl rfl)
theorem dX3_clauseOf_145 : decode cX3_clauseOf 145 = .ok (.aload_n 0, 1) := dk_42 (dk_at dksX3_clauseOf_6 1 rfl rfl)
theorem dX3_clauseOf_146 : decode cX3_clauseOf 146 = .ok (.getfield 23, 3) := dk_180 0 23 (dk_at dksX3_clauseOf_6 2 rfl rfl)
theorem dX3_clauseOf_149 : decode cX3_clauseOf 149 = .ok (.aload_n 0, 1) := dk_42 (dk_at dksX3_clauseOf_6 5 rfl rfl)
theorem dX3_clauseOf_150 : decode cX3_clauseOf 150 = .ok (.getfield 153, 3) := dk_180 0 153 (dk_at dksX3_clauseOf_6 6 rfl rfl)
theorem dX3_clauseOf_153 : decode cX3_clauseOf 153 = .ok (.dup2, 1) := dk_92 (dk_at dksX3_clauseOf_6 9 rfl rfl)
theorem dX3_clauseOf_154 : decode cX3_clauseOf 154 = .ok (.iaload, 1) := dk_46 (dk_at dksX3_clauseOf_6 10 rfl rfl)
theorem dX3_clauseOf_155 : decode cX3_clauseOf 155 = .ok (.iconst 1, 1) := dk_4 (dk_at dksX3_clauseOf_6 11 rfl rfl)
theorem dX3_clauseOf_156 : decode cX3_clauseOf 156 = .ok (.iadd, 1) := dk_96 (dk_at dksX3_clauseOf_6 12 rfl rfl)
theorem dX3_clauseOf_157 : decode cX3_clauseOf 157 = .ok (.iastore, 1) := dk_79 (dk_at dksX3_clauseOf_6 13 rfl rfl)
theorem dX3_clauseOf_158 : decode cX3_clauseOf 158 = .ok (.iconst 1, 1) := dk_4 (dk_at dksX3_clauseOf_6 14 rfl rfl)
theorem dX3_clauseOf_159 : decode cX3_clauseOf 159 = .ok (.ireturn, 1) := dk_172 (dk_at dksX3_clauseOf_6 15 rfl rfl)
abbrev cX3_sum : ByteArray := prog_19_method_22_code
def yX3_sum : MethodName := ⟨RX3, "sum", "()Z"⟩
def dkwX3_sum_3 : List UInt8 := [167, 255, 193, 4, 172]
abbrev dktX3_sum_3 : List UInt8 := dkwX3_sum_3 ++ []
def dkwX3_sum_2 : List UInt8 := [89, 180, 0, 97, 4, 96, 181, 0, 97, 42, 182, 0, 187, 154, 0, 5, 3, 172, 42, 27, 3, 182, 0, 169]
abbrev dktX3_sum_2 : List UInt8 := dkwX3_sum_2 ++ dktX3_sum_3
def dkwX3_sum_1 : List UInt8 := [160, 0, 51, 42, 180, 0, 7, 42, 180, 0, 97, 51, 16, 43, 160, 0, 7, 5, 167, 0, 4, 6, 60, 42]
abbrev dktX3_sum_1 : List UInt8 := dkwX3_sum_1 ++ dktX3_sum_2
def dkwX3_sum_0 : List UInt8 := [42, 182, 0, 187, 154, 0, 5, 3, 172, 42, 182, 0, 100, 16, 43, 159, 0, 12, 42, 182, 0, 100, 16, 45]
abbrev dktX3_sum_0 : List UInt8 := dkwX3_sum_0 ++ dktX3_sum_1
theorem dksX3_sum_0 : cX3_sum.data.toList.drop 0 = dktX3_sum_0 := by decide +kernel
theorem dksX3_sum_1 : cX3_sum.data.toList.drop 24 = dktX3_sum_1 := dk_seg dksX3_sum_0 24 rfl rfl
theorem dksX3_sum_2 : cX3_sum.data.toList.drop 48 = dktX3_sum_2 := dk_seg dksX3_sum_1 24 rfl rfl
theorem dksX3_sum_3 : cX3_sum.data.toList.drop 72 = dktX3_sum_3 := dk_seg dksX3_sum_2 24 rfl rfl
theorem dX3_sum_0 : decode cX3_sum 0 = .ok (.aload_n 0, 1) := dk_42 (dk_at dksX3_sum_0 0 rfl rfl)
theorem dX3_sum_1 : decode cX3_sum 1 = .ok (.invokevirtual 187, 3) := dk_182 0 187 (dk_at dksX3_sum_0 1 rfl rfl)
theorem dX3_sum_4 : decode cX3_sum 4 = .ok (.ifCond .ne 5, 3) := dk_154 0 5 (dk_at dksX3_sum_0 4 rfl rfl)
theorem dX3_sum_7 : decode cX3_sum 7 = .ok (.iconst 0, 1) := dk_3 (dk_at dksX3_sum_0 7 rfl rfl)
theorem dX3_sum_8 : decode cX3_sum 8 = .ok (.ireturn, 1) := dk_172 (dk_at dksX3_sum_0 8 rfl rfl)
theorem dX3_sum_9 : decode cX3_sum 9 = .ok (.aload_n 0, 1) := dk_42 (dk_at dksX3_sum_0 9 rfl rfl)
theorem dX3_sum_10 : decode cX3_sum 10 = .ok (.invokevirtual 100, 3) := dk_182 0 100 (dk_at dksX3_sum_0 10 rfl rfl)
theorem dX3_sum_13 : decode cX3_sum 13 = .ok (.bipush 43, 2) := dk_16 43 (dk_at dksX3_sum_0 13 rfl rfl)
theorem dX3_sum_15 : decode cX3_sum 15 = .ok (.if_icmp .eq 12, 3) := dk_159 0 12 (dk_at dksX3_sum_0 15 rfl rfl)
theorem dX3_sum_18 : decode cX3_sum 18 = .ok (.aload_n 0, 1) := dk_42 (dk_at dksX3_sum_0 18 rfl rfl)
theorem dX3_sum_19 : decode cX3_sum 19 = .ok (.invokevirtual 100, 3) := dk_182 0 100 (dk_at dksX3_sum_0 19 rfl rfl)
theorem dX3_sum_22 : decode cX3_sum 22 = .ok (.bipush 45, 2) := dk_16 45 (dk_at dksX3_sum_0 22 rfl rfl)
theorem dX3_sum_24 : decode cX3_sum 24 = .ok (.if_icmp .ne 51, 3) := dk_160 0 51 (dk_at dksX3_sum_1 0 rfl rfl)
theorem dX3_sum_27 : decode cX3_sum 27 = .ok (.aload_n 0, 1) := dk_42 (dk_at dksX3_sum_1 3 rfl rfl)
theorem dX3_sum_28 : decode cX3_sum 28 = .ok (.getfield 7, 3) := dk_180 0 7 (dk_at dksX3_sum_1 4 rfl rfl)
theorem dX3_sum_31 : decode cX3_sum 31 = .ok (.aload_n 0, 1) := dk_42 (dk_at dksX3_sum_1 7 rfl rfl)
theorem dX3_sum_32 : decode cX3_sum 32 = .ok (.getfield 97, 3) := dk_180 0 97 (dk_at dksX3_sum_1 8 rfl rfl)
theorem dX3_sum_35 : decode cX3_sum 35 = .ok (.baload, 1) := dk_51 (dk_at dksX3_sum_1 11 rfl rfl)
theorem dX3_sum_36 : decode cX3_sum 36 = .ok (.bipush 43, 2) := dk_16 43 (dk_at dksX3_sum_1 12 rfl rfl)
theorem dX3_sum_38 : decode cX3_sum 38 = .ok (.if_icmp .ne 7, 3) := dk_160 0 7 (dk_at dksX3_sum_1 14 rfl rfl)
theorem dX3_sum_41 : decode cX3_sum 41 = .ok (.iconst 2, 1) := dk_5 (dk_at dksX3_sum_1 17 rfl rfl)
theorem dX3_sum_42 : decode cX3_sum 42 = .ok (.goto 4, 3) := dk_167 0 4 (dk_at dksX3_sum_1 18 rfl rfl)
theorem dX3_sum_45 : decode cX3_sum 45 = .ok (.iconst 3, 1) := dk_6 (dk_at dksX3_sum_1 21 rfl rfl)
theorem dX3_sum_46 : decode cX3_sum 46 = .ok (.istore_n 1, 1) := dk_60 (dk_at dksX3_sum_1 22 rfl rfl)
theorem dX3_sum_47 : decode cX3_sum 47 = .ok (.aload_n 0, 1) := dk_42 (dk_at dksX3_sum_1 23 rfl rfl)
theorem dX3_sum_48 : decode cX3_sum 48 = .ok (.dup, 1) := dk_89 (dk_at dksX3_sum_2 0 rfl rfl)
theorem dX3_sum_49 : decode cX3_sum 49 = .ok (.getfield 97, 3) := dk_180 0 97 (dk_at dksX3_sum_2 1 rfl rfl)
theorem dX3_sum_52 : decode cX3_sum 52 = .ok (.iconst 1, 1) := dk_4 (dk_at dksX3_sum_2 4 rfl rfl)
theorem dX3_sum_53 : decode cX3_sum 53 = .ok (.iadd, 1) := dk_96 (dk_at dksX3_sum_2 5 rfl rfl)
theorem dX3_sum_54 : decode cX3_sum 54 = .ok (.putfield 97, 3) := dk_181 0 97 (dk_at dksX3_sum_2 6 rfl rfl)
theorem dX3_sum_57 : decode cX3_sum 57 = .ok (.aload_n 0, 1) := dk_42 (dk_at dksX3_sum_2 9 rfl rfl)
theorem dX3_sum_58 : decode cX3_sum 58 = .ok (.invokevirtual 187, 3) := dk_182 0 187 (dk_at dksX3_sum_2 10 rfl rfl)
theorem dX3_sum_61 : decode cX3_sum 61 = .ok (.ifCond .ne 5, 3) := dk_154 0 5 (dk_at dksX3_sum_2 13 rfl rfl)
theorem dX3_sum_64 : decode cX3_sum 64 = .ok (.iconst 0, 1) := dk_3 (dk_at dksX3_sum_2 16 rfl rfl)
theorem dX3_sum_65 : decode cX3_sum 65 = .ok (.ireturn, 1) := dk_172 (dk_at dksX3_sum_2 17 rfl rfl)
theorem dX3_sum_66 : decode cX3_sum 66 = .ok (.aload_n 0, 1) := dk_42 (dk_at dksX3_sum_2 18 rfl rfl)
theorem dX3_sum_67 : decode cX3_sum 67 = .ok (.iload_n 1, 1) := dk_27 (dk_at dksX3_sum_2 19 rfl rfl)
theorem dX3_sum_68 : decode cX3_sum 68 = .ok (.iconst 0, 1) := dk_3 (dk_at dksX3_sum_2 20 rfl rfl)
theorem dX3_sum_69 : decode cX3_sum 69 = .ok (.invokevirtual 169, 3) := dk_182 0 169 (dk_at dksX3_sum_2 21 rfl rfl)
theorem dX3_sum_72 : decode cX3_sum 72 = .ok (.goto (-63), 3) := dk_167 255 193 (dk_at dksX3_sum_3 0 rfl rfl)
theorem dX3_sum_75 : decode cX3_sum 75 = .ok (.iconst 1, 1) := dk_4 (dk_at dksX3_sum_3 3 rfl rfl)
theorem dX3_sum_76 : decode cX3_sum 76 = .ok (.ireturn, 1) := dk_172 (dk_at dksX3_sum_3 4 rfl rfl)
abbrev cX3_term : ByteArray := prog_19_method_21_code
def yX3_term : MethodName := ⟨RX3, "term", "()Z"⟩
def dkwX3_term_3 : List UInt8 := [167, 255, 193, 4, 172]
abbrev dktX3_term_3 : List UInt8 := dkwX3_term_3 ++ []
def dkwX3_term_2 : List UInt8 := [89, 180, 0, 97, 4, 96, 181, 0, 97, 42, 182, 0, 183, 154, 0, 5, 3, 172, 42, 27, 3, 182, 0, 169]
abbrev dktX3_term_2 : List UInt8 := dkwX3_term_2 ++ dktX3_term_3
def dkwX3_term_1 : List UInt8 := [160, 0, 51, 42, 180, 0, 7, 42, 180, 0, 97, 51, 16, 42, 160, 0, 7, 7, 167, 0, 4, 8, 60, 42]
abbrev dktX3_term_1 : List UInt8 := dkwX3_term_1 ++ dktX3_term_2
def dkwX3_term_0 : List UInt8 := [42, 182, 0, 183, 154, 0, 5, 3, 172, 42, 182, 0, 100, 16, 42, 159, 0, 12, 42, 182, 0, 100, 16, 47]
abbrev dktX3_term_0 : List UInt8 := dkwX3_term_0 ++ dktX3_term_1
theorem dksX3_term_0 : cX3_term.data.toList.drop 0 = dktX3_term_0 := by decide +kernel
theorem dksX3_term_1 : cX3_term.data.toList.drop 24 = dktX3_term_1 := dk_seg dksX3_term_0 24 rfl rfl
theorem dksX3_term_2 : cX3_term.data.toList.drop 48 = dktX3_term_2 := dk_seg dksX3_term_1 24 rfl rfl
theorem dksX3_term_3 : cX3_term.data.toList.drop 72 = dktX3_term_3 := dk_seg dksX3_term_2 24 rfl rfl
theorem dX3_term_0 : decode cX3_term 0 = .ok (.aload_n 0, 1) := dk_42 (dk_at dksX3_term_0 0 rfl rfl)
theorem dX3_term_1 : decode cX3_term 1 = .ok (.invokevirtual 183, 3) := dk_182 0 183 (dk_at dksX3_term_0 1 rfl rfl)
theorem dX3_term_4 : decode cX3_term 4 = .ok (.ifCond .ne 5, 3) := dk_154 0 5 (dk_at dksX3_term_0 4 rfl rfl)
theorem dX3_term_7 : decode cX3_term 7 = .ok (.iconst 0, 1) := dk_3 (dk_at dksX3_term_0 7 rfl rfl)
theorem dX3_term_8 : decode cX3_term 8 = .ok (.ireturn, 1) := dk_172 (dk_at dksX3_term_0 8 rfl rfl)
theorem dX3_term_9 : decode cX3_term 9 = .ok (.aload_n 0, 1) := dk_42 (dk_at dksX3_term_0 9 rfl rfl)
theorem dX3_term_10 : decode cX3_term 10 = .ok (.invokevirtual 100, 3) := dk_182 0 100 (dk_at dksX3_term_0 10 rfl rfl)
theorem dX3_term_13 : decode cX3_term 13 = .ok (.bipush 42, 2) := dk_16 42 (dk_at dksX3_term_0 13 rfl rfl)
theorem dX3_term_15 : decode cX3_term 15 = .ok (.if_icmp .eq 12, 3) := dk_159 0 12 (dk_at dksX3_term_0 15 rfl rfl)
theorem dX3_term_18 : decode cX3_term 18 = .ok (.aload_n 0, 1) := dk_42 (dk_at dksX3_term_0 18 rfl rfl)
theorem dX3_term_19 : decode cX3_term 19 = .ok (.invokevirtual 100, 3) := dk_182 0 100 (dk_at dksX3_term_0 19 rfl rfl)
theorem dX3_term_22 : decode cX3_term 22 = .ok (.bipush 47, 2) := dk_16 47 (dk_at dksX3_term_0 22 rfl rfl)
theorem dX3_term_24 : decode cX3_term 24 = .ok (.if_icmp .ne 51, 3) := dk_160 0 51 (dk_at dksX3_term_1 0 rfl rfl)
theorem dX3_term_27 : decode cX3_term 27 = .ok (.aload_n 0, 1) := dk_42 (dk_at dksX3_term_1 3 rfl rfl)
theorem dX3_term_28 : decode cX3_term 28 = .ok (.getfield 7, 3) := dk_180 0 7 (dk_at dksX3_term_1 4 rfl rfl)
theorem dX3_term_31 : decode cX3_term 31 = .ok (.aload_n 0, 1) := dk_42 (dk_at dksX3_term_1 7 rfl rfl)
theorem dX3_term_32 : decode cX3_term 32 = .ok (.getfield 97, 3) := dk_180 0 97 (dk_at dksX3_term_1 8 rfl rfl)
theorem dX3_term_35 : decode cX3_term 35 = .ok (.baload, 1) := dk_51 (dk_at dksX3_term_1 11 rfl rfl)
theorem dX3_term_36 : decode cX3_term 36 = .ok (.bipush 42, 2) := dk_16 42 (dk_at dksX3_term_1 12 rfl rfl)
theorem dX3_term_38 : decode cX3_term 38 = .ok (.if_icmp .ne 7, 3) := dk_160 0 7 (dk_at dksX3_term_1 14 rfl rfl)
theorem dX3_term_41 : decode cX3_term 41 = .ok (.iconst 4, 1) := dk_7 (dk_at dksX3_term_1 17 rfl rfl)
theorem dX3_term_42 : decode cX3_term 42 = .ok (.goto 4, 3) := dk_167 0 4 (dk_at dksX3_term_1 18 rfl rfl)
theorem dX3_term_45 : decode cX3_term 45 = .ok (.iconst 5, 1) := dk_8 (dk_at dksX3_term_1 21 rfl rfl)
theorem dX3_term_46 : decode cX3_term 46 = .ok (.istore_n 1, 1) := dk_60 (dk_at dksX3_term_1 22 rfl rfl)
theorem dX3_term_47 : decode cX3_term 47 = .ok (.aload_n 0, 1) := dk_42 (dk_at dksX3_term_1 23 rfl rfl)
theorem dX3_term_48 : decode cX3_term 48 = .ok (.dup, 1) := dk_89 (dk_at dksX3_term_2 0 rfl rfl)
theorem dX3_term_49 : decode cX3_term 49 = .ok (.getfield 97, 3) := dk_180 0 97 (dk_at dksX3_term_2 1 rfl rfl)
theorem dX3_term_52 : decode cX3_term 52 = .ok (.iconst 1, 1) := dk_4 (dk_at dksX3_term_2 4 rfl rfl)
theorem dX3_term_53 : decode cX3_term 53 = .ok (.iadd, 1) := dk_96 (dk_at dksX3_term_2 5 rfl rfl)
theorem dX3_term_54 : decode cX3_term 54 = .ok (.putfield 97, 3) := dk_181 0 97 (dk_at dksX3_term_2 6 rfl rfl)
theorem dX3_term_57 : decode cX3_term 57 = .ok (.aload_n 0, 1) := dk_42 (dk_at dksX3_term_2 9 rfl rfl)
theorem dX3_term_58 : decode cX3_term 58 = .ok (.invokevirtual 183, 3) := dk_182 0 183 (dk_at dksX3_term_2 10 rfl rfl)
theorem dX3_term_61 : decode cX3_term 61 = .ok (.ifCond .ne 5, 3) := dk_154 0 5 (dk_at dksX3_term_2 13 rfl rfl)
theorem dX3_term_64 : decode cX3_term 64 = .ok (.iconst 0, 1) := dk_3 (dk_at dksX3_term_2 16 rfl rfl)
theorem dX3_term_65 : decode cX3_term 65 = .ok (.ireturn, 1) := dk_172 (dk_at dksX3_term_2 17 rfl rfl)
theorem dX3_term_66 : decode cX3_term 66 = .ok (.aload_n 0, 1) := dk_42 (dk_at dksX3_term_2 18 rfl rfl)
theorem dX3_term_67 : decode cX3_term 67 = .ok (.iload_n 1, 1) := dk_27 (dk_at dksX3_term_2 19 rfl rfl)
theorem dX3_term_68 : decode cX3_term 68 = .ok (.iconst 0, 1) := dk_3 (dk_at dksX3_term_2 20 rfl rfl)
theorem dX3_term_69 : decode cX3_term 69 = .ok (.invokevirtual 169, 3) := dk_182 0 169 (dk_at dksX3_term_2 21 rfl rfl)
theorem dX3_term_72 : decode cX3_term 72 = .ok (.goto (-63), 3) := dk_167 255 193 (dk_at dksX3_term_3 0 rfl rfl)
theorem dX3_term_75 : decode cX3_term 75 = .ok (.iconst 1, 1) := dk_4 (dk_at dksX3_term_3 3 rfl rfl)
theorem dX3_term_76 : decode cX3_term 76 = .ok (.ireturn, 1) := dk_172 (dk_at dksX3_term_3 4 rfl rfl)
abbrev cX3_value : ByteArray := prog_19_method_20_code
def yX3_value : MethodName := ⟨RX3, "value", "()Z"⟩
def dkwX3_value_3 : List UInt8 := [182, 0, 177, 154, 0, 5, 3, 172, 42, 182, 0, 112, 42, 4, 28, 182, 0, 169, 4, 172]
abbrev dktX3_value_3 : List UInt8 := dkwX3_value_3 ++ []
def dkwX3_value_2 : List UInt8 := [182, 0, 169, 4, 172, 42, 182, 0, 180, 61, 28, 156, 0, 10, 42, 3, 27, 182, 0, 118, 172, 42, 27]
abbrev dktX3_value_2 : List UInt8 := dkwX3_value_2 ++ dktX3_value_3
def dkwX3_value_1 : List UInt8 := [18, 173, 182, 0, 174, 153, 0, 11, 42, 27, 182, 0, 177, 154, 0, 5, 3, 172, 42, 3, 42, 180, 0, 122]
abbrev dktX3_value_1 : List UInt8 := dkwX3_value_1 ++ dktX3_value_2
def dkwX3_value_0 : List UInt8 := [42, 182, 0, 100, 87, 42, 180, 0, 97, 60, 42, 42, 180, 0, 97, 182, 0, 115, 153, 0, 34, 42, 3]
abbrev dktX3_value_0 : List UInt8 := dkwX3_value_0 ++ dktX3_value_1
theorem dksX3_value_0 : cX3_value.data.toList.drop 0 = dktX3_value_0 := by decide +kernel
theorem dksX3_value_1 : cX3_value.data.toList.drop 23 = dktX3_value_1 := dk_seg dksX3_value_0 23 rfl rfl
theorem dksX3_value_2 : cX3_value.data.toList.drop 47 = dktX3_value_2 := dk_seg dksX3_value_1 24 rfl rfl
theorem dksX3_value_3 : cX3_value.data.toList.drop 70 = dktX3_value_3 := dk_seg dksX3_value_2 23 rfl rfl
theorem dX3_value_0 : decode cX3_value 0 = .ok (.aload_n 0, 1) := dk_42 (dk_at dksX3_value_0 0 rfl rfl)
theorem dX3_value_1 : decode cX3_value 1 = .ok (.invokevirtual 100, 3) := dk_182 0 100 (dk_at dksX3_value_0 1 rfl rfl)
theorem dX3_value_4 : decode cX3_value 4 = .ok (.pop, 1) := dk_87 (dk_at dksX3_value_0 4 rfl rfl)
theorem dX3_value_5 : decode cX3_value 5 = .ok (.aload_n 0, 1) := dk_42 (dk_at dksX3_value_0 5 rfl rfl)
theorem dX3_value_6 : decode cX3_value 6 = .ok (.getfield 97, 3) := dk_180 0 97 (dk_at dksX3_value_0 6 rfl rfl)
theorem dX3_value_9 : decode cX3_value 9 = .ok (.istore_n 1, 1) := dk_60 (dk_at dksX3_value_0 9 rfl rfl)
theorem dX3_value_10 : decode cX3_value 10 = .ok (.aload_n 0, 1) := dk_42 (dk_at dksX3_value_0 10 rfl rfl)
theorem dX3_value_11 : decode cX3_value 11 = .ok (.aload_n 0, 1) := dk_42 (dk_at dksX3_value_0 11 rfl rfl)
theorem dX3_value_12 : decode cX3_value 12 = .ok (.getfield 97, 3) := dk_180 0 97 (dk_at dksX3_value_0 12 rfl rfl)
theorem dX3_value_15 : decode cX3_value 15 = .ok (.invokevirtual 115, 3) := dk_182 0 115 (dk_at dksX3_value_0 15 rfl rfl)
theorem dX3_value_18 : decode cX3_value 18 = .ok (.ifCond .eq 34, 3) := dk_153 0 34 (dk_at dksX3_value_0 18 rfl rfl)
theorem dX3_value_21 : decode cX3_value 21 = .ok (.aload_n 0, 1) := dk_42 (dk_at dksX3_value_0 21 rfl rfl)
theorem dX3_value_22 : decode cX3_value 22 = .ok (.iconst 0, 1) := dk_3 (dk_at dksX3_value_0 22 rfl rfl)
theorem dX3_value_23 : decode cX3_value 23 = .ok (.ldc 173, 2) := dk_18 173 (dk_at dksX3_value_1 0 rfl rfl)
theorem dX3_value_25 : decode cX3_value 25 = .ok (.invokevirtual 174, 3) := dk_182 0 174 (dk_at dksX3_value_1 2 rfl rfl)
theorem dX3_value_28 : decode cX3_value 28 = .ok (.ifCond .eq 11, 3) := dk_153 0 11 (dk_at dksX3_value_1 5 rfl rfl)
theorem dX3_value_31 : decode cX3_value 31 = .ok (.aload_n 0, 1) := dk_42 (dk_at dksX3_value_1 8 rfl rfl)
theorem dX3_value_32 : decode cX3_value 32 = .ok (.iload_n 1, 1) := dk_27 (dk_at dksX3_value_1 9 rfl rfl)
theorem dX3_value_33 : decode cX3_value 33 = .ok (.invokevirtual 177, 3) := dk_182 0 177 (dk_at dksX3_value_1 10 rfl rfl)
theorem dX3_value_36 : decode cX3_value 36 = .ok (.ifCond .ne 5, 3) := dk_154 0 5 (dk_at dksX3_value_1 13 rfl rfl)
theorem dX3_value_39 : decode cX3_value 39 = .ok (.iconst 0, 1) := dk_3 (dk_at dksX3_value_1 16 rfl rfl)
theorem dX3_value_40 : decode cX3_value 40 = .ok (.ireturn, 1) := dk_172 (dk_at dksX3_value_1 17 rfl rfl)
theorem dX3_value_41 : decode cX3_value 41 = .ok (.aload_n 0, 1) := dk_42 (dk_at dksX3_value_1 18 rfl rfl)
theorem dX3_value_42 : decode cX3_value 42 = .ok (.iconst 0, 1) := dk_3 (dk_at dksX3_value_1 19 rfl rfl)
theorem dX3_value_43 : decode cX3_value 43 = .ok (.aload_n 0, 1) := dk_42 (dk_at dksX3_value_1 20 rfl rfl)
theorem dX3_value_44 : decode cX3_value 44 = .ok (.getfield 122, 3) := dk_180 0 122 (dk_at dksX3_value_1 21 rfl rfl)
theorem dX3_value_47 : decode cX3_value 47 = .ok (.invokevirtual 169, 3) := dk_182 0 169 (dk_at dksX3_value_2 0 rfl rfl)
theorem dX3_value_50 : decode cX3_value 50 = .ok (.iconst 1, 1) := dk_4 (dk_at dksX3_value_2 3 rfl rfl)
theorem dX3_value_51 : decode cX3_value 51 = .ok (.ireturn, 1) := dk_172 (dk_at dksX3_value_2 4 rfl rfl)
theorem dX3_value_52 : decode cX3_value 52 = .ok (.aload_n 0, 1) := dk_42 (dk_at dksX3_value_2 5 rfl rfl)
theorem dX3_value_53 : decode cX3_value 53 = .ok (.invokevirtual 180, 3) := dk_182 0 180 (dk_at dksX3_value_2 6 rfl rfl)
theorem dX3_value_56 : decode cX3_value 56 = .ok (.istore_n 2, 1) := dk_61 (dk_at dksX3_value_2 9 rfl rfl)
theorem dX3_value_57 : decode cX3_value 57 = .ok (.iload_n 2, 1) := dk_28 (dk_at dksX3_value_2 10 rfl rfl)
theorem dX3_value_58 : decode cX3_value 58 = .ok (.ifCond .ge 10, 3) := dk_156 0 10 (dk_at dksX3_value_2 11 rfl rfl)
theorem dX3_value_61 : decode cX3_value 61 = .ok (.aload_n 0, 1) := dk_42 (dk_at dksX3_value_2 14 rfl rfl)
theorem dX3_value_62 : decode cX3_value 62 = .ok (.iconst 0, 1) := dk_3 (dk_at dksX3_value_2 15 rfl rfl)
theorem dX3_value_63 : decode cX3_value 63 = .ok (.iload_n 1, 1) := dk_27 (dk_at dksX3_value_2 16 rfl rfl)
theorem dX3_value_64 : decode cX3_value 64 = .ok (.invokevirtual 118, 3) := dk_182 0 118 (dk_at dksX3_value_2 17 rfl rfl)
theorem dX3_value_67 : decode cX3_value 67 = .ok (.ireturn, 1) := dk_172 (dk_at dksX3_value_2 20 rfl rfl)
theorem dX3_value_68 : decode cX3_value 68 = .ok (.aload_n 0, 1) := dk_42 (dk_at dksX3_value_2 21 rfl rfl)
theorem dX3_value_69 : decode cX3_value 69 = .ok (.iload_n 1, 1) := dk_27 (dk_at dksX3_value_2 22 rfl rfl)
theorem dX3_value_70 : decode cX3_value 70 = .ok (.invokevirtual 177, 3) := dk_182 0 177 (dk_at dksX3_value_3 0 rfl rfl)
theorem dX3_value_73 : decode cX3_value 73 = .ok (.ifCond .ne 5, 3) := dk_154 0 5 (dk_at dksX3_value_3 3 rfl rfl)
theorem dX3_value_76 : decode cX3_value 76 = .ok (.iconst 0, 1) := dk_3 (dk_at dksX3_value_3 6 rfl rfl)
theorem dX3_value_77 : decode cX3_value 77 = .ok (.ireturn, 1) := dk_172 (dk_at dksX3_value_3 7 rfl rfl)
theorem dX3_value_78 : decode cX3_value 78 = .ok (.aload_n 0, 1) := dk_42 (dk_at dksX3_value_3 8 rfl rfl)
theorem dX3_value_79 : decode cX3_value 79 = .ok (.invokevirtual 112, 3) := dk_182 0 112 (dk_at dksX3_value_3 9 rfl rfl)
theorem dX3_value_82 : decode cX3_value 82 = .ok (.aload_n 0, 1) := dk_42 (dk_at dksX3_value_3 12 rfl rfl)
theorem dX3_value_83 : decode cX3_value 83 = .ok (.iconst 1, 1) := dk_4 (dk_at dksX3_value_3 13 rfl rfl)
theorem dX3_value_84 : decode cX3_value 84 = .ok (.iload_n 2, 1) := dk_28 (dk_at dksX3_value_3 14 rfl rfl)
theorem dX3_value_85 : decode cX3_value 85 = .ok (.invokevirtual 169, 3) := dk_182 0 169 (dk_at dksX3_value_3 15 rfl rfl)
theorem dX3_value_88 : decode cX3_value 88 = .ok (.iconst 1, 1) := dk_4 (dk_at dksX3_value_3 18 rfl rfl)
theorem dX3_value_89 : decode cX3_value 89 = .ok (.ireturn, 1) := dk_172 (dk_at dksX3_value_3 19 rfl rfl)
abbrev cX3_makes : ByteArray := prog_19_method_16_code
def yX3_makes : MethodName := ⟨RX3, "makes", "(I)Z"⟩
def dkwX3_makes_1 : List UInt8 := [181, 0, 156, 4, 172]
abbrev dktX3_makes_1 : List UInt8 := dkwX3_makes_1 ++ []
def dkwX3_makes_0 : List UInt8 := [42, 180, 0, 156, 16, 60, 160, 0, 10, 42, 6, 27, 182, 0, 118, 172, 42, 89, 180, 0, 156, 4, 96]
abbrev dktX3_makes_0 : List UInt8 := dkwX3_makes_0 ++ dktX3_makes_1
theorem dksX3_makes_0 : cX3_makes.data.toList.drop 0 = dktX3_makes_0 := by decide +kernel
theorem dksX3_makes_1 : cX3_makes.data.toList.drop 23 = dktX3_makes_1 := dk_seg dksX3_makes_0 23 rfl rfl
theorem dX3_makes_0 : decode cX3_makes 0 = .ok (.aload_n 0, 1) := dk_42 (dk_at dksX3_makes_0 0 rfl rfl)
theorem dX3_makes_1 : decode cX3_makes 1 = .ok (.getfield 156, 3) := dk_180 0 156 (dk_at dksX3_makes_0 1 rfl rfl)
theorem dX3_makes_4 : decode cX3_makes 4 = .ok (.bipush 60, 2) := dk_16 60 (dk_at dksX3_makes_0 4 rfl rfl)
theorem dX3_makes_6 : decode cX3_makes 6 = .ok (.if_icmp .ne 10, 3) := dk_160 0 10 (dk_at dksX3_makes_0 6 rfl rfl)
theorem dX3_makes_9 : decode cX3_makes 9 = .ok (.aload_n 0, 1) := dk_42 (dk_at dksX3_makes_0 9 rfl rfl)
theorem dX3_makes_10 : decode cX3_makes 10 = .ok (.iconst 3, 1) := dk_6 (dk_at dksX3_makes_0 10 rfl rfl)
theorem dX3_makes_11 : decode cX3_makes 11 = .ok (.iload_n 1, 1) := dk_27 (dk_at dksX3_makes_0 11 rfl rfl)
theorem dX3_makes_12 : decode cX3_makes 12 = .ok (.invokevirtual 118, 3) := dk_182 0 118 (dk_at dksX3_makes_0 12 rfl rfl)
theorem dX3_makes_15 : decode cX3_makes 15 = .ok (.ireturn, 1) := dk_172 (dk_at dksX3_makes_0 15 rfl rfl)
theorem dX3_makes_16 : decode cX3_makes 16 = .ok (.aload_n 0, 1) := dk_42 (dk_at dksX3_makes_0 16 rfl rfl)
theorem dX3_makes_17 : decode cX3_makes 17 = .ok (.dup, 1) := dk_89 (dk_at dksX3_makes_0 17 rfl rfl)
theorem dX3_makes_18 : decode cX3_makes 18 = .ok (.getfield 156, 3) := dk_180 0 156 (dk_at dksX3_makes_0 18 rfl rfl)
theorem dX3_makes_21 : decode cX3_makes 21 = .ok (.iconst 1, 1) := dk_4 (dk_at dksX3_makes_0 21 rfl rfl)
theorem dX3_makes_22 : decode cX3_makes 22 = .ok (.iadd, 1) := dk_96 (dk_at dksX3_makes_0 22 rfl rfl)
theorem dX3_makes_23 : decode cX3_makes 23 = .ok (.putfield 156, 3) := dk_181 0 156 (dk_at dksX3_makes_1 0 rfl rfl)
theorem dX3_makes_26 : decode cX3_makes 26 = .ok (.iconst 1, 1) := dk_4 (dk_at dksX3_makes_1 3 rfl rfl)
theorem dX3_makes_27 : decode cX3_makes 27 = .ok (.ireturn, 1) := dk_172 (dk_at dksX3_makes_1 4 rfl rfl)
abbrev cX3_puts : ByteArray := prog_19_method_15_code
def yX3_puts : MethodName := ⟨RX3, "puts", "(II)V"⟩
def dkwX3_puts_1 : List UInt8 := [16, 16, 28, 104, 96, 79, 42, 180, 0, 17, 42, 180, 0, 153, 92, 46, 4, 96, 79, 177]
abbrev dktX3_puts_1 : List UInt8 := dkwX3_puts_1 ++ []
def dkwX3_puts_0 : List UInt8 := [42, 180, 0, 13, 17, 1, 144, 42, 180, 0, 153, 104, 42, 180, 0, 17, 42, 180, 0, 153, 46, 96, 27]
abbrev dktX3_puts_0 : List UInt8 := dkwX3_puts_0 ++ dktX3_puts_1
theorem dksX3_puts_0 : cX3_puts.data.toList.drop 0 = dktX3_puts_0 := by decide +kernel
theorem dksX3_puts_1 : cX3_puts.data.toList.drop 23 = dktX3_puts_1 := dk_seg dksX3_puts_0 23 rfl rfl
theorem dX3_puts_0 : decode cX3_puts 0 = .ok (.aload_n 0, 1) := dk_42 (dk_at dksX3_puts_0 0 rfl rfl)
theorem dX3_puts_1 : decode cX3_puts 1 = .ok (.getfield 13, 3) := dk_180 0 13 (dk_at dksX3_puts_0 1 rfl rfl)
theorem dX3_puts_4 : decode cX3_puts 4 = .ok (.sipush 400, 3) := dk_17 1 144 (dk_at dksX3_puts_0 4 rfl rfl)
theorem dX3_puts_7 : decode cX3_puts 7 = .ok (.aload_n 0, 1) := dk_42 (dk_at dksX3_puts_0 7 rfl rfl)
theorem dX3_puts_8 : decode cX3_puts 8 = .ok (.getfield 153, 3) := dk_180 0 153 (dk_at dksX3_puts_0 8 rfl rfl)
theorem dX3_puts_11 : decode cX3_puts 11 = .ok (.imul, 1) := dk_104 (dk_at dksX3_puts_0 11 rfl rfl)
theorem dX3_puts_12 : decode cX3_puts 12 = .ok (.aload_n 0, 1) := dk_42 (dk_at dksX3_puts_0 12 rfl rfl)
theorem dX3_puts_13 : decode cX3_puts 13 = .ok (.getfield 17, 3) := dk_180 0 17 (dk_at dksX3_puts_0 13 rfl rfl)
theorem dX3_puts_16 : decode cX3_puts 16 = .ok (.aload_n 0, 1) := dk_42 (dk_at dksX3_puts_0 16 rfl rfl)
theorem dX3_puts_17 : decode cX3_puts 17 = .ok (.getfield 153, 3) := dk_180 0 153 (dk_at dksX3_puts_0 17 rfl rfl)
theorem dX3_puts_20 : decode cX3_puts 20 = .ok (.iaload, 1) := dk_46 (dk_at dksX3_puts_0 20 rfl rfl)
theorem dX3_puts_21 : decode cX3_puts 21 = .ok (.iadd, 1) := dk_96 (dk_at dksX3_puts_0 21 rfl rfl)
theorem dX3_puts_22 : decode cX3_puts 22 = .ok (.iload_n 1, 1) := dk_27 (dk_at dksX3_puts_0 22 rfl rfl)
theorem dX3_puts_23 : decode cX3_puts 23 = .ok (.bipush 16, 2) := dk_16 16 (dk_at dksX3_puts_1 0 rfl rfl)
theorem dX3_puts_25 : decode cX3_puts 25 = .ok (.iload_n 2, 1) := dk_28 (dk_at dksX3_puts_1 2 rfl rfl)
theorem dX3_puts_26 : decode cX3_puts 26 = .ok (.imul, 1) := dk_104 (dk_at dksX3_puts_1 3 rfl rfl)
theorem dX3_puts_27 : decode cX3_puts 27 = .ok (.iadd, 1) := dk_96 (dk_at dksX3_puts_1 4 rfl rfl)
theorem dX3_puts_28 : decode cX3_puts 28 = .ok (.iastore, 1) := dk_79 (dk_at dksX3_puts_1 5 rfl rfl)
theorem dX3_puts_29 : decode cX3_puts 29 = .ok (.aload_n 0, 1) := dk_42 (dk_at dksX3_puts_1 6 rfl rfl)
theorem dX3_puts_30 : decode cX3_puts 30 = .ok (.getfield 17, 3) := dk_180 0 17 (dk_at dksX3_puts_1 7 rfl rfl)
theorem dX3_puts_33 : decode cX3_puts 33 = .ok (.aload_n 0, 1) := dk_42 (dk_at dksX3_puts_1 10 rfl rfl)
theorem dX3_puts_34 : decode cX3_puts 34 = .ok (.getfield 153, 3) := dk_180 0 153 (dk_at dksX3_puts_1 11 rfl rfl)
theorem dX3_puts_37 : decode cX3_puts 37 = .ok (.dup2, 1) := dk_92 (dk_at dksX3_puts_1 14 rfl rfl)
theorem dX3_puts_38 : decode cX3_puts 38 = .ok (.iaload, 1) := dk_46 (dk_at dksX3_puts_1 15 rfl rfl)
theorem dX3_puts_39 : decode cX3_puts 39 = .ok (.iconst 1, 1) := dk_4 (dk_at dksX3_puts_1 16 rfl rfl)
theorem dX3_puts_40 : decode cX3_puts 40 = .ok (.iadd, 1) := dk_96 (dk_at dksX3_puts_1 17 rfl rfl)
theorem dX3_puts_41 : decode cX3_puts 41 = .ok (.iastore, 1) := dk_79 (dk_at dksX3_puts_1 18 rfl rfl)
theorem dX3_puts_42 : decode cX3_puts 42 = .ok (.return_, 1) := dk_177 (dk_at dksX3_puts_1 19 rfl rfl)
abbrev cX3_wordHere : ByteArray := prog_19_method_14_code
def yX3_wordHere : MethodName := ⟨RX3, "wordHere", "()I"⟩
def dkwX3_wordHere_6 : List UInt8 := [20, 0, 151, 182, 0, 108, 153, 0, 8, 16, 11, 167, 0, 4, 2, 172]
abbrev dktX3_wordHere_6 : List UInt8 := dkwX3_wordHere_6 ++ []
def dkwX3_wordHere_5 : List UInt8 := [153, 0, 6, 16, 9, 172, 42, 20, 0, 149, 182, 0, 108, 153, 0, 8, 16, 10, 167, 0, 19, 42]
abbrev dktX3_wordHere_5 : List UInt8 := dkwX3_wordHere_5 ++ dktX3_wordHere_6
def dkwX3_wordHere_4 : List UInt8 := [16, 7, 172, 42, 20, 0, 145, 182, 0, 108, 153, 0, 6, 16, 8, 172, 42, 20, 0, 147, 182, 0, 108]
abbrev dktX3_wordHere_4 : List UInt8 := dkwX3_wordHere_4 ++ dktX3_wordHere_5
def dkwX3_wordHere_3 : List UInt8 := [42, 20, 0, 141, 182, 0, 108, 153, 0, 6, 16, 6, 172, 42, 20, 0, 143, 182, 0, 108, 153, 0, 6]
abbrev dktX3_wordHere_3 : List UInt8 := dkwX3_wordHere_3 ++ dktX3_wordHere_4
def dkwX3_wordHere_2 : List UInt8 := [42, 20, 0, 137, 182, 0, 108, 153, 0, 5, 7, 172, 42, 20, 0, 139, 182, 0, 108, 153, 0, 5, 8, 172]
abbrev dktX3_wordHere_2 : List UInt8 := dkwX3_wordHere_2 ++ dktX3_wordHere_3
def dkwX3_wordHere_1 : List UInt8 := [42, 20, 0, 133, 182, 0, 108, 153, 0, 5, 5, 172, 42, 20, 0, 135, 182, 0, 108, 153, 0, 5, 6, 172]
abbrev dktX3_wordHere_1 : List UInt8 := dkwX3_wordHere_1 ++ dktX3_wordHere_2
def dkwX3_wordHere_0 : List UInt8 := [42, 20, 0, 129, 182, 0, 108, 153, 0, 5, 3, 172, 42, 20, 0, 131, 182, 0, 108, 153, 0, 5, 4, 172]
abbrev dktX3_wordHere_0 : List UInt8 := dkwX3_wordHere_0 ++ dktX3_wordHere_1
theorem dksX3_wordHere_0 : cX3_wordHere.data.toList.drop 0 = dktX3_wordHere_0 := by decide +kernel
theorem dksX3_wordHere_1 : cX3_wordHere.data.toList.drop 24 = dktX3_wordHere_1 := dk_seg dksX3_wordHere_0 24 rfl rfl
theorem dksX3_wordHere_2 : cX3_wordHere.data.toList.drop 48 = dktX3_wordHere_2 := dk_seg dksX3_wordHere_1 24 rfl rfl
theorem dksX3_wordHere_3 : cX3_wordHere.data.toList.drop 72 = dktX3_wordHere_3 := dk_seg dksX3_wordHere_2 24 rfl rfl
theorem dksX3_wordHere_4 : cX3_wordHere.data.toList.drop 95 = dktX3_wordHere_4 := dk_seg dksX3_wordHere_3 23 rfl rfl
theorem dksX3_wordHere_5 : cX3_wordHere.data.toList.drop 118 = dktX3_wordHere_5 := dk_seg dksX3_wordHere_4 23 rfl rfl
theorem dksX3_wordHere_6 : cX3_wordHere.data.toList.drop 140 = dktX3_wordHere_6 := dk_seg dksX3_wordHere_5 22 rfl rfl
theorem dX3_wordHere_0 : decode cX3_wordHere 0 = .ok (.aload_n 0, 1) := dk_42 (dk_at dksX3_wordHere_0 0 rfl rfl)
theorem dX3_wordHere_1 : decode cX3_wordHere 1 = .ok (.ldc2_w 129, 3) := dk_20 0 129 (dk_at dksX3_wordHere_0 1 rfl rfl)
theorem dX3_wordHere_4 : decode cX3_wordHere 4 = .ok (.invokevirtual 108, 3) := dk_182 0 108 (dk_at dksX3_wordHere_0 4 rfl rfl)
theorem dX3_wordHere_7 : decode cX3_wordHere 7 = .ok (.ifCond .eq 5, 3) := dk_153 0 5 (dk_at dksX3_wordHere_0 7 rfl rfl)
theorem dX3_wordHere_10 : decode cX3_wordHere 10 = .ok (.iconst 0, 1) := dk_3 (dk_at dksX3_wordHere_0 10 rfl rfl)
theorem dX3_wordHere_11 : decode cX3_wordHere 11 = .ok (.ireturn, 1) := dk_172 (dk_at dksX3_wordHere_0 11 rfl rfl)
theorem dX3_wordHere_12 : decode cX3_wordHere 12 = .ok (.aload_n 0, 1) := dk_42 (dk_at dksX3_wordHere_0 12 rfl rfl)
theorem dX3_wordHere_13 : decode cX3_wordHere 13 = .ok (.ldc2_w 131, 3) := dk_20 0 131 (dk_at dksX3_wordHere_0 13 rfl rfl)
theorem dX3_wordHere_16 : decode cX3_wordHere 16 = .ok (.invokevirtual 108, 3) := dk_182 0 108 (dk_at dksX3_wordHere_0 16 rfl rfl)
theorem dX3_wordHere_19 : decode cX3_wordHere 19 = .ok (.ifCond .eq 5, 3) := dk_153 0 5 (dk_at dksX3_wordHere_0 19 rfl rfl)
theorem dX3_wordHere_22 : decode cX3_wordHere 22 = .ok (.iconst 1, 1) := dk_4 (dk_at dksX3_wordHere_0 22 rfl rfl)
theorem dX3_wordHere_23 : decode cX3_wordHere 23 = .ok (.ireturn, 1) := dk_172 (dk_at dksX3_wordHere_0 23 rfl rfl)
theorem dX3_wordHere_24 : decode cX3_wordHere 24 = .ok (.aload_n 0, 1) := dk_42 (dk_at dksX3_wordHere_1 0 rfl rfl)
theorem dX3_wordHere_25 : decode cX3_wordHere 25 = .ok (.ldc2_w 133, 3) := dk_20 0 133 (dk_at dksX3_wordHere_1 1 rfl rfl)
theorem dX3_wordHere_28 : decode cX3_wordHere 28 = .ok (.invokevirtual 108, 3) := dk_182 0 108 (dk_at dksX3_wordHere_1 4 rfl rfl)
theorem dX3_wordHere_31 : decode cX3_wordHere 31 = .ok (.ifCond .eq 5, 3) := dk_153 0 5 (dk_at dksX3_wordHere_1 7 rfl rfl)
theorem dX3_wordHere_34 : decode cX3_wordHere 34 = .ok (.iconst 2, 1) := dk_5 (dk_at dksX3_wordHere_1 10 rfl rfl)
theorem dX3_wordHere_35 : decode cX3_wordHere 35 = .ok (.ireturn, 1) := dk_172 (dk_at dksX3_wordHere_1 11 rfl rfl)
theorem dX3_wordHere_36 : decode cX3_wordHere 36 = .ok (.aload_n 0, 1) := dk_42 (dk_at dksX3_wordHere_1 12 rfl rfl)
theorem dX3_wordHere_37 : decode cX3_wordHere 37 = .ok (.ldc2_w 135, 3) := dk_20 0 135 (dk_at dksX3_wordHere_1 13 rfl rfl)
theorem dX3_wordHere_40 : decode cX3_wordHere 40 = .ok (.invokevirtual 108, 3) := dk_182 0 108 (dk_at dksX3_wordHere_1 16 rfl rfl)
theorem dX3_wordHere_43 : decode cX3_wordHere 43 = .ok (.ifCond .eq 5, 3) := dk_153 0 5 (dk_at dksX3_wordHere_1 19 rfl rfl)
theorem dX3_wordHere_46 : decode cX3_wordHere 46 = .ok (.iconst 3, 1) := dk_6 (dk_at dksX3_wordHere_1 22 rfl rfl)
theorem dX3_wordHere_47 : decode cX3_wordHere 47 = .ok (.ireturn, 1) := dk_172 (dk_at dksX3_wordHere_1 23 rfl rfl)
theorem dX3_wordHere_48 : decode cX3_wordHere 48 = .ok (.aload_n 0, 1) := dk_42 (dk_at dksX3_wordHere_2 0 rfl rfl)
theorem dX3_wordHere_49 : decode cX3_wordHere 49 = .ok (.ldc2_w 137, 3) := dk_20 0 137 (dk_at dksX3_wordHere_2 1 rfl rfl)
theorem dX3_wordHere_52 : decode cX3_wordHere 52 = .ok (.invokevirtual 108, 3) := dk_182 0 108 (dk_at dksX3_wordHere_2 4 rfl rfl)
theorem dX3_wordHere_55 : decode cX3_wordHere 55 = .ok (.ifCond .eq 5, 3) := dk_153 0 5 (dk_at dksX3_wordHere_2 7 rfl rfl)
theorem dX3_wordHere_58 : decode cX3_wordHere 58 = .ok (.iconst 4, 1) := dk_7 (dk_at dksX3_wordHere_2 10 rfl rfl)
theorem dX3_wordHere_59 : decode cX3_wordHere 59 = .ok (.ireturn, 1) := dk_172 (dk_at dksX3_wordHere_2 11 rfl rfl)
theorem dX3_wordHere_60 : decode cX3_wordHere 60 = .ok (.aload_n 0, 1) := dk_42 (dk_at dksX3_wordHere_2 12 rfl rfl)
theorem dX3_wordHere_61 : decode cX3_wordHere 61 = .ok (.ldc2_w 139, 3) := dk_20 0 139 (dk_at dksX3_wordHere_2 13 rfl rfl)
theorem dX3_wordHere_64 : decode cX3_wordHere 64 = .ok (.invokevirtual 108, 3) := dk_182 0 108 (dk_at dksX3_wordHere_2 16 rfl rfl)
theorem dX3_wordHere_67 : decode cX3_wordHere 67 = .ok (.ifCond .eq 5, 3) := dk_153 0 5 (dk_at dksX3_wordHere_2 19 rfl rfl)
theorem dX3_wordHere_70 : decode cX3_wordHere 70 = .ok (.iconst 5, 1) := dk_8 (dk_at dksX3_wordHere_2 22 rfl rfl)
theorem dX3_wordHere_71 : decode cX3_wordHere 71 = .ok (.ireturn, 1) := dk_172 (dk_at dksX3_wordHere_2 23 rfl rfl)
theorem dX3_wordHere_72 : decode cX3_wordHere 72 = .ok (.aload_n 0, 1) := dk_42 (dk_at dksX3_wordHere_3 0 rfl rfl)
theorem dX3_wordHere_73 : decode cX3_wordHere 73 = .ok (.ldc2_w 141, 3) := dk_20 0 141 (dk_at dksX3_wordHere_3 1 rfl rfl)
theorem dX3_wordHere_76 : decode cX3_wordHere 76 = .ok (.invokevirtual 108, 3) := dk_182 0 108 (dk_at dksX3_wordHere_3 4 rfl rfl)
theorem dX3_wordHere_79 : decode cX3_wordHere 79 = .ok (.ifCond .eq 6, 3) := dk_153 0 6 (dk_at dksX3_wordHere_3 7 rfl rfl)
theorem dX3_wordHere_82 : decode cX3_wordHere 82 = .ok (.bipush 6, 2) := dk_16 6 (dk_at dksX3_wordHere_3 10 rfl rfl)
theorem dX3_wordHere_84 : decode cX3_wordHere 84 = .ok (.ireturn, 1) := dk_172 (dk_at dksX3_wordHere_3 12 rfl rfl)
theorem dX3_wordHere_85 : decode cX3_wordHere 85 = .ok (.aload_n 0, 1) := dk_42 (dk_at dksX3_wordHere_3 13 rfl rfl)
theorem dX3_wordHere_86 : decode cX3_wordHere 86 = .ok (.ldc2_w 143, 3) := dk_20 0 143 (dk_at dksX3_wordHere_3 14 rfl rfl)
theorem dX3_wordHere_89 : decode cX3_wordHere 89 = .ok (.invokevirtual 108, 3) := dk_182 0 108 (dk_at dksX3_wordHere_3 17 rfl rfl)
theorem dX3_wordHere_92 : decode cX3_wordHere 92 = .ok (.ifCond .eq 6, 3) := dk_153 0 6 (dk_at dksX3_wordHere_3 20 rfl rfl)
theorem dX3_wordHere_95 : decode cX3_wordHere 95 = .ok (.bipush 7, 2) := dk_16 7 (dk_at dksX3_wordHere_4 0 rfl rfl)
theorem dX3_wordHere_97 : decode cX3_wordHere 97 = .ok (.ireturn, 1) := dk_172 (dk_at dksX3_wordHere_4 2 rfl rfl)
theorem dX3_wordHere_98 : decode cX3_wordHere 98 = .ok (.aload_n 0, 1) := dk_42 (dk_at dksX3_wordHere_4 3 rfl rfl)
theorem dX3_wordHere_99 : decode cX3_wordHere 99 = .ok (.ldc2_w 145, 3) := dk_20 0 145 (dk_at dksX3_wordHere_4 4 rfl rfl)
theorem dX3_wordHere_102 : decode cX3_wordHere 102 = .ok (.invokevirtual 108, 3) := dk_182 0 108 (dk_at dksX3_wordHere_4 7 rfl rfl)
theorem dX3_wordHere_105 : decode cX3_wordHere 105 = .ok (.ifCond .eq 6, 3) := dk_153 0 6 (dk_at dksX3_wordHere_4 10 rfl rfl)
theorem dX3_wordHere_108 : decode cX3_wordHere 108 = .ok (.bipush 8, 2) := dk_16 8 (dk_at dksX3_wordHere_4 13 rfl rfl)
theorem dX3_wordHere_110 : decode cX3_wordHere 110 = .ok (.ireturn, 1) := dk_172 (dk_at dksX3_wordHere_4 15 rfl rfl)
theorem dX3_wordHere_111 : decode cX3_wordHere 111 = .ok (.aload_n 0, 1) := dk_42 (dk_at dksX3_wordHere_4 16 rfl rfl)
theorem dX3_wordHere_112 : decode cX3_wordHere 112 = .ok (.ldc2_w 147, 3) := dk_20 0 147 (dk_at dksX3_wordHere_4 17 rfl rfl)
theorem dX3_wordHere_115 : decode cX3_wordHere 115 = .ok (.invokevirtual 108, 3) := dk_182 0 108 (dk_at dksX3_wordHere_4 20 rfl rfl)
theorem dX3_wordHere_118 : decode cX3_wordHere 118 = .ok (.ifCond .eq 6, 3) := dk_153 0 6 (dk_at dksX3_wordHere_5 0 rfl rfl)
theorem dX3_wordHere_121 : decode cX3_wordHere 121 = .ok (.bipush 9, 2) := dk_16 9 (dk_at dksX3_wordHere_5 3 rfl rfl)
theorem dX3_wordHere_123 : decode cX3_wordHere 123 = .ok (.ireturn, 1) := dk_172 (dk_at dksX3_wordHere_5 5 rfl rfl)
theorem dX3_wordHere_124 : decode cX3_wordHere 124 = .ok (.aload_n 0, 1) := dk_42 (dk_at dksX3_wordHere_5 6 rfl rfl)
theorem dX3_wordHere_125 : decode cX3_wordHere 125 = .ok (.ldc2_w 149, 3) := dk_20 0 149 (dk_at dksX3_wordHere_5 7 rfl rfl)
theorem dX3_wordHere_128 : decode cX3_wordHere 128 = .ok (.invokevirtual 108, 3) := dk_182 0 108 (dk_at dksX3_wordHere_5 10 rfl rfl)
theorem dX3_wordHere_131 : decode cX3_wordHere 131 = .ok (.ifCond .eq 8, 3) := dk_153 0 8 (dk_at dksX3_wordHere_5 13 rfl rfl)
theorem dX3_wordHere_134 : decode cX3_wordHere 134 = .ok (.bipush 10, 2) := dk_16 10 (dk_at dksX3_wordHere_5 16 rfl rfl)
theorem dX3_wordHere_136 : decode cX3_wordHere 136 = .ok (.goto 19, 3) := dk_167 0 19 (dk_at dksX3_wordHere_5 18 rfl rfl)
theorem dX3_wordHere_139 : decode cX3_wordHere 139 = .ok (.aload_n 0, 1) := dk_42 (dk_at dksX3_wordHere_5 21 rfl rfl)
theorem dX3_wordHere_140 : decode cX3_wordHere 140 = .ok (.ldc2_w 151, 3) := dk_20 0 151 (dk_at dksX3_wordHere_6 0 rfl rfl)
theorem dX3_wordHere_143 : decode cX3_wordHere 143 = .ok (.invokevirtual 108, 3) := dk_182 0 108 (dk_at dksX3_wordHere_6 3 rfl rfl)
theorem dX3_wordHere_146 : decode cX3_wordHere 146 = .ok (.ifCond .eq 8, 3) := dk_153 0 8 (dk_at dksX3_wordHere_6 6 rfl rfl)
theorem dX3_wordHere_149 : decode cX3_wordHere 149 = .ok (.bipush 11, 2) := dk_16 11 (dk_at dksX3_wordHere_6 9 rfl rfl)
theorem dX3_wordHere_151 : decode cX3_wordHere 151 = .ok (.goto 4, 3) := dk_167 0 4 (dk_at dksX3_wordHere_6 11 rfl rfl)
theorem dX3_wordHere_154 : decode cX3_wordHere 154 = .ok (.iconst (-1), 1) := dk_2 (dk_at dksX3_wordHere_6 14 rfl rfl)
theorem dX3_wordHere_155 : decode cX3_wordHere 155 = .ok (.ireturn, 1) := dk_172 (dk_at dksX3_wordHere_6 15 rfl rfl)
abbrev cX3_takesWord : ByteArray := prog_19_method_12_code
def yX3_takesWord : MethodName := ⟨RX3, "takesWord", "(J)Z"⟩
def dkwX3_takesWord_0 : List UInt8 := [42, 31, 182, 0, 108, 154, 0, 5, 3, 172, 42, 182, 0, 112, 4, 172]
abbrev dktX3_takesWord_0 : List UInt8 := dkwX3_takesWord_0 ++ []
theorem dksX3_takesWord_0 : cX3_takesWord.data.toList.drop 0 = dktX3_takesWord_0 := by decide +kernel
theorem dX3_takesWord_0 : decode cX3_takesWord 0 = .ok (.aload_n 0, 1) := dk_42 (dk_at dksX3_takesWord_0 0 rfl rfl)
theorem dX3_takesWord_1 : decode cX3_takesWord 1 = .ok (.lload_n 1, 1) := dk_31 (dk_at dksX3_takesWord_0 1 rfl rfl)
theorem dX3_takesWord_2 : decode cX3_takesWord 2 = .ok (.invokevirtual 108, 3) := dk_182 0 108 (dk_at dksX3_takesWord_0 2 rfl rfl)
theorem dX3_takesWord_5 : decode cX3_takesWord 5 = .ok (.ifCond .ne 5, 3) := dk_154 0 5 (dk_at dksX3_takesWord_0 5 rfl rfl)
theorem dX3_takesWord_8 : decode cX3_takesWord 8 = .ok (.iconst 0, 1) := dk_3 (dk_at dksX3_takesWord_0 8 rfl rfl)
theorem dX3_takesWord_9 : decode cX3_takesWord 9 = .ok (.ireturn, 1) := dk_172 (dk_at dksX3_takesWord_0 9 rfl rfl)
theorem dX3_takesWord_10 : decode cX3_takesWord 10 = .ok (.aload_n 0, 1) := dk_42 (dk_at dksX3_takesWord_0 10 rfl rfl)
theorem dX3_takesWord_11 : decode cX3_takesWord 11 = .ok (.invokevirtual 112, 3) := dk_182 0 112 (dk_at dksX3_takesWord_0 11 rfl rfl)
theorem dX3_takesWord_14 : decode cX3_takesWord 14 = .ok (.iconst 1, 1) := dk_4 (dk_at dksX3_takesWord_0 14 rfl rfl)
theorem dX3_takesWord_15 : decode cX3_takesWord 15 = .ok (.ireturn, 1) := dk_172 (dk_at dksX3_takesWord_0 15 rfl rfl)
abbrev cX3_tested : ByteArray := prog_19_method_27_code
def yX3_tested : MethodName := ⟨RX3, "tested", "()Z"⟩
def dkwX3_tested_6 : List UInt8 := [172]
abbrev dktX3_tested_6 : List UInt8 := dkwX3_tested_6 ++ []
def dkwX3_tested_5 : List UInt8 := [153, 0, 18, 42, 182, 0, 100, 87, 42, 3, 42, 180, 0, 97, 182, 0, 118, 172, 42, 4, 182, 0, 201, 4]
abbrev dktX3_tested_5 : List UInt8 := dkwX3_tested_5 ++ dktX3_tested_6
def dkwX3_tested_4 : List UInt8 := [42, 180, 0, 162, 28, 79, 42, 89, 180, 0, 162, 4, 96, 181, 0, 162, 167, 255, 159, 42, 182, 0, 204]
abbrev dktX3_tested_4 : List UInt8 := dkwX3_tested_4 ++ dktX3_tested_5
def dkwX3_tested_3 : List UInt8 := [16, 12, 167, 0, 5, 16, 13, 61, 42, 182, 0, 112, 42, 28, 184, 0, 165, 182, 0, 201, 42, 180, 0, 32]
abbrev dktX3_tested_3 : List UInt8 := dkwX3_tested_3 ++ dktX3_tested_4
def dkwX3_tested_2 : List UInt8 := [153, 0, 7, 4, 167, 0, 4, 3, 60, 27, 153, 255, 212, 42, 20, 0, 213, 182, 0, 108, 153, 0, 8]
abbrev dktX3_tested_2 : List UInt8 := dkwX3_tested_2 ++ dktX3_tested_3
def dkwX3_tested_1 : List UInt8 := [172, 42, 182, 0, 210, 42, 20, 0, 213, 182, 0, 108, 154, 0, 13, 42, 20, 0, 215, 182, 0, 108]
abbrev dktX3_tested_1 : List UInt8 := dkwX3_tested_1 ++ dktX3_tested_2
def dkwX3_tested_0 : List UInt8 := [42, 3, 181, 0, 162, 42, 3, 181, 0, 159, 4, 60, 27, 153, 0, 99, 42, 182, 0, 207, 154, 0, 5, 3]
abbrev dktX3_tested_0 : List UInt8 := dkwX3_tested_0 ++ dktX3_tested_1
theorem dksX3_tested_0 : cX3_tested.data.toList.drop 0 = dktX3_tested_0 := by decide +kernel
theorem dksX3_tested_1 : cX3_tested.data.toList.drop 24 = dktX3_tested_1 := dk_seg dksX3_tested_0 24 rfl rfl
theorem dksX3_tested_2 : cX3_tested.data.toList.drop 46 = dktX3_tested_2 := dk_seg dksX3_tested_1 22 rfl rfl
theorem dksX3_tested_3 : cX3_tested.data.toList.drop 69 = dktX3_tested_3 := dk_seg dksX3_tested_2 23 rfl rfl
theorem dksX3_tested_4 : cX3_tested.data.toList.drop 93 = dktX3_tested_4 := dk_seg dksX3_tested_3 24 rfl rfl
theorem dksX3_tested_5 : cX3_tested.data.toList.drop 116 = dktX3_tested_5 := dk_seg dksX3_tested_4 23 rfl rfl
theorem dksX3_tested_6 : cX3_tested.data.toList.drop 140 = dktX3_tested_6 := dk_seg dksX3_tested_5 24 rfl rfl
theorem dX3_tested_0 : decode cX3_tested 0 = .ok (.aload_n 0, 1) := dk_42 (dk_at dksX3_tested_0 0 rfl rfl)
theorem dX3_tested_1 : decode cX3_tested 1 = .ok (.iconst 0, 1) := dk_3 (dk_at dksX3_tested_0 1 rfl rfl)
theorem dX3_tested_2 : decode cX3_tested 2 = .ok (.putfield 162, 3) := dk_181 0 162 (dk_at dksX3_tested_0 2 rfl rfl)
theorem dX3_tested_5 : decode cX3_tested 5 = .ok (.aload_n 0, 1) := dk_42 (dk_at dksX3_tested_0 5 rfl rfl)
theorem dX3_tested_6 : decode cX3_tested 6 = .ok (.iconst 0, 1) := dk_3 (dk_at dksX3_tested_0 6 rfl rfl)
theorem dX3_tested_7 : decode cX3_tested 7 = .ok (.putfield 159, 3) := dk_181 0 159 (dk_at dksX3_tested_0 7 rfl rfl)
theorem dX3_tested_10 : decode cX3_tested 10 = .ok (.iconst 1, 1) := dk_4 (dk_at dksX3_tested_0 10 rfl rfl)
theorem dX3_tested_11 : decode cX3_tested 11 = .ok (.istore_n 1, 1) := dk_60 (dk_at dksX3_tested_0 11 rfl rfl)
theorem dX3_tested_12 : decode cX3_tested 12 = .ok (.iload_n 1, 1) := dk_27 (dk_at dksX3_tested_0 12 rfl rfl)
theorem dX3_tested_13 : decode cX3_tested 13 = .ok (.ifCond .eq 99, 3) := dk_153 0 99 (dk_at dksX3_tested_0 13 rfl rfl)
theorem dX3_tested_16 : decode cX3_tested 16 = .ok (.aload_n 0, 1) := dk_42 (dk_at dksX3_tested_0 16 rfl rfl)
theorem dX3_tested_17 : decode cX3_tested 17 = .ok (.invokevirtual 207, 3) := dk_182 0 207 (dk_at dksX3_tested_0 17 rfl rfl)
theorem dX3_tested_20 : decode cX3_tested 20 = .ok (.ifCond .ne 5, 3) := dk_154 0 5 (dk_at dksX3_tested_0 20 rfl rfl)
theorem dX3_tested_23 : decode cX3_tested 23 = .ok (.iconst 0, 1) := dk_3 (dk_at dksX3_tested_0 23 rfl rfl)
theorem dX3_tested_24 : decode cX3_tested 24 = .ok (.ireturn, 1) := dk_172 (dk_at dksX3_tested_1 0 rfl rfl)
theorem dX3_tested_25 : decode cX3_tested 25 = .ok (.aload_n 0, 1) := dk_42 (dk_at dksX3_tested_1 1 rfl rfl)
theorem dX3_tested_26 : decode cX3_tested 26 = .ok (.invokevirtual 210, 3) := dk_182 0 210 (dk_at dksX3_tested_1 2 rfl rfl)
theorem dX3_tested_29 : decode cX3_tested 29 = .ok (.aload_n 0, 1) := dk_42 (dk_at dksX3_tested_1 5 rfl rfl)
theorem dX3_tested_30 : decode cX3_tested 30 = .ok (.ldc2_w 213, 3) := dk_20 0 213 (dk_at dksX3_tested_1 6 rfl rfl)
theorem dX3_tested_33 : decode cX3_tested 33 = .ok (.invokevirtual 108, 3) := dk_182 0 108 (dk_at dksX3_tested_1 9 rfl rfl)
theorem dX3_tested_36 : decode cX3_tested 36 = .ok (.ifCond .ne 13, 3) := dk_154 0 13 (dk_at dksX3_tested_1 12 rfl rfl)
theorem dX3_tested_39 : decode cX3_tested 39 = .ok (.aload_n 0, 1) := dk_42 (dk_at dksX3_tested_1 15 rfl rfl)
theorem dX3_tested_40 : decode cX3_tested 40 = .ok (.ldc2_w 215, 3) := dk_20 0 215 (dk_at dksX3_tested_1 16 rfl rfl)
theorem dX3_tested_43 : decode cX3_tested 43 = .ok (.invokevirtual 108, 3) := dk_182 0 108 (dk_at dksX3_tested_1 19 rfl rfl)
theorem dX3_tested_46 : decode cX3_tested 46 = .ok (.ifCond .eq 7, 3) := dk_153 0 7 (dk_at dksX3_tested_2 0 rfl rfl)
theorem dX3_tested_49 : decode cX3_tested 49 = .ok (.iconst 1, 1) := dk_4 (dk_at dksX3_tested_2 3 rfl rfl)
theorem dX3_tested_50 : decode cX3_tested 50 = .ok (.goto 4, 3) := dk_167 0 4 (dk_at dksX3_tested_2 4 rfl rfl)
theorem dX3_tested_53 : decode cX3_tested 53 = .ok (.iconst 0, 1) := dk_3 (dk_at dksX3_tested_2 7 rfl rfl)
theorem dX3_tested_54 : decode cX3_tested 54 = .ok (.istore_n 1, 1) := dk_60 (dk_at dksX3_tested_2 8 rfl rfl)
theorem dX3_tested_55 : decode cX3_tested 55 = .ok (.iload_n 1, 1) := dk_27 (dk_at dksX3_tested_2 9 rfl rfl)
theorem dX3_tested_56 : decode cX3_tested 56 = .ok (.ifCond .eq (-44), 3) := dk_153 255 212 (dk_at dksX3_tested_2 10 rfl rfl)
theorem dX3_tested_59 : decode cX3_tested 59 = .ok (.aload_n 0, 1) := dk_42 (dk_at dksX3_tested_2 13 rfl rfl)
theorem dX3_tested_60 : decode cX3_tested 60 = .ok (.ldc2_w 213, 3) := dk_20 0 213 (dk_at dksX3_tested_2 14 rfl rfl)
theorem dX3_tested_63 : decode cX3_tested 63 = .ok (.invokevirtual 108, 3) := dk_182 0 108 (dk_at dksX3_tested_2 17 rfl rfl)
theorem dX3_tested_66 : decode cX3_tested 66 = .ok (.ifCond .eq 8, 3) := dk_153 0 8 (dk_at dksX3_tested_2 20 rfl rfl)
theorem dX3_tested_69 : decode cX3_tested 69 = .ok (.bipush 12, 2) := dk_16 12 (dk_at dksX3_tested_3 0 rfl rfl)
theorem dX3_tested_71 : decode cX3_tested 71 = .ok (.goto 5, 3) := dk_167 0 5 (dk_at dksX3_tested_3 2 rfl rfl)
theorem dX3_tested_74 : decode cX3_tested 74 = .ok (.bipush 13, 2) := dk_16 13 (dk_at dksX3_tested_3 5 rfl rfl)
theorem dX3_tested_76 : decode cX3_tested 76 = .ok (.istore_n 2, 1) := dk_61 (dk_at dksX3_tested_3 7 rfl rfl)
theorem dX3_tested_77 : decode cX3_tested 77 = .ok (.aload_n 0, 1) := dk_42 (dk_at dksX3_tested_3 8 rfl rfl)
theorem dX3_tested_78 : decode cX3_tested 78 = .ok (.invokevirtual 112, 3) := dk_182 0 112 (dk_at dksX3_tested_3 9 rfl rfl)
theorem dX3_tested_81 : decode cX3_tested 81 = .ok (.aload_n 0, 1) := dk_42 (dk_at dksX3_tested_3 12 rfl rfl)
theorem dX3_tested_82 : decode cX3_tested 82 = .ok (.iload_n 2, 1) := dk_28 (dk_at dksX3_tested_3 13 rfl rfl)
theorem dX3_tested_83 : decode cX3_tested 83 = .ok (.invokestatic 165, 3) := dk_184 0 165 (dk_at dksX3_tested_3 14 rfl rfl)
theorem dX3_tested_86 : decode cX3_tested 86 = .ok (.invokevirtual 201, 3) := dk_182 0 201 (dk_at dksX3_tested_3 17 rfl rfl)
theorem dX3_tested_89 : decode cX3_tested 89 = .ok (.aload_n 0, 1) := dk_42 (dk_at dksX3_tested_3 20 rfl rfl)
theorem dX3_tested_90 : decode cX3_tested 90 = .ok (.getfield 32, 3) := dk_180 0 32 (dk_at dksX3_tested_3 21 rfl rfl)
theorem dX3_tested_93 : decode cX3_tested 93 = .ok (.aload_n 0, 1) := dk_42 (dk_at dksX3_tested_4 0 rfl rfl)
theorem dX3_tested_94 : decode cX3_tested 94 = .ok (.getfield 162, 3) := dk_180 0 162 (dk_at dksX3_tested_4 1 rfl rfl)
theorem dX3_tested_97 : decode cX3_tested 97 = .ok (.iload_n 2, 1) := dk_28 (dk_at dksX3_tested_4 4 rfl rfl)
theorem dX3_tested_98 : decode cX3_tested 98 = .ok (.iastore, 1) := dk_79 (dk_at dksX3_tested_4 5 rfl rfl)
theorem dX3_tested_99 : decode cX3_tested 99 = .ok (.aload_n 0, 1) := dk_42 (dk_at dksX3_tested_4 6 rfl rfl)
theorem dX3_tested_100 : decode cX3_tested 100 = .ok (.dup, 1) := dk_89 (dk_at dksX3_tested_4 7 rfl rfl)
theorem dX3_tested_101 : decode cX3_tested 101 = .ok (.getfield 162, 3) := dk_180 0 162 (dk_at dksX3_tested_4 8 rfl rfl)
theorem dX3_tested_104 : decode cX3_tested 104 = .ok (.iconst 1, 1) := dk_4 (dk_at dksX3_tested_4 11 rfl rfl)
theorem dX3_tested_105 : decode cX3_tested 105 = .ok (.iadd, 1) := dk_96 (dk_at dksX3_tested_4 12 rfl rfl)
theorem dX3_tested_106 : decode cX3_tested 106 = .ok (.putfield 162, 3) := dk_181 0 162 (dk_at dksX3_tested_4 13 rfl rfl)
theorem dX3_tested_109 : decode cX3_tested 109 = .ok (.goto (-97), 3) := dk_167 255 159 (dk_at dksX3_tested_4 16 rfl rfl)
theorem dX3_tested_112 : decode cX3_tested 112 = .ok (.aload_n 0, 1) := dk_42 (dk_at dksX3_tested_4 19 rfl rfl)
theorem dX3_tested_113 : decode cX3_tested 113 = .ok (.invokevirtual 204, 3) := dk_182 0 204 (dk_at dksX3_tested_4 20 rfl rfl)
theorem dX3_tested_116 : decode cX3_tested 116 = .ok (.ifCond .eq 18, 3) := dk_153 0 18 (dk_at dksX3_tested_5 0 rfl rfl)
theorem dX3_tested_119 : decode cX3_tested 119 = .ok (.aload_n 0, 1) := dk_42 (dk_at dksX3_tested_5 3 rfl rfl)
theorem dX3_tested_120 : decode cX3_tested 120 = .ok (.invokevirtual 100, 3) := dk_182 0 100 (dk_at dksX3_tested_5 4 rfl rfl)
theorem dX3_tested_123 : decode cX3_tested 123 = .ok (.pop, 1) := dk_87 (dk_at dksX3_tested_5 7 rfl rfl)
theorem dX3_tested_124 : decode cX3_tested 124 = .ok (.aload_n 0, 1) := dk_42 (dk_at dksX3_tested_5 8 rfl rfl)
theorem dX3_tested_125 : decode cX3_tested 125 = .ok (.iconst 0, 1) := dk_3 (dk_at dksX3_tested_5 9 rfl rfl)
theorem dX3_tested_126 : decode cX3_tested 126 = .ok (.aload_n 0, 1) := dk_42 (dk_at dksX3_tested_5 10 rfl rfl)
theorem dX3_tested_127 : decode cX3_tested 127 = .ok (.getfield 97, 3) := dk_180 0 97 (dk_at dksX3_tested_5 11 rfl rfl)
theorem dX3_tested_130 : decode cX3_tested 130 = .ok (.invokevirtual 118, 3) := dk_182 0 118 (dk_at dksX3_tested_5 14 rfl rfl)
theorem dX3_tested_133 : decode cX3_tested 133 = .ok (.ireturn, 1) := dk_172 (dk_at dksX3_tested_5 17 rfl rfl)
theorem dX3_tested_134 : decode cX3_tested 134 = .ok (.aload_n 0, 1) := dk_42 (dk_at dksX3_tested_5 18 rfl rfl)
theorem dX3_tested_135 : decode cX3_tested 135 = .ok (.iconst 1, 1) := dk_4 (dk_at dksX3_tested_5 19 rfl rfl)
theorem dX3_tested_136 : decode cX3_tested 136 = .ok (.invokevirtual 201, 3) := dk_182 0 201 (dk_at dksX3_tested_5 20 rfl rfl)
theorem dX3_tested_139 : decode cX3_tested 139 = .ok (.iconst 1, 1) := dk_4 (dk_at dksX3_tested_5 23 rfl rfl)
theorem dX3_tested_140 : decode cX3_tested 140 = .ok (.ireturn, 1) := dk_172 (dk_at dksX3_tested_6 0 rfl rfl)
abbrev cX3_fact : ByteArray := prog_19_method_24_code
def yX3_fact : MethodName := ⟨RX3, "fact", "()Z"⟩
def dkwX3_fact_3 : List UInt8 := [4, 60, 167, 255, 186, 42, 182, 0, 198, 172]
abbrev dktX3_fact_3 : List UInt8 := dkwX3_fact_3 ++ []
def dkwX3_fact_2 : List UInt8 := [160, 0, 26, 42, 16, 91, 182, 0, 195, 154, 0, 5, 3, 172, 42, 89, 180, 0, 97, 4, 96, 181, 0, 97]
abbrev dktX3_fact_2 : List UInt8 := dkwX3_fact_2 ++ dktX3_fact_3
def dkwX3_fact_1 : List UInt8 := [16, 11, 182, 0, 195, 154, 0, 5, 3, 172, 42, 182, 0, 112, 4, 60, 167, 0, 32, 28, 16, 91]
abbrev dktX3_fact_1 : List UInt8 := dkwX3_fact_1 ++ dktX3_fact_2
def dkwX3_fact_0 : List UInt8 := [4, 60, 27, 153, 0, 72, 3, 60, 42, 182, 0, 100, 61, 42, 20, 0, 193, 182, 0, 108, 153, 0, 23, 42]
abbrev dktX3_fact_0 : List UInt8 := dkwX3_fact_0 ++ dktX3_fact_1
theorem dksX3_fact_0 : cX3_fact.data.toList.drop 0 = dktX3_fact_0 := by decide +kernel
theorem dksX3_fact_1 : cX3_fact.data.toList.drop 24 = dktX3_fact_1 := dk_seg dksX3_fact_0 24 rfl rfl
theorem dksX3_fact_2 : cX3_fact.data.toList.drop 46 = dktX3_fact_2 := dk_seg dksX3_fact_1 22 rfl rfl
theorem dksX3_fact_3 : cX3_fact.data.toList.drop 70 = dktX3_fact_3 := dk_seg dksX3_fact_2 24 rfl rfl
theorem dX3_fact_0 : decode cX3_fact 0 = .ok (.iconst 1, 1) := dk_4 (dk_at dksX3_fact_0 0 rfl rfl)
theorem dX3_fact_1 : decode cX3_fact 1 = .ok (.istore_n 1, 1) := dk_60 (dk_at dksX3_fact_0 1 rfl rfl)
theorem dX3_fact_2 : decode cX3_fact 2 = .ok (.iload_n 1, 1) := dk_27 (dk_at dksX3_fact_0 2 rfl rfl)
theorem dX3_fact_3 : decode cX3_fact 3 = .ok (.ifCond .eq 72, 3) := dk_153 0 72 (dk_at dksX3_fact_0 3 rfl rfl)
theorem dX3_fact_6 : decode cX3_fact 6 = .ok (.iconst 0, 1) := dk_3 (dk_at dksX3_fact_0 6 rfl rfl)
theorem dX3_fact_7 : decode cX3_fact 7 = .ok (.istore_n 1, 1) := dk_60 (dk_at dksX3_fact_0 7 rfl rfl)
theorem dX3_fact_8 : decode cX3_fact 8 = .ok (.aload_n 0, 1) := dk_42 (dk_at dksX3_fact_0 8 rfl rfl)
theorem dX3_fact_9 : decode cX3_fact 9 = .ok (.invokevirtual 100, 3) := dk_182 0 100 (dk_at dksX3_fact_0 9 rfl rfl)
theorem dX3_fact_12 : decode cX3_fact 12 = .ok (.istore_n 2, 1) := dk_61 (dk_at dksX3_fact_0 12 rfl rfl)
theorem dX3_fact_13 : decode cX3_fact 13 = .ok (.aload_n 0, 1) := dk_42 (dk_at dksX3_fact_0 13 rfl rfl)
theorem dX3_fact_14 : decode cX3_fact 14 = .ok (.ldc2_w 193, 3) := dk_20 0 193 (dk_at dksX3_fact_0 14 rfl rfl)
theorem dX3_fact_17 : decode cX3_fact 17 = .ok (.invokevirtual 108, 3) := dk_182 0 108 (dk_at dksX3_fact_0 17 rfl rfl)
theorem dX3_fact_20 : decode cX3_fact 20 = .ok (.ifCond .eq 23, 3) := dk_153 0 23 (dk_at dksX3_fact_0 20 rfl rfl)
theorem dX3_fact_23 : decode cX3_fact 23 = .ok (.aload_n 0, 1) := dk_42 (dk_at dksX3_fact_0 23 rfl rfl)
theorem dX3_fact_24 : decode cX3_fact 24 = .ok (.bipush 11, 2) := dk_16 11 (dk_at dksX3_fact_1 0 rfl rfl)
theorem dX3_fact_26 : decode cX3_fact 26 = .ok (.invokevirtual 195, 3) := dk_182 0 195 (dk_at dksX3_fact_1 2 rfl rfl)
theorem dX3_fact_29 : decode cX3_fact 29 = .ok (.ifCond .ne 5, 3) := dk_154 0 5 (dk_at dksX3_fact_1 5 rfl rfl)
theorem dX3_fact_32 : decode cX3_fact 32 = .ok (.iconst 0, 1) := dk_3 (dk_at dksX3_fact_1 8 rfl rfl)
theorem dX3_fact_33 : decode cX3_fact 33 = .ok (.ireturn, 1) := dk_172 (dk_at dksX3_fact_1 9 rfl rfl)
theorem dX3_fact_34 : decode cX3_fact 34 = .ok (.aload_n 0, 1) := dk_42 (dk_at dksX3_fact_1 10 rfl rfl)
theorem dX3_fact_35 : decode cX3_fact 35 = .ok (.invokevirtual 112, 3) := dk_182 0 112 (dk_at dksX3_fact_1 11 rfl rfl)
theorem dX3_fact_38 : decode cX3_fact 38 = .ok (.iconst 1, 1) := dk_4 (dk_at dksX3_fact_1 14 rfl rfl)
theorem dX3_fact_39 : decode cX3_fact 39 = .ok (.istore_n 1, 1) := dk_60 (dk_at dksX3_fact_1 15 rfl rfl)
theorem dX3_fact_40 : decode cX3_fact 40 = .ok (.goto 32, 3) := dk_167 0 32 (dk_at dksX3_fact_1 16 rfl rfl)
theorem dX3_fact_43 : decode cX3_fact 43 = .ok (.iload_n 2, 1) := dk_28 (dk_at dksX3_fact_1 19 rfl rfl)
theorem dX3_fact_44 : decode cX3_fact 44 = .ok (.bipush 91, 2) := dk_16 91 (dk_at dksX3_fact_1 20 rfl rfl)
theorem dX3_fact_46 : decode cX3_fact 46 = .ok (.if_icmp .ne 26, 3) := dk_160 0 26 (dk_at dksX3_fact_2 0 rfl rfl)
theorem dX3_fact_49 : decode cX3_fact 49 = .ok (.aload_n 0, 1) := dk_42 (dk_at dksX3_fact_2 3 rfl rfl)
theorem dX3_fact_50 : decode cX3_fact 50 = .ok (.bipush 91, 2) := dk_16 91 (dk_at dksX3_fact_2 4 rfl rfl)
theorem dX3_fact_52 : decode cX3_fact 52 = .ok (.invokevirtual 195, 3) := dk_182 0 195 (dk_at dksX3_fact_2 6 rfl rfl)
theorem dX3_fact_55 : decode cX3_fact 55 = .ok (.ifCond .ne 5, 3) := dk_154 0 5 (dk_at dksX3_fact_2 9 rfl rfl)
theorem dX3_fact_58 : decode cX3_fact 58 = .ok (.iconst 0, 1) := dk_3 (dk_at dksX3_fact_2 12 rfl rfl)
theorem dX3_fact_59 : decode cX3_fact 59 = .ok (.ireturn, 1) := dk_172 (dk_at dksX3_fact_2 13 rfl rfl)
theorem dX3_fact_60 : decode cX3_fact 60 = .ok (.aload_n 0, 1) := dk_42 (dk_at dksX3_fact_2 14 rfl rfl)
theorem dX3_fact_61 : decode cX3_fact 61 = .ok (.dup, 1) := dk_89 (dk_at dksX3_fact_2 15 rfl rfl)
theorem dX3_fact_62 : decode cX3_fact 62 = .ok (.getfield 97, 3) := dk_180 0 97 (dk_at dksX3_fact_2 16 rfl rfl)
theorem dX3_fact_65 : decode cX3_fact 65 = .ok (.iconst 1, 1) := dk_4 (dk_at dksX3_fact_2 19 rfl rfl)
theorem dX3_fact_66 : decode cX3_fact 66 = .ok (.iadd, 1) := dk_96 (dk_at dksX3_fact_2 20 rfl rfl)
theorem dX3_fact_67 : decode cX3_fact 67 = .ok (.putfield 97, 3) := dk_181 0 97 (dk_at dksX3_fact_2 21 rfl rfl)
theorem dX3_fact_70 : decode cX3_fact 70 = .ok (.iconst 1, 1) := dk_4 (dk_at dksX3_fact_3 0 rfl rfl)
theorem dX3_fact_71 : decode cX3_fact 71 = .ok (.istore_n 1, 1) := dk_60 (dk_at dksX3_fact_3 1 rfl rfl)
theorem dX3_fact_72 : decode cX3_fact 72 = .ok (.goto (-70), 3) := dk_167 255 186 (dk_at dksX3_fact_3 2 rfl rfl)
theorem dX3_fact_75 : decode cX3_fact 75 = .ok (.aload_n 0, 1) := dk_42 (dk_at dksX3_fact_3 5 rfl rfl)
theorem dX3_fact_76 : decode cX3_fact 76 = .ok (.invokevirtual 198, 3) := dk_182 0 198 (dk_at dksX3_fact_3 6 rfl rfl)
theorem dX3_fact_79 : decode cX3_fact 79 = .ok (.ireturn, 1) := dk_172 (dk_at dksX3_fact_3 9 rfl rfl)
abbrev cX3_opens : ByteArray := prog_19_method_17_code
def yX3_opens : MethodName := ⟨RX3, "opens", "(I)Z"⟩
def dkwX3_opens_2 : List UInt8 := [181, 0, 162, 4, 172]
abbrev dktX3_opens_2 : List UInt8 := dkwX3_opens_2 ++ []
def dkwX3_opens_1 : List UInt8 := [4, 96, 181, 0, 159, 42, 180, 0, 32, 42, 180, 0, 162, 27, 79, 42, 89, 180, 0, 162, 4, 96]
abbrev dktX3_opens_1 : List UInt8 := dkwX3_opens_1 ++ dktX3_opens_2
def dkwX3_opens_0 : List UInt8 := [42, 180, 0, 159, 16, 10, 160, 0, 13, 42, 5, 42, 180, 0, 97, 182, 0, 118, 172, 42, 89, 180, 0, 159]
abbrev dktX3_opens_0 : List UInt8 := dkwX3_opens_0 ++ dktX3_opens_1
theorem dksX3_opens_0 : cX3_opens.data.toList.drop 0 = dktX3_opens_0 := by decide +kernel
theorem dksX3_opens_1 : cX3_opens.data.toList.drop 24 = dktX3_opens_1 := dk_seg dksX3_opens_0 24 rfl rfl
theorem dksX3_opens_2 : cX3_opens.data.toList.drop 46 = dktX3_opens_2 := dk_seg dksX3_opens_1 22 rfl rfl
theorem dX3_opens_0 : decode cX3_opens 0 = .ok (.aload_n 0, 1) := dk_42 (dk_at dksX3_opens_0 0 rfl rfl)
theorem dX3_opens_1 : decode cX3_opens 1 = .ok (.getfield 159, 3) := dk_180 0 159 (dk_at dksX3_opens_0 1 rfl rfl)
theorem dX3_opens_4 : decode cX3_opens 4 = .ok (.bipush 10, 2) := dk_16 10 (dk_at dksX3_opens_0 4 rfl rfl)
theorem dX3_opens_6 : decode cX3_opens 6 = .ok (.if_icmp .ne 13, 3) := dk_160 0 13 (dk_at dksX3_opens_0 6 rfl rfl)
theorem dX3_opens_9 : decode cX3_opens 9 = .ok (.aload_n 0, 1) := dk_42 (dk_at dksX3_opens_0 9 rfl rfl)
theorem dX3_opens_10 : decode cX3_opens 10 = .ok (.iconst 2, 1) := dk_5 (dk_at dksX3_opens_0 10 rfl rfl)
theorem dX3_opens_11 : decode cX3_opens 11 = .ok (.aload_n 0, 1) := dk_42 (dk_at dksX3_opens_0 11 rfl rfl)
theorem dX3_opens_12 : decode cX3_opens 12 = .ok (.getfield 97, 3) := dk_180 0 97 (dk_at dksX3_opens_0 12 rfl rfl)
theorem dX3_opens_15 : decode cX3_opens 15 = .ok (.invokevirtual 118, 3) := dk_182 0 118 (dk_at dksX3_opens_0 15 rfl rfl)
theorem dX3_opens_18 : decode cX3_opens 18 = .ok (.ireturn, 1) := dk_172 (dk_at dksX3_opens_0 18 rfl rfl)
theorem dX3_opens_19 : decode cX3_opens 19 = .ok (.aload_n 0, 1) := dk_42 (dk_at dksX3_opens_0 19 rfl rfl)
theorem dX3_opens_20 : decode cX3_opens 20 = .ok (.dup, 1) := dk_89 (dk_at dksX3_opens_0 20 rfl rfl)
theorem dX3_opens_21 : decode cX3_opens 21 = .ok (.getfield 159, 3) := dk_180 0 159 (dk_at dksX3_opens_0 21 rfl rfl)
theorem dX3_opens_24 : decode cX3_opens 24 = .ok (.iconst 1, 1) := dk_4 (dk_at dksX3_opens_1 0 rfl rfl)
theorem dX3_opens_25 : decode cX3_opens 25 = .ok (.iadd, 1) := dk_96 (dk_at dksX3_opens_1 1 rfl rfl)
theorem dX3_opens_26 : decode cX3_opens 26 = .ok (.putfield 159, 3) := dk_181 0 159 (dk_at dksX3_opens_1 2 rfl rfl)
theorem dX3_opens_29 : decode cX3_opens 29 = .ok (.aload_n 0, 1) := dk_42 (dk_at dksX3_opens_1 5 rfl rfl)
theorem dX3_opens_30 : decode cX3_opens 30 = .ok (.getfield 32, 3) := dk_180 0 32 (dk_at dksX3_opens_1 6 rfl rfl)
theorem dX3_opens_33 : decode cX3_opens 33 = .ok (.aload_n 0, 1) := dk_42 (dk_at dksX3_opens_1 9 rfl rfl)
theorem dX3_opens_34 : decode cX3_opens 34 = .ok (.getfield 162, 3) := dk_180 0 162 (dk_at dksX3_opens_1 10 rfl rfl)
theorem dX3_opens_37 : decode cX3_opens 37 = .ok (.iload_n 1, 1) := dk_27 (dk_at dksX3_opens_1 13 rfl rfl)
theorem dX3_opens_38 : decode cX3_opens 38 = .ok (.iastore, 1) := dk_79 (dk_at dksX3_opens_1 14 rfl rfl)
theorem dX3_opens_39 : decode cX3_opens 39 = .ok (.aload_n 0, 1) := dk_42 (dk_at dksX3_opens_1 15 rfl rfl)
theorem dX3_opens_40 : decode cX3_opens 40 = .ok (.dup, 1) := dk_89 (dk_at dksX3_opens_1 16 rfl rfl)
theorem dX3_opens_41 : decode cX3_opens 41 = .ok (.getfield 162, 3) := dk_180 0 162 (dk_at dksX3_opens_1 17 rfl rfl)
theorem dX3_opens_44 : decode cX3_opens 44 = .ok (.iconst 1, 1) := dk_4 (dk_at dksX3_opens_1 20 rfl rfl)
theorem dX3_opens_45 : decode cX3_opens 45 = .ok (.iadd, 1) := dk_96 (dk_at dksX3_opens_1 21 rfl rfl)
theorem dX3_opens_46 : decode cX3_opens 46 = .ok (.putfield 162, 3) := dk_181 0 162 (dk_at dksX3_opens_2 0 rfl rfl)
theorem dX3_opens_49 : decode cX3_opens 49 = .ok (.iconst 1, 1) := dk_4 (dk_at dksX3_opens_2 3 rfl rfl)
theorem dX3_opens_50 : decode cX3_opens 50 = .ok (.ireturn, 1) := dk_172 (dk_at dksX3_opens_2 4 rfl rfl)
abbrev cX3_compare : ByteArray := prog_19_method_23_code
def yX3_compare : MethodName := ⟨RX3, "compare", "()Z"⟩
def dkwX3_compare_7 : List UInt8 := [16, 6, 21, 4, 96, 3, 182, 0, 169, 4, 172]
abbrev dktX3_compare_7 : List UInt8 := dkwX3_compare_7 ++ []
def dkwX3_compare_6 : List UInt8 := [167, 0, 12, 29, 153, 0, 7, 6, 167, 0, 4, 7, 54, 4, 42, 182, 0, 190, 154, 0, 5, 3, 172, 42]
abbrev dktX3_compare_6 : List UInt8 := dkwX3_compare_6 ++ dktX3_compare_7
def dkwX3_compare_5 : List UInt8 := [16, 60, 160, 0, 15, 29, 153, 0, 7, 4, 167, 0, 26, 3, 167, 0, 22, 27, 16, 61, 160, 0, 7, 5]
abbrev dktX3_compare_5 : List UInt8 := dkwX3_compare_5 ++ dktX3_compare_6
def dkwX3_compare_4 : List UInt8 := [153, 0, 13, 42, 89, 180, 0, 97, 4, 96, 181, 0, 97, 42, 28, 182, 0, 177, 154, 0, 5, 3, 172, 27]
abbrev dktX3_compare_4 : List UInt8 := dkwX3_compare_4 ++ dktX3_compare_5
def dkwX3_compare_3 : List UInt8 := [162, 0, 21, 42, 180, 0, 7, 42, 180, 0, 97, 51, 16, 61, 160, 0, 7, 4, 167, 0, 4, 3, 62, 29]
abbrev dktX3_compare_3 : List UInt8 := dkwX3_compare_3 ++ dktX3_compare_4
def dkwX3_compare_2 : List UInt8 := [180, 0, 97, 4, 96, 181, 0, 97, 27, 16, 61, 159, 0, 32, 42, 180, 0, 97, 42, 180, 0, 86]
abbrev dktX3_compare_2 : List UInt8 := dkwX3_compare_2 ++ dktX3_compare_3
def dkwX3_compare_1 : List UInt8 := [159, 0, 22, 27, 16, 61, 159, 0, 16, 27, 16, 62, 159, 0, 10, 42, 3, 28, 182, 0, 118, 172, 42, 89]
abbrev dktX3_compare_1 : List UInt8 := dkwX3_compare_1 ++ dktX3_compare_2
def dkwX3_compare_0 : List UInt8 := [42, 182, 0, 190, 154, 0, 5, 3, 172, 42, 182, 0, 100, 60, 42, 180, 0, 97, 61, 27, 16, 60]
abbrev dktX3_compare_0 : List UInt8 := dkwX3_compare_0 ++ dktX3_compare_1
theorem dksX3_compare_0 : cX3_compare.data.toList.drop 0 = dktX3_compare_0 := by decide +kernel
theorem dksX3_compare_1 : cX3_compare.data.toList.drop 22 = dktX3_compare_1 := dk_seg dksX3_compare_0 22 rfl rfl
theorem dksX3_compare_2 : cX3_compare.data.toList.drop 46 = dktX3_compare_2 := dk_seg dksX3_compare_1 24 rfl rfl
theorem dksX3_compare_3 : cX3_compare.data.toList.drop 68 = dktX3_compare_3 := dk_seg dksX3_compare_2 22 rfl rfl
theorem dksX3_compare_4 : cX3_compare.data.toList.drop 92 = dktX3_compare_4 := dk_seg dksX3_compare_3 24 rfl rfl
theorem dksX3_compare_5 : cX3_compare.data.toList.drop 116 = dktX3_compare_5 := dk_seg dksX3_compare_4 24 rfl rfl
theorem dksX3_compare_6 : cX3_compare.data.toList.drop 140 = dktX3_compare_6 := dk_seg dksX3_compare_5 24 rfl rfl
theorem dksX3_compare_7 : cX3_compare.data.toList.drop 164 = dktX3_compare_7 := dk_seg dksX3_compare_6 24 rfl rfl
theorem dX3_compare_0 : decode cX3_compare 0 = .ok (.aload_n 0, 1) := dk_42 (dk_at dksX3_compare_0 0 rfl rfl)
theorem dX3_compare_1 : decode cX3_compare 1 = .ok (.invokevirtual 190, 3) := dk_182 0 190 (dk_at dksX3_compare_0 1 rfl rfl)
theorem dX3_compare_4 : decode cX3_compare 4 = .ok (.ifCond .ne 5, 3) := dk_154 0 5 (dk_at dksX3_compare_0 4 rfl rfl)
theorem dX3_compare_7 : decode cX3_compare 7 = .ok (.iconst 0, 1) := dk_3 (dk_at dksX3_compare_0 7 rfl rfl)
theorem dX3_compare_8 : decode cX3_compare 8 = .ok (.ireturn, 1) := dk_172 (dk_at dksX3_compare_0 8 rfl rfl)
theorem dX3_compare_9 : decode cX3_compare 9 = .ok (.aload_n 0, 1) := dk_42 (dk_at dksX3_compare_0 9 rfl rfl)
theorem dX3_compare_10 : decode cX3_compare 10 = .ok (.invokevirtual 100, 3) := dk_182 0 100 (dk_at dksX3_compare_0 10 rfl rfl)
theorem dX3_compare_13 : decode cX3_compare 13 = .ok (.istore_n 1, 1) := dk_60 (dk_at dksX3_compare_0 13 rfl rfl)
theorem dX3_compare_14 : decode cX3_compare 14 = .ok (.aload_n 0, 1) := dk_42 (dk_at dksX3_compare_0 14 rfl rfl)
theorem dX3_compare_15 : decode cX3_compare 15 = .ok (.getfield 97, 3) := dk_180 0 97 (dk_at dksX3_compare_0 15 rfl rfl)
theorem dX3_compare_18 : decode cX3_compare 18 = .ok (.istore_n 2, 1) := dk_61 (dk_at dksX3_compare_0 18 rfl rfl)
theorem dX3_compare_19 : decode cX3_compare 19 = .ok (.iload_n 1, 1) := dk_27 (dk_at dksX3_compare_0 19 rfl rfl)
theorem dX3_compare_20 : decode cX3_compare 20 = .ok (.bipush 60, 2) := dk_16 60 (dk_at dksX3_compare_0 20 rfl rfl)
theorem dX3_compare_22 : decode cX3_compare 22 = .ok (.if_icmp .eq 22, 3) := dk_159 0 22 (dk_at dksX3_compare_1 0 rfl rfl)
theorem dX3_compare_25 : decode cX3_compare 25 = .ok (.iload_n 1, 1) := dk_27 (dk_at dksX3_compare_1 3 rfl rfl)
theorem dX3_compare_26 : decode cX3_compare 26 = .ok (.bipush 61, 2) := dk_16 61 (dk_at dksX3_compare_1 4 rfl rfl)
theorem dX3_compare_28 : decode cX3_compare 28 = .ok (.if_icmp .eq 16, 3) := dk_159 0 16 (dk_at dksX3_compare_1 6 rfl rfl)
theorem dX3_compare_31 : decode cX3_compare 31 = .ok (.iload_n 1, 1) := dk_27 (dk_at dksX3_compare_1 9 rfl rfl)
theorem dX3_compare_32 : decode cX3_compare 32 = .ok (.bipush 62, 2) := dk_16 62 (dk_at dksX3_compare_1 10 rfl rfl)
theorem dX3_compare_34 : decode cX3_compare 34 = .ok (.if_icmp .eq 10, 3) := dk_159 0 10 (dk_at dksX3_compare_1 12 rfl rfl)
theorem dX3_compare_37 : decode cX3_compare 37 = .ok (.aload_n 0, 1) := dk_42 (dk_at dksX3_compare_1 15 rfl rfl)
theorem dX3_compare_38 : decode cX3_compare 38 = .ok (.iconst 0, 1) := dk_3 (dk_at dksX3_compare_1 16 rfl rfl)
theorem dX3_compare_39 : decode cX3_compare 39 = .ok (.iload_n 2, 1) := dk_28 (dk_at dksX3_compare_1 17 rfl rfl)
theorem dX3_compare_40 : decode cX3_compare 40 = .ok (.invokevirtual 118, 3) := dk_182 0 118 (dk_at dksX3_compare_1 18 rfl rfl)
theorem dX3_compare_43 : decode cX3_compare 43 = .ok (.ireturn, 1) := dk_172 (dk_at dksX3_compare_1 21 rfl rfl)
theorem dX3_compare_44 : decode cX3_compare 44 = .ok (.aload_n 0, 1) := dk_42 (dk_at dksX3_compare_1 22 rfl rfl)
theorem dX3_compare_45 : decode cX3_compare 45 = .ok (.dup, 1) := dk_89 (dk_at dksX3_compare_1 23 rfl rfl)
theorem dX3_compare_46 : decode cX3_compare 46 = .ok (.getfield 97, 3) := dk_180 0 97 (dk_at dksX3_compare_2 0 rfl rfl)
theorem dX3_compare_49 : decode cX3_compare 49 = .ok (.iconst 1, 1) := dk_4 (dk_at dksX3_compare_2 3 rfl rfl)
theorem dX3_compare_50 : decode cX3_compare 50 = .ok (.iadd, 1) := dk_96 (dk_at dksX3_compare_2 4 rfl rfl)
theorem dX3_compare_51 : decode cX3_compare 51 = .ok (.putfield 97, 3) := dk_181 0 97 (dk_at dksX3_compare_2 5 rfl rfl)
theorem dX3_compare_54 : decode cX3_compare 54 = .ok (.iload_n 1, 1) := dk_27 (dk_at dksX3_compare_2 8 rfl rfl)
theorem dX3_compare_55 : decode cX3_compare 55 = .ok (.bipush 61, 2) := dk_16 61 (dk_at dksX3_compare_2 9 rfl rfl)
theorem dX3_compare_57 : decode cX3_compare 57 = .ok (.if_icmp .eq 32, 3) := dk_159 0 32 (dk_at dksX3_compare_2 11 rfl rfl)
theorem dX3_compare_60 : decode cX3_compare 60 = .ok (.aload_n 0, 1) := dk_42 (dk_at dksX3_compare_2 14 rfl rfl)
theorem dX3_compare_61 : decode cX3_compare 61 = .ok (.getfield 97, 3) := dk_180 0 97 (dk_at dksX3_compare_2 15 rfl rfl)
theorem dX3_compare_64 : decode cX3_compare 64 = .ok (.aload_n 0, 1) := dk_42 (dk_at dksX3_compare_2 18 rfl rfl)
theorem dX3_compare_65 : decode cX3_compare 65 = .ok (.getfield 86, 3) := dk_180 0 86 (dk_at dksX3_compare_2 19 rfl rfl)
theorem dX3_compare_68 : decode cX3_compare 68 = .ok (.if_icmp .ge 21, 3) := dk_162 0 21 (dk_at dksX3_compare_3 0 rfl rfl)
theorem dX3_compare_71 : decode cX3_compare 71 = .ok (.aload_n 0, 1) := dk_42 (dk_at dksX3_compare_3 3 rfl rfl)
theorem dX3_compare_72 : decode cX3_compare 72 = .ok (.getfield 7, 3) := dk_180 0 7 (dk_at dksX3_compare_3 4 rfl rfl)
theorem dX3_compare_75 : decode cX3_compare 75 = .ok (.aload_n 0, 1) := dk_42 (dk_at dksX3_compare_3 7 rfl rfl)
theorem dX3_compare_76 : decode cX3_compare 76 = .ok (.getfield 97, 3) := dk_180 0 97 (dk_at dksX3_compare_3 8 rfl rfl)
theorem dX3_compare_79 : decode cX3_compare 79 = .ok (.baload, 1) := dk_51 (dk_at dksX3_compare_3 11 rfl rfl)
theorem dX3_compare_80 : decode cX3_compare 80 = .ok (.bipush 61, 2) := dk_16 61 (dk_at dksX3_compare_3 12 rfl rfl)
theorem dX3_compare_82 : decode cX3_compare 82 = .ok (.if_icmp .ne 7, 3) := dk_160 0 7 (dk_at dksX3_compare_3 14 rfl rfl)
theorem dX3_compare_85 : decode cX3_compare 85 = .ok (.iconst 1, 1) := dk_4 (dk_at dksX3_compare_3 17 rfl rfl)
theorem dX3_compare_86 : decode cX3_compare 86 = .ok (.goto 4, 3) := dk_167 0 4 (dk_at dksX3_compare_3 18 rfl rfl)
theorem dX3_compare_89 : decode cX3_compare 89 = .ok (.iconst 0, 1) := dk_3 (dk_at dksX3_compare_3 21 rfl rfl)
theorem dX3_compare_90 : decode cX3_compare 90 = .ok (.istore_n 3, 1) := dk_62 (dk_at dksX3_compare_3 22 rfl rfl)
theorem dX3_compare_91 : decode cX3_compare 91 = .ok (.iload_n 3, 1) := dk_29 (dk_at dksX3_compare_3 23 rfl rfl)
theorem dX3_compare_92 : decode cX3_compare 92 = .ok (.ifCond .eq 13, 3) := dk_153 0 13 (dk_at dksX3_compare_4 0 rfl rfl)
theorem dX3_compare_95 : decode cX3_compare 95 = .ok (.aload_n 0, 1) := dk_42 (dk_at dksX3_compare_4 3 rfl rfl)
theorem dX3_compare_96 : decode cX3_compare 96 = .ok (.dup, 1) := dk_89 (dk_at dksX3_compare_4 4 rfl rfl)
theorem dX3_compare_97 : decode cX3_compare 97 = .ok (.getfield 97, 3) := dk_180 0 97 (dk_at dksX3_compare_4 5 rfl rfl)
theorem dX3_compare_100 : decode cX3_compare 100 = .ok (.iconst 1, 1) := dk_4 (dk_at dksX3_compare_4 8 rfl rfl)
theorem dX3_compare_101 : decode cX3_compare 101 = .ok (.iadd, 1) := dk_96 (dk_at dksX3_compare_4 9 rfl rfl)
theorem dX3_compare_102 : decode cX3_compare 102 = .ok (.putfield 97, 3) := dk_181 0 97 (dk_at dksX3_compare_4 10 rfl rfl)
theorem dX3_compare_105 : decode cX3_compare 105 = .ok (.aload_n 0, 1) := dk_42 (dk_at dksX3_compare_4 13 rfl rfl)
theorem dX3_compare_106 : decode cX3_compare 106 = .ok (.iload_n 2, 1) := dk_28 (dk_at dksX3_compare_4 14 rfl rfl)
theorem dX3_compare_107 : decode cX3_compare 107 = .ok (.invokevirtual 177, 3) := dk_182 0 177 (dk_at dksX3_compare_4 15 rfl rfl)
theorem dX3_compare_110 : decode cX3_compare 110 = .ok (.ifCond .ne 5, 3) := dk_154 0 5 (dk_at dksX3_compare_4 18 rfl rfl)
theorem dX3_compare_113 : decode cX3_compare 113 = .ok (.iconst 0, 1) := dk_3 (dk_at dksX3_compare_4 21 rfl rfl)
theorem dX3_compare_114 : decode cX3_compare 114 = .ok (.ireturn, 1) := dk_172 (dk_at dksX3_compare_4 22 rfl rfl)
theorem dX3_compare_115 : decode cX3_compare 115 = .ok (.iload_n 1, 1) := dk_27 (dk_at dksX3_compare_4 23 rfl rfl)
theorem dX3_compare_116 : decode cX3_compare 116 = .ok (.bipush 60, 2) := dk_16 60 (dk_at dksX3_compare_5 0 rfl rfl)
theorem dX3_compare_118 : decode cX3_compare 118 = .ok (.if_icmp .ne 15, 3) := dk_160 0 15 (dk_at dksX3_compare_5 2 rfl rfl)
theorem dX3_compare_121 : decode cX3_compare 121 = .ok (.iload_n 3, 1) := dk_29 (dk_at dksX3_compare_5 5 rfl rfl)
theorem dX3_compare_122 : decode cX3_compare 122 = .ok (.ifCond .eq 7, 3) := dk_153 0 7 (dk_at dksX3_compare_5 6 rfl rfl)
theorem dX3_compare_125 : decode cX3_compare 125 = .ok (.iconst 1, 1) := dk_4 (dk_at dksX3_compare_5 9 rfl rfl)
theorem dX3_compare_126 : decode cX3_compare 126 = .ok (.goto 26, 3) := dk_167 0 26 (dk_at dksX3_compare_5 10 rfl rfl)
theorem dX3_compare_129 : decode cX3_compare 129 = .ok (.iconst 0, 1) := dk_3 (dk_at dksX3_compare_5 13 rfl rfl)
theorem dX3_compare_130 : decode cX3_compare 130 = .ok (.goto 22, 3) := dk_167 0 22 (dk_at dksX3_compare_5 14 rfl rfl)
theorem dX3_compare_133 : decode cX3_compare 133 = .ok (.iload_n 1, 1) := dk_27 (dk_at dksX3_compare_5 17 rfl rfl)
theorem dX3_compare_134 : decode cX3_compare 134 = .ok (.bipush 61, 2) := dk_16 61 (dk_at dksX3_compare_5 18 rfl rfl)
theorem dX3_compare_136 : decode cX3_compare 136 = .ok (.if_icmp .ne 7, 3) := dk_160 0 7 (dk_at dksX3_compare_5 20 rfl rfl)
theorem dX3_compare_139 : decode cX3_compare 139 = .ok (.iconst 2, 1) := dk_5 (dk_at dksX3_compare_5 23 rfl rfl)
theorem dX3_compare_140 : decode cX3_compare 140 = .ok (.goto 12, 3) := dk_167 0 12 (dk_at dksX3_compare_6 0 rfl rfl)
theorem dX3_compare_143 : decode cX3_compare 143 = .ok (.iload_n 3, 1) := dk_29 (dk_at dksX3_compare_6 3 rfl rfl)
theorem dX3_compare_144 : decode cX3_compare 144 = .ok (.ifCond .eq 7, 3) := dk_153 0 7 (dk_at dksX3_compare_6 4 rfl rfl)
theorem dX3_compare_147 : decode cX3_compare 147 = .ok (.iconst 3, 1) := dk_6 (dk_at dksX3_compare_6 7 rfl rfl)
theorem dX3_compare_148 : decode cX3_compare 148 = .ok (.goto 4, 3) := dk_167 0 4 (dk_at dksX3_compare_6 8 rfl rfl)
theorem dX3_compare_151 : decode cX3_compare 151 = .ok (.iconst 4, 1) := dk_7 (dk_at dksX3_compare_6 11 rfl rfl)
theorem dX3_compare_152 : decode cX3_compare 152 = .ok (.istore 4, 2) := dk_54 4 (dk_at dksX3_compare_6 12 rfl rfl)
theorem dX3_compare_154 : decode cX3_compare 154 = .ok (.aload_n 0, 1) := dk_42 (dk_at dksX3_compare_6 14 rfl rfl)
theorem dX3_compare_155 : decode cX3_compare 155 = .ok (.invokevirtual 190, 3) := dk_182 0 190 (dk_at dksX3_compare_6 15 rfl rfl)
theorem dX3_compare_158 : decode cX3_compare 158 = .ok (.ifCond .ne 5, 3) := dk_154 0 5 (dk_at dksX3_compare_6 18 rfl rfl)
theorem dX3_compare_161 : decode cX3_compare 161 = .ok (.iconst 0, 1) := dk_3 (dk_at dksX3_compare_6 21 rfl rfl)
theorem dX3_compare_162 : decode cX3_compare 162 = .ok (.ireturn, 1) := dk_172 (dk_at dksX3_compare_6 22 rfl rfl)
theorem dX3_compare_163 : decode cX3_compare 163 = .ok (.aload_n 0, 1) := dk_42 (dk_at dksX3_compare_6 23 rfl rfl)
theorem dX3_compare_164 : decode cX3_compare 164 = .ok (.bipush 6, 2) := dk_16 6 (dk_at dksX3_compare_7 0 rfl rfl)
theorem dX3_compare_166 : decode cX3_compare 166 = .ok (.iload 4, 2) := dk_21 4 (dk_at dksX3_compare_7 2 rfl rfl)
theorem dX3_compare_168 : decode cX3_compare 168 = .ok (.iadd, 1) := dk_96 (dk_at dksX3_compare_7 4 rfl rfl)
theorem dX3_compare_169 : decode cX3_compare 169 = .ok (.iconst 0, 1) := dk_3 (dk_at dksX3_compare_7 5 rfl rfl)
theorem dX3_compare_170 : decode cX3_compare 170 = .ok (.invokevirtual 169, 3) := dk_182 0 169 (dk_at dksX3_compare_7 6 rfl rfl)
theorem dX3_compare_173 : decode cX3_compare 173 = .ok (.iconst 1, 1) := dk_4 (dk_at dksX3_compare_7 9 rfl rfl)
theorem dX3_compare_174 : decode cX3_compare 174 = .ok (.ireturn, 1) := dk_172 (dk_at dksX3_compare_7 10 rfl rfl)
abbrev cX3_closes : ByteArray := prog_19_method_26_code
def yX3_closes : MethodName := ⟨RX3, "closes", "()V"⟩
def dkwX3_closes_2 : List UInt8 := [89, 180, 0, 97, 4, 96, 181, 0, 97, 42, 6, 182, 0, 201, 167, 255, 200, 177]
abbrev dktX3_closes_2 : List UInt8 := dkwX3_closes_2 ++ []
def dkwX3_closes_1 : List UInt8 := [182, 0, 201, 42, 89, 180, 0, 162, 4, 100, 181, 0, 162, 42, 89, 180, 0, 159, 4, 100, 181, 0, 159, 42]
abbrev dktX3_closes_1 : List UInt8 := dkwX3_closes_1 ++ dktX3_closes_2
def dkwX3_closes_0 : List UInt8 := [42, 6, 182, 0, 201, 42, 182, 0, 100, 16, 93, 160, 0, 53, 42, 182, 0, 204, 153, 0, 46, 42, 4]
abbrev dktX3_closes_0 : List UInt8 := dkwX3_closes_0 ++ dktX3_closes_1
theorem dksX3_closes_0 : cX3_closes.data.toList.drop 0 = dktX3_closes_0 := by decide +kernel
theorem dksX3_closes_1 : cX3_closes.data.toList.drop 23 = dktX3_closes_1 := dk_seg dksX3_closes_0 23 rfl rfl
theorem dksX3_closes_2 : cX3_closes.data.toList.drop 47 = dktX3_closes_2 := dk_seg dksX3_closes_1 24 rfl rfl
theorem dX3_closes_0 : decode cX3_closes 0 = .ok (.aload_n 0, 1) := dk_42 (dk_at dksX3_closes_0 0 rfl rfl)
theorem dX3_closes_1 : decode cX3_closes 1 = .ok (.iconst 3, 1) := dk_6 (dk_at dksX3_closes_0 1 rfl rfl)
theorem dX3_closes_2 : decode cX3_closes 2 = .ok (.invokevirtual 201, 3) := dk_182 0 201 (dk_at dksX3_closes_0 2 rfl rfl)
theorem dX3_closes_5 : decode cX3_closes 5 = .ok (.aload_n 0, 1) := dk_42 (dk_at dksX3_closes_0 5 rfl rfl)
theorem dX3_closes_6 : decode cX3_closes 6 = .ok (.invokevirtual 100, 3) := dk_182 0 100 (dk_at dksX3_closes_0 6 rfl rfl)
theorem dX3_closes_9 : decode cX3_closes 9 = .ok (.bipush 93, 2) := dk_16 93 (dk_at dksX3_closes_0 9 rfl rfl)
theorem dX3_closes_11 : decode cX3_closes 11 = .ok (.if_icmp .ne 53, 3) := dk_160 0 53 (dk_at dksX3_closes_0 11 rfl rfl)
theorem dX3_closes_14 : decode cX3_closes 14 = .ok (.aload_n 0, 1) := dk_42 (dk_at dksX3_closes_0 14 rfl rfl)
theorem dX3_closes_15 : decode cX3_closes 15 = .ok (.invokevirtual 204, 3) := dk_182 0 204 (dk_at dksX3_closes_0 15 rfl rfl)
theorem dX3_closes_18 : decode cX3_closes 18 = .ok (.ifCond .eq 46, 3) := dk_153 0 46 (dk_at dksX3_closes_0 18 rfl rfl)
theorem dX3_closes_21 : decode cX3_closes 21 = .ok (.aload_n 0, 1) := dk_42 (dk_at dksX3_closes_0 21 rfl rfl)
theorem dX3_closes_22 : decode cX3_closes 22 = .ok (.iconst 1, 1) := dk_4 (dk_at dksX3_closes_0 22 rfl rfl)
theorem dX3_closes_23 : decode cX3_closes 23 = .ok (.invokevirtual 201, 3) := dk_182 0 201 (dk_at dksX3_closes_1 0 rfl rfl)
theorem dX3_closes_26 : decode cX3_closes 26 = .ok (.aload_n 0, 1) := dk_42 (dk_at dksX3_closes_1 3 rfl rfl)
theorem dX3_closes_27 : decode cX3_closes 27 = .ok (.dup, 1) := dk_89 (dk_at dksX3_closes_1 4 rfl rfl)
theorem dX3_closes_28 : decode cX3_closes 28 = .ok (.getfield 162, 3) := dk_180 0 162 (dk_at dksX3_closes_1 5 rfl rfl)
theorem dX3_closes_31 : decode cX3_closes 31 = .ok (.iconst 1, 1) := dk_4 (dk_at dksX3_closes_1 8 rfl rfl)
theorem dX3_closes_32 : decode cX3_closes 32 = .ok (.isub, 1) := dk_100 (dk_at dksX3_closes_1 9 rfl rfl)
theorem dX3_closes_33 : decode cX3_closes 33 = .ok (.putfield 162, 3) := dk_181 0 162 (dk_at dksX3_closes_1 10 rfl rfl)
theorem dX3_closes_36 : decode cX3_closes 36 = .ok (.aload_n 0, 1) := dk_42 (dk_at dksX3_closes_1 13 rfl rfl)
theorem dX3_closes_37 : decode cX3_closes 37 = .ok (.dup, 1) := dk_89 (dk_at dksX3_closes_1 14 rfl rfl)
theorem dX3_closes_38 : decode cX3_closes 38 = .ok (.getfield 159, 3) := dk_180 0 159 (dk_at dksX3_closes_1 15 rfl rfl)
theorem dX3_closes_41 : decode cX3_closes 41 = .ok (.iconst 1, 1) := dk_4 (dk_at dksX3_closes_1 18 rfl rfl)
theorem dX3_closes_42 : decode cX3_closes 42 = .ok (.isub, 1) := dk_100 (dk_at dksX3_closes_1 19 rfl rfl)
theorem dX3_closes_43 : decode cX3_closes 43 = .ok (.putfield 159, 3) := dk_181 0 159 (dk_at dksX3_closes_1 20 rfl rfl)
theorem dX3_closes_46 : decode cX3_closes 46 = .ok (.aload_n 0, 1) := dk_42 (dk_at dksX3_closes_1 23 rfl rfl)
theorem dX3_closes_47 : decode cX3_closes 47 = .ok (.dup, 1) := dk_89 (dk_at dksX3_closes_2 0 rfl rfl)
theorem dX3_closes_48 : decode cX3_closes 48 = .ok (.getfield 97, 3) := dk_180 0 97 (dk_at dksX3_closes_2 1 rfl rfl)
theorem dX3_closes_51 : decode cX3_closes 51 = .ok (.iconst 1, 1) := dk_4 (dk_at dksX3_closes_2 4 rfl rfl)
theorem dX3_closes_52 : decode cX3_closes 52 = .ok (.iadd, 1) := dk_96 (dk_at dksX3_closes_2 5 rfl rfl)
theorem dX3_closes_53 : decode cX3_closes 53 = .ok (.putfield 97, 3) := dk_181 0 97 (dk_at dksX3_closes_2 6 rfl rfl)
theorem dX3_closes_56 : decode cX3_closes 56 = .ok (.aload_n 0, 1) := dk_42 (dk_at dksX3_closes_2 9 rfl rfl)
theorem dX3_closes_57 : decode cX3_closes 57 = .ok (.iconst 3, 1) := dk_6 (dk_at dksX3_closes_2 10 rfl rfl)
theorem dX3_closes_58 : decode cX3_closes 58 = .ok (.invokevirtual 201, 3) := dk_182 0 201 (dk_at dksX3_closes_2 11 rfl rfl)
theorem dX3_closes_61 : decode cX3_closes 61 = .ok (.goto (-56), 3) := dk_167 255 200 (dk_at dksX3_closes_2 14 rfl rfl)
theorem dX3_closes_64 : decode cX3_closes 64 = .ok (.return_, 1) := dk_177 (dk_at dksX3_closes_2 17 rfl rfl)
abbrev cX3_settles : ByteArray := prog_19_method_19_code
def yX3_settles : MethodName := ⟨RX3, "settles", "(I)V"⟩
def dkwX3_settles_3 : List UInt8 := [181, 0, 159, 167, 255, 183, 177]
abbrev dktX3_settles_3 : List UInt8 := dkwX3_settles_3 ++ []
def dkwX3_settles_2 : List UInt8 := [182, 0, 169, 42, 180, 0, 32, 42, 180, 0, 162, 46, 16, 11, 160, 255, 196, 42, 89, 180, 0, 159, 4, 100]
abbrev dktX3_settles_2 : List UInt8 := dkwX3_settles_2 ++ dktX3_settles_3
def dkwX3_settles_1 : List UInt8 := [161, 0, 54, 42, 89, 180, 0, 162, 4, 100, 181, 0, 162, 42, 42, 180, 0, 32, 42, 180, 0, 162, 46, 3]
abbrev dktX3_settles_1 : List UInt8 := dkwX3_settles_1 ++ dktX3_settles_2
def dkwX3_settles_0 : List UInt8 := [42, 180, 0, 162, 158, 0, 72, 42, 180, 0, 32, 42, 180, 0, 162, 4, 100, 46, 184, 0, 165, 27]
abbrev dktX3_settles_0 : List UInt8 := dkwX3_settles_0 ++ dktX3_settles_1
theorem dksX3_settles_0 : cX3_settles.data.toList.drop 0 = dktX3_settles_0 := by decide +kernel
theorem dksX3_settles_1 : cX3_settles.data.toList.drop 22 = dktX3_settles_1 := dk_seg dksX3_settles_0 22 rfl rfl
theorem dksX3_settles_2 : cX3_settles.data.toList.drop 46 = dktX3_settles_2 := dk_seg dksX3_settles_1 24 rfl rfl
theorem dksX3_settles_3 : cX3_settles.data.toList.drop 70 = dktX3_settles_3 := dk_seg dksX3_settles_2 24 rfl rfl
theorem dX3_settles_0 : decode cX3_settles 0 = .ok (.aload_n 0, 1) := dk_42 (dk_at dksX3_settles_0 0 rfl rfl)
theorem dX3_settles_1 : decode cX3_settles 1 = .ok (.getfield 162, 3) := dk_180 0 162 (dk_at dksX3_settles_0 1 rfl rfl)
theorem dX3_settles_4 : decode cX3_settles 4 = .ok (.ifCond .le 72, 3) := dk_158 0 72 (dk_at dksX3_settles_0 4 rfl rfl)
theorem dX3_settles_7 : decode cX3_settles 7 = .ok (.aload_n 0, 1) := dk_42 (dk_at dksX3_settles_0 7 rfl rfl)
theorem dX3_settles_8 : decode cX3_settles 8 = .ok (.getfield 32, 3) := dk_180 0 32 (dk_at dksX3_settles_0 8 rfl rfl)
theorem dX3_settles_11 : decode cX3_settles 11 = .ok (.aload_n 0, 1) := dk_42 (dk_at dksX3_settles_0 11 rfl rfl)
theorem dX3_settles_12 : decode cX3_settles 12 = .ok (.getfield 162, 3) := dk_180 0 162 (dk_at dksX3_settles_0 12 rfl rfl)
theorem dX3_settles_15 : decode cX3_settles 15 = .ok (.iconst 1, 1) := dk_4 (dk_at dksX3_settles_0 15 rfl rfl)
theorem dX3_settles_16 : decode cX3_settles 16 = .ok (.isub, 1) := dk_100 (dk_at dksX3_settles_0 16 rfl rfl)
theorem dX3_settles_17 : decode cX3_settles 17 = .ok (.iaload, 1) := dk_46 (dk_at dksX3_settles_0 17 rfl rfl)
theorem dX3_settles_18 : decode cX3_settles 18 = .ok (.invokestatic 165, 3) := dk_184 0 165 (dk_at dksX3_settles_0 18 rfl rfl)
theorem dX3_settles_21 : decode cX3_settles 21 = .ok (.iload_n 1, 1) := dk_27 (dk_at dksX3_settles_0 21 rfl rfl)
theorem dX3_settles_22 : decode cX3_settles 22 = .ok (.if_icmp .lt 54, 3) := dk_161 0 54 (dk_at dksX3_settles_1 0 rfl rfl)
theorem dX3_settles_25 : decode cX3_settles 25 = .ok (.aload_n 0, 1) := dk_42 (dk_at dksX3_settles_1 3 rfl rfl)
theorem dX3_settles_26 : decode cX3_settles 26 = .ok (.dup, 1) := dk_89 (dk_at dksX3_settles_1 4 rfl rfl)
theorem dX3_settles_27 : decode cX3_settles 27 = .ok (.getfield 162, 3) := dk_180 0 162 (dk_at dksX3_settles_1 5 rfl rfl)
theorem dX3_settles_30 : decode cX3_settles 30 = .ok (.iconst 1, 1) := dk_4 (dk_at dksX3_settles_1 8 rfl rfl)
theorem dX3_settles_31 : decode cX3_settles 31 = .ok (.isub, 1) := dk_100 (dk_at dksX3_settles_1 9 rfl rfl)
theorem dX3_settles_32 : decode cX3_settles 32 = .ok (.putfield 162, 3) := dk_181 0 162 (dk_at dksX3_settles_1 10 rfl rfl)
theorem dX3_settles_35 : decode cX3_settles 35 = .ok (.aload_n 0, 1) := dk_42 (dk_at dksX3_settles_1 13 rfl rfl)
theorem dX3_settles_36 : decode cX3_settles 36 = .ok (.aload_n 0, 1) := dk_42 (dk_at dksX3_settles_1 14 rfl rfl)
theorem dX3_settles_37 : decode cX3_settles 37 = .ok (.getfield 32, 3) := dk_180 0 32 (dk_at dksX3_settles_1 15 rfl rfl)
theorem dX3_settles_40 : decode cX3_settles 40 = .ok (.aload_n 0, 1) := dk_42 (dk_at dksX3_settles_1 18 rfl rfl)
theorem dX3_settles_41 : decode cX3_settles 41 = .ok (.getfield 162, 3) := dk_180 0 162 (dk_at dksX3_settles_1 19 rfl rfl)
theorem dX3_settles_44 : decode cX3_settles 44 = .ok (.iaload, 1) := dk_46 (dk_at dksX3_settles_1 22 rfl rfl)
theorem dX3_settles_45 : decode cX3_settles 45 = .ok (.iconst 0, 1) := dk_3 (dk_at dksX3_settles_1 23 rfl rfl)
theorem dX3_settles_46 : decode cX3_settles 46 = .ok (.invokevirtual 169, 3) := dk_182 0 169 (dk_at dksX3_settles_2 0 rfl rfl)
theorem dX3_settles_49 : decode cX3_settles 49 = .ok (.aload_n 0, 1) := dk_42 (dk_at dksX3_settles_2 3 rfl rfl)
theorem dX3_settles_50 : decode cX3_settles 50 = .ok (.getfield 32, 3) := dk_180 0 32 (dk_at dksX3_settles_2 4 rfl rfl)
theorem dX3_settles_53 : decode cX3_settles 53 = .ok (.aload_n 0, 1) := dk_42 (dk_at dksX3_settles_2 7 rfl rfl)
theorem dX3_settles_54 : decode cX3_settles 54 = .ok (.getfield 162, 3) := dk_180 0 162 (dk_at dksX3_settles_2 8 rfl rfl)
theorem dX3_settles_57 : decode cX3_settles 57 = .ok (.iaload, 1) := dk_46 (dk_at dksX3_settles_2 11 rfl rfl)
theorem dX3_settles_58 : decode cX3_settles 58 = .ok (.bipush 11, 2) := dk_16 11 (dk_at dksX3_settles_2 12 rfl rfl)
theorem dX3_settles_60 : decode cX3_settles 60 = .ok (.if_icmp .ne (-60), 3) := dk_160 255 196 (dk_at dksX3_settles_2 14 rfl rfl)
theorem dX3_settles_63 : decode cX3_settles 63 = .ok (.aload_n 0, 1) := dk_42 (dk_at dksX3_settles_2 17 rfl rfl)
theorem dX3_settles_64 : decode cX3_settles 64 = .ok (.dup, 1) := dk_89 (dk_at dksX3_settles_2 18 rfl rfl)
theorem dX3_settles_65 : decode cX3_settles 65 = .ok (.getfield 159, 3) := dk_180 0 159 (dk_at dksX3_settles_2 19 rfl rfl)
theorem dX3_settles_68 : decode cX3_settles 68 = .ok (.iconst 1, 1) := dk_4 (dk_at dksX3_settles_2 22 rfl rfl)
theorem dX3_settles_69 : decode cX3_settles 69 = .ok (.isub, 1) := dk_100 (dk_at dksX3_settles_2 23 rfl rfl)
theorem dX3_settles_70 : decode cX3_settles 70 = .ok (.putfield 159, 3) := dk_181 0 159 (dk_at dksX3_settles_3 0 rfl rfl)
theorem dX3_settles_73 : decode cX3_settles 73 = .ok (.goto (-73), 3) := dk_167 255 183 (dk_at dksX3_settles_3 3 rfl rfl)
theorem dX3_settles_76 : decode cX3_settles 76 = .ok (.return_, 1) := dk_177 (dk_at dksX3_settles_3 6 rfl rfl)
abbrev cX3_strength : ByteArray := prog_19_method_18_code
def yX3_strength : MethodName := ⟨RX3, "strength", "(I)I"⟩
def dkwX3_strength_1 : List UInt8 := [160, 0, 7, 6, 167, 0, 4, 3, 172]
abbrev dktX3_strength_1 : List UInt8 := dkwX3_strength_1 ++ []
def dkwX3_strength_0 : List UInt8 := [26, 16, 13, 160, 0, 7, 4, 167, 0, 24, 26, 16, 12, 160, 0, 7, 5, 167, 0, 14, 26, 16, 11]
abbrev dktX3_strength_0 : List UInt8 := dkwX3_strength_0 ++ dktX3_strength_1
theorem dksX3_strength_0 : cX3_strength.data.toList.drop 0 = dktX3_strength_0 := by decide +kernel
theorem dksX3_strength_1 : cX3_strength.data.toList.drop 23 = dktX3_strength_1 := dk_seg dksX3_strength_0 23 rfl rfl
theorem dX3_strength_0 : decode cX3_strength 0 = .ok (.iload_n 0, 1) := dk_26 (dk_at dksX3_strength_0 0 rfl rfl)
theorem dX3_strength_1 : decode cX3_strength 1 = .ok (.bipush 13, 2) := dk_16 13 (dk_at dksX3_strength_0 1 rfl rfl)
theorem dX3_strength_3 : decode cX3_strength 3 = .ok (.if_icmp .ne 7, 3) := dk_160 0 7 (dk_at dksX3_strength_0 3 rfl rfl)
theorem dX3_strength_6 : decode cX3_strength 6 = .ok (.iconst 1, 1) := dk_4 (dk_at dksX3_strength_0 6 rfl rfl)
theorem dX3_strength_7 : decode cX3_strength 7 = .ok (.goto 24, 3) := dk_167 0 24 (dk_at dksX3_strength_0 7 rfl rfl)
theorem dX3_strength_10 : decode cX3_strength 10 = .ok (.iload_n 0, 1) := dk_26 (dk_at dksX3_strength_0 10 rfl rfl)
theorem dX3_strength_11 : decode cX3_strength 11 = .ok (.bipush 12, 2) := dk_16 12 (dk_at dksX3_strength_0 11 rfl rfl)
theorem dX3_strength_13 : decode cX3_strength 13 = .ok (.if_icmp .ne 7, 3) := dk_160 0 7 (dk_at dksX3_strength_0 13 rfl rfl)
theorem dX3_strength_16 : decode cX3_strength 16 = .ok (.iconst 2, 1) := dk_5 (dk_at dksX3_strength_0 16 rfl rfl)
theorem dX3_strength_17 : decode cX3_strength 17 = .ok (.goto 14, 3) := dk_167 0 14 (dk_at dksX3_strength_0 17 rfl rfl)
theorem dX3_strength_20 : decode cX3_strength 20 = .ok (.iload_n 0, 1) := dk_26 (dk_at dksX3_strength_0 20 rfl rfl)
theorem dX3_strength_21 : decode cX3_strength 21 = .ok (.bipush 11, 2) := dk_16 11 (dk_at dksX3_strength_0 21 rfl rfl)
theorem dX3_strength_23 : decode cX3_strength 23 = .ok (.if_icmp .ne 7, 3) := dk_160 0 7 (dk_at dksX3_strength_1 0 rfl rfl)
theorem dX3_strength_26 : decode cX3_strength 26 = .ok (.iconst 3, 1) := dk_6 (dk_at dksX3_strength_1 3 rfl rfl)
theorem dX3_strength_27 : decode cX3_strength 27 = .ok (.goto 4, 3) := dk_167 0 4 (dk_at dksX3_strength_1 4 rfl rfl)
theorem dX3_strength_30 : decode cX3_strength 30 = .ok (.iconst 0, 1) := dk_3 (dk_at dksX3_strength_1 7 rfl rfl)
theorem dX3_strength_31 : decode cX3_strength 31 = .ok (.ireturn, 1) := dk_172 (dk_at dksX3_strength_1 8 rfl rfl)
abbrev cX3_isInside : ByteArray := prog_19_method_25_code
def yX3_isInside : MethodName := ⟨RX3, "isInside", "()Z"⟩
def dkwX3_isInside_1 : List UInt8 := [132, 1, 1, 167, 255, 232, 3, 172]
abbrev dktX3_isInside_1 : List UInt8 := dkwX3_isInside_1 ++ []
def dkwX3_isInside_0 : List UInt8 := [3, 60, 27, 42, 180, 0, 162, 162, 0, 22, 42, 180, 0, 32, 27, 46, 16, 91, 160, 0, 5, 4, 172]
abbrev dktX3_isInside_0 : List UInt8 := dkwX3_isInside_0 ++ dktX3_isInside_1
theorem dksX3_isInside_0 : cX3_isInside.data.toList.drop 0 = dktX3_isInside_0 := by decide +kernel
theorem dksX3_isInside_1 : cX3_isInside.data.toList.drop 23 = dktX3_isInside_1 := dk_seg dksX3_isInside_0 23 rfl rfl
theorem dX3_isInside_0 : decode cX3_isInside 0 = .ok (.iconst 0, 1) := dk_3 (dk_at dksX3_isInside_0 0 rfl rfl)
theorem dX3_isInside_1 : decode cX3_isInside 1 = .ok (.istore_n 1, 1) := dk_60 (dk_at dksX3_isInside_0 1 rfl rfl)
theorem dX3_isInside_2 : decode cX3_isInside 2 = .ok (.iload_n 1, 1) := dk_27 (dk_at dksX3_isInside_0 2 rfl rfl)
theorem dX3_isInside_3 : decode cX3_isInside 3 = .ok (.aload_n 0, 1) := dk_42 (dk_at dksX3_isInside_0 3 rfl rfl)
theorem dX3_isInside_4 : decode cX3_isInside 4 = .ok (.getfield 162, 3) := dk_180 0 162 (dk_at dksX3_isInside_0 4 rfl rfl)
theorem dX3_isInside_7 : decode cX3_isInside 7 = .ok (.if_icmp .ge 22, 3) := dk_162 0 22 (dk_at dksX3_isInside_0 7 rfl rfl)
theorem dX3_isInside_10 : decode cX3_isInside 10 = .ok (.aload_n 0, 1) := dk_42 (dk_at dksX3_isInside_0 10 rfl rfl)
theorem dX3_isInside_11 : decode cX3_isInside 11 = .ok (.getfield 32, 3) := dk_180 0 32 (dk_at dksX3_isInside_0 11 rfl rfl)
theorem dX3_isInside_14 : decode cX3_isInside 14 = .ok (.iload_n 1, 1) := dk_27 (dk_at dksX3_isInside_0 14 rfl rfl)
theorem dX3_isInside_15 : decode cX3_isInside 15 = .ok (.iaload, 1) := dk_46 (dk_at dksX3_isInside_0 15 rfl rfl)
theorem dX3_isInside_16 : decode cX3_isInside 16 = .ok (.bipush 91, 2) := dk_16 91 (dk_at dksX3_isInside_0 16 rfl rfl)
theorem dX3_isInside_18 : decode cX3_isInside 18 = .ok (.if_icmp .ne 5, 3) := dk_160 0 5 (dk_at dksX3_isInside_0 18 rfl rfl)
theorem dX3_isInside_21 : decode cX3_isInside 21 = .ok (.iconst 1, 1) := dk_4 (dk_at dksX3_isInside_0 21 rfl rfl)
theorem dX3_isInside_22 : decode cX3_isInside 22 = .ok (.ireturn, 1) := dk_172 (dk_at dksX3_isInside_0 22 rfl rfl)
theorem dX3_isInside_23 : decode cX3_isInside 23 = .ok (.iinc 1 1, 3) := dk_132 1 1 (dk_at dksX3_isInside_1 0 rfl rfl)
theorem dX3_isInside_26 : decode cX3_isInside 26 = .ok (.goto (-24), 3) := dk_167 255 232 (dk_at dksX3_isInside_1 3 rfl rfl)
theorem dX3_isInside_29 : decode cX3_isInside 29 = .ok (.iconst 0, 1) := dk_3 (dk_at dksX3_isInside_1 6 rfl rfl)
theorem dX3_isInside_30 : decode cX3_isInside 30 = .ok (.ireturn, 1) := dk_172 (dk_at dksX3_isInside_1 7 rfl rfl)
abbrev cX3_land : ByteArray := prog_19_method_34_code
def yX3_land : MethodName := ⟨RX3, "land", "()I"⟩
def dkwX3_land_10 : List UInt8 := [180, 0, 42, 29, 16, 6, 96, 2, 79, 132, 2, 1, 167, 255, 153, 42, 180, 0, 225, 172]
abbrev dktX3_land_10 : List UInt8 := dkwX3_land_10 ++ []
def dkwX3_land_9 : List UInt8 := [180, 0, 42, 29, 46, 42, 180, 0, 42, 29, 4, 96, 46, 160, 0, 7, 3, 167, 0, 4, 2, 79, 42]
abbrev dktX3_land_9 : List UInt8 := dkwX3_land_9 ++ dktX3_land_10
def dkwX3_land_8 : List UInt8 := [132, 4, 1, 167, 255, 227, 42, 180, 0, 42, 29, 6, 96, 2, 79, 42, 180, 0, 42, 29, 8, 96, 42]
abbrev dktX3_land_8 : List UInt8 := dkwX3_land_8 ++ dktX3_land_9
def dkwX3_land_7 : List UInt8 := [162, 0, 29, 42, 180, 0, 42, 29, 21, 4, 96, 42, 180, 0, 29, 6, 28, 104, 21, 4, 96, 46, 79]
abbrev dktX3_land_7 : List UInt8 := dkwX3_land_7 ++ dktX3_land_8
def dkwX3_land_6 : List UInt8 := [3, 61, 28, 42, 180, 0, 228, 162, 0, 101, 16, 80, 16, 7, 28, 104, 96, 62, 3, 54, 4, 21, 4, 6]
abbrev dktX3_land_6 : List UInt8 := dkwX3_land_6 ++ dktX3_land_7
def dkwX3_land_5 : List UInt8 := [96, 42, 180, 0, 26, 6, 28, 104, 29, 96, 46, 79, 132, 3, 1, 167, 255, 225, 132, 2, 1, 167, 255, 209]
abbrev dktX3_land_5 : List UInt8 := dkwX3_land_5 ++ dktX3_land_6
def dkwX3_land_4 : List UInt8 := [180, 0, 225, 162, 0, 45, 3, 62, 29, 6, 162, 0, 32, 42, 180, 0, 42, 16, 10, 8, 28, 104, 96, 29]
abbrev dktX3_land_4 : List UInt8 := dkwX3_land_4 ++ dktX3_land_5
def dkwX3_land_3 : List UInt8 := [42, 180, 0, 42, 3, 42, 180, 0, 225, 79, 42, 180, 0, 42, 4, 42, 180, 0, 228, 79, 3, 61, 28, 42]
abbrev dktX3_land_3 : List UInt8 := dkwX3_land_3 ++ dktX3_land_4
def dkwX3_land_2 : List UInt8 := [162, 0, 16, 42, 180, 0, 42, 28, 3, 79, 132, 2, 1, 167, 255, 239, 42, 180, 0, 42, 16, 7, 27, 79]
abbrev dktX3_land_2 : List UInt8 := dkwX3_land_2 ++ dktX3_land_3
def dkwX3_land_1 : List UInt8 := [16, 254, 42, 180, 0, 94, 100, 172, 42, 180, 0, 42, 16, 7, 46, 60, 3, 61, 28, 17, 0, 202]
abbrev dktX3_land_1 : List UInt8 := dkwX3_land_1 ++ dktX3_land_2
def dkwX3_land_0 : List UInt8 := [42, 16, 6, 181, 0, 153, 42, 3, 181, 0, 225, 42, 3, 181, 0, 228, 42, 182, 0, 253, 154, 0, 11]
abbrev dktX3_land_0 : List UInt8 := dkwX3_land_0 ++ dktX3_land_1
theorem dksX3_land_0 : cX3_land.data.toList.drop 0 = dktX3_land_0 := by decide +kernel
theorem dksX3_land_1 : cX3_land.data.toList.drop 23 = dktX3_land_1 := dk_seg dksX3_land_0 23 rfl rfl
theorem dksX3_land_2 : cX3_land.data.toList.drop 45 = dktX3_land_2 := dk_seg dksX3_land_1 22 rfl rfl
theorem dksX3_land_3 : cX3_land.data.toList.drop 69 = dktX3_land_3 := dk_seg dksX3_land_2 24 rfl rfl
theorem dksX3_land_4 : cX3_land.data.toList.drop 93 = dktX3_land_4 := dk_seg dksX3_land_3 24 rfl rfl
theorem dksX3_land_5 : cX3_land.data.toList.drop 117 = dktX3_land_5 := dk_seg dksX3_land_4 24 rfl rfl
theorem dksX3_land_6 : cX3_land.data.toList.drop 141 = dktX3_land_6 := dk_seg dksX3_land_5 24 rfl rfl
theorem dksX3_land_7 : cX3_land.data.toList.drop 165 = dktX3_land_7 := dk_seg dksX3_land_6 24 rfl rfl
theorem dksX3_land_8 : cX3_land.data.toList.drop 188 = dktX3_land_8 := dk_seg dksX3_land_7 23 rfl rfl
theorem dksX3_land_9 : cX3_land.data.toList.drop 211 = dktX3_land_9 := dk_seg dksX3_land_8 23 rfl rfl
theorem dksX3_land_10 : cX3_land.data.toList.drop 234 = dktX3_land_10 := dk_seg dksX3_land_9 23 rfl rfl
theorem dX3_land_0 : decode cX3_land 0 = .ok (.aload_n 0, 1) := dk_42 (dk_at dksX3_land_0 0 rfl rfl)
theorem dX3_land_1 : decode cX3_land 1 = .ok (.bipush 6, 2) := dk_16 6 (dk_at dksX3_land_0 1 rfl rfl)
theorem dX3_land_3 : decode cX3_land 3 = .ok (.putfield 153, 3) := dk_181 0 153 (dk_at dksX3_land_0 3 rfl rfl)
theorem dX3_land_6 : decode cX3_land 6 = .ok (.aload_n 0, 1) := dk_42 (dk_at dksX3_land_0 6 rfl rfl)
theorem dX3_land_7 : decode cX3_land 7 = .ok (.iconst 0, 1) := dk_3 (dk_at dksX3_land_0 7 rfl rfl)
theorem dX3_land_8 : decode cX3_land 8 = .ok (.putfield 225, 3) := dk_181 0 225 (dk_at dksX3_land_0 8 rfl rfl)
theorem dX3_land_11 : decode cX3_land 11 = .ok (.aload_n 0, 1) := dk_42 (dk_at dksX3_land_0 11 rfl rfl)
theorem dX3_land_12 : decode cX3_land 12 = .ok (.iconst 0, 1) := dk_3 (dk_at dksX3_land_0 12 rfl rfl)
theorem dX3_land_13 : decode cX3_land 13 = .ok (.putfield 228, 3) := dk_181 0 228 (dk_at dksX3_land_0 13 rfl rfl)
theorem dX3_land_16 : decode cX3_land 16 = .ok (.aload_n 0, 1) := dk_42 (dk_at dksX3_land_0 16 rfl rfl)
theorem dX3_land_17 : decode cX3_land 17 = .ok (.invokevirtual 253, 3) := dk_182 0 253 (dk_at dksX3_land_0 17 rfl rfl)
theorem dX3_land_20 : decode cX3_land 20 = .ok (.ifCond .ne 11, 3) := dk_154 0 11 (dk_at dksX3_land_0 20 rfl rfl)
theorem dX3_land_23 : decode cX3_land 23 = .ok (.bipush (-2), 2) := dk_16 254 (dk_at dksX3_land_1 0 rfl rfl)
theorem dX3_land_25 : decode cX3_land 25 = .ok (.aload_n 0, 1) := dk_42 (dk_at dksX3_land_1 2 rfl rfl)
theorem dX3_land_26 : decode cX3_land 26 = .ok (.getfield 94, 3) := dk_180 0 94 (dk_at dksX3_land_1 3 rfl rfl)
theorem dX3_land_29 : decode cX3_land 29 = .ok (.isub, 1) := dk_100 (dk_at dksX3_land_1 6 rfl rfl)
theorem dX3_land_30 : decode cX3_land 30 = .ok (.ireturn, 1) := dk_172 (dk_at dksX3_land_1 7 rfl rfl)
theorem dX3_land_31 : decode cX3_land 31 = .ok (.aload_n 0, 1) := dk_42 (dk_at dksX3_land_1 8 rfl rfl)
theorem dX3_land_32 : decode cX3_land 32 = .ok (.getfield 42, 3) := dk_180 0 42 (dk_at dksX3_land_1 9 rfl rfl)
theorem dX3_land_35 : decode cX3_land 35 = .ok (.bipush 7, 2) := dk_16 7 (dk_at dksX3_land_1 12 rfl rfl)
theorem dX3_land_37 : decode cX3_land 37 = .ok (.iaload, 1) := dk_46 (dk_at dksX3_land_1 14 rfl rfl)
theorem dX3_land_38 : decode cX3_land 38 = .ok (.istore_n 1, 1) := dk_60 (dk_at dksX3_land_1 15 rfl rfl)
theorem dX3_land_39 : decode cX3_land 39 = .ok (.iconst 0, 1) := dk_3 (dk_at dksX3_land_1 16 rfl rfl)
theorem dX3_land_40 : decode cX3_land 40 = .ok (.istore_n 2, 1) := dk_61 (dk_at dksX3_land_1 17 rfl rfl)
theorem dX3_land_41 : decode cX3_land 41 = .ok (.iload_n 2, 1) := dk_28 (dk_at dksX3_land_1 18 rfl rfl)
theorem dX3_land_42 : decode cX3_land 42 = .ok (.sipush 202, 3) := dk_17 0 202 (dk_at dksX3_land_1 19 rfl rfl)
theorem dX3_land_45 : decode cX3_land 45 = .ok (.if_icmp .ge 16, 3) := dk_162 0 16 (dk_at dksX3_land_2 0 rfl rfl)
theorem dX3_land_48 : decode cX3_land 48 = .ok (.aload_n 0, 1) := dk_42 (dk_at dksX3_land_2 3 rfl rfl)
theorem dX3_land_49 : decode cX3_land 49 = .ok (.getfield 42, 3) := dk_180 0 42 (dk_at dksX3_land_2 4 rfl rfl)
theorem dX3_land_52 : decode cX3_land 52 = .ok (.iload_n 2, 1) := dk_28 (dk_at dksX3_land_2 7 rfl rfl)
theorem dX3_land_53 : decode cX3_land 53 = .ok (.iconst 0, 1) := dk_3 (dk_at dksX3_land_2 8 rfl rfl)
theorem dX3_land_54 : decode cX3_land 54 = .ok (.iastore, 1) := dk_79 (dk_at dksX3_land_2 9 rfl rfl)
theorem dX3_land_55 : decode cX3_land 55 = .ok (.iinc 2 1, 3) := dk_132 2 1 (dk_at dksX3_land_2 10 rfl rfl)
theorem dX3_land_58 : decode cX3_land 58 = .ok (.goto (-17), 3) := dk_167 255 239 (dk_at dksX3_land_2 13 rfl rfl)
theorem dX3_land_61 : decode cX3_land 61 = .ok (.aload_n 0, 1) := dk_42 (dk_at dksX3_land_2 16 rfl rfl)
theorem dX3_land_62 : decode cX3_land 62 = .ok (.getfield 42, 3) := dk_180 0 42 (dk_at dksX3_land_2 17 rfl rfl)
theorem dX3_land_65 : decode cX3_land 65 = .ok (.bipush 7, 2) := dk_16 7 (dk_at dksX3_land_2 20 rfl rfl)
theorem dX3_land_67 : decode cX3_land 67 = .ok (.iload_n 1, 1) := dk_27 (dk_at dksX3_land_2 22 rfl rfl)
theorem dX3_land_68 : decode cX3_land 68 = .ok (.iastore, 1) := dk_79 (dk_at dksX3_land_2 23 rfl rfl)
theorem dX3_land_69 : decode cX3_land 69 = .ok (.aload_n 0, 1) := dk_42 (dk_at dksX3_land_3 0 rfl rfl)
theorem dX3_land_70 : decode cX3_land 70 = .ok (.getfield 42, 3) := dk_180 0 42 (dk_at dksX3_land_3 1 rfl rfl)
theorem dX3_land_73 : decode cX3_land 73 = .ok (.iconst 0, 1) := dk_3 (dk_at dksX3_land_3 4 rfl rfl)
theorem dX3_land_74 : decode cX3_land 74 = .ok (.aload_n 0, 1) := dk_42 (dk_at dksX3_land_3 5 rfl rfl)
theorem dX3_land_75 : decode cX3_land 75 = .ok (.getfield 225, 3) := dk_180 0 225 (dk_at dksX3_land_3 6 rfl rfl)
theorem dX3_land_78 : decode cX3_land 78 = .ok (.iastore, 1) := dk_79 (dk_at dksX3_land_3 9 rfl rfl)
theorem dX3_land_79 : decode cX3_land 79 = .ok (.aload_n 0, 1) := dk_42 (dk_at dksX3_land_3 10 rfl rfl)
theorem dX3_land_80 : decode cX3_land 80 = .ok (.getfield 42, 3) := dk_180 0 42 (dk_at dksX3_land_3 11 rfl rfl)
theorem dX3_land_83 : decode cX3_land 83 = .ok (.iconst 1, 1) := dk_4 (dk_at dksX3_land_3 14 rfl rfl)
theorem dX3_land_84 : decode cX3_land 84 = .ok (.aload_n 0, 1) := dk_42 (dk_at dksX3_land_3 15 rfl rfl)
theorem dX3_land_85 : decode cX3_land 85 = .ok (.getfield 228, 3) := dk_180 0 228 (dk_at dksX3_land_3 16 rfl rfl)
theorem dX3_land_88 : decode cX3_land 88 = .ok (.iastore, 1) := dk_79 (dk_at dksX3_land_3 19 rfl rfl)
theorem dX3_land_89 : decode cX3_land 89 = .ok (.iconst 0, 1) := dk_3 (dk_at dksX3_land_3 20 rfl rfl)
theorem dX3_land_90 : decode cX3_land 90 = .ok (.istore_n 2, 1) := dk_61 (dk_at dksX3_land_3 21 rfl rfl)
theorem dX3_land_91 : decode cX3_land 91 = .ok (.iload_n 2, 1) := dk_28 (dk_at dksX3_land_3 22 rfl rfl)
theorem dX3_land_92 : decode cX3_land 92 = .ok (.aload_n 0, 1) := dk_42 (dk_at dksX3_land_3 23 rfl rfl)
theorem dX3_land_93 : decode cX3_land 93 = .ok (.getfield 225, 3) := dk_180 0 225 (dk_at dksX3_land_4 0 rfl rfl)
theorem dX3_land_96 : decode cX3_land 96 = .ok (.if_icmp .ge 45, 3) := dk_162 0 45 (dk_at dksX3_land_4 3 rfl rfl)
theorem dX3_land_99 : decode cX3_land 99 = .ok (.iconst 0, 1) := dk_3 (dk_at dksX3_land_4 6 rfl rfl)
theorem dX3_land_100 : decode cX3_land 100 = .ok (.istore_n 3, 1) := dk_62 (dk_at dksX3_land_4 7 rfl rfl)
theorem dX3_land_101 : decode cX3_land 101 = .ok (.iload_n 3, 1) := dk_29 (dk_at dksX3_land_4 8 rfl rfl)
theorem dX3_land_102 : decode cX3_land 102 = .ok (.iconst 3, 1) := dk_6 (dk_at dksX3_land_4 9 rfl rfl)
theorem dX3_land_103 : decode cX3_land 103 = .ok (.if_icmp .ge 32, 3) := dk_162 0 32 (dk_at dksX3_land_4 10 rfl rfl)
theorem dX3_land_106 : decode cX3_land 106 = .ok (.aload_n 0, 1) := dk_42 (dk_at dksX3_land_4 13 rfl rfl)
theorem dX3_land_107 : decode cX3_land 107 = .ok (.getfield 42, 3) := dk_180 0 42 (dk_at dksX3_land_4 14 rfl rfl)
theorem dX3_land_110 : decode cX3_land 110 = .ok (.bipush 10, 2) := dk_16 10 (dk_at dksX3_land_4 17 rfl rfl)
theorem dX3_land_112 : decode cX3_land 112 = .ok (.iconst 5, 1) := dk_8 (dk_at dksX3_land_4 19 rfl rfl)
theorem dX3_land_113 : decode cX3_land 113 = .ok (.iload_n 2, 1) := dk_28 (dk_at dksX3_land_4 20 rfl rfl)
theorem dX3_land_114 : decode cX3_land 114 = .ok (.imul, 1) := dk_104 (dk_at dksX3_land_4 21 rfl rfl)
theorem dX3_land_115 : decode cX3_land 115 = .ok (.iadd, 1) := dk_96 (dk_at dksX3_land_4 22 rfl rfl)
theorem dX3_land_116 : decode cX3_land 116 = .ok (.iload_n 3, 1) := dk_29 (dk_at dksX3_land_4 23 rfl rfl)
theorem dX3_land_117 : decode cX3_land 117 = .ok (.iadd, 1) := dk_96 (dk_at dksX3_land_5 0 rfl rfl)
theorem dX3_land_118 : decode cX3_land 118 = .ok (.aload_n 0, 1) := dk_42 (dk_at dksX3_land_5 1 rfl rfl)
theorem dX3_land_119 : decode cX3_land 119 = .ok (.getfield 26, 3) := dk_180 0 26 (dk_at dksX3_land_5 2 rfl rfl)
theorem dX3_land_122 : decode cX3_land 122 = .ok (.iconst 3, 1) := dk_6 (dk_at dksX3_land_5 5 rfl rfl)
theorem dX3_land_123 : decode cX3_land 123 = .ok (.iload_n 2, 1) := dk_28 (dk_at dksX3_land_5 6 rfl rfl)
theorem dX3_land_124 : decode cX3_land 124 = .ok (.imul, 1) := dk_104 (dk_at dksX3_land_5 7 rfl rfl)
theorem dX3_land_125 : decode cX3_land 125 = .ok (.iload_n 3, 1) := dk_29 (dk_at dksX3_land_5 8 rfl rfl)
theorem dX3_land_126 : decode cX3_land 126 = .ok (.iadd, 1) := dk_96 (dk_at dksX3_land_5 9 rfl rfl)
theorem dX3_land_127 : decode cX3_land 127 = .ok (.iaload, 1) := dk_46 (dk_at dksX3_land_5 10 rfl rfl)
theorem dX3_land_128 : decode cX3_land 128 = .ok (.iastore, 1) := dk_79 (dk_at dksX3_land_5 11 rfl rfl)
theorem dX3_land_129 : decode cX3_land 129 = .ok (.iinc 3 1, 3) := dk_132 3 1 (dk_at dksX3_land_5 12 rfl rfl)
theorem dX3_land_132 : decode cX3_land 132 = .ok (.goto (-31), 3) := dk_167 255 225 (dk_at dksX3_land_5 15 rfl rfl)
theorem dX3_land_135 : decode cX3_land 135 = .ok (.iinc 2 1, 3) := dk_132 2 1 (dk_at dksX3_land_5 18 rfl rfl)
theorem dX3_land_138 : decode cX3_land 138 = .ok (.goto (-47), 3) := dk_167 255 209 (dk_at dksX3_land_5 21 rfl rfl)
theorem dX3_land_141 : decode cX3_land 141 = .ok (.iconst 0, 1) := dk_3 (dk_at dksX3_land_6 0 rfl rfl)
theorem dX3_land_142 : decode cX3_land 142 = .ok (.istore_n 2, 1) := dk_61 (dk_at dksX3_land_6 1 rfl rfl)
theorem dX3_land_143 : decode cX3_land 143 = .ok (.iload_n 2, 1) := dk_28 (dk_at dksX3_land_6 2 rfl rfl)
theorem dX3_land_144 : decode cX3_land 144 = .ok (.aload_n 0, 1) := dk_42 (dk_at dksX3_land_6 3 rfl rfl)
theorem dX3_land_145 : decode cX3_land 145 = .ok (.getfield 228, 3) := dk_180 0 228 (dk_at dksX3_land_6 4 rfl rfl)
theorem dX3_land_148 : decode cX3_land 148 = .ok (.if_icmp .ge 101, 3) := dk_162 0 101 (dk_at dksX3_land_6 7 rfl rfl)
theorem dX3_land_151 : decode cX3_land 151 = .ok (.bipush 80, 2) := dk_16 80 (dk_at dksX3_land_6 10 rfl rfl)
theorem dX3_land_153 : decode cX3_land 153 = .ok (.bipush 7, 2) := dk_16 7 (dk_at dksX3_land_6 12 rfl rfl)
theorem dX3_land_155 : decode cX3_land 155 = .ok (.iload_n 2, 1) := dk_28 (dk_at dksX3_land_6 14 rfl rfl)
theorem dX3_land_156 : decode cX3_land 156 = .ok (.imul, 1) := dk_104 (dk_at dksX3_land_6 15 rfl rfl)
theorem dX3_land_157 : decode cX3_land 157 = .ok (.iadd, 1) := dk_96 (dk_at dksX3_land_6 16 rfl rfl)
theorem dX3_land_158 : decode cX3_land 158 = .ok (.istore_n 3, 1) := dk_62 (dk_at dksX3_land_6 17 rfl rfl)
theorem dX3_land_159 : decode cX3_land 159 = .ok (.iconst 0, 1) := dk_3 (dk_at dksX3_land_6 18 rfl rfl)
theorem dX3_land_160 : decode cX3_land 160 = .ok (.istore 4, 2) := dk_54 4 (dk_at dksX3_land_6 19 rfl rfl)
theorem dX3_land_162 : decode cX3_land 162 = .ok (.iload 4, 2) := dk_21 4 (dk_at dksX3_land_6 21 rfl rfl)
theorem dX3_land_164 : decode cX3_land 164 = .ok (.iconst 3, 1) := dk_6 (dk_at dksX3_land_6 23 rfl rfl)
theorem dX3_land_165 : decode cX3_land 165 = .ok (.if_icmp .ge 29, 3) := dk_162 0 29 (dk_at dksX3_land_7 0 rfl rfl)
theorem dX3_land_168 : decode cX3_land 168 = .ok (.aload_n 0, 1) := dk_42 (dk_at dksX3_land_7 3 rfl rfl)
theorem dX3_land_169 : decode cX3_land 169 = .ok (.getfield 42, 3) := dk_180 0 42 (dk_at dksX3_land_7 4 rfl rfl)
theorem dX3_land_172 : decode cX3_land 172 = .ok (.iload_n 3, 1) := dk_29 (dk_at dksX3_land_7 7 rfl rfl)
theorem dX3_land_173 : decode cX3_land 173 = .ok (.iload 4, 2) := dk_21 4 (dk_at dksX3_land_7 8 rfl rfl)
theorem dX3_land_175 : decode cX3_land 175 = .ok (.iadd, 1) := dk_96 (dk_at dksX3_land_7 10 rfl rfl)
theorem dX3_land_176 : decode cX3_land 176 = .ok (.aload_n 0, 1) := dk_42 (dk_at dksX3_land_7 11 rfl rfl)
theorem dX3_land_177 : decode cX3_land 177 = .ok (.getfield 29, 3) := dk_180 0 29 (dk_at dksX3_land_7 12 rfl rfl)
theorem dX3_land_180 : decode cX3_land 180 = .ok (.iconst 3, 1) := dk_6 (dk_at dksX3_land_7 15 rfl rfl)
theorem dX3_land_181 : decode cX3_land 181 = .ok (.iload_n 2, 1) := dk_28 (dk_at dksX3_land_7 16 rfl rfl)
theorem dX3_land_182 : decode cX3_land 182 = .ok (.imul, 1) := dk_104 (dk_at dksX3_land_7 17 rfl rfl)
theorem dX3_land_183 : decode cX3_land 183 = .ok (.iload 4, 2) := dk_21 4 (dk_at dksX3_land_7 18 rfl rfl)
theorem dX3_land_185 : decode cX3_land 185 = .ok (.iadd, 1) := dk_96 (dk_at dksX3_land_7 20 rfl rfl)
theorem dX3_land_186 : decode cX3_land 186 = .ok (.iaload, 1) := dk_46 (dk_at dksX3_land_7 21 rfl rfl)
theorem dX3_land_187 : decode cX3_land 187 = .ok (.iastore, 1) := dk_79 (dk_at dksX3_land_7 22 rfl rfl)
theorem dX3_land_188 : decode cX3_land 188 = .ok (.iinc 4 1, 3) := dk_132 4 1 (dk_at dksX3_land_8 0 rfl rfl)
theorem dX3_land_191 : decode cX3_land 191 = .ok (.goto (-29), 3) := dk_167 255 227 (dk_at dksX3_land_8 3 rfl rfl)
theorem dX3_land_194 : decode cX3_land 194 = .ok (.aload_n 0, 1) := dk_42 (dk_at dksX3_land_8 6 rfl rfl)
theorem dX3_land_195 : decode cX3_land 195 = .ok (.getfield 42, 3) := dk_180 0 42 (dk_at dksX3_land_8 7 rfl rfl)
theorem dX3_land_198 : decode cX3_land 198 = .ok (.iload_n 3, 1) := dk_29 (dk_at dksX3_land_8 10 rfl rfl)
theorem dX3_land_199 : decode cX3_land 199 = .ok (.iconst 3, 1) := dk_6 (dk_at dksX3_land_8 11 rfl rfl)
theorem dX3_land_200 : decode cX3_land 200 = .ok (.iadd, 1) := dk_96 (dk_at dksX3_land_8 12 rfl rfl)
theorem dX3_land_201 : decode cX3_land 201 = .ok (.iconst (-1), 1) := dk_2 (dk_at dksX3_land_8 13 rfl rfl)
theorem dX3_land_202 : decode cX3_land 202 = .ok (.iastore, 1) := dk_79 (dk_at dksX3_land_8 14 rfl rfl)
theorem dX3_land_203 : decode cX3_land 203 = .ok (.aload_n 0, 1) := dk_42 (dk_at dksX3_land_8 15 rfl rfl)
theorem dX3_land_204 : decode cX3_land 204 = .ok (.getfield 42, 3) := dk_180 0 42 (dk_at dksX3_land_8 16 rfl rfl)
theorem dX3_land_207 : decode cX3_land 207 = .ok (.iload_n 3, 1) := dk_29 (dk_at dksX3_land_8 19 rfl rfl)
theorem dX3_land_208 : decode cX3_land 208 = .ok (.iconst 5, 1) := dk_8 (dk_at dksX3_land_8 20 rfl rfl)
theorem dX3_land_209 : decode cX3_land 209 = .ok (.iadd, 1) := dk_96 (dk_at dksX3_land_8 21 rfl rfl)
theorem dX3_land_210 : decode cX3_land 210 = .ok (.aload_n 0, 1) := dk_42 (dk_at dksX3_land_8 22 rfl rfl)
theorem dX3_land_211 : decode cX3_land 211 = .ok (.getfield 42, 3) := dk_180 0 42 (dk_at dksX3_land_9 0 rfl rfl)
theorem dX3_land_214 : decode cX3_land 214 = .ok (.iload_n 3, 1) := dk_29 (dk_at dksX3_land_9 3 rfl rfl)
theorem dX3_land_215 : decode cX3_land 215 = .ok (.iaload, 1) := dk_46 (dk_at dksX3_land_9 4 rfl rfl)
theorem dX3_land_216 : decode cX3_land 216 = .ok (.aload_n 0, 1) := dk_42 (dk_at dksX3_land_9 5 rfl rfl)
theorem dX3_land_217 : decode cX3_land 217 = .ok (.getfield 42, 3) := dk_180 0 42 (dk_at dksX3_land_9 6 rfl rfl)
theorem dX3_land_220 : decode cX3_land 220 = .ok (.iload_n 3, 1) := dk_29 (dk_at dksX3_land_9 9 rfl rfl)
theorem dX3_land_221 : decode cX3_land 221 = .ok (.iconst 1, 1) := dk_4 (dk_at dksX3_land_9 10 rfl rfl)
theorem dX3_land_222 : decode cX3_land 222 = .ok (.iadd, 1) := dk_96 (dk_at dksX3_land_9 11 rfl rfl)
theorem dX3_land_223 : decode cX3_land 223 = .ok (.iaload, 1) := dk_46 (dk_at dksX3_land_9 12 rfl rfl)
theorem dX3_land_224 : decode cX3_land 224 = .ok (.if_icmp .ne 7, 3) := dk_160 0 7 (dk_at dksX3_land_9 13 rfl rfl)
theorem dX3_land_227 : decode cX3_land 227 = .ok (.iconst 0, 1) := dk_3 (dk_at dksX3_land_9 16 rfl rfl)
theorem dX3_land_228 : decode cX3_land 228 = .ok (.goto 4, 3) := dk_167 0 4 (dk_at dksX3_land_9 17 rfl rfl)
theorem dX3_land_231 : decode cX3_land 231 = .ok (.iconst (-1), 1) := dk_2 (dk_at dksX3_land_9 20 rfl rfl)
theorem dX3_land_232 : decode cX3_land 232 = .ok (.iastore, 1) := dk_79 (dk_at dksX3_land_9 21 rfl rfl)
theorem dX3_land_233 : decode cX3_land 233 = .ok (.aload_n 0, 1) := dk_42 (dk_at dksX3_land_9 22 rfl rfl)
theorem dX3_land_234 : decode cX3_land 234 = .ok (.getfield 42, 3) := dk_180 0 42 (dk_at dksX3_land_10 0 rfl rfl)
theorem dX3_land_237 : decode cX3_land 237 = .ok (.iload_n 3, 1) := dk_29 (dk_at dksX3_land_10 3 rfl rfl)
theorem dX3_land_238 : decode cX3_land 238 = .ok (.bipush 6, 2) := dk_16 6 (dk_at dksX3_land_10 4 rfl rfl)
theorem dX3_land_240 : decode cX3_land 240 = .ok (.iadd, 1) := dk_96 (dk_at dksX3_land_10 6 rfl rfl)
theorem dX3_land_241 : decode cX3_land 241 = .ok (.iconst (-1), 1) := dk_2 (dk_at dksX3_land_10 7 rfl rfl)
theorem dX3_land_242 : decode cX3_land 242 = .ok (.iastore, 1) := dk_79 (dk_at dksX3_land_10 8 rfl rfl)
theorem dX3_land_243 : decode cX3_land 243 = .ok (.iinc 2 1, 3) := dk_132 2 1 (dk_at dksX3_land_10 9 rfl rfl)
theorem dX3_land_246 : decode cX3_land 246 = .ok (.goto (-103), 3) := dk_167 255 153 (dk_at dksX3_land_10 12 rfl rfl)
theorem dX3_land_249 : decode cX3_land 249 = .ok (.aload_n 0, 1) := dk_42 (dk_at dksX3_land_10 15 rfl rfl)
theorem dX3_land_250 : decode cX3_land 250 = .ok (.getfield 225, 3) := dk_180 0 225 (dk_at dksX3_land_10 16 rfl rfl)
theorem dX3_land_253 : decode cX3_land 253 = .ok (.ireturn, 1) := dk_172 (dk_at dksX3_land_10 19 rfl rfl)
abbrev cX3_way : ByteArray := prog_19_method_53_code
def yX3_way : MethodName := ⟨RX3, "way", "(II)I"⟩
def dkwX3_way_2 : List UInt8 := [27, 28, 182, 1, 19, 167, 0, 8, 42, 27, 182, 1, 38, 172]
abbrev dktX3_way_2 : List UInt8 := dkwX3_way_2 ++ []
def dkwX3_way_1 : List UInt8 := [162, 0, 18, 42, 42, 180, 0, 42, 5, 46, 27, 28, 182, 1, 29, 167, 0, 22, 28, 8, 162, 0, 12, 42]
abbrev dktX3_way_1 : List UInt8 := dkwX3_way_1 ++ dktX3_way_2
def dkwX3_way_0 : List UInt8 := [42, 27, 182, 1, 33, 153, 0, 15, 28, 133, 9, 20, 1, 36, 184, 0, 125, 154, 0, 5, 2, 172, 28, 5]
abbrev dktX3_way_0 : List UInt8 := dkwX3_way_0 ++ dktX3_way_1
theorem dksX3_way_0 : cX3_way.data.toList.drop 0 = dktX3_way_0 := by decide +kernel
theorem dksX3_way_1 : cX3_way.data.toList.drop 24 = dktX3_way_1 := dk_seg dksX3_way_0 24 rfl rfl
theorem dksX3_way_2 : cX3_way.data.toList.drop 48 = dktX3_way_2 := dk_seg dksX3_way_1 24 rfl rfl
theorem dX3_way_0 : decode cX3_way 0 = .ok (.aload_n 0, 1) := dk_42 (dk_at dksX3_way_0 0 rfl rfl)
theorem dX3_way_1 : decode cX3_way 1 = .ok (.iload_n 1, 1) := dk_27 (dk_at dksX3_way_0 1 rfl rfl)
theorem dX3_way_2 : decode cX3_way 2 = .ok (.invokevirtual 289, 3) := dk_182 1 33 (dk_at dksX3_way_0 2 rfl rfl)
theorem dX3_way_5 : decode cX3_way 5 = .ok (.ifCond .eq 15, 3) := dk_153 0 15 (dk_at dksX3_way_0 5 rfl rfl)
theorem dX3_way_8 : decode cX3_way 8 = .ok (.iload_n 2, 1) := dk_28 (dk_at dksX3_way_0 8 rfl rfl)
theorem dX3_way_9 : decode cX3_way 9 = .ok (.i2l, 1) := dk_133 (dk_at dksX3_way_0 9 rfl rfl)
theorem dX3_way_10 : decode cX3_way 10 = .ok (.lconst 0, 1) := dk_9 (dk_at dksX3_way_0 10 rfl rfl)
theorem dX3_way_11 : decode cX3_way 11 = .ok (.ldc2_w 292, 3) := dk_20 1 36 (dk_at dksX3_way_0 11 rfl rfl)
theorem dX3_way_14 : decode cX3_way 14 = .ok (.invokestatic 125, 3) := dk_184 0 125 (dk_at dksX3_way_0 14 rfl rfl)
theorem dX3_way_17 : decode cX3_way 17 = .ok (.ifCond .ne 5, 3) := dk_154 0 5 (dk_at dksX3_way_0 17 rfl rfl)
theorem dX3_way_20 : decode cX3_way 20 = .ok (.iconst (-1), 1) := dk_2 (dk_at dksX3_way_0 20 rfl rfl)
theorem dX3_way_21 : decode cX3_way 21 = .ok (.ireturn, 1) := dk_172 (dk_at dksX3_way_0 21 rfl rfl)
theorem dX3_way_22 : decode cX3_way 22 = .ok (.iload_n 2, 1) := dk_28 (dk_at dksX3_way_0 22 rfl rfl)
theorem dX3_way_23 : decode cX3_way 23 = .ok (.iconst 2, 1) := dk_5 (dk_at dksX3_way_0 23 rfl rfl)
theorem dX3_way_24 : decode cX3_way 24 = .ok (.if_icmp .ge 18, 3) := dk_162 0 18 (dk_at dksX3_way_1 0 rfl rfl)
theorem dX3_way_27 : decode cX3_way 27 = .ok (.aload_n 0, 1) := dk_42 (dk_at dksX3_way_1 3 rfl rfl)
theorem dX3_way_28 : decode cX3_way 28 = .ok (.aload_n 0, 1) := dk_42 (dk_at dksX3_way_1 4 rfl rfl)
theorem dX3_way_29 : decode cX3_way 29 = .ok (.getfield 42, 3) := dk_180 0 42 (dk_at dksX3_way_1 5 rfl rfl)
theorem dX3_way_32 : decode cX3_way 32 = .ok (.iconst 2, 1) := dk_5 (dk_at dksX3_way_1 8 rfl rfl)
theorem dX3_way_33 : decode cX3_way 33 = .ok (.iaload, 1) := dk_46 (dk_at dksX3_way_1 9 rfl rfl)
theorem dX3_way_34 : decode cX3_way 34 = .ok (.iload_n 1, 1) := dk_27 (dk_at dksX3_way_1 10 rfl rfl)
theorem dX3_way_35 : decode cX3_way 35 = .ok (.iload_n 2, 1) := dk_28 (dk_at dksX3_way_1 11 rfl rfl)
theorem dX3_way_36 : decode cX3_way 36 = .ok (.invokevirtual 285, 3) := dk_182 1 29 (dk_at dksX3_way_1 12 rfl rfl)
theorem dX3_way_39 : decode cX3_way 39 = .ok (.goto 22, 3) := dk_167 0 22 (dk_at dksX3_way_1 15 rfl rfl)
theorem dX3_way_42 : decode cX3_way 42 = .ok (.iload_n 2, 1) := dk_28 (dk_at dksX3_way_1 18 rfl rfl)
theorem dX3_way_43 : decode cX3_way 43 = .ok (.iconst 5, 1) := dk_8 (dk_at dksX3_way_1 19 rfl rfl)
theorem dX3_way_44 : decode cX3_way 44 = .ok (.if_icmp .ge 12, 3) := dk_162 0 12 (dk_at dksX3_way_1 20 rfl rfl)
theorem dX3_way_47 : decode cX3_way 47 = .ok (.aload_n 0, 1) := dk_42 (dk_at dksX3_way_1 23 rfl rfl)
theorem dX3_way_48 : decode cX3_way 48 = .ok (.iload_n 1, 1) := dk_27 (dk_at dksX3_way_2 0 rfl rfl)
theorem dX3_way_49 : decode cX3_way 49 = .ok (.iload_n 2, 1) := dk_28 (dk_at dksX3_way_2 1 rfl rfl)
theorem dX3_way_50 : decode cX3_way 50 = .ok (.invokevirtual 275, 3) := dk_182 1 19 (dk_at dksX3_way_2 2 rfl rfl)
theorem dX3_way_53 : decode cX3_way 53 = .ok (.goto 8, 3) := dk_167 0 8 (dk_at dksX3_way_2 5 rfl rfl)
theorem dX3_way_56 : decode cX3_way 56 = .ok (.aload_n 0, 1) := dk_42 (dk_at dksX3_way_2 8 rfl rfl)
theorem dX3_way_57 : decode cX3_way 57 = .ok (.iload_n 1, 1) := dk_27 (dk_at dksX3_way_2 9 rfl rfl)
theorem dX3_way_58 : decode cX3_way 58 = .ok (.invokevirtual 294, 3) := dk_182 1 38 (dk_at dksX3_way_2 10 rfl rfl)
theorem dX3_way_61 : decode cX3_way 61 = .ok (.ireturn, 1) := dk_172 (dk_at dksX3_way_2 13 rfl rfl)
abbrev cX3_isWay : ByteArray := prog_19_method_41_code
def yX3_isWay : MethodName := ⟨RX3, "isWay", "(I)Z"⟩
def dkwX3_isWay_0 : List UInt8 := [27, 155, 0, 17, 27, 42, 180, 0, 42, 3, 46, 162, 0, 7, 4, 167, 0, 4, 3, 172]
abbrev dktX3_isWay_0 : List UInt8 := dkwX3_isWay_0 ++ []
theorem dksX3_isWay_0 : cX3_isWay.data.toList.drop 0 = dktX3_isWay_0 := by decide +kernel
theorem dX3_isWay_0 : decode cX3_isWay 0 = .ok (.iload_n 1, 1) := dk_27 (dk_at dksX3_isWay_0 0 rfl rfl)
theorem dX3_isWay_1 : decode cX3_isWay 1 = .ok (.ifCond .lt 17, 3) := dk_155 0 17 (dk_at dksX3_isWay_0 1 rfl rfl)
theorem dX3_isWay_4 : decode cX3_isWay 4 = .ok (.iload_n 1, 1) := dk_27 (dk_at dksX3_isWay_0 4 rfl rfl)
theorem dX3_isWay_5 : decode cX3_isWay 5 = .ok (.aload_n 0, 1) := dk_42 (dk_at dksX3_isWay_0 5 rfl rfl)
theorem dX3_isWay_6 : decode cX3_isWay 6 = .ok (.getfield 42, 3) := dk_180 0 42 (dk_at dksX3_isWay_0 6 rfl rfl)
theorem dX3_isWay_9 : decode cX3_isWay 9 = .ok (.iconst 0, 1) := dk_3 (dk_at dksX3_isWay_0 9 rfl rfl)
theorem dX3_isWay_10 : decode cX3_isWay 10 = .ok (.iaload, 1) := dk_46 (dk_at dksX3_isWay_0 10 rfl rfl)
theorem dX3_isWay_11 : decode cX3_isWay 11 = .ok (.if_icmp .ge 7, 3) := dk_162 0 7 (dk_at dksX3_isWay_0 11 rfl rfl)
theorem dX3_isWay_14 : decode cX3_isWay 14 = .ok (.iconst 1, 1) := dk_4 (dk_at dksX3_isWay_0 14 rfl rfl)
theorem dX3_isWay_15 : decode cX3_isWay 15 = .ok (.goto 4, 3) := dk_167 0 4 (dk_at dksX3_isWay_0 15 rfl rfl)
theorem dX3_isWay_18 : decode cX3_isWay 18 = .ok (.iconst 0, 1) := dk_3 (dk_at dksX3_isWay_0 18 rfl rfl)
theorem dX3_isWay_19 : decode cX3_isWay 19 = .ok (.ireturn, 1) := dk_172 (dk_at dksX3_isWay_0 19 rfl rfl)
abbrev cX3_endOf : ByteArray := prog_19_method_46_code
def yX3_endOf : MethodName := ⟨RX3, "endOf", "(III)I"⟩
def dkwX3_endOf_0 : List UInt8 := [42, 28, 27, 28, 122, 4, 126, 4, 160, 0, 9, 4, 29, 100, 167, 0, 4, 29, 182, 1, 19, 172]
abbrev dktX3_endOf_0 : List UInt8 := dkwX3_endOf_0 ++ []
theorem dksX3_endOf_0 : cX3_endOf.data.toList.drop 0 = dktX3_endOf_0 := by decide +kernel
theorem dX3_endOf_0 : decode cX3_endOf 0 = .ok (.aload_n 0, 1) := dk_42 (dk_at dksX3_endOf_0 0 rfl rfl)
theorem dX3_endOf_1 : decode cX3_endOf 1 = .ok (.iload_n 2, 1) := dk_28 (dk_at dksX3_endOf_0 1 rfl rfl)
theorem dX3_endOf_2 : decode cX3_endOf 2 = .ok (.iload_n 1, 1) := dk_27 (dk_at dksX3_endOf_0 2 rfl rfl)
theorem dX3_endOf_3 : decode cX3_endOf 3 = .ok (.iload_n 2, 1) := dk_28 (dk_at dksX3_endOf_0 3 rfl rfl)
theorem dX3_endOf_4 : decode cX3_endOf 4 = .ok (.ishr, 1) := dk_122 (dk_at dksX3_endOf_0 4 rfl rfl)
theorem dX3_endOf_5 : decode cX3_endOf 5 = .ok (.iconst 1, 1) := dk_4 (dk_at dksX3_endOf_0 5 rfl rfl)
theorem dX3_endOf_6 : decode cX3_endOf 6 = .ok (.iand, 1) := dk_126 (dk_at dksX3_endOf_0 6 rfl rfl)
theorem dX3_endOf_7 : decode cX3_endOf 7 = .ok (.iconst 1, 1) := dk_4 (dk_at dksX3_endOf_0 7 rfl rfl)
theorem dX3_endOf_8 : decode cX3_endOf 8 = .ok (.if_icmp .ne 9, 3) := dk_160 0 9 (dk_at dksX3_endOf_0 8 rfl rfl)
theorem dX3_endOf_11 : decode cX3_endOf 11 = .ok (.iconst 1, 1) := dk_4 (dk_at dksX3_endOf_0 11 rfl rfl)
theorem dX3_endOf_12 : decode cX3_endOf 12 = .ok (.iload_n 3, 1) := dk_29 (dk_at dksX3_endOf_0 12 rfl rfl)
theorem dX3_endOf_13 : decode cX3_endOf 13 = .ok (.isub, 1) := dk_100 (dk_at dksX3_endOf_0 13 rfl rfl)
theorem dX3_endOf_14 : decode cX3_endOf 14 = .ok (.goto 4, 3) := dk_167 0 4 (dk_at dksX3_endOf_0 14 rfl rfl)
theorem dX3_endOf_17 : decode cX3_endOf 17 = .ok (.iload_n 3, 1) := dk_29 (dk_at dksX3_endOf_0 17 rfl rfl)
theorem dX3_endOf_18 : decode cX3_endOf 18 = .ok (.invokevirtual 275, 3) := dk_182 1 19 (dk_at dksX3_endOf_0 18 rfl rfl)
theorem dX3_endOf_21 : decode cX3_endOf 21 = .ok (.ireturn, 1) := dk_172 (dk_at dksX3_endOf_0 21 rfl rfl)
abbrev cX3_wayOf : ByteArray := prog_19_method_44_code
def yX3_wayOf : MethodName := ⟨RX3, "wayOf", "(II)I"⟩
def dkwX3_wayOf_0 : List UInt8 := [42, 180, 0, 42, 16, 10, 8, 27, 104, 96, 28, 96, 46, 172]
abbrev dktX3_wayOf_0 : List UInt8 := dkwX3_wayOf_0 ++ []
theorem dksX3_wayOf_0 : cX3_wayOf.data.toList.drop 0 = dktX3_wayOf_0 := by decide +kernel
theorem dX3_wayOf_0 : decode cX3_wayOf 0 = .ok (.aload_n 0, 1) := dk_42 (dk_at dksX3_wayOf_0 0 rfl rfl)
theorem dX3_wayOf_1 : decode cX3_wayOf 1 = .ok (.getfield 42, 3) := dk_180 0 42 (dk_at dksX3_wayOf_0 1 rfl rfl)
theorem dX3_wayOf_4 : decode cX3_wayOf 4 = .ok (.bipush 10, 2) := dk_16 10 (dk_at dksX3_wayOf_0 4 rfl rfl)
theorem dX3_wayOf_6 : decode cX3_wayOf 6 = .ok (.iconst 5, 1) := dk_8 (dk_at dksX3_wayOf_0 6 rfl rfl)
theorem dX3_wayOf_7 : decode cX3_wayOf 7 = .ok (.iload_n 1, 1) := dk_27 (dk_at dksX3_wayOf_0 7 rfl rfl)
theorem dX3_wayOf_8 : decode cX3_wayOf 8 = .ok (.imul, 1) := dk_104 (dk_at dksX3_wayOf_0 8 rfl rfl)
theorem dX3_wayOf_9 : decode cX3_wayOf 9 = .ok (.iadd, 1) := dk_96 (dk_at dksX3_wayOf_0 9 rfl rfl)
theorem dX3_wayOf_10 : decode cX3_wayOf 10 = .ok (.iload_n 2, 1) := dk_28 (dk_at dksX3_wayOf_0 10 rfl rfl)
theorem dX3_wayOf_11 : decode cX3_wayOf 11 = .ok (.iadd, 1) := dk_96 (dk_at dksX3_wayOf_0 11 rfl rfl)
theorem dX3_wayOf_12 : decode cX3_wayOf 12 = .ok (.iaload, 1) := dk_46 (dk_at dksX3_wayOf_0 12 rfl rfl)
theorem dX3_wayOf_13 : decode cX3_wayOf 13 = .ok (.ireturn, 1) := dk_172 (dk_at dksX3_wayOf_0 13 rfl rfl)
abbrev cX3_onWay : ByteArray := prog_19_method_47_code
def yX3_onWay : MethodName := ⟨RX3, "onWay", "(I)I"⟩
def dkwX3_onWay_1 : List UInt8 := [160, 0, 7, 4, 167, 0, 4, 3, 96, 61, 132, 3, 1, 167, 255, 225, 28, 172]
abbrev dktX3_onWay_1 : List UInt8 := dkwX3_onWay_1 ++ []
def dkwX3_onWay_0 : List UInt8 := [3, 61, 3, 62, 29, 42, 180, 0, 42, 4, 46, 162, 0, 27, 28, 42, 29, 6, 182, 1, 23, 27]
abbrev dktX3_onWay_0 : List UInt8 := dkwX3_onWay_0 ++ dktX3_onWay_1
theorem dksX3_onWay_0 : cX3_onWay.data.toList.drop 0 = dktX3_onWay_0 := by decide +kernel
theorem dksX3_onWay_1 : cX3_onWay.data.toList.drop 22 = dktX3_onWay_1 := dk_seg dksX3_onWay_0 22 rfl rfl
theorem dX3_onWay_0 : decode cX3_onWay 0 = .ok (.iconst 0, 1) := dk_3 (dk_at dksX3_onWay_0 0 rfl rfl)
theorem dX3_onWay_1 : decode cX3_onWay 1 = .ok (.istore_n 2, 1) := dk_61 (dk_at dksX3_onWay_0 1 rfl rfl)
theorem dX3_onWay_2 : decode cX3_onWay 2 = .ok (.iconst 0, 1) := dk_3 (dk_at dksX3_onWay_0 2 rfl rfl)
theorem dX3_onWay_3 : decode cX3_onWay 3 = .ok (.istore_n 3, 1) := dk_62 (dk_at dksX3_onWay_0 3 rfl rfl)
theorem dX3_onWay_4 : decode cX3_onWay 4 = .ok (.iload_n 3, 1) := dk_29 (dk_at dksX3_onWay_0 4 rfl rfl)
theorem dX3_onWay_5 : decode cX3_onWay 5 = .ok (.aload_n 0, 1) := dk_42 (dk_at dksX3_onWay_0 5 rfl rfl)
theorem dX3_onWay_6 : decode cX3_onWay 6 = .ok (.getfield 42, 3) := dk_180 0 42 (dk_at dksX3_onWay_0 6 rfl rfl)
theorem dX3_onWay_9 : decode cX3_onWay 9 = .ok (.iconst 1, 1) := dk_4 (dk_at dksX3_onWay_0 9 rfl rfl)
theorem dX3_onWay_10 : decode cX3_onWay 10 = .ok (.iaload, 1) := dk_46 (dk_at dksX3_onWay_0 10 rfl rfl)
theorem dX3_onWay_11 : decode cX3_onWay 11 = .ok (.if_icmp .ge 27, 3) := dk_162 0 27 (dk_at dksX3_onWay_0 11 rfl rfl)
theorem dX3_onWay_14 : decode cX3_onWay 14 = .ok (.iload_n 2, 1) := dk_28 (dk_at dksX3_onWay_0 14 rfl rfl)
theorem dX3_onWay_15 : decode cX3_onWay 15 = .ok (.aload_n 0, 1) := dk_42 (dk_at dksX3_onWay_0 15 rfl rfl)
theorem dX3_onWay_16 : decode cX3_onWay 16 = .ok (.iload_n 3, 1) := dk_29 (dk_at dksX3_onWay_0 16 rfl rfl)
theorem dX3_onWay_17 : decode cX3_onWay 17 = .ok (.iconst 3, 1) := dk_6 (dk_at dksX3_onWay_0 17 rfl rfl)
theorem dX3_onWay_18 : decode cX3_onWay 18 = .ok (.invokevirtual 279, 3) := dk_182 1 23 (dk_at dksX3_onWay_0 18 rfl rfl)
theorem dX3_onWay_21 : decode cX3_onWay 21 = .ok (.iload_n 1, 1) := dk_27 (dk_at dksX3_onWay_0 21 rfl rfl)
theorem dX3_onWay_22 : decode cX3_onWay 22 = .ok (.if_icmp .ne 7, 3) := dk_160 0 7 (dk_at dksX3_onWay_1 0 rfl rfl)
theorem dX3_onWay_25 : decode cX3_onWay 25 = .ok (.iconst 1, 1) := dk_4 (dk_at dksX3_onWay_1 3 rfl rfl)
theorem dX3_onWay_26 : decode cX3_onWay 26 = .ok (.goto 4, 3) := dk_167 0 4 (dk_at dksX3_onWay_1 4 rfl rfl)
theorem dX3_onWay_29 : decode cX3_onWay 29 = .ok (.iconst 0, 1) := dk_3 (dk_at dksX3_onWay_1 7 rfl rfl)
theorem dX3_onWay_30 : decode cX3_onWay 30 = .ok (.iadd, 1) := dk_96 (dk_at dksX3_onWay_1 8 rfl rfl)
theorem dX3_onWay_31 : decode cX3_onWay 31 = .ok (.istore_n 2, 1) := dk_61 (dk_at dksX3_onWay_1 9 rfl rfl)
theorem dX3_onWay_32 : decode cX3_onWay 32 = .ok (.iinc 3 1, 3) := dk_132 3 1 (dk_at dksX3_onWay_1 10 rfl rfl)
theorem dX3_onWay_35 : decode cX3_onWay 35 = .ok (.goto (-31), 3) := dk_167 255 225 (dk_at dksX3_onWay_1 13 rfl rfl)
theorem dX3_onWay_38 : decode cX3_onWay 38 = .ok (.iload_n 2, 1) := dk_28 (dk_at dksX3_onWay_1 16 rfl rfl)
theorem dX3_onWay_39 : decode cX3_onWay 39 = .ok (.ireturn, 1) := dk_172 (dk_at dksX3_onWay_1 17 rfl rfl)
abbrev cX3_goerOf : ByteArray := prog_19_method_45_code
def yX3_goerOf : MethodName := ⟨RX3, "goerOf", "(II)I"⟩
def dkwX3_goerOf_0 : List UInt8 := [42, 180, 0, 42, 16, 80, 16, 7, 27, 104, 96, 28, 96, 46, 172]
abbrev dktX3_goerOf_0 : List UInt8 := dkwX3_goerOf_0 ++ []
theorem dksX3_goerOf_0 : cX3_goerOf.data.toList.drop 0 = dktX3_goerOf_0 := by decide +kernel
theorem dX3_goerOf_0 : decode cX3_goerOf 0 = .ok (.aload_n 0, 1) := dk_42 (dk_at dksX3_goerOf_0 0 rfl rfl)
theorem dX3_goerOf_1 : decode cX3_goerOf 1 = .ok (.getfield 42, 3) := dk_180 0 42 (dk_at dksX3_goerOf_0 1 rfl rfl)
theorem dX3_goerOf_4 : decode cX3_goerOf 4 = .ok (.bipush 80, 2) := dk_16 80 (dk_at dksX3_goerOf_0 4 rfl rfl)
theorem dX3_goerOf_6 : decode cX3_goerOf 6 = .ok (.bipush 7, 2) := dk_16 7 (dk_at dksX3_goerOf_0 6 rfl rfl)
theorem dX3_goerOf_8 : decode cX3_goerOf 8 = .ok (.iload_n 1, 1) := dk_27 (dk_at dksX3_goerOf_0 8 rfl rfl)
theorem dX3_goerOf_9 : decode cX3_goerOf 9 = .ok (.imul, 1) := dk_104 (dk_at dksX3_goerOf_0 9 rfl rfl)
theorem dX3_goerOf_10 : decode cX3_goerOf 10 = .ok (.iadd, 1) := dk_96 (dk_at dksX3_goerOf_0 10 rfl rfl)
theorem dX3_goerOf_11 : decode cX3_goerOf 11 = .ok (.iload_n 2, 1) := dk_28 (dk_at dksX3_goerOf_0 11 rfl rfl)
theorem dX3_goerOf_12 : decode cX3_goerOf 12 = .ok (.iadd, 1) := dk_96 (dk_at dksX3_goerOf_0 12 rfl rfl)
theorem dX3_goerOf_13 : decode cX3_goerOf 13 = .ok (.iaload, 1) := dk_46 (dk_at dksX3_goerOf_0 13 rfl rfl)
theorem dX3_goerOf_14 : decode cX3_goerOf 14 = .ok (.ireturn, 1) := dk_172 (dk_at dksX3_goerOf_0 14 rfl rfl)
abbrev cX3_goer : ByteArray := prog_19_method_54_code
def yX3_goer : MethodName := ⟨RX3, "goer", "(II)I"⟩
def dkwX3_goer_1 : List UInt8 := [182, 1, 23, 167, 0, 5, 16, 254, 172]
abbrev dktX3_goer_1 : List UInt8 := dkwX3_goer_1 ++ []
def dkwX3_goer_0 : List UInt8 := [42, 27, 182, 1, 26, 153, 0, 24, 28, 133, 9, 20, 1, 41, 184, 0, 125, 153, 0, 12, 42, 27, 28]
abbrev dktX3_goer_0 : List UInt8 := dkwX3_goer_0 ++ dktX3_goer_1
theorem dksX3_goer_0 : cX3_goer.data.toList.drop 0 = dktX3_goer_0 := by decide +kernel
theorem dksX3_goer_1 : cX3_goer.data.toList.drop 23 = dktX3_goer_1 := dk_seg dksX3_goer_0 23 rfl rfl
theorem dX3_goer_0 : decode cX3_goer 0 = .ok (.aload_n 0, 1) := dk_42 (dk_at dksX3_goer_0 0 rfl rfl)
theorem dX3_goer_1 : decode cX3_goer 1 = .ok (.iload_n 1, 1) := dk_27 (dk_at dksX3_goer_0 1 rfl rfl)
theorem dX3_goer_2 : decode cX3_goer 2 = .ok (.invokevirtual 282, 3) := dk_182 1 26 (dk_at dksX3_goer_0 2 rfl rfl)
theorem dX3_goer_5 : decode cX3_goer 5 = .ok (.ifCond .eq 24, 3) := dk_153 0 24 (dk_at dksX3_goer_0 5 rfl rfl)
theorem dX3_goer_8 : decode cX3_goer 8 = .ok (.iload_n 2, 1) := dk_28 (dk_at dksX3_goer_0 8 rfl rfl)
theorem dX3_goer_9 : decode cX3_goer 9 = .ok (.i2l, 1) := dk_133 (dk_at dksX3_goer_0 9 rfl rfl)
theorem dX3_goer_10 : decode cX3_goer 10 = .ok (.lconst 0, 1) := dk_9 (dk_at dksX3_goer_0 10 rfl rfl)
theorem dX3_goer_11 : decode cX3_goer 11 = .ok (.ldc2_w 297, 3) := dk_20 1 41 (dk_at dksX3_goer_0 11 rfl rfl)
theorem dX3_goer_14 : decode cX3_goer 14 = .ok (.invokestatic 125, 3) := dk_184 0 125 (dk_at dksX3_goer_0 14 rfl rfl)
theorem dX3_goer_17 : decode cX3_goer 17 = .ok (.ifCond .eq 12, 3) := dk_153 0 12 (dk_at dksX3_goer_0 17 rfl rfl)
theorem dX3_goer_20 : decode cX3_goer 20 = .ok (.aload_n 0, 1) := dk_42 (dk_at dksX3_goer_0 20 rfl rfl)
theorem dX3_goer_21 : decode cX3_goer 21 = .ok (.iload_n 1, 1) := dk_27 (dk_at dksX3_goer_0 21 rfl rfl)
theorem dX3_goer_22 : decode cX3_goer 22 = .ok (.iload_n 2, 1) := dk_28 (dk_at dksX3_goer_0 22 rfl rfl)
theorem dX3_goer_23 : decode cX3_goer 23 = .ok (.invokevirtual 279, 3) := dk_182 1 23 (dk_at dksX3_goer_1 0 rfl rfl)
theorem dX3_goer_26 : decode cX3_goer 26 = .ok (.goto 5, 3) := dk_167 0 5 (dk_at dksX3_goer_1 3 rfl rfl)
theorem dX3_goer_29 : decode cX3_goer 29 = .ok (.bipush (-2), 2) := dk_16 254 (dk_at dksX3_goer_1 6 rfl rfl)
theorem dX3_goer_31 : decode cX3_goer 31 = .ok (.ireturn, 1) := dk_172 (dk_at dksX3_goer_1 8 rfl rfl)
abbrev cX3_isGoer : ByteArray := prog_19_method_42_code
def yX3_isGoer : MethodName := ⟨RX3, "isGoer", "(I)Z"⟩
def dkwX3_isGoer_0 : List UInt8 := [27, 155, 0, 17, 27, 42, 180, 0, 42, 4, 46, 162, 0, 7, 4, 167, 0, 4, 3, 172]
abbrev dktX3_isGoer_0 : List UInt8 := dkwX3_isGoer_0 ++ []
theorem dksX3_isGoer_0 : cX3_isGoer.data.toList.drop 0 = dktX3_isGoer_0 := by decide +kernel
theorem dX3_isGoer_0 : decode cX3_isGoer 0 = .ok (.iload_n 1, 1) := dk_27 (dk_at dksX3_isGoer_0 0 rfl rfl)
theorem dX3_isGoer_1 : decode cX3_isGoer 1 = .ok (.ifCond .lt 17, 3) := dk_155 0 17 (dk_at dksX3_isGoer_0 1 rfl rfl)
theorem dX3_isGoer_4 : decode cX3_isGoer 4 = .ok (.iload_n 1, 1) := dk_27 (dk_at dksX3_isGoer_0 4 rfl rfl)
theorem dX3_isGoer_5 : decode cX3_isGoer 5 = .ok (.aload_n 0, 1) := dk_42 (dk_at dksX3_isGoer_0 5 rfl rfl)
theorem dX3_isGoer_6 : decode cX3_isGoer 6 = .ok (.getfield 42, 3) := dk_180 0 42 (dk_at dksX3_isGoer_0 6 rfl rfl)
theorem dX3_isGoer_9 : decode cX3_isGoer 9 = .ok (.iconst 1, 1) := dk_4 (dk_at dksX3_isGoer_0 9 rfl rfl)
theorem dX3_isGoer_10 : decode cX3_isGoer 10 = .ok (.iaload, 1) := dk_46 (dk_at dksX3_isGoer_0 10 rfl rfl)
theorem dX3_isGoer_11 : decode cX3_isGoer 11 = .ok (.if_icmp .ge 7, 3) := dk_162 0 7 (dk_at dksX3_isGoer_0 11 rfl rfl)
theorem dX3_isGoer_14 : decode cX3_isGoer 14 = .ok (.iconst 1, 1) := dk_4 (dk_at dksX3_isGoer_0 14 rfl rfl)
theorem dX3_isGoer_15 : decode cX3_isGoer 15 = .ok (.goto 4, 3) := dk_167 0 4 (dk_at dksX3_isGoer_0 15 rfl rfl)
theorem dX3_isGoer_18 : decode cX3_isGoer 18 = .ok (.iconst 0, 1) := dk_3 (dk_at dksX3_isGoer_0 18 rfl rfl)
theorem dX3_isGoer_19 : decode cX3_isGoer 19 = .ok (.ireturn, 1) := dk_172 (dk_at dksX3_isGoer_0 19 rfl rfl)
abbrev cX3_place : ByteArray := prog_19_method_55_code
def yX3_place : MethodName := ⟨RX3, "place", "(II)I"⟩
def dkwX3_place_5 : List UInt8 := [167, 255, 225, 29, 172]
abbrev dktX3_place_5 : List UInt8 := dkwX3_place_5 ++ []
def dkwX3_place_4 : List UInt8 := [180, 0, 48, 21, 4, 46, 155, 0, 10, 4, 21, 4, 120, 167, 0, 4, 3, 128, 62, 132, 4, 1]
abbrev dktX3_place_4 : List UInt8 := dkwX3_place_4 ++ dktX3_place_5
def dkwX3_place_3 : List UInt8 := [182, 1, 51, 100, 172, 42, 27, 182, 1, 54, 3, 62, 3, 54, 4, 21, 4, 16, 8, 162, 0, 30, 29, 42]
abbrev dktX3_place_3 : List UInt8 := dkwX3_place_3 ++ dktX3_place_4
def dkwX3_place_2 : List UInt8 := [182, 1, 51, 172, 28, 6, 160, 0, 22, 42, 42, 180, 0, 42, 5, 46, 27, 3, 182, 1, 48, 42, 27]
abbrev dktX3_place_2 : List UInt8 := dkwX3_place_2 ++ dktX3_place_3
def dkwX3_place_1 : List UInt8 := [162, 0, 16, 42, 42, 180, 0, 42, 5, 46, 27, 28, 182, 1, 48, 172, 28, 5, 160, 0, 9, 42, 27]
abbrev dktX3_place_1 : List UInt8 := dkwX3_place_1 ++ dktX3_place_2
def dkwX3_place_0 : List UInt8 := [27, 184, 1, 43, 153, 0, 15, 28, 133, 9, 20, 1, 46, 184, 0, 125, 154, 0, 6, 16, 156, 172, 28, 5]
abbrev dktX3_place_0 : List UInt8 := dkwX3_place_0 ++ dktX3_place_1
theorem dksX3_place_0 : cX3_place.data.toList.drop 0 = dktX3_place_0 := by decide +kernel
theorem dksX3_place_1 : cX3_place.data.toList.drop 24 = dktX3_place_1 := dk_seg dksX3_place_0 24 rfl rfl
theorem dksX3_place_2 : cX3_place.data.toList.drop 47 = dktX3_place_2 := dk_seg dksX3_place_1 23 rfl rfl
theorem dksX3_place_3 : cX3_place.data.toList.drop 70 = dktX3_place_3 := dk_seg dksX3_place_2 23 rfl rfl
theorem dksX3_place_4 : cX3_place.data.toList.drop 94 = dktX3_place_4 := dk_seg dksX3_place_3 24 rfl rfl
theorem dksX3_place_5 : cX3_place.data.toList.drop 116 = dktX3_place_5 := dk_seg dksX3_place_4 22 rfl rfl
theorem dX3_place_0 : decode cX3_place 0 = .ok (.iload_n 1, 1) := dk_27 (dk_at dksX3_place_0 0 rfl rfl)
theorem dX3_place_1 : decode cX3_place 1 = .ok (.invokestatic 299, 3) := dk_184 1 43 (dk_at dksX3_place_0 1 rfl rfl)
theorem dX3_place_4 : decode cX3_place 4 = .ok (.ifCond .eq 15, 3) := dk_153 0 15 (dk_at dksX3_place_0 4 rfl rfl)
theorem dX3_place_7 : decode cX3_place 7 = .ok (.iload_n 2, 1) := dk_28 (dk_at dksX3_place_0 7 rfl rfl)
theorem dX3_place_8 : decode cX3_place 8 = .ok (.i2l, 1) := dk_133 (dk_at dksX3_place_0 8 rfl rfl)
theorem dX3_place_9 : decode cX3_place 9 = .ok (.lconst 0, 1) := dk_9 (dk_at dksX3_place_0 9 rfl rfl)
theorem dX3_place_10 : decode cX3_place 10 = .ok (.ldc2_w 302, 3) := dk_20 1 46 (dk_at dksX3_place_0 10 rfl rfl)
theorem dX3_place_13 : decode cX3_place 13 = .ok (.invokestatic 125, 3) := dk_184 0 125 (dk_at dksX3_place_0 13 rfl rfl)
theorem dX3_place_16 : decode cX3_place 16 = .ok (.ifCond .ne 6, 3) := dk_154 0 6 (dk_at dksX3_place_0 16 rfl rfl)
theorem dX3_place_19 : decode cX3_place 19 = .ok (.bipush (-100), 2) := dk_16 156 (dk_at dksX3_place_0 19 rfl rfl)
theorem dX3_place_21 : decode cX3_place 21 = .ok (.ireturn, 1) := dk_172 (dk_at dksX3_place_0 21 rfl rfl)
theorem dX3_place_22 : decode cX3_place 22 = .ok (.iload_n 2, 1) := dk_28 (dk_at dksX3_place_0 22 rfl rfl)
theorem dX3_place_23 : decode cX3_place 23 = .ok (.iconst 2, 1) := dk_5 (dk_at dksX3_place_0 23 rfl rfl)
theorem dX3_place_24 : decode cX3_place 24 = .ok (.if_icmp .ge 16, 3) := dk_162 0 16 (dk_at dksX3_place_1 0 rfl rfl)
theorem dX3_place_27 : decode cX3_place 27 = .ok (.aload_n 0, 1) := dk_42 (dk_at dksX3_place_1 3 rfl rfl)
theorem dX3_place_28 : decode cX3_place 28 = .ok (.aload_n 0, 1) := dk_42 (dk_at dksX3_place_1 4 rfl rfl)
theorem dX3_place_29 : decode cX3_place 29 = .ok (.getfield 42, 3) := dk_180 0 42 (dk_at dksX3_place_1 5 rfl rfl)
theorem dX3_place_32 : decode cX3_place 32 = .ok (.iconst 2, 1) := dk_5 (dk_at dksX3_place_1 8 rfl rfl)
theorem dX3_place_33 : decode cX3_place 33 = .ok (.iaload, 1) := dk_46 (dk_at dksX3_place_1 9 rfl rfl)
theorem dX3_place_34 : decode cX3_place 34 = .ok (.iload_n 1, 1) := dk_27 (dk_at dksX3_place_1 10 rfl rfl)
theorem dX3_place_35 : decode cX3_place 35 = .ok (.iload_n 2, 1) := dk_28 (dk_at dksX3_place_1 11 rfl rfl)
theorem dX3_place_36 : decode cX3_place 36 = .ok (.invokevirtual 304, 3) := dk_182 1 48 (dk_at dksX3_place_1 12 rfl rfl)
theorem dX3_place_39 : decode cX3_place 39 = .ok (.ireturn, 1) := dk_172 (dk_at dksX3_place_1 15 rfl rfl)
theorem dX3_place_40 : decode cX3_place 40 = .ok (.iload_n 2, 1) := dk_28 (dk_at dksX3_place_1 16 rfl rfl)
theorem dX3_place_41 : decode cX3_place 41 = .ok (.iconst 2, 1) := dk_5 (dk_at dksX3_place_1 17 rfl rfl)
theorem dX3_place_42 : decode cX3_place 42 = .ok (.if_icmp .ne 9, 3) := dk_160 0 9 (dk_at dksX3_place_1 18 rfl rfl)
theorem dX3_place_45 : decode cX3_place 45 = .ok (.aload_n 0, 1) := dk_42 (dk_at dksX3_place_1 21 rfl rfl)
theorem dX3_place_46 : decode cX3_place 46 = .ok (.iload_n 1, 1) := dk_27 (dk_at dksX3_place_1 22 rfl rfl)
theorem dX3_place_47 : decode cX3_place 47 = .ok (.invokevirtual 307, 3) := dk_182 1 51 (dk_at dksX3_place_2 0 rfl rfl)
theorem dX3_place_50 : decode cX3_place 50 = .ok (.ireturn, 1) := dk_172 (dk_at dksX3_place_2 3 rfl rfl)
theorem dX3_place_51 : decode cX3_place 51 = .ok (.iload_n 2, 1) := dk_28 (dk_at dksX3_place_2 4 rfl rfl)
theorem dX3_place_52 : decode cX3_place 52 = .ok (.iconst 3, 1) := dk_6 (dk_at dksX3_place_2 5 rfl rfl)
theorem dX3_place_53 : decode cX3_place 53 = .ok (.if_icmp .ne 22, 3) := dk_160 0 22 (dk_at dksX3_place_2 6 rfl rfl)
theorem dX3_place_56 : decode cX3_place 56 = .ok (.aload_n 0, 1) := dk_42 (dk_at dksX3_place_2 9 rfl rfl)
theorem dX3_place_57 : decode cX3_place 57 = .ok (.aload_n 0, 1) := dk_42 (dk_at dksX3_place_2 10 rfl rfl)
theorem dX3_place_58 : decode cX3_place 58 = .ok (.getfield 42, 3) := dk_180 0 42 (dk_at dksX3_place_2 11 rfl rfl)
theorem dX3_place_61 : decode cX3_place 61 = .ok (.iconst 2, 1) := dk_5 (dk_at dksX3_place_2 14 rfl rfl)
theorem dX3_place_62 : decode cX3_place 62 = .ok (.iaload, 1) := dk_46 (dk_at dksX3_place_2 15 rfl rfl)
theorem dX3_place_63 : decode cX3_place 63 = .ok (.iload_n 1, 1) := dk_27 (dk_at dksX3_place_2 16 rfl rfl)
theorem dX3_place_64 : decode cX3_place 64 = .ok (.iconst 0, 1) := dk_3 (dk_at dksX3_place_2 17 rfl rfl)
theorem dX3_place_65 : decode cX3_place 65 = .ok (.invokevirtual 304, 3) := dk_182 1 48 (dk_at dksX3_place_2 18 rfl rfl)
theorem dX3_place_68 : decode cX3_place 68 = .ok (.aload_n 0, 1) := dk_42 (dk_at dksX3_place_2 21 rfl rfl)
theorem dX3_place_69 : decode cX3_place 69 = .ok (.iload_n 1, 1) := dk_27 (dk_at dksX3_place_2 22 rfl rfl)
theorem dX3_place_70 : decode cX3_place 70 = .ok (.invokevirtual 307, 3) := dk_182 1 51 (dk_at dksX3_place_3 0 rfl rfl)
theorem dX3_place_73 : decode cX3_place 73 = .ok (.isub, 1) := dk_100 (dk_at dksX3_place_3 3 rfl rfl)
theorem dX3_place_74 : decode cX3_place 74 = .ok (.ireturn, 1) := dk_172 (dk_at dksX3_place_3 4 rfl rfl)
theorem dX3_place_75 : decode cX3_place 75 = .ok (.aload_n 0, 1) := dk_42 (dk_at dksX3_place_3 5 rfl rfl)
theorem dX3_place_76 : decode cX3_place 76 = .ok (.iload_n 1, 1) := dk_27 (dk_at dksX3_place_3 6 rfl rfl)
theorem dX3_place_77 : decode cX3_place 77 = .ok (.invokevirtual 310, 3) := dk_182 1 54 (dk_at dksX3_place_3 7 rfl rfl)
theorem dX3_place_80 : decode cX3_place 80 = .ok (.iconst 0, 1) := dk_3 (dk_at dksX3_place_3 10 rfl rfl)
theorem dX3_place_81 : decode cX3_place 81 = .ok (.istore_n 3, 1) := dk_62 (dk_at dksX3_place_3 11 rfl rfl)
theorem dX3_place_82 : decode cX3_place 82 = .ok (.iconst 0, 1) := dk_3 (dk_at dksX3_place_3 12 rfl rfl)
theorem dX3_place_83 : decode cX3_place 83 = .ok (.istore 4, 2) := dk_54 4 (dk_at dksX3_place_3 13 rfl rfl)
theorem dX3_place_85 : decode cX3_place 85 = .ok (.iload 4, 2) := dk_21 4 (dk_at dksX3_place_3 15 rfl rfl)
theorem dX3_place_87 : decode cX3_place 87 = .ok (.bipush 8, 2) := dk_16 8 (dk_at dksX3_place_3 17 rfl rfl)
theorem dX3_place_89 : decode cX3_place 89 = .ok (.if_icmp .ge 30, 3) := dk_162 0 30 (dk_at dksX3_place_3 19 rfl rfl)
theorem dX3_place_92 : decode cX3_place 92 = .ok (.iload_n 3, 1) := dk_29 (dk_at dksX3_place_3 22 rfl rfl)
theorem dX3_place_93 : decode cX3_place 93 = .ok (.aload_n 0, 1) := dk_42 (dk_at dksX3_place_3 23 rfl rfl)
theorem dX3_place_94 : decode cX3_place 94 = .ok (.getfield 48, 3) := dk_180 0 48 (dk_at dksX3_place_4 0 rfl rfl)
theorem dX3_place_97 : decode cX3_place 97 = .ok (.iload 4, 2) := dk_21 4 (dk_at dksX3_place_4 3 rfl rfl)
theorem dX3_place_99 : decode cX3_place 99 = .ok (.iaload, 1) := dk_46 (dk_at dksX3_place_4 5 rfl rfl)
theorem dX3_place_100 : decode cX3_place 100 = .ok (.ifCond .lt 10, 3) := dk_155 0 10 (dk_at dksX3_place_4 6 rfl rfl)
theorem dX3_place_103 : decode cX3_place 103 = .ok (.iconst 1, 1) := dk_4 (dk_at dksX3_place_4 9 rfl rfl)
theorem dX3_place_104 : decode cX3_place 104 = .ok (.iload 4, 2) := dk_21 4 (dk_at dksX3_place_4 10 rfl rfl)
theorem dX3_place_106 : decode cX3_place 106 = .ok (.ishl, 1) := dk_120 (dk_at dksX3_place_4 12 rfl rfl)
theorem dX3_place_107 : decode cX3_place 107 = .ok (.goto 4, 3) := dk_167 0 4 (dk_at dksX3_place_4 13 rfl rfl)
theorem dX3_place_110 : decode cX3_place 110 = .ok (.iconst 0, 1) := dk_3 (dk_at dksX3_place_4 16 rfl rfl)
theorem dX3_place_111 : decode cX3_place 111 = .ok (.ior, 1) := dk_128 (dk_at dksX3_place_4 17 rfl rfl)
theorem dX3_place_112 : decode cX3_place 112 = .ok (.istore_n 3, 1) := dk_62 (dk_at dksX3_place_4 18 rfl rfl)
theorem dX3_place_113 : decode cX3_place 113 = .ok (.iinc 4 1, 3) := dk_132 4 1 (dk_at dksX3_place_4 19 rfl rfl)
theorem dX3_place_116 : decode cX3_place 116 = .ok (.goto (-31), 3) := dk_167 255 225 (dk_at dksX3_place_5 0 rfl rfl)
theorem dX3_place_119 : decode cX3_place 119 = .ok (.iload_n 3, 1) := dk_29 (dk_at dksX3_place_5 3 rfl rfl)
theorem dX3_place_120 : decode cX3_place 120 = .ok (.ireturn, 1) := dk_172 (dk_at dksX3_place_5 4 rfl rfl)
abbrev cX3_isPlace : ByteArray := prog_19_method_43_code
def yX3_isPlace : MethodName := ⟨RX3, "isPlace", "(I)Z"⟩
def dkwX3_isPlace_0 : List UInt8 := [26, 155, 0, 13, 26, 16, 8, 162, 0, 7, 4, 167, 0, 4, 3, 172]
abbrev dktX3_isPlace_0 : List UInt8 := dkwX3_isPlace_0 ++ []
theorem dksX3_isPlace_0 : cX3_isPlace.data.toList.drop 0 = dktX3_isPlace_0 := by decide +kernel
theorem dX3_isPlace_0 : decode cX3_isPlace 0 = .ok (.iload_n 0, 1) := dk_26 (dk_at dksX3_isPlace_0 0 rfl rfl)
theorem dX3_isPlace_1 : decode cX3_isPlace 1 = .ok (.ifCond .lt 13, 3) := dk_155 0 13 (dk_at dksX3_isPlace_0 1 rfl rfl)
theorem dX3_isPlace_4 : decode cX3_isPlace 4 = .ok (.iload_n 0, 1) := dk_26 (dk_at dksX3_isPlace_0 4 rfl rfl)
theorem dX3_isPlace_5 : decode cX3_isPlace 5 = .ok (.bipush 8, 2) := dk_16 8 (dk_at dksX3_isPlace_0 5 rfl rfl)
theorem dX3_isPlace_7 : decode cX3_isPlace 7 = .ok (.if_icmp .ge 7, 3) := dk_162 0 7 (dk_at dksX3_isPlace_0 7 rfl rfl)
theorem dX3_isPlace_10 : decode cX3_isPlace 10 = .ok (.iconst 1, 1) := dk_4 (dk_at dksX3_isPlace_0 10 rfl rfl)
theorem dX3_isPlace_11 : decode cX3_isPlace 11 = .ok (.goto 4, 3) := dk_167 0 4 (dk_at dksX3_isPlace_0 11 rfl rfl)
theorem dX3_isPlace_14 : decode cX3_isPlace 14 = .ok (.iconst 0, 1) := dk_3 (dk_at dksX3_isPlace_0 14 rfl rfl)
theorem dX3_isPlace_15 : decode cX3_isPlace 15 = .ok (.ireturn, 1) := dk_172 (dk_at dksX3_isPlace_0 15 rfl rfl)
abbrev cX3_leading : ByteArray := prog_19_method_51_code
def yX3_leading : MethodName := ⟨RX3, "leading", "(III)I"⟩
def dkwX3_leading_1 : List UInt8 := [182, 1, 29, 28, 160, 0, 7, 4, 167, 0, 4, 3, 96, 54, 4, 132, 5, 1, 167, 255, 220, 21, 4, 172]
abbrev dktX3_leading_1 : List UInt8 := dkwX3_leading_1 ++ []
def dkwX3_leading_0 : List UInt8 := [3, 54, 4, 3, 54, 5, 21, 5, 42, 180, 0, 42, 3, 46, 162, 0, 31, 21, 4, 42, 27, 21, 5, 29]
abbrev dktX3_leading_0 : List UInt8 := dkwX3_leading_0 ++ dktX3_leading_1
theorem dksX3_leading_0 : cX3_leading.data.toList.drop 0 = dktX3_leading_0 := by decide +kernel
theorem dksX3_leading_1 : cX3_leading.data.toList.drop 24 = dktX3_leading_1 := dk_seg dksX3_leading_0 24 rfl rfl
theorem dX3_leading_0 : decode cX3_leading 0 = .ok (.iconst 0, 1) := dk_3 (dk_at dksX3_leading_0 0 rfl rfl)
theorem dX3_leading_1 : decode cX3_leading 1 = .ok (.istore 4, 2) := dk_54 4 (dk_at dksX3_leading_0 1 rfl rfl)
theorem dX3_leading_3 : decode cX3_leading 3 = .ok (.iconst 0, 1) := dk_3 (dk_at dksX3_leading_0 3 rfl rfl)
theorem dX3_leading_4 : decode cX3_leading 4 = .ok (.istore 5, 2) := dk_54 5 (dk_at dksX3_leading_0 4 rfl rfl)
theorem dX3_leading_6 : decode cX3_leading 6 = .ok (.iload 5, 2) := dk_21 5 (dk_at dksX3_leading_0 6 rfl rfl)
theorem dX3_leading_8 : decode cX3_leading 8 = .ok (.aload_n 0, 1) := dk_42 (dk_at dksX3_leading_0 8 rfl rfl)
theorem dX3_leading_9 : decode cX3_leading 9 = .ok (.getfield 42, 3) := dk_180 0 42 (dk_at dksX3_leading_0 9 rfl rfl)
theorem dX3_leading_12 : decode cX3_leading 12 = .ok (.iconst 0, 1) := dk_3 (dk_at dksX3_leading_0 12 rfl rfl)
theorem dX3_leading_13 : decode cX3_leading 13 = .ok (.iaload, 1) := dk_46 (dk_at dksX3_leading_0 13 rfl rfl)
theorem dX3_leading_14 : decode cX3_leading 14 = .ok (.if_icmp .ge 31, 3) := dk_162 0 31 (dk_at dksX3_leading_0 14 rfl rfl)
theorem dX3_leading_17 : decode cX3_leading 17 = .ok (.iload 4, 2) := dk_21 4 (dk_at dksX3_leading_0 17 rfl rfl)
theorem dX3_leading_19 : decode cX3_leading 19 = .ok (.aload_n 0, 1) := dk_42 (dk_at dksX3_leading_0 19 rfl rfl)
theorem dX3_leading_20 : decode cX3_leading 20 = .ok (.iload_n 1, 1) := dk_27 (dk_at dksX3_leading_0 20 rfl rfl)
theorem dX3_leading_21 : decode cX3_leading 21 = .ok (.iload 5, 2) := dk_21 5 (dk_at dksX3_leading_0 21 rfl rfl)
theorem dX3_leading_23 : decode cX3_leading 23 = .ok (.iload_n 3, 1) := dk_29 (dk_at dksX3_leading_0 23 rfl rfl)
theorem dX3_leading_24 : decode cX3_leading 24 = .ok (.invokevirtual 285, 3) := dk_182 1 29 (dk_at dksX3_leading_1 0 rfl rfl)
theorem dX3_leading_27 : decode cX3_leading 27 = .ok (.iload_n 2, 1) := dk_28 (dk_at dksX3_leading_1 3 rfl rfl)
theorem dX3_leading_28 : decode cX3_leading 28 = .ok (.if_icmp .ne 7, 3) := dk_160 0 7 (dk_at dksX3_leading_1 4 rfl rfl)
theorem dX3_leading_31 : decode cX3_leading 31 = .ok (.iconst 1, 1) := dk_4 (dk_at dksX3_leading_1 7 rfl rfl)
theorem dX3_leading_32 : decode cX3_leading 32 = .ok (.goto 4, 3) := dk_167 0 4 (dk_at dksX3_leading_1 8 rfl rfl)
theorem dX3_leading_35 : decode cX3_leading 35 = .ok (.iconst 0, 1) := dk_3 (dk_at dksX3_leading_1 11 rfl rfl)
theorem dX3_leading_36 : decode cX3_leading 36 = .ok (.iadd, 1) := dk_96 (dk_at dksX3_leading_1 12 rfl rfl)
theorem dX3_leading_37 : decode cX3_leading 37 = .ok (.istore 4, 2) := dk_54 4 (dk_at dksX3_leading_1 13 rfl rfl)
theorem dX3_leading_39 : decode cX3_leading 39 = .ok (.iinc 5 1, 3) := dk_132 5 1 (dk_at dksX3_leading_1 15 rfl rfl)
theorem dX3_leading_42 : decode cX3_leading 42 = .ok (.goto (-36), 3) := dk_167 255 220 (dk_at dksX3_leading_1 18 rfl rfl)
theorem dX3_leading_45 : decode cX3_leading 45 = .ok (.iload 4, 2) := dk_21 4 (dk_at dksX3_leading_1 21 rfl rfl)
theorem dX3_leading_47 : decode cX3_leading 47 = .ok (.ireturn, 1) := dk_172 (dk_at dksX3_leading_1 23 rfl rfl)
abbrev cX3_standing : ByteArray := prog_19_method_50_code
def yX3_standing : MethodName := ⟨RX3, "standing", "(I)I"⟩
def dkwX3_standing_1 : List UInt8 := [160, 0, 7, 4, 167, 0, 4, 3, 96, 61, 132, 3, 1, 167, 255, 225, 28, 172]
abbrev dktX3_standing_1 : List UInt8 := dkwX3_standing_1 ++ []
def dkwX3_standing_0 : List UInt8 := [3, 61, 3, 62, 29, 42, 180, 0, 42, 4, 46, 162, 0, 27, 28, 42, 29, 3, 182, 1, 23, 27]
abbrev dktX3_standing_0 : List UInt8 := dkwX3_standing_0 ++ dktX3_standing_1
theorem dksX3_standing_0 : cX3_standing.data.toList.drop 0 = dktX3_standing_0 := by decide +kernel
theorem dksX3_standing_1 : cX3_standing.data.toList.drop 22 = dktX3_standing_1 := dk_seg dksX3_standing_0 22 rfl rfl
theorem dX3_standing_0 : decode cX3_standing 0 = .ok (.iconst 0, 1) := dk_3 (dk_at dksX3_standing_0 0 rfl rfl)
theorem dX3_standing_1 : decode cX3_standing 1 = .ok (.istore_n 2, 1) := dk_61 (dk_at dksX3_standing_0 1 rfl rfl)
theorem dX3_standing_2 : decode cX3_standing 2 = .ok (.iconst 0, 1) := dk_3 (dk_at dksX3_standing_0 2 rfl rfl)
theorem dX3_standing_3 : decode cX3_standing 3 = .ok (.istore_n 3, 1) := dk_62 (dk_at dksX3_standing_0 3 rfl rfl)
theorem dX3_standing_4 : decode cX3_standing 4 = .ok (.iload_n 3, 1) := dk_29 (dk_at dksX3_standing_0 4 rfl rfl)
theorem dX3_standing_5 : decode cX3_standing 5 = .ok (.aload_n 0, 1) := dk_42 (dk_at dksX3_standing_0 5 rfl rfl)
theorem dX3_standing_6 : decode cX3_standing 6 = .ok (.getfield 42, 3) := dk_180 0 42 (dk_at dksX3_standing_0 6 rfl rfl)
theorem dX3_standing_9 : decode cX3_standing 9 = .ok (.iconst 1, 1) := dk_4 (dk_at dksX3_standing_0 9 rfl rfl)
theorem dX3_standing_10 : decode cX3_standing 10 = .ok (.iaload, 1) := dk_46 (dk_at dksX3_standing_0 10 rfl rfl)
theorem dX3_standing_11 : decode cX3_standing 11 = .ok (.if_icmp .ge 27, 3) := dk_162 0 27 (dk_at dksX3_standing_0 11 rfl rfl)
theorem dX3_standing_14 : decode cX3_standing 14 = .ok (.iload_n 2, 1) := dk_28 (dk_at dksX3_standing_0 14 rfl rfl)
theorem dX3_standing_15 : decode cX3_standing 15 = .ok (.aload_n 0, 1) := dk_42 (dk_at dksX3_standing_0 15 rfl rfl)
theorem dX3_standing_16 : decode cX3_standing 16 = .ok (.iload_n 3, 1) := dk_29 (dk_at dksX3_standing_0 16 rfl rfl)
theorem dX3_standing_17 : decode cX3_standing 17 = .ok (.iconst 0, 1) := dk_3 (dk_at dksX3_standing_0 17 rfl rfl)
theorem dX3_standing_18 : decode cX3_standing 18 = .ok (.invokevirtual 279, 3) := dk_182 1 23 (dk_at dksX3_standing_0 18 rfl rfl)
theorem dX3_standing_21 : decode cX3_standing 21 = .ok (.iload_n 1, 1) := dk_27 (dk_at dksX3_standing_0 21 rfl rfl)
theorem dX3_standing_22 : decode cX3_standing 22 = .ok (.if_icmp .ne 7, 3) := dk_160 0 7 (dk_at dksX3_standing_1 0 rfl rfl)
theorem dX3_standing_25 : decode cX3_standing 25 = .ok (.iconst 1, 1) := dk_4 (dk_at dksX3_standing_1 3 rfl rfl)
theorem dX3_standing_26 : decode cX3_standing 26 = .ok (.goto 4, 3) := dk_167 0 4 (dk_at dksX3_standing_1 4 rfl rfl)
theorem dX3_standing_29 : decode cX3_standing 29 = .ok (.iconst 0, 1) := dk_3 (dk_at dksX3_standing_1 7 rfl rfl)
theorem dX3_standing_30 : decode cX3_standing 30 = .ok (.iadd, 1) := dk_96 (dk_at dksX3_standing_1 8 rfl rfl)
theorem dX3_standing_31 : decode cX3_standing 31 = .ok (.istore_n 2, 1) := dk_61 (dk_at dksX3_standing_1 9 rfl rfl)
theorem dX3_standing_32 : decode cX3_standing 32 = .ok (.iinc 3 1, 3) := dk_132 3 1 (dk_at dksX3_standing_1 10 rfl rfl)
theorem dX3_standing_35 : decode cX3_standing 35 = .ok (.goto (-31), 3) := dk_167 255 225 (dk_at dksX3_standing_1 13 rfl rfl)
theorem dX3_standing_38 : decode cX3_standing 38 = .ok (.iload_n 2, 1) := dk_28 (dk_at dksX3_standing_1 16 rfl rfl)
theorem dX3_standing_39 : decode cX3_standing 39 = .ok (.ireturn, 1) := dk_172 (dk_at dksX3_standing_1 17 rfl rfl)
abbrev cX3_spreads : ByteArray := prog_19_method_52_code
def yX3_spreads : MethodName := ⟨RX3, "spreads", "(I)V"⟩
def dkwX3_spreads_6 : List UInt8 := [167, 255, 155, 167, 255, 144, 177]
abbrev dktX3_spreads_6 : List UInt8 := dkwX3_spreads_6 ++ []
def dkwX3_spreads_5 : List UInt8 := [167, 0, 21, 42, 180, 0, 48, 21, 5, 42, 180, 0, 48, 21, 4, 46, 4, 96, 79, 4, 61, 132, 3, 1]
abbrev dktX3_spreads_5 : List UInt8 := dkwX3_spreads_5 ++ dktX3_spreads_6
def dkwX3_spreads_4 : List UInt8 := [155, 0, 25, 42, 180, 0, 48, 21, 5, 46, 42, 180, 0, 48, 21, 4, 46, 4, 96, 163, 0, 6]
abbrev dktX3_spreads_4 : List UInt8 := dkwX3_spreads_4 ++ dktX3_spreads_5
def dkwX3_spreads_3 : List UInt8 := [29, 4, 182, 1, 29, 54, 5, 42, 180, 0, 48, 21, 4, 46, 155, 0, 53, 42, 180, 0, 48, 21, 5, 46]
abbrev dktX3_spreads_3 : List UInt8 := dkwX3_spreads_3 ++ dktX3_spreads_4
def dkwX3_spreads_2 : List UInt8 := [162, 0, 97, 42, 42, 180, 0, 42, 5, 46, 29, 3, 182, 1, 29, 54, 4, 42, 42, 180, 0, 42, 5, 46]
abbrev dktX3_spreads_2 : List UInt8 := dkwX3_spreads_2 ++ dktX3_spreads_3
def dkwX3_spreads_1 : List UInt8 := [180, 0, 48, 27, 3, 79, 4, 61, 28, 153, 0, 114, 3, 61, 3, 62, 29, 42, 180, 0, 42, 3, 46]
abbrev dktX3_spreads_1 : List UInt8 := dkwX3_spreads_1 ++ dktX3_spreads_2
def dkwX3_spreads_0 : List UInt8 := [3, 61, 28, 16, 8, 162, 0, 16, 42, 180, 0, 48, 28, 2, 79, 132, 2, 1, 167, 255, 240, 42]
abbrev dktX3_spreads_0 : List UInt8 := dkwX3_spreads_0 ++ dktX3_spreads_1
theorem dksX3_spreads_0 : cX3_spreads.data.toList.drop 0 = dktX3_spreads_0 := by decide +kernel
theorem dksX3_spreads_1 : cX3_spreads.data.toList.drop 22 = dktX3_spreads_1 := dk_seg dksX3_spreads_0 22 rfl rfl
theorem dksX3_spreads_2 : cX3_spreads.data.toList.drop 45 = dktX3_spreads_2 := dk_seg dksX3_spreads_1 23 rfl rfl
theorem dksX3_spreads_3 : cX3_spreads.data.toList.drop 69 = dktX3_spreads_3 := dk_seg dksX3_spreads_2 24 rfl rfl
theorem dksX3_spreads_4 : cX3_spreads.data.toList.drop 93 = dktX3_spreads_4 := dk_seg dksX3_spreads_3 24 rfl rfl
theorem dksX3_spreads_5 : cX3_spreads.data.toList.drop 115 = dktX3_spreads_5 := dk_seg dksX3_spreads_4 22 rfl rfl
theorem dksX3_spreads_6 : cX3_spreads.data.toList.drop 139 = dktX3_spreads_6 := dk_seg dksX3_spreads_5 24 rfl rfl
theorem dX3_spreads_0 : decode cX3_spreads 0 = .ok (.iconst 0, 1) := dk_3 (dk_at dksX3_spreads_0 0 rfl rfl)
theorem dX3_spreads_1 : decode cX3_spreads 1 = .ok (.istore_n 2, 1) := dk_61 (dk_at dksX3_spreads_0 1 rfl rfl)
theorem dX3_spreads_2 : decode cX3_spreads 2 = .ok (.iload_n 2, 1) := dk_28 (dk_at dksX3_spreads_0 2 rfl rfl)
theorem dX3_spreads_3 : decode cX3_spreads 3 = .ok (.bipush 8, 2) := dk_16 8 (dk_at dksX3_spreads_0 3 rfl rfl)
theorem dX3_spreads_5 : decode cX3_spreads 5 = .ok (.if_icmp .ge 16, 3) := dk_162 0 16 (dk_at dksX3_spreads_0 5 rfl rfl)
theorem dX3_spreads_8 : decode cX3_spreads 8 = .ok (.aload_n 0, 1) := dk_42 (dk_at dksX3_spreads_0 8 rfl rfl)
theorem dX3_spreads_9 : decode cX3_spreads 9 = .ok (.getfield 48, 3) := dk_180 0 48 (dk_at dksX3_spreads_0 9 rfl rfl)
theorem dX3_spreads_12 : decode cX3_spreads 12 = .ok (.iload_n 2, 1) := dk_28 (dk_at dksX3_spreads_0 12 rfl rfl)
theorem dX3_spreads_13 : decode cX3_spreads 13 = .ok (.iconst (-1), 1) := dk_2 (dk_at dksX3_spreads_0 13 rfl rfl)
theorem dX3_spreads_14 : decode cX3_spreads 14 = .ok (.iastore, 1) := dk_79 (dk_at dksX3_spreads_0 14 rfl rfl)
theorem dX3_spreads_15 : decode cX3_spreads 15 = .ok (.iinc 2 1, 3) := dk_132 2 1 (dk_at dksX3_spreads_0 15 rfl rfl)
theorem dX3_spreads_18 : decode cX3_spreads 18 = .ok (.goto (-16), 3) := dk_167 255 240 (dk_at dksX3_spreads_0 18 rfl rfl)
theorem dX3_spreads_21 : decode cX3_spreads 21 = .ok (.aload_n 0, 1) := dk_42 (dk_at dksX3_spreads_0 21 rfl rfl)
theorem dX3_spreads_22 : decode cX3_spreads 22 = .ok (.getfield 48, 3) := dk_180 0 48 (dk_at dksX3_spreads_1 0 rfl rfl)
theorem dX3_spreads_25 : decode cX3_spreads 25 = .ok (.iload_n 1, 1) := dk_27 (dk_at dksX3_spreads_1 3 rfl rfl)
theorem dX3_spreads_26 : decode cX3_spreads 26 = .ok (.iconst 0, 1) := dk_3 (dk_at dksX3_spreads_1 4 rfl rfl)
theorem dX3_spreads_27 : decode cX3_spreads 27 = .ok (.iastore, 1) := dk_79 (dk_at dksX3_spreads_1 5 rfl rfl)
theorem dX3_spreads_28 : decode cX3_spreads 28 = .ok (.iconst 1, 1) := dk_4 (dk_at dksX3_spreads_1 6 rfl rfl)
theorem dX3_spreads_29 : decode cX3_spreads 29 = .ok (.istore_n 2, 1) := dk_61 (dk_at dksX3_spreads_1 7 rfl rfl)
theorem dX3_spreads_30 : decode cX3_spreads 30 = .ok (.iload_n 2, 1) := dk_28 (dk_at dksX3_spreads_1 8 rfl rfl)
theorem dX3_spreads_31 : decode cX3_spreads 31 = .ok (.ifCond .eq 114, 3) := dk_153 0 114 (dk_at dksX3_spreads_1 9 rfl rfl)
theorem dX3_spreads_34 : decode cX3_spreads 34 = .ok (.iconst 0, 1) := dk_3 (dk_at dksX3_spreads_1 12 rfl rfl)
theorem dX3_spreads_35 : decode cX3_spreads 35 = .ok (.istore_n 2, 1) := dk_61 (dk_at dksX3_spreads_1 13 rfl rfl)
theorem dX3_spreads_36 : decode cX3_spreads 36 = .ok (.iconst 0, 1) := dk_3 (dk_at dksX3_spreads_1 14 rfl rfl)
theorem dX3_spreads_37 : decode cX3_spreads 37 = .ok (.istore_n 3, 1) := dk_62 (dk_at dksX3_spreads_1 15 rfl rfl)
theorem dX3_spreads_38 : decode cX3_spreads 38 = .ok (.iload_n 3, 1) := dk_29 (dk_at dksX3_spreads_1 16 rfl rfl)
theorem dX3_spreads_39 : decode cX3_spreads 39 = .ok (.aload_n 0, 1) := dk_42 (dk_at dksX3_spreads_1 17 rfl rfl)
theorem dX3_spreads_40 : decode cX3_spreads 40 = .ok (.getfield 42, 3) := dk_180 0 42 (dk_at dksX3_spreads_1 18 rfl rfl)
theorem dX3_spreads_43 : decode cX3_spreads 43 = .ok (.iconst 0, 1) := dk_3 (dk_at dksX3_spreads_1 21 rfl rfl)
theorem dX3_spreads_44 : decode cX3_spreads 44 = .ok (.iaload, 1) := dk_46 (dk_at dksX3_spreads_1 22 rfl rfl)
theorem dX3_spreads_45 : decode cX3_spreads 45 = .ok (.if_icmp .ge 97, 3) := dk_162 0 97 (dk_at dksX3_spreads_2 0 rfl rfl)
theorem dX3_spreads_48 : decode cX3_spreads 48 = .ok (.aload_n 0, 1) := dk_42 (dk_at dksX3_spreads_2 3 rfl rfl)
theorem dX3_spreads_49 : decode cX3_spreads 49 = .ok (.aload_n 0, 1) := dk_42 (dk_at dksX3_spreads_2 4 rfl rfl)
theorem dX3_spreads_50 : decode cX3_spreads 50 = .ok (.getfield 42, 3) := dk_180 0 42 (dk_at dksX3_spreads_2 5 rfl rfl)
theorem dX3_spreads_53 : decode cX3_spreads 53 = .ok (.iconst 2, 1) := dk_5 (dk_at dksX3_spreads_2 8 rfl rfl)
theorem dX3_spreads_54 : decode cX3_spreads 54 = .ok (.iaload, 1) := dk_46 (dk_at dksX3_spreads_2 9 rfl rfl)
theorem dX3_spreads_55 : decode cX3_spreads 55 = .ok (.iload_n 3, 1) := dk_29 (dk_at dksX3_spreads_2 10 rfl rfl)
theorem dX3_spreads_56 : decode cX3_spreads 56 = .ok (.iconst 0, 1) := dk_3 (dk_at dksX3_spreads_2 11 rfl rfl)
theorem dX3_spreads_57 : decode cX3_spreads 57 = .ok (.invokevirtual 285, 3) := dk_182 1 29 (dk_at dksX3_spreads_2 12 rfl rfl)
theorem dX3_spreads_60 : decode cX3_spreads 60 = .ok (.istore 4, 2) := dk_54 4 (dk_at dksX3_spreads_2 15 rfl rfl)
theorem dX3_spreads_62 : decode cX3_spreads 62 = .ok (.aload_n 0, 1) := dk_42 (dk_at dksX3_spreads_2 17 rfl rfl)
theorem dX3_spreads_63 : decode cX3_spreads 63 = .ok (.aload_n 0, 1) := dk_42 (dk_at dksX3_spreads_2 18 rfl rfl)
theorem dX3_spreads_64 : decode cX3_spreads 64 = .ok (.getfield 42, 3) := dk_180 0 42 (dk_at dksX3_spreads_2 19 rfl rfl)
theorem dX3_spreads_67 : decode cX3_spreads 67 = .ok (.iconst 2, 1) := dk_5 (dk_at dksX3_spreads_2 22 rfl rfl)
theorem dX3_spreads_68 : decode cX3_spreads 68 = .ok (.iaload, 1) := dk_46 (dk_at dksX3_spreads_2 23 rfl rfl)
theorem dX3_spreads_69 : decode cX3_spreads 69 = .ok (.iload_n 3, 1) := dk_29 (dk_at dksX3_spreads_3 0 rfl rfl)
theorem dX3_spreads_70 : decode cX3_spreads 70 = .ok (.iconst 1, 1) := dk_4 (dk_at dksX3_spreads_3 1 rfl rfl)
theorem dX3_spreads_71 : decode cX3_spreads 71 = .ok (.invokevirtual 285, 3) := dk_182 1 29 (dk_at dksX3_spreads_3 2 rfl rfl)
theorem dX3_spreads_74 : decode cX3_spreads 74 = .ok (.istore 5, 2) := dk_54 5 (dk_at dksX3_spreads_3 5 rfl rfl)
theorem dX3_spreads_76 : decode cX3_spreads 76 = .ok (.aload_n 0, 1) := dk_42 (dk_at dksX3_spreads_3 7 rfl rfl)
theorem dX3_spreads_77 : decode cX3_spreads 77 = .ok (.getfield 48, 3) := dk_180 0 48 (dk_at dksX3_spreads_3 8 rfl rfl)
theorem dX3_spreads_80 : decode cX3_spreads 80 = .ok (.iload 4, 2) := dk_21 4 (dk_at dksX3_spreads_3 11 rfl rfl)
theorem dX3_spreads_82 : decode cX3_spreads 82 = .ok (.iaload, 1) := dk_46 (dk_at dksX3_spreads_3 13 rfl rfl)
theorem dX3_spreads_83 : decode cX3_spreads 83 = .ok (.ifCond .lt 53, 3) := dk_155 0 53 (dk_at dksX3_spreads_3 14 rfl rfl)
theorem dX3_spreads_86 : decode cX3_spreads 86 = .ok (.aload_n 0, 1) := dk_42 (dk_at dksX3_spreads_3 17 rfl rfl)
theorem dX3_spreads_87 : decode cX3_spreads 87 = .ok (.getfield 48, 3) := dk_180 0 48 (dk_at dksX3_spreads_3 18 rfl rfl)
theorem dX3_spreads_90 : decode cX3_spreads 90 = .ok (.iload 5, 2) := dk_21 5 (dk_at dksX3_spreads_3 21 rfl rfl)
theorem dX3_spreads_92 : decode cX3_spreads 92 = .ok (.iaload, 1) := dk_46 (dk_at dksX3_spreads_3 23 rfl rfl)
theorem dX3_spreads_93 : decode cX3_spreads 93 = .ok (.ifCond .lt 25, 3) := dk_155 0 25 (dk_at dksX3_spreads_4 0 rfl rfl)
theorem dX3_spreads_96 : decode cX3_spreads 96 = .ok (.aload_n 0, 1) := dk_42 (dk_at dksX3_spreads_4 3 rfl rfl)
theorem dX3_spreads_97 : decode cX3_spreads 97 = .ok (.getfield 48, 3) := dk_180 0 48 (dk_at dksX3_spreads_4 4 rfl rfl)
theorem dX3_spreads_100 : decode cX3_spreads 100 = .ok (.iload 5, 2) := dk_21 5 (dk_at dksX3_spreads_4 7 rfl rfl)
theorem dX3_spreads_102 : decode cX3_spreads 102 = .ok (.iaload, 1) := dk_46 (dk_at dksX3_spreads_4 9 rfl rfl)
theorem dX3_spreads_103 : decode cX3_spreads 103 = .ok (.aload_n 0, 1) := dk_42 (dk_at dksX3_spreads_4 10 rfl rfl)
theorem dX3_spreads_104 : decode cX3_spreads 104 = .ok (.getfield 48, 3) := dk_180 0 48 (dk_at dksX3_spreads_4 11 rfl rfl)
theorem dX3_spreads_107 : decode cX3_spreads 107 = .ok (.iload 4, 2) := dk_21 4 (dk_at dksX3_spreads_4 14 rfl rfl)
theorem dX3_spreads_109 : decode cX3_spreads 109 = .ok (.iaload, 1) := dk_46 (dk_at dksX3_spreads_4 16 rfl rfl)
theorem dX3_spreads_110 : decode cX3_spreads 110 = .ok (.iconst 1, 1) := dk_4 (dk_at dksX3_spreads_4 17 rfl rfl)
theorem dX3_spreads_111 : decode cX3_spreads 111 = .ok (.iadd, 1) := dk_96 (dk_at dksX3_spreads_4 18 rfl rfl)
theorem dX3_spreads_112 : decode cX3_spreads 112 = .ok (.if_icmp .gt 6, 3) := dk_163 0 6 (dk_at dksX3_spreads_4 19 rfl rfl)
theorem dX3_spreads_115 : decode cX3_spreads 115 = .ok (.goto 21, 3) := dk_167 0 21 (dk_at dksX3_spreads_5 0 rfl rfl)
theorem dX3_spreads_118 : decode cX3_spreads 118 = .ok (.aload_n 0, 1) := dk_42 (dk_at dksX3_spreads_5 3 rfl rfl)
theorem dX3_spreads_119 : decode cX3_spreads 119 = .ok (.getfield 48, 3) := dk_180 0 48 (dk_at dksX3_spreads_5 4 rfl rfl)
theorem dX3_spreads_122 : decode cX3_spreads 122 = .ok (.iload 5, 2) := dk_21 5 (dk_at dksX3_spreads_5 7 rfl rfl)
theorem dX3_spreads_124 : decode cX3_spreads 124 = .ok (.aload_n 0, 1) := dk_42 (dk_at dksX3_spreads_5 9 rfl rfl)
theorem dX3_spreads_125 : decode cX3_spreads 125 = .ok (.getfield 48, 3) := dk_180 0 48 (dk_at dksX3_spreads_5 10 rfl rfl)
theorem dX3_spreads_128 : decode cX3_spreads 128 = .ok (.iload 4, 2) := dk_21 4 (dk_at dksX3_spreads_5 13 rfl rfl)
theorem dX3_spreads_130 : decode cX3_spreads 130 = .ok (.iaload, 1) := dk_46 (dk_at dksX3_spreads_5 15 rfl rfl)
theorem dX3_spreads_131 : decode cX3_spreads 131 = .ok (.iconst 1, 1) := dk_4 (dk_at dksX3_spreads_5 16 rfl rfl)
theorem dX3_spreads_132 : decode cX3_spreads 132 = .ok (.iadd, 1) := dk_96 (dk_at dksX3_spreads_5 17 rfl rfl)
theorem dX3_spreads_133 : decode cX3_spreads 133 = .ok (.iastore, 1) := dk_79 (dk_at dksX3_spreads_5 18 rfl rfl)
theorem dX3_spreads_134 : decode cX3_spreads 134 = .ok (.iconst 1, 1) := dk_4 (dk_at dksX3_spreads_5 19 rfl rfl)
theorem dX3_spreads_135 : decode cX3_spreads 135 = .ok (.istore_n 2, 1) := dk_61 (dk_at dksX3_spreads_5 20 rfl rfl)
theorem dX3_spreads_136 : decode cX3_spreads 136 = .ok (.iinc 3 1, 3) := dk_132 3 1 (dk_at dksX3_spreads_5 21 rfl rfl)
theorem dX3_spreads_139 : decode cX3_spreads 139 = .ok (.goto (-101), 3) := dk_167 255 155 (dk_at dksX3_spreads_6 0 rfl rfl)
theorem dX3_spreads_142 : decode cX3_spreads 142 = .ok (.goto (-112), 3) := dk_167 255 144 (dk_at dksX3_spreads_6 3 rfl rfl)
theorem dX3_spreads_145 : decode cX3_spreads 145 = .ok (.return_, 1) := dk_177 (dk_at dksX3_spreads_6 6 rfl rfl)
abbrev cX3_far : ByteArray := prog_19_method_56_code
def yX3_far : MethodName := ⟨RX3, "far", "(II)I"⟩
def dkwX3_far_1 : List UInt8 := [180, 0, 48, 28, 46, 156, 0, 8, 16, 254, 167, 0, 9, 42, 180, 0, 48, 28, 46, 172]
abbrev dktX3_far_1 : List UInt8 := dkwX3_far_1 ++ []
def dkwX3_far_0 : List UInt8 := [27, 184, 1, 43, 153, 0, 10, 28, 184, 1, 43, 154, 0, 5, 2, 172, 42, 27, 182, 1, 54, 42]
abbrev dktX3_far_0 : List UInt8 := dkwX3_far_0 ++ dktX3_far_1
theorem dksX3_far_0 : cX3_far.data.toList.drop 0 = dktX3_far_0 := by decide +kernel
theorem dksX3_far_1 : cX3_far.data.toList.drop 22 = dktX3_far_1 := dk_seg dksX3_far_0 22 rfl rfl
theorem dX3_far_0 : decode cX3_far 0 = .ok (.iload_n 1, 1) := dk_27 (dk_at dksX3_far_0 0 rfl rfl)
theorem dX3_far_1 : decode cX3_far 1 = .ok (.invokestatic 299, 3) := dk_184 1 43 (dk_at dksX3_far_0 1 rfl rfl)
theorem dX3_far_4 : decode cX3_far 4 = .ok (.ifCond .eq 10, 3) := dk_153 0 10 (dk_at dksX3_far_0 4 rfl rfl)
theorem dX3_far_7 : decode cX3_far 7 = .ok (.iload_n 2, 1) := dk_28 (dk_at dksX3_far_0 7 rfl rfl)
theorem dX3_far_8 : decode cX3_far 8 = .ok (.invokestatic 299, 3) := dk_184 1 43 (dk_at dksX3_far_0 8 rfl rfl)
theorem dX3_far_11 : decode cX3_far 11 = .ok (.ifCond .ne 5, 3) := dk_154 0 5 (dk_at dksX3_far_0 11 rfl rfl)
theorem dX3_far_14 : decode cX3_far 14 = .ok (.iconst (-1), 1) := dk_2 (dk_at dksX3_far_0 14 rfl rfl)
theorem dX3_far_15 : decode cX3_far 15 = .ok (.ireturn, 1) := dk_172 (dk_at dksX3_far_0 15 rfl rfl)
theorem dX3_far_16 : decode cX3_far 16 = .ok (.aload_n 0, 1) := dk_42 (dk_at dksX3_far_0 16 rfl rfl)
theorem dX3_far_17 : decode cX3_far 17 = .ok (.iload_n 1, 1) := dk_27 (dk_at dksX3_far_0 17 rfl rfl)
theorem dX3_far_18 : decode cX3_far 18 = .ok (.invokevirtual 310, 3) := dk_182 1 54 (dk_at dksX3_far_0 18 rfl rfl)
theorem dX3_far_21 : decode cX3_far 21 = .ok (.aload_n 0, 1) := dk_42 (dk_at dksX3_far_0 21 rfl rfl)
theorem dX3_far_22 : decode cX3_far 22 = .ok (.getfield 48, 3) := dk_180 0 48 (dk_at dksX3_far_1 0 rfl rfl)
theorem dX3_far_25 : decode cX3_far 25 = .ok (.iload_n 2, 1) := dk_28 (dk_at dksX3_far_1 3 rfl rfl)
theorem dX3_far_26 : decode cX3_far 26 = .ok (.iaload, 1) := dk_46 (dk_at dksX3_far_1 4 rfl rfl)
theorem dX3_far_27 : decode cX3_far 27 = .ok (.ifCond .ge 8, 3) := dk_156 0 8 (dk_at dksX3_far_1 5 rfl rfl)
theorem dX3_far_30 : decode cX3_far 30 = .ok (.bipush (-2), 2) := dk_16 254 (dk_at dksX3_far_1 8 rfl rfl)
theorem dX3_far_32 : decode cX3_far 32 = .ok (.goto 9, 3) := dk_167 0 9 (dk_at dksX3_far_1 10 rfl rfl)
theorem dX3_far_35 : decode cX3_far 35 = .ok (.aload_n 0, 1) := dk_42 (dk_at dksX3_far_1 13 rfl rfl)
theorem dX3_far_36 : decode cX3_far 36 = .ok (.getfield 48, 3) := dk_180 0 48 (dk_at dksX3_far_1 14 rfl rfl)
theorem dX3_far_39 : decode cX3_far 39 = .ok (.iload_n 2, 1) := dk_28 (dk_at dksX3_far_1 17 rfl rfl)
theorem dX3_far_40 : decode cX3_far 40 = .ok (.iaload, 1) := dk_46 (dk_at dksX3_far_1 18 rfl rfl)
theorem dX3_far_41 : decode cX3_far 41 = .ok (.ireturn, 1) := dk_172 (dk_at dksX3_far_1 19 rfl rfl)
abbrev cX3_go : ByteArray := prog_19_method_59_code
def yX3_go : MethodName := ⟨RX3, "go", "(II)I"⟩
def dkwX3_go_1 : List UInt8 := [182, 1, 29, 42, 180, 0, 42, 7, 46, 182, 1, 63, 42, 27, 3, 182, 1, 23, 172]
abbrev dktX3_go_1 : List UInt8 := dkwX3_go_1 ++ []
def dkwX3_go_0 : List UInt8 := [42, 27, 28, 182, 1, 60, 154, 0, 5, 2, 172, 42, 27, 28, 42, 42, 180, 0, 42, 5, 46, 28, 4]
abbrev dktX3_go_0 : List UInt8 := dkwX3_go_0 ++ dktX3_go_1
theorem dksX3_go_0 : cX3_go.data.toList.drop 0 = dktX3_go_0 := by decide +kernel
theorem dksX3_go_1 : cX3_go.data.toList.drop 23 = dktX3_go_1 := dk_seg dksX3_go_0 23 rfl rfl
theorem dX3_go_0 : decode cX3_go 0 = .ok (.aload_n 0, 1) := dk_42 (dk_at dksX3_go_0 0 rfl rfl)
theorem dX3_go_1 : decode cX3_go 1 = .ok (.iload_n 1, 1) := dk_27 (dk_at dksX3_go_0 1 rfl rfl)
theorem dX3_go_2 : decode cX3_go 2 = .ok (.iload_n 2, 1) := dk_28 (dk_at dksX3_go_0 2 rfl rfl)
theorem dX3_go_3 : decode cX3_go 3 = .ok (.invokevirtual 316, 3) := dk_182 1 60 (dk_at dksX3_go_0 3 rfl rfl)
theorem dX3_go_6 : decode cX3_go 6 = .ok (.ifCond .ne 5, 3) := dk_154 0 5 (dk_at dksX3_go_0 6 rfl rfl)
theorem dX3_go_9 : decode cX3_go 9 = .ok (.iconst (-1), 1) := dk_2 (dk_at dksX3_go_0 9 rfl rfl)
theorem dX3_go_10 : decode cX3_go 10 = .ok (.ireturn, 1) := dk_172 (dk_at dksX3_go_0 10 rfl rfl)
theorem dX3_go_11 : decode cX3_go 11 = .ok (.aload_n 0, 1) := dk_42 (dk_at dksX3_go_0 11 rfl rfl)
theorem dX3_go_12 : decode cX3_go 12 = .ok (.iload_n 1, 1) := dk_27 (dk_at dksX3_go_0 12 rfl rfl)
theorem dX3_go_13 : decode cX3_go 13 = .ok (.iload_n 2, 1) := dk_28 (dk_at dksX3_go_0 13 rfl rfl)
theorem dX3_go_14 : decode cX3_go 14 = .ok (.aload_n 0, 1) := dk_42 (dk_at dksX3_go_0 14 rfl rfl)
theorem dX3_go_15 : decode cX3_go 15 = .ok (.aload_n 0, 1) := dk_42 (dk_at dksX3_go_0 15 rfl rfl)
theorem dX3_go_16 : decode cX3_go 16 = .ok (.getfield 42, 3) := dk_180 0 42 (dk_at dksX3_go_0 16 rfl rfl)
theorem dX3_go_19 : decode cX3_go 19 = .ok (.iconst 2, 1) := dk_5 (dk_at dksX3_go_0 19 rfl rfl)
theorem dX3_go_20 : decode cX3_go 20 = .ok (.iaload, 1) := dk_46 (dk_at dksX3_go_0 20 rfl rfl)
theorem dX3_go_21 : decode cX3_go 21 = .ok (.iload_n 2, 1) := dk_28 (dk_at dksX3_go_0 21 rfl rfl)
theorem dX3_go_22 : decode cX3_go 22 = .ok (.iconst 1, 1) := dk_4 (dk_at dksX3_go_0 22 rfl rfl)
theorem dX3_go_23 : decode cX3_go 23 = .ok (.invokevirtual 285, 3) := dk_182 1 29 (dk_at dksX3_go_1 0 rfl rfl)
theorem dX3_go_26 : decode cX3_go 26 = .ok (.aload_n 0, 1) := dk_42 (dk_at dksX3_go_1 3 rfl rfl)
theorem dX3_go_27 : decode cX3_go 27 = .ok (.getfield 42, 3) := dk_180 0 42 (dk_at dksX3_go_1 4 rfl rfl)
theorem dX3_go_30 : decode cX3_go 30 = .ok (.iconst 4, 1) := dk_7 (dk_at dksX3_go_1 7 rfl rfl)
theorem dX3_go_31 : decode cX3_go 31 = .ok (.iaload, 1) := dk_46 (dk_at dksX3_go_1 8 rfl rfl)
theorem dX3_go_32 : decode cX3_go 32 = .ok (.invokevirtual 319, 3) := dk_182 1 63 (dk_at dksX3_go_1 9 rfl rfl)
theorem dX3_go_35 : decode cX3_go 35 = .ok (.aload_n 0, 1) := dk_42 (dk_at dksX3_go_1 12 rfl rfl)
theorem dX3_go_36 : decode cX3_go 36 = .ok (.iload_n 1, 1) := dk_27 (dk_at dksX3_go_1 13 rfl rfl)
theorem dX3_go_37 : decode cX3_go 37 = .ok (.iconst 0, 1) := dk_3 (dk_at dksX3_go_1 14 rfl rfl)
theorem dX3_go_38 : decode cX3_go 38 = .ok (.invokevirtual 279, 3) := dk_182 1 23 (dk_at dksX3_go_1 15 rfl rfl)
theorem dX3_go_41 : decode cX3_go 41 = .ok (.ireturn, 1) := dk_172 (dk_at dksX3_go_1 18 rfl rfl)
abbrev cX3_canGo : ByteArray := prog_19_method_58_code
def yX3_canGo : MethodName := ⟨RX3, "canGo", "(II)Z"⟩
def dkwX3_canGo_2 : List UInt8 := [167, 0, 4, 3, 172]
abbrev dktX3_canGo_2 : List UInt8 := dkwX3_canGo_2 ++ []
def dkwX3_canGo_1 : List UInt8 := [3, 182, 1, 29, 42, 27, 3, 182, 1, 23, 160, 0, 15, 42, 28, 182, 1, 38, 154, 0, 7, 4]
abbrev dktX3_canGo_1 : List UInt8 := dkwX3_canGo_1 ++ dktX3_canGo_2
def dkwX3_canGo_0 : List UInt8 := [42, 27, 182, 1, 57, 153, 0, 44, 42, 28, 182, 1, 33, 153, 0, 36, 42, 42, 180, 0, 42, 5, 46, 28]
abbrev dktX3_canGo_0 : List UInt8 := dkwX3_canGo_0 ++ dktX3_canGo_1
theorem dksX3_canGo_0 : cX3_canGo.data.toList.drop 0 = dktX3_canGo_0 := by decide +kernel
theorem dksX3_canGo_1 : cX3_canGo.data.toList.drop 24 = dktX3_canGo_1 := dk_seg dksX3_canGo_0 24 rfl rfl
theorem dksX3_canGo_2 : cX3_canGo.data.toList.drop 46 = dktX3_canGo_2 := dk_seg dksX3_canGo_1 22 rfl rfl
theorem dX3_canGo_0 : decode cX3_canGo 0 = .ok (.aload_n 0, 1) := dk_42 (dk_at dksX3_canGo_0 0 rfl rfl)
theorem dX3_canGo_1 : decode cX3_canGo 1 = .ok (.iload_n 1, 1) := dk_27 (dk_at dksX3_canGo_0 1 rfl rfl)
theorem dX3_canGo_2 : decode cX3_canGo 2 = .ok (.invokevirtual 313, 3) := dk_182 1 57 (dk_at dksX3_canGo_0 2 rfl rfl)
theorem dX3_canGo_5 : decode cX3_canGo 5 = .ok (.ifCond .eq 44, 3) := dk_153 0 44 (dk_at dksX3_canGo_0 5 rfl rfl)
theorem dX3_canGo_8 : decode cX3_canGo 8 = .ok (.aload_n 0, 1) := dk_42 (dk_at dksX3_canGo_0 8 rfl rfl)
theorem dX3_canGo_9 : decode cX3_canGo 9 = .ok (.iload_n 2, 1) := dk_28 (dk_at dksX3_canGo_0 9 rfl rfl)
theorem dX3_canGo_10 : decode cX3_canGo 10 = .ok (.invokevirtual 289, 3) := dk_182 1 33 (dk_at dksX3_canGo_0 10 rfl rfl)
theorem dX3_canGo_13 : decode cX3_canGo 13 = .ok (.ifCond .eq 36, 3) := dk_153 0 36 (dk_at dksX3_canGo_0 13 rfl rfl)
theorem dX3_canGo_16 : decode cX3_canGo 16 = .ok (.aload_n 0, 1) := dk_42 (dk_at dksX3_canGo_0 16 rfl rfl)
theorem dX3_canGo_17 : decode cX3_canGo 17 = .ok (.aload_n 0, 1) := dk_42 (dk_at dksX3_canGo_0 17 rfl rfl)
theorem dX3_canGo_18 : decode cX3_canGo 18 = .ok (.getfield 42, 3) := dk_180 0 42 (dk_at dksX3_canGo_0 18 rfl rfl)
theorem dX3_canGo_21 : decode cX3_canGo 21 = .ok (.iconst 2, 1) := dk_5 (dk_at dksX3_canGo_0 21 rfl rfl)
theorem dX3_canGo_22 : decode cX3_canGo 22 = .ok (.iaload, 1) := dk_46 (dk_at dksX3_canGo_0 22 rfl rfl)
theorem dX3_canGo_23 : decode cX3_canGo 23 = .ok (.iload_n 2, 1) := dk_28 (dk_at dksX3_canGo_0 23 rfl rfl)
theorem dX3_canGo_24 : decode cX3_canGo 24 = .ok (.iconst 0, 1) := dk_3 (dk_at dksX3_canGo_1 0 rfl rfl)
theorem dX3_canGo_25 : decode cX3_canGo 25 = .ok (.invokevirtual 285, 3) := dk_182 1 29 (dk_at dksX3_canGo_1 1 rfl rfl)
theorem dX3_canGo_28 : decode cX3_canGo 28 = .ok (.aload_n 0, 1) := dk_42 (dk_at dksX3_canGo_1 4 rfl rfl)
theorem dX3_canGo_29 : decode cX3_canGo 29 = .ok (.iload_n 1, 1) := dk_27 (dk_at dksX3_canGo_1 5 rfl rfl)
theorem dX3_canGo_30 : decode cX3_canGo 30 = .ok (.iconst 0, 1) := dk_3 (dk_at dksX3_canGo_1 6 rfl rfl)
theorem dX3_canGo_31 : decode cX3_canGo 31 = .ok (.invokevirtual 279, 3) := dk_182 1 23 (dk_at dksX3_canGo_1 7 rfl rfl)
theorem dX3_canGo_34 : decode cX3_canGo 34 = .ok (.if_icmp .ne 15, 3) := dk_160 0 15 (dk_at dksX3_canGo_1 10 rfl rfl)
theorem dX3_canGo_37 : decode cX3_canGo 37 = .ok (.aload_n 0, 1) := dk_42 (dk_at dksX3_canGo_1 13 rfl rfl)
theorem dX3_canGo_38 : decode cX3_canGo 38 = .ok (.iload_n 2, 1) := dk_28 (dk_at dksX3_canGo_1 14 rfl rfl)
theorem dX3_canGo_39 : decode cX3_canGo 39 = .ok (.invokevirtual 294, 3) := dk_182 1 38 (dk_at dksX3_canGo_1 15 rfl rfl)
theorem dX3_canGo_42 : decode cX3_canGo 42 = .ok (.ifCond .ne 7, 3) := dk_154 0 7 (dk_at dksX3_canGo_1 18 rfl rfl)
theorem dX3_canGo_45 : decode cX3_canGo 45 = .ok (.iconst 1, 1) := dk_4 (dk_at dksX3_canGo_1 21 rfl rfl)
theorem dX3_canGo_46 : decode cX3_canGo 46 = .ok (.goto 4, 3) := dk_167 0 4 (dk_at dksX3_canGo_2 0 rfl rfl)
theorem dX3_canGo_49 : decode cX3_canGo 49 = .ok (.iconst 0, 1) := dk_3 (dk_at dksX3_canGo_2 3 rfl rfl)
theorem dX3_canGo_50 : decode cX3_canGo 50 = .ok (.ireturn, 1) := dk_172 (dk_at dksX3_canGo_2 4 rfl rfl)
abbrev cX3_stands : ByteArray := prog_19_method_49_code
def yX3_stands : MethodName := ⟨RX3, "stands", "(I)Z"⟩
def dkwX3_stands_0 : List UInt8 := [42, 27, 182, 1, 26, 153, 0, 17, 42, 27, 6, 182, 1, 23, 2, 160, 0, 7, 4, 167, 0, 4, 3, 172]
abbrev dktX3_stands_0 : List UInt8 := dkwX3_stands_0 ++ []
theorem dksX3_stands_0 : cX3_stands.data.toList.drop 0 = dktX3_stands_0 := by decide +kernel
theorem dX3_stands_0 : decode cX3_stands 0 = .ok (.aload_n 0, 1) := dk_42 (dk_at dksX3_stands_0 0 rfl rfl)
theorem dX3_stands_1 : decode cX3_stands 1 = .ok (.iload_n 1, 1) := dk_27 (dk_at dksX3_stands_0 1 rfl rfl)
theorem dX3_stands_2 : decode cX3_stands 2 = .ok (.invokevirtual 282, 3) := dk_182 1 26 (dk_at dksX3_stands_0 2 rfl rfl)
theorem dX3_stands_5 : decode cX3_stands 5 = .ok (.ifCond .eq 17, 3) := dk_153 0 17 (dk_at dksX3_stands_0 5 rfl rfl)
theorem dX3_stands_8 : decode cX3_stands 8 = .ok (.aload_n 0, 1) := dk_42 (dk_at dksX3_stands_0 8 rfl rfl)
theorem dX3_stands_9 : decode cX3_stands 9 = .ok (.iload_n 1, 1) := dk_27 (dk_at dksX3_stands_0 9 rfl rfl)
theorem dX3_stands_10 : decode cX3_stands 10 = .ok (.iconst 3, 1) := dk_6 (dk_at dksX3_stands_0 10 rfl rfl)
theorem dX3_stands_11 : decode cX3_stands 11 = .ok (.invokevirtual 279, 3) := dk_182 1 23 (dk_at dksX3_stands_0 11 rfl rfl)
theorem dX3_stands_14 : decode cX3_stands 14 = .ok (.iconst (-1), 1) := dk_2 (dk_at dksX3_stands_0 14 rfl rfl)
theorem dX3_stands_15 : decode cX3_stands 15 = .ok (.if_icmp .ne 7, 3) := dk_160 0 7 (dk_at dksX3_stands_0 15 rfl rfl)
theorem dX3_stands_18 : decode cX3_stands 18 = .ok (.iconst 1, 1) := dk_4 (dk_at dksX3_stands_0 18 rfl rfl)
theorem dX3_stands_19 : decode cX3_stands 19 = .ok (.goto 4, 3) := dk_167 0 4 (dk_at dksX3_stands_0 19 rfl rfl)
theorem dX3_stands_22 : decode cX3_stands 22 = .ok (.iconst 0, 1) := dk_3 (dk_at dksX3_stands_0 22 rfl rfl)
theorem dX3_stands_23 : decode cX3_stands 23 = .ok (.ireturn, 1) := dk_172 (dk_at dksX3_stands_0 23 rfl rfl)
abbrev cX3_arrives : ByteArray := prog_19_method_57_code
def yX3_arrives : MethodName := ⟨RX3, "arrives", "(IIII)V"⟩
def dkwX3_arrives_6 : List UInt8 := [177]
abbrev dktX3_arrives_6 : List UInt8 := dkwX3_arrives_6 ++ []
def dkwX3_arrives_5 : List UInt8 := [42, 180, 0, 42, 21, 5, 8, 96, 46, 2, 160, 0, 14, 42, 180, 0, 42, 21, 5, 8, 96, 21, 4, 79]
abbrev dktX3_arrives_5 : List UInt8 := dkwX3_arrives_5 ++ dktX3_arrives_6
def dkwX3_arrives_4 : List UInt8 := [42, 180, 0, 42, 21, 5, 16, 6, 96, 2, 79, 29, 42, 180, 0, 42, 21, 5, 4, 96, 46, 160, 0, 27]
abbrev dktX3_arrives_4 : List UInt8 := dkwX3_arrives_4 ++ dktX3_arrives_5
def dkwX3_arrives_3 : List UInt8 := [21, 5, 29, 79, 42, 180, 0, 42, 21, 5, 6, 96, 2, 79, 42, 180, 0, 42, 21, 5, 7, 96, 3, 79]
abbrev dktX3_arrives_3 : List UInt8 := dkwX3_arrives_3 ++ dktX3_arrives_4
def dkwX3_arrives_2 : List UInt8 := [104, 96, 7, 96, 42, 180, 0, 42, 6, 46, 79, 16, 80, 16, 7, 27, 104, 96, 54, 5, 42, 180, 0, 42]
abbrev dktX3_arrives_2 : List UInt8 := dkwX3_arrives_2 ++ dktX3_arrives_3
def dkwX3_arrives_1 : List UInt8 := [180, 0, 42, 16, 10, 8, 28, 104, 96, 6, 96, 92, 46, 4, 96, 79, 42, 180, 0, 42, 16, 10, 8, 28]
abbrev dktX3_arrives_1 : List UInt8 := dkwX3_arrives_1 ++ dktX3_arrives_2
def dkwX3_arrives_0 : List UInt8 := [42, 180, 0, 42, 5, 92, 46, 4, 28, 120, 130, 79, 42, 180, 0, 42, 6, 92, 46, 4, 96, 79, 42]
abbrev dktX3_arrives_0 : List UInt8 := dkwX3_arrives_0 ++ dktX3_arrives_1
theorem dksX3_arrives_0 : cX3_arrives.data.toList.drop 0 = dktX3_arrives_0 := by decide +kernel
theorem dksX3_arrives_1 : cX3_arrives.data.toList.drop 23 = dktX3_arrives_1 := dk_seg dksX3_arrives_0 23 rfl rfl
theorem dksX3_arrives_2 : cX3_arrives.data.toList.drop 47 = dktX3_arrives_2 := dk_seg dksX3_arrives_1 24 rfl rfl
theorem dksX3_arrives_3 : cX3_arrives.data.toList.drop 71 = dktX3_arrives_3 := dk_seg dksX3_arrives_2 24 rfl rfl
theorem dksX3_arrives_4 : cX3_arrives.data.toList.drop 95 = dktX3_arrives_4 := dk_seg dksX3_arrives_3 24 rfl rfl
theorem dksX3_arrives_5 : cX3_arrives.data.toList.drop 119 = dktX3_arrives_5 := dk_seg dksX3_arrives_4 24 rfl rfl
theorem dksX3_arrives_6 : cX3_arrives.data.toList.drop 143 = dktX3_arrives_6 := dk_seg dksX3_arrives_5 24 rfl rfl
theorem dX3_arrives_0 : decode cX3_arrives 0 = .ok (.aload_n 0, 1) := dk_42 (dk_at dksX3_arrives_0 0 rfl rfl)
theorem dX3_arrives_1 : decode cX3_arrives 1 = .ok (.getfield 42, 3) := dk_180 0 42 (dk_at dksX3_arrives_0 1 rfl rfl)
theorem dX3_arrives_4 : decode cX3_arrives 4 = .ok (.iconst 2, 1) := dk_5 (dk_at dksX3_arrives_0 4 rfl rfl)
theorem dX3_arrives_5 : decode cX3_arrives 5 = .ok (.dup2, 1) := dk_92 (dk_at dksX3_arrives_0 5 rfl rfl)
theorem dX3_arrives_6 : decode cX3_arrives 6 = .ok (.iaload, 1) := dk_46 (dk_at dksX3_arrives_0 6 rfl rfl)
theorem dX3_arrives_7 : decode cX3_arrives 7 = .ok (.iconst 1, 1) := dk_4 (dk_at dksX3_arrives_0 7 rfl rfl)
theorem dX3_arrives_8 : decode cX3_arrives 8 = .ok (.iload_n 2, 1) := dk_28 (dk_at dksX3_arrives_0 8 rfl rfl)
theorem dX3_arrives_9 : decode cX3_arrives 9 = .ok (.ishl, 1) := dk_120 (dk_at dksX3_arrives_0 9 rfl rfl)
theorem dX3_arrives_10 : decode cX3_arrives 10 = .ok (.ixor, 1) := dk_130 (dk_at dksX3_arrives_0 10 rfl rfl)
theorem dX3_arrives_11 : decode cX3_arrives 11 = .ok (.iastore, 1) := dk_79 (dk_at dksX3_arrives_0 11 rfl rfl)
theorem dX3_arrives_12 : decode cX3_arrives 12 = .ok (.aload_n 0, 1) := dk_42 (dk_at dksX3_arrives_0 12 rfl rfl)
theorem dX3_arrives_13 : decode cX3_arrives 13 = .ok (.getfield 42, 3) := dk_180 0 42 (dk_at dksX3_arrives_0 13 rfl rfl)
theorem dX3_arrives_16 : decode cX3_arrives 16 = .ok (.iconst 3, 1) := dk_6 (dk_at dksX3_arrives_0 16 rfl rfl)
theorem dX3_arrives_17 : decode cX3_arrives 17 = .ok (.dup2, 1) := dk_92 (dk_at dksX3_arrives_0 17 rfl rfl)
theorem dX3_arrives_18 : decode cX3_arrives 18 = .ok (.iaload, 1) := dk_46 (dk_at dksX3_arrives_0 18 rfl rfl)
theorem dX3_arrives_19 : decode cX3_arrives 19 = .ok (.iconst 1, 1) := dk_4 (dk_at dksX3_arrives_0 19 rfl rfl)
theorem dX3_arrives_20 : decode cX3_arrives 20 = .ok (.iadd, 1) := dk_96 (dk_at dksX3_arrives_0 20 rfl rfl)
theorem dX3_arrives_21 : decode cX3_arrives 21 = .ok (.iastore, 1) := dk_79 (dk_at dksX3_arrives_0 21 rfl rfl)
theorem dX3_arrives_22 : decode cX3_arrives 22 = .ok (.aload_n 0, 1) := dk_42 (dk_at dksX3_arrives_0 22 rfl rfl)
theorem dX3_arrives_23 : decode cX3_arrives 23 = .ok (.getfield 42, 3) := dk_180 0 42 (dk_at dksX3_arrives_1 0 rfl rfl)
theorem dX3_arrives_26 : decode cX3_arrives 26 = .ok (.bipush 10, 2) := dk_16 10 (dk_at dksX3_arrives_1 3 rfl rfl)
theorem dX3_arrives_28 : decode cX3_arrives 28 = .ok (.iconst 5, 1) := dk_8 (dk_at dksX3_arrives_1 5 rfl rfl)
theorem dX3_arrives_29 : decode cX3_arrives 29 = .ok (.iload_n 2, 1) := dk_28 (dk_at dksX3_arrives_1 6 rfl rfl)
theorem dX3_arrives_30 : decode cX3_arrives 30 = .ok (.imul, 1) := dk_104 (dk_at dksX3_arrives_1 7 rfl rfl)
theorem dX3_arrives_31 : decode cX3_arrives 31 = .ok (.iadd, 1) := dk_96 (dk_at dksX3_arrives_1 8 rfl rfl)
theorem dX3_arrives_32 : decode cX3_arrives 32 = .ok (.iconst 3, 1) := dk_6 (dk_at dksX3_arrives_1 9 rfl rfl)
theorem dX3_arrives_33 : decode cX3_arrives 33 = .ok (.iadd, 1) := dk_96 (dk_at dksX3_arrives_1 10 rfl rfl)
theorem dX3_arrives_34 : decode cX3_arrives 34 = .ok (.dup2, 1) := dk_92 (dk_at dksX3_arrives_1 11 rfl rfl)
theorem dX3_arrives_35 : decode cX3_arrives 35 = .ok (.iaload, 1) := dk_46 (dk_at dksX3_arrives_1 12 rfl rfl)
theorem dX3_arrives_36 : decode cX3_arrives 36 = .ok (.iconst 1, 1) := dk_4 (dk_at dksX3_arrives_1 13 rfl rfl)
theorem dX3_arrives_37 : decode cX3_arrives 37 = .ok (.iadd, 1) := dk_96 (dk_at dksX3_arrives_1 14 rfl rfl)
theorem dX3_arrives_38 : decode cX3_arrives 38 = .ok (.iastore, 1) := dk_79 (dk_at dksX3_arrives_1 15 rfl rfl)
theorem dX3_arrives_39 : decode cX3_arrives 39 = .ok (.aload_n 0, 1) := dk_42 (dk_at dksX3_arrives_1 16 rfl rfl)
theorem dX3_arrives_40 : decode cX3_arrives 40 = .ok (.getfield 42, 3) := dk_180 0 42 (dk_at dksX3_arrives_1 17 rfl rfl)
theorem dX3_arrives_43 : decode cX3_arrives 43 = .ok (.bipush 10, 2) := dk_16 10 (dk_at dksX3_arrives_1 20 rfl rfl)
theorem dX3_arrives_45 : decode cX3_arrives 45 = .ok (.iconst 5, 1) := dk_8 (dk_at dksX3_arrives_1 22 rfl rfl)
theorem dX3_arrives_46 : decode cX3_arrives 46 = .ok (.iload_n 2, 1) := dk_28 (dk_at dksX3_arrives_1 23 rfl rfl)
theorem dX3_arrives_47 : decode cX3_arrives 47 = .ok (.imul, 1) := dk_104 (dk_at dksX3_arrives_2 0 rfl rfl)
theorem dX3_arrives_48 : decode cX3_arrives 48 = .ok (.iadd, 1) := dk_96 (dk_at dksX3_arrives_2 1 rfl rfl)
theorem dX3_arrives_49 : decode cX3_arrives 49 = .ok (.iconst 4, 1) := dk_7 (dk_at dksX3_arrives_2 2 rfl rfl)
theorem dX3_arrives_50 : decode cX3_arrives 50 = .ok (.iadd, 1) := dk_96 (dk_at dksX3_arrives_2 3 rfl rfl)
theorem dX3_arrives_51 : decode cX3_arrives 51 = .ok (.aload_n 0, 1) := dk_42 (dk_at dksX3_arrives_2 4 rfl rfl)
theorem dX3_arrives_52 : decode cX3_arrives 52 = .ok (.getfield 42, 3) := dk_180 0 42 (dk_at dksX3_arrives_2 5 rfl rfl)
theorem dX3_arrives_55 : decode cX3_arrives 55 = .ok (.iconst 3, 1) := dk_6 (dk_at dksX3_arrives_2 8 rfl rfl)
theorem dX3_arrives_56 : decode cX3_arrives 56 = .ok (.iaload, 1) := dk_46 (dk_at dksX3_arrives_2 9 rfl rfl)
theorem dX3_arrives_57 : decode cX3_arrives 57 = .ok (.iastore, 1) := dk_79 (dk_at dksX3_arrives_2 10 rfl rfl)
theorem dX3_arrives_58 : decode cX3_arrives 58 = .ok (.bipush 80, 2) := dk_16 80 (dk_at dksX3_arrives_2 11 rfl rfl)
theorem dX3_arrives_60 : decode cX3_arrives 60 = .ok (.bipush 7, 2) := dk_16 7 (dk_at dksX3_arrives_2 13 rfl rfl)
theorem dX3_arrives_62 : decode cX3_arrives 62 = .ok (.iload_n 1, 1) := dk_27 (dk_at dksX3_arrives_2 15 rfl rfl)
theorem dX3_arrives_63 : decode cX3_arrives 63 = .ok (.imul, 1) := dk_104 (dk_at dksX3_arrives_2 16 rfl rfl)
theorem dX3_arrives_64 : decode cX3_arrives 64 = .ok (.iadd, 1) := dk_96 (dk_at dksX3_arrives_2 17 rfl rfl)
theorem dX3_arrives_65 : decode cX3_arrives 65 = .ok (.istore 5, 2) := dk_54 5 (dk_at dksX3_arrives_2 18 rfl rfl)
theorem dX3_arrives_67 : decode cX3_arrives 67 = .ok (.aload_n 0, 1) := dk_42 (dk_at dksX3_arrives_2 20 rfl rfl)
theorem dX3_arrives_68 : decode cX3_arrives 68 = .ok (.getfield 42, 3) := dk_180 0 42 (dk_at dksX3_arrives_2 21 rfl rfl)
theorem dX3_arrives_71 : decode cX3_arrives 71 = .ok (.iload 5, 2) := dk_21 5 (dk_at dksX3_arrives_3 0 rfl rfl)
theorem dX3_arrives_73 : decode cX3_arrives 73 = .ok (.iload_n 3, 1) := dk_29 (dk_at dksX3_arrives_3 2 rfl rfl)
theorem dX3_arrives_74 : decode cX3_arrives 74 = .ok (.iastore, 1) := dk_79 (dk_at dksX3_arrives_3 3 rfl rfl)
theorem dX3_arrives_75 : decode cX3_arrives 75 = .ok (.aload_n 0, 1) := dk_42 (dk_at dksX3_arrives_3 4 rfl rfl)
theorem dX3_arrives_76 : decode cX3_arrives 76 = .ok (.getfield 42, 3) := dk_180 0 42 (dk_at dksX3_arrives_3 5 rfl rfl)
theorem dX3_arrives_79 : decode cX3_arrives 79 = .ok (.iload 5, 2) := dk_21 5 (dk_at dksX3_arrives_3 8 rfl rfl)
theorem dX3_arrives_81 : decode cX3_arrives 81 = .ok (.iconst 3, 1) := dk_6 (dk_at dksX3_arrives_3 10 rfl rfl)
theorem dX3_arrives_82 : decode cX3_arrives 82 = .ok (.iadd, 1) := dk_96 (dk_at dksX3_arrives_3 11 rfl rfl)
theorem dX3_arrives_83 : decode cX3_arrives 83 = .ok (.iconst (-1), 1) := dk_2 (dk_at dksX3_arrives_3 12 rfl rfl)
theorem dX3_arrives_84 : decode cX3_arrives 84 = .ok (.iastore, 1) := dk_79 (dk_at dksX3_arrives_3 13 rfl rfl)
theorem dX3_arrives_85 : decode cX3_arrives 85 = .ok (.aload_n 0, 1) := dk_42 (dk_at dksX3_arrives_3 14 rfl rfl)
theorem dX3_arrives_86 : decode cX3_arrives 86 = .ok (.getfield 42, 3) := dk_180 0 42 (dk_at dksX3_arrives_3 15 rfl rfl)
theorem dX3_arrives_89 : decode cX3_arrives 89 = .ok (.iload 5, 2) := dk_21 5 (dk_at dksX3_arrives_3 18 rfl rfl)
theorem dX3_arrives_91 : decode cX3_arrives 91 = .ok (.iconst 4, 1) := dk_7 (dk_at dksX3_arrives_3 20 rfl rfl)
theorem dX3_arrives_92 : decode cX3_arrives 92 = .ok (.iadd, 1) := dk_96 (dk_at dksX3_arrives_3 21 rfl rfl)
theorem dX3_arrives_93 : decode cX3_arrives 93 = .ok (.iconst 0, 1) := dk_3 (dk_at dksX3_arrives_3 22 rfl rfl)
theorem dX3_arrives_94 : decode cX3_arrives 94 = .ok (.iastore, 1) := dk_79 (dk_at dksX3_arrives_3 23 rfl rfl)
theorem dX3_arrives_95 : decode cX3_arrives 95 = .ok (.aload_n 0, 1) := dk_42 (dk_at dksX3_arrives_4 0 rfl rfl)
theorem dX3_arrives_96 : decode cX3_arrives 96 = .ok (.getfield 42, 3) := dk_180 0 42 (dk_at dksX3_arrives_4 1 rfl rfl)
theorem dX3_arrives_99 : decode cX3_arrives 99 = .ok (.iload 5, 2) := dk_21 5 (dk_at dksX3_arrives_4 4 rfl rfl)
theorem dX3_arrives_101 : decode cX3_arrives 101 = .ok (.bipush 6, 2) := dk_16 6 (dk_at dksX3_arrives_4 6 rfl rfl)
theorem dX3_arrives_103 : decode cX3_arrives 103 = .ok (.iadd, 1) := dk_96 (dk_at dksX3_arrives_4 8 rfl rfl)
theorem dX3_arrives_104 : decode cX3_arrives 104 = .ok (.iconst (-1), 1) := dk_2 (dk_at dksX3_arrives_4 9 rfl rfl)
theorem dX3_arrives_105 : decode cX3_arrives 105 = .ok (.iastore, 1) := dk_79 (dk_at dksX3_arrives_4 10 rfl rfl)
theorem dX3_arrives_106 : decode cX3_arrives 106 = .ok (.iload_n 3, 1) := dk_29 (dk_at dksX3_arrives_4 11 rfl rfl)
theorem dX3_arrives_107 : decode cX3_arrives 107 = .ok (.aload_n 0, 1) := dk_42 (dk_at dksX3_arrives_4 12 rfl rfl)
theorem dX3_arrives_108 : decode cX3_arrives 108 = .ok (.getfield 42, 3) := dk_180 0 42 (dk_at dksX3_arrives_4 13 rfl rfl)
theorem dX3_arrives_111 : decode cX3_arrives 111 = .ok (.iload 5, 2) := dk_21 5 (dk_at dksX3_arrives_4 16 rfl rfl)
theorem dX3_arrives_113 : decode cX3_arrives 113 = .ok (.iconst 1, 1) := dk_4 (dk_at dksX3_arrives_4 18 rfl rfl)
theorem dX3_arrives_114 : decode cX3_arrives 114 = .ok (.iadd, 1) := dk_96 (dk_at dksX3_arrives_4 19 rfl rfl)
theorem dX3_arrives_115 : decode cX3_arrives 115 = .ok (.iaload, 1) := dk_46 (dk_at dksX3_arrives_4 20 rfl rfl)
theorem dX3_arrives_116 : decode cX3_arrives 116 = .ok (.if_icmp .ne 27, 3) := dk_160 0 27 (dk_at dksX3_arrives_4 21 rfl rfl)
theorem dX3_arrives_119 : decode cX3_arrives 119 = .ok (.aload_n 0, 1) := dk_42 (dk_at dksX3_arrives_5 0 rfl rfl)
theorem dX3_arrives_120 : decode cX3_arrives 120 = .ok (.getfield 42, 3) := dk_180 0 42 (dk_at dksX3_arrives_5 1 rfl rfl)
theorem dX3_arrives_123 : decode cX3_arrives 123 = .ok (.iload 5, 2) := dk_21 5 (dk_at dksX3_arrives_5 4 rfl rfl)
theorem dX3_arrives_125 : decode cX3_arrives 125 = .ok (.iconst 5, 1) := dk_8 (dk_at dksX3_arrives_5 6 rfl rfl)
theorem dX3_arrives_126 : decode cX3_arrives 126 = .ok (.iadd, 1) := dk_96 (dk_at dksX3_arrives_5 7 rfl rfl)
theorem dX3_arrives_127 : decode cX3_arrives 127 = .ok (.iaload, 1) := dk_46 (dk_at dksX3_arrives_5 8 rfl rfl)
theorem dX3_arrives_128 : decode cX3_arrives 128 = .ok (.iconst (-1), 1) := dk_2 (dk_at dksX3_arrives_5 9 rfl rfl)
theorem dX3_arrives_129 : decode cX3_arrives 129 = .ok (.if_icmp .ne 14, 3) := dk_160 0 14 (dk_at dksX3_arrives_5 10 rfl rfl)
theorem dX3_arrives_132 : decode cX3_arrives 132 = .ok (.aload_n 0, 1) := dk_42 (dk_at dksX3_arrives_5 13 rfl rfl)
theorem dX3_arrives_133 : decode cX3_arrives 133 = .ok (.getfield 42, 3) := dk_180 0 42 (dk_at dksX3_arrives_5 14 rfl rfl)
theorem dX3_arrives_136 : decode cX3_arrives 136 = .ok (.iload 5, 2) := dk_21 5 (dk_at dksX3_arrives_5 17 rfl rfl)
theorem dX3_arrives_138 : decode cX3_arrives 138 = .ok (.iconst 5, 1) := dk_8 (dk_at dksX3_arrives_5 19 rfl rfl)
theorem dX3_arrives_139 : decode cX3_arrives 139 = .ok (.iadd, 1) := dk_96 (dk_at dksX3_arrives_5 20 rfl rfl)
theorem dX3_arrives_140 : decode cX3_arrives 140 = .ok (.iload 4, 2) := dk_21 4 (dk_at dksX3_arrives_5 21 rfl rfl)
theorem dX3_arrives_142 : decode cX3_arrives 142 = .ok (.iastore, 1) := dk_79 (dk_at dksX3_arrives_5 23 rfl rfl)
theorem dX3_arrives_143 : decode cX3_arrives 143 = .ok (.return_, 1) := dk_177 (dk_at dksX3_arrives_6 0 rfl rfl)
abbrev cX3_turn : ByteArray := prog_19_method_60_code
def yX3_turn : MethodName := ⟨RX3, "turn", "(I)I"⟩
def dkwX3_turn_1 : List UInt8 := [172, 42, 180, 0, 42, 5, 46, 61, 42, 180, 0, 42, 5, 27, 79, 28, 172]
abbrev dktX3_turn_1 : List UInt8 := dkwX3_turn_1 ++ []
def dkwX3_turn_0 : List UInt8 := [27, 155, 0, 22, 27, 4, 42, 180, 0, 42, 3, 46, 120, 162, 0, 10, 42, 182, 1, 67, 153, 0, 5, 2]
abbrev dktX3_turn_0 : List UInt8 := dkwX3_turn_0 ++ dktX3_turn_1
theorem dksX3_turn_0 : cX3_turn.data.toList.drop 0 = dktX3_turn_0 := by decide +kernel
theorem dksX3_turn_1 : cX3_turn.data.toList.drop 24 = dktX3_turn_1 := dk_seg dksX3_turn_0 24 rfl rfl
theorem dX3_turn_0 : decode cX3_turn 0 = .ok (.iload_n 1, 1) := dk_27 (dk_at dksX3_turn_0 0 rfl rfl)
theorem dX3_turn_1 : decode cX3_turn 1 = .ok (.ifCond .lt 22, 3) := dk_155 0 22 (dk_at dksX3_turn_0 1 rfl rfl)
theorem dX3_turn_4 : decode cX3_turn 4 = .ok (.iload_n 1, 1) := dk_27 (dk_at dksX3_turn_0 4 rfl rfl)
theorem dX3_turn_5 : decode cX3_turn 5 = .ok (.iconst 1, 1) := dk_4 (dk_at dksX3_turn_0 5 rfl rfl)
theorem dX3_turn_6 : decode cX3_turn 6 = .ok (.aload_n 0, 1) := dk_42 (dk_at dksX3_turn_0 6 rfl rfl)
theorem dX3_turn_7 : decode cX3_turn 7 = .ok (.getfield 42, 3) := dk_180 0 42 (dk_at dksX3_turn_0 7 rfl rfl)
theorem dX3_turn_10 : decode cX3_turn 10 = .ok (.iconst 0, 1) := dk_3 (dk_at dksX3_turn_0 10 rfl rfl)
theorem dX3_turn_11 : decode cX3_turn 11 = .ok (.iaload, 1) := dk_46 (dk_at dksX3_turn_0 11 rfl rfl)
theorem dX3_turn_12 : decode cX3_turn 12 = .ok (.ishl, 1) := dk_120 (dk_at dksX3_turn_0 12 rfl rfl)
theorem dX3_turn_13 : decode cX3_turn 13 = .ok (.if_icmp .ge 10, 3) := dk_162 0 10 (dk_at dksX3_turn_0 13 rfl rfl)
theorem dX3_turn_16 : decode cX3_turn 16 = .ok (.aload_n 0, 1) := dk_42 (dk_at dksX3_turn_0 16 rfl rfl)
theorem dX3_turn_17 : decode cX3_turn 17 = .ok (.invokevirtual 323, 3) := dk_182 1 67 (dk_at dksX3_turn_0 17 rfl rfl)
theorem dX3_turn_20 : decode cX3_turn 20 = .ok (.ifCond .eq 5, 3) := dk_153 0 5 (dk_at dksX3_turn_0 20 rfl rfl)
theorem dX3_turn_23 : decode cX3_turn 23 = .ok (.iconst (-1), 1) := dk_2 (dk_at dksX3_turn_0 23 rfl rfl)
theorem dX3_turn_24 : decode cX3_turn 24 = .ok (.ireturn, 1) := dk_172 (dk_at dksX3_turn_1 0 rfl rfl)
theorem dX3_turn_25 : decode cX3_turn 25 = .ok (.aload_n 0, 1) := dk_42 (dk_at dksX3_turn_1 1 rfl rfl)
theorem dX3_turn_26 : decode cX3_turn 26 = .ok (.getfield 42, 3) := dk_180 0 42 (dk_at dksX3_turn_1 2 rfl rfl)
theorem dX3_turn_29 : decode cX3_turn 29 = .ok (.iconst 2, 1) := dk_5 (dk_at dksX3_turn_1 5 rfl rfl)
theorem dX3_turn_30 : decode cX3_turn 30 = .ok (.iaload, 1) := dk_46 (dk_at dksX3_turn_1 6 rfl rfl)
theorem dX3_turn_31 : decode cX3_turn 31 = .ok (.istore_n 2, 1) := dk_61 (dk_at dksX3_turn_1 7 rfl rfl)
theorem dX3_turn_32 : decode cX3_turn 32 = .ok (.aload_n 0, 1) := dk_42 (dk_at dksX3_turn_1 8 rfl rfl)
theorem dX3_turn_33 : decode cX3_turn 33 = .ok (.getfield 42, 3) := dk_180 0 42 (dk_at dksX3_turn_1 9 rfl rfl)
theorem dX3_turn_36 : decode cX3_turn 36 = .ok (.iconst 2, 1) := dk_5 (dk_at dksX3_turn_1 12 rfl rfl)
theorem dX3_turn_37 : decode cX3_turn 37 = .ok (.iload_n 1, 1) := dk_27 (dk_at dksX3_turn_1 13 rfl rfl)
theorem dX3_turn_38 : decode cX3_turn 38 = .ok (.iastore, 1) := dk_79 (dk_at dksX3_turn_1 14 rfl rfl)
theorem dX3_turn_39 : decode cX3_turn 39 = .ok (.iload_n 2, 1) := dk_28 (dk_at dksX3_turn_1 15 rfl rfl)
theorem dX3_turn_40 : decode cX3_turn 40 = .ok (.ireturn, 1) := dk_172 (dk_at dksX3_turn_1 16 rfl rfl)
abbrev cX3_isAnyOnWay : ByteArray := prog_19_method_48_code
def yX3_isAnyOnWay : MethodName := ⟨RX3, "isAnyOnWay", "()Z"⟩
def dkwX3_isAnyOnWay_1 : List UInt8 := [132, 1, 1, 167, 255, 231, 3, 172]
abbrev dktX3_isAnyOnWay_1 : List UInt8 := dkwX3_isAnyOnWay_1 ++ []
def dkwX3_isAnyOnWay_0 : List UInt8 := [3, 60, 27, 42, 180, 0, 42, 4, 46, 162, 0, 21, 42, 27, 6, 182, 1, 23, 2, 159, 0, 5, 4, 172]
abbrev dktX3_isAnyOnWay_0 : List UInt8 := dkwX3_isAnyOnWay_0 ++ dktX3_isAnyOnWay_1
theorem dksX3_isAnyOnWay_0 : cX3_isAnyOnWay.data.toList.drop 0 = dktX3_isAnyOnWay_0 := by decide +kernel
theorem dksX3_isAnyOnWay_1 : cX3_isAnyOnWay.data.toList.drop 24 = dktX3_isAnyOnWay_1 := dk_seg dksX3_isAnyOnWay_0 24 rfl rfl
theorem dX3_isAnyOnWay_0 : decode cX3_isAnyOnWay 0 = .ok (.iconst 0, 1) := dk_3 (dk_at dksX3_isAnyOnWay_0 0 rfl rfl)
theorem dX3_isAnyOnWay_1 : decode cX3_isAnyOnWay 1 = .ok (.istore_n 1, 1) := dk_60 (dk_at dksX3_isAnyOnWay_0 1 rfl rfl)
theorem dX3_isAnyOnWay_2 : decode cX3_isAnyOnWay 2 = .ok (.iload_n 1, 1) := dk_27 (dk_at dksX3_isAnyOnWay_0 2 rfl rfl)
theorem dX3_isAnyOnWay_3 : decode cX3_isAnyOnWay 3 = .ok (.aload_n 0, 1) := dk_42 (dk_at dksX3_isAnyOnWay_0 3 rfl rfl)
theorem dX3_isAnyOnWay_4 : decode cX3_isAnyOnWay 4 = .ok (.getfield 42, 3) := dk_180 0 42 (dk_at dksX3_isAnyOnWay_0 4 rfl rfl)
theorem dX3_isAnyOnWay_7 : decode cX3_isAnyOnWay 7 = .ok (.iconst 1, 1) := dk_4 (dk_at dksX3_isAnyOnWay_0 7 rfl rfl)
theorem dX3_isAnyOnWay_8 : decode cX3_isAnyOnWay 8 = .ok (.iaload, 1) := dk_46 (dk_at dksX3_isAnyOnWay_0 8 rfl rfl)
theorem dX3_isAnyOnWay_9 : decode cX3_isAnyOnWay 9 = .ok (.if_icmp .ge 21, 3) := dk_162 0 21 (dk_at dksX3_isAnyOnWay_0 9 rfl rfl)
theorem dX3_isAnyOnWay_12 : decode cX3_isAnyOnWay 12 = .ok (.aload_n 0, 1) := dk_42 (dk_at dksX3_isAnyOnWay_0 12 rfl rfl)
theorem dX3_isAnyOnWay_13 : decode cX3_isAnyOnWay 13 = .ok (.iload_n 1, 1) := dk_27 (dk_at dksX3_isAnyOnWay_0 13 rfl rfl)
theorem dX3_isAnyOnWay_14 : decode cX3_isAnyOnWay 14 = .ok (.iconst 3, 1) := dk_6 (dk_at dksX3_isAnyOnWay_0 14 rfl rfl)
theorem dX3_isAnyOnWay_15 : decode cX3_isAnyOnWay 15 = .ok (.invokevirtual 279, 3) := dk_182 1 23 (dk_at dksX3_isAnyOnWay_0 15 rfl rfl)
theorem dX3_isAnyOnWay_18 : decode cX3_isAnyOnWay 18 = .ok (.iconst (-1), 1) := dk_2 (dk_at dksX3_isAnyOnWay_0 18 rfl rfl)
theorem dX3_isAnyOnWay_19 : decode cX3_isAnyOnWay 19 = .ok (.if_icmp .eq 5, 3) := dk_159 0 5 (dk_at dksX3_isAnyOnWay_0 19 rfl rfl)
theorem dX3_isAnyOnWay_22 : decode cX3_isAnyOnWay 22 = .ok (.iconst 1, 1) := dk_4 (dk_at dksX3_isAnyOnWay_0 22 rfl rfl)
theorem dX3_isAnyOnWay_23 : decode cX3_isAnyOnWay 23 = .ok (.ireturn, 1) := dk_172 (dk_at dksX3_isAnyOnWay_0 23 rfl rfl)
theorem dX3_isAnyOnWay_24 : decode cX3_isAnyOnWay 24 = .ok (.iinc 1 1, 3) := dk_132 1 1 (dk_at dksX3_isAnyOnWay_1 0 rfl rfl)
theorem dX3_isAnyOnWay_27 : decode cX3_isAnyOnWay 27 = .ok (.goto (-25), 3) := dk_167 255 231 (dk_at dksX3_isAnyOnWay_1 3 rfl rfl)
theorem dX3_isAnyOnWay_30 : decode cX3_isAnyOnWay 30 = .ok (.iconst 0, 1) := dk_3 (dk_at dksX3_isAnyOnWay_1 6 rfl rfl)
theorem dX3_isAnyOnWay_31 : decode cX3_isAnyOnWay 31 = .ok (.ireturn, 1) := dk_172 (dk_at dksX3_isAnyOnWay_1 7 rfl rfl)
abbrev cX3_fewest : ByteArray := prog_19_method_72_code
def yX3_fewest : MethodName := ⟨RX3, "fewest", "(I)I"⟩
def dkwX3_fewest_1 : List UInt8 := [156, 0, 8, 16, 254, 167, 0, 8, 42, 28, 182, 1, 104, 172]
abbrev dktX3_fewest_1 : List UInt8 := dkwX3_fewest_1 ++ []
def dkwX3_fewest_0 : List UInt8 := [42, 27, 182, 1, 94, 154, 0, 5, 2, 172, 42, 27, 182, 1, 97, 42, 4, 2, 182, 1, 100, 61, 28]
abbrev dktX3_fewest_0 : List UInt8 := dkwX3_fewest_0 ++ dktX3_fewest_1
theorem dksX3_fewest_0 : cX3_fewest.data.toList.drop 0 = dktX3_fewest_0 := by decide +kernel
theorem dksX3_fewest_1 : cX3_fewest.data.toList.drop 23 = dktX3_fewest_1 := dk_seg dksX3_fewest_0 23 rfl rfl
theorem dX3_fewest_0 : decode cX3_fewest 0 = .ok (.aload_n 0, 1) := dk_42 (dk_at dksX3_fewest_0 0 rfl rfl)
theorem dX3_fewest_1 : decode cX3_fewest 1 = .ok (.iload_n 1, 1) := dk_27 (dk_at dksX3_fewest_0 1 rfl rfl)
theorem dX3_fewest_2 : decode cX3_fewest 2 = .ok (.invokevirtual 350, 3) := dk_182 1 94 (dk_at dksX3_fewest_0 2 rfl rfl)
theorem dX3_fewest_5 : decode cX3_fewest 5 = .ok (.ifCond .ne 5, 3) := dk_154 0 5 (dk_at dksX3_fewest_0 5 rfl rfl)
theorem dX3_fewest_8 : decode cX3_fewest 8 = .ok (.iconst (-1), 1) := dk_2 (dk_at dksX3_fewest_0 8 rfl rfl)
theorem dX3_fewest_9 : decode cX3_fewest 9 = .ok (.ireturn, 1) := dk_172 (dk_at dksX3_fewest_0 9 rfl rfl)
theorem dX3_fewest_10 : decode cX3_fewest 10 = .ok (.aload_n 0, 1) := dk_42 (dk_at dksX3_fewest_0 10 rfl rfl)
theorem dX3_fewest_11 : decode cX3_fewest 11 = .ok (.iload_n 1, 1) := dk_27 (dk_at dksX3_fewest_0 11 rfl rfl)
theorem dX3_fewest_12 : decode cX3_fewest 12 = .ok (.invokevirtual 353, 3) := dk_182 1 97 (dk_at dksX3_fewest_0 12 rfl rfl)
theorem dX3_fewest_15 : decode cX3_fewest 15 = .ok (.aload_n 0, 1) := dk_42 (dk_at dksX3_fewest_0 15 rfl rfl)
theorem dX3_fewest_16 : decode cX3_fewest 16 = .ok (.iconst 1, 1) := dk_4 (dk_at dksX3_fewest_0 16 rfl rfl)
theorem dX3_fewest_17 : decode cX3_fewest 17 = .ok (.iconst (-1), 1) := dk_2 (dk_at dksX3_fewest_0 17 rfl rfl)
theorem dX3_fewest_18 : decode cX3_fewest 18 = .ok (.invokevirtual 356, 3) := dk_182 1 100 (dk_at dksX3_fewest_0 18 rfl rfl)
theorem dX3_fewest_21 : decode cX3_fewest 21 = .ok (.istore_n 2, 1) := dk_61 (dk_at dksX3_fewest_0 21 rfl rfl)
theorem dX3_fewest_22 : decode cX3_fewest 22 = .ok (.iload_n 2, 1) := dk_28 (dk_at dksX3_fewest_0 22 rfl rfl)
theorem dX3_fewest_23 : decode cX3_fewest 23 = .ok (.ifCond .ge 8, 3) := dk_156 0 8 (dk_at dksX3_fewest_1 0 rfl rfl)
theorem dX3_fewest_26 : decode cX3_fewest 26 = .ok (.bipush (-2), 2) := dk_16 254 (dk_at dksX3_fewest_1 3 rfl rfl)
theorem dX3_fewest_28 : decode cX3_fewest 28 = .ok (.goto 8, 3) := dk_167 0 8 (dk_at dksX3_fewest_1 5 rfl rfl)
theorem dX3_fewest_31 : decode cX3_fewest 31 = .ok (.aload_n 0, 1) := dk_42 (dk_at dksX3_fewest_1 8 rfl rfl)
theorem dX3_fewest_32 : decode cX3_fewest 32 = .ok (.iload_n 2, 1) := dk_28 (dk_at dksX3_fewest_1 9 rfl rfl)
theorem dX3_fewest_33 : decode cX3_fewest 33 = .ok (.invokevirtual 360, 3) := dk_182 1 104 (dk_at dksX3_fewest_1 10 rfl rfl)
theorem dX3_fewest_36 : decode cX3_fewest 36 = .ok (.ireturn, 1) := dk_172 (dk_at dksX3_fewest_1 13 rfl rfl)
abbrev cX3_areGoers : ByteArray := prog_19_method_63_code
def yX3_areGoers : MethodName := ⟨RX3, "areGoers", "(I)Z"⟩
def dkwX3_areGoers_2 : List UInt8 := [126, 4, 160, 0, 13, 42, 28, 182, 1, 57, 154, 0, 5, 3, 172, 132, 2, 1, 167, 255, 224, 4, 172]
abbrev dktX3_areGoers_2 : List UInt8 := dkwX3_areGoers_2 ++ []
def dkwX3_areGoers_1 : List UInt8 := [182, 1, 73, 154, 0, 5, 3, 172, 3, 61, 28, 42, 180, 0, 42, 4, 46, 162, 0, 28, 27, 28, 122, 4]
abbrev dktX3_areGoers_1 : List UInt8 := dkwX3_areGoers_1 ++ dktX3_areGoers_2
def dkwX3_areGoers_0 : List UInt8 := [27, 4, 161, 0, 26, 27, 4, 42, 180, 0, 42, 4, 46, 120, 162, 0, 14, 42, 27, 184, 1, 70]
abbrev dktX3_areGoers_0 : List UInt8 := dkwX3_areGoers_0 ++ dktX3_areGoers_1
theorem dksX3_areGoers_0 : cX3_areGoers.data.toList.drop 0 = dktX3_areGoers_0 := by decide +kernel
theorem dksX3_areGoers_1 : cX3_areGoers.data.toList.drop 22 = dktX3_areGoers_1 := dk_seg dksX3_areGoers_0 22 rfl rfl
theorem dksX3_areGoers_2 : cX3_areGoers.data.toList.drop 46 = dktX3_areGoers_2 := dk_seg dksX3_areGoers_1 24 rfl rfl
theorem dX3_areGoers_0 : decode cX3_areGoers 0 = .ok (.iload_n 1, 1) := dk_27 (dk_at dksX3_areGoers_0 0 rfl rfl)
theorem dX3_areGoers_1 : decode cX3_areGoers 1 = .ok (.iconst 1, 1) := dk_4 (dk_at dksX3_areGoers_0 1 rfl rfl)
theorem dX3_areGoers_2 : decode cX3_areGoers 2 = .ok (.if_icmp .lt 26, 3) := dk_161 0 26 (dk_at dksX3_areGoers_0 2 rfl rfl)
theorem dX3_areGoers_5 : decode cX3_areGoers 5 = .ok (.iload_n 1, 1) := dk_27 (dk_at dksX3_areGoers_0 5 rfl rfl)
theorem dX3_areGoers_6 : decode cX3_areGoers 6 = .ok (.iconst 1, 1) := dk_4 (dk_at dksX3_areGoers_0 6 rfl rfl)
theorem dX3_areGoers_7 : decode cX3_areGoers 7 = .ok (.aload_n 0, 1) := dk_42 (dk_at dksX3_areGoers_0 7 rfl rfl)
theorem dX3_areGoers_8 : decode cX3_areGoers 8 = .ok (.getfield 42, 3) := dk_180 0 42 (dk_at dksX3_areGoers_0 8 rfl rfl)
theorem dX3_areGoers_11 : decode cX3_areGoers 11 = .ok (.iconst 1, 1) := dk_4 (dk_at dksX3_areGoers_0 11 rfl rfl)
theorem dX3_areGoers_12 : decode cX3_areGoers 12 = .ok (.iaload, 1) := dk_46 (dk_at dksX3_areGoers_0 12 rfl rfl)
theorem dX3_areGoers_13 : decode cX3_areGoers 13 = .ok (.ishl, 1) := dk_120 (dk_at dksX3_areGoers_0 13 rfl rfl)
theorem dX3_areGoers_14 : decode cX3_areGoers 14 = .ok (.if_icmp .ge 14, 3) := dk_162 0 14 (dk_at dksX3_areGoers_0 14 rfl rfl)
theorem dX3_areGoers_17 : decode cX3_areGoers 17 = .ok (.aload_n 0, 1) := dk_42 (dk_at dksX3_areGoers_0 17 rfl rfl)
theorem dX3_areGoers_18 : decode cX3_areGoers 18 = .ok (.iload_n 1, 1) := dk_27 (dk_at dksX3_areGoers_0 18 rfl rfl)
theorem dX3_areGoers_19 : decode cX3_areGoers 19 = .ok (.invokestatic 326, 3) := dk_184 1 70 (dk_at dksX3_areGoers_0 19 rfl rfl)
theorem dX3_areGoers_22 : decode cX3_areGoers 22 = .ok (.invokevirtual 329, 3) := dk_182 1 73 (dk_at dksX3_areGoers_1 0 rfl rfl)
theorem dX3_areGoers_25 : decode cX3_areGoers 25 = .ok (.ifCond .ne 5, 3) := dk_154 0 5 (dk_at dksX3_areGoers_1 3 rfl rfl)
theorem dX3_areGoers_28 : decode cX3_areGoers 28 = .ok (.iconst 0, 1) := dk_3 (dk_at dksX3_areGoers_1 6 rfl rfl)
theorem dX3_areGoers_29 : decode cX3_areGoers 29 = .ok (.ireturn, 1) := dk_172 (dk_at dksX3_areGoers_1 7 rfl rfl)
theorem dX3_areGoers_30 : decode cX3_areGoers 30 = .ok (.iconst 0, 1) := dk_3 (dk_at dksX3_areGoers_1 8 rfl rfl)
theorem dX3_areGoers_31 : decode cX3_areGoers 31 = .ok (.istore_n 2, 1) := dk_61 (dk_at dksX3_areGoers_1 9 rfl rfl)
theorem dX3_areGoers_32 : decode cX3_areGoers 32 = .ok (.iload_n 2, 1) := dk_28 (dk_at dksX3_areGoers_1 10 rfl rfl)
theorem dX3_areGoers_33 : decode cX3_areGoers 33 = .ok (.aload_n 0, 1) := dk_42 (dk_at dksX3_areGoers_1 11 rfl rfl)
theorem dX3_areGoers_34 : decode cX3_areGoers 34 = .ok (.getfield 42, 3) := dk_180 0 42 (dk_at dksX3_areGoers_1 12 rfl rfl)
theorem dX3_areGoers_37 : decode cX3_areGoers 37 = .ok (.iconst 1, 1) := dk_4 (dk_at dksX3_areGoers_1 15 rfl rfl)
theorem dX3_areGoers_38 : decode cX3_areGoers 38 = .ok (.iaload, 1) := dk_46 (dk_at dksX3_areGoers_1 16 rfl rfl)
theorem dX3_areGoers_39 : decode cX3_areGoers 39 = .ok (.if_icmp .ge 28, 3) := dk_162 0 28 (dk_at dksX3_areGoers_1 17 rfl rfl)
theorem dX3_areGoers_42 : decode cX3_areGoers 42 = .ok (.iload_n 1, 1) := dk_27 (dk_at dksX3_areGoers_1 20 rfl rfl)
theorem dX3_areGoers_43 : decode cX3_areGoers 43 = .ok (.iload_n 2, 1) := dk_28 (dk_at dksX3_areGoers_1 21 rfl rfl)
theorem dX3_areGoers_44 : decode cX3_areGoers 44 = .ok (.ishr, 1) := dk_122 (dk_at dksX3_areGoers_1 22 rfl rfl)
theorem dX3_areGoers_45 : decode cX3_areGoers 45 = .ok (.iconst 1, 1) := dk_4 (dk_at dksX3_areGoers_1 23 rfl rfl)
theorem dX3_areGoers_46 : decode cX3_areGoers 46 = .ok (.iand, 1) := dk_126 (dk_at dksX3_areGoers_2 0 rfl rfl)
theorem dX3_areGoers_47 : decode cX3_areGoers 47 = .ok (.iconst 1, 1) := dk_4 (dk_at dksX3_areGoers_2 1 rfl rfl)
theorem dX3_areGoers_48 : decode cX3_areGoers 48 = .ok (.if_icmp .ne 13, 3) := dk_160 0 13 (dk_at dksX3_areGoers_2 2 rfl rfl)
theorem dX3_areGoers_51 : decode cX3_areGoers 51 = .ok (.aload_n 0, 1) := dk_42 (dk_at dksX3_areGoers_2 5 rfl rfl)
theorem dX3_areGoers_52 : decode cX3_areGoers 52 = .ok (.iload_n 2, 1) := dk_28 (dk_at dksX3_areGoers_2 6 rfl rfl)
theorem dX3_areGoers_53 : decode cX3_areGoers 53 = .ok (.invokevirtual 313, 3) := dk_182 1 57 (dk_at dksX3_areGoers_2 7 rfl rfl)
theorem dX3_areGoers_56 : decode cX3_areGoers 56 = .ok (.ifCond .ne 5, 3) := dk_154 0 5 (dk_at dksX3_areGoers_2 10 rfl rfl)
theorem dX3_areGoers_59 : decode cX3_areGoers 59 = .ok (.iconst 0, 1) := dk_3 (dk_at dksX3_areGoers_2 13 rfl rfl)
theorem dX3_areGoers_60 : decode cX3_areGoers 60 = .ok (.ireturn, 1) := dk_172 (dk_at dksX3_areGoers_2 14 rfl rfl)
theorem dX3_areGoers_61 : decode cX3_areGoers 61 = .ok (.iinc 2 1, 3) := dk_132 2 1 (dk_at dksX3_areGoers_2 15 rfl rfl)
theorem dX3_areGoers_64 : decode cX3_areGoers 64 = .ok (.goto (-32), 3) := dk_167 255 224 (dk_at dksX3_areGoers_2 18 rfl rfl)
theorem dX3_areGoers_67 : decode cX3_areGoers 67 = .ok (.iconst 1, 1) := dk_4 (dk_at dksX3_areGoers_2 21 rfl rfl)
theorem dX3_areGoers_68 : decode cX3_areGoers 68 = .ok (.ireturn, 1) := dk_172 (dk_at dksX3_areGoers_2 22 rfl rfl)
abbrev cX3_bits : ByteArray := prog_19_method_61_code
def yX3_bits : MethodName := ⟨RX3, "bits", "(I)I"⟩
def dkwX3_bits_0 : List UInt8 := [3, 60, 26, 61, 28, 153, 0, 15, 132, 1, 1, 28, 28, 4, 100, 126, 61, 167, 255, 243, 27, 172]
abbrev dktX3_bits_0 : List UInt8 := dkwX3_bits_0 ++ []
theorem dksX3_bits_0 : cX3_bits.data.toList.drop 0 = dktX3_bits_0 := by decide +kernel
theorem dX3_bits_0 : decode cX3_bits 0 = .ok (.iconst 0, 1) := dk_3 (dk_at dksX3_bits_0 0 rfl rfl)
theorem dX3_bits_1 : decode cX3_bits 1 = .ok (.istore_n 1, 1) := dk_60 (dk_at dksX3_bits_0 1 rfl rfl)
theorem dX3_bits_2 : decode cX3_bits 2 = .ok (.iload_n 0, 1) := dk_26 (dk_at dksX3_bits_0 2 rfl rfl)
theorem dX3_bits_3 : decode cX3_bits 3 = .ok (.istore_n 2, 1) := dk_61 (dk_at dksX3_bits_0 3 rfl rfl)
theorem dX3_bits_4 : decode cX3_bits 4 = .ok (.iload_n 2, 1) := dk_28 (dk_at dksX3_bits_0 4 rfl rfl)
theorem dX3_bits_5 : decode cX3_bits 5 = .ok (.ifCond .eq 15, 3) := dk_153 0 15 (dk_at dksX3_bits_0 5 rfl rfl)
theorem dX3_bits_8 : decode cX3_bits 8 = .ok (.iinc 1 1, 3) := dk_132 1 1 (dk_at dksX3_bits_0 8 rfl rfl)
theorem dX3_bits_11 : decode cX3_bits 11 = .ok (.iload_n 2, 1) := dk_28 (dk_at dksX3_bits_0 11 rfl rfl)
theorem dX3_bits_12 : decode cX3_bits 12 = .ok (.iload_n 2, 1) := dk_28 (dk_at dksX3_bits_0 12 rfl rfl)
theorem dX3_bits_13 : decode cX3_bits 13 = .ok (.iconst 1, 1) := dk_4 (dk_at dksX3_bits_0 13 rfl rfl)
theorem dX3_bits_14 : decode cX3_bits 14 = .ok (.isub, 1) := dk_100 (dk_at dksX3_bits_0 14 rfl rfl)
theorem dX3_bits_15 : decode cX3_bits 15 = .ok (.iand, 1) := dk_126 (dk_at dksX3_bits_0 15 rfl rfl)
theorem dX3_bits_16 : decode cX3_bits 16 = .ok (.istore_n 2, 1) := dk_61 (dk_at dksX3_bits_0 16 rfl rfl)
theorem dX3_bits_17 : decode cX3_bits 17 = .ok (.goto (-13), 3) := dk_167 255 243 (dk_at dksX3_bits_0 17 rfl rfl)
theorem dX3_bits_20 : decode cX3_bits 20 = .ok (.iload_n 1, 1) := dk_27 (dk_at dksX3_bits_0 20 rfl rfl)
theorem dX3_bits_21 : decode cX3_bits 21 = .ok (.ireturn, 1) := dk_172 (dk_at dksX3_bits_0 21 rfl rfl)
abbrev cX3_fits : ByteArray := prog_19_method_62_code
def yX3_fits : MethodName := ⟨RX3, "fits", "(I)Z"⟩
def dkwX3_fits_0 : List UInt8 := [42, 180, 0, 42, 3, 46, 6, 27, 104, 96, 16, 20, 163, 0, 7, 4, 167, 0, 4, 3, 172]
abbrev dktX3_fits_0 : List UInt8 := dkwX3_fits_0 ++ []
theorem dksX3_fits_0 : cX3_fits.data.toList.drop 0 = dktX3_fits_0 := by decide +kernel
theorem dX3_fits_0 : decode cX3_fits 0 = .ok (.aload_n 0, 1) := dk_42 (dk_at dksX3_fits_0 0 rfl rfl)
theorem dX3_fits_1 : decode cX3_fits 1 = .ok (.getfield 42, 3) := dk_180 0 42 (dk_at dksX3_fits_0 1 rfl rfl)
theorem dX3_fits_4 : decode cX3_fits 4 = .ok (.iconst 0, 1) := dk_3 (dk_at dksX3_fits_0 4 rfl rfl)
theorem dX3_fits_5 : decode cX3_fits 5 = .ok (.iaload, 1) := dk_46 (dk_at dksX3_fits_0 5 rfl rfl)
theorem dX3_fits_6 : decode cX3_fits 6 = .ok (.iconst 3, 1) := dk_6 (dk_at dksX3_fits_0 6 rfl rfl)
theorem dX3_fits_7 : decode cX3_fits 7 = .ok (.iload_n 1, 1) := dk_27 (dk_at dksX3_fits_0 7 rfl rfl)
theorem dX3_fits_8 : decode cX3_fits 8 = .ok (.imul, 1) := dk_104 (dk_at dksX3_fits_0 8 rfl rfl)
theorem dX3_fits_9 : decode cX3_fits 9 = .ok (.iadd, 1) := dk_96 (dk_at dksX3_fits_0 9 rfl rfl)
theorem dX3_fits_10 : decode cX3_fits 10 = .ok (.bipush 20, 2) := dk_16 20 (dk_at dksX3_fits_0 10 rfl rfl)
theorem dX3_fits_12 : decode cX3_fits 12 = .ok (.if_icmp .gt 7, 3) := dk_163 0 7 (dk_at dksX3_fits_0 12 rfl rfl)
theorem dX3_fits_15 : decode cX3_fits 15 = .ok (.iconst 1, 1) := dk_4 (dk_at dksX3_fits_0 15 rfl rfl)
theorem dX3_fits_16 : decode cX3_fits 16 = .ok (.goto 4, 3) := dk_167 0 4 (dk_at dksX3_fits_0 16 rfl rfl)
theorem dX3_fits_19 : decode cX3_fits 19 = .ok (.iconst 0, 1) := dk_3 (dk_at dksX3_fits_0 19 rfl rfl)
theorem dX3_fits_20 : decode cX3_fits 20 = .ok (.ireturn, 1) := dk_172 (dk_at dksX3_fits_0 20 rfl rfl)
abbrev cX3_begins : ByteArray := prog_19_method_65_code
def yX3_begins : MethodName := ⟨RX3, "begins", "(I)V"⟩
def dkwX3_begins_5 : List UInt8 := [132, 2, 1, 167, 255, 224, 177]
abbrev dktX3_begins_5 : List UInt8 := dkwX3_begins_5 ++ []
def dkwX3_begins_4 : List UInt8 := [3, 46, 162, 0, 28, 42, 180, 0, 64, 28, 42, 28, 182, 1, 38, 158, 0, 7, 4, 167, 0, 4, 3, 84]
abbrev dktX3_begins_4 : List UInt8 := dkwX3_begins_4 ++ dktX3_begins_5
def dkwX3_begins_3 : List UInt8 := [79, 42, 89, 180, 1, 79, 4, 96, 181, 1, 79, 132, 2, 1, 167, 255, 212, 3, 61, 28, 42, 180, 0, 42]
abbrev dktX3_begins_3 : List UInt8 := dkwX3_begins_3 ++ dktX3_begins_4
def dkwX3_begins_2 : List UInt8 := [46, 162, 0, 40, 27, 28, 122, 4, 126, 154, 0, 6, 167, 0, 23, 42, 180, 0, 61, 42, 180, 1, 79, 28]
abbrev dktX3_begins_2 : List UInt8 := dkwX3_begins_2 ++ dktX3_begins_3
def dkwX3_begins_1 : List UInt8 := [132, 2, 1, 167, 255, 233, 42, 3, 181, 1, 76, 42, 3, 181, 1, 79, 3, 61, 28, 42, 180, 0, 42, 4]
abbrev dktX3_begins_1 : List UInt8 := dkwX3_begins_1 ++ dktX3_begins_2
def dkwX3_begins_0 : List UInt8 := [3, 61, 28, 42, 180, 1, 76, 162, 0, 21, 42, 180, 0, 58, 42, 180, 0, 52, 28, 46, 3, 79]
abbrev dktX3_begins_0 : List UInt8 := dkwX3_begins_0 ++ dktX3_begins_1
theorem dksX3_begins_0 : cX3_begins.data.toList.drop 0 = dktX3_begins_0 := by decide +kernel
theorem dksX3_begins_1 : cX3_begins.data.toList.drop 22 = dktX3_begins_1 := dk_seg dksX3_begins_0 22 rfl rfl
theorem dksX3_begins_2 : cX3_begins.data.toList.drop 46 = dktX3_begins_2 := dk_seg dksX3_begins_1 24 rfl rfl
theorem dksX3_begins_3 : cX3_begins.data.toList.drop 70 = dktX3_begins_3 := dk_seg dksX3_begins_2 24 rfl rfl
theorem dksX3_begins_4 : cX3_begins.data.toList.drop 94 = dktX3_begins_4 := dk_seg dksX3_begins_3 24 rfl rfl
theorem dksX3_begins_5 : cX3_begins.data.toList.drop 118 = dktX3_begins_5 := dk_seg dksX3_begins_4 24 rfl rfl
theorem dX3_begins_0 : decode cX3_begins 0 = .ok (.iconst 0, 1) := dk_3 (dk_at dksX3_begins_0 0 rfl rfl)
theorem dX3_begins_1 : decode cX3_begins 1 = .ok (.istore_n 2, 1) := dk_61 (dk_at dksX3_begins_0 1 rfl rfl)
theorem dX3_begins_2 : decode cX3_begins 2 = .ok (.iload_n 2, 1) := dk_28 (dk_at dksX3_begins_0 2 rfl rfl)
theorem dX3_begins_3 : decode cX3_begins 3 = .ok (.aload_n 0, 1) := dk_42 (dk_at dksX3_begins_0 3 rfl rfl)
theorem dX3_begins_4 : decode cX3_begins 4 = .ok (.getfield 332, 3) := dk_180 1 76 (dk_at dksX3_begins_0 4 rfl rfl)
theorem dX3_begins_7 : decode cX3_begins 7 = .ok (.if_icmp .ge 21, 3) := dk_162 0 21 (dk_at dksX3_begins_0 7 rfl rfl)
theorem dX3_begins_10 : decode cX3_begins 10 = .ok (.aload_n 0, 1) := dk_42 (dk_at dksX3_begins_0 10 rfl rfl)
theorem dX3_begins_11 : decode cX3_begins 11 = .ok (.getfield 58, 3) := dk_180 0 58 (dk_at dksX3_begins_0 11 rfl rfl)
theorem dX3_begins_14 : decode cX3_begins 14 = .ok (.aload_n 0, 1) := dk_42 (dk_at dksX3_begins_0 14 rfl rfl)
theorem dX3_begins_15 : decode cX3_begins 15 = .ok (.getfield 52, 3) := dk_180 0 52 (dk_at dksX3_begins_0 15 rfl rfl)
theorem dX3_begins_18 : decode cX3_begins 18 = .ok (.iload_n 2, 1) := dk_28 (dk_at dksX3_begins_0 18 rfl rfl)
theorem dX3_begins_19 : decode cX3_begins 19 = .ok (.iaload, 1) := dk_46 (dk_at dksX3_begins_0 19 rfl rfl)
theorem dX3_begins_20 : decode cX3_begins 20 = .ok (.iconst 0, 1) := dk_3 (dk_at dksX3_begins_0 20 rfl rfl)
theorem dX3_begins_21 : decode cX3_begins 21 = .ok (.iastore, 1) := dk_79 (dk_at dksX3_begins_0 21 rfl rfl)
theorem dX3_begins_22 : decode cX3_begins 22 = .ok (.iinc 2 1, 3) := dk_132 2 1 (dk_at dksX3_begins_1 0 rfl rfl)
theorem dX3_begins_25 : decode cX3_begins 25 = .ok (.goto (-23), 3) := dk_167 255 233 (dk_at dksX3_begins_1 3 rfl rfl)
theorem dX3_begins_28 : decode cX3_begins 28 = .ok (.aload_n 0, 1) := dk_42 (dk_at dksX3_begins_1 6 rfl rfl)
theorem dX3_begins_29 : decode cX3_begins 29 = .ok (.iconst 0, 1) := dk_3 (dk_at dksX3_begins_1 7 rfl rfl)
theorem dX3_begins_30 : decode cX3_begins 30 = .ok (.putfield 332, 3) := dk_181 1 76 (dk_at dksX3_begins_1 8 rfl rfl)
theorem dX3_begins_33 : decode cX3_begins 33 = .ok (.aload_n 0, 1) := dk_42 (dk_at dksX3_begins_1 11 rfl rfl)
theorem dX3_begins_34 : decode cX3_begins 34 = .ok (.iconst 0, 1) := dk_3 (dk_at dksX3_begins_1 12 rfl rfl)
theorem dX3_begins_35 : decode cX3_begins 35 = .ok (.putfield 335, 3) := dk_181 1 79 (dk_at dksX3_begins_1 13 rfl rfl)
theorem dX3_begins_38 : decode cX3_begins 38 = .ok (.iconst 0, 1) := dk_3 (dk_at dksX3_begins_1 16 rfl rfl)
theorem dX3_begins_39 : decode cX3_begins 39 = .ok (.istore_n 2, 1) := dk_61 (dk_at dksX3_begins_1 17 rfl rfl)
theorem dX3_begins_40 : decode cX3_begins 40 = .ok (.iload_n 2, 1) := dk_28 (dk_at dksX3_begins_1 18 rfl rfl)
theorem dX3_begins_41 : decode cX3_begins 41 = .ok (.aload_n 0, 1) := dk_42 (dk_at dksX3_begins_1 19 rfl rfl)
theorem dX3_begins_42 : decode cX3_begins 42 = .ok (.getfield 42, 3) := dk_180 0 42 (dk_at dksX3_begins_1 20 rfl rfl)
theorem dX3_begins_45 : decode cX3_begins 45 = .ok (.iconst 1, 1) := dk_4 (dk_at dksX3_begins_1 23 rfl rfl)
theorem dX3_begins_46 : decode cX3_begins 46 = .ok (.iaload, 1) := dk_46 (dk_at dksX3_begins_2 0 rfl rfl)
theorem dX3_begins_47 : decode cX3_begins 47 = .ok (.if_icmp .ge 40, 3) := dk_162 0 40 (dk_at dksX3_begins_2 1 rfl rfl)
theorem dX3_begins_50 : decode cX3_begins 50 = .ok (.iload_n 1, 1) := dk_27 (dk_at dksX3_begins_2 4 rfl rfl)
theorem dX3_begins_51 : decode cX3_begins 51 = .ok (.iload_n 2, 1) := dk_28 (dk_at dksX3_begins_2 5 rfl rfl)
theorem dX3_begins_52 : decode cX3_begins 52 = .ok (.ishr, 1) := dk_122 (dk_at dksX3_begins_2 6 rfl rfl)
theorem dX3_begins_53 : decode cX3_begins 53 = .ok (.iconst 1, 1) := dk_4 (dk_at dksX3_begins_2 7 rfl rfl)
theorem dX3_begins_54 : decode cX3_begins 54 = .ok (.iand, 1) := dk_126 (dk_at dksX3_begins_2 8 rfl rfl)
theorem dX3_begins_55 : decode cX3_begins 55 = .ok (.ifCond .ne 6, 3) := dk_154 0 6 (dk_at dksX3_begins_2 9 rfl rfl)
theorem dX3_begins_58 : decode cX3_begins 58 = .ok (.goto 23, 3) := dk_167 0 23 (dk_at dksX3_begins_2 12 rfl rfl)
theorem dX3_begins_61 : decode cX3_begins 61 = .ok (.aload_n 0, 1) := dk_42 (dk_at dksX3_begins_2 15 rfl rfl)
theorem dX3_begins_62 : decode cX3_begins 62 = .ok (.getfield 61, 3) := dk_180 0 61 (dk_at dksX3_begins_2 16 rfl rfl)
theorem dX3_begins_65 : decode cX3_begins 65 = .ok (.aload_n 0, 1) := dk_42 (dk_at dksX3_begins_2 19 rfl rfl)
theorem dX3_begins_66 : decode cX3_begins 66 = .ok (.getfield 335, 3) := dk_180 1 79 (dk_at dksX3_begins_2 20 rfl rfl)
theorem dX3_begins_69 : decode cX3_begins 69 = .ok (.iload_n 2, 1) := dk_28 (dk_at dksX3_begins_2 23 rfl rfl)
theorem dX3_begins_70 : decode cX3_begins 70 = .ok (.iastore, 1) := dk_79 (dk_at dksX3_begins_3 0 rfl rfl)
theorem dX3_begins_71 : decode cX3_begins 71 = .ok (.aload_n 0, 1) := dk_42 (dk_at dksX3_begins_3 1 rfl rfl)
theorem dX3_begins_72 : decode cX3_begins 72 = .ok (.dup, 1) := dk_89 (dk_at dksX3_begins_3 2 rfl rfl)
theorem dX3_begins_73 : decode cX3_begins 73 = .ok (.getfield 335, 3) := dk_180 1 79 (dk_at dksX3_begins_3 3 rfl rfl)
theorem dX3_begins_76 : decode cX3_begins 76 = .ok (.iconst 1, 1) := dk_4 (dk_at dksX3_begins_3 6 rfl rfl)
theorem dX3_begins_77 : decode cX3_begins 77 = .ok (.iadd, 1) := dk_96 (dk_at dksX3_begins_3 7 rfl rfl)
theorem dX3_begins_78 : decode cX3_begins 78 = .ok (.putfield 335, 3) := dk_181 1 79 (dk_at dksX3_begins_3 8 rfl rfl)
theorem dX3_begins_81 : decode cX3_begins 81 = .ok (.iinc 2 1, 3) := dk_132 2 1 (dk_at dksX3_begins_3 11 rfl rfl)
theorem dX3_begins_84 : decode cX3_begins 84 = .ok (.goto (-44), 3) := dk_167 255 212 (dk_at dksX3_begins_3 14 rfl rfl)
theorem dX3_begins_87 : decode cX3_begins 87 = .ok (.iconst 0, 1) := dk_3 (dk_at dksX3_begins_3 17 rfl rfl)
theorem dX3_begins_88 : decode cX3_begins 88 = .ok (.istore_n 2, 1) := dk_61 (dk_at dksX3_begins_3 18 rfl rfl)
theorem dX3_begins_89 : decode cX3_begins 89 = .ok (.iload_n 2, 1) := dk_28 (dk_at dksX3_begins_3 19 rfl rfl)
theorem dX3_begins_90 : decode cX3_begins 90 = .ok (.aload_n 0, 1) := dk_42 (dk_at dksX3_begins_3 20 rfl rfl)
theorem dX3_begins_91 : decode cX3_begins 91 = .ok (.getfield 42, 3) := dk_180 0 42 (dk_at dksX3_begins_3 21 rfl rfl)
theorem dX3_begins_94 : decode cX3_begins 94 = .ok (.iconst 0, 1) := dk_3 (dk_at dksX3_begins_4 0 rfl rfl)
theorem dX3_begins_95 : decode cX3_begins 95 = .ok (.iaload, 1) := dk_46 (dk_at dksX3_begins_4 1 rfl rfl)
theorem dX3_begins_96 : decode cX3_begins 96 = .ok (.if_icmp .ge 28, 3) := dk_162 0 28 (dk_at dksX3_begins_4 2 rfl rfl)
theorem dX3_begins_99 : decode cX3_begins 99 = .ok (.aload_n 0, 1) := dk_42 (dk_at dksX3_begins_4 5 rfl rfl)
theorem dX3_begins_100 : decode cX3_begins 100 = .ok (.getfield 64, 3) := dk_180 0 64 (dk_at dksX3_begins_4 6 rfl rfl)
theorem dX3_begins_103 : decode cX3_begins 103 = .ok (.iload_n 2, 1) := dk_28 (dk_at dksX3_begins_4 9 rfl rfl)
theorem dX3_begins_104 : decode cX3_begins 104 = .ok (.aload_n 0, 1) := dk_42 (dk_at dksX3_begins_4 10 rfl rfl)
theorem dX3_begins_105 : decode cX3_begins 105 = .ok (.iload_n 2, 1) := dk_28 (dk_at dksX3_begins_4 11 rfl rfl)
theorem dX3_begins_106 : decode cX3_begins 106 = .ok (.invokevirtual 294, 3) := dk_182 1 38 (dk_at dksX3_begins_4 12 rfl rfl)
theorem dX3_begins_109 : decode cX3_begins 109 = .ok (.ifCond .le 7, 3) := dk_158 0 7 (dk_at dksX3_begins_4 15 rfl rfl)
theorem dX3_begins_112 : decode cX3_begins 112 = .ok (.iconst 1, 1) := dk_4 (dk_at dksX3_begins_4 18 rfl rfl)
theorem dX3_begins_113 : decode cX3_begins 113 = .ok (.goto 4, 3) := dk_167 0 4 (dk_at dksX3_begins_4 19 rfl rfl)
theorem dX3_begins_116 : decode cX3_begins 116 = .ok (.iconst 0, 1) := dk_3 (dk_at dksX3_begins_4 22 rfl rfl)
theorem dX3_begins_117 : decode cX3_begins 117 = .ok (.bastore, 1) := dk_84 (dk_at dksX3_begins_4 23 rfl rfl)
theorem dX3_begins_118 : decode cX3_begins 118 = .ok (.iinc 2 1, 3) := dk_132 2 1 (dk_at dksX3_begins_5 0 rfl rfl)
theorem dX3_begins_121 : decode cX3_begins 121 = .ok (.goto (-32), 3) := dk_167 255 224 (dk_at dksX3_begins_5 3 rfl rfl)
theorem dX3_begins_124 : decode cX3_begins 124 = .ok (.return_, 1) := dk_177 (dk_at dksX3_begins_5 6 rfl rfl)
abbrev cX3_searches : ByteArray := prog_19_method_70_code
def yX3_searches : MethodName := ⟨RX3, "searches", "(ZI)I"⟩
def dkwX3_searches_8 : List UInt8 := [167, 255, 162, 132, 6, 1, 167, 255, 144, 132, 4, 1, 167, 255, 69, 2, 172]
abbrev dktX3_searches_8 : List UInt8 := dkwX3_searches_8 ++ []
def dkwX3_searches_7 : List UInt8 := [126, 42, 21, 5, 21, 7, 4, 182, 1, 29, 21, 8, 120, 128, 21, 4, 182, 1, 88, 132, 7, 1]
abbrev dktX3_searches_7 : List UInt8 := dkwX3_searches_7 ++ dktX3_searches_8
def dkwX3_searches_6 : List UInt8 := [3, 46, 6, 21, 6, 104, 96, 54, 8, 42, 21, 5, 4, 21, 7, 120, 130, 16, 7, 21, 8, 120, 2, 130]
abbrev dktX3_searches_6 : List UInt8 := dkwX3_searches_6 ++ dktX3_searches_7
def dkwX3_searches_5 : List UInt8 := [21, 7, 3, 182, 1, 29, 42, 21, 5, 21, 6, 182, 1, 82, 159, 0, 6, 167, 0, 50, 42, 180, 0, 42]
abbrev dktX3_searches_5 : List UInt8 := dkwX3_searches_5 ++ dktX3_searches_6
def dkwX3_searches_4 : List UInt8 := [21, 7, 42, 180, 0, 42, 3, 46, 162, 0, 89, 42, 180, 0, 64, 21, 7, 51, 154, 0, 73, 42, 21, 5]
abbrev dktX3_searches_4 : List UInt8 := dkwX3_searches_4 ++ dktX3_searches_5
def dkwX3_searches_3 : List UInt8 := [182, 1, 23, 160, 0, 6, 21, 4, 172, 3, 54, 6, 21, 6, 42, 180, 1, 79, 162, 0, 109, 3, 54, 7]
abbrev dktX3_searches_3 : List UInt8 := dkwX3_searches_3 ++ dktX3_searches_4
def dkwX3_searches_2 : List UInt8 := [182, 1, 91, 153, 0, 30, 167, 0, 24, 42, 21, 5, 28, 182, 1, 82, 42, 42, 180, 0, 61, 28, 46, 4]
abbrev dktX3_searches_2 : List UInt8 := dkwX3_searches_2 ++ dktX3_searches_3
def dkwX3_searches_1 : List UInt8 := [180, 0, 52, 21, 4, 46, 54, 5, 27, 153, 0, 47, 28, 156, 0, 19, 42, 21, 5, 42, 180, 1, 79]
abbrev dktX3_searches_1 : List UInt8 := dkwX3_searches_1 ++ dktX3_searches_2
def dkwX3_searches_0 : List UInt8 := [42, 182, 1, 85, 62, 42, 29, 2, 182, 1, 88, 3, 54, 4, 21, 4, 42, 180, 1, 76, 162, 0, 184, 42]
abbrev dktX3_searches_0 : List UInt8 := dkwX3_searches_0 ++ dktX3_searches_1
theorem dksX3_searches_0 : cX3_searches.data.toList.drop 0 = dktX3_searches_0 := by decide +kernel
theorem dksX3_searches_1 : cX3_searches.data.toList.drop 24 = dktX3_searches_1 := dk_seg dksX3_searches_0 24 rfl rfl
theorem dksX3_searches_2 : cX3_searches.data.toList.drop 47 = dktX3_searches_2 := dk_seg dksX3_searches_1 23 rfl rfl
theorem dksX3_searches_3 : cX3_searches.data.toList.drop 71 = dktX3_searches_3 := dk_seg dksX3_searches_2 24 rfl rfl
theorem dksX3_searches_4 : cX3_searches.data.toList.drop 95 = dktX3_searches_4 := dk_seg dksX3_searches_3 24 rfl rfl
theorem dksX3_searches_5 : cX3_searches.data.toList.drop 119 = dktX3_searches_5 := dk_seg dksX3_searches_4 24 rfl rfl
theorem dksX3_searches_6 : cX3_searches.data.toList.drop 143 = dktX3_searches_6 := dk_seg dksX3_searches_5 24 rfl rfl
theorem dksX3_searches_7 : cX3_searches.data.toList.drop 167 = dktX3_searches_7 := dk_seg dksX3_searches_6 24 rfl rfl
theorem dksX3_searches_8 : cX3_searches.data.toList.drop 189 = dktX3_searches_8 := dk_seg dksX3_searches_7 22 rfl rfl
theorem dX3_searches_0 : decode cX3_searches 0 = .ok (.aload_n 0, 1) := dk_42 (dk_at dksX3_searches_0 0 rfl rfl)
theorem dX3_searches_1 : decode cX3_searches 1 = .ok (.invokevirtual 341, 3) := dk_182 1 85 (dk_at dksX3_searches_0 1 rfl rfl)
theorem dX3_searches_4 : decode cX3_searches 4 = .ok (.istore_n 3, 1) := dk_62 (dk_at dksX3_searches_0 4 rfl rfl)
theorem dX3_searches_5 : decode cX3_searches 5 = .ok (.aload_n 0, 1) := dk_42 (dk_at dksX3_searches_0 5 rfl rfl)
theorem dX3_searches_6 : decode cX3_searches 6 = .ok (.iload_n 3, 1) := dk_29 (dk_at dksX3_searches_0 6 rfl rfl)
theorem dX3_searches_7 : decode cX3_searches 7 = .ok (.iconst (-1), 1) := dk_2 (dk_at dksX3_searches_0 7 rfl rfl)
theorem dX3_searches_8 : decode cX3_searches 8 = .ok (.invokevirtual 344, 3) := dk_182 1 88 (dk_at dksX3_searches_0 8 rfl rfl)
theorem dX3_searches_11 : decode cX3_searches 11 = .ok (.iconst 0, 1) := dk_3 (dk_at dksX3_searches_0 11 rfl rfl)
theorem dX3_searches_12 : decode cX3_searches 12 = .ok (.istore 4, 2) := dk_54 4 (dk_at dksX3_searches_0 12 rfl rfl)
theorem dX3_searches_14 : decode cX3_searches 14 = .ok (.iload 4, 2) := dk_21 4 (dk_at dksX3_searches_0 14 rfl rfl)
theorem dX3_searches_16 : decode cX3_searches 16 = .ok (.aload_n 0, 1) := dk_42 (dk_at dksX3_searches_0 16 rfl rfl)
theorem dX3_searches_17 : decode cX3_searches 17 = .ok (.getfield 332, 3) := dk_180 1 76 (dk_at dksX3_searches_0 17 rfl rfl)
theorem dX3_searches_20 : decode cX3_searches 20 = .ok (.if_icmp .ge 184, 3) := dk_162 0 184 (dk_at dksX3_searches_0 20 rfl rfl)
theorem dX3_searches_23 : decode cX3_searches 23 = .ok (.aload_n 0, 1) := dk_42 (dk_at dksX3_searches_0 23 rfl rfl)
theorem dX3_searches_24 : decode cX3_searches 24 = .ok (.getfield 52, 3) := dk_180 0 52 (dk_at dksX3_searches_1 0 rfl rfl)
theorem dX3_searches_27 : decode cX3_searches 27 = .ok (.iload 4, 2) := dk_21 4 (dk_at dksX3_searches_1 3 rfl rfl)
theorem dX3_searches_29 : decode cX3_searches 29 = .ok (.iaload, 1) := dk_46 (dk_at dksX3_searches_1 5 rfl rfl)
theorem dX3_searches_30 : decode cX3_searches 30 = .ok (.istore 5, 2) := dk_54 5 (dk_at dksX3_searches_1 6 rfl rfl)
theorem dX3_searches_32 : decode cX3_searches 32 = .ok (.iload_n 1, 1) := dk_27 (dk_at dksX3_searches_1 8 rfl rfl)
theorem dX3_searches_33 : decode cX3_searches 33 = .ok (.ifCond .eq 47, 3) := dk_153 0 47 (dk_at dksX3_searches_1 9 rfl rfl)
theorem dX3_searches_36 : decode cX3_searches 36 = .ok (.iload_n 2, 1) := dk_28 (dk_at dksX3_searches_1 12 rfl rfl)
theorem dX3_searches_37 : decode cX3_searches 37 = .ok (.ifCond .ge 19, 3) := dk_156 0 19 (dk_at dksX3_searches_1 13 rfl rfl)
theorem dX3_searches_40 : decode cX3_searches 40 = .ok (.aload_n 0, 1) := dk_42 (dk_at dksX3_searches_1 16 rfl rfl)
theorem dX3_searches_41 : decode cX3_searches 41 = .ok (.iload 5, 2) := dk_21 5 (dk_at dksX3_searches_1 17 rfl rfl)
theorem dX3_searches_43 : decode cX3_searches 43 = .ok (.aload_n 0, 1) := dk_42 (dk_at dksX3_searches_1 19 rfl rfl)
theorem dX3_searches_44 : decode cX3_searches 44 = .ok (.getfield 335, 3) := dk_180 1 79 (dk_at dksX3_searches_1 20 rfl rfl)
theorem dX3_searches_47 : decode cX3_searches 47 = .ok (.invokevirtual 347, 3) := dk_182 1 91 (dk_at dksX3_searches_2 0 rfl rfl)
theorem dX3_searches_50 : decode cX3_searches 50 = .ok (.ifCond .eq 30, 3) := dk_153 0 30 (dk_at dksX3_searches_2 3 rfl rfl)
theorem dX3_searches_53 : decode cX3_searches 53 = .ok (.goto 24, 3) := dk_167 0 24 (dk_at dksX3_searches_2 6 rfl rfl)
theorem dX3_searches_56 : decode cX3_searches 56 = .ok (.aload_n 0, 1) := dk_42 (dk_at dksX3_searches_2 9 rfl rfl)
theorem dX3_searches_57 : decode cX3_searches 57 = .ok (.iload 5, 2) := dk_21 5 (dk_at dksX3_searches_2 10 rfl rfl)
theorem dX3_searches_59 : decode cX3_searches 59 = .ok (.iload_n 2, 1) := dk_28 (dk_at dksX3_searches_2 12 rfl rfl)
theorem dX3_searches_60 : decode cX3_searches 60 = .ok (.invokevirtual 338, 3) := dk_182 1 82 (dk_at dksX3_searches_2 13 rfl rfl)
theorem dX3_searches_63 : decode cX3_searches 63 = .ok (.aload_n 0, 1) := dk_42 (dk_at dksX3_searches_2 16 rfl rfl)
theorem dX3_searches_64 : decode cX3_searches 64 = .ok (.aload_n 0, 1) := dk_42 (dk_at dksX3_searches_2 17 rfl rfl)
theorem dX3_searches_65 : decode cX3_searches 65 = .ok (.getfield 61, 3) := dk_180 0 61 (dk_at dksX3_searches_2 18 rfl rfl)
theorem dX3_searches_68 : decode cX3_searches 68 = .ok (.iload_n 2, 1) := dk_28 (dk_at dksX3_searches_2 21 rfl rfl)
theorem dX3_searches_69 : decode cX3_searches 69 = .ok (.iaload, 1) := dk_46 (dk_at dksX3_searches_2 22 rfl rfl)
theorem dX3_searches_70 : decode cX3_searches 70 = .ok (.iconst 1, 1) := dk_4 (dk_at dksX3_searches_2 23 rfl rfl)
theorem dX3_searches_71 : decode cX3_searches 71 = .ok (.invokevirtual 279, 3) := dk_182 1 23 (dk_at dksX3_searches_3 0 rfl rfl)
theorem dX3_searches_74 : decode cX3_searches 74 = .ok (.if_icmp .ne 6, 3) := dk_160 0 6 (dk_at dksX3_searches_3 3 rfl rfl)
theorem dX3_searches_77 : decode cX3_searches 77 = .ok (.iload 4, 2) := dk_21 4 (dk_at dksX3_searches_3 6 rfl rfl)
theorem dX3_searches_79 : decode cX3_searches 79 = .ok (.ireturn, 1) := dk_172 (dk_at dksX3_searches_3 8 rfl rfl)
theorem dX3_searches_80 : decode cX3_searches 80 = .ok (.iconst 0, 1) := dk_3 (dk_at dksX3_searches_3 9 rfl rfl)
theorem dX3_searches_81 : decode cX3_searches 81 = .ok (.istore 6, 2) := dk_54 6 (dk_at dksX3_searches_3 10 rfl rfl)
theorem dX3_searches_83 : decode cX3_searches 83 = .ok (.iload 6, 2) := dk_21 6 (dk_at dksX3_searches_3 12 rfl rfl)
theorem dX3_searches_85 : decode cX3_searches 85 = .ok (.aload_n 0, 1) := dk_42 (dk_at dksX3_searches_3 14 rfl rfl)
theorem dX3_searches_86 : decode cX3_searches 86 = .ok (.getfield 335, 3) := dk_180 1 79 (dk_at dksX3_searches_3 15 rfl rfl)
theorem dX3_searches_89 : decode cX3_searches 89 = .ok (.if_icmp .ge 109, 3) := dk_162 0 109 (dk_at dksX3_searches_3 18 rfl rfl)
theorem dX3_searches_92 : decode cX3_searches 92 = .ok (.iconst 0, 1) := dk_3 (dk_at dksX3_searches_3 21 rfl rfl)
theorem dX3_searches_93 : decode cX3_searches 93 = .ok (.istore 7, 2) := dk_54 7 (dk_at dksX3_searches_3 22 rfl rfl)
theorem dX3_searches_95 : decode cX3_searches 95 = .ok (.iload 7, 2) := dk_21 7 (dk_at dksX3_searches_4 0 rfl rfl)
theorem dX3_searches_97 : decode cX3_searches 97 = .ok (.aload_n 0, 1) := dk_42 (dk_at dksX3_searches_4 2 rfl rfl)
theorem dX3_searches_98 : decode cX3_searches 98 = .ok (.getfield 42, 3) := dk_180 0 42 (dk_at dksX3_searches_4 3 rfl rfl)
theorem dX3_searches_101 : decode cX3_searches 101 = .ok (.iconst 0, 1) := dk_3 (dk_at dksX3_searches_4 6 rfl rfl)
theorem dX3_searches_102 : decode cX3_searches 102 = .ok (.iaload, 1) := dk_46 (dk_at dksX3_searches_4 7 rfl rfl)
theorem dX3_searches_103 : decode cX3_searches 103 = .ok (.if_icmp .ge 89, 3) := dk_162 0 89 (dk_at dksX3_searches_4 8 rfl rfl)
theorem dX3_searches_106 : decode cX3_searches 106 = .ok (.aload_n 0, 1) := dk_42 (dk_at dksX3_searches_4 11 rfl rfl)
theorem dX3_searches_107 : decode cX3_searches 107 = .ok (.getfield 64, 3) := dk_180 0 64 (dk_at dksX3_searches_4 12 rfl rfl)
theorem dX3_searches_110 : decode cX3_searches 110 = .ok (.iload 7, 2) := dk_21 7 (dk_at dksX3_searches_4 15 rfl rfl)
theorem dX3_searches_112 : decode cX3_searches 112 = .ok (.baload, 1) := dk_51 (dk_at dksX3_searches_4 17 rfl rfl)
theorem dX3_searches_113 : decode cX3_searches 113 = .ok (.ifCond .ne 73, 3) := dk_154 0 73 (dk_at dksX3_searches_4 18 rfl rfl)
theorem dX3_searches_116 : decode cX3_searches 116 = .ok (.aload_n 0, 1) := dk_42 (dk_at dksX3_searches_4 21 rfl rfl)
theorem dX3_searches_117 : decode cX3_searches 117 = .ok (.iload 5, 2) := dk_21 5 (dk_at dksX3_searches_4 22 rfl rfl)
theorem dX3_searches_119 : decode cX3_searches 119 = .ok (.iload 7, 2) := dk_21 7 (dk_at dksX3_searches_5 0 rfl rfl)
theorem dX3_searches_121 : decode cX3_searches 121 = .ok (.iconst 0, 1) := dk_3 (dk_at dksX3_searches_5 2 rfl rfl)
theorem dX3_searches_122 : decode cX3_searches 122 = .ok (.invokevirtual 285, 3) := dk_182 1 29 (dk_at dksX3_searches_5 3 rfl rfl)
theorem dX3_searches_125 : decode cX3_searches 125 = .ok (.aload_n 0, 1) := dk_42 (dk_at dksX3_searches_5 6 rfl rfl)
theorem dX3_searches_126 : decode cX3_searches 126 = .ok (.iload 5, 2) := dk_21 5 (dk_at dksX3_searches_5 7 rfl rfl)
theorem dX3_searches_128 : decode cX3_searches 128 = .ok (.iload 6, 2) := dk_21 6 (dk_at dksX3_searches_5 9 rfl rfl)
theorem dX3_searches_130 : decode cX3_searches 130 = .ok (.invokevirtual 338, 3) := dk_182 1 82 (dk_at dksX3_searches_5 11 rfl rfl)
theorem dX3_searches_133 : decode cX3_searches 133 = .ok (.if_icmp .eq 6, 3) := dk_159 0 6 (dk_at dksX3_searches_5 14 rfl rfl)
theorem dX3_searches_136 : decode cX3_searches 136 = .ok (.goto 50, 3) := dk_167 0 50 (dk_at dksX3_searches_5 17 rfl rfl)
theorem dX3_searches_139 : decode cX3_searches 139 = .ok (.aload_n 0, 1) := dk_42 (dk_at dksX3_searches_5 20 rfl rfl)
theorem dX3_searches_140 : decode cX3_searches 140 = .ok (.getfield 42, 3) := dk_180 0 42 (dk_at dksX3_searches_5 21 rfl rfl)
theorem dX3_searches_143 : decode cX3_searches 143 = .ok (.iconst 0, 1) := dk_3 (dk_at dksX3_searches_6 0 rfl rfl)
theorem dX3_searches_144 : decode cX3_searches 144 = .ok (.iaload, 1) := dk_46 (dk_at dksX3_searches_6 1 rfl rfl)
theorem dX3_searches_145 : decode cX3_searches 145 = .ok (.iconst 3, 1) := dk_6 (dk_at dksX3_searches_6 2 rfl rfl)
theorem dX3_searches_146 : decode cX3_searches 146 = .ok (.iload 6, 2) := dk_21 6 (dk_at dksX3_searches_6 3 rfl rfl)
theorem dX3_searches_148 : decode cX3_searches 148 = .ok (.imul, 1) := dk_104 (dk_at dksX3_searches_6 5 rfl rfl)
theorem dX3_searches_149 : decode cX3_searches 149 = .ok (.iadd, 1) := dk_96 (dk_at dksX3_searches_6 6 rfl rfl)
theorem dX3_searches_150 : decode cX3_searches 150 = .ok (.istore 8, 2) := dk_54 8 (dk_at dksX3_searches_6 7 rfl rfl)
theorem dX3_searches_152 : decode cX3_searches 152 = .ok (.aload_n 0, 1) := dk_42 (dk_at dksX3_searches_6 9 rfl rfl)
theorem dX3_searches_153 : decode cX3_searches 153 = .ok (.iload 5, 2) := dk_21 5 (dk_at dksX3_searches_6 10 rfl rfl)
theorem dX3_searches_155 : decode cX3_searches 155 = .ok (.iconst 1, 1) := dk_4 (dk_at dksX3_searches_6 12 rfl rfl)
theorem dX3_searches_156 : decode cX3_searches 156 = .ok (.iload 7, 2) := dk_21 7 (dk_at dksX3_searches_6 13 rfl rfl)
theorem dX3_searches_158 : decode cX3_searches 158 = .ok (.ishl, 1) := dk_120 (dk_at dksX3_searches_6 15 rfl rfl)
theorem dX3_searches_159 : decode cX3_searches 159 = .ok (.ixor, 1) := dk_130 (dk_at dksX3_searches_6 16 rfl rfl)
theorem dX3_searches_160 : decode cX3_searches 160 = .ok (.bipush 7, 2) := dk_16 7 (dk_at dksX3_searches_6 17 rfl rfl)
theorem dX3_searches_162 : decode cX3_searches 162 = .ok (.iload 8, 2) := dk_21 8 (dk_at dksX3_searches_6 19 rfl rfl)
theorem dX3_searches_164 : decode cX3_searches 164 = .ok (.ishl, 1) := dk_120 (dk_at dksX3_searches_6 21 rfl rfl)
theorem dX3_searches_165 : decode cX3_searches 165 = .ok (.iconst (-1), 1) := dk_2 (dk_at dksX3_searches_6 22 rfl rfl)
theorem dX3_searches_166 : decode cX3_searches 166 = .ok (.ixor, 1) := dk_130 (dk_at dksX3_searches_6 23 rfl rfl)
theorem dX3_searches_167 : decode cX3_searches 167 = .ok (.iand, 1) := dk_126 (dk_at dksX3_searches_7 0 rfl rfl)
theorem dX3_searches_168 : decode cX3_searches 168 = .ok (.aload_n 0, 1) := dk_42 (dk_at dksX3_searches_7 1 rfl rfl)
theorem dX3_searches_169 : decode cX3_searches 169 = .ok (.iload 5, 2) := dk_21 5 (dk_at dksX3_searches_7 2 rfl rfl)
theorem dX3_searches_171 : decode cX3_searches 171 = .ok (.iload 7, 2) := dk_21 7 (dk_at dksX3_searches_7 4 rfl rfl)
theorem dX3_searches_173 : decode cX3_searches 173 = .ok (.iconst 1, 1) := dk_4 (dk_at dksX3_searches_7 6 rfl rfl)
theorem dX3_searches_174 : decode cX3_searches 174 = .ok (.invokevirtual 285, 3) := dk_182 1 29 (dk_at dksX3_searches_7 7 rfl rfl)
theorem dX3_searches_177 : decode cX3_searches 177 = .ok (.iload 8, 2) := dk_21 8 (dk_at dksX3_searches_7 10 rfl rfl)
theorem dX3_searches_179 : decode cX3_searches 179 = .ok (.ishl, 1) := dk_120 (dk_at dksX3_searches_7 12 rfl rfl)
theorem dX3_searches_180 : decode cX3_searches 180 = .ok (.ior, 1) := dk_128 (dk_at dksX3_searches_7 13 rfl rfl)
theorem dX3_searches_181 : decode cX3_searches 181 = .ok (.iload 4, 2) := dk_21 4 (dk_at dksX3_searches_7 14 rfl rfl)
theorem dX3_searches_183 : decode cX3_searches 183 = .ok (.invokevirtual 344, 3) := dk_182 1 88 (dk_at dksX3_searches_7 16 rfl rfl)
theorem dX3_searches_186 : decode cX3_searches 186 = .ok (.iinc 7 1, 3) := dk_132 7 1 (dk_at dksX3_searches_7 19 rfl rfl)
theorem dX3_searches_189 : decode cX3_searches 189 = .ok (.goto (-94), 3) := dk_167 255 162 (dk_at dksX3_searches_8 0 rfl rfl)
theorem dX3_searches_192 : decode cX3_searches 192 = .ok (.iinc 6 1, 3) := dk_132 6 1 (dk_at dksX3_searches_8 3 rfl rfl)
theorem dX3_searches_195 : decode cX3_searches 195 = .ok (.goto (-112), 3) := dk_167 255 144 (dk_at dksX3_searches_8 6 rfl rfl)
theorem dX3_searches_198 : decode cX3_searches 198 = .ok (.iinc 4 1, 3) := dk_132 4 1 (dk_at dksX3_searches_8 9 rfl rfl)
theorem dX3_searches_201 : decode cX3_searches 201 = .ok (.goto (-187), 3) := dk_167 255 69 (dk_at dksX3_searches_8 12 rfl rfl)
theorem dX3_searches_204 : decode cX3_searches 204 = .ok (.iconst (-1), 1) := dk_2 (dk_at dksX3_searches_8 15 rfl rfl)
theorem dX3_searches_205 : decode cX3_searches 205 = .ok (.ireturn, 1) := dk_172 (dk_at dksX3_searches_8 16 rfl rfl)
abbrev cX3_begun : ByteArray := prog_19_method_68_code
def yX3_begun : MethodName := ⟨RX3, "begun", "()I"⟩
def dkwX3_begun_2 : List UInt8 := [27, 172]
abbrev dktX3_begun_2 : List UInt8 := dkwX3_begun_2 ++ []
def dkwX3_begun_1 : List UInt8 := [46, 3, 182, 1, 23, 42, 180, 0, 42, 3, 46, 6, 28, 104, 96, 120, 128, 60, 132, 2, 1, 167, 255, 220]
abbrev dktX3_begun_1 : List UInt8 := dkwX3_begun_1 ++ dktX3_begun_2
def dkwX3_begun_0 : List UInt8 := [42, 180, 0, 42, 5, 46, 60, 3, 61, 28, 42, 180, 1, 79, 162, 0, 34, 27, 42, 42, 180, 0, 61, 28]
abbrev dktX3_begun_0 : List UInt8 := dkwX3_begun_0 ++ dktX3_begun_1
theorem dksX3_begun_0 : cX3_begun.data.toList.drop 0 = dktX3_begun_0 := by decide +kernel
theorem dksX3_begun_1 : cX3_begun.data.toList.drop 24 = dktX3_begun_1 := dk_seg dksX3_begun_0 24 rfl rfl
theorem dksX3_begun_2 : cX3_begun.data.toList.drop 48 = dktX3_begun_2 := dk_seg dksX3_begun_1 24 rfl rfl
theorem dX3_begun_0 : decode cX3_begun 0 = .ok (.aload_n 0, 1) := dk_42 (dk_at dksX3_begun_0 0 rfl rfl)
theorem dX3_begun_1 : decode cX3_begun 1 = .ok (.getfield 42, 3) := dk_180 0 42 (dk_at dksX3_begun_0 1 rfl rfl)
theorem dX3_begun_4 : decode cX3_begun 4 = .ok (.iconst 2, 1) := dk_5 (dk_at dksX3_begun_0 4 rfl rfl)
theorem dX3_begun_5 : decode cX3_begun 5 = .ok (.iaload, 1) := dk_46 (dk_at dksX3_begun_0 5 rfl rfl)
theorem dX3_begun_6 : decode cX3_begun 6 = .ok (.istore_n 1, 1) := dk_60 (dk_at dksX3_begun_0 6 rfl rfl)
theorem dX3_begun_7 : decode cX3_begun 7 = .ok (.iconst 0, 1) := dk_3 (dk_at dksX3_begun_0 7 rfl rfl)
theorem dX3_begun_8 : decode cX3_begun 8 = .ok (.istore_n 2, 1) := dk_61 (dk_at dksX3_begun_0 8 rfl rfl)
theorem dX3_begun_9 : decode cX3_begun 9 = .ok (.iload_n 2, 1) := dk_28 (dk_at dksX3_begun_0 9 rfl rfl)
theorem dX3_begun_10 : decode cX3_begun 10 = .ok (.aload_n 0, 1) := dk_42 (dk_at dksX3_begun_0 10 rfl rfl)
theorem dX3_begun_11 : decode cX3_begun 11 = .ok (.getfield 335, 3) := dk_180 1 79 (dk_at dksX3_begun_0 11 rfl rfl)
theorem dX3_begun_14 : decode cX3_begun 14 = .ok (.if_icmp .ge 34, 3) := dk_162 0 34 (dk_at dksX3_begun_0 14 rfl rfl)
theorem dX3_begun_17 : decode cX3_begun 17 = .ok (.iload_n 1, 1) := dk_27 (dk_at dksX3_begun_0 17 rfl rfl)
theorem dX3_begun_18 : decode cX3_begun 18 = .ok (.aload_n 0, 1) := dk_42 (dk_at dksX3_begun_0 18 rfl rfl)
theorem dX3_begun_19 : decode cX3_begun 19 = .ok (.aload_n 0, 1) := dk_42 (dk_at dksX3_begun_0 19 rfl rfl)
theorem dX3_begun_20 : decode cX3_begun 20 = .ok (.getfield 61, 3) := dk_180 0 61 (dk_at dksX3_begun_0 20 rfl rfl)
theorem dX3_begun_23 : decode cX3_begun 23 = .ok (.iload_n 2, 1) := dk_28 (dk_at dksX3_begun_0 23 rfl rfl)
theorem dX3_begun_24 : decode cX3_begun 24 = .ok (.iaload, 1) := dk_46 (dk_at dksX3_begun_1 0 rfl rfl)
theorem dX3_begun_25 : decode cX3_begun 25 = .ok (.iconst 0, 1) := dk_3 (dk_at dksX3_begun_1 1 rfl rfl)
theorem dX3_begun_26 : decode cX3_begun 26 = .ok (.invokevirtual 279, 3) := dk_182 1 23 (dk_at dksX3_begun_1 2 rfl rfl)
theorem dX3_begun_29 : decode cX3_begun 29 = .ok (.aload_n 0, 1) := dk_42 (dk_at dksX3_begun_1 5 rfl rfl)
theorem dX3_begun_30 : decode cX3_begun 30 = .ok (.getfield 42, 3) := dk_180 0 42 (dk_at dksX3_begun_1 6 rfl rfl)
theorem dX3_begun_33 : decode cX3_begun 33 = .ok (.iconst 0, 1) := dk_3 (dk_at dksX3_begun_1 9 rfl rfl)
theorem dX3_begun_34 : decode cX3_begun 34 = .ok (.iaload, 1) := dk_46 (dk_at dksX3_begun_1 10 rfl rfl)
theorem dX3_begun_35 : decode cX3_begun 35 = .ok (.iconst 3, 1) := dk_6 (dk_at dksX3_begun_1 11 rfl rfl)
theorem dX3_begun_36 : decode cX3_begun 36 = .ok (.iload_n 2, 1) := dk_28 (dk_at dksX3_begun_1 12 rfl rfl)
theorem dX3_begun_37 : decode cX3_begun 37 = .ok (.imul, 1) := dk_104 (dk_at dksX3_begun_1 13 rfl rfl)
theorem dX3_begun_38 : decode cX3_begun 38 = .ok (.iadd, 1) := dk_96 (dk_at dksX3_begun_1 14 rfl rfl)
theorem dX3_begun_39 : decode cX3_begun 39 = .ok (.ishl, 1) := dk_120 (dk_at dksX3_begun_1 15 rfl rfl)
theorem dX3_begun_40 : decode cX3_begun 40 = .ok (.ior, 1) := dk_128 (dk_at dksX3_begun_1 16 rfl rfl)
theorem dX3_begun_41 : decode cX3_begun 41 = .ok (.istore_n 1, 1) := dk_60 (dk_at dksX3_begun_1 17 rfl rfl)
theorem dX3_begun_42 : decode cX3_begun 42 = .ok (.iinc 2 1, 3) := dk_132 2 1 (dk_at dksX3_begun_1 18 rfl rfl)
theorem dX3_begun_45 : decode cX3_begun 45 = .ok (.goto (-36), 3) := dk_167 255 220 (dk_at dksX3_begun_1 21 rfl rfl)
theorem dX3_begun_48 : decode cX3_begun 48 = .ok (.iload_n 1, 1) := dk_27 (dk_at dksX3_begun_2 0 rfl rfl)
theorem dX3_begun_49 : decode cX3_begun 49 = .ok (.ireturn, 1) := dk_172 (dk_at dksX3_begun_2 1 rfl rfl)
abbrev cX3_meets : ByteArray := prog_19_method_64_code
def yX3_meets : MethodName := ⟨RX3, "meets", "(II)V"⟩
def dkwX3_meets_2 : List UInt8 := [180, 1, 76, 79, 177]
abbrev dktX3_meets_2 : List UInt8 := dkwX3_meets_2 ++ []
def dkwX3_meets_1 : List UInt8 := [42, 180, 1, 76, 28, 79, 42, 89, 180, 1, 76, 4, 96, 181, 1, 76, 42, 180, 0, 58, 27, 42]
abbrev dktX3_meets_1 : List UInt8 := dkwX3_meets_1 ++ dktX3_meets_2
def dkwX3_meets_0 : List UInt8 := [42, 180, 0, 58, 27, 46, 158, 0, 4, 177, 42, 180, 0, 52, 42, 180, 1, 76, 27, 79, 42, 180, 0, 55]
abbrev dktX3_meets_0 : List UInt8 := dkwX3_meets_0 ++ dktX3_meets_1
theorem dksX3_meets_0 : cX3_meets.data.toList.drop 0 = dktX3_meets_0 := by decide +kernel
theorem dksX3_meets_1 : cX3_meets.data.toList.drop 24 = dktX3_meets_1 := dk_seg dksX3_meets_0 24 rfl rfl
theorem dksX3_meets_2 : cX3_meets.data.toList.drop 46 = dktX3_meets_2 := dk_seg dksX3_meets_1 22 rfl rfl
theorem dX3_meets_0 : decode cX3_meets 0 = .ok (.aload_n 0, 1) := dk_42 (dk_at dksX3_meets_0 0 rfl rfl)
theorem dX3_meets_1 : decode cX3_meets 1 = .ok (.getfield 58, 3) := dk_180 0 58 (dk_at dksX3_meets_0 1 rfl rfl)
theorem dX3_meets_4 : decode cX3_meets 4 = .ok (.iload_n 1, 1) := dk_27 (dk_at dksX3_meets_0 4 rfl rfl)
theorem dX3_meets_5 : decode cX3_meets 5 = .ok (.iaload, 1) := dk_46 (dk_at dksX3_meets_0 5 rfl rfl)
theorem dX3_meets_6 : decode cX3_meets 6 = .ok (.ifCond .le 4, 3) := dk_158 0 4 (dk_at dksX3_meets_0 6 rfl rfl)
theorem dX3_meets_9 : decode cX3_meets 9 = .ok (.return_, 1) := dk_177 (dk_at dksX3_meets_0 9 rfl rfl)
theorem dX3_meets_10 : decode cX3_meets 10 = .ok (.aload_n 0, 1) := dk_42 (dk_at dksX3_meets_0 10 rfl rfl)
theorem dX3_meets_11 : decode cX3_meets 11 = .ok (.getfield 52, 3) := dk_180 0 52 (dk_at dksX3_meets_0 11 rfl rfl)
theorem dX3_meets_14 : decode cX3_meets 14 = .ok (.aload_n 0, 1) := dk_42 (dk_at dksX3_meets_0 14 rfl rfl)
theorem dX3_meets_15 : decode cX3_meets 15 = .ok (.getfield 332, 3) := dk_180 1 76 (dk_at dksX3_meets_0 15 rfl rfl)
theorem dX3_meets_18 : decode cX3_meets 18 = .ok (.iload_n 1, 1) := dk_27 (dk_at dksX3_meets_0 18 rfl rfl)
theorem dX3_meets_19 : decode cX3_meets 19 = .ok (.iastore, 1) := dk_79 (dk_at dksX3_meets_0 19 rfl rfl)
theorem dX3_meets_20 : decode cX3_meets 20 = .ok (.aload_n 0, 1) := dk_42 (dk_at dksX3_meets_0 20 rfl rfl)
theorem dX3_meets_21 : decode cX3_meets 21 = .ok (.getfield 55, 3) := dk_180 0 55 (dk_at dksX3_meets_0 21 rfl rfl)
theorem dX3_meets_24 : decode cX3_meets 24 = .ok (.aload_n 0, 1) := dk_42 (dk_at dksX3_meets_1 0 rfl rfl)
theorem dX3_meets_25 : decode cX3_meets 25 = .ok (.getfield 332, 3) := dk_180 1 76 (dk_at dksX3_meets_1 1 rfl rfl)
theorem dX3_meets_28 : decode cX3_meets 28 = .ok (.iload_n 2, 1) := dk_28 (dk_at dksX3_meets_1 4 rfl rfl)
theorem dX3_meets_29 : decode cX3_meets 29 = .ok (.iastore, 1) := dk_79 (dk_at dksX3_meets_1 5 rfl rfl)
theorem dX3_meets_30 : decode cX3_meets 30 = .ok (.aload_n 0, 1) := dk_42 (dk_at dksX3_meets_1 6 rfl rfl)
theorem dX3_meets_31 : decode cX3_meets 31 = .ok (.dup, 1) := dk_89 (dk_at dksX3_meets_1 7 rfl rfl)
theorem dX3_meets_32 : decode cX3_meets 32 = .ok (.getfield 332, 3) := dk_180 1 76 (dk_at dksX3_meets_1 8 rfl rfl)
theorem dX3_meets_35 : decode cX3_meets 35 = .ok (.iconst 1, 1) := dk_4 (dk_at dksX3_meets_1 11 rfl rfl)
theorem dX3_meets_36 : decode cX3_meets 36 = .ok (.iadd, 1) := dk_96 (dk_at dksX3_meets_1 12 rfl rfl)
theorem dX3_meets_37 : decode cX3_meets 37 = .ok (.putfield 332, 3) := dk_181 1 76 (dk_at dksX3_meets_1 13 rfl rfl)
theorem dX3_meets_40 : decode cX3_meets 40 = .ok (.aload_n 0, 1) := dk_42 (dk_at dksX3_meets_1 16 rfl rfl)
theorem dX3_meets_41 : decode cX3_meets 41 = .ok (.getfield 58, 3) := dk_180 0 58 (dk_at dksX3_meets_1 17 rfl rfl)
theorem dX3_meets_44 : decode cX3_meets 44 = .ok (.iload_n 1, 1) := dk_27 (dk_at dksX3_meets_1 20 rfl rfl)
theorem dX3_meets_45 : decode cX3_meets 45 = .ok (.aload_n 0, 1) := dk_42 (dk_at dksX3_meets_1 21 rfl rfl)
theorem dX3_meets_46 : decode cX3_meets 46 = .ok (.getfield 332, 3) := dk_180 1 76 (dk_at dksX3_meets_2 0 rfl rfl)
theorem dX3_meets_49 : decode cX3_meets 49 = .ok (.iastore, 1) := dk_79 (dk_at dksX3_meets_2 3 rfl rfl)
theorem dX3_meets_50 : decode cX3_meets 50 = .ok (.return_, 1) := dk_177 (dk_at dksX3_meets_2 4 rfl rfl)
abbrev cX3_areHome : ByteArray := prog_19_method_69_code
def yX3_areHome : MethodName := ⟨RX3, "areHome", "(II)Z"⟩
def dkwX3_areHome_1 : List UInt8 := [159, 0, 5, 3, 172, 132, 3, 1, 167, 255, 226, 4, 172]
abbrev dktX3_areHome_1 : List UInt8 := dkwX3_areHome_1 ++ []
def dkwX3_areHome_0 : List UInt8 := [3, 62, 29, 28, 162, 0, 31, 42, 27, 29, 182, 1, 82, 42, 42, 180, 0, 61, 29, 46, 4, 182, 1, 23]
abbrev dktX3_areHome_0 : List UInt8 := dkwX3_areHome_0 ++ dktX3_areHome_1
theorem dksX3_areHome_0 : cX3_areHome.data.toList.drop 0 = dktX3_areHome_0 := by decide +kernel
theorem dksX3_areHome_1 : cX3_areHome.data.toList.drop 24 = dktX3_areHome_1 := dk_seg dksX3_areHome_0 24 rfl rfl
theorem dX3_areHome_0 : decode cX3_areHome 0 = .ok (.iconst 0, 1) := dk_3 (dk_at dksX3_areHome_0 0 rfl rfl)
theorem dX3_areHome_1 : decode cX3_areHome 1 = .ok (.istore_n 3, 1) := dk_62 (dk_at dksX3_areHome_0 1 rfl rfl)
theorem dX3_areHome_2 : decode cX3_areHome 2 = .ok (.iload_n 3, 1) := dk_29 (dk_at dksX3_areHome_0 2 rfl rfl)
theorem dX3_areHome_3 : decode cX3_areHome 3 = .ok (.iload_n 2, 1) := dk_28 (dk_at dksX3_areHome_0 3 rfl rfl)
theorem dX3_areHome_4 : decode cX3_areHome 4 = .ok (.if_icmp .ge 31, 3) := dk_162 0 31 (dk_at dksX3_areHome_0 4 rfl rfl)
theorem dX3_areHome_7 : decode cX3_areHome 7 = .ok (.aload_n 0, 1) := dk_42 (dk_at dksX3_areHome_0 7 rfl rfl)
theorem dX3_areHome_8 : decode cX3_areHome 8 = .ok (.iload_n 1, 1) := dk_27 (dk_at dksX3_areHome_0 8 rfl rfl)
theorem dX3_areHome_9 : decode cX3_areHome 9 = .ok (.iload_n 3, 1) := dk_29 (dk_at dksX3_areHome_0 9 rfl rfl)
theorem dX3_areHome_10 : decode cX3_areHome 10 = .ok (.invokevirtual 338, 3) := dk_182 1 82 (dk_at dksX3_areHome_0 10 rfl rfl)
theorem dX3_areHome_13 : decode cX3_areHome 13 = .ok (.aload_n 0, 1) := dk_42 (dk_at dksX3_areHome_0 13 rfl rfl)
theorem dX3_areHome_14 : decode cX3_areHome 14 = .ok (.aload_n 0, 1) := dk_42 (dk_at dksX3_areHome_0 14 rfl rfl)
theorem dX3_areHome_15 : decode cX3_areHome 15 = .ok (.getfield 61, 3) := dk_180 0 61 (dk_at dksX3_areHome_0 15 rfl rfl)
theorem dX3_areHome_18 : decode cX3_areHome 18 = .ok (.iload_n 3, 1) := dk_29 (dk_at dksX3_areHome_0 18 rfl rfl)
theorem dX3_areHome_19 : decode cX3_areHome 19 = .ok (.iaload, 1) := dk_46 (dk_at dksX3_areHome_0 19 rfl rfl)
theorem dX3_areHome_20 : decode cX3_areHome 20 = .ok (.iconst 1, 1) := dk_4 (dk_at dksX3_areHome_0 20 rfl rfl)
theorem dX3_areHome_21 : decode cX3_areHome 21 = .ok (.invokevirtual 279, 3) := dk_182 1 23 (dk_at dksX3_areHome_0 21 rfl rfl)
theorem dX3_areHome_24 : decode cX3_areHome 24 = .ok (.if_icmp .eq 5, 3) := dk_159 0 5 (dk_at dksX3_areHome_1 0 rfl rfl)
theorem dX3_areHome_27 : decode cX3_areHome 27 = .ok (.iconst 0, 1) := dk_3 (dk_at dksX3_areHome_1 3 rfl rfl)
theorem dX3_areHome_28 : decode cX3_areHome 28 = .ok (.ireturn, 1) := dk_172 (dk_at dksX3_areHome_1 4 rfl rfl)
theorem dX3_areHome_29 : decode cX3_areHome 29 = .ok (.iinc 3 1, 3) := dk_132 3 1 (dk_at dksX3_areHome_1 5 rfl rfl)
theorem dX3_areHome_32 : decode cX3_areHome 32 = .ok (.goto (-30), 3) := dk_167 255 226 (dk_at dksX3_areHome_1 8 rfl rfl)
theorem dX3_areHome_35 : decode cX3_areHome 35 = .ok (.iconst 1, 1) := dk_4 (dk_at dksX3_areHome_1 11 rfl rfl)
theorem dX3_areHome_36 : decode cX3_areHome 36 = .ok (.ireturn, 1) := dk_172 (dk_at dksX3_areHome_1 12 rfl rfl)
abbrev cX3_placeIn : ByteArray := prog_19_method_66_code
def yX3_placeIn : MethodName := ⟨RX3, "placeIn", "(II)I"⟩
def dkwX3_placeIn_0 : List UInt8 := [27, 42, 180, 0, 42, 3, 46, 6, 28, 104, 96, 122, 16, 7, 126, 172]
abbrev dktX3_placeIn_0 : List UInt8 := dkwX3_placeIn_0 ++ []
theorem dksX3_placeIn_0 : cX3_placeIn.data.toList.drop 0 = dktX3_placeIn_0 := by decide +kernel
theorem dX3_placeIn_0 : decode cX3_placeIn 0 = .ok (.iload_n 1, 1) := dk_27 (dk_at dksX3_placeIn_0 0 rfl rfl)
theorem dX3_placeIn_1 : decode cX3_placeIn 1 = .ok (.aload_n 0, 1) := dk_42 (dk_at dksX3_placeIn_0 1 rfl rfl)
theorem dX3_placeIn_2 : decode cX3_placeIn 2 = .ok (.getfield 42, 3) := dk_180 0 42 (dk_at dksX3_placeIn_0 2 rfl rfl)
theorem dX3_placeIn_5 : decode cX3_placeIn 5 = .ok (.iconst 0, 1) := dk_3 (dk_at dksX3_placeIn_0 5 rfl rfl)
theorem dX3_placeIn_6 : decode cX3_placeIn 6 = .ok (.iaload, 1) := dk_46 (dk_at dksX3_placeIn_0 6 rfl rfl)
theorem dX3_placeIn_7 : decode cX3_placeIn 7 = .ok (.iconst 3, 1) := dk_6 (dk_at dksX3_placeIn_0 7 rfl rfl)
theorem dX3_placeIn_8 : decode cX3_placeIn 8 = .ok (.iload_n 2, 1) := dk_28 (dk_at dksX3_placeIn_0 8 rfl rfl)
theorem dX3_placeIn_9 : decode cX3_placeIn 9 = .ok (.imul, 1) := dk_104 (dk_at dksX3_placeIn_0 9 rfl rfl)
theorem dX3_placeIn_10 : decode cX3_placeIn 10 = .ok (.iadd, 1) := dk_96 (dk_at dksX3_placeIn_0 10 rfl rfl)
theorem dX3_placeIn_11 : decode cX3_placeIn 11 = .ok (.ishr, 1) := dk_122 (dk_at dksX3_placeIn_0 11 rfl rfl)
theorem dX3_placeIn_12 : decode cX3_placeIn 12 = .ok (.bipush 7, 2) := dk_16 7 (dk_at dksX3_placeIn_0 12 rfl rfl)
theorem dX3_placeIn_14 : decode cX3_placeIn 14 = .ok (.iand, 1) := dk_126 (dk_at dksX3_placeIn_0 14 rfl rfl)
theorem dX3_placeIn_15 : decode cX3_placeIn 15 = .ok (.ireturn, 1) := dk_172 (dk_at dksX3_placeIn_0 15 rfl rfl)
abbrev cX3_lengthTo : ByteArray := prog_19_method_71_code
def yX3_lengthTo : MethodName := ⟨RX3, "lengthTo", "(I)I"⟩
def dkwX3_lengthTo_1 : List UInt8 := [167, 255, 242, 28, 172]
abbrev dktX3_lengthTo_1 : List UInt8 := dkwX3_lengthTo_1 ++ []
def dkwX3_lengthTo_0 : List UInt8 := [3, 61, 42, 180, 0, 55, 27, 46, 62, 29, 155, 0, 16, 132, 2, 1, 42, 180, 0, 55, 29, 46, 62]
abbrev dktX3_lengthTo_0 : List UInt8 := dkwX3_lengthTo_0 ++ dktX3_lengthTo_1
theorem dksX3_lengthTo_0 : cX3_lengthTo.data.toList.drop 0 = dktX3_lengthTo_0 := by decide +kernel
theorem dksX3_lengthTo_1 : cX3_lengthTo.data.toList.drop 23 = dktX3_lengthTo_1 := dk_seg dksX3_lengthTo_0 23 rfl rfl
theorem dX3_lengthTo_0 : decode cX3_lengthTo 0 = .ok (.iconst 0, 1) := dk_3 (dk_at dksX3_lengthTo_0 0 rfl rfl)
theorem dX3_lengthTo_1 : decode cX3_lengthTo 1 = .ok (.istore_n 2, 1) := dk_61 (dk_at dksX3_lengthTo_0 1 rfl rfl)
theorem dX3_lengthTo_2 : decode cX3_lengthTo 2 = .ok (.aload_n 0, 1) := dk_42 (dk_at dksX3_lengthTo_0 2 rfl rfl)
theorem dX3_lengthTo_3 : decode cX3_lengthTo 3 = .ok (.getfield 55, 3) := dk_180 0 55 (dk_at dksX3_lengthTo_0 3 rfl rfl)
theorem dX3_lengthTo_6 : decode cX3_lengthTo 6 = .ok (.iload_n 1, 1) := dk_27 (dk_at dksX3_lengthTo_0 6 rfl rfl)
theorem dX3_lengthTo_7 : decode cX3_lengthTo 7 = .ok (.iaload, 1) := dk_46 (dk_at dksX3_lengthTo_0 7 rfl rfl)
theorem dX3_lengthTo_8 : decode cX3_lengthTo 8 = .ok (.istore_n 3, 1) := dk_62 (dk_at dksX3_lengthTo_0 8 rfl rfl)
theorem dX3_lengthTo_9 : decode cX3_lengthTo 9 = .ok (.iload_n 3, 1) := dk_29 (dk_at dksX3_lengthTo_0 9 rfl rfl)
theorem dX3_lengthTo_10 : decode cX3_lengthTo 10 = .ok (.ifCond .lt 16, 3) := dk_155 0 16 (dk_at dksX3_lengthTo_0 10 rfl rfl)
theorem dX3_lengthTo_13 : decode cX3_lengthTo 13 = .ok (.iinc 2 1, 3) := dk_132 2 1 (dk_at dksX3_lengthTo_0 13 rfl rfl)
theorem dX3_lengthTo_16 : decode cX3_lengthTo 16 = .ok (.aload_n 0, 1) := dk_42 (dk_at dksX3_lengthTo_0 16 rfl rfl)
theorem dX3_lengthTo_17 : decode cX3_lengthTo 17 = .ok (.getfield 55, 3) := dk_180 0 55 (dk_at dksX3_lengthTo_0 17 rfl rfl)
theorem dX3_lengthTo_20 : decode cX3_lengthTo 20 = .ok (.iload_n 3, 1) := dk_29 (dk_at dksX3_lengthTo_0 20 rfl rfl)
theorem dX3_lengthTo_21 : decode cX3_lengthTo 21 = .ok (.iaload, 1) := dk_46 (dk_at dksX3_lengthTo_0 21 rfl rfl)
theorem dX3_lengthTo_22 : decode cX3_lengthTo 22 = .ok (.istore_n 3, 1) := dk_62 (dk_at dksX3_lengthTo_0 22 rfl rfl)
theorem dX3_lengthTo_23 : decode cX3_lengthTo 23 = .ok (.goto (-14), 3) := dk_167 255 242 (dk_at dksX3_lengthTo_1 0 rfl rfl)
theorem dX3_lengthTo_26 : decode cX3_lengthTo 26 = .ok (.iload_n 2, 1) := dk_28 (dk_at dksX3_lengthTo_1 3 rfl rfl)
theorem dX3_lengthTo_27 : decode cX3_lengthTo 27 = .ok (.ireturn, 1) := dk_172 (dk_at dksX3_lengthTo_1 4 rfl rfl)
abbrev cX3_step : ByteArray := prog_19_method_73_code
def yX3_step : MethodName := ⟨RX3, "step", "(II)I"⟩
def dkwX3_step_7 : List UInt8 := [21, 7, 46, 104, 21, 8, 96, 172]
abbrev dktX3_step_7 : List UInt8 := dkwX3_step_7 ++ []
def dkwX3_step_6 : List UInt8 := [4, 126, 21, 6, 21, 8, 122, 4, 126, 160, 0, 9, 132, 8, 1, 167, 255, 236, 16, 16, 42, 180, 0, 61]
abbrev dktX3_step_6 : List UInt8 := dkwX3_step_6 ++ dktX3_step_7
def dkwX3_step_5 : List UInt8 := [21, 6, 21, 7, 182, 1, 82, 160, 0, 9, 132, 7, 1, 167, 255, 234, 3, 54, 8, 21, 5, 21, 8, 122]
abbrev dktX3_step_5 : List UInt8 := dkwX3_step_5 ++ dktX3_step_6
def dkwX3_step_4 : List UInt8 := [180, 0, 52, 42, 180, 0, 55, 29, 46, 46, 54, 6, 3, 54, 7, 42, 21, 5, 21, 7, 182, 1, 82, 42]
abbrev dktX3_step_4 : List UInt8 := dkwX3_step_4 ++ dktX3_step_5
def dkwX3_step_3 : List UInt8 := [42, 180, 0, 55, 29, 46, 62, 132, 5, 1, 167, 255, 239, 42, 180, 0, 52, 29, 46, 54, 5, 42]
abbrev dktX3_step_3 : List UInt8 := dkwX3_step_3 ++ dktX3_step_4
def dkwX3_step_2 : List UInt8 := [16, 254, 172, 42, 29, 182, 1, 104, 4, 100, 28, 100, 54, 4, 3, 54, 5, 21, 5, 21, 4, 162, 0, 16]
abbrev dktX3_step_2 : List UInt8 := dkwX3_step_2 ++ dktX3_step_3
def dkwX3_step_1 : List UInt8 := [182, 1, 97, 42, 4, 2, 182, 1, 100, 62, 29, 155, 0, 12, 28, 42, 29, 182, 1, 104, 161, 0, 6]
abbrev dktX3_step_1 : List UInt8 := dkwX3_step_1 ++ dktX3_step_2
def dkwX3_step_0 : List UInt8 := [42, 27, 182, 1, 94, 153, 0, 15, 28, 133, 9, 20, 1, 107, 184, 0, 125, 154, 0, 5, 2, 172, 42, 27]
abbrev dktX3_step_0 : List UInt8 := dkwX3_step_0 ++ dktX3_step_1
theorem dksX3_step_0 : cX3_step.data.toList.drop 0 = dktX3_step_0 := by decide +kernel
theorem dksX3_step_1 : cX3_step.data.toList.drop 24 = dktX3_step_1 := dk_seg dksX3_step_0 24 rfl rfl
theorem dksX3_step_2 : cX3_step.data.toList.drop 47 = dktX3_step_2 := dk_seg dksX3_step_1 23 rfl rfl
theorem dksX3_step_3 : cX3_step.data.toList.drop 71 = dktX3_step_3 := dk_seg dksX3_step_2 24 rfl rfl
theorem dksX3_step_4 : cX3_step.data.toList.drop 93 = dktX3_step_4 := dk_seg dksX3_step_3 22 rfl rfl
theorem dksX3_step_5 : cX3_step.data.toList.drop 117 = dktX3_step_5 := dk_seg dksX3_step_4 24 rfl rfl
theorem dksX3_step_6 : cX3_step.data.toList.drop 141 = dktX3_step_6 := dk_seg dksX3_step_5 24 rfl rfl
theorem dksX3_step_7 : cX3_step.data.toList.drop 165 = dktX3_step_7 := dk_seg dksX3_step_6 24 rfl rfl
theorem dX3_step_0 : decode cX3_step 0 = .ok (.aload_n 0, 1) := dk_42 (dk_at dksX3_step_0 0 rfl rfl)
theorem dX3_step_1 : decode cX3_step 1 = .ok (.iload_n 1, 1) := dk_27 (dk_at dksX3_step_0 1 rfl rfl)
theorem dX3_step_2 : decode cX3_step 2 = .ok (.invokevirtual 350, 3) := dk_182 1 94 (dk_at dksX3_step_0 2 rfl rfl)
theorem dX3_step_5 : decode cX3_step 5 = .ok (.ifCond .eq 15, 3) := dk_153 0 15 (dk_at dksX3_step_0 5 rfl rfl)
theorem dX3_step_8 : decode cX3_step 8 = .ok (.iload_n 2, 1) := dk_28 (dk_at dksX3_step_0 8 rfl rfl)
theorem dX3_step_9 : decode cX3_step 9 = .ok (.i2l, 1) := dk_133 (dk_at dksX3_step_0 9 rfl rfl)
theorem dX3_step_10 : decode cX3_step 10 = .ok (.lconst 0, 1) := dk_9 (dk_at dksX3_step_0 10 rfl rfl)
theorem dX3_step_11 : decode cX3_step 11 = .ok (.ldc2_w 363, 3) := dk_20 1 107 (dk_at dksX3_step_0 11 rfl rfl)
theorem dX3_step_14 : decode cX3_step 14 = .ok (.invokestatic 125, 3) := dk_184 0 125 (dk_at dksX3_step_0 14 rfl rfl)
theorem dX3_step_17 : decode cX3_step 17 = .ok (.ifCond .ne 5, 3) := dk_154 0 5 (dk_at dksX3_step_0 17 rfl rfl)
theorem dX3_step_20 : decode cX3_step 20 = .ok (.iconst (-1), 1) := dk_2 (dk_at dksX3_step_0 20 rfl rfl)
theorem dX3_step_21 : decode cX3_step 21 = .ok (.ireturn, 1) := dk_172 (dk_at dksX3_step_0 21 rfl rfl)
theorem dX3_step_22 : decode cX3_step 22 = .ok (.aload_n 0, 1) := dk_42 (dk_at dksX3_step_0 22 rfl rfl)
theorem dX3_step_23 : decode cX3_step 23 = .ok (.iload_n 1, 1) := dk_27 (dk_at dksX3_step_0 23 rfl rfl)
theorem dX3_step_24 : decode cX3_step 24 = .ok (.invokevirtual 353, 3) := dk_182 1 97 (dk_at dksX3_step_1 0 rfl rfl)
theorem dX3_step_27 : decode cX3_step 27 = .ok (.aload_n 0, 1) := dk_42 (dk_at dksX3_step_1 3 rfl rfl)
theorem dX3_step_28 : decode cX3_step 28 = .ok (.iconst 1, 1) := dk_4 (dk_at dksX3_step_1 4 rfl rfl)
theorem dX3_step_29 : decode cX3_step 29 = .ok (.iconst (-1), 1) := dk_2 (dk_at dksX3_step_1 5 rfl rfl)
theorem dX3_step_30 : decode cX3_step 30 = .ok (.invokevirtual 356, 3) := dk_182 1 100 (dk_at dksX3_step_1 6 rfl rfl)
theorem dX3_step_33 : decode cX3_step 33 = .ok (.istore_n 3, 1) := dk_62 (dk_at dksX3_step_1 9 rfl rfl)
theorem dX3_step_34 : decode cX3_step 34 = .ok (.iload_n 3, 1) := dk_29 (dk_at dksX3_step_1 10 rfl rfl)
theorem dX3_step_35 : decode cX3_step 35 = .ok (.ifCond .lt 12, 3) := dk_155 0 12 (dk_at dksX3_step_1 11 rfl rfl)
theorem dX3_step_38 : decode cX3_step 38 = .ok (.iload_n 2, 1) := dk_28 (dk_at dksX3_step_1 14 rfl rfl)
theorem dX3_step_39 : decode cX3_step 39 = .ok (.aload_n 0, 1) := dk_42 (dk_at dksX3_step_1 15 rfl rfl)
theorem dX3_step_40 : decode cX3_step 40 = .ok (.iload_n 3, 1) := dk_29 (dk_at dksX3_step_1 16 rfl rfl)
theorem dX3_step_41 : decode cX3_step 41 = .ok (.invokevirtual 360, 3) := dk_182 1 104 (dk_at dksX3_step_1 17 rfl rfl)
theorem dX3_step_44 : decode cX3_step 44 = .ok (.if_icmp .lt 6, 3) := dk_161 0 6 (dk_at dksX3_step_1 20 rfl rfl)
theorem dX3_step_47 : decode cX3_step 47 = .ok (.bipush (-2), 2) := dk_16 254 (dk_at dksX3_step_2 0 rfl rfl)
theorem dX3_step_49 : decode cX3_step 49 = .ok (.ireturn, 1) := dk_172 (dk_at dksX3_step_2 2 rfl rfl)
theorem dX3_step_50 : decode cX3_step 50 = .ok (.aload_n 0, 1) := dk_42 (dk_at dksX3_step_2 3 rfl rfl)
theorem dX3_step_51 : decode cX3_step 51 = .ok (.iload_n 3, 1) := dk_29 (dk_at dksX3_step_2 4 rfl rfl)
theorem dX3_step_52 : decode cX3_step 52 = .ok (.invokevirtual 360, 3) := dk_182 1 104 (dk_at dksX3_step_2 5 rfl rfl)
theorem dX3_step_55 : decode cX3_step 55 = .ok (.iconst 1, 1) := dk_4 (dk_at dksX3_step_2 8 rfl rfl)
theorem dX3_step_56 : decode cX3_step 56 = .ok (.isub, 1) := dk_100 (dk_at dksX3_step_2 9 rfl rfl)
theorem dX3_step_57 : decode cX3_step 57 = .ok (.iload_n 2, 1) := dk_28 (dk_at dksX3_step_2 10 rfl rfl)
theorem dX3_step_58 : decode cX3_step 58 = .ok (.isub, 1) := dk_100 (dk_at dksX3_step_2 11 rfl rfl)
theorem dX3_step_59 : decode cX3_step 59 = .ok (.istore 4, 2) := dk_54 4 (dk_at dksX3_step_2 12 rfl rfl)
theorem dX3_step_61 : decode cX3_step 61 = .ok (.iconst 0, 1) := dk_3 (dk_at dksX3_step_2 14 rfl rfl)
theorem dX3_step_62 : decode cX3_step 62 = .ok (.istore 5, 2) := dk_54 5 (dk_at dksX3_step_2 15 rfl rfl)
theorem dX3_step_64 : decode cX3_step 64 = .ok (.iload 5, 2) := dk_21 5 (dk_at dksX3_step_2 17 rfl rfl)
theorem dX3_step_66 : decode cX3_step 66 = .ok (.iload 4, 2) := dk_21 4 (dk_at dksX3_step_2 19 rfl rfl)
theorem dX3_step_68 : decode cX3_step 68 = .ok (.if_icmp .ge 16, 3) := dk_162 0 16 (dk_at dksX3_step_2 21 rfl rfl)
theorem dX3_step_71 : decode cX3_step 71 = .ok (.aload_n 0, 1) := dk_42 (dk_at dksX3_step_3 0 rfl rfl)
theorem dX3_step_72 : decode cX3_step 72 = .ok (.getfield 55, 3) := dk_180 0 55 (dk_at dksX3_step_3 1 rfl rfl)
theorem dX3_step_75 : decode cX3_step 75 = .ok (.iload_n 3, 1) := dk_29 (dk_at dksX3_step_3 4 rfl rfl)
theorem dX3_step_76 : decode cX3_step 76 = .ok (.iaload, 1) := dk_46 (dk_at dksX3_step_3 5 rfl rfl)
theorem dX3_step_77 : decode cX3_step 77 = .ok (.istore_n 3, 1) := dk_62 (dk_at dksX3_step_3 6 rfl rfl)
theorem dX3_step_78 : decode cX3_step 78 = .ok (.iinc 5 1, 3) := dk_132 5 1 (dk_at dksX3_step_3 7 rfl rfl)
theorem dX3_step_81 : decode cX3_step 81 = .ok (.goto (-17), 3) := dk_167 255 239 (dk_at dksX3_step_3 10 rfl rfl)
theorem dX3_step_84 : decode cX3_step 84 = .ok (.aload_n 0, 1) := dk_42 (dk_at dksX3_step_3 13 rfl rfl)
theorem dX3_step_85 : decode cX3_step 85 = .ok (.getfield 52, 3) := dk_180 0 52 (dk_at dksX3_step_3 14 rfl rfl)
theorem dX3_step_88 : decode cX3_step 88 = .ok (.iload_n 3, 1) := dk_29 (dk_at dksX3_step_3 17 rfl rfl)
theorem dX3_step_89 : decode cX3_step 89 = .ok (.iaload, 1) := dk_46 (dk_at dksX3_step_3 18 rfl rfl)
theorem dX3_step_90 : decode cX3_step 90 = .ok (.istore 5, 2) := dk_54 5 (dk_at dksX3_step_3 19 rfl rfl)
theorem dX3_step_92 : decode cX3_step 92 = .ok (.aload_n 0, 1) := dk_42 (dk_at dksX3_step_3 21 rfl rfl)
theorem dX3_step_93 : decode cX3_step 93 = .ok (.getfield 52, 3) := dk_180 0 52 (dk_at dksX3_step_4 0 rfl rfl)
theorem dX3_step_96 : decode cX3_step 96 = .ok (.aload_n 0, 1) := dk_42 (dk_at dksX3_step_4 3 rfl rfl)
theorem dX3_step_97 : decode cX3_step 97 = .ok (.getfield 55, 3) := dk_180 0 55 (dk_at dksX3_step_4 4 rfl rfl)
theorem dX3_step_100 : decode cX3_step 100 = .ok (.iload_n 3, 1) := dk_29 (dk_at dksX3_step_4 7 rfl rfl)
theorem dX3_step_101 : decode cX3_step 101 = .ok (.iaload, 1) := dk_46 (dk_at dksX3_step_4 8 rfl rfl)
theorem dX3_step_102 : decode cX3_step 102 = .ok (.iaload, 1) := dk_46 (dk_at dksX3_step_4 9 rfl rfl)
theorem dX3_step_103 : decode cX3_step 103 = .ok (.istore 6, 2) := dk_54 6 (dk_at dksX3_step_4 10 rfl rfl)
theorem dX3_step_105 : decode cX3_step 105 = .ok (.iconst 0, 1) := dk_3 (dk_at dksX3_step_4 12 rfl rfl)
theorem dX3_step_106 : decode cX3_step 106 = .ok (.istore 7, 2) := dk_54 7 (dk_at dksX3_step_4 13 rfl rfl)
theorem dX3_step_108 : decode cX3_step 108 = .ok (.aload_n 0, 1) := dk_42 (dk_at dksX3_step_4 15 rfl rfl)
theorem dX3_step_109 : decode cX3_step 109 = .ok (.iload 5, 2) := dk_21 5 (dk_at dksX3_step_4 16 rfl rfl)
theorem dX3_step_111 : decode cX3_step 111 = .ok (.iload 7, 2) := dk_21 7 (dk_at dksX3_step_4 18 rfl rfl)
theorem dX3_step_113 : decode cX3_step 113 = .ok (.invokevirtual 338, 3) := dk_182 1 82 (dk_at dksX3_step_4 20 rfl rfl)
theorem dX3_step_116 : decode cX3_step 116 = .ok (.aload_n 0, 1) := dk_42 (dk_at dksX3_step_4 23 rfl rfl)
theorem dX3_step_117 : decode cX3_step 117 = .ok (.iload 6, 2) := dk_21 6 (dk_at dksX3_step_5 0 rfl rfl)
theorem dX3_step_119 : decode cX3_step 119 = .ok (.iload 7, 2) := dk_21 7 (dk_at dksX3_step_5 2 rfl rfl)
theorem dX3_step_121 : decode cX3_step 121 = .ok (.invokevirtual 338, 3) := dk_182 1 82 (dk_at dksX3_step_5 4 rfl rfl)
theorem dX3_step_124 : decode cX3_step 124 = .ok (.if_icmp .ne 9, 3) := dk_160 0 9 (dk_at dksX3_step_5 7 rfl rfl)
theorem dX3_step_127 : decode cX3_step 127 = .ok (.iinc 7 1, 3) := dk_132 7 1 (dk_at dksX3_step_5 10 rfl rfl)
theorem dX3_step_130 : decode cX3_step 130 = .ok (.goto (-22), 3) := dk_167 255 234 (dk_at dksX3_step_5 13 rfl rfl)
theorem dX3_step_133 : decode cX3_step 133 = .ok (.iconst 0, 1) := dk_3 (dk_at dksX3_step_5 16 rfl rfl)
theorem dX3_step_134 : decode cX3_step 134 = .ok (.istore 8, 2) := dk_54 8 (dk_at dksX3_step_5 17 rfl rfl)
theorem dX3_step_136 : decode cX3_step 136 = .ok (.iload 5, 2) := dk_21 5 (dk_at dksX3_step_5 19 rfl rfl)
theorem dX3_step_138 : decode cX3_step 138 = .ok (.iload 8, 2) := dk_21 8 (dk_at dksX3_step_5 21 rfl rfl)
theorem dX3_step_140 : decode cX3_step 140 = .ok (.ishr, 1) := dk_122 (dk_at dksX3_step_5 23 rfl rfl)
theorem dX3_step_141 : decode cX3_step 141 = .ok (.iconst 1, 1) := dk_4 (dk_at dksX3_step_6 0 rfl rfl)
theorem dX3_step_142 : decode cX3_step 142 = .ok (.iand, 1) := dk_126 (dk_at dksX3_step_6 1 rfl rfl)
theorem dX3_step_143 : decode cX3_step 143 = .ok (.iload 6, 2) := dk_21 6 (dk_at dksX3_step_6 2 rfl rfl)
theorem dX3_step_145 : decode cX3_step 145 = .ok (.iload 8, 2) := dk_21 8 (dk_at dksX3_step_6 4 rfl rfl)
theorem dX3_step_147 : decode cX3_step 147 = .ok (.ishr, 1) := dk_122 (dk_at dksX3_step_6 6 rfl rfl)
theorem dX3_step_148 : decode cX3_step 148 = .ok (.iconst 1, 1) := dk_4 (dk_at dksX3_step_6 7 rfl rfl)
theorem dX3_step_149 : decode cX3_step 149 = .ok (.iand, 1) := dk_126 (dk_at dksX3_step_6 8 rfl rfl)
theorem dX3_step_150 : decode cX3_step 150 = .ok (.if_icmp .ne 9, 3) := dk_160 0 9 (dk_at dksX3_step_6 9 rfl rfl)
theorem dX3_step_153 : decode cX3_step 153 = .ok (.iinc 8 1, 3) := dk_132 8 1 (dk_at dksX3_step_6 12 rfl rfl)
theorem dX3_step_156 : decode cX3_step 156 = .ok (.goto (-20), 3) := dk_167 255 236 (dk_at dksX3_step_6 15 rfl rfl)
theorem dX3_step_159 : decode cX3_step 159 = .ok (.bipush 16, 2) := dk_16 16 (dk_at dksX3_step_6 18 rfl rfl)
theorem dX3_step_161 : decode cX3_step 161 = .ok (.aload_n 0, 1) := dk_42 (dk_at dksX3_step_6 20 rfl rfl)
theorem dX3_step_162 : decode cX3_step 162 = .ok (.getfield 61, 3) := dk_180 0 61 (dk_at dksX3_step_6 21 rfl rfl)
theorem dX3_step_165 : decode cX3_step 165 = .ok (.iload 7, 2) := dk_21 7 (dk_at dksX3_step_7 0 rfl rfl)
theorem dX3_step_167 : decode cX3_step 167 = .ok (.iaload, 1) := dk_46 (dk_at dksX3_step_7 2 rfl rfl)
theorem dX3_step_168 : decode cX3_step 168 = .ok (.imul, 1) := dk_104 (dk_at dksX3_step_7 3 rfl rfl)
theorem dX3_step_169 : decode cX3_step 169 = .ok (.iload 8, 2) := dk_21 8 (dk_at dksX3_step_7 4 rfl rfl)
theorem dX3_step_171 : decode cX3_step 171 = .ok (.iadd, 1) := dk_96 (dk_at dksX3_step_7 6 rfl rfl)
theorem dX3_step_172 : decode cX3_step 172 = .ok (.ireturn, 1) := dk_172 (dk_at dksX3_step_7 7 rfl rfl)
abbrev cX3_comes : ByteArray := prog_19_method_74_code
def yX3_comes : MethodName := ⟨RX3, "comes", "(II)I"⟩
def dkwX3_comes_2 : List UInt8 := [180, 0, 42, 5, 46, 130, 28, 130, 46, 158, 0, 7, 4, 167, 0, 4, 3, 172]
abbrev dktX3_comes_2 : List UInt8 := dkwX3_comes_2 ++ []
def dkwX3_comes_1 : List UInt8 := [2, 172, 42, 27, 182, 1, 97, 42, 3, 2, 182, 1, 100, 87, 42, 180, 0, 58, 42, 182, 1, 85, 42]
abbrev dktX3_comes_1 : List UInt8 := dkwX3_comes_1 ++ dktX3_comes_2
def dkwX3_comes_0 : List UInt8 := [42, 27, 182, 1, 94, 153, 0, 19, 28, 155, 0, 15, 28, 4, 42, 180, 0, 42, 3, 46, 120, 161, 0, 5]
abbrev dktX3_comes_0 : List UInt8 := dkwX3_comes_0 ++ dktX3_comes_1
theorem dksX3_comes_0 : cX3_comes.data.toList.drop 0 = dktX3_comes_0 := by decide +kernel
theorem dksX3_comes_1 : cX3_comes.data.toList.drop 24 = dktX3_comes_1 := dk_seg dksX3_comes_0 24 rfl rfl
theorem dksX3_comes_2 : cX3_comes.data.toList.drop 47 = dktX3_comes_2 := dk_seg dksX3_comes_1 23 rfl rfl
theorem dX3_comes_0 : decode cX3_comes 0 = .ok (.aload_n 0, 1) := dk_42 (dk_at dksX3_comes_0 0 rfl rfl)
theorem dX3_comes_1 : decode cX3_comes 1 = .ok (.iload_n 1, 1) := dk_27 (dk_at dksX3_comes_0 1 rfl rfl)
theorem dX3_comes_2 : decode cX3_comes 2 = .ok (.invokevirtual 350, 3) := dk_182 1 94 (dk_at dksX3_comes_0 2 rfl rfl)
theorem dX3_comes_5 : decode cX3_comes 5 = .ok (.ifCond .eq 19, 3) := dk_153 0 19 (dk_at dksX3_comes_0 5 rfl rfl)
theorem dX3_comes_8 : decode cX3_comes 8 = .ok (.iload_n 2, 1) := dk_28 (dk_at dksX3_comes_0 8 rfl rfl)
theorem dX3_comes_9 : decode cX3_comes 9 = .ok (.ifCond .lt 15, 3) := dk_155 0 15 (dk_at dksX3_comes_0 9 rfl rfl)
theorem dX3_comes_12 : decode cX3_comes 12 = .ok (.iload_n 2, 1) := dk_28 (dk_at dksX3_comes_0 12 rfl rfl)
theorem dX3_comes_13 : decode cX3_comes 13 = .ok (.iconst 1, 1) := dk_4 (dk_at dksX3_comes_0 13 rfl rfl)
theorem dX3_comes_14 : decode cX3_comes 14 = .ok (.aload_n 0, 1) := dk_42 (dk_at dksX3_comes_0 14 rfl rfl)
theorem dX3_comes_15 : decode cX3_comes 15 = .ok (.getfield 42, 3) := dk_180 0 42 (dk_at dksX3_comes_0 15 rfl rfl)
theorem dX3_comes_18 : decode cX3_comes 18 = .ok (.iconst 0, 1) := dk_3 (dk_at dksX3_comes_0 18 rfl rfl)
theorem dX3_comes_19 : decode cX3_comes 19 = .ok (.iaload, 1) := dk_46 (dk_at dksX3_comes_0 19 rfl rfl)
theorem dX3_comes_20 : decode cX3_comes 20 = .ok (.ishl, 1) := dk_120 (dk_at dksX3_comes_0 20 rfl rfl)
theorem dX3_comes_21 : decode cX3_comes 21 = .ok (.if_icmp .lt 5, 3) := dk_161 0 5 (dk_at dksX3_comes_0 21 rfl rfl)
theorem dX3_comes_24 : decode cX3_comes 24 = .ok (.iconst (-1), 1) := dk_2 (dk_at dksX3_comes_1 0 rfl rfl)
theorem dX3_comes_25 : decode cX3_comes 25 = .ok (.ireturn, 1) := dk_172 (dk_at dksX3_comes_1 1 rfl rfl)
theorem dX3_comes_26 : decode cX3_comes 26 = .ok (.aload_n 0, 1) := dk_42 (dk_at dksX3_comes_1 2 rfl rfl)
theorem dX3_comes_27 : decode cX3_comes 27 = .ok (.iload_n 1, 1) := dk_27 (dk_at dksX3_comes_1 3 rfl rfl)
theorem dX3_comes_28 : decode cX3_comes 28 = .ok (.invokevirtual 353, 3) := dk_182 1 97 (dk_at dksX3_comes_1 4 rfl rfl)
theorem dX3_comes_31 : decode cX3_comes 31 = .ok (.aload_n 0, 1) := dk_42 (dk_at dksX3_comes_1 7 rfl rfl)
theorem dX3_comes_32 : decode cX3_comes 32 = .ok (.iconst 0, 1) := dk_3 (dk_at dksX3_comes_1 8 rfl rfl)
theorem dX3_comes_33 : decode cX3_comes 33 = .ok (.iconst (-1), 1) := dk_2 (dk_at dksX3_comes_1 9 rfl rfl)
theorem dX3_comes_34 : decode cX3_comes 34 = .ok (.invokevirtual 356, 3) := dk_182 1 100 (dk_at dksX3_comes_1 10 rfl rfl)
theorem dX3_comes_37 : decode cX3_comes 37 = .ok (.pop, 1) := dk_87 (dk_at dksX3_comes_1 13 rfl rfl)
theorem dX3_comes_38 : decode cX3_comes 38 = .ok (.aload_n 0, 1) := dk_42 (dk_at dksX3_comes_1 14 rfl rfl)
theorem dX3_comes_39 : decode cX3_comes 39 = .ok (.getfield 58, 3) := dk_180 0 58 (dk_at dksX3_comes_1 15 rfl rfl)
theorem dX3_comes_42 : decode cX3_comes 42 = .ok (.aload_n 0, 1) := dk_42 (dk_at dksX3_comes_1 18 rfl rfl)
theorem dX3_comes_43 : decode cX3_comes 43 = .ok (.invokevirtual 341, 3) := dk_182 1 85 (dk_at dksX3_comes_1 19 rfl rfl)
theorem dX3_comes_46 : decode cX3_comes 46 = .ok (.aload_n 0, 1) := dk_42 (dk_at dksX3_comes_1 22 rfl rfl)
theorem dX3_comes_47 : decode cX3_comes 47 = .ok (.getfield 42, 3) := dk_180 0 42 (dk_at dksX3_comes_2 0 rfl rfl)
theorem dX3_comes_50 : decode cX3_comes 50 = .ok (.iconst 2, 1) := dk_5 (dk_at dksX3_comes_2 3 rfl rfl)
theorem dX3_comes_51 : decode cX3_comes 51 = .ok (.iaload, 1) := dk_46 (dk_at dksX3_comes_2 4 rfl rfl)
theorem dX3_comes_52 : decode cX3_comes 52 = .ok (.ixor, 1) := dk_130 (dk_at dksX3_comes_2 5 rfl rfl)
theorem dX3_comes_53 : decode cX3_comes 53 = .ok (.iload_n 2, 1) := dk_28 (dk_at dksX3_comes_2 6 rfl rfl)
theorem dX3_comes_54 : decode cX3_comes 54 = .ok (.ixor, 1) := dk_130 (dk_at dksX3_comes_2 7 rfl rfl)
theorem dX3_comes_55 : decode cX3_comes 55 = .ok (.iaload, 1) := dk_46 (dk_at dksX3_comes_2 8 rfl rfl)
theorem dX3_comes_56 : decode cX3_comes 56 = .ok (.ifCond .le 7, 3) := dk_158 0 7 (dk_at dksX3_comes_2 9 rfl rfl)
theorem dX3_comes_59 : decode cX3_comes 59 = .ok (.iconst 1, 1) := dk_4 (dk_at dksX3_comes_2 12 rfl rfl)
theorem dX3_comes_60 : decode cX3_comes 60 = .ok (.goto 4, 3) := dk_167 0 4 (dk_at dksX3_comes_2 13 rfl rfl)
theorem dX3_comes_63 : decode cX3_comes 63 = .ok (.iconst 0, 1) := dk_3 (dk_at dksX3_comes_2 16 rfl rfl)
theorem dX3_comes_64 : decode cX3_comes 64 = .ok (.ireturn, 1) := dk_172 (dk_at dksX3_comes_2 17 rfl rfl)
abbrev cX3_closed : ByteArray := prog_19_method_76_code
def yX3_closed : MethodName := ⟨RX3, "closed", "(II)I"⟩
def dkwX3_closed_4 : List UInt8 := [158, 0, 7, 4, 167, 0, 4, 3, 96, 62, 132, 5, 1, 167, 255, 219, 29, 172]
abbrev dktX3_closed_4 : List UInt8 := dkwX3_closed_4 ++ []
def dkwX3_closed_3 : List UInt8 := [21, 5, 4, 42, 180, 0, 42, 3, 46, 120, 162, 0, 30, 29, 42, 180, 0, 58, 21, 4, 21, 5, 128, 46]
abbrev dktX3_closed_3 : List UInt8 := dkwX3_closed_3 ++ dktX3_closed_4
def dkwX3_closed_2 : List UInt8 := [2, 182, 1, 100, 87, 3, 62, 42, 182, 1, 85, 42, 180, 0, 42, 5, 46, 130, 54, 4, 3, 54, 5]
abbrev dktX3_closed_2 : List UInt8 := dkwX3_closed_2 ++ dktX3_closed_3
def dkwX3_closed_1 : List UInt8 := [160, 0, 17, 42, 27, 182, 1, 109, 153, 0, 7, 4, 167, 0, 4, 3, 172, 42, 27, 182, 1, 97, 42, 3]
abbrev dktX3_closed_1 : List UInt8 := dkwX3_closed_1 ++ dktX3_closed_2
def dkwX3_closed_0 : List UInt8 := [42, 27, 182, 1, 94, 153, 0, 13, 28, 133, 9, 10, 184, 0, 125, 154, 0, 5, 2, 172, 28, 4]
abbrev dktX3_closed_0 : List UInt8 := dkwX3_closed_0 ++ dktX3_closed_1
theorem dksX3_closed_0 : cX3_closed.data.toList.drop 0 = dktX3_closed_0 := by decide +kernel
theorem dksX3_closed_1 : cX3_closed.data.toList.drop 22 = dktX3_closed_1 := dk_seg dksX3_closed_0 22 rfl rfl
theorem dksX3_closed_2 : cX3_closed.data.toList.drop 46 = dktX3_closed_2 := dk_seg dksX3_closed_1 24 rfl rfl
theorem dksX3_closed_3 : cX3_closed.data.toList.drop 69 = dktX3_closed_3 := dk_seg dksX3_closed_2 23 rfl rfl
theorem dksX3_closed_4 : cX3_closed.data.toList.drop 93 = dktX3_closed_4 := dk_seg dksX3_closed_3 24 rfl rfl
theorem dX3_closed_0 : decode cX3_closed 0 = .ok (.aload_n 0, 1) := dk_42 (dk_at dksX3_closed_0 0 rfl rfl)
theorem dX3_closed_1 : decode cX3_closed 1 = .ok (.iload_n 1, 1) := dk_27 (dk_at dksX3_closed_0 1 rfl rfl)
theorem dX3_closed_2 : decode cX3_closed 2 = .ok (.invokevirtual 350, 3) := dk_182 1 94 (dk_at dksX3_closed_0 2 rfl rfl)
theorem dX3_closed_5 : decode cX3_closed 5 = .ok (.ifCond .eq 13, 3) := dk_153 0 13 (dk_at dksX3_closed_0 5 rfl rfl)
theorem dX3_closed_8 : decode cX3_closed 8 = .ok (.iload_n 2, 1) := dk_28 (dk_at dksX3_closed_0 8 rfl rfl)
theorem dX3_closed_9 : decode cX3_closed 9 = .ok (.i2l, 1) := dk_133 (dk_at dksX3_closed_0 9 rfl rfl)
theorem dX3_closed_10 : decode cX3_closed 10 = .ok (.lconst 0, 1) := dk_9 (dk_at dksX3_closed_0 10 rfl rfl)
theorem dX3_closed_11 : decode cX3_closed 11 = .ok (.lconst 1, 1) := dk_10 (dk_at dksX3_closed_0 11 rfl rfl)
theorem dX3_closed_12 : decode cX3_closed 12 = .ok (.invokestatic 125, 3) := dk_184 0 125 (dk_at dksX3_closed_0 12 rfl rfl)
theorem dX3_closed_15 : decode cX3_closed 15 = .ok (.ifCond .ne 5, 3) := dk_154 0 5 (dk_at dksX3_closed_0 15 rfl rfl)
theorem dX3_closed_18 : decode cX3_closed 18 = .ok (.iconst (-1), 1) := dk_2 (dk_at dksX3_closed_0 18 rfl rfl)
theorem dX3_closed_19 : decode cX3_closed 19 = .ok (.ireturn, 1) := dk_172 (dk_at dksX3_closed_0 19 rfl rfl)
theorem dX3_closed_20 : decode cX3_closed 20 = .ok (.iload_n 2, 1) := dk_28 (dk_at dksX3_closed_0 20 rfl rfl)
theorem dX3_closed_21 : decode cX3_closed 21 = .ok (.iconst 1, 1) := dk_4 (dk_at dksX3_closed_0 21 rfl rfl)
theorem dX3_closed_22 : decode cX3_closed 22 = .ok (.if_icmp .ne 17, 3) := dk_160 0 17 (dk_at dksX3_closed_1 0 rfl rfl)
theorem dX3_closed_25 : decode cX3_closed 25 = .ok (.aload_n 0, 1) := dk_42 (dk_at dksX3_closed_1 3 rfl rfl)
theorem dX3_closed_26 : decode cX3_closed 26 = .ok (.iload_n 1, 1) := dk_27 (dk_at dksX3_closed_1 4 rfl rfl)
theorem dX3_closed_27 : decode cX3_closed 27 = .ok (.invokevirtual 365, 3) := dk_182 1 109 (dk_at dksX3_closed_1 5 rfl rfl)
theorem dX3_closed_30 : decode cX3_closed 30 = .ok (.ifCond .eq 7, 3) := dk_153 0 7 (dk_at dksX3_closed_1 8 rfl rfl)
theorem dX3_closed_33 : decode cX3_closed 33 = .ok (.iconst 1, 1) := dk_4 (dk_at dksX3_closed_1 11 rfl rfl)
theorem dX3_closed_34 : decode cX3_closed 34 = .ok (.goto 4, 3) := dk_167 0 4 (dk_at dksX3_closed_1 12 rfl rfl)
theorem dX3_closed_37 : decode cX3_closed 37 = .ok (.iconst 0, 1) := dk_3 (dk_at dksX3_closed_1 15 rfl rfl)
theorem dX3_closed_38 : decode cX3_closed 38 = .ok (.ireturn, 1) := dk_172 (dk_at dksX3_closed_1 16 rfl rfl)
theorem dX3_closed_39 : decode cX3_closed 39 = .ok (.aload_n 0, 1) := dk_42 (dk_at dksX3_closed_1 17 rfl rfl)
theorem dX3_closed_40 : decode cX3_closed 40 = .ok (.iload_n 1, 1) := dk_27 (dk_at dksX3_closed_1 18 rfl rfl)
theorem dX3_closed_41 : decode cX3_closed 41 = .ok (.invokevirtual 353, 3) := dk_182 1 97 (dk_at dksX3_closed_1 19 rfl rfl)
theorem dX3_closed_44 : decode cX3_closed 44 = .ok (.aload_n 0, 1) := dk_42 (dk_at dksX3_closed_1 22 rfl rfl)
theorem dX3_closed_45 : decode cX3_closed 45 = .ok (.iconst 0, 1) := dk_3 (dk_at dksX3_closed_1 23 rfl rfl)
theorem dX3_closed_46 : decode cX3_closed 46 = .ok (.iconst (-1), 1) := dk_2 (dk_at dksX3_closed_2 0 rfl rfl)
theorem dX3_closed_47 : decode cX3_closed 47 = .ok (.invokevirtual 356, 3) := dk_182 1 100 (dk_at dksX3_closed_2 1 rfl rfl)
theorem dX3_closed_50 : decode cX3_closed 50 = .ok (.pop, 1) := dk_87 (dk_at dksX3_closed_2 4 rfl rfl)
theorem dX3_closed_51 : decode cX3_closed 51 = .ok (.iconst 0, 1) := dk_3 (dk_at dksX3_closed_2 5 rfl rfl)
theorem dX3_closed_52 : decode cX3_closed 52 = .ok (.istore_n 3, 1) := dk_62 (dk_at dksX3_closed_2 6 rfl rfl)
theorem dX3_closed_53 : decode cX3_closed 53 = .ok (.aload_n 0, 1) := dk_42 (dk_at dksX3_closed_2 7 rfl rfl)
theorem dX3_closed_54 : decode cX3_closed 54 = .ok (.invokevirtual 341, 3) := dk_182 1 85 (dk_at dksX3_closed_2 8 rfl rfl)
theorem dX3_closed_57 : decode cX3_closed 57 = .ok (.aload_n 0, 1) := dk_42 (dk_at dksX3_closed_2 11 rfl rfl)
theorem dX3_closed_58 : decode cX3_closed 58 = .ok (.getfield 42, 3) := dk_180 0 42 (dk_at dksX3_closed_2 12 rfl rfl)
theorem dX3_closed_61 : decode cX3_closed 61 = .ok (.iconst 2, 1) := dk_5 (dk_at dksX3_closed_2 15 rfl rfl)
theorem dX3_closed_62 : decode cX3_closed 62 = .ok (.iaload, 1) := dk_46 (dk_at dksX3_closed_2 16 rfl rfl)
theorem dX3_closed_63 : decode cX3_closed 63 = .ok (.ixor, 1) := dk_130 (dk_at dksX3_closed_2 17 rfl rfl)
theorem dX3_closed_64 : decode cX3_closed 64 = .ok (.istore 4, 2) := dk_54 4 (dk_at dksX3_closed_2 18 rfl rfl)
theorem dX3_closed_66 : decode cX3_closed 66 = .ok (.iconst 0, 1) := dk_3 (dk_at dksX3_closed_2 20 rfl rfl)
theorem dX3_closed_67 : decode cX3_closed 67 = .ok (.istore 5, 2) := dk_54 5 (dk_at dksX3_closed_2 21 rfl rfl)
theorem dX3_closed_69 : decode cX3_closed 69 = .ok (.iload 5, 2) := dk_21 5 (dk_at dksX3_closed_3 0 rfl rfl)
theorem dX3_closed_71 : decode cX3_closed 71 = .ok (.iconst 1, 1) := dk_4 (dk_at dksX3_closed_3 2 rfl rfl)
theorem dX3_closed_72 : decode cX3_closed 72 = .ok (.aload_n 0, 1) := dk_42 (dk_at dksX3_closed_3 3 rfl rfl)
theorem dX3_closed_73 : decode cX3_closed 73 = .ok (.getfield 42, 3) := dk_180 0 42 (dk_at dksX3_closed_3 4 rfl rfl)
theorem dX3_closed_76 : decode cX3_closed 76 = .ok (.iconst 0, 1) := dk_3 (dk_at dksX3_closed_3 7 rfl rfl)
theorem dX3_closed_77 : decode cX3_closed 77 = .ok (.iaload, 1) := dk_46 (dk_at dksX3_closed_3 8 rfl rfl)
theorem dX3_closed_78 : decode cX3_closed 78 = .ok (.ishl, 1) := dk_120 (dk_at dksX3_closed_3 9 rfl rfl)
theorem dX3_closed_79 : decode cX3_closed 79 = .ok (.if_icmp .ge 30, 3) := dk_162 0 30 (dk_at dksX3_closed_3 10 rfl rfl)
theorem dX3_closed_82 : decode cX3_closed 82 = .ok (.iload_n 3, 1) := dk_29 (dk_at dksX3_closed_3 13 rfl rfl)
theorem dX3_closed_83 : decode cX3_closed 83 = .ok (.aload_n 0, 1) := dk_42 (dk_at dksX3_closed_3 14 rfl rfl)
theorem dX3_closed_84 : decode cX3_closed 84 = .ok (.getfield 58, 3) := dk_180 0 58 (dk_at dksX3_closed_3 15 rfl rfl)
theorem dX3_closed_87 : decode cX3_closed 87 = .ok (.iload 4, 2) := dk_21 4 (dk_at dksX3_closed_3 18 rfl rfl)
theorem dX3_closed_89 : decode cX3_closed 89 = .ok (.iload 5, 2) := dk_21 5 (dk_at dksX3_closed_3 20 rfl rfl)
theorem dX3_closed_91 : decode cX3_closed 91 = .ok (.ior, 1) := dk_128 (dk_at dksX3_closed_3 22 rfl rfl)
theorem dX3_closed_92 : decode cX3_closed 92 = .ok (.iaload, 1) := dk_46 (dk_at dksX3_closed_3 23 rfl rfl)
theorem dX3_closed_93 : decode cX3_closed 93 = .ok (.ifCond .le 7, 3) := dk_158 0 7 (dk_at dksX3_closed_4 0 rfl rfl)
theorem dX3_closed_96 : decode cX3_closed 96 = .ok (.iconst 1, 1) := dk_4 (dk_at dksX3_closed_4 3 rfl rfl)
theorem dX3_closed_97 : decode cX3_closed 97 = .ok (.goto 4, 3) := dk_167 0 4 (dk_at dksX3_closed_4 4 rfl rfl)
theorem dX3_closed_100 : decode cX3_closed 100 = .ok (.iconst 0, 1) := dk_3 (dk_at dksX3_closed_4 7 rfl rfl)
theorem dX3_closed_101 : decode cX3_closed 101 = .ok (.iadd, 1) := dk_96 (dk_at dksX3_closed_4 8 rfl rfl)
theorem dX3_closed_102 : decode cX3_closed 102 = .ok (.istore_n 3, 1) := dk_62 (dk_at dksX3_closed_4 9 rfl rfl)
theorem dX3_closed_103 : decode cX3_closed 103 = .ok (.iinc 5 1, 3) := dk_132 5 1 (dk_at dksX3_closed_4 10 rfl rfl)
theorem dX3_closed_106 : decode cX3_closed 106 = .ok (.goto (-37), 3) := dk_167 255 219 (dk_at dksX3_closed_4 13 rfl rfl)
theorem dX3_closed_109 : decode cX3_closed 109 = .ok (.iload_n 3, 1) := dk_29 (dk_at dksX3_closed_4 16 rfl rfl)
theorem dX3_closed_110 : decode cX3_closed 110 = .ok (.ireturn, 1) := dk_172 (dk_at dksX3_closed_4 17 rfl rfl)
abbrev cX3_hasSums : ByteArray := prog_19_method_75_code
def yX3_hasSums : MethodName := ⟨RX3, "hasSums", "(I)Z"⟩
def dkwX3_hasSums_6 : List UInt8 := [167, 255, 137, 29, 153, 0, 5, 4, 172, 132, 2, 1, 167, 255, 108, 3, 172]
abbrev dktX3_hasSums_6 : List UInt8 := dkwX3_hasSums_6 ++ []
def dkwX3_hasSums_5 : List UInt8 := [182, 1, 48, 42, 21, 4, 182, 1, 51, 100, 160, 0, 7, 4, 167, 0, 4, 3, 62, 132, 4, 1]
abbrev dktX3_hasSums_5 : List UInt8 := dkwX3_hasSums_5 ++ dktX3_hasSums_6
def dkwX3_hasSums_4 : List UInt8 := [167, 255, 200, 42, 28, 21, 4, 3, 182, 1, 48, 21, 5, 100, 42, 42, 180, 0, 42, 5, 46, 21, 4, 3]
abbrev dktX3_hasSums_4 : List UInt8 := dkwX3_hasSums_4 ++ dktX3_hasSums_5
def dkwX3_hasSums_3 : List UInt8 := [21, 6, 3, 182, 1, 23, 21, 4, 160, 0, 7, 4, 167, 0, 4, 3, 96, 54, 5, 132, 6, 1]
abbrev dktX3_hasSums_3 : List UInt8 := dkwX3_hasSums_3 ++ dktX3_hasSums_4
def dkwX3_hasSums_2 : List UInt8 := [21, 5, 27, 21, 6, 122, 4, 126, 4, 160, 0, 13, 42, 21, 6, 4, 182, 1, 23, 167, 0, 10, 42]
abbrev dktX3_hasSums_2 : List UInt8 := dkwX3_hasSums_2 ++ dktX3_hasSums_3
def dkwX3_hasSums_1 : List UInt8 := [162, 0, 118, 29, 153, 0, 114, 3, 54, 5, 3, 54, 6, 21, 6, 42, 180, 0, 42, 4, 46, 162, 0, 51]
abbrev dktX3_hasSums_1 : List UInt8 := dkwX3_hasSums_1 ++ dktX3_hasSums_2
def dkwX3_hasSums_0 : List UInt8 := [3, 61, 28, 4, 42, 180, 0, 42, 3, 46, 120, 162, 0, 142, 4, 62, 3, 54, 4, 21, 4, 16, 8]
abbrev dktX3_hasSums_0 : List UInt8 := dkwX3_hasSums_0 ++ dktX3_hasSums_1
theorem dksX3_hasSums_0 : cX3_hasSums.data.toList.drop 0 = dktX3_hasSums_0 := by decide +kernel
theorem dksX3_hasSums_1 : cX3_hasSums.data.toList.drop 23 = dktX3_hasSums_1 := dk_seg dksX3_hasSums_0 23 rfl rfl
theorem dksX3_hasSums_2 : cX3_hasSums.data.toList.drop 47 = dktX3_hasSums_2 := dk_seg dksX3_hasSums_1 24 rfl rfl
theorem dksX3_hasSums_3 : cX3_hasSums.data.toList.drop 70 = dktX3_hasSums_3 := dk_seg dksX3_hasSums_2 23 rfl rfl
theorem dksX3_hasSums_4 : cX3_hasSums.data.toList.drop 92 = dktX3_hasSums_4 := dk_seg dksX3_hasSums_3 22 rfl rfl
theorem dksX3_hasSums_5 : cX3_hasSums.data.toList.drop 116 = dktX3_hasSums_5 := dk_seg dksX3_hasSums_4 24 rfl rfl
theorem dksX3_hasSums_6 : cX3_hasSums.data.toList.drop 138 = dktX3_hasSums_6 := dk_seg dksX3_hasSums_5 22 rfl rfl
theorem dX3_hasSums_0 : decode cX3_hasSums 0 = .ok (.iconst 0, 1) := dk_3 (dk_at dksX3_hasSums_0 0 rfl rfl)
theorem dX3_hasSums_1 : decode cX3_hasSums 1 = .ok (.istore_n 2, 1) := dk_61 (dk_at dksX3_hasSums_0 1 rfl rfl)
theorem dX3_hasSums_2 : decode cX3_hasSums 2 = .ok (.iload_n 2, 1) := dk_28 (dk_at dksX3_hasSums_0 2 rfl rfl)
theorem dX3_hasSums_3 : decode cX3_hasSums 3 = .ok (.iconst 1, 1) := dk_4 (dk_at dksX3_hasSums_0 3 rfl rfl)
theorem dX3_hasSums_4 : decode cX3_hasSums 4 = .ok (.aload_n 0, 1) := dk_42 (dk_at dksX3_hasSums_0 4 rfl rfl)
theorem dX3_hasSums_5 : decode cX3_hasSums 5 = .ok (.getfield 42, 3) := dk_180 0 42 (dk_at dksX3_hasSums_0 5 rfl rfl)
theorem dX3_hasSums_8 : decode cX3_hasSums 8 = .ok (.iconst 0, 1) := dk_3 (dk_at dksX3_hasSums_0 8 rfl rfl)
theorem dX3_hasSums_9 : decode cX3_hasSums 9 = .ok (.iaload, 1) := dk_46 (dk_at dksX3_hasSums_0 9 rfl rfl)
theorem dX3_hasSums_10 : decode cX3_hasSums 10 = .ok (.ishl, 1) := dk_120 (dk_at dksX3_hasSums_0 10 rfl rfl)
theorem dX3_hasSums_11 : decode cX3_hasSums 11 = .ok (.if_icmp .ge 142, 3) := dk_162 0 142 (dk_at dksX3_hasSums_0 11 rfl rfl)
theorem dX3_hasSums_14 : decode cX3_hasSums 14 = .ok (.iconst 1, 1) := dk_4 (dk_at dksX3_hasSums_0 14 rfl rfl)
theorem dX3_hasSums_15 : decode cX3_hasSums 15 = .ok (.istore_n 3, 1) := dk_62 (dk_at dksX3_hasSums_0 15 rfl rfl)
theorem dX3_hasSums_16 : decode cX3_hasSums 16 = .ok (.iconst 0, 1) := dk_3 (dk_at dksX3_hasSums_0 16 rfl rfl)
theorem dX3_hasSums_17 : decode cX3_hasSums 17 = .ok (.istore 4, 2) := dk_54 4 (dk_at dksX3_hasSums_0 17 rfl rfl)
theorem dX3_hasSums_19 : decode cX3_hasSums 19 = .ok (.iload 4, 2) := dk_21 4 (dk_at dksX3_hasSums_0 19 rfl rfl)
theorem dX3_hasSums_21 : decode cX3_hasSums 21 = .ok (.bipush 8, 2) := dk_16 8 (dk_at dksX3_hasSums_0 21 rfl rfl)
theorem dX3_hasSums_23 : decode cX3_hasSums 23 = .ok (.if_icmp .ge 118, 3) := dk_162 0 118 (dk_at dksX3_hasSums_1 0 rfl rfl)
theorem dX3_hasSums_26 : decode cX3_hasSums 26 = .ok (.iload_n 3, 1) := dk_29 (dk_at dksX3_hasSums_1 3 rfl rfl)
theorem dX3_hasSums_27 : decode cX3_hasSums 27 = .ok (.ifCond .eq 114, 3) := dk_153 0 114 (dk_at dksX3_hasSums_1 4 rfl rfl)
theorem dX3_hasSums_30 : decode cX3_hasSums 30 = .ok (.iconst 0, 1) := dk_3 (dk_at dksX3_hasSums_1 7 rfl rfl)
theorem dX3_hasSums_31 : decode cX3_hasSums 31 = .ok (.istore 5, 2) := dk_54 5 (dk_at dksX3_hasSums_1 8 rfl rfl)
theorem dX3_hasSums_33 : decode cX3_hasSums 33 = .ok (.iconst 0, 1) := dk_3 (dk_at dksX3_hasSums_1 10 rfl rfl)
theorem dX3_hasSums_34 : decode cX3_hasSums 34 = .ok (.istore 6, 2) := dk_54 6 (dk_at dksX3_hasSums_1 11 rfl rfl)
theorem dX3_hasSums_36 : decode cX3_hasSums 36 = .ok (.iload 6, 2) := dk_21 6 (dk_at dksX3_hasSums_1 13 rfl rfl)
theorem dX3_hasSums_38 : decode cX3_hasSums 38 = .ok (.aload_n 0, 1) := dk_42 (dk_at dksX3_hasSums_1 15 rfl rfl)
theorem dX3_hasSums_39 : decode cX3_hasSums 39 = .ok (.getfield 42, 3) := dk_180 0 42 (dk_at dksX3_hasSums_1 16 rfl rfl)
theorem dX3_hasSums_42 : decode cX3_hasSums 42 = .ok (.iconst 1, 1) := dk_4 (dk_at dksX3_hasSums_1 19 rfl rfl)
theorem dX3_hasSums_43 : decode cX3_hasSums 43 = .ok (.iaload, 1) := dk_46 (dk_at dksX3_hasSums_1 20 rfl rfl)
theorem dX3_hasSums_44 : decode cX3_hasSums 44 = .ok (.if_icmp .ge 51, 3) := dk_162 0 51 (dk_at dksX3_hasSums_1 21 rfl rfl)
theorem dX3_hasSums_47 : decode cX3_hasSums 47 = .ok (.iload 5, 2) := dk_21 5 (dk_at dksX3_hasSums_2 0 rfl rfl)
theorem dX3_hasSums_49 : decode cX3_hasSums 49 = .ok (.iload_n 1, 1) := dk_27 (dk_at dksX3_hasSums_2 2 rfl rfl)
theorem dX3_hasSums_50 : decode cX3_hasSums 50 = .ok (.iload 6, 2) := dk_21 6 (dk_at dksX3_hasSums_2 3 rfl rfl)
theorem dX3_hasSums_52 : decode cX3_hasSums 52 = .ok (.ishr, 1) := dk_122 (dk_at dksX3_hasSums_2 5 rfl rfl)
theorem dX3_hasSums_53 : decode cX3_hasSums 53 = .ok (.iconst 1, 1) := dk_4 (dk_at dksX3_hasSums_2 6 rfl rfl)
theorem dX3_hasSums_54 : decode cX3_hasSums 54 = .ok (.iand, 1) := dk_126 (dk_at dksX3_hasSums_2 7 rfl rfl)
theorem dX3_hasSums_55 : decode cX3_hasSums 55 = .ok (.iconst 1, 1) := dk_4 (dk_at dksX3_hasSums_2 8 rfl rfl)
theorem dX3_hasSums_56 : decode cX3_hasSums 56 = .ok (.if_icmp .ne 13, 3) := dk_160 0 13 (dk_at dksX3_hasSums_2 9 rfl rfl)
theorem dX3_hasSums_59 : decode cX3_hasSums 59 = .ok (.aload_n 0, 1) := dk_42 (dk_at dksX3_hasSums_2 12 rfl rfl)
theorem dX3_hasSums_60 : decode cX3_hasSums 60 = .ok (.iload 6, 2) := dk_21 6 (dk_at dksX3_hasSums_2 13 rfl rfl)
theorem dX3_hasSums_62 : decode cX3_hasSums 62 = .ok (.iconst 1, 1) := dk_4 (dk_at dksX3_hasSums_2 15 rfl rfl)
theorem dX3_hasSums_63 : decode cX3_hasSums 63 = .ok (.invokevirtual 279, 3) := dk_182 1 23 (dk_at dksX3_hasSums_2 16 rfl rfl)
theorem dX3_hasSums_66 : decode cX3_hasSums 66 = .ok (.goto 10, 3) := dk_167 0 10 (dk_at dksX3_hasSums_2 19 rfl rfl)
theorem dX3_hasSums_69 : decode cX3_hasSums 69 = .ok (.aload_n 0, 1) := dk_42 (dk_at dksX3_hasSums_2 22 rfl rfl)
theorem dX3_hasSums_70 : decode cX3_hasSums 70 = .ok (.iload 6, 2) := dk_21 6 (dk_at dksX3_hasSums_3 0 rfl rfl)
theorem dX3_hasSums_72 : decode cX3_hasSums 72 = .ok (.iconst 0, 1) := dk_3 (dk_at dksX3_hasSums_3 2 rfl rfl)
theorem dX3_hasSums_73 : decode cX3_hasSums 73 = .ok (.invokevirtual 279, 3) := dk_182 1 23 (dk_at dksX3_hasSums_3 3 rfl rfl)
theorem dX3_hasSums_76 : decode cX3_hasSums 76 = .ok (.iload 4, 2) := dk_21 4 (dk_at dksX3_hasSums_3 6 rfl rfl)
theorem dX3_hasSums_78 : decode cX3_hasSums 78 = .ok (.if_icmp .ne 7, 3) := dk_160 0 7 (dk_at dksX3_hasSums_3 8 rfl rfl)
theorem dX3_hasSums_81 : decode cX3_hasSums 81 = .ok (.iconst 1, 1) := dk_4 (dk_at dksX3_hasSums_3 11 rfl rfl)
theorem dX3_hasSums_82 : decode cX3_hasSums 82 = .ok (.goto 4, 3) := dk_167 0 4 (dk_at dksX3_hasSums_3 12 rfl rfl)
theorem dX3_hasSums_85 : decode cX3_hasSums 85 = .ok (.iconst 0, 1) := dk_3 (dk_at dksX3_hasSums_3 15 rfl rfl)
theorem dX3_hasSums_86 : decode cX3_hasSums 86 = .ok (.iadd, 1) := dk_96 (dk_at dksX3_hasSums_3 16 rfl rfl)
theorem dX3_hasSums_87 : decode cX3_hasSums 87 = .ok (.istore 5, 2) := dk_54 5 (dk_at dksX3_hasSums_3 17 rfl rfl)
theorem dX3_hasSums_89 : decode cX3_hasSums 89 = .ok (.iinc 6 1, 3) := dk_132 6 1 (dk_at dksX3_hasSums_3 19 rfl rfl)
theorem dX3_hasSums_92 : decode cX3_hasSums 92 = .ok (.goto (-56), 3) := dk_167 255 200 (dk_at dksX3_hasSums_4 0 rfl rfl)
theorem dX3_hasSums_95 : decode cX3_hasSums 95 = .ok (.aload_n 0, 1) := dk_42 (dk_at dksX3_hasSums_4 3 rfl rfl)
theorem dX3_hasSums_96 : decode cX3_hasSums 96 = .ok (.iload_n 2, 1) := dk_28 (dk_at dksX3_hasSums_4 4 rfl rfl)
theorem dX3_hasSums_97 : decode cX3_hasSums 97 = .ok (.iload 4, 2) := dk_21 4 (dk_at dksX3_hasSums_4 5 rfl rfl)
theorem dX3_hasSums_99 : decode cX3_hasSums 99 = .ok (.iconst 0, 1) := dk_3 (dk_at dksX3_hasSums_4 7 rfl rfl)
theorem dX3_hasSums_100 : decode cX3_hasSums 100 = .ok (.invokevirtual 304, 3) := dk_182 1 48 (dk_at dksX3_hasSums_4 8 rfl rfl)
theorem dX3_hasSums_103 : decode cX3_hasSums 103 = .ok (.iload 5, 2) := dk_21 5 (dk_at dksX3_hasSums_4 11 rfl rfl)
theorem dX3_hasSums_105 : decode cX3_hasSums 105 = .ok (.isub, 1) := dk_100 (dk_at dksX3_hasSums_4 13 rfl rfl)
theorem dX3_hasSums_106 : decode cX3_hasSums 106 = .ok (.aload_n 0, 1) := dk_42 (dk_at dksX3_hasSums_4 14 rfl rfl)
theorem dX3_hasSums_107 : decode cX3_hasSums 107 = .ok (.aload_n 0, 1) := dk_42 (dk_at dksX3_hasSums_4 15 rfl rfl)
theorem dX3_hasSums_108 : decode cX3_hasSums 108 = .ok (.getfield 42, 3) := dk_180 0 42 (dk_at dksX3_hasSums_4 16 rfl rfl)
theorem dX3_hasSums_111 : decode cX3_hasSums 111 = .ok (.iconst 2, 1) := dk_5 (dk_at dksX3_hasSums_4 19 rfl rfl)
theorem dX3_hasSums_112 : decode cX3_hasSums 112 = .ok (.iaload, 1) := dk_46 (dk_at dksX3_hasSums_4 20 rfl rfl)
theorem dX3_hasSums_113 : decode cX3_hasSums 113 = .ok (.iload 4, 2) := dk_21 4 (dk_at dksX3_hasSums_4 21 rfl rfl)
theorem dX3_hasSums_115 : decode cX3_hasSums 115 = .ok (.iconst 0, 1) := dk_3 (dk_at dksX3_hasSums_4 23 rfl rfl)
theorem dX3_hasSums_116 : decode cX3_hasSums 116 = .ok (.invokevirtual 304, 3) := dk_182 1 48 (dk_at dksX3_hasSums_5 0 rfl rfl)
theorem dX3_hasSums_119 : decode cX3_hasSums 119 = .ok (.aload_n 0, 1) := dk_42 (dk_at dksX3_hasSums_5 3 rfl rfl)
theorem dX3_hasSums_120 : decode cX3_hasSums 120 = .ok (.iload 4, 2) := dk_21 4 (dk_at dksX3_hasSums_5 4 rfl rfl)
theorem dX3_hasSums_122 : decode cX3_hasSums 122 = .ok (.invokevirtual 307, 3) := dk_182 1 51 (dk_at dksX3_hasSums_5 6 rfl rfl)
theorem dX3_hasSums_125 : decode cX3_hasSums 125 = .ok (.isub, 1) := dk_100 (dk_at dksX3_hasSums_5 9 rfl rfl)
theorem dX3_hasSums_126 : decode cX3_hasSums 126 = .ok (.if_icmp .ne 7, 3) := dk_160 0 7 (dk_at dksX3_hasSums_5 10 rfl rfl)
theorem dX3_hasSums_129 : decode cX3_hasSums 129 = .ok (.iconst 1, 1) := dk_4 (dk_at dksX3_hasSums_5 13 rfl rfl)
theorem dX3_hasSums_130 : decode cX3_hasSums 130 = .ok (.goto 4, 3) := dk_167 0 4 (dk_at dksX3_hasSums_5 14 rfl rfl)
theorem dX3_hasSums_133 : decode cX3_hasSums 133 = .ok (.iconst 0, 1) := dk_3 (dk_at dksX3_hasSums_5 17 rfl rfl)
theorem dX3_hasSums_134 : decode cX3_hasSums 134 = .ok (.istore_n 3, 1) := dk_62 (dk_at dksX3_hasSums_5 18 rfl rfl)
theorem dX3_hasSums_135 : decode cX3_hasSums 135 = .ok (.iinc 4 1, 3) := dk_132 4 1 (dk_at dksX3_hasSums_5 19 rfl rfl)
theorem dX3_hasSums_138 : decode cX3_hasSums 138 = .ok (.goto (-119), 3) := dk_167 255 137 (dk_at dksX3_hasSums_6 0 rfl rfl)
theorem dX3_hasSums_141 : decode cX3_hasSums 141 = .ok (.iload_n 3, 1) := dk_29 (dk_at dksX3_hasSums_6 3 rfl rfl)
theorem dX3_hasSums_142 : decode cX3_hasSums 142 = .ok (.ifCond .eq 5, 3) := dk_153 0 5 (dk_at dksX3_hasSums_6 4 rfl rfl)
theorem dX3_hasSums_145 : decode cX3_hasSums 145 = .ok (.iconst 1, 1) := dk_4 (dk_at dksX3_hasSums_6 7 rfl rfl)
theorem dX3_hasSums_146 : decode cX3_hasSums 146 = .ok (.ireturn, 1) := dk_172 (dk_at dksX3_hasSums_6 8 rfl rfl)
theorem dX3_hasSums_147 : decode cX3_hasSums 147 = .ok (.iinc 2 1, 3) := dk_132 2 1 (dk_at dksX3_hasSums_6 9 rfl rfl)
theorem dX3_hasSums_150 : decode cX3_hasSums 150 = .ok (.goto (-148), 3) := dk_167 255 108 (dk_at dksX3_hasSums_6 12 rfl rfl)
theorem dX3_hasSums_153 : decode cX3_hasSums 153 = .ok (.iconst 0, 1) := dk_3 (dk_at dksX3_hasSums_6 15 rfl rfl)
theorem dX3_hasSums_154 : decode cX3_hasSums 154 = .ok (.ireturn, 1) := dk_172 (dk_at dksX3_hasSums_6 16 rfl rfl)
abbrev cX3_alike : ByteArray := prog_19_method_77_code
def yX3_alike : MethodName := ⟨RX3, "alike", "()I"⟩
def dkwX3_alike_3 : List UInt8 := [153, 0, 7, 4, 167, 0, 4, 3, 96, 60, 132, 2, 1, 167, 255, 177, 27, 172]
abbrev dktX3_alike_3 : List UInt8 := dkwX3_alike_3 ++ []
def dkwX3_alike_2 : List UInt8 := [21, 4, 3, 182, 1, 48, 160, 0, 7, 4, 167, 0, 4, 3, 62, 132, 4, 1, 167, 255, 212, 27, 29]
abbrev dktX3_alike_2 : List UInt8 := dkwX3_alike_2 ++ dktX3_alike_3
def dkwX3_alike_1 : List UInt8 := [16, 8, 162, 0, 43, 29, 153, 0, 39, 42, 28, 21, 4, 3, 182, 1, 48, 42, 42, 180, 0, 42, 5, 46]
abbrev dktX3_alike_1 : List UInt8 := dkwX3_alike_1 ++ dktX3_alike_2
def dkwX3_alike_0 : List UInt8 := [3, 60, 3, 61, 28, 4, 42, 180, 0, 42, 3, 46, 120, 162, 0, 73, 4, 62, 3, 54, 4, 21, 4]
abbrev dktX3_alike_0 : List UInt8 := dkwX3_alike_0 ++ dktX3_alike_1
theorem dksX3_alike_0 : cX3_alike.data.toList.drop 0 = dktX3_alike_0 := by decide +kernel
theorem dksX3_alike_1 : cX3_alike.data.toList.drop 23 = dktX3_alike_1 := dk_seg dksX3_alike_0 23 rfl rfl
theorem dksX3_alike_2 : cX3_alike.data.toList.drop 47 = dktX3_alike_2 := dk_seg dksX3_alike_1 24 rfl rfl
theorem dksX3_alike_3 : cX3_alike.data.toList.drop 70 = dktX3_alike_3 := dk_seg dksX3_alike_2 23 rfl rfl
theorem dX3_alike_0 : decode cX3_alike 0 = .ok (.iconst 0, 1) := dk_3 (dk_at dksX3_alike_0 0 rfl rfl)
theorem dX3_alike_1 : decode cX3_alike 1 = .ok (.istore_n 1, 1) := dk_60 (dk_at dksX3_alike_0 1 rfl rfl)
theorem dX3_alike_2 : decode cX3_alike 2 = .ok (.iconst 0, 1) := dk_3 (dk_at dksX3_alike_0 2 rfl rfl)
theorem dX3_alike_3 : decode cX3_alike 3 = .ok (.istore_n 2, 1) := dk_61 (dk_at dksX3_alike_0 3 rfl rfl)
theorem dX3_alike_4 : decode cX3_alike 4 = .ok (.iload_n 2, 1) := dk_28 (dk_at dksX3_alike_0 4 rfl rfl)
theorem dX3_alike_5 : decode cX3_alike 5 = .ok (.iconst 1, 1) := dk_4 (dk_at dksX3_alike_0 5 rfl rfl)
theorem dX3_alike_6 : decode cX3_alike 6 = .ok (.aload_n 0, 1) := dk_42 (dk_at dksX3_alike_0 6 rfl rfl)
theorem dX3_alike_7 : decode cX3_alike 7 = .ok (.getfield 42, 3) := dk_180 0 42 (dk_at dksX3_alike_0 7 rfl rfl)
theorem dX3_alike_10 : decode cX3_alike 10 = .ok (.iconst 0, 1) := dk_3 (dk_at dksX3_alike_0 10 rfl rfl)
theorem dX3_alike_11 : decode cX3_alike 11 = .ok (.iaload, 1) := dk_46 (dk_at dksX3_alike_0 11 rfl rfl)
theorem dX3_alike_12 : decode cX3_alike 12 = .ok (.ishl, 1) := dk_120 (dk_at dksX3_alike_0 12 rfl rfl)
theorem dX3_alike_13 : decode cX3_alike 13 = .ok (.if_icmp .ge 73, 3) := dk_162 0 73 (dk_at dksX3_alike_0 13 rfl rfl)
theorem dX3_alike_16 : decode cX3_alike 16 = .ok (.iconst 1, 1) := dk_4 (dk_at dksX3_alike_0 16 rfl rfl)
theorem dX3_alike_17 : decode cX3_alike 17 = .ok (.istore_n 3, 1) := dk_62 (dk_at dksX3_alike_0 17 rfl rfl)
theorem dX3_alike_18 : decode cX3_alike 18 = .ok (.iconst 0, 1) := dk_3 (dk_at dksX3_alike_0 18 rfl rfl)
theorem dX3_alike_19 : decode cX3_alike 19 = .ok (.istore 4, 2) := dk_54 4 (dk_at dksX3_alike_0 19 rfl rfl)
theorem dX3_alike_21 : decode cX3_alike 21 = .ok (.iload 4, 2) := dk_21 4 (dk_at dksX3_alike_0 21 rfl rfl)
theorem dX3_alike_23 : decode cX3_alike 23 = .ok (.bipush 8, 2) := dk_16 8 (dk_at dksX3_alike_1 0 rfl rfl)
theorem dX3_alike_25 : decode cX3_alike 25 = .ok (.if_icmp .ge 43, 3) := dk_162 0 43 (dk_at dksX3_alike_1 2 rfl rfl)
theorem dX3_alike_28 : decode cX3_alike 28 = .ok (.iload_n 3, 1) := dk_29 (dk_at dksX3_alike_1 5 rfl rfl)
theorem dX3_alike_29 : decode cX3_alike 29 = .ok (.ifCond .eq 39, 3) := dk_153 0 39 (dk_at dksX3_alike_1 6 rfl rfl)
theorem dX3_alike_32 : decode cX3_alike 32 = .ok (.aload_n 0, 1) := dk_42 (dk_at dksX3_alike_1 9 rfl rfl)
theorem dX3_alike_33 : decode cX3_alike 33 = .ok (.iload_n 2, 1) := dk_28 (dk_at dksX3_alike_1 10 rfl rfl)
theorem dX3_alike_34 : decode cX3_alike 34 = .ok (.iload 4, 2) := dk_21 4 (dk_at dksX3_alike_1 11 rfl rfl)
theorem dX3_alike_36 : decode cX3_alike 36 = .ok (.iconst 0, 1) := dk_3 (dk_at dksX3_alike_1 13 rfl rfl)
theorem dX3_alike_37 : decode cX3_alike 37 = .ok (.invokevirtual 304, 3) := dk_182 1 48 (dk_at dksX3_alike_1 14 rfl rfl)
theorem dX3_alike_40 : decode cX3_alike 40 = .ok (.aload_n 0, 1) := dk_42 (dk_at dksX3_alike_1 17 rfl rfl)
theorem dX3_alike_41 : decode cX3_alike 41 = .ok (.aload_n 0, 1) := dk_42 (dk_at dksX3_alike_1 18 rfl rfl)
theorem dX3_alike_42 : decode cX3_alike 42 = .ok (.getfield 42, 3) := dk_180 0 42 (dk_at dksX3_alike_1 19 rfl rfl)
theorem dX3_alike_45 : decode cX3_alike 45 = .ok (.iconst 2, 1) := dk_5 (dk_at dksX3_alike_1 22 rfl rfl)
theorem dX3_alike_46 : decode cX3_alike 46 = .ok (.iaload, 1) := dk_46 (dk_at dksX3_alike_1 23 rfl rfl)
theorem dX3_alike_47 : decode cX3_alike 47 = .ok (.iload 4, 2) := dk_21 4 (dk_at dksX3_alike_2 0 rfl rfl)
theorem dX3_alike_49 : decode cX3_alike 49 = .ok (.iconst 0, 1) := dk_3 (dk_at dksX3_alike_2 2 rfl rfl)
theorem dX3_alike_50 : decode cX3_alike 50 = .ok (.invokevirtual 304, 3) := dk_182 1 48 (dk_at dksX3_alike_2 3 rfl rfl)
theorem dX3_alike_53 : decode cX3_alike 53 = .ok (.if_icmp .ne 7, 3) := dk_160 0 7 (dk_at dksX3_alike_2 6 rfl rfl)
theorem dX3_alike_56 : decode cX3_alike 56 = .ok (.iconst 1, 1) := dk_4 (dk_at dksX3_alike_2 9 rfl rfl)
theorem dX3_alike_57 : decode cX3_alike 57 = .ok (.goto 4, 3) := dk_167 0 4 (dk_at dksX3_alike_2 10 rfl rfl)
theorem dX3_alike_60 : decode cX3_alike 60 = .ok (.iconst 0, 1) := dk_3 (dk_at dksX3_alike_2 13 rfl rfl)
theorem dX3_alike_61 : decode cX3_alike 61 = .ok (.istore_n 3, 1) := dk_62 (dk_at dksX3_alike_2 14 rfl rfl)
theorem dX3_alike_62 : decode cX3_alike 62 = .ok (.iinc 4 1, 3) := dk_132 4 1 (dk_at dksX3_alike_2 15 rfl rfl)
theorem dX3_alike_65 : decode cX3_alike 65 = .ok (.goto (-44), 3) := dk_167 255 212 (dk_at dksX3_alike_2 18 rfl rfl)
theorem dX3_alike_68 : decode cX3_alike 68 = .ok (.iload_n 1, 1) := dk_27 (dk_at dksX3_alike_2 21 rfl rfl)
theorem dX3_alike_69 : decode cX3_alike 69 = .ok (.iload_n 3, 1) := dk_29 (dk_at dksX3_alike_2 22 rfl rfl)
theorem dX3_alike_70 : decode cX3_alike 70 = .ok (.ifCond .eq 7, 3) := dk_153 0 7 (dk_at dksX3_alike_3 0 rfl rfl)
theorem dX3_alike_73 : decode cX3_alike 73 = .ok (.iconst 1, 1) := dk_4 (dk_at dksX3_alike_3 3 rfl rfl)
theorem dX3_alike_74 : decode cX3_alike 74 = .ok (.goto 4, 3) := dk_167 0 4 (dk_at dksX3_alike_3 4 rfl rfl)
theorem dX3_alike_77 : decode cX3_alike 77 = .ok (.iconst 0, 1) := dk_3 (dk_at dksX3_alike_3 7 rfl rfl)
theorem dX3_alike_78 : decode cX3_alike 78 = .ok (.iadd, 1) := dk_96 (dk_at dksX3_alike_3 8 rfl rfl)
theorem dX3_alike_79 : decode cX3_alike 79 = .ok (.istore_n 1, 1) := dk_60 (dk_at dksX3_alike_3 9 rfl rfl)
theorem dX3_alike_80 : decode cX3_alike 80 = .ok (.iinc 2 1, 3) := dk_132 2 1 (dk_at dksX3_alike_3 10 rfl rfl)
theorem dX3_alike_83 : decode cX3_alike 83 = .ok (.goto (-79), 3) := dk_167 255 177 (dk_at dksX3_alike_3 13 rfl rfl)
theorem dX3_alike_86 : decode cX3_alike 86 = .ok (.iload_n 1, 1) := dk_27 (dk_at dksX3_alike_3 16 rfl rfl)
theorem dX3_alike_87 : decode cX3_alike 87 = .ok (.ireturn, 1) := dk_172 (dk_at dksX3_alike_3 17 rfl rfl)
abbrev cX3_decoys : ByteArray := prog_19_method_78_code
def yX3_decoys : MethodName := ⟨RX3, "decoys", "(I)I"⟩
def dkwX3_decoys_5 : List UInt8 := [132, 2, 1, 167, 255, 152, 16, 254, 172]
abbrev dktX3_decoys_5 : List UInt8 := dkwX3_decoys_5 ++ []
def dkwX3_decoys_4 : List UInt8 := [184, 1, 70, 54, 4, 42, 4, 21, 4, 182, 1, 100, 155, 0, 5, 29, 172, 132, 3, 1, 167, 255, 176]
abbrev dktX3_decoys_4 : List UInt8 := dkwX3_decoys_4 ++ dktX3_decoys_5
def dkwX3_decoys_3 : List UInt8 := [154, 0, 6, 167, 0, 36, 42, 29, 4, 27, 120, 128, 182, 1, 97, 29, 4, 27, 120, 4, 100, 126]
abbrev dktX3_decoys_3 : List UInt8 := dkwX3_decoys_3 ++ dktX3_decoys_4
def dkwX3_decoys_2 : List UInt8 := [28, 160, 0, 60, 29, 27, 122, 4, 126, 4, 159, 0, 51, 42, 29, 4, 27, 120, 128, 182, 1, 94]
abbrev dktX3_decoys_2 : List UInt8 := dkwX3_decoys_2 ++ dktX3_decoys_3
def dkwX3_decoys_1 : List UInt8 := [182, 1, 73, 153, 0, 94, 3, 62, 29, 4, 42, 180, 0, 42, 4, 46, 120, 162, 0, 74, 29, 184, 1, 70]
abbrev dktX3_decoys_1 : List UInt8 := dkwX3_decoys_1 ++ dktX3_decoys_2
def dkwX3_decoys_0 : List UInt8 := [42, 27, 182, 1, 57, 154, 0, 5, 2, 172, 3, 61, 28, 16, 6, 162, 0, 104, 42, 28, 4, 96]
abbrev dktX3_decoys_0 : List UInt8 := dkwX3_decoys_0 ++ dktX3_decoys_1
theorem dksX3_decoys_0 : cX3_decoys.data.toList.drop 0 = dktX3_decoys_0 := by decide +kernel
theorem dksX3_decoys_1 : cX3_decoys.data.toList.drop 22 = dktX3_decoys_1 := dk_seg dksX3_decoys_0 22 rfl rfl
theorem dksX3_decoys_2 : cX3_decoys.data.toList.drop 46 = dktX3_decoys_2 := dk_seg dksX3_decoys_1 24 rfl rfl
theorem dksX3_decoys_3 : cX3_decoys.data.toList.drop 68 = dktX3_decoys_3 := dk_seg dksX3_decoys_2 22 rfl rfl
theorem dksX3_decoys_4 : cX3_decoys.data.toList.drop 90 = dktX3_decoys_4 := dk_seg dksX3_decoys_3 22 rfl rfl
theorem dksX3_decoys_5 : cX3_decoys.data.toList.drop 113 = dktX3_decoys_5 := dk_seg dksX3_decoys_4 23 rfl rfl
theorem dX3_decoys_0 : decode cX3_decoys 0 = .ok (.aload_n 0, 1) := dk_42 (dk_at dksX3_decoys_0 0 rfl rfl)
theorem dX3_decoys_1 : decode cX3_decoys 1 = .ok (.iload_n 1, 1) := dk_27 (dk_at dksX3_decoys_0 1 rfl rfl)
theorem dX3_decoys_2 : decode cX3_decoys 2 = .ok (.invokevirtual 313, 3) := dk_182 1 57 (dk_at dksX3_decoys_0 2 rfl rfl)
theorem dX3_decoys_5 : decode cX3_decoys 5 = .ok (.ifCond .ne 5, 3) := dk_154 0 5 (dk_at dksX3_decoys_0 5 rfl rfl)
theorem dX3_decoys_8 : decode cX3_decoys 8 = .ok (.iconst (-1), 1) := dk_2 (dk_at dksX3_decoys_0 8 rfl rfl)
theorem dX3_decoys_9 : decode cX3_decoys 9 = .ok (.ireturn, 1) := dk_172 (dk_at dksX3_decoys_0 9 rfl rfl)
theorem dX3_decoys_10 : decode cX3_decoys 10 = .ok (.iconst 0, 1) := dk_3 (dk_at dksX3_decoys_0 10 rfl rfl)
theorem dX3_decoys_11 : decode cX3_decoys 11 = .ok (.istore_n 2, 1) := dk_61 (dk_at dksX3_decoys_0 11 rfl rfl)
theorem dX3_decoys_12 : decode cX3_decoys 12 = .ok (.iload_n 2, 1) := dk_28 (dk_at dksX3_decoys_0 12 rfl rfl)
theorem dX3_decoys_13 : decode cX3_decoys 13 = .ok (.bipush 6, 2) := dk_16 6 (dk_at dksX3_decoys_0 13 rfl rfl)
theorem dX3_decoys_15 : decode cX3_decoys 15 = .ok (.if_icmp .ge 104, 3) := dk_162 0 104 (dk_at dksX3_decoys_0 15 rfl rfl)
theorem dX3_decoys_18 : decode cX3_decoys 18 = .ok (.aload_n 0, 1) := dk_42 (dk_at dksX3_decoys_0 18 rfl rfl)
theorem dX3_decoys_19 : decode cX3_decoys 19 = .ok (.iload_n 2, 1) := dk_28 (dk_at dksX3_decoys_0 19 rfl rfl)
theorem dX3_decoys_20 : decode cX3_decoys 20 = .ok (.iconst 1, 1) := dk_4 (dk_at dksX3_decoys_0 20 rfl rfl)
theorem dX3_decoys_21 : decode cX3_decoys 21 = .ok (.iadd, 1) := dk_96 (dk_at dksX3_decoys_0 21 rfl rfl)
theorem dX3_decoys_22 : decode cX3_decoys 22 = .ok (.invokevirtual 329, 3) := dk_182 1 73 (dk_at dksX3_decoys_1 0 rfl rfl)
theorem dX3_decoys_25 : decode cX3_decoys 25 = .ok (.ifCond .eq 94, 3) := dk_153 0 94 (dk_at dksX3_decoys_1 3 rfl rfl)
theorem dX3_decoys_28 : decode cX3_decoys 28 = .ok (.iconst 0, 1) := dk_3 (dk_at dksX3_decoys_1 6 rfl rfl)
theorem dX3_decoys_29 : decode cX3_decoys 29 = .ok (.istore_n 3, 1) := dk_62 (dk_at dksX3_decoys_1 7 rfl rfl)
theorem dX3_decoys_30 : decode cX3_decoys 30 = .ok (.iload_n 3, 1) := dk_29 (dk_at dksX3_decoys_1 8 rfl rfl)
theorem dX3_decoys_31 : decode cX3_decoys 31 = .ok (.iconst 1, 1) := dk_4 (dk_at dksX3_decoys_1 9 rfl rfl)
theorem dX3_decoys_32 : decode cX3_decoys 32 = .ok (.aload_n 0, 1) := dk_42 (dk_at dksX3_decoys_1 10 rfl rfl)
theorem dX3_decoys_33 : decode cX3_decoys 33 = .ok (.getfield 42, 3) := dk_180 0 42 (dk_at dksX3_decoys_1 11 rfl rfl)
theorem dX3_decoys_36 : decode cX3_decoys 36 = .ok (.iconst 1, 1) := dk_4 (dk_at dksX3_decoys_1 14 rfl rfl)
theorem dX3_decoys_37 : decode cX3_decoys 37 = .ok (.iaload, 1) := dk_46 (dk_at dksX3_decoys_1 15 rfl rfl)
theorem dX3_decoys_38 : decode cX3_decoys 38 = .ok (.ishl, 1) := dk_120 (dk_at dksX3_decoys_1 16 rfl rfl)
theorem dX3_decoys_39 : decode cX3_decoys 39 = .ok (.if_icmp .ge 74, 3) := dk_162 0 74 (dk_at dksX3_decoys_1 17 rfl rfl)
theorem dX3_decoys_42 : decode cX3_decoys 42 = .ok (.iload_n 3, 1) := dk_29 (dk_at dksX3_decoys_1 20 rfl rfl)
theorem dX3_decoys_43 : decode cX3_decoys 43 = .ok (.invokestatic 326, 3) := dk_184 1 70 (dk_at dksX3_decoys_1 21 rfl rfl)
theorem dX3_decoys_46 : decode cX3_decoys 46 = .ok (.iload_n 2, 1) := dk_28 (dk_at dksX3_decoys_2 0 rfl rfl)
theorem dX3_decoys_47 : decode cX3_decoys 47 = .ok (.if_icmp .ne 60, 3) := dk_160 0 60 (dk_at dksX3_decoys_2 1 rfl rfl)
theorem dX3_decoys_50 : decode cX3_decoys 50 = .ok (.iload_n 3, 1) := dk_29 (dk_at dksX3_decoys_2 4 rfl rfl)
theorem dX3_decoys_51 : decode cX3_decoys 51 = .ok (.iload_n 1, 1) := dk_27 (dk_at dksX3_decoys_2 5 rfl rfl)
theorem dX3_decoys_52 : decode cX3_decoys 52 = .ok (.ishr, 1) := dk_122 (dk_at dksX3_decoys_2 6 rfl rfl)
theorem dX3_decoys_53 : decode cX3_decoys 53 = .ok (.iconst 1, 1) := dk_4 (dk_at dksX3_decoys_2 7 rfl rfl)
theorem dX3_decoys_54 : decode cX3_decoys 54 = .ok (.iand, 1) := dk_126 (dk_at dksX3_decoys_2 8 rfl rfl)
theorem dX3_decoys_55 : decode cX3_decoys 55 = .ok (.iconst 1, 1) := dk_4 (dk_at dksX3_decoys_2 9 rfl rfl)
theorem dX3_decoys_56 : decode cX3_decoys 56 = .ok (.if_icmp .eq 51, 3) := dk_159 0 51 (dk_at dksX3_decoys_2 10 rfl rfl)
theorem dX3_decoys_59 : decode cX3_decoys 59 = .ok (.aload_n 0, 1) := dk_42 (dk_at dksX3_decoys_2 13 rfl rfl)
theorem dX3_decoys_60 : decode cX3_decoys 60 = .ok (.iload_n 3, 1) := dk_29 (dk_at dksX3_decoys_2 14 rfl rfl)
theorem dX3_decoys_61 : decode cX3_decoys 61 = .ok (.iconst 1, 1) := dk_4 (dk_at dksX3_decoys_2 15 rfl rfl)
theorem dX3_decoys_62 : decode cX3_decoys 62 = .ok (.iload_n 1, 1) := dk_27 (dk_at dksX3_decoys_2 16 rfl rfl)
theorem dX3_decoys_63 : decode cX3_decoys 63 = .ok (.ishl, 1) := dk_120 (dk_at dksX3_decoys_2 17 rfl rfl)
theorem dX3_decoys_64 : decode cX3_decoys 64 = .ok (.ior, 1) := dk_128 (dk_at dksX3_decoys_2 18 rfl rfl)
theorem dX3_decoys_65 : decode cX3_decoys 65 = .ok (.invokevirtual 350, 3) := dk_182 1 94 (dk_at dksX3_decoys_2 19 rfl rfl)
theorem dX3_decoys_68 : decode cX3_decoys 68 = .ok (.ifCond .ne 6, 3) := dk_154 0 6 (dk_at dksX3_decoys_3 0 rfl rfl)
theorem dX3_decoys_71 : decode cX3_decoys 71 = .ok (.goto 36, 3) := dk_167 0 36 (dk_at dksX3_decoys_3 3 rfl rfl)
theorem dX3_decoys_74 : decode cX3_decoys 74 = .ok (.aload_n 0, 1) := dk_42 (dk_at dksX3_decoys_3 6 rfl rfl)
theorem dX3_decoys_75 : decode cX3_decoys 75 = .ok (.iload_n 3, 1) := dk_29 (dk_at dksX3_decoys_3 7 rfl rfl)
theorem dX3_decoys_76 : decode cX3_decoys 76 = .ok (.iconst 1, 1) := dk_4 (dk_at dksX3_decoys_3 8 rfl rfl)
theorem dX3_decoys_77 : decode cX3_decoys 77 = .ok (.iload_n 1, 1) := dk_27 (dk_at dksX3_decoys_3 9 rfl rfl)
theorem dX3_decoys_78 : decode cX3_decoys 78 = .ok (.ishl, 1) := dk_120 (dk_at dksX3_decoys_3 10 rfl rfl)
theorem dX3_decoys_79 : decode cX3_decoys 79 = .ok (.ior, 1) := dk_128 (dk_at dksX3_decoys_3 11 rfl rfl)
theorem dX3_decoys_80 : decode cX3_decoys 80 = .ok (.invokevirtual 353, 3) := dk_182 1 97 (dk_at dksX3_decoys_3 12 rfl rfl)
theorem dX3_decoys_83 : decode cX3_decoys 83 = .ok (.iload_n 3, 1) := dk_29 (dk_at dksX3_decoys_3 15 rfl rfl)
theorem dX3_decoys_84 : decode cX3_decoys 84 = .ok (.iconst 1, 1) := dk_4 (dk_at dksX3_decoys_3 16 rfl rfl)
theorem dX3_decoys_85 : decode cX3_decoys 85 = .ok (.iload_n 1, 1) := dk_27 (dk_at dksX3_decoys_3 17 rfl rfl)
theorem dX3_decoys_86 : decode cX3_decoys 86 = .ok (.ishl, 1) := dk_120 (dk_at dksX3_decoys_3 18 rfl rfl)
theorem dX3_decoys_87 : decode cX3_decoys 87 = .ok (.iconst 1, 1) := dk_4 (dk_at dksX3_decoys_3 19 rfl rfl)
theorem dX3_decoys_88 : decode cX3_decoys 88 = .ok (.isub, 1) := dk_100 (dk_at dksX3_decoys_3 20 rfl rfl)
theorem dX3_decoys_89 : decode cX3_decoys 89 = .ok (.iand, 1) := dk_126 (dk_at dksX3_decoys_3 21 rfl rfl)
theorem dX3_decoys_90 : decode cX3_decoys 90 = .ok (.invokestatic 326, 3) := dk_184 1 70 (dk_at dksX3_decoys_4 0 rfl rfl)
theorem dX3_decoys_93 : decode cX3_decoys 93 = .ok (.istore 4, 2) := dk_54 4 (dk_at dksX3_decoys_4 3 rfl rfl)
theorem dX3_decoys_95 : decode cX3_decoys 95 = .ok (.aload_n 0, 1) := dk_42 (dk_at dksX3_decoys_4 5 rfl rfl)
theorem dX3_decoys_96 : decode cX3_decoys 96 = .ok (.iconst 1, 1) := dk_4 (dk_at dksX3_decoys_4 6 rfl rfl)
theorem dX3_decoys_97 : decode cX3_decoys 97 = .ok (.iload 4, 2) := dk_21 4 (dk_at dksX3_decoys_4 7 rfl rfl)
theorem dX3_decoys_99 : decode cX3_decoys 99 = .ok (.invokevirtual 356, 3) := dk_182 1 100 (dk_at dksX3_decoys_4 9 rfl rfl)
theorem dX3_decoys_102 : decode cX3_decoys 102 = .ok (.ifCond .lt 5, 3) := dk_155 0 5 (dk_at dksX3_decoys_4 12 rfl rfl)
theorem dX3_decoys_105 : decode cX3_decoys 105 = .ok (.iload_n 3, 1) := dk_29 (dk_at dksX3_decoys_4 15 rfl rfl)
theorem dX3_decoys_106 : decode cX3_decoys 106 = .ok (.ireturn, 1) := dk_172 (dk_at dksX3_decoys_4 16 rfl rfl)
theorem dX3_decoys_107 : decode cX3_decoys 107 = .ok (.iinc 3 1, 3) := dk_132 3 1 (dk_at dksX3_decoys_4 17 rfl rfl)
theorem dX3_decoys_110 : decode cX3_decoys 110 = .ok (.goto (-80), 3) := dk_167 255 176 (dk_at dksX3_decoys_4 20 rfl rfl)
theorem dX3_decoys_113 : decode cX3_decoys 113 = .ok (.iinc 2 1, 3) := dk_132 2 1 (dk_at dksX3_decoys_5 0 rfl rfl)
theorem dX3_decoys_116 : decode cX3_decoys 116 = .ok (.goto (-104), 3) := dk_167 255 152 (dk_at dksX3_decoys_5 3 rfl rfl)
theorem dX3_decoys_119 : decode cX3_decoys 119 = .ok (.bipush (-2), 2) := dk_16 254 (dk_at dksX3_decoys_5 6 rfl rfl)
theorem dX3_decoys_121 : decode cX3_decoys 121 = .ok (.ireturn, 1) := dk_172 (dk_at dksX3_decoys_5 8 rfl rfl)
abbrev cX3_post : ByteArray := prog_19_method_79_code
def yX3_post : MethodName := ⟨RX3, "post", "(IIZ)I"⟩
def dkwX3_post_9 : List UInt8 := [128, 21, 5, 182, 1, 88, 132, 8, 1, 167, 255, 173, 132, 5, 1, 167, 255, 106, 16, 254, 172]
abbrev dktX3_post_9 : List UInt8 := dkwX3_post_9 ++ []
def dkwX3_post_8 : List UInt8 := [21, 6, 4, 21, 8, 120, 130, 17, 241, 255, 126, 21, 9, 16, 9, 120, 128, 4, 16, 12, 21, 9, 96, 120]
abbrev dktX3_post_8 : List UInt8 := dkwX3_post_8 ++ dktX3_post_9
def dkwX3_post_7 : List UInt8 := [182, 1, 29, 21, 7, 159, 0, 6, 167, 0, 45, 42, 21, 6, 21, 8, 4, 182, 1, 29, 54, 9, 42]
abbrev dktX3_post_7 : List UInt8 := dkwX3_post_7 ++ dktX3_post_8
def dkwX3_post_6 : List UInt8 := [180, 0, 42, 3, 46, 162, 0, 78, 42, 180, 0, 64, 21, 8, 51, 154, 0, 62, 42, 21, 6, 21, 8, 3]
abbrev dktX3_post_6 : List UInt8 := dkwX3_post_6 ++ dktX3_post_7
def dkwX3_post_5 : List UInt8 := [153, 0, 10, 21, 7, 21, 4, 160, 0, 10, 42, 21, 5, 182, 1, 104, 172, 3, 54, 8, 21, 8, 42]
abbrev dktX3_post_5 : List UInt8 := dkwX3_post_5 ++ dktX3_post_6
def dkwX3_post_4 : List UInt8 := [21, 6, 16, 9, 122, 16, 7, 126, 54, 7, 28, 21, 6, 16, 12, 122, 2, 130, 126, 154, 0, 21, 29]
abbrev dktX3_post_4 : List UInt8 := dkwX3_post_4 ++ dktX3_post_5
def dkwX3_post_3 : List UInt8 := [182, 1, 88, 3, 54, 5, 21, 5, 42, 180, 1, 76, 162, 0, 147, 42, 180, 0, 52, 21, 5, 46, 54, 6]
abbrev dktX3_post_3 : List UInt8 := dkwX3_post_3 ++ dktX3_post_4
def dkwX3_post_2 : List UInt8 := [42, 42, 180, 0, 42, 5, 46, 21, 4, 16, 9, 120, 128, 4, 16, 12, 21, 4, 96, 120, 128, 2]
abbrev dktX3_post_2 : List UInt8 := dkwX3_post_2 ++ dktX3_post_3
def dkwX3_post_1 : List UInt8 := [3, 46, 16, 9, 164, 0, 5, 2, 172, 42, 4, 27, 120, 182, 1, 97, 42, 27, 3, 182, 1, 23, 54, 4]
abbrev dktX3_post_1 : List UInt8 := dkwX3_post_1 ++ dktX3_post_2
def dkwX3_post_0 : List UInt8 := [42, 27, 182, 1, 57, 153, 0, 26, 28, 133, 9, 20, 1, 112, 184, 0, 125, 153, 0, 14, 42, 180, 0, 42]
abbrev dktX3_post_0 : List UInt8 := dkwX3_post_0 ++ dktX3_post_1
theorem dksX3_post_0 : cX3_post.data.toList.drop 0 = dktX3_post_0 := by decide +kernel
theorem dksX3_post_1 : cX3_post.data.toList.drop 24 = dktX3_post_1 := dk_seg dksX3_post_0 24 rfl rfl
theorem dksX3_post_2 : cX3_post.data.toList.drop 48 = dktX3_post_2 := dk_seg dksX3_post_1 24 rfl rfl
theorem dksX3_post_3 : cX3_post.data.toList.drop 70 = dktX3_post_3 := dk_seg dksX3_post_2 22 rfl rfl
theorem dksX3_post_4 : cX3_post.data.toList.drop 94 = dktX3_post_4 := dk_seg dksX3_post_3 24 rfl rfl
theorem dksX3_post_5 : cX3_post.data.toList.drop 117 = dktX3_post_5 := dk_seg dksX3_post_4 23 rfl rfl
theorem dksX3_post_6 : cX3_post.data.toList.drop 140 = dktX3_post_6 := dk_seg dksX3_post_5 23 rfl rfl
theorem dksX3_post_7 : cX3_post.data.toList.drop 164 = dktX3_post_7 := dk_seg dksX3_post_6 24 rfl rfl
theorem dksX3_post_8 : cX3_post.data.toList.drop 187 = dktX3_post_8 := dk_seg dksX3_post_7 23 rfl rfl
theorem dksX3_post_9 : cX3_post.data.toList.drop 211 = dktX3_post_9 := dk_seg dksX3_post_8 24 rfl rfl
theorem dX3_post_0 : decode cX3_post 0 = .ok (.aload_n 0, 1) := dk_42 (dk_at dksX3_post_0 0 rfl rfl)
theorem dX3_post_1 : decode cX3_post 1 = .ok (.iload_n 1, 1) := dk_27 (dk_at dksX3_post_0 1 rfl rfl)
theorem dX3_post_2 : decode cX3_post 2 = .ok (.invokevirtual 313, 3) := dk_182 1 57 (dk_at dksX3_post_0 2 rfl rfl)
theorem dX3_post_5 : decode cX3_post 5 = .ok (.ifCond .eq 26, 3) := dk_153 0 26 (dk_at dksX3_post_0 5 rfl rfl)
theorem dX3_post_8 : decode cX3_post 8 = .ok (.iload_n 2, 1) := dk_28 (dk_at dksX3_post_0 8 rfl rfl)
theorem dX3_post_9 : decode cX3_post 9 = .ok (.i2l, 1) := dk_133 (dk_at dksX3_post_0 9 rfl rfl)
theorem dX3_post_10 : decode cX3_post 10 = .ok (.lconst 0, 1) := dk_9 (dk_at dksX3_post_0 10 rfl rfl)
theorem dX3_post_11 : decode cX3_post 11 = .ok (.ldc2_w 368, 3) := dk_20 1 112 (dk_at dksX3_post_0 11 rfl rfl)
theorem dX3_post_14 : decode cX3_post 14 = .ok (.invokestatic 125, 3) := dk_184 0 125 (dk_at dksX3_post_0 14 rfl rfl)
theorem dX3_post_17 : decode cX3_post 17 = .ok (.ifCond .eq 14, 3) := dk_153 0 14 (dk_at dksX3_post_0 17 rfl rfl)
theorem dX3_post_20 : decode cX3_post 20 = .ok (.aload_n 0, 1) := dk_42 (dk_at dksX3_post_0 20 rfl rfl)
theorem dX3_post_21 : decode cX3_post 21 = .ok (.getfield 42, 3) := dk_180 0 42 (dk_at dksX3_post_0 21 rfl rfl)
theorem dX3_post_24 : decode cX3_post 24 = .ok (.iconst 0, 1) := dk_3 (dk_at dksX3_post_1 0 rfl rfl)
theorem dX3_post_25 : decode cX3_post 25 = .ok (.iaload, 1) := dk_46 (dk_at dksX3_post_1 1 rfl rfl)
theorem dX3_post_26 : decode cX3_post 26 = .ok (.bipush 9, 2) := dk_16 9 (dk_at dksX3_post_1 2 rfl rfl)
theorem dX3_post_28 : decode cX3_post 28 = .ok (.if_icmp .le 5, 3) := dk_164 0 5 (dk_at dksX3_post_1 4 rfl rfl)
theorem dX3_post_31 : decode cX3_post 31 = .ok (.iconst (-1), 1) := dk_2 (dk_at dksX3_post_1 7 rfl rfl)
theorem dX3_post_32 : decode cX3_post 32 = .ok (.ireturn, 1) := dk_172 (dk_at dksX3_post_1 8 rfl rfl)
theorem dX3_post_33 : decode cX3_post 33 = .ok (.aload_n 0, 1) := dk_42 (dk_at dksX3_post_1 9 rfl rfl)
theorem dX3_post_34 : decode cX3_post 34 = .ok (.iconst 1, 1) := dk_4 (dk_at dksX3_post_1 10 rfl rfl)
theorem dX3_post_35 : decode cX3_post 35 = .ok (.iload_n 1, 1) := dk_27 (dk_at dksX3_post_1 11 rfl rfl)
theorem dX3_post_36 : decode cX3_post 36 = .ok (.ishl, 1) := dk_120 (dk_at dksX3_post_1 12 rfl rfl)
theorem dX3_post_37 : decode cX3_post 37 = .ok (.invokevirtual 353, 3) := dk_182 1 97 (dk_at dksX3_post_1 13 rfl rfl)
theorem dX3_post_40 : decode cX3_post 40 = .ok (.aload_n 0, 1) := dk_42 (dk_at dksX3_post_1 16 rfl rfl)
theorem dX3_post_41 : decode cX3_post 41 = .ok (.iload_n 1, 1) := dk_27 (dk_at dksX3_post_1 17 rfl rfl)
theorem dX3_post_42 : decode cX3_post 42 = .ok (.iconst 0, 1) := dk_3 (dk_at dksX3_post_1 18 rfl rfl)
theorem dX3_post_43 : decode cX3_post 43 = .ok (.invokevirtual 279, 3) := dk_182 1 23 (dk_at dksX3_post_1 19 rfl rfl)
theorem dX3_post_46 : decode cX3_post 46 = .ok (.istore 4, 2) := dk_54 4 (dk_at dksX3_post_1 22 rfl rfl)
theorem dX3_post_48 : decode cX3_post 48 = .ok (.aload_n 0, 1) := dk_42 (dk_at dksX3_post_2 0 rfl rfl)
theorem dX3_post_49 : decode cX3_post 49 = .ok (.aload_n 0, 1) := dk_42 (dk_at dksX3_post_2 1 rfl rfl)
theorem dX3_post_50 : decode cX3_post 50 = .ok (.getfield 42, 3) := dk_180 0 42 (dk_at dksX3_post_2 2 rfl rfl)
theorem dX3_post_53 : decode cX3_post 53 = .ok (.iconst 2, 1) := dk_5 (dk_at dksX3_post_2 5 rfl rfl)
theorem dX3_post_54 : decode cX3_post 54 = .ok (.iaload, 1) := dk_46 (dk_at dksX3_post_2 6 rfl rfl)
theorem dX3_post_55 : decode cX3_post 55 = .ok (.iload 4, 2) := dk_21 4 (dk_at dksX3_post_2 7 rfl rfl)
theorem dX3_post_57 : decode cX3_post 57 = .ok (.bipush 9, 2) := dk_16 9 (dk_at dksX3_post_2 9 rfl rfl)
theorem dX3_post_59 : decode cX3_post 59 = .ok (.ishl, 1) := dk_120 (dk_at dksX3_post_2 11 rfl rfl)
theorem dX3_post_60 : decode cX3_post 60 = .ok (.ior, 1) := dk_128 (dk_at dksX3_post_2 12 rfl rfl)
theorem dX3_post_61 : decode cX3_post 61 = .ok (.iconst 1, 1) := dk_4 (dk_at dksX3_post_2 13 rfl rfl)
theorem dX3_post_62 : decode cX3_post 62 = .ok (.bipush 12, 2) := dk_16 12 (dk_at dksX3_post_2 14 rfl rfl)
theorem dX3_post_64 : decode cX3_post 64 = .ok (.iload 4, 2) := dk_21 4 (dk_at dksX3_post_2 16 rfl rfl)
theorem dX3_post_66 : decode cX3_post 66 = .ok (.iadd, 1) := dk_96 (dk_at dksX3_post_2 18 rfl rfl)
theorem dX3_post_67 : decode cX3_post 67 = .ok (.ishl, 1) := dk_120 (dk_at dksX3_post_2 19 rfl rfl)
theorem dX3_post_68 : decode cX3_post 68 = .ok (.ior, 1) := dk_128 (dk_at dksX3_post_2 20 rfl rfl)
theorem dX3_post_69 : decode cX3_post 69 = .ok (.iconst (-1), 1) := dk_2 (dk_at dksX3_post_2 21 rfl rfl)
theorem dX3_post_70 : decode cX3_post 70 = .ok (.invokevirtual 344, 3) := dk_182 1 88 (dk_at dksX3_post_3 0 rfl rfl)
theorem dX3_post_73 : decode cX3_post 73 = .ok (.iconst 0, 1) := dk_3 (dk_at dksX3_post_3 3 rfl rfl)
theorem dX3_post_74 : decode cX3_post 74 = .ok (.istore 5, 2) := dk_54 5 (dk_at dksX3_post_3 4 rfl rfl)
theorem dX3_post_76 : decode cX3_post 76 = .ok (.iload 5, 2) := dk_21 5 (dk_at dksX3_post_3 6 rfl rfl)
theorem dX3_post_78 : decode cX3_post 78 = .ok (.aload_n 0, 1) := dk_42 (dk_at dksX3_post_3 8 rfl rfl)
theorem dX3_post_79 : decode cX3_post 79 = .ok (.getfield 332, 3) := dk_180 1 76 (dk_at dksX3_post_3 9 rfl rfl)
theorem dX3_post_82 : decode cX3_post 82 = .ok (.if_icmp .ge 147, 3) := dk_162 0 147 (dk_at dksX3_post_3 12 rfl rfl)
theorem dX3_post_85 : decode cX3_post 85 = .ok (.aload_n 0, 1) := dk_42 (dk_at dksX3_post_3 15 rfl rfl)
theorem dX3_post_86 : decode cX3_post 86 = .ok (.getfield 52, 3) := dk_180 0 52 (dk_at dksX3_post_3 16 rfl rfl)
theorem dX3_post_89 : decode cX3_post 89 = .ok (.iload 5, 2) := dk_21 5 (dk_at dksX3_post_3 19 rfl rfl)
theorem dX3_post_91 : decode cX3_post 91 = .ok (.iaload, 1) := dk_46 (dk_at dksX3_post_3 21 rfl rfl)
theorem dX3_post_92 : decode cX3_post 92 = .ok (.istore 6, 2) := dk_54 6 (dk_at dksX3_post_3 22 rfl rfl)
theorem dX3_post_94 : decode cX3_post 94 = .ok (.iload 6, 2) := dk_21 6 (dk_at dksX3_post_4 0 rfl rfl)
theorem dX3_post_96 : decode cX3_post 96 = .ok (.bipush 9, 2) := dk_16 9 (dk_at dksX3_post_4 2 rfl rfl)
theorem dX3_post_98 : decode cX3_post 98 = .ok (.ishr, 1) := dk_122 (dk_at dksX3_post_4 4 rfl rfl)
theorem dX3_post_99 : decode cX3_post 99 = .ok (.bipush 7, 2) := dk_16 7 (dk_at dksX3_post_4 5 rfl rfl)
theorem dX3_post_101 : decode cX3_post 101 = .ok (.iand, 1) := dk_126 (dk_at dksX3_post_4 7 rfl rfl)
theorem dX3_post_102 : decode cX3_post 102 = .ok (.istore 7, 2) := dk_54 7 (dk_at dksX3_post_4 8 rfl rfl)
theorem dX3_post_104 : decode cX3_post 104 = .ok (.iload_n 2, 1) := dk_28 (dk_at dksX3_post_4 10 rfl rfl)
theorem dX3_post_105 : decode cX3_post 105 = .ok (.iload 6, 2) := dk_21 6 (dk_at dksX3_post_4 11 rfl rfl)
theorem dX3_post_107 : decode cX3_post 107 = .ok (.bipush 12, 2) := dk_16 12 (dk_at dksX3_post_4 13 rfl rfl)
theorem dX3_post_109 : decode cX3_post 109 = .ok (.ishr, 1) := dk_122 (dk_at dksX3_post_4 15 rfl rfl)
theorem dX3_post_110 : decode cX3_post 110 = .ok (.iconst (-1), 1) := dk_2 (dk_at dksX3_post_4 16 rfl rfl)
theorem dX3_post_111 : decode cX3_post 111 = .ok (.ixor, 1) := dk_130 (dk_at dksX3_post_4 17 rfl rfl)
theorem dX3_post_112 : decode cX3_post 112 = .ok (.iand, 1) := dk_126 (dk_at dksX3_post_4 18 rfl rfl)
theorem dX3_post_113 : decode cX3_post 113 = .ok (.ifCond .ne 21, 3) := dk_154 0 21 (dk_at dksX3_post_4 19 rfl rfl)
theorem dX3_post_116 : decode cX3_post 116 = .ok (.iload_n 3, 1) := dk_29 (dk_at dksX3_post_4 22 rfl rfl)
theorem dX3_post_117 : decode cX3_post 117 = .ok (.ifCond .eq 10, 3) := dk_153 0 10 (dk_at dksX3_post_5 0 rfl rfl)
theorem dX3_post_120 : decode cX3_post 120 = .ok (.iload 7, 2) := dk_21 7 (dk_at dksX3_post_5 3 rfl rfl)
theorem dX3_post_122 : decode cX3_post 122 = .ok (.iload 4, 2) := dk_21 4 (dk_at dksX3_post_5 5 rfl rfl)
theorem dX3_post_124 : decode cX3_post 124 = .ok (.if_icmp .ne 10, 3) := dk_160 0 10 (dk_at dksX3_post_5 7 rfl rfl)
theorem dX3_post_127 : decode cX3_post 127 = .ok (.aload_n 0, 1) := dk_42 (dk_at dksX3_post_5 10 rfl rfl)
theorem dX3_post_128 : decode cX3_post 128 = .ok (.iload 5, 2) := dk_21 5 (dk_at dksX3_post_5 11 rfl rfl)
theorem dX3_post_130 : decode cX3_post 130 = .ok (.invokevirtual 360, 3) := dk_182 1 104 (dk_at dksX3_post_5 13 rfl rfl)
theorem dX3_post_133 : decode cX3_post 133 = .ok (.ireturn, 1) := dk_172 (dk_at dksX3_post_5 16 rfl rfl)
theorem dX3_post_134 : decode cX3_post 134 = .ok (.iconst 0, 1) := dk_3 (dk_at dksX3_post_5 17 rfl rfl)
theorem dX3_post_135 : decode cX3_post 135 = .ok (.istore 8, 2) := dk_54 8 (dk_at dksX3_post_5 18 rfl rfl)
theorem dX3_post_137 : decode cX3_post 137 = .ok (.iload 8, 2) := dk_21 8 (dk_at dksX3_post_5 20 rfl rfl)
theorem dX3_post_139 : decode cX3_post 139 = .ok (.aload_n 0, 1) := dk_42 (dk_at dksX3_post_5 22 rfl rfl)
theorem dX3_post_140 : decode cX3_post 140 = .ok (.getfield 42, 3) := dk_180 0 42 (dk_at dksX3_post_6 0 rfl rfl)
theorem dX3_post_143 : decode cX3_post 143 = .ok (.iconst 0, 1) := dk_3 (dk_at dksX3_post_6 3 rfl rfl)
theorem dX3_post_144 : decode cX3_post 144 = .ok (.iaload, 1) := dk_46 (dk_at dksX3_post_6 4 rfl rfl)
theorem dX3_post_145 : decode cX3_post 145 = .ok (.if_icmp .ge 78, 3) := dk_162 0 78 (dk_at dksX3_post_6 5 rfl rfl)
theorem dX3_post_148 : decode cX3_post 148 = .ok (.aload_n 0, 1) := dk_42 (dk_at dksX3_post_6 8 rfl rfl)
theorem dX3_post_149 : decode cX3_post 149 = .ok (.getfield 64, 3) := dk_180 0 64 (dk_at dksX3_post_6 9 rfl rfl)
theorem dX3_post_152 : decode cX3_post 152 = .ok (.iload 8, 2) := dk_21 8 (dk_at dksX3_post_6 12 rfl rfl)
theorem dX3_post_154 : decode cX3_post 154 = .ok (.baload, 1) := dk_51 (dk_at dksX3_post_6 14 rfl rfl)
theorem dX3_post_155 : decode cX3_post 155 = .ok (.ifCond .ne 62, 3) := dk_154 0 62 (dk_at dksX3_post_6 15 rfl rfl)
theorem dX3_post_158 : decode cX3_post 158 = .ok (.aload_n 0, 1) := dk_42 (dk_at dksX3_post_6 18 rfl rfl)
theorem dX3_post_159 : decode cX3_post 159 = .ok (.iload 6, 2) := dk_21 6 (dk_at dksX3_post_6 19 rfl rfl)
theorem dX3_post_161 : decode cX3_post 161 = .ok (.iload 8, 2) := dk_21 8 (dk_at dksX3_post_6 21 rfl rfl)
theorem dX3_post_163 : decode cX3_post 163 = .ok (.iconst 0, 1) := dk_3 (dk_at dksX3_post_6 23 rfl rfl)
theorem dX3_post_164 : decode cX3_post 164 = .ok (.invokevirtual 285, 3) := dk_182 1 29 (dk_at dksX3_post_7 0 rfl rfl)
theorem dX3_post_167 : decode cX3_post 167 = .ok (.iload 7, 2) := dk_21 7 (dk_at dksX3_post_7 3 rfl rfl)
theorem dX3_post_169 : decode cX3_post 169 = .ok (.if_icmp .eq 6, 3) := dk_159 0 6 (dk_at dksX3_post_7 5 rfl rfl)
theorem dX3_post_172 : decode cX3_post 172 = .ok (.goto 45, 3) := dk_167 0 45 (dk_at dksX3_post_7 8 rfl rfl)
theorem dX3_post_175 : decode cX3_post 175 = .ok (.aload_n 0, 1) := dk_42 (dk_at dksX3_post_7 11 rfl rfl)
theorem dX3_post_176 : decode cX3_post 176 = .ok (.iload 6, 2) := dk_21 6 (dk_at dksX3_post_7 12 rfl rfl)
theorem dX3_post_178 : decode cX3_post 178 = .ok (.iload 8, 2) := dk_21 8 (dk_at dksX3_post_7 14 rfl rfl)
theorem dX3_post_180 : decode cX3_post 180 = .ok (.iconst 1, 1) := dk_4 (dk_at dksX3_post_7 16 rfl rfl)
theorem dX3_post_181 : decode cX3_post 181 = .ok (.invokevirtual 285, 3) := dk_182 1 29 (dk_at dksX3_post_7 17 rfl rfl)
theorem dX3_post_184 : decode cX3_post 184 = .ok (.istore 9, 2) := dk_54 9 (dk_at dksX3_post_7 20 rfl rfl)
theorem dX3_post_186 : decode cX3_post 186 = .ok (.aload_n 0, 1) := dk_42 (dk_at dksX3_post_7 22 rfl rfl)
theorem dX3_post_187 : decode cX3_post 187 = .ok (.iload 6, 2) := dk_21 6 (dk_at dksX3_post_8 0 rfl rfl)
theorem dX3_post_189 : decode cX3_post 189 = .ok (.iconst 1, 1) := dk_4 (dk_at dksX3_post_8 2 rfl rfl)
theorem dX3_post_190 : decode cX3_post 190 = .ok (.iload 8, 2) := dk_21 8 (dk_at dksX3_post_8 3 rfl rfl)
theorem dX3_post_192 : decode cX3_post 192 = .ok (.ishl, 1) := dk_120 (dk_at dksX3_post_8 5 rfl rfl)
theorem dX3_post_193 : decode cX3_post 193 = .ok (.ixor, 1) := dk_130 (dk_at dksX3_post_8 6 rfl rfl)
theorem dX3_post_194 : decode cX3_post 194 = .ok (.sipush (-3585), 3) := dk_17 241 255 (dk_at dksX3_post_8 7 rfl rfl)
theorem dX3_post_197 : decode cX3_post 197 = .ok (.iand, 1) := dk_126 (dk_at dksX3_post_8 10 rfl rfl)
theorem dX3_post_198 : decode cX3_post 198 = .ok (.iload 9, 2) := dk_21 9 (dk_at dksX3_post_8 11 rfl rfl)
theorem dX3_post_200 : decode cX3_post 200 = .ok (.bipush 9, 2) := dk_16 9 (dk_at dksX3_post_8 13 rfl rfl)
theorem dX3_post_202 : decode cX3_post 202 = .ok (.ishl, 1) := dk_120 (dk_at dksX3_post_8 15 rfl rfl)
theorem dX3_post_203 : decode cX3_post 203 = .ok (.ior, 1) := dk_128 (dk_at dksX3_post_8 16 rfl rfl)
theorem dX3_post_204 : decode cX3_post 204 = .ok (.iconst 1, 1) := dk_4 (dk_at dksX3_post_8 17 rfl rfl)
theorem dX3_post_205 : decode cX3_post 205 = .ok (.bipush 12, 2) := dk_16 12 (dk_at dksX3_post_8 18 rfl rfl)
theorem dX3_post_207 : decode cX3_post 207 = .ok (.iload 9, 2) := dk_21 9 (dk_at dksX3_post_8 20 rfl rfl)
theorem dX3_post_209 : decode cX3_post 209 = .ok (.iadd, 1) := dk_96 (dk_at dksX3_post_8 22 rfl rfl)
theorem dX3_post_210 : decode cX3_post 210 = .ok (.ishl, 1) := dk_120 (dk_at dksX3_post_8 23 rfl rfl)
theorem dX3_post_211 : decode cX3_post 211 = .ok (.ior, 1) := dk_128 (dk_at dksX3_post_9 0 rfl rfl)
theorem dX3_post_212 : decode cX3_post 212 = .ok (.iload 5, 2) := dk_21 5 (dk_at dksX3_post_9 1 rfl rfl)
theorem dX3_post_214 : decode cX3_post 214 = .ok (.invokevirtual 344, 3) := dk_182 1 88 (dk_at dksX3_post_9 3 rfl rfl)
theorem dX3_post_217 : decode cX3_post 217 = .ok (.iinc 8 1, 3) := dk_132 8 1 (dk_at dksX3_post_9 6 rfl rfl)
theorem dX3_post_220 : decode cX3_post 220 = .ok (.goto (-83), 3) := dk_167 255 173 (dk_at dksX3_post_9 9 rfl rfl)
theorem dX3_post_223 : decode cX3_post 223 = .ok (.iinc 5 1, 3) := dk_132 5 1 (dk_at dksX3_post_9 12 rfl rfl)
theorem dX3_post_226 : decode cX3_post 226 = .ok (.goto (-150), 3) := dk_167 255 106 (dk_at dksX3_post_9 15 rfl rfl)
theorem dX3_post_229 : decode cX3_post 229 = .ok (.bipush (-2), 2) := dk_16 254 (dk_at dksX3_post_9 18 rfl rfl)
theorem dX3_post_231 : decode cX3_post 231 = .ok (.ireturn, 1) := dk_172 (dk_at dksX3_post_9 20 rfl rfl)
abbrev cX3_longest : ByteArray := prog_19_method_83_code
def yX3_longest : MethodName := ⟨RX3, "longest", "(III)I"⟩
def dkwX3_longest_3 : List UInt8 := [167, 0, 17, 29, 4, 160, 0, 10, 42, 180, 1, 117, 167, 0, 5, 21, 4, 172]
abbrev dktX3_longest_3 : List UInt8 := dkwX3_longest_3 ++ []
def dkwX3_longest_2 : List UInt8 := [162, 0, 16, 42, 182, 1, 133, 153, 0, 9, 132, 4, 1, 167, 255, 240, 29, 154, 0, 10, 42, 180, 1, 114]
abbrev dktX3_longest_2 : List UInt8 := dkwX3_longest_2 ++ dktX3_longest_3
def dkwX3_longest_1 : List UInt8 := [20, 1, 128, 184, 0, 125, 154, 0, 5, 2, 172, 42, 27, 182, 1, 130, 3, 54, 4, 21, 4, 28]
abbrev dktX3_longest_1 : List UInt8 := dkwX3_longest_1 ++ dktX3_longest_2
def dkwX3_longest_0 : List UInt8 := [42, 27, 182, 1, 123, 153, 0, 27, 28, 133, 9, 20, 1, 126, 184, 0, 125, 153, 0, 15, 29, 133, 9]
abbrev dktX3_longest_0 : List UInt8 := dkwX3_longest_0 ++ dktX3_longest_1
theorem dksX3_longest_0 : cX3_longest.data.toList.drop 0 = dktX3_longest_0 := by decide +kernel
theorem dksX3_longest_1 : cX3_longest.data.toList.drop 23 = dktX3_longest_1 := dk_seg dksX3_longest_0 23 rfl rfl
theorem dksX3_longest_2 : cX3_longest.data.toList.drop 45 = dktX3_longest_2 := dk_seg dksX3_longest_1 22 rfl rfl
theorem dksX3_longest_3 : cX3_longest.data.toList.drop 69 = dktX3_longest_3 := dk_seg dksX3_longest_2 24 rfl rfl
theorem dX3_longest_0 : decode cX3_longest 0 = .ok (.aload_n 0, 1) := dk_42 (dk_at dksX3_longest_0 0 rfl rfl)
theorem dX3_longest_1 : decode cX3_longest 1 = .ok (.iload_n 1, 1) := dk_27 (dk_at dksX3_longest_0 1 rfl rfl)
theorem dX3_longest_2 : decode cX3_longest 2 = .ok (.invokevirtual 379, 3) := dk_182 1 123 (dk_at dksX3_longest_0 2 rfl rfl)
theorem dX3_longest_5 : decode cX3_longest 5 = .ok (.ifCond .eq 27, 3) := dk_153 0 27 (dk_at dksX3_longest_0 5 rfl rfl)
theorem dX3_longest_8 : decode cX3_longest 8 = .ok (.iload_n 2, 1) := dk_28 (dk_at dksX3_longest_0 8 rfl rfl)
theorem dX3_longest_9 : decode cX3_longest 9 = .ok (.i2l, 1) := dk_133 (dk_at dksX3_longest_0 9 rfl rfl)
theorem dX3_longest_10 : decode cX3_longest 10 = .ok (.lconst 0, 1) := dk_9 (dk_at dksX3_longest_0 10 rfl rfl)
theorem dX3_longest_11 : decode cX3_longest 11 = .ok (.ldc2_w 382, 3) := dk_20 1 126 (dk_at dksX3_longest_0 11 rfl rfl)
theorem dX3_longest_14 : decode cX3_longest 14 = .ok (.invokestatic 125, 3) := dk_184 0 125 (dk_at dksX3_longest_0 14 rfl rfl)
theorem dX3_longest_17 : decode cX3_longest 17 = .ok (.ifCond .eq 15, 3) := dk_153 0 15 (dk_at dksX3_longest_0 17 rfl rfl)
theorem dX3_longest_20 : decode cX3_longest 20 = .ok (.iload_n 3, 1) := dk_29 (dk_at dksX3_longest_0 20 rfl rfl)
theorem dX3_longest_21 : decode cX3_longest 21 = .ok (.i2l, 1) := dk_133 (dk_at dksX3_longest_0 21 rfl rfl)
theorem dX3_longest_22 : decode cX3_longest 22 = .ok (.lconst 0, 1) := dk_9 (dk_at dksX3_longest_0 22 rfl rfl)
theorem dX3_longest_23 : decode cX3_longest 23 = .ok (.ldc2_w 384, 3) := dk_20 1 128 (dk_at dksX3_longest_1 0 rfl rfl)
theorem dX3_longest_26 : decode cX3_longest 26 = .ok (.invokestatic 125, 3) := dk_184 0 125 (dk_at dksX3_longest_1 3 rfl rfl)
theorem dX3_longest_29 : decode cX3_longest 29 = .ok (.ifCond .ne 5, 3) := dk_154 0 5 (dk_at dksX3_longest_1 6 rfl rfl)
theorem dX3_longest_32 : decode cX3_longest 32 = .ok (.iconst (-1), 1) := dk_2 (dk_at dksX3_longest_1 9 rfl rfl)
theorem dX3_longest_33 : decode cX3_longest 33 = .ok (.ireturn, 1) := dk_172 (dk_at dksX3_longest_1 10 rfl rfl)
theorem dX3_longest_34 : decode cX3_longest 34 = .ok (.aload_n 0, 1) := dk_42 (dk_at dksX3_longest_1 11 rfl rfl)
theorem dX3_longest_35 : decode cX3_longest 35 = .ok (.iload_n 1, 1) := dk_27 (dk_at dksX3_longest_1 12 rfl rfl)
theorem dX3_longest_36 : decode cX3_longest 36 = .ok (.invokevirtual 386, 3) := dk_182 1 130 (dk_at dksX3_longest_1 13 rfl rfl)
theorem dX3_longest_39 : decode cX3_longest 39 = .ok (.iconst 0, 1) := dk_3 (dk_at dksX3_longest_1 16 rfl rfl)
theorem dX3_longest_40 : decode cX3_longest 40 = .ok (.istore 4, 2) := dk_54 4 (dk_at dksX3_longest_1 17 rfl rfl)
theorem dX3_longest_42 : decode cX3_longest 42 = .ok (.iload 4, 2) := dk_21 4 (dk_at dksX3_longest_1 19 rfl rfl)
theorem dX3_longest_44 : decode cX3_longest 44 = .ok (.iload_n 2, 1) := dk_28 (dk_at dksX3_longest_1 21 rfl rfl)
theorem dX3_longest_45 : decode cX3_longest 45 = .ok (.if_icmp .ge 16, 3) := dk_162 0 16 (dk_at dksX3_longest_2 0 rfl rfl)
theorem dX3_longest_48 : decode cX3_longest 48 = .ok (.aload_n 0, 1) := dk_42 (dk_at dksX3_longest_2 3 rfl rfl)
theorem dX3_longest_49 : decode cX3_longest 49 = .ok (.invokevirtual 389, 3) := dk_182 1 133 (dk_at dksX3_longest_2 4 rfl rfl)
theorem dX3_longest_52 : decode cX3_longest 52 = .ok (.ifCond .eq 9, 3) := dk_153 0 9 (dk_at dksX3_longest_2 7 rfl rfl)
theorem dX3_longest_55 : decode cX3_longest 55 = .ok (.iinc 4 1, 3) := dk_132 4 1 (dk_at dksX3_longest_2 10 rfl rfl)
theorem dX3_longest_58 : decode cX3_longest 58 = .ok (.goto (-16), 3) := dk_167 255 240 (dk_at dksX3_longest_2 13 rfl rfl)
theorem dX3_longest_61 : decode cX3_longest 61 = .ok (.iload_n 3, 1) := dk_29 (dk_at dksX3_longest_2 16 rfl rfl)
theorem dX3_longest_62 : decode cX3_longest 62 = .ok (.ifCond .ne 10, 3) := dk_154 0 10 (dk_at dksX3_longest_2 17 rfl rfl)
theorem dX3_longest_65 : decode cX3_longest 65 = .ok (.aload_n 0, 1) := dk_42 (dk_at dksX3_longest_2 20 rfl rfl)
theorem dX3_longest_66 : decode cX3_longest 66 = .ok (.getfield 370, 3) := dk_180 1 114 (dk_at dksX3_longest_2 21 rfl rfl)
theorem dX3_longest_69 : decode cX3_longest 69 = .ok (.goto 17, 3) := dk_167 0 17 (dk_at dksX3_longest_3 0 rfl rfl)
theorem dX3_longest_72 : decode cX3_longest 72 = .ok (.iload_n 3, 1) := dk_29 (dk_at dksX3_longest_3 3 rfl rfl)
theorem dX3_longest_73 : decode cX3_longest 73 = .ok (.iconst 1, 1) := dk_4 (dk_at dksX3_longest_3 4 rfl rfl)
theorem dX3_longest_74 : decode cX3_longest 74 = .ok (.if_icmp .ne 10, 3) := dk_160 0 10 (dk_at dksX3_longest_3 5 rfl rfl)
theorem dX3_longest_77 : decode cX3_longest 77 = .ok (.aload_n 0, 1) := dk_42 (dk_at dksX3_longest_3 8 rfl rfl)
theorem dX3_longest_78 : decode cX3_longest 78 = .ok (.getfield 373, 3) := dk_180 1 117 (dk_at dksX3_longest_3 9 rfl rfl)
theorem dX3_longest_81 : decode cX3_longest 81 = .ok (.goto 5, 3) := dk_167 0 5 (dk_at dksX3_longest_3 12 rfl rfl)
theorem dX3_longest_84 : decode cX3_longest 84 = .ok (.iload 4, 2) := dk_21 4 (dk_at dksX3_longest_3 15 rfl rfl)
theorem dX3_longest_86 : decode cX3_longest 86 = .ok (.ireturn, 1) := dk_172 (dk_at dksX3_longest_3 17 rfl rfl)
abbrev cX3_canTake : ByteArray := prog_19_method_80_code
def yX3_canTake : MethodName := ⟨RX3, "canTake", "(I)Z"⟩
def dkwX3_canTake_0 : List UInt8 := [42, 27, 182, 1, 57, 153, 0, 14, 42, 182, 1, 67, 154, 0, 7, 4, 167, 0, 4, 3, 172]
abbrev dktX3_canTake_0 : List UInt8 := dkwX3_canTake_0 ++ []
theorem dksX3_canTake_0 : cX3_canTake.data.toList.drop 0 = dktX3_canTake_0 := by decide +kernel
theorem dX3_canTake_0 : decode cX3_canTake 0 = .ok (.aload_n 0, 1) := dk_42 (dk_at dksX3_canTake_0 0 rfl rfl)
theorem dX3_canTake_1 : decode cX3_canTake 1 = .ok (.iload_n 1, 1) := dk_27 (dk_at dksX3_canTake_0 1 rfl rfl)
theorem dX3_canTake_2 : decode cX3_canTake 2 = .ok (.invokevirtual 313, 3) := dk_182 1 57 (dk_at dksX3_canTake_0 2 rfl rfl)
theorem dX3_canTake_5 : decode cX3_canTake 5 = .ok (.ifCond .eq 14, 3) := dk_153 0 14 (dk_at dksX3_canTake_0 5 rfl rfl)
theorem dX3_canTake_8 : decode cX3_canTake 8 = .ok (.aload_n 0, 1) := dk_42 (dk_at dksX3_canTake_0 8 rfl rfl)
theorem dX3_canTake_9 : decode cX3_canTake 9 = .ok (.invokevirtual 323, 3) := dk_182 1 67 (dk_at dksX3_canTake_0 9 rfl rfl)
theorem dX3_canTake_12 : decode cX3_canTake 12 = .ok (.ifCond .ne 7, 3) := dk_154 0 7 (dk_at dksX3_canTake_0 12 rfl rfl)
theorem dX3_canTake_15 : decode cX3_canTake 15 = .ok (.iconst 1, 1) := dk_4 (dk_at dksX3_canTake_0 15 rfl rfl)
theorem dX3_canTake_16 : decode cX3_canTake 16 = .ok (.goto 4, 3) := dk_167 0 4 (dk_at dksX3_canTake_0 16 rfl rfl)
theorem dX3_canTake_19 : decode cX3_canTake 19 = .ok (.iconst 0, 1) := dk_3 (dk_at dksX3_canTake_0 19 rfl rfl)
theorem dX3_canTake_20 : decode cX3_canTake 20 = .ok (.ireturn, 1) := dk_172 (dk_at dksX3_canTake_0 20 rfl rfl)
abbrev cX3_takesBegin : ByteArray := prog_19_method_81_code
def yX3_takesBegin : MethodName := ⟨RX3, "takesBegin", "(I)V"⟩
def dkwX3_takesBegin_2 : List UInt8 := [28, 42, 28, 7, 182, 1, 19, 79, 132, 2, 1, 167, 255, 231, 177]
abbrev dktX3_takesBegin_2 : List UInt8 := dkwX3_takesBegin_2 ++ []
def dkwX3_takesBegin_1 : List UInt8 := [180, 0, 42, 6, 46, 181, 1, 120, 3, 61, 28, 42, 180, 0, 42, 3, 46, 162, 0, 21, 42, 180, 0, 68]
abbrev dktX3_takesBegin_1 : List UInt8 := dkwX3_takesBegin_1 ++ dktX3_takesBegin_2
def dkwX3_takesBegin_0 : List UInt8 := [42, 42, 27, 3, 182, 1, 23, 181, 1, 114, 42, 42, 180, 0, 42, 5, 46, 181, 1, 117, 42, 42]
abbrev dktX3_takesBegin_0 : List UInt8 := dkwX3_takesBegin_0 ++ dktX3_takesBegin_1
theorem dksX3_takesBegin_0 : cX3_takesBegin.data.toList.drop 0 = dktX3_takesBegin_0 := by decide +kernel
theorem dksX3_takesBegin_1 : cX3_takesBegin.data.toList.drop 22 = dktX3_takesBegin_1 := dk_seg dksX3_takesBegin_0 22 rfl rfl
theorem dksX3_takesBegin_2 : cX3_takesBegin.data.toList.drop 46 = dktX3_takesBegin_2 := dk_seg dksX3_takesBegin_1 24 rfl rfl
theorem dX3_takesBegin_0 : decode cX3_takesBegin 0 = .ok (.aload_n 0, 1) := dk_42 (dk_at dksX3_takesBegin_0 0 rfl rfl)
theorem dX3_takesBegin_1 : decode cX3_takesBegin 1 = .ok (.aload_n 0, 1) := dk_42 (dk_at dksX3_takesBegin_0 1 rfl rfl)
theorem dX3_takesBegin_2 : decode cX3_takesBegin 2 = .ok (.iload_n 1, 1) := dk_27 (dk_at dksX3_takesBegin_0 2 rfl rfl)
theorem dX3_takesBegin_3 : decode cX3_takesBegin 3 = .ok (.iconst 0, 1) := dk_3 (dk_at dksX3_takesBegin_0 3 rfl rfl)
theorem dX3_takesBegin_4 : decode cX3_takesBegin 4 = .ok (.invokevirtual 279, 3) := dk_182 1 23 (dk_at dksX3_takesBegin_0 4 rfl rfl)
theorem dX3_takesBegin_7 : decode cX3_takesBegin 7 = .ok (.putfield 370, 3) := dk_181 1 114 (dk_at dksX3_takesBegin_0 7 rfl rfl)
theorem dX3_takesBegin_10 : decode cX3_takesBegin 10 = .ok (.aload_n 0, 1) := dk_42 (dk_at dksX3_takesBegin_0 10 rfl rfl)
theorem dX3_takesBegin_11 : decode cX3_takesBegin 11 = .ok (.aload_n 0, 1) := dk_42 (dk_at dksX3_takesBegin_0 11 rfl rfl)
theorem dX3_takesBegin_12 : decode cX3_takesBegin 12 = .ok (.getfield 42, 3) := dk_180 0 42 (dk_at dksX3_takesBegin_0 12 rfl rfl)
theorem dX3_takesBegin_15 : decode cX3_takesBegin 15 = .ok (.iconst 2, 1) := dk_5 (dk_at dksX3_takesBegin_0 15 rfl rfl)
theorem dX3_takesBegin_16 : decode cX3_takesBegin 16 = .ok (.iaload, 1) := dk_46 (dk_at dksX3_takesBegin_0 16 rfl rfl)
theorem dX3_takesBegin_17 : decode cX3_takesBegin 17 = .ok (.putfield 373, 3) := dk_181 1 117 (dk_at dksX3_takesBegin_0 17 rfl rfl)
theorem dX3_takesBegin_20 : decode cX3_takesBegin 20 = .ok (.aload_n 0, 1) := dk_42 (dk_at dksX3_takesBegin_0 20 rfl rfl)
theorem dX3_takesBegin_21 : decode cX3_takesBegin 21 = .ok (.aload_n 0, 1) := dk_42 (dk_at dksX3_takesBegin_0 21 rfl rfl)
theorem dX3_takesBegin_22 : decode cX3_takesBegin 22 = .ok (.getfield 42, 3) := dk_180 0 42 (dk_at dksX3_takesBegin_1 0 rfl rfl)
theorem dX3_takesBegin_25 : decode cX3_takesBegin 25 = .ok (.iconst 3, 1) := dk_6 (dk_at dksX3_takesBegin_1 3 rfl rfl)
theorem dX3_takesBegin_26 : decode cX3_takesBegin 26 = .ok (.iaload, 1) := dk_46 (dk_at dksX3_takesBegin_1 4 rfl rfl)
theorem dX3_takesBegin_27 : decode cX3_takesBegin 27 = .ok (.putfield 376, 3) := dk_181 1 120 (dk_at dksX3_takesBegin_1 5 rfl rfl)
theorem dX3_takesBegin_30 : decode cX3_takesBegin 30 = .ok (.iconst 0, 1) := dk_3 (dk_at dksX3_takesBegin_1 8 rfl rfl)
theorem dX3_takesBegin_31 : decode cX3_takesBegin 31 = .ok (.istore_n 2, 1) := dk_61 (dk_at dksX3_takesBegin_1 9 rfl rfl)
theorem dX3_takesBegin_32 : decode cX3_takesBegin 32 = .ok (.iload_n 2, 1) := dk_28 (dk_at dksX3_takesBegin_1 10 rfl rfl)
theorem dX3_takesBegin_33 : decode cX3_takesBegin 33 = .ok (.aload_n 0, 1) := dk_42 (dk_at dksX3_takesBegin_1 11 rfl rfl)
theorem dX3_takesBegin_34 : decode cX3_takesBegin 34 = .ok (.getfield 42, 3) := dk_180 0 42 (dk_at dksX3_takesBegin_1 12 rfl rfl)
theorem dX3_takesBegin_37 : decode cX3_takesBegin 37 = .ok (.iconst 0, 1) := dk_3 (dk_at dksX3_takesBegin_1 15 rfl rfl)
theorem dX3_takesBegin_38 : decode cX3_takesBegin 38 = .ok (.iaload, 1) := dk_46 (dk_at dksX3_takesBegin_1 16 rfl rfl)
theorem dX3_takesBegin_39 : decode cX3_takesBegin 39 = .ok (.if_icmp .ge 21, 3) := dk_162 0 21 (dk_at dksX3_takesBegin_1 17 rfl rfl)
theorem dX3_takesBegin_42 : decode cX3_takesBegin 42 = .ok (.aload_n 0, 1) := dk_42 (dk_at dksX3_takesBegin_1 20 rfl rfl)
theorem dX3_takesBegin_43 : decode cX3_takesBegin 43 = .ok (.getfield 68, 3) := dk_180 0 68 (dk_at dksX3_takesBegin_1 21 rfl rfl)
theorem dX3_takesBegin_46 : decode cX3_takesBegin 46 = .ok (.iload_n 2, 1) := dk_28 (dk_at dksX3_takesBegin_2 0 rfl rfl)
theorem dX3_takesBegin_47 : decode cX3_takesBegin 47 = .ok (.aload_n 0, 1) := dk_42 (dk_at dksX3_takesBegin_2 1 rfl rfl)
theorem dX3_takesBegin_48 : decode cX3_takesBegin 48 = .ok (.iload_n 2, 1) := dk_28 (dk_at dksX3_takesBegin_2 2 rfl rfl)
theorem dX3_takesBegin_49 : decode cX3_takesBegin 49 = .ok (.iconst 4, 1) := dk_7 (dk_at dksX3_takesBegin_2 3 rfl rfl)
theorem dX3_takesBegin_50 : decode cX3_takesBegin 50 = .ok (.invokevirtual 275, 3) := dk_182 1 19 (dk_at dksX3_takesBegin_2 4 rfl rfl)
theorem dX3_takesBegin_53 : decode cX3_takesBegin 53 = .ok (.iastore, 1) := dk_79 (dk_at dksX3_takesBegin_2 7 rfl rfl)
theorem dX3_takesBegin_54 : decode cX3_takesBegin 54 = .ok (.iinc 2 1, 3) := dk_132 2 1 (dk_at dksX3_takesBegin_2 8 rfl rfl)
theorem dX3_takesBegin_57 : decode cX3_takesBegin 57 = .ok (.goto (-25), 3) := dk_167 255 231 (dk_at dksX3_takesBegin_2 11 rfl rfl)
theorem dX3_takesBegin_60 : decode cX3_takesBegin 60 = .ok (.return_, 1) := dk_177 (dk_at dksX3_takesBegin_2 14 rfl rfl)
abbrev cX3_stepsOn : ByteArray := prog_19_method_82_code
def yX3_stepsOn : MethodName := ⟨RX3, "stepsOn", "()Z"⟩
def dkwX3_stepsOn_4 : List UInt8 := [4, 96, 181, 1, 120, 42, 180, 0, 68, 27, 42, 180, 1, 120, 79, 4, 172]
abbrev dktX3_stepsOn_4 : List UInt8 := dkwX3_stepsOn_4 ++ []
def dkwX3_stepsOn_3 : List UInt8 := [4, 182, 1, 29, 181, 1, 114, 42, 89, 180, 1, 117, 4, 27, 120, 130, 181, 1, 117, 42, 89, 180, 1, 120]
abbrev dktX3_stepsOn_3 : List UInt8 := dkwX3_stepsOn_3 ++ dktX3_stepsOn_4
def dkwX3_stepsOn_2 : List UInt8 := [162, 0, 5, 28, 60, 132, 2, 1, 167, 255, 205, 27, 156, 0, 5, 3, 172, 42, 42, 42, 180, 1, 117, 27]
abbrev dktX3_stepsOn_2 : List UInt8 := dkwX3_stepsOn_2 ++ dktX3_stepsOn_3
def dkwX3_stepsOn_1 : List UInt8 := [42, 180, 1, 114, 160, 0, 24, 27, 155, 0, 18, 42, 180, 0, 68, 28, 46, 42, 180, 0, 68, 27, 46]
abbrev dktX3_stepsOn_1 : List UInt8 := dkwX3_stepsOn_1 ++ dktX3_stepsOn_2
def dkwX3_stepsOn_0 : List UInt8 := [2, 60, 3, 61, 28, 42, 180, 0, 42, 3, 46, 162, 0, 47, 42, 42, 180, 1, 117, 28, 3, 182, 1, 29]
abbrev dktX3_stepsOn_0 : List UInt8 := dkwX3_stepsOn_0 ++ dktX3_stepsOn_1
theorem dksX3_stepsOn_0 : cX3_stepsOn.data.toList.drop 0 = dktX3_stepsOn_0 := by decide +kernel
theorem dksX3_stepsOn_1 : cX3_stepsOn.data.toList.drop 24 = dktX3_stepsOn_1 := dk_seg dksX3_stepsOn_0 24 rfl rfl
theorem dksX3_stepsOn_2 : cX3_stepsOn.data.toList.drop 47 = dktX3_stepsOn_2 := dk_seg dksX3_stepsOn_1 23 rfl rfl
theorem dksX3_stepsOn_3 : cX3_stepsOn.data.toList.drop 71 = dktX3_stepsOn_3 := dk_seg dksX3_stepsOn_2 24 rfl rfl
theorem dksX3_stepsOn_4 : cX3_stepsOn.data.toList.drop 95 = dktX3_stepsOn_4 := dk_seg dksX3_stepsOn_3 24 rfl rfl
theorem dX3_stepsOn_0 : decode cX3_stepsOn 0 = .ok (.iconst (-1), 1) := dk_2 (dk_at dksX3_stepsOn_0 0 rfl rfl)
theorem dX3_stepsOn_1 : decode cX3_stepsOn 1 = .ok (.istore_n 1, 1) := dk_60 (dk_at dksX3_stepsOn_0 1 rfl rfl)
theorem dX3_stepsOn_2 : decode cX3_stepsOn 2 = .ok (.iconst 0, 1) := dk_3 (dk_at dksX3_stepsOn_0 2 rfl rfl)
theorem dX3_stepsOn_3 : decode cX3_stepsOn 3 = .ok (.istore_n 2, 1) := dk_61 (dk_at dksX3_stepsOn_0 3 rfl rfl)
theorem dX3_stepsOn_4 : decode cX3_stepsOn 4 = .ok (.iload_n 2, 1) := dk_28 (dk_at dksX3_stepsOn_0 4 rfl rfl)
theorem dX3_stepsOn_5 : decode cX3_stepsOn 5 = .ok (.aload_n 0, 1) := dk_42 (dk_at dksX3_stepsOn_0 5 rfl rfl)
theorem dX3_stepsOn_6 : decode cX3_stepsOn 6 = .ok (.getfield 42, 3) := dk_180 0 42 (dk_at dksX3_stepsOn_0 6 rfl rfl)
theorem dX3_stepsOn_9 : decode cX3_stepsOn 9 = .ok (.iconst 0, 1) := dk_3 (dk_at dksX3_stepsOn_0 9 rfl rfl)
theorem dX3_stepsOn_10 : decode cX3_stepsOn 10 = .ok (.iaload, 1) := dk_46 (dk_at dksX3_stepsOn_0 10 rfl rfl)
theorem dX3_stepsOn_11 : decode cX3_stepsOn 11 = .ok (.if_icmp .ge 47, 3) := dk_162 0 47 (dk_at dksX3_stepsOn_0 11 rfl rfl)
theorem dX3_stepsOn_14 : decode cX3_stepsOn 14 = .ok (.aload_n 0, 1) := dk_42 (dk_at dksX3_stepsOn_0 14 rfl rfl)
theorem dX3_stepsOn_15 : decode cX3_stepsOn 15 = .ok (.aload_n 0, 1) := dk_42 (dk_at dksX3_stepsOn_0 15 rfl rfl)
theorem dX3_stepsOn_16 : decode cX3_stepsOn 16 = .ok (.getfield 373, 3) := dk_180 1 117 (dk_at dksX3_stepsOn_0 16 rfl rfl)
theorem dX3_stepsOn_19 : decode cX3_stepsOn 19 = .ok (.iload_n 2, 1) := dk_28 (dk_at dksX3_stepsOn_0 19 rfl rfl)
theorem dX3_stepsOn_20 : decode cX3_stepsOn 20 = .ok (.iconst 0, 1) := dk_3 (dk_at dksX3_stepsOn_0 20 rfl rfl)
theorem dX3_stepsOn_21 : decode cX3_stepsOn 21 = .ok (.invokevirtual 285, 3) := dk_182 1 29 (dk_at dksX3_stepsOn_0 21 rfl rfl)
theorem dX3_stepsOn_24 : decode cX3_stepsOn 24 = .ok (.aload_n 0, 1) := dk_42 (dk_at dksX3_stepsOn_1 0 rfl rfl)
theorem dX3_stepsOn_25 : decode cX3_stepsOn 25 = .ok (.getfield 370, 3) := dk_180 1 114 (dk_at dksX3_stepsOn_1 1 rfl rfl)
theorem dX3_stepsOn_28 : decode cX3_stepsOn 28 = .ok (.if_icmp .ne 24, 3) := dk_160 0 24 (dk_at dksX3_stepsOn_1 4 rfl rfl)
theorem dX3_stepsOn_31 : decode cX3_stepsOn 31 = .ok (.iload_n 1, 1) := dk_27 (dk_at dksX3_stepsOn_1 7 rfl rfl)
theorem dX3_stepsOn_32 : decode cX3_stepsOn 32 = .ok (.ifCond .lt 18, 3) := dk_155 0 18 (dk_at dksX3_stepsOn_1 8 rfl rfl)
theorem dX3_stepsOn_35 : decode cX3_stepsOn 35 = .ok (.aload_n 0, 1) := dk_42 (dk_at dksX3_stepsOn_1 11 rfl rfl)
theorem dX3_stepsOn_36 : decode cX3_stepsOn 36 = .ok (.getfield 68, 3) := dk_180 0 68 (dk_at dksX3_stepsOn_1 12 rfl rfl)
theorem dX3_stepsOn_39 : decode cX3_stepsOn 39 = .ok (.iload_n 2, 1) := dk_28 (dk_at dksX3_stepsOn_1 15 rfl rfl)
theorem dX3_stepsOn_40 : decode cX3_stepsOn 40 = .ok (.iaload, 1) := dk_46 (dk_at dksX3_stepsOn_1 16 rfl rfl)
theorem dX3_stepsOn_41 : decode cX3_stepsOn 41 = .ok (.aload_n 0, 1) := dk_42 (dk_at dksX3_stepsOn_1 17 rfl rfl)
theorem dX3_stepsOn_42 : decode cX3_stepsOn 42 = .ok (.getfield 68, 3) := dk_180 0 68 (dk_at dksX3_stepsOn_1 18 rfl rfl)
theorem dX3_stepsOn_45 : decode cX3_stepsOn 45 = .ok (.iload_n 1, 1) := dk_27 (dk_at dksX3_stepsOn_1 21 rfl rfl)
theorem dX3_stepsOn_46 : decode cX3_stepsOn 46 = .ok (.iaload, 1) := dk_46 (dk_at dksX3_stepsOn_1 22 rfl rfl)
theorem dX3_stepsOn_47 : decode cX3_stepsOn 47 = .ok (.if_icmp .ge 5, 3) := dk_162 0 5 (dk_at dksX3_stepsOn_2 0 rfl rfl)
theorem dX3_stepsOn_50 : decode cX3_stepsOn 50 = .ok (.iload_n 2, 1) := dk_28 (dk_at dksX3_stepsOn_2 3 rfl rfl)
theorem dX3_stepsOn_51 : decode cX3_stepsOn 51 = .ok (.istore_n 1, 1) := dk_60 (dk_at dksX3_stepsOn_2 4 rfl rfl)
theorem dX3_stepsOn_52 : decode cX3_stepsOn 52 = .ok (.iinc 2 1, 3) := dk_132 2 1 (dk_at dksX3_stepsOn_2 5 rfl rfl)
theorem dX3_stepsOn_55 : decode cX3_stepsOn 55 = .ok (.goto (-51), 3) := dk_167 255 205 (dk_at dksX3_stepsOn_2 8 rfl rfl)
theorem dX3_stepsOn_58 : decode cX3_stepsOn 58 = .ok (.iload_n 1, 1) := dk_27 (dk_at dksX3_stepsOn_2 11 rfl rfl)
theorem dX3_stepsOn_59 : decode cX3_stepsOn 59 = .ok (.ifCond .ge 5, 3) := dk_156 0 5 (dk_at dksX3_stepsOn_2 12 rfl rfl)
theorem dX3_stepsOn_62 : decode cX3_stepsOn 62 = .ok (.iconst 0, 1) := dk_3 (dk_at dksX3_stepsOn_2 15 rfl rfl)
theorem dX3_stepsOn_63 : decode cX3_stepsOn 63 = .ok (.ireturn, 1) := dk_172 (dk_at dksX3_stepsOn_2 16 rfl rfl)
theorem dX3_stepsOn_64 : decode cX3_stepsOn 64 = .ok (.aload_n 0, 1) := dk_42 (dk_at dksX3_stepsOn_2 17 rfl rfl)
theorem dX3_stepsOn_65 : decode cX3_stepsOn 65 = .ok (.aload_n 0, 1) := dk_42 (dk_at dksX3_stepsOn_2 18 rfl rfl)
theorem dX3_stepsOn_66 : decode cX3_stepsOn 66 = .ok (.aload_n 0, 1) := dk_42 (dk_at dksX3_stepsOn_2 19 rfl rfl)
theorem dX3_stepsOn_67 : decode cX3_stepsOn 67 = .ok (.getfield 373, 3) := dk_180 1 117 (dk_at dksX3_stepsOn_2 20 rfl rfl)
theorem dX3_stepsOn_70 : decode cX3_stepsOn 70 = .ok (.iload_n 1, 1) := dk_27 (dk_at dksX3_stepsOn_2 23 rfl rfl)
theorem dX3_stepsOn_71 : decode cX3_stepsOn 71 = .ok (.iconst 1, 1) := dk_4 (dk_at dksX3_stepsOn_3 0 rfl rfl)
theorem dX3_stepsOn_72 : decode cX3_stepsOn 72 = .ok (.invokevirtual 285, 3) := dk_182 1 29 (dk_at dksX3_stepsOn_3 1 rfl rfl)
theorem dX3_stepsOn_75 : decode cX3_stepsOn 75 = .ok (.putfield 370, 3) := dk_181 1 114 (dk_at dksX3_stepsOn_3 4 rfl rfl)
theorem dX3_stepsOn_78 : decode cX3_stepsOn 78 = .ok (.aload_n 0, 1) := dk_42 (dk_at dksX3_stepsOn_3 7 rfl rfl)
theorem dX3_stepsOn_79 : decode cX3_stepsOn 79 = .ok (.dup, 1) := dk_89 (dk_at dksX3_stepsOn_3 8 rfl rfl)
theorem dX3_stepsOn_80 : decode cX3_stepsOn 80 = .ok (.getfield 373, 3) := dk_180 1 117 (dk_at dksX3_stepsOn_3 9 rfl rfl)
theorem dX3_stepsOn_83 : decode cX3_stepsOn 83 = .ok (.iconst 1, 1) := dk_4 (dk_at dksX3_stepsOn_3 12 rfl rfl)
theorem dX3_stepsOn_84 : decode cX3_stepsOn 84 = .ok (.iload_n 1, 1) := dk_27 (dk_at dksX3_stepsOn_3 13 rfl rfl)
theorem dX3_stepsOn_85 : decode cX3_stepsOn 85 = .ok (.ishl, 1) := dk_120 (dk_at dksX3_stepsOn_3 14 rfl rfl)
theorem dX3_stepsOn_86 : decode cX3_stepsOn 86 = .ok (.ixor, 1) := dk_130 (dk_at dksX3_stepsOn_3 15 rfl rfl)
theorem dX3_stepsOn_87 : decode cX3_stepsOn 87 = .ok (.putfield 373, 3) := dk_181 1 117 (dk_at dksX3_stepsOn_3 16 rfl rfl)
theorem dX3_stepsOn_90 : decode cX3_stepsOn 90 = .ok (.aload_n 0, 1) := dk_42 (dk_at dksX3_stepsOn_3 19 rfl rfl)
theorem dX3_stepsOn_91 : decode cX3_stepsOn 91 = .ok (.dup, 1) := dk_89 (dk_at dksX3_stepsOn_3 20 rfl rfl)
theorem dX3_stepsOn_92 : decode cX3_stepsOn 92 = .ok (.getfield 376, 3) := dk_180 1 120 (dk_at dksX3_stepsOn_3 21 rfl rfl)
theorem dX3_stepsOn_95 : decode cX3_stepsOn 95 = .ok (.iconst 1, 1) := dk_4 (dk_at dksX3_stepsOn_4 0 rfl rfl)
theorem dX3_stepsOn_96 : decode cX3_stepsOn 96 = .ok (.iadd, 1) := dk_96 (dk_at dksX3_stepsOn_4 1 rfl rfl)
theorem dX3_stepsOn_97 : decode cX3_stepsOn 97 = .ok (.putfield 376, 3) := dk_181 1 120 (dk_at dksX3_stepsOn_4 2 rfl rfl)
theorem dX3_stepsOn_100 : decode cX3_stepsOn 100 = .ok (.aload_n 0, 1) := dk_42 (dk_at dksX3_stepsOn_4 5 rfl rfl)
theorem dX3_stepsOn_101 : decode cX3_stepsOn 101 = .ok (.getfield 68, 3) := dk_180 0 68 (dk_at dksX3_stepsOn_4 6 rfl rfl)
theorem dX3_stepsOn_104 : decode cX3_stepsOn 104 = .ok (.iload_n 1, 1) := dk_27 (dk_at dksX3_stepsOn_4 9 rfl rfl)
theorem dX3_stepsOn_105 : decode cX3_stepsOn 105 = .ok (.aload_n 0, 1) := dk_42 (dk_at dksX3_stepsOn_4 10 rfl rfl)
theorem dX3_stepsOn_106 : decode cX3_stepsOn 106 = .ok (.getfield 376, 3) := dk_180 1 120 (dk_at dksX3_stepsOn_4 11 rfl rfl)
theorem dX3_stepsOn_109 : decode cX3_stepsOn 109 = .ok (.iastore, 1) := dk_79 (dk_at dksX3_stepsOn_4 14 rfl rfl)
theorem dX3_stepsOn_110 : decode cX3_stepsOn 110 = .ok (.iconst 1, 1) := dk_4 (dk_at dksX3_stepsOn_4 15 rfl rfl)
theorem dX3_stepsOn_111 : decode cX3_stepsOn 111 = .ok (.ireturn, 1) := dk_172 (dk_at dksX3_stepsOn_4 16 rfl rfl)
abbrev cX3_covers : ByteArray := prog_19_method_85_code
def yX3_covers : MethodName := ⟨RX3, "covers", "(I)I"⟩
def dkwX3_covers_2 : List UInt8 := [167, 255, 227, 16, 254, 172]
abbrev dktX3_covers_2 : List UInt8 := dkwX3_covers_2 ++ []
def dkwX3_covers_1 : List UInt8 := [42, 182, 1, 136, 153, 0, 5, 28, 172, 42, 182, 1, 133, 154, 0, 6, 16, 254, 172, 132, 2, 1]
abbrev dktX3_covers_1 : List UInt8 := dkwX3_covers_1 ++ dktX3_covers_2
def dkwX3_covers_0 : List UInt8 := [42, 27, 182, 1, 123, 154, 0, 5, 2, 172, 42, 27, 182, 1, 130, 3, 61, 28, 17, 7, 208, 163, 0, 28]
abbrev dktX3_covers_0 : List UInt8 := dkwX3_covers_0 ++ dktX3_covers_1
theorem dksX3_covers_0 : cX3_covers.data.toList.drop 0 = dktX3_covers_0 := by decide +kernel
theorem dksX3_covers_1 : cX3_covers.data.toList.drop 24 = dktX3_covers_1 := dk_seg dksX3_covers_0 24 rfl rfl
theorem dksX3_covers_2 : cX3_covers.data.toList.drop 46 = dktX3_covers_2 := dk_seg dksX3_covers_1 22 rfl rfl
theorem dX3_covers_0 : decode cX3_covers 0 = .ok (.aload_n 0, 1) := dk_42 (dk_at dksX3_covers_0 0 rfl rfl)
theorem dX3_covers_1 : decode cX3_covers 1 = .ok (.iload_n 1, 1) := dk_27 (dk_at dksX3_covers_0 1 rfl rfl)
theorem dX3_covers_2 : decode cX3_covers 2 = .ok (.invokevirtual 379, 3) := dk_182 1 123 (dk_at dksX3_covers_0 2 rfl rfl)
theorem dX3_covers_5 : decode cX3_covers 5 = .ok (.ifCond .ne 5, 3) := dk_154 0 5 (dk_at dksX3_covers_0 5 rfl rfl)
theorem dX3_covers_8 : decode cX3_covers 8 = .ok (.iconst (-1), 1) := dk_2 (dk_at dksX3_covers_0 8 rfl rfl)
theorem dX3_covers_9 : decode cX3_covers 9 = .ok (.ireturn, 1) := dk_172 (dk_at dksX3_covers_0 9 rfl rfl)
theorem dX3_covers_10 : decode cX3_covers 10 = .ok (.aload_n 0, 1) := dk_42 (dk_at dksX3_covers_0 10 rfl rfl)
theorem dX3_covers_11 : decode cX3_covers 11 = .ok (.iload_n 1, 1) := dk_27 (dk_at dksX3_covers_0 11 rfl rfl)
theorem dX3_covers_12 : decode cX3_covers 12 = .ok (.invokevirtual 386, 3) := dk_182 1 130 (dk_at dksX3_covers_0 12 rfl rfl)
theorem dX3_covers_15 : decode cX3_covers 15 = .ok (.iconst 0, 1) := dk_3 (dk_at dksX3_covers_0 15 rfl rfl)
theorem dX3_covers_16 : decode cX3_covers 16 = .ok (.istore_n 2, 1) := dk_61 (dk_at dksX3_covers_0 16 rfl rfl)
theorem dX3_covers_17 : decode cX3_covers 17 = .ok (.iload_n 2, 1) := dk_28 (dk_at dksX3_covers_0 17 rfl rfl)
theorem dX3_covers_18 : decode cX3_covers 18 = .ok (.sipush 2000, 3) := dk_17 7 208 (dk_at dksX3_covers_0 18 rfl rfl)
theorem dX3_covers_21 : decode cX3_covers 21 = .ok (.if_icmp .gt 28, 3) := dk_163 0 28 (dk_at dksX3_covers_0 21 rfl rfl)
theorem dX3_covers_24 : decode cX3_covers 24 = .ok (.aload_n 0, 1) := dk_42 (dk_at dksX3_covers_1 0 rfl rfl)
theorem dX3_covers_25 : decode cX3_covers 25 = .ok (.invokevirtual 392, 3) := dk_182 1 136 (dk_at dksX3_covers_1 1 rfl rfl)
theorem dX3_covers_28 : decode cX3_covers 28 = .ok (.ifCond .eq 5, 3) := dk_153 0 5 (dk_at dksX3_covers_1 4 rfl rfl)
theorem dX3_covers_31 : decode cX3_covers 31 = .ok (.iload_n 2, 1) := dk_28 (dk_at dksX3_covers_1 7 rfl rfl)
theorem dX3_covers_32 : decode cX3_covers 32 = .ok (.ireturn, 1) := dk_172 (dk_at dksX3_covers_1 8 rfl rfl)
theorem dX3_covers_33 : decode cX3_covers 33 = .ok (.aload_n 0, 1) := dk_42 (dk_at dksX3_covers_1 9 rfl rfl)
theorem dX3_covers_34 : decode cX3_covers 34 = .ok (.invokevirtual 389, 3) := dk_182 1 133 (dk_at dksX3_covers_1 10 rfl rfl)
theorem dX3_covers_37 : decode cX3_covers 37 = .ok (.ifCond .ne 6, 3) := dk_154 0 6 (dk_at dksX3_covers_1 13 rfl rfl)
theorem dX3_covers_40 : decode cX3_covers 40 = .ok (.bipush (-2), 2) := dk_16 254 (dk_at dksX3_covers_1 16 rfl rfl)
theorem dX3_covers_42 : decode cX3_covers 42 = .ok (.ireturn, 1) := dk_172 (dk_at dksX3_covers_1 18 rfl rfl)
theorem dX3_covers_43 : decode cX3_covers 43 = .ok (.iinc 2 1, 3) := dk_132 2 1 (dk_at dksX3_covers_1 19 rfl rfl)
theorem dX3_covers_46 : decode cX3_covers 46 = .ok (.goto (-29), 3) := dk_167 255 227 (dk_at dksX3_covers_2 0 rfl rfl)
theorem dX3_covers_49 : decode cX3_covers 49 = .ok (.bipush (-2), 2) := dk_16 254 (dk_at dksX3_covers_2 3 rfl rfl)
theorem dX3_covers_51 : decode cX3_covers 51 = .ok (.ireturn, 1) := dk_172 (dk_at dksX3_covers_2 5 rfl rfl)
abbrev cX3_haveAllBeen : ByteArray := prog_19_method_84_code
def yX3_haveAllBeen : MethodName := ⟨RX3, "haveAllBeen", "()Z"⟩
def dkwX3_haveAllBeen_1 : List UInt8 := [163, 0, 5, 3, 172, 132, 1, 1, 167, 255, 226, 4, 172]
abbrev dktX3_haveAllBeen_1 : List UInt8 := dkwX3_haveAllBeen_1 ++ []
def dkwX3_haveAllBeen_0 : List UInt8 := [3, 60, 27, 42, 180, 0, 42, 3, 46, 162, 0, 26, 42, 180, 0, 68, 27, 46, 42, 180, 0, 42, 6, 46]
abbrev dktX3_haveAllBeen_0 : List UInt8 := dkwX3_haveAllBeen_0 ++ dktX3_haveAllBeen_1
theorem dksX3_haveAllBeen_0 : cX3_haveAllBeen.data.toList.drop 0 = dktX3_haveAllBeen_0 := by decide +kernel
theorem dksX3_haveAllBeen_1 : cX3_haveAllBeen.data.toList.drop 24 = dktX3_haveAllBeen_1 := dk_seg dksX3_haveAllBeen_0 24 rfl rfl
theorem dX3_haveAllBeen_0 : decode cX3_haveAllBeen 0 = .ok (.iconst 0, 1) := dk_3 (dk_at dksX3_haveAllBeen_0 0 rfl rfl)
theorem dX3_haveAllBeen_1 : decode cX3_haveAllBeen 1 = .ok (.istore_n 1, 1) := dk_60 (dk_at dksX3_haveAllBeen_0 1 rfl rfl)
theorem dX3_haveAllBeen_2 : decode cX3_haveAllBeen 2 = .ok (.iload_n 1, 1) := dk_27 (dk_at dksX3_haveAllBeen_0 2 rfl rfl)
theorem dX3_haveAllBeen_3 : decode cX3_haveAllBeen 3 = .ok (.aload_n 0, 1) := dk_42 (dk_at dksX3_haveAllBeen_0 3 rfl rfl)
theorem dX3_haveAllBeen_4 : decode cX3_haveAllBeen 4 = .ok (.getfield 42, 3) := dk_180 0 42 (dk_at dksX3_haveAllBeen_0 4 rfl rfl)
theorem dX3_haveAllBeen_7 : decode cX3_haveAllBeen 7 = .ok (.iconst 0, 1) := dk_3 (dk_at dksX3_haveAllBeen_0 7 rfl rfl)
theorem dX3_haveAllBeen_8 : decode cX3_haveAllBeen 8 = .ok (.iaload, 1) := dk_46 (dk_at dksX3_haveAllBeen_0 8 rfl rfl)
theorem dX3_haveAllBeen_9 : decode cX3_haveAllBeen 9 = .ok (.if_icmp .ge 26, 3) := dk_162 0 26 (dk_at dksX3_haveAllBeen_0 9 rfl rfl)
theorem dX3_haveAllBeen_12 : decode cX3_haveAllBeen 12 = .ok (.aload_n 0, 1) := dk_42 (dk_at dksX3_haveAllBeen_0 12 rfl rfl)
theorem dX3_haveAllBeen_13 : decode cX3_haveAllBeen 13 = .ok (.getfield 68, 3) := dk_180 0 68 (dk_at dksX3_haveAllBeen_0 13 rfl rfl)
theorem dX3_haveAllBeen_16 : decode cX3_haveAllBeen 16 = .ok (.iload_n 1, 1) := dk_27 (dk_at dksX3_haveAllBeen_0 16 rfl rfl)
theorem dX3_haveAllBeen_17 : decode cX3_haveAllBeen 17 = .ok (.iaload, 1) := dk_46 (dk_at dksX3_haveAllBeen_0 17 rfl rfl)
theorem dX3_haveAllBeen_18 : decode cX3_haveAllBeen 18 = .ok (.aload_n 0, 1) := dk_42 (dk_at dksX3_haveAllBeen_0 18 rfl rfl)
theorem dX3_haveAllBeen_19 : decode cX3_haveAllBeen 19 = .ok (.getfield 42, 3) := dk_180 0 42 (dk_at dksX3_haveAllBeen_0 19 rfl rfl)
theorem dX3_haveAllBeen_22 : decode cX3_haveAllBeen 22 = .ok (.iconst 3, 1) := dk_6 (dk_at dksX3_haveAllBeen_0 22 rfl rfl)
theorem dX3_haveAllBeen_23 : decode cX3_haveAllBeen 23 = .ok (.iaload, 1) := dk_46 (dk_at dksX3_haveAllBeen_0 23 rfl rfl)
theorem dX3_haveAllBeen_24 : decode cX3_haveAllBeen 24 = .ok (.if_icmp .gt 5, 3) := dk_163 0 5 (dk_at dksX3_haveAllBeen_1 0 rfl rfl)
theorem dX3_haveAllBeen_27 : decode cX3_haveAllBeen 27 = .ok (.iconst 0, 1) := dk_3 (dk_at dksX3_haveAllBeen_1 3 rfl rfl)
theorem dX3_haveAllBeen_28 : decode cX3_haveAllBeen 28 = .ok (.ireturn, 1) := dk_172 (dk_at dksX3_haveAllBeen_1 4 rfl rfl)
theorem dX3_haveAllBeen_29 : decode cX3_haveAllBeen 29 = .ok (.iinc 1 1, 3) := dk_132 1 1 (dk_at dksX3_haveAllBeen_1 5 rfl rfl)
theorem dX3_haveAllBeen_32 : decode cX3_haveAllBeen 32 = .ok (.goto (-30), 3) := dk_167 255 226 (dk_at dksX3_haveAllBeen_1 8 rfl rfl)
theorem dX3_haveAllBeen_35 : decode cX3_haveAllBeen 35 = .ok (.iconst 1, 1) := dk_4 (dk_at dksX3_haveAllBeen_1 11 rfl rfl)
theorem dX3_haveAllBeen_36 : decode cX3_haveAllBeen 36 = .ok (.ireturn, 1) := dk_172 (dk_at dksX3_haveAllBeen_1 12 rfl rfl)
abbrev cX3_settles_2 : ByteArray := prog_19_method_87_code
def yX3_settles_2 : MethodName := ⟨RX3, "settles", "(II)I"⟩
def dkwX3_settles_2_6 : List UInt8 := [172]
abbrev dktX3_settles_2_6 : List UInt8 := dkwX3_settles_2_6 ++ []
def dkwX3_settles_2_5 : List UInt8 := [132, 4, 1, 167, 255, 200, 42, 182, 1, 133, 154, 0, 6, 16, 254, 172, 132, 3, 1, 167, 255, 147, 16, 254]
abbrev dktX3_settles_2_5 : List UInt8 := dkwX3_settles_2_5 ++ dktX3_settles_2_6
def dkwX3_settles_2_4 : List UInt8 := [180, 0, 74, 29, 47, 148, 154, 0, 17, 28, 154, 0, 8, 21, 4, 167, 0, 7, 29, 21, 4, 100, 172]
abbrev dktX3_settles_2_4 : List UInt8 := dkwX3_settles_2_4 ++ dktX3_settles_2_5
def dkwX3_settles_2_3 : List UInt8 := [42, 180, 0, 71, 21, 4, 46, 42, 180, 0, 71, 29, 46, 160, 0, 34, 42, 180, 0, 74, 21, 4, 47, 42]
abbrev dktX3_settles_2_3 : List UInt8 := dkwX3_settles_2_3 ++ dktX3_settles_2_4
def dkwX3_settles_2_2 : List UInt8 := [180, 1, 114, 128, 79, 42, 180, 0, 74, 29, 42, 182, 1, 141, 80, 3, 54, 4, 21, 4, 29, 162, 0, 56]
abbrev dktX3_settles_2_2 : List UInt8 := dkwX3_settles_2_2 ++ dktX3_settles_2_3
def dkwX3_settles_2_1 : List UInt8 := [182, 1, 130, 3, 62, 29, 17, 7, 208, 163, 0, 108, 42, 180, 0, 71, 29, 42, 180, 1, 117, 6, 120, 42]
abbrev dktX3_settles_2_1 : List UInt8 := dkwX3_settles_2_1 ++ dktX3_settles_2_2
def dkwX3_settles_2_0 : List UInt8 := [42, 27, 182, 1, 123, 153, 0, 13, 28, 133, 9, 10, 184, 0, 125, 154, 0, 5, 2, 172, 42, 27]
abbrev dktX3_settles_2_0 : List UInt8 := dkwX3_settles_2_0 ++ dktX3_settles_2_1
theorem dksX3_settles_2_0 : cX3_settles_2.data.toList.drop 0 = dktX3_settles_2_0 := by decide +kernel
theorem dksX3_settles_2_1 : cX3_settles_2.data.toList.drop 22 = dktX3_settles_2_1 := dk_seg dksX3_settles_2_0 22 rfl rfl
theorem dksX3_settles_2_2 : cX3_settles_2.data.toList.drop 46 = dktX3_settles_2_2 := dk_seg dksX3_settles_2_1 24 rfl rfl
theorem dksX3_settles_2_3 : cX3_settles_2.data.toList.drop 70 = dktX3_settles_2_3 := dk_seg dksX3_settles_2_2 24 rfl rfl
theorem dksX3_settles_2_4 : cX3_settles_2.data.toList.drop 94 = dktX3_settles_2_4 := dk_seg dksX3_settles_2_3 24 rfl rfl
theorem dksX3_settles_2_5 : cX3_settles_2.data.toList.drop 117 = dktX3_settles_2_5 := dk_seg dksX3_settles_2_4 23 rfl rfl
theorem dksX3_settles_2_6 : cX3_settles_2.data.toList.drop 141 = dktX3_settles_2_6 := dk_seg dksX3_settles_2_5 24 rfl rfl
theorem dX3_settles_2_0 : decode cX3_settles_2 0 = .ok (.aload_n 0, 1) := dk_42 (dk_at dksX3_settles_2_0 0 rfl rfl)
theorem dX3_settles_2_1 : decode cX3_settles_2 1 = .ok (.iload_n 1, 1) := dk_27 (dk_at dksX3_settles_2_0 1 rfl rfl)
theorem dX3_settles_2_2 : decode cX3_settles_2 2 = .ok (.invokevirtual 379, 3) := dk_182 1 123 (dk_at dksX3_settles_2_0 2 rfl rfl)
theorem dX3_settles_2_5 : decode cX3_settles_2 5 = .ok (.ifCond .eq 13, 3) := dk_153 0 13 (dk_at dksX3_settles_2_0 5 rfl rfl)
theorem dX3_settles_2_8 : decode cX3_settles_2 8 = .ok (.iload_n 2, 1) := dk_28 (dk_at dksX3_settles_2_0 8 rfl rfl)
theorem dX3_settles_2_9 : decode cX3_settles_2 9 = .ok (.i2l, 1) := dk_133 (dk_at dksX3_settles_2_0 9 rfl rfl)
theorem dX3_settles_2_10 : decode cX3_settles_2 10 = .ok (.lconst 0, 1) := dk_9 (dk_at dksX3_settles_2_0 10 rfl rfl)
theorem dX3_settles_2_11 : decode cX3_settles_2 11 = .ok (.lconst 1, 1) := dk_10 (dk_at dksX3_settles_2_0 11 rfl rfl)
theorem dX3_settles_2_12 : decode cX3_settles_2 12 = .ok (.invokestatic 125, 3) := dk_184 0 125 (dk_at dksX3_settles_2_0 12 rfl rfl)
theorem dX3_settles_2_15 : decode cX3_settles_2 15 = .ok (.ifCond .ne 5, 3) := dk_154 0 5 (dk_at dksX3_settles_2_0 15 rfl rfl)
theorem dX3_settles_2_18 : decode cX3_settles_2 18 = .ok (.iconst (-1), 1) := dk_2 (dk_at dksX3_settles_2_0 18 rfl rfl)
theorem dX3_settles_2_19 : decode cX3_settles_2 19 = .ok (.ireturn, 1) := dk_172 (dk_at dksX3_settles_2_0 19 rfl rfl)
theorem dX3_settles_2_20 : decode cX3_settles_2 20 = .ok (.aload_n 0, 1) := dk_42 (dk_at dksX3_settles_2_0 20 rfl rfl)
theorem dX3_settles_2_21 : decode cX3_settles_2 21 = .ok (.iload_n 1, 1) := dk_27 (dk_at dksX3_settles_2_0 21 rfl rfl)
theorem dX3_settles_2_22 : decode cX3_settles_2 22 = .ok (.invokevirtual 386, 3) := dk_182 1 130 (dk_at dksX3_settles_2_1 0 rfl rfl)
theorem dX3_settles_2_25 : decode cX3_settles_2 25 = .ok (.iconst 0, 1) := dk_3 (dk_at dksX3_settles_2_1 3 rfl rfl)
theorem dX3_settles_2_26 : decode cX3_settles_2 26 = .ok (.istore_n 3, 1) := dk_62 (dk_at dksX3_settles_2_1 4 rfl rfl)
theorem dX3_settles_2_27 : decode cX3_settles_2 27 = .ok (.iload_n 3, 1) := dk_29 (dk_at dksX3_settles_2_1 5 rfl rfl)
theorem dX3_settles_2_28 : decode cX3_settles_2 28 = .ok (.sipush 2000, 3) := dk_17 7 208 (dk_at dksX3_settles_2_1 6 rfl rfl)
theorem dX3_settles_2_31 : decode cX3_settles_2 31 = .ok (.if_icmp .gt 108, 3) := dk_163 0 108 (dk_at dksX3_settles_2_1 9 rfl rfl)
theorem dX3_settles_2_34 : decode cX3_settles_2 34 = .ok (.aload_n 0, 1) := dk_42 (dk_at dksX3_settles_2_1 12 rfl rfl)
theorem dX3_settles_2_35 : decode cX3_settles_2 35 = .ok (.getfield 71, 3) := dk_180 0 71 (dk_at dksX3_settles_2_1 13 rfl rfl)
theorem dX3_settles_2_38 : decode cX3_settles_2 38 = .ok (.iload_n 3, 1) := dk_29 (dk_at dksX3_settles_2_1 16 rfl rfl)
theorem dX3_settles_2_39 : decode cX3_settles_2 39 = .ok (.aload_n 0, 1) := dk_42 (dk_at dksX3_settles_2_1 17 rfl rfl)
theorem dX3_settles_2_40 : decode cX3_settles_2 40 = .ok (.getfield 373, 3) := dk_180 1 117 (dk_at dksX3_settles_2_1 18 rfl rfl)
theorem dX3_settles_2_43 : decode cX3_settles_2 43 = .ok (.iconst 3, 1) := dk_6 (dk_at dksX3_settles_2_1 21 rfl rfl)
theorem dX3_settles_2_44 : decode cX3_settles_2 44 = .ok (.ishl, 1) := dk_120 (dk_at dksX3_settles_2_1 22 rfl rfl)
theorem dX3_settles_2_45 : decode cX3_settles_2 45 = .ok (.aload_n 0, 1) := dk_42 (dk_at dksX3_settles_2_1 23 rfl rfl)
theorem dX3_settles_2_46 : decode cX3_settles_2 46 = .ok (.getfield 370, 3) := dk_180 1 114 (dk_at dksX3_settles_2_2 0 rfl rfl)
theorem dX3_settles_2_49 : decode cX3_settles_2 49 = .ok (.ior, 1) := dk_128 (dk_at dksX3_settles_2_2 3 rfl rfl)
theorem dX3_settles_2_50 : decode cX3_settles_2 50 = .ok (.iastore, 1) := dk_79 (dk_at dksX3_settles_2_2 4 rfl rfl)
theorem dX3_settles_2_51 : decode cX3_settles_2 51 = .ok (.aload_n 0, 1) := dk_42 (dk_at dksX3_settles_2_2 5 rfl rfl)
theorem dX3_settles_2_52 : decode cX3_settles_2 52 = .ok (.getfield 74, 3) := dk_180 0 74 (dk_at dksX3_settles_2_2 6 rfl rfl)
theorem dX3_settles_2_55 : decode cX3_settles_2 55 = .ok (.iload_n 3, 1) := dk_29 (dk_at dksX3_settles_2_2 9 rfl rfl)
theorem dX3_settles_2_56 : decode cX3_settles_2 56 = .ok (.aload_n 0, 1) := dk_42 (dk_at dksX3_settles_2_2 10 rfl rfl)
theorem dX3_settles_2_57 : decode cX3_settles_2 57 = .ok (.invokevirtual 397, 3) := dk_182 1 141 (dk_at dksX3_settles_2_2 11 rfl rfl)
theorem dX3_settles_2_60 : decode cX3_settles_2 60 = .ok (.lastore, 1) := dk_80 (dk_at dksX3_settles_2_2 14 rfl rfl)
theorem dX3_settles_2_61 : decode cX3_settles_2 61 = .ok (.iconst 0, 1) := dk_3 (dk_at dksX3_settles_2_2 15 rfl rfl)
theorem dX3_settles_2_62 : decode cX3_settles_2 62 = .ok (.istore 4, 2) := dk_54 4 (dk_at dksX3_settles_2_2 16 rfl rfl)
theorem dX3_settles_2_64 : decode cX3_settles_2 64 = .ok (.iload 4, 2) := dk_21 4 (dk_at dksX3_settles_2_2 18 rfl rfl)
theorem dX3_settles_2_66 : decode cX3_settles_2 66 = .ok (.iload_n 3, 1) := dk_29 (dk_at dksX3_settles_2_2 20 rfl rfl)
theorem dX3_settles_2_67 : decode cX3_settles_2 67 = .ok (.if_icmp .ge 56, 3) := dk_162 0 56 (dk_at dksX3_settles_2_2 21 rfl rfl)
theorem dX3_settles_2_70 : decode cX3_settles_2 70 = .ok (.aload_n 0, 1) := dk_42 (dk_at dksX3_settles_2_3 0 rfl rfl)
theorem dX3_settles_2_71 : decode cX3_settles_2 71 = .ok (.getfield 71, 3) := dk_180 0 71 (dk_at dksX3_settles_2_3 1 rfl rfl)
theorem dX3_settles_2_74 : decode cX3_settles_2 74 = .ok (.iload 4, 2) := dk_21 4 (dk_at dksX3_settles_2_3 4 rfl rfl)
theorem dX3_settles_2_76 : decode cX3_settles_2 76 = .ok (.iaload, 1) := dk_46 (dk_at dksX3_settles_2_3 6 rfl rfl)
theorem dX3_settles_2_77 : decode cX3_settles_2 77 = .ok (.aload_n 0, 1) := dk_42 (dk_at dksX3_settles_2_3 7 rfl rfl)
theorem dX3_settles_2_78 : decode cX3_settles_2 78 = .ok (.getfield 71, 3) := dk_180 0 71 (dk_at dksX3_settles_2_3 8 rfl rfl)
theorem dX3_settles_2_81 : decode cX3_settles_2 81 = .ok (.iload_n 3, 1) := dk_29 (dk_at dksX3_settles_2_3 11 rfl rfl)
theorem dX3_settles_2_82 : decode cX3_settles_2 82 = .ok (.iaload, 1) := dk_46 (dk_at dksX3_settles_2_3 12 rfl rfl)
theorem dX3_settles_2_83 : decode cX3_settles_2 83 = .ok (.if_icmp .ne 34, 3) := dk_160 0 34 (dk_at dksX3_settles_2_3 13 rfl rfl)
theorem dX3_settles_2_86 : decode cX3_settles_2 86 = .ok (.aload_n 0, 1) := dk_42 (dk_at dksX3_settles_2_3 16 rfl rfl)
theorem dX3_settles_2_87 : decode cX3_settles_2 87 = .ok (.getfield 74, 3) := dk_180 0 74 (dk_at dksX3_settles_2_3 17 rfl rfl)
theorem dX3_settles_2_90 : decode cX3_settles_2 90 = .ok (.iload 4, 2) := dk_21 4 (dk_at dksX3_settles_2_3 20 rfl rfl)
theorem dX3_settles_2_92 : decode cX3_settles_2 92 = .ok (.laload, 1) := dk_47 (dk_at dksX3_settles_2_3 22 rfl rfl)
theorem dX3_settles_2_93 : decode cX3_settles_2 93 = .ok (.aload_n 0, 1) := dk_42 (dk_at dksX3_settles_2_3 23 rfl rfl)
theorem dX3_settles_2_94 : decode cX3_settles_2 94 = .ok (.getfield 74, 3) := dk_180 0 74 (dk_at dksX3_settles_2_4 0 rfl rfl)
theorem dX3_settles_2_97 : decode cX3_settles_2 97 = .ok (.iload_n 3, 1) := dk_29 (dk_at dksX3_settles_2_4 3 rfl rfl)
theorem dX3_settles_2_98 : decode cX3_settles_2 98 = .ok (.laload, 1) := dk_47 (dk_at dksX3_settles_2_4 4 rfl rfl)
theorem dX3_settles_2_99 : decode cX3_settles_2 99 = .ok (.lcmp, 1) := dk_148 (dk_at dksX3_settles_2_4 5 rfl rfl)
theorem dX3_settles_2_100 : decode cX3_settles_2 100 = .ok (.ifCond .ne 17, 3) := dk_154 0 17 (dk_at dksX3_settles_2_4 6 rfl rfl)
theorem dX3_settles_2_103 : decode cX3_settles_2 103 = .ok (.iload_n 2, 1) := dk_28 (dk_at dksX3_settles_2_4 9 rfl rfl)
theorem dX3_settles_2_104 : decode cX3_settles_2 104 = .ok (.ifCond .ne 8, 3) := dk_154 0 8 (dk_at dksX3_settles_2_4 10 rfl rfl)
theorem dX3_settles_2_107 : decode cX3_settles_2 107 = .ok (.iload 4, 2) := dk_21 4 (dk_at dksX3_settles_2_4 13 rfl rfl)
theorem dX3_settles_2_109 : decode cX3_settles_2 109 = .ok (.goto 7, 3) := dk_167 0 7 (dk_at dksX3_settles_2_4 15 rfl rfl)
theorem dX3_settles_2_112 : decode cX3_settles_2 112 = .ok (.iload_n 3, 1) := dk_29 (dk_at dksX3_settles_2_4 18 rfl rfl)
theorem dX3_settles_2_113 : decode cX3_settles_2 113 = .ok (.iload 4, 2) := dk_21 4 (dk_at dksX3_settles_2_4 19 rfl rfl)
theorem dX3_settles_2_115 : decode cX3_settles_2 115 = .ok (.isub, 1) := dk_100 (dk_at dksX3_settles_2_4 21 rfl rfl)
theorem dX3_settles_2_116 : decode cX3_settles_2 116 = .ok (.ireturn, 1) := dk_172 (dk_at dksX3_settles_2_4 22 rfl rfl)
theorem dX3_settles_2_117 : decode cX3_settles_2 117 = .ok (.iinc 4 1, 3) := dk_132 4 1 (dk_at dksX3_settles_2_5 0 rfl rfl)
theorem dX3_settles_2_120 : decode cX3_settles_2 120 = .ok (.goto (-56), 3) := dk_167 255 200 (dk_at dksX3_settles_2_5 3 rfl rfl)
theorem dX3_settles_2_123 : decode cX3_settles_2 123 = .ok (.aload_n 0, 1) := dk_42 (dk_at dksX3_settles_2_5 6 rfl rfl)
theorem dX3_settles_2_124 : decode cX3_settles_2 124 = .ok (.invokevirtual 389, 3) := dk_182 1 133 (dk_at dksX3_settles_2_5 7 rfl rfl)
theorem dX3_settles_2_127 : decode cX3_settles_2 127 = .ok (.ifCond .ne 6, 3) := dk_154 0 6 (dk_at dksX3_settles_2_5 10 rfl rfl)
theorem dX3_settles_2_130 : decode cX3_settles_2 130 = .ok (.bipush (-2), 2) := dk_16 254 (dk_at dksX3_settles_2_5 13 rfl rfl)
theorem dX3_settles_2_132 : decode cX3_settles_2 132 = .ok (.ireturn, 1) := dk_172 (dk_at dksX3_settles_2_5 15 rfl rfl)
theorem dX3_settles_2_133 : decode cX3_settles_2 133 = .ok (.iinc 3 1, 3) := dk_132 3 1 (dk_at dksX3_settles_2_5 16 rfl rfl)
theorem dX3_settles_2_136 : decode cX3_settles_2 136 = .ok (.goto (-109), 3) := dk_167 255 147 (dk_at dksX3_settles_2_5 19 rfl rfl)
theorem dX3_settles_2_139 : decode cX3_settles_2 139 = .ok (.bipush (-2), 2) := dk_16 254 (dk_at dksX3_settles_2_5 22 rfl rfl)
theorem dX3_settles_2_141 : decode cX3_settles_2 141 = .ok (.ireturn, 1) := dk_172 (dk_at dksX3_settles_2_6 0 rfl rfl)
abbrev cX3_orderOf : ByteArray := prog_19_method_86_code
def yX3_orderOf : MethodName := ⟨RX3, "orderOf", "()J"⟩
def dkwX3_orderOf_5 : List UInt8 := [167, 255, 159, 31, 20, 1, 139, 105, 21, 4, 133, 97, 64, 132, 3, 1, 167, 255, 127, 31, 173]
abbrev dktX3_orderOf_5 : List UInt8 := dkwX3_orderOf_5 ++ []
def dkwX3_orderOf_4 : List UInt8 := [132, 7, 1, 167, 255, 217, 21, 4, 21, 6, 153, 0, 7, 4, 167, 0, 4, 3, 96, 54, 4, 132, 5, 1]
abbrev dktX3_orderOf_4 : List UInt8 := dkwX3_orderOf_4 ++ dktX3_orderOf_5
def dkwX3_orderOf_3 : List UInt8 := [180, 0, 68, 21, 7, 46, 42, 180, 0, 68, 21, 5, 46, 159, 0, 7, 4, 167, 0, 4, 3, 54, 6]
abbrev dktX3_orderOf_3 : List UInt8 := dkwX3_orderOf_3 ++ dktX3_orderOf_4
def dkwX3_orderOf_2 : List UInt8 := [4, 167, 0, 4, 3, 54, 6, 3, 54, 7, 21, 7, 21, 5, 162, 0, 38, 21, 6, 153, 0, 33, 42]
abbrev dktX3_orderOf_2 : List UInt8 := dkwX3_orderOf_2 ++ dktX3_orderOf_3
def dkwX3_orderOf_1 : List UInt8 := [180, 0, 42, 3, 46, 162, 0, 92, 42, 180, 0, 68, 21, 5, 46, 42, 180, 0, 68, 29, 46, 162, 0, 7]
abbrev dktX3_orderOf_1 : List UInt8 := dkwX3_orderOf_1 ++ dktX3_orderOf_2
def dkwX3_orderOf_0 : List UInt8 := [9, 64, 3, 62, 29, 42, 180, 0, 42, 3, 46, 162, 0, 125, 3, 54, 4, 3, 54, 5, 21, 5, 42]
abbrev dktX3_orderOf_0 : List UInt8 := dkwX3_orderOf_0 ++ dktX3_orderOf_1
theorem dksX3_orderOf_0 : cX3_orderOf.data.toList.drop 0 = dktX3_orderOf_0 := by decide +kernel
theorem dksX3_orderOf_1 : cX3_orderOf.data.toList.drop 23 = dktX3_orderOf_1 := dk_seg dksX3_orderOf_0 23 rfl rfl
theorem dksX3_orderOf_2 : cX3_orderOf.data.toList.drop 47 = dktX3_orderOf_2 := dk_seg dksX3_orderOf_1 24 rfl rfl
theorem dksX3_orderOf_3 : cX3_orderOf.data.toList.drop 70 = dktX3_orderOf_3 := dk_seg dksX3_orderOf_2 23 rfl rfl
theorem dksX3_orderOf_4 : cX3_orderOf.data.toList.drop 93 = dktX3_orderOf_4 := dk_seg dksX3_orderOf_3 23 rfl rfl
theorem dksX3_orderOf_5 : cX3_orderOf.data.toList.drop 117 = dktX3_orderOf_5 := dk_seg dksX3_orderOf_4 24 rfl rfl
theorem dX3_orderOf_0 : decode cX3_orderOf 0 = .ok (.lconst 0, 1) := dk_9 (dk_at dksX3_orderOf_0 0 rfl rfl)
theorem dX3_orderOf_1 : decode cX3_orderOf 1 = .ok (.lstore_n 1, 1) := dk_64 (dk_at dksX3_orderOf_0 1 rfl rfl)
theorem dX3_orderOf_2 : decode cX3_orderOf 2 = .ok (.iconst 0, 1) := dk_3 (dk_at dksX3_orderOf_0 2 rfl rfl)
theorem dX3_orderOf_3 : decode cX3_orderOf 3 = .ok (.istore_n 3, 1) := dk_62 (dk_at dksX3_orderOf_0 3 rfl rfl)
theorem dX3_orderOf_4 : decode cX3_orderOf 4 = .ok (.iload_n 3, 1) := dk_29 (dk_at dksX3_orderOf_0 4 rfl rfl)
theorem dX3_orderOf_5 : decode cX3_orderOf 5 = .ok (.aload_n 0, 1) := dk_42 (dk_at dksX3_orderOf_0 5 rfl rfl)
theorem dX3_orderOf_6 : decode cX3_orderOf 6 = .ok (.getfield 42, 3) := dk_180 0 42 (dk_at dksX3_orderOf_0 6 rfl rfl)
theorem dX3_orderOf_9 : decode cX3_orderOf 9 = .ok (.iconst 0, 1) := dk_3 (dk_at dksX3_orderOf_0 9 rfl rfl)
theorem dX3_orderOf_10 : decode cX3_orderOf 10 = .ok (.iaload, 1) := dk_46 (dk_at dksX3_orderOf_0 10 rfl rfl)
theorem dX3_orderOf_11 : decode cX3_orderOf 11 = .ok (.if_icmp .ge 125, 3) := dk_162 0 125 (dk_at dksX3_orderOf_0 11 rfl rfl)
theorem dX3_orderOf_14 : decode cX3_orderOf 14 = .ok (.iconst 0, 1) := dk_3 (dk_at dksX3_orderOf_0 14 rfl rfl)
theorem dX3_orderOf_15 : decode cX3_orderOf 15 = .ok (.istore 4, 2) := dk_54 4 (dk_at dksX3_orderOf_0 15 rfl rfl)
theorem dX3_orderOf_17 : decode cX3_orderOf 17 = .ok (.iconst 0, 1) := dk_3 (dk_at dksX3_orderOf_0 17 rfl rfl)
theorem dX3_orderOf_18 : decode cX3_orderOf 18 = .ok (.istore 5, 2) := dk_54 5 (dk_at dksX3_orderOf_0 18 rfl rfl)
theorem dX3_orderOf_20 : decode cX3_orderOf 20 = .ok (.iload 5, 2) := dk_21 5 (dk_at dksX3_orderOf_0 20 rfl rfl)
theorem dX3_orderOf_22 : decode cX3_orderOf 22 = .ok (.aload_n 0, 1) := dk_42 (dk_at dksX3_orderOf_0 22 rfl rfl)
theorem dX3_orderOf_23 : decode cX3_orderOf 23 = .ok (.getfield 42, 3) := dk_180 0 42 (dk_at dksX3_orderOf_1 0 rfl rfl)
theorem dX3_orderOf_26 : decode cX3_orderOf 26 = .ok (.iconst 0, 1) := dk_3 (dk_at dksX3_orderOf_1 3 rfl rfl)
theorem dX3_orderOf_27 : decode cX3_orderOf 27 = .ok (.iaload, 1) := dk_46 (dk_at dksX3_orderOf_1 4 rfl rfl)
theorem dX3_orderOf_28 : decode cX3_orderOf 28 = .ok (.if_icmp .ge 92, 3) := dk_162 0 92 (dk_at dksX3_orderOf_1 5 rfl rfl)
theorem dX3_orderOf_31 : decode cX3_orderOf 31 = .ok (.aload_n 0, 1) := dk_42 (dk_at dksX3_orderOf_1 8 rfl rfl)
theorem dX3_orderOf_32 : decode cX3_orderOf 32 = .ok (.getfield 68, 3) := dk_180 0 68 (dk_at dksX3_orderOf_1 9 rfl rfl)
theorem dX3_orderOf_35 : decode cX3_orderOf 35 = .ok (.iload 5, 2) := dk_21 5 (dk_at dksX3_orderOf_1 12 rfl rfl)
theorem dX3_orderOf_37 : decode cX3_orderOf 37 = .ok (.iaload, 1) := dk_46 (dk_at dksX3_orderOf_1 14 rfl rfl)
theorem dX3_orderOf_38 : decode cX3_orderOf 38 = .ok (.aload_n 0, 1) := dk_42 (dk_at dksX3_orderOf_1 15 rfl rfl)
theorem dX3_orderOf_39 : decode cX3_orderOf 39 = .ok (.getfield 68, 3) := dk_180 0 68 (dk_at dksX3_orderOf_1 16 rfl rfl)
theorem dX3_orderOf_42 : decode cX3_orderOf 42 = .ok (.iload_n 3, 1) := dk_29 (dk_at dksX3_orderOf_1 19 rfl rfl)
theorem dX3_orderOf_43 : decode cX3_orderOf 43 = .ok (.iaload, 1) := dk_46 (dk_at dksX3_orderOf_1 20 rfl rfl)
theorem dX3_orderOf_44 : decode cX3_orderOf 44 = .ok (.if_icmp .ge 7, 3) := dk_162 0 7 (dk_at dksX3_orderOf_1 21 rfl rfl)
theorem dX3_orderOf_47 : decode cX3_orderOf 47 = .ok (.iconst 1, 1) := dk_4 (dk_at dksX3_orderOf_2 0 rfl rfl)
theorem dX3_orderOf_48 : decode cX3_orderOf 48 = .ok (.goto 4, 3) := dk_167 0 4 (dk_at dksX3_orderOf_2 1 rfl rfl)
theorem dX3_orderOf_51 : decode cX3_orderOf 51 = .ok (.iconst 0, 1) := dk_3 (dk_at dksX3_orderOf_2 4 rfl rfl)
theorem dX3_orderOf_52 : decode cX3_orderOf 52 = .ok (.istore 6, 2) := dk_54 6 (dk_at dksX3_orderOf_2 5 rfl rfl)
theorem dX3_orderOf_54 : decode cX3_orderOf 54 = .ok (.iconst 0, 1) := dk_3 (dk_at dksX3_orderOf_2 7 rfl rfl)
theorem dX3_orderOf_55 : decode cX3_orderOf 55 = .ok (.istore 7, 2) := dk_54 7 (dk_at dksX3_orderOf_2 8 rfl rfl)
theorem dX3_orderOf_57 : decode cX3_orderOf 57 = .ok (.iload 7, 2) := dk_21 7 (dk_at dksX3_orderOf_2 10 rfl rfl)
theorem dX3_orderOf_59 : decode cX3_orderOf 59 = .ok (.iload 5, 2) := dk_21 5 (dk_at dksX3_orderOf_2 12 rfl rfl)
theorem dX3_orderOf_61 : decode cX3_orderOf 61 = .ok (.if_icmp .ge 38, 3) := dk_162 0 38 (dk_at dksX3_orderOf_2 14 rfl rfl)
theorem dX3_orderOf_64 : decode cX3_orderOf 64 = .ok (.iload 6, 2) := dk_21 6 (dk_at dksX3_orderOf_2 17 rfl rfl)
theorem dX3_orderOf_66 : decode cX3_orderOf 66 = .ok (.ifCond .eq 33, 3) := dk_153 0 33 (dk_at dksX3_orderOf_2 19 rfl rfl)
theorem dX3_orderOf_69 : decode cX3_orderOf 69 = .ok (.aload_n 0, 1) := dk_42 (dk_at dksX3_orderOf_2 22 rfl rfl)
theorem dX3_orderOf_70 : decode cX3_orderOf 70 = .ok (.getfield 68, 3) := dk_180 0 68 (dk_at dksX3_orderOf_3 0 rfl rfl)
theorem dX3_orderOf_73 : decode cX3_orderOf 73 = .ok (.iload 7, 2) := dk_21 7 (dk_at dksX3_orderOf_3 3 rfl rfl)
theorem dX3_orderOf_75 : decode cX3_orderOf 75 = .ok (.iaload, 1) := dk_46 (dk_at dksX3_orderOf_3 5 rfl rfl)
theorem dX3_orderOf_76 : decode cX3_orderOf 76 = .ok (.aload_n 0, 1) := dk_42 (dk_at dksX3_orderOf_3 6 rfl rfl)
theorem dX3_orderOf_77 : decode cX3_orderOf 77 = .ok (.getfield 68, 3) := dk_180 0 68 (dk_at dksX3_orderOf_3 7 rfl rfl)
theorem dX3_orderOf_80 : decode cX3_orderOf 80 = .ok (.iload 5, 2) := dk_21 5 (dk_at dksX3_orderOf_3 10 rfl rfl)
theorem dX3_orderOf_82 : decode cX3_orderOf 82 = .ok (.iaload, 1) := dk_46 (dk_at dksX3_orderOf_3 12 rfl rfl)
theorem dX3_orderOf_83 : decode cX3_orderOf 83 = .ok (.if_icmp .eq 7, 3) := dk_159 0 7 (dk_at dksX3_orderOf_3 13 rfl rfl)
theorem dX3_orderOf_86 : decode cX3_orderOf 86 = .ok (.iconst 1, 1) := dk_4 (dk_at dksX3_orderOf_3 16 rfl rfl)
theorem dX3_orderOf_87 : decode cX3_orderOf 87 = .ok (.goto 4, 3) := dk_167 0 4 (dk_at dksX3_orderOf_3 17 rfl rfl)
theorem dX3_orderOf_90 : decode cX3_orderOf 90 = .ok (.iconst 0, 1) := dk_3 (dk_at dksX3_orderOf_3 20 rfl rfl)
theorem dX3_orderOf_91 : decode cX3_orderOf 91 = .ok (.istore 6, 2) := dk_54 6 (dk_at dksX3_orderOf_3 21 rfl rfl)
theorem dX3_orderOf_93 : decode cX3_orderOf 93 = .ok (.iinc 7 1, 3) := dk_132 7 1 (dk_at dksX3_orderOf_4 0 rfl rfl)
theorem dX3_orderOf_96 : decode cX3_orderOf 96 = .ok (.goto (-39), 3) := dk_167 255 217 (dk_at dksX3_orderOf_4 3 rfl rfl)
theorem dX3_orderOf_99 : decode cX3_orderOf 99 = .ok (.iload 4, 2) := dk_21 4 (dk_at dksX3_orderOf_4 6 rfl rfl)
theorem dX3_orderOf_101 : decode cX3_orderOf 101 = .ok (.iload 6, 2) := dk_21 6 (dk_at dksX3_orderOf_4 8 rfl rfl)
theorem dX3_orderOf_103 : decode cX3_orderOf 103 = .ok (.ifCond .eq 7, 3) := dk_153 0 7 (dk_at dksX3_orderOf_4 10 rfl rfl)
theorem dX3_orderOf_106 : decode cX3_orderOf 106 = .ok (.iconst 1, 1) := dk_4 (dk_at dksX3_orderOf_4 13 rfl rfl)
theorem dX3_orderOf_107 : decode cX3_orderOf 107 = .ok (.goto 4, 3) := dk_167 0 4 (dk_at dksX3_orderOf_4 14 rfl rfl)
theorem dX3_orderOf_110 : decode cX3_orderOf 110 = .ok (.iconst 0, 1) := dk_3 (dk_at dksX3_orderOf_4 17 rfl rfl)
theorem dX3_orderOf_111 : decode cX3_orderOf 111 = .ok (.iadd, 1) := dk_96 (dk_at dksX3_orderOf_4 18 rfl rfl)
theorem dX3_orderOf_112 : decode cX3_orderOf 112 = .ok (.istore 4, 2) := dk_54 4 (dk_at dksX3_orderOf_4 19 rfl rfl)
theorem dX3_orderOf_114 : decode cX3_orderOf 114 = .ok (.iinc 5 1, 3) := dk_132 5 1 (dk_at dksX3_orderOf_4 21 rfl rfl)
theorem dX3_orderOf_117 : decode cX3_orderOf 117 = .ok (.goto (-97), 3) := dk_167 255 159 (dk_at dksX3_orderOf_5 0 rfl rfl)
theorem dX3_orderOf_120 : decode cX3_orderOf 120 = .ok (.lload_n 1, 1) := dk_31 (dk_at dksX3_orderOf_5 3 rfl rfl)
theorem dX3_orderOf_121 : decode cX3_orderOf 121 = .ok (.ldc2_w 395, 3) := dk_20 1 139 (dk_at dksX3_orderOf_5 4 rfl rfl)
theorem dX3_orderOf_124 : decode cX3_orderOf 124 = .ok (.lmul, 1) := dk_105 (dk_at dksX3_orderOf_5 7 rfl rfl)
theorem dX3_orderOf_125 : decode cX3_orderOf 125 = .ok (.iload 4, 2) := dk_21 4 (dk_at dksX3_orderOf_5 8 rfl rfl)
theorem dX3_orderOf_127 : decode cX3_orderOf 127 = .ok (.i2l, 1) := dk_133 (dk_at dksX3_orderOf_5 10 rfl rfl)
theorem dX3_orderOf_128 : decode cX3_orderOf 128 = .ok (.ladd, 1) := dk_97 (dk_at dksX3_orderOf_5 11 rfl rfl)
theorem dX3_orderOf_129 : decode cX3_orderOf 129 = .ok (.lstore_n 1, 1) := dk_64 (dk_at dksX3_orderOf_5 12 rfl rfl)
theorem dX3_orderOf_130 : decode cX3_orderOf 130 = .ok (.iinc 3 1, 3) := dk_132 3 1 (dk_at dksX3_orderOf_5 13 rfl rfl)
theorem dX3_orderOf_133 : decode cX3_orderOf 133 = .ok (.goto (-129), 3) := dk_167 255 127 (dk_at dksX3_orderOf_5 16 rfl rfl)
theorem dX3_orderOf_136 : decode cX3_orderOf 136 = .ok (.lload_n 1, 1) := dk_31 (dk_at dksX3_orderOf_5 19 rfl rfl)
theorem dX3_orderOf_137 : decode cX3_orderOf 137 = .ok (.lreturn, 1) := dk_173 (dk_at dksX3_orderOf_5 20 rfl rfl)
abbrev cX3_row : ByteArray := prog_19_method_88_code
def yX3_row : MethodName := ⟨RX3, "row", "(II)I"⟩
def dkwX3_row_4 : List UInt8 := [42, 180, 0, 42, 16, 6, 46, 172]
abbrev dktX3_row_4 : List UInt8 := dkwX3_row_4 ++ []
def dkwX3_row_3 : List UInt8 := [42, 180, 0, 42, 16, 6, 46, 104, 96, 4, 96, 28, 79, 42, 180, 0, 42, 16, 6, 92, 46, 4, 96, 79]
abbrev dktX3_row_3 : List UInt8 := dkwX3_row_3 ++ dktX3_row_4
def dkwX3_row_2 : List UInt8 := [180, 0, 42, 16, 122, 5, 42, 180, 0, 42, 16, 6, 46, 104, 96, 27, 79, 42, 180, 0, 42, 16, 122, 5]
abbrev dktX3_row_2 : List UInt8 := dkwX3_row_2 ++ dktX3_row_3
def dkwX3_row_1 : List UInt8 := [28, 182, 1, 33, 153, 0, 15, 42, 180, 0, 42, 16, 6, 46, 16, 40, 160, 0, 6, 16, 254, 172, 42]
abbrev dktX3_row_1 : List UInt8 := dkwX3_row_1 ++ dktX3_row_2
def dkwX3_row_0 : List UInt8 := [27, 2, 160, 0, 13, 42, 180, 0, 42, 16, 6, 3, 79, 3, 172, 42, 27, 182, 1, 26, 153, 0, 23, 42]
abbrev dktX3_row_0 : List UInt8 := dkwX3_row_0 ++ dktX3_row_1
theorem dksX3_row_0 : cX3_row.data.toList.drop 0 = dktX3_row_0 := by decide +kernel
theorem dksX3_row_1 : cX3_row.data.toList.drop 24 = dktX3_row_1 := dk_seg dksX3_row_0 24 rfl rfl
theorem dksX3_row_2 : cX3_row.data.toList.drop 47 = dktX3_row_2 := dk_seg dksX3_row_1 23 rfl rfl
theorem dksX3_row_3 : cX3_row.data.toList.drop 71 = dktX3_row_3 := dk_seg dksX3_row_2 24 rfl rfl
theorem dksX3_row_4 : cX3_row.data.toList.drop 95 = dktX3_row_4 := dk_seg dksX3_row_3 24 rfl rfl
theorem dX3_row_0 : decode cX3_row 0 = .ok (.iload_n 1, 1) := dk_27 (dk_at dksX3_row_0 0 rfl rfl)
theorem dX3_row_1 : decode cX3_row 1 = .ok (.iconst (-1), 1) := dk_2 (dk_at dksX3_row_0 1 rfl rfl)
theorem dX3_row_2 : decode cX3_row 2 = .ok (.if_icmp .ne 13, 3) := dk_160 0 13 (dk_at dksX3_row_0 2 rfl rfl)
theorem dX3_row_5 : decode cX3_row 5 = .ok (.aload_n 0, 1) := dk_42 (dk_at dksX3_row_0 5 rfl rfl)
theorem dX3_row_6 : decode cX3_row 6 = .ok (.getfield 42, 3) := dk_180 0 42 (dk_at dksX3_row_0 6 rfl rfl)
theorem dX3_row_9 : decode cX3_row 9 = .ok (.bipush 6, 2) := dk_16 6 (dk_at dksX3_row_0 9 rfl rfl)
theorem dX3_row_11 : decode cX3_row 11 = .ok (.iconst 0, 1) := dk_3 (dk_at dksX3_row_0 11 rfl rfl)
theorem dX3_row_12 : decode cX3_row 12 = .ok (.iastore, 1) := dk_79 (dk_at dksX3_row_0 12 rfl rfl)
theorem dX3_row_13 : decode cX3_row 13 = .ok (.iconst 0, 1) := dk_3 (dk_at dksX3_row_0 13 rfl rfl)
theorem dX3_row_14 : decode cX3_row 14 = .ok (.ireturn, 1) := dk_172 (dk_at dksX3_row_0 14 rfl rfl)
theorem dX3_row_15 : decode cX3_row 15 = .ok (.aload_n 0, 1) := dk_42 (dk_at dksX3_row_0 15 rfl rfl)
theorem dX3_row_16 : decode cX3_row 16 = .ok (.iload_n 1, 1) := dk_27 (dk_at dksX3_row_0 16 rfl rfl)
theorem dX3_row_17 : decode cX3_row 17 = .ok (.invokevirtual 282, 3) := dk_182 1 26 (dk_at dksX3_row_0 17 rfl rfl)
theorem dX3_row_20 : decode cX3_row 20 = .ok (.ifCond .eq 23, 3) := dk_153 0 23 (dk_at dksX3_row_0 20 rfl rfl)
theorem dX3_row_23 : decode cX3_row 23 = .ok (.aload_n 0, 1) := dk_42 (dk_at dksX3_row_0 23 rfl rfl)
theorem dX3_row_24 : decode cX3_row 24 = .ok (.iload_n 2, 1) := dk_28 (dk_at dksX3_row_1 0 rfl rfl)
theorem dX3_row_25 : decode cX3_row 25 = .ok (.invokevirtual 289, 3) := dk_182 1 33 (dk_at dksX3_row_1 1 rfl rfl)
theorem dX3_row_28 : decode cX3_row 28 = .ok (.ifCond .eq 15, 3) := dk_153 0 15 (dk_at dksX3_row_1 4 rfl rfl)
theorem dX3_row_31 : decode cX3_row 31 = .ok (.aload_n 0, 1) := dk_42 (dk_at dksX3_row_1 7 rfl rfl)
theorem dX3_row_32 : decode cX3_row 32 = .ok (.getfield 42, 3) := dk_180 0 42 (dk_at dksX3_row_1 8 rfl rfl)
theorem dX3_row_35 : decode cX3_row 35 = .ok (.bipush 6, 2) := dk_16 6 (dk_at dksX3_row_1 11 rfl rfl)
theorem dX3_row_37 : decode cX3_row 37 = .ok (.iaload, 1) := dk_46 (dk_at dksX3_row_1 13 rfl rfl)
theorem dX3_row_38 : decode cX3_row 38 = .ok (.bipush 40, 2) := dk_16 40 (dk_at dksX3_row_1 14 rfl rfl)
theorem dX3_row_40 : decode cX3_row 40 = .ok (.if_icmp .ne 6, 3) := dk_160 0 6 (dk_at dksX3_row_1 16 rfl rfl)
theorem dX3_row_43 : decode cX3_row 43 = .ok (.bipush (-2), 2) := dk_16 254 (dk_at dksX3_row_1 19 rfl rfl)
theorem dX3_row_45 : decode cX3_row 45 = .ok (.ireturn, 1) := dk_172 (dk_at dksX3_row_1 21 rfl rfl)
theorem dX3_row_46 : decode cX3_row 46 = .ok (.aload_n 0, 1) := dk_42 (dk_at dksX3_row_1 22 rfl rfl)
theorem dX3_row_47 : decode cX3_row 47 = .ok (.getfield 42, 3) := dk_180 0 42 (dk_at dksX3_row_2 0 rfl rfl)
theorem dX3_row_50 : decode cX3_row 50 = .ok (.bipush 122, 2) := dk_16 122 (dk_at dksX3_row_2 3 rfl rfl)
theorem dX3_row_52 : decode cX3_row 52 = .ok (.iconst 2, 1) := dk_5 (dk_at dksX3_row_2 5 rfl rfl)
theorem dX3_row_53 : decode cX3_row 53 = .ok (.aload_n 0, 1) := dk_42 (dk_at dksX3_row_2 6 rfl rfl)
theorem dX3_row_54 : decode cX3_row 54 = .ok (.getfield 42, 3) := dk_180 0 42 (dk_at dksX3_row_2 7 rfl rfl)
theorem dX3_row_57 : decode cX3_row 57 = .ok (.bipush 6, 2) := dk_16 6 (dk_at dksX3_row_2 10 rfl rfl)
theorem dX3_row_59 : decode cX3_row 59 = .ok (.iaload, 1) := dk_46 (dk_at dksX3_row_2 12 rfl rfl)
theorem dX3_row_60 : decode cX3_row 60 = .ok (.imul, 1) := dk_104 (dk_at dksX3_row_2 13 rfl rfl)
theorem dX3_row_61 : decode cX3_row 61 = .ok (.iadd, 1) := dk_96 (dk_at dksX3_row_2 14 rfl rfl)
theorem dX3_row_62 : decode cX3_row 62 = .ok (.iload_n 1, 1) := dk_27 (dk_at dksX3_row_2 15 rfl rfl)
theorem dX3_row_63 : decode cX3_row 63 = .ok (.iastore, 1) := dk_79 (dk_at dksX3_row_2 16 rfl rfl)
theorem dX3_row_64 : decode cX3_row 64 = .ok (.aload_n 0, 1) := dk_42 (dk_at dksX3_row_2 17 rfl rfl)
theorem dX3_row_65 : decode cX3_row 65 = .ok (.getfield 42, 3) := dk_180 0 42 (dk_at dksX3_row_2 18 rfl rfl)
theorem dX3_row_68 : decode cX3_row 68 = .ok (.bipush 122, 2) := dk_16 122 (dk_at dksX3_row_2 21 rfl rfl)
theorem dX3_row_70 : decode cX3_row 70 = .ok (.iconst 2, 1) := dk_5 (dk_at dksX3_row_2 23 rfl rfl)
theorem dX3_row_71 : decode cX3_row 71 = .ok (.aload_n 0, 1) := dk_42 (dk_at dksX3_row_3 0 rfl rfl)
theorem dX3_row_72 : decode cX3_row 72 = .ok (.getfield 42, 3) := dk_180 0 42 (dk_at dksX3_row_3 1 rfl rfl)
theorem dX3_row_75 : decode cX3_row 75 = .ok (.bipush 6, 2) := dk_16 6 (dk_at dksX3_row_3 4 rfl rfl)
theorem dX3_row_77 : decode cX3_row 77 = .ok (.iaload, 1) := dk_46 (dk_at dksX3_row_3 6 rfl rfl)
theorem dX3_row_78 : decode cX3_row 78 = .ok (.imul, 1) := dk_104 (dk_at dksX3_row_3 7 rfl rfl)
theorem dX3_row_79 : decode cX3_row 79 = .ok (.iadd, 1) := dk_96 (dk_at dksX3_row_3 8 rfl rfl)
theorem dX3_row_80 : decode cX3_row 80 = .ok (.iconst 1, 1) := dk_4 (dk_at dksX3_row_3 9 rfl rfl)
theorem dX3_row_81 : decode cX3_row 81 = .ok (.iadd, 1) := dk_96 (dk_at dksX3_row_3 10 rfl rfl)
theorem dX3_row_82 : decode cX3_row 82 = .ok (.iload_n 2, 1) := dk_28 (dk_at dksX3_row_3 11 rfl rfl)
theorem dX3_row_83 : decode cX3_row 83 = .ok (.iastore, 1) := dk_79 (dk_at dksX3_row_3 12 rfl rfl)
theorem dX3_row_84 : decode cX3_row 84 = .ok (.aload_n 0, 1) := dk_42 (dk_at dksX3_row_3 13 rfl rfl)
theorem dX3_row_85 : decode cX3_row 85 = .ok (.getfield 42, 3) := dk_180 0 42 (dk_at dksX3_row_3 14 rfl rfl)
theorem dX3_row_88 : decode cX3_row 88 = .ok (.bipush 6, 2) := dk_16 6 (dk_at dksX3_row_3 17 rfl rfl)
theorem dX3_row_90 : decode cX3_row 90 = .ok (.dup2, 1) := dk_92 (dk_at dksX3_row_3 19 rfl rfl)
theorem dX3_row_91 : decode cX3_row 91 = .ok (.iaload, 1) := dk_46 (dk_at dksX3_row_3 20 rfl rfl)
theorem dX3_row_92 : decode cX3_row 92 = .ok (.iconst 1, 1) := dk_4 (dk_at dksX3_row_3 21 rfl rfl)
theorem dX3_row_93 : decode cX3_row 93 = .ok (.iadd, 1) := dk_96 (dk_at dksX3_row_3 22 rfl rfl)
theorem dX3_row_94 : decode cX3_row 94 = .ok (.iastore, 1) := dk_79 (dk_at dksX3_row_3 23 rfl rfl)
theorem dX3_row_95 : decode cX3_row 95 = .ok (.aload_n 0, 1) := dk_42 (dk_at dksX3_row_4 0 rfl rfl)
theorem dX3_row_96 : decode cX3_row 96 = .ok (.getfield 42, 3) := dk_180 0 42 (dk_at dksX3_row_4 1 rfl rfl)
theorem dX3_row_99 : decode cX3_row 99 = .ok (.bipush 6, 2) := dk_16 6 (dk_at dksX3_row_4 4 rfl rfl)
theorem dX3_row_101 : decode cX3_row 101 = .ok (.iaload, 1) := dk_46 (dk_at dksX3_row_4 6 rfl rfl)
theorem dX3_row_102 : decode cX3_row 102 = .ok (.ireturn, 1) := dk_172 (dk_at dksX3_row_4 7 rfl rfl)
abbrev cX3_done : ByteArray := prog_19_method_92_code
def yX3_done : MethodName := ⟨RX3, "done", "()I"⟩
def dkwX3_done_0 : List UInt8 := [42, 42, 180, 0, 42, 16, 6, 46, 182, 1, 153, 172]
abbrev dktX3_done_0 : List UInt8 := dkwX3_done_0 ++ []
theorem dksX3_done_0 : cX3_done.data.toList.drop 0 = dktX3_done_0 := by decide +kernel
theorem dX3_done_0 : decode cX3_done 0 = .ok (.aload_n 0, 1) := dk_42 (dk_at dksX3_done_0 0 rfl rfl)
theorem dX3_done_1 : decode cX3_done 1 = .ok (.aload_n 0, 1) := dk_42 (dk_at dksX3_done_0 1 rfl rfl)
theorem dX3_done_2 : decode cX3_done 2 = .ok (.getfield 42, 3) := dk_180 0 42 (dk_at dksX3_done_0 2 rfl rfl)
theorem dX3_done_5 : decode cX3_done 5 = .ok (.bipush 6, 2) := dk_16 6 (dk_at dksX3_done_0 5 rfl rfl)
theorem dX3_done_7 : decode cX3_done 7 = .ok (.iaload, 1) := dk_46 (dk_at dksX3_done_0 7 rfl rfl)
theorem dX3_done_8 : decode cX3_done 8 = .ok (.invokevirtual 409, 3) := dk_182 1 153 (dk_at dksX3_done_0 8 rfl rfl)
theorem dX3_done_11 : decode cX3_done 11 = .ok (.ireturn, 1) := dk_172 (dk_at dksX3_done_0 11 rfl rfl)
abbrev cX3_goesTo : ByteArray := prog_19_method_91_code
def yX3_goesTo : MethodName := ⟨RX3, "goesTo", "(I)I"⟩
def dkwX3_goesTo_1 : List UInt8 := [167, 255, 240, 28, 172]
abbrev dktX3_goesTo_1 : List UInt8 := dkwX3_goesTo_1 ++ []
def dkwX3_goesTo_0 : List UInt8 := [42, 182, 1, 147, 3, 61, 28, 27, 162, 0, 17, 42, 28, 182, 1, 150, 153, 0, 9, 132, 2, 1]
abbrev dktX3_goesTo_0 : List UInt8 := dkwX3_goesTo_0 ++ dktX3_goesTo_1
theorem dksX3_goesTo_0 : cX3_goesTo.data.toList.drop 0 = dktX3_goesTo_0 := by decide +kernel
theorem dksX3_goesTo_1 : cX3_goesTo.data.toList.drop 22 = dktX3_goesTo_1 := dk_seg dksX3_goesTo_0 22 rfl rfl
theorem dX3_goesTo_0 : decode cX3_goesTo 0 = .ok (.aload_n 0, 1) := dk_42 (dk_at dksX3_goesTo_0 0 rfl rfl)
theorem dX3_goesTo_1 : decode cX3_goesTo 1 = .ok (.invokevirtual 403, 3) := dk_182 1 147 (dk_at dksX3_goesTo_0 1 rfl rfl)
theorem dX3_goesTo_4 : decode cX3_goesTo 4 = .ok (.iconst 0, 1) := dk_3 (dk_at dksX3_goesTo_0 4 rfl rfl)
theorem dX3_goesTo_5 : decode cX3_goesTo 5 = .ok (.istore_n 2, 1) := dk_61 (dk_at dksX3_goesTo_0 5 rfl rfl)
theorem dX3_goesTo_6 : decode cX3_goesTo 6 = .ok (.iload_n 2, 1) := dk_28 (dk_at dksX3_goesTo_0 6 rfl rfl)
theorem dX3_goesTo_7 : decode cX3_goesTo 7 = .ok (.iload_n 1, 1) := dk_27 (dk_at dksX3_goesTo_0 7 rfl rfl)
theorem dX3_goesTo_8 : decode cX3_goesTo 8 = .ok (.if_icmp .ge 17, 3) := dk_162 0 17 (dk_at dksX3_goesTo_0 8 rfl rfl)
theorem dX3_goesTo_11 : decode cX3_goesTo 11 = .ok (.aload_n 0, 1) := dk_42 (dk_at dksX3_goesTo_0 11 rfl rfl)
theorem dX3_goesTo_12 : decode cX3_goesTo 12 = .ok (.iload_n 2, 1) := dk_28 (dk_at dksX3_goesTo_0 12 rfl rfl)
theorem dX3_goesTo_13 : decode cX3_goesTo 13 = .ok (.invokevirtual 406, 3) := dk_182 1 150 (dk_at dksX3_goesTo_0 13 rfl rfl)
theorem dX3_goesTo_16 : decode cX3_goesTo 16 = .ok (.ifCond .eq 9, 3) := dk_153 0 9 (dk_at dksX3_goesTo_0 16 rfl rfl)
theorem dX3_goesTo_19 : decode cX3_goesTo 19 = .ok (.iinc 2 1, 3) := dk_132 2 1 (dk_at dksX3_goesTo_0 19 rfl rfl)
theorem dX3_goesTo_22 : decode cX3_goesTo 22 = .ok (.goto (-16), 3) := dk_167 255 240 (dk_at dksX3_goesTo_1 0 rfl rfl)
theorem dX3_goesTo_25 : decode cX3_goesTo 25 = .ok (.iload_n 2, 1) := dk_28 (dk_at dksX3_goesTo_1 3 rfl rfl)
theorem dX3_goesTo_26 : decode cX3_goesTo 26 = .ok (.ireturn, 1) := dk_172 (dk_at dksX3_goesTo_1 4 rfl rfl)
abbrev cX3_rowBegins : ByteArray := prog_19_method_89_code
def yX3_rowBegins : MethodName := ⟨RX3, "rowBegins", "()V"⟩
def dkwX3_rowBegins_1 : List UInt8 := [180, 0, 77, 27, 42, 27, 3, 182, 1, 23, 79, 132, 1, 1, 167, 255, 231, 177]
abbrev dktX3_rowBegins_1 : List UInt8 := dkwX3_rowBegins_1 ++ []
def dkwX3_rowBegins_0 : List UInt8 := [42, 42, 180, 0, 42, 5, 46, 181, 1, 144, 3, 60, 27, 42, 180, 0, 42, 4, 46, 162, 0, 21, 42]
abbrev dktX3_rowBegins_0 : List UInt8 := dkwX3_rowBegins_0 ++ dktX3_rowBegins_1
theorem dksX3_rowBegins_0 : cX3_rowBegins.data.toList.drop 0 = dktX3_rowBegins_0 := by decide +kernel
theorem dksX3_rowBegins_1 : cX3_rowBegins.data.toList.drop 23 = dktX3_rowBegins_1 := dk_seg dksX3_rowBegins_0 23 rfl rfl
theorem dX3_rowBegins_0 : decode cX3_rowBegins 0 = .ok (.aload_n 0, 1) := dk_42 (dk_at dksX3_rowBegins_0 0 rfl rfl)
theorem dX3_rowBegins_1 : decode cX3_rowBegins 1 = .ok (.aload_n 0, 1) := dk_42 (dk_at dksX3_rowBegins_0 1 rfl rfl)
theorem dX3_rowBegins_2 : decode cX3_rowBegins 2 = .ok (.getfield 42, 3) := dk_180 0 42 (dk_at dksX3_rowBegins_0 2 rfl rfl)
theorem dX3_rowBegins_5 : decode cX3_rowBegins 5 = .ok (.iconst 2, 1) := dk_5 (dk_at dksX3_rowBegins_0 5 rfl rfl)
theorem dX3_rowBegins_6 : decode cX3_rowBegins 6 = .ok (.iaload, 1) := dk_46 (dk_at dksX3_rowBegins_0 6 rfl rfl)
theorem dX3_rowBegins_7 : decode cX3_rowBegins 7 = .ok (.putfield 400, 3) := dk_181 1 144 (dk_at dksX3_rowBegins_0 7 rfl rfl)
theorem dX3_rowBegins_10 : decode cX3_rowBegins 10 = .ok (.iconst 0, 1) := dk_3 (dk_at dksX3_rowBegins_0 10 rfl rfl)
theorem dX3_rowBegins_11 : decode cX3_rowBegins 11 = .ok (.istore_n 1, 1) := dk_60 (dk_at dksX3_rowBegins_0 11 rfl rfl)
theorem dX3_rowBegins_12 : decode cX3_rowBegins 12 = .ok (.iload_n 1, 1) := dk_27 (dk_at dksX3_rowBegins_0 12 rfl rfl)
theorem dX3_rowBegins_13 : decode cX3_rowBegins 13 = .ok (.aload_n 0, 1) := dk_42 (dk_at dksX3_rowBegins_0 13 rfl rfl)
theorem dX3_rowBegins_14 : decode cX3_rowBegins 14 = .ok (.getfield 42, 3) := dk_180 0 42 (dk_at dksX3_rowBegins_0 14 rfl rfl)
theorem dX3_rowBegins_17 : decode cX3_rowBegins 17 = .ok (.iconst 1, 1) := dk_4 (dk_at dksX3_rowBegins_0 17 rfl rfl)
theorem dX3_rowBegins_18 : decode cX3_rowBegins 18 = .ok (.iaload, 1) := dk_46 (dk_at dksX3_rowBegins_0 18 rfl rfl)
theorem dX3_rowBegins_19 : decode cX3_rowBegins 19 = .ok (.if_icmp .ge 21, 3) := dk_162 0 21 (dk_at dksX3_rowBegins_0 19 rfl rfl)
theorem dX3_rowBegins_22 : decode cX3_rowBegins 22 = .ok (.aload_n 0, 1) := dk_42 (dk_at dksX3_rowBegins_0 22 rfl rfl)
theorem dX3_rowBegins_23 : decode cX3_rowBegins 23 = .ok (.getfield 77, 3) := dk_180 0 77 (dk_at dksX3_rowBegins_1 0 rfl rfl)
theorem dX3_rowBegins_26 : decode cX3_rowBegins 26 = .ok (.iload_n 1, 1) := dk_27 (dk_at dksX3_rowBegins_1 3 rfl rfl)
theorem dX3_rowBegins_27 : decode cX3_rowBegins 27 = .ok (.aload_n 0, 1) := dk_42 (dk_at dksX3_rowBegins_1 4 rfl rfl)
theorem dX3_rowBegins_28 : decode cX3_rowBegins 28 = .ok (.iload_n 1, 1) := dk_27 (dk_at dksX3_rowBegins_1 5 rfl rfl)
theorem dX3_rowBegins_29 : decode cX3_rowBegins 29 = .ok (.iconst 0, 1) := dk_3 (dk_at dksX3_rowBegins_1 6 rfl rfl)
theorem dX3_rowBegins_30 : decode cX3_rowBegins 30 = .ok (.invokevirtual 279, 3) := dk_182 1 23 (dk_at dksX3_rowBegins_1 7 rfl rfl)
theorem dX3_rowBegins_33 : decode cX3_rowBegins 33 = .ok (.iastore, 1) := dk_79 (dk_at dksX3_rowBegins_1 10 rfl rfl)
theorem dX3_rowBegins_34 : decode cX3_rowBegins 34 = .ok (.iinc 1 1, 3) := dk_132 1 1 (dk_at dksX3_rowBegins_1 11 rfl rfl)
theorem dX3_rowBegins_37 : decode cX3_rowBegins 37 = .ok (.goto (-25), 3) := dk_167 255 231 (dk_at dksX3_rowBegins_1 14 rfl rfl)
theorem dX3_rowBegins_40 : decode cX3_rowBegins 40 = .ok (.return_, 1) := dk_177 (dk_at dksX3_rowBegins_1 17 rfl rfl)
abbrev cX3_rowGoes : ByteArray := prog_19_method_90_code
def yX3_rowGoes : MethodName := ⟨RX3, "rowGoes", "(I)Z"⟩
def dkwX3_rowGoes_4 : List UInt8 := [172]
abbrev dktX3_rowGoes_4 : List UInt8 := dkwX3_rowGoes_4 ++ []
def dkwX3_rowGoes_3 : List UInt8 := [42, 42, 180, 1, 144, 29, 4, 182, 1, 29, 79, 42, 89, 180, 1, 144, 4, 29, 120, 130, 181, 1, 144, 4]
abbrev dktX3_rowGoes_3 : List UInt8 := dkwX3_rowGoes_3 ++ dktX3_rowGoes_4
def dkwX3_rowGoes_2 : List UInt8 := [180, 1, 144, 29, 3, 182, 1, 29, 42, 180, 0, 77, 28, 46, 159, 0, 5, 3, 172, 42, 180, 0, 77, 28]
abbrev dktX3_rowGoes_2 : List UInt8 := dkwX3_rowGoes_2 ++ dktX3_rowGoes_3
def dkwX3_rowGoes_1 : List UInt8 := [46, 62, 42, 180, 0, 77, 28, 46, 16, 8, 159, 0, 30, 42, 29, 182, 1, 38, 157, 0, 22, 42, 42]
abbrev dktX3_rowGoes_1 : List UInt8 := dkwX3_rowGoes_1 ++ dktX3_rowGoes_2
def dkwX3_rowGoes_0 : List UInt8 := [42, 180, 0, 42, 16, 122, 5, 27, 104, 96, 46, 61, 42, 180, 0, 42, 16, 122, 5, 27, 104, 96, 4, 96]
abbrev dktX3_rowGoes_0 : List UInt8 := dkwX3_rowGoes_0 ++ dktX3_rowGoes_1
theorem dksX3_rowGoes_0 : cX3_rowGoes.data.toList.drop 0 = dktX3_rowGoes_0 := by decide +kernel
theorem dksX3_rowGoes_1 : cX3_rowGoes.data.toList.drop 24 = dktX3_rowGoes_1 := dk_seg dksX3_rowGoes_0 24 rfl rfl
theorem dksX3_rowGoes_2 : cX3_rowGoes.data.toList.drop 47 = dktX3_rowGoes_2 := dk_seg dksX3_rowGoes_1 23 rfl rfl
theorem dksX3_rowGoes_3 : cX3_rowGoes.data.toList.drop 71 = dktX3_rowGoes_3 := dk_seg dksX3_rowGoes_2 24 rfl rfl
theorem dksX3_rowGoes_4 : cX3_rowGoes.data.toList.drop 95 = dktX3_rowGoes_4 := dk_seg dksX3_rowGoes_3 24 rfl rfl
theorem dX3_rowGoes_0 : decode cX3_rowGoes 0 = .ok (.aload_n 0, 1) := dk_42 (dk_at dksX3_rowGoes_0 0 rfl rfl)
theorem dX3_rowGoes_1 : decode cX3_rowGoes 1 = .ok (.getfield 42, 3) := dk_180 0 42 (dk_at dksX3_rowGoes_0 1 rfl rfl)
theorem dX3_rowGoes_4 : decode cX3_rowGoes 4 = .ok (.bipush 122, 2) := dk_16 122 (dk_at dksX3_rowGoes_0 4 rfl rfl)
theorem dX3_rowGoes_6 : decode cX3_rowGoes 6 = .ok (.iconst 2, 1) := dk_5 (dk_at dksX3_rowGoes_0 6 rfl rfl)
theorem dX3_rowGoes_7 : decode cX3_rowGoes 7 = .ok (.iload_n 1, 1) := dk_27 (dk_at dksX3_rowGoes_0 7 rfl rfl)
theorem dX3_rowGoes_8 : decode cX3_rowGoes 8 = .ok (.imul, 1) := dk_104 (dk_at dksX3_rowGoes_0 8 rfl rfl)
theorem dX3_rowGoes_9 : decode cX3_rowGoes 9 = .ok (.iadd, 1) := dk_96 (dk_at dksX3_rowGoes_0 9 rfl rfl)
theorem dX3_rowGoes_10 : decode cX3_rowGoes 10 = .ok (.iaload, 1) := dk_46 (dk_at dksX3_rowGoes_0 10 rfl rfl)
theorem dX3_rowGoes_11 : decode cX3_rowGoes 11 = .ok (.istore_n 2, 1) := dk_61 (dk_at dksX3_rowGoes_0 11 rfl rfl)
theorem dX3_rowGoes_12 : decode cX3_rowGoes 12 = .ok (.aload_n 0, 1) := dk_42 (dk_at dksX3_rowGoes_0 12 rfl rfl)
theorem dX3_rowGoes_13 : decode cX3_rowGoes 13 = .ok (.getfield 42, 3) := dk_180 0 42 (dk_at dksX3_rowGoes_0 13 rfl rfl)
theorem dX3_rowGoes_16 : decode cX3_rowGoes 16 = .ok (.bipush 122, 2) := dk_16 122 (dk_at dksX3_rowGoes_0 16 rfl rfl)
theorem dX3_rowGoes_18 : decode cX3_rowGoes 18 = .ok (.iconst 2, 1) := dk_5 (dk_at dksX3_rowGoes_0 18 rfl rfl)
theorem dX3_rowGoes_19 : decode cX3_rowGoes 19 = .ok (.iload_n 1, 1) := dk_27 (dk_at dksX3_rowGoes_0 19 rfl rfl)
theorem dX3_rowGoes_20 : decode cX3_rowGoes 20 = .ok (.imul, 1) := dk_104 (dk_at dksX3_rowGoes_0 20 rfl rfl)
theorem dX3_rowGoes_21 : decode cX3_rowGoes 21 = .ok (.iadd, 1) := dk_96 (dk_at dksX3_rowGoes_0 21 rfl rfl)
theorem dX3_rowGoes_22 : decode cX3_rowGoes 22 = .ok (.iconst 1, 1) := dk_4 (dk_at dksX3_rowGoes_0 22 rfl rfl)
theorem dX3_rowGoes_23 : decode cX3_rowGoes 23 = .ok (.iadd, 1) := dk_96 (dk_at dksX3_rowGoes_0 23 rfl rfl)
theorem dX3_rowGoes_24 : decode cX3_rowGoes 24 = .ok (.iaload, 1) := dk_46 (dk_at dksX3_rowGoes_1 0 rfl rfl)
theorem dX3_rowGoes_25 : decode cX3_rowGoes 25 = .ok (.istore_n 3, 1) := dk_62 (dk_at dksX3_rowGoes_1 1 rfl rfl)
theorem dX3_rowGoes_26 : decode cX3_rowGoes 26 = .ok (.aload_n 0, 1) := dk_42 (dk_at dksX3_rowGoes_1 2 rfl rfl)
theorem dX3_rowGoes_27 : decode cX3_rowGoes 27 = .ok (.getfield 77, 3) := dk_180 0 77 (dk_at dksX3_rowGoes_1 3 rfl rfl)
theorem dX3_rowGoes_30 : decode cX3_rowGoes 30 = .ok (.iload_n 2, 1) := dk_28 (dk_at dksX3_rowGoes_1 6 rfl rfl)
theorem dX3_rowGoes_31 : decode cX3_rowGoes 31 = .ok (.iaload, 1) := dk_46 (dk_at dksX3_rowGoes_1 7 rfl rfl)
theorem dX3_rowGoes_32 : decode cX3_rowGoes 32 = .ok (.bipush 8, 2) := dk_16 8 (dk_at dksX3_rowGoes_1 8 rfl rfl)
theorem dX3_rowGoes_34 : decode cX3_rowGoes 34 = .ok (.if_icmp .eq 30, 3) := dk_159 0 30 (dk_at dksX3_rowGoes_1 10 rfl rfl)
theorem dX3_rowGoes_37 : decode cX3_rowGoes 37 = .ok (.aload_n 0, 1) := dk_42 (dk_at dksX3_rowGoes_1 13 rfl rfl)
theorem dX3_rowGoes_38 : decode cX3_rowGoes 38 = .ok (.iload_n 3, 1) := dk_29 (dk_at dksX3_rowGoes_1 14 rfl rfl)
theorem dX3_rowGoes_39 : decode cX3_rowGoes 39 = .ok (.invokevirtual 294, 3) := dk_182 1 38 (dk_at dksX3_rowGoes_1 15 rfl rfl)
theorem dX3_rowGoes_42 : decode cX3_rowGoes 42 = .ok (.ifCond .gt 22, 3) := dk_157 0 22 (dk_at dksX3_rowGoes_1 18 rfl rfl)
theorem dX3_rowGoes_45 : decode cX3_rowGoes 45 = .ok (.aload_n 0, 1) := dk_42 (dk_at dksX3_rowGoes_1 21 rfl rfl)
theorem dX3_rowGoes_46 : decode cX3_rowGoes 46 = .ok (.aload_n 0, 1) := dk_42 (dk_at dksX3_rowGoes_1 22 rfl rfl)
theorem dX3_rowGoes_47 : decode cX3_rowGoes 47 = .ok (.getfield 400, 3) := dk_180 1 144 (dk_at dksX3_rowGoes_2 0 rfl rfl)
theorem dX3_rowGoes_50 : decode cX3_rowGoes 50 = .ok (.iload_n 3, 1) := dk_29 (dk_at dksX3_rowGoes_2 3 rfl rfl)
theorem dX3_rowGoes_51 : decode cX3_rowGoes 51 = .ok (.iconst 0, 1) := dk_3 (dk_at dksX3_rowGoes_2 4 rfl rfl)
theorem dX3_rowGoes_52 : decode cX3_rowGoes 52 = .ok (.invokevirtual 285, 3) := dk_182 1 29 (dk_at dksX3_rowGoes_2 5 rfl rfl)
theorem dX3_rowGoes_55 : decode cX3_rowGoes 55 = .ok (.aload_n 0, 1) := dk_42 (dk_at dksX3_rowGoes_2 8 rfl rfl)
theorem dX3_rowGoes_56 : decode cX3_rowGoes 56 = .ok (.getfield 77, 3) := dk_180 0 77 (dk_at dksX3_rowGoes_2 9 rfl rfl)
theorem dX3_rowGoes_59 : decode cX3_rowGoes 59 = .ok (.iload_n 2, 1) := dk_28 (dk_at dksX3_rowGoes_2 12 rfl rfl)
theorem dX3_rowGoes_60 : decode cX3_rowGoes 60 = .ok (.iaload, 1) := dk_46 (dk_at dksX3_rowGoes_2 13 rfl rfl)
theorem dX3_rowGoes_61 : decode cX3_rowGoes 61 = .ok (.if_icmp .eq 5, 3) := dk_159 0 5 (dk_at dksX3_rowGoes_2 14 rfl rfl)
theorem dX3_rowGoes_64 : decode cX3_rowGoes 64 = .ok (.iconst 0, 1) := dk_3 (dk_at dksX3_rowGoes_2 17 rfl rfl)
theorem dX3_rowGoes_65 : decode cX3_rowGoes 65 = .ok (.ireturn, 1) := dk_172 (dk_at dksX3_rowGoes_2 18 rfl rfl)
theorem dX3_rowGoes_66 : decode cX3_rowGoes 66 = .ok (.aload_n 0, 1) := dk_42 (dk_at dksX3_rowGoes_2 19 rfl rfl)
theorem dX3_rowGoes_67 : decode cX3_rowGoes 67 = .ok (.getfield 77, 3) := dk_180 0 77 (dk_at dksX3_rowGoes_2 20 rfl rfl)
theorem dX3_rowGoes_70 : decode cX3_rowGoes 70 = .ok (.iload_n 2, 1) := dk_28 (dk_at dksX3_rowGoes_2 23 rfl rfl)
theorem dX3_rowGoes_71 : decode cX3_rowGoes 71 = .ok (.aload_n 0, 1) := dk_42 (dk_at dksX3_rowGoes_3 0 rfl rfl)
theorem dX3_rowGoes_72 : decode cX3_rowGoes 72 = .ok (.aload_n 0, 1) := dk_42 (dk_at dksX3_rowGoes_3 1 rfl rfl)
theorem dX3_rowGoes_73 : decode cX3_rowGoes 73 = .ok (.getfield 400, 3) := dk_180 1 144 (dk_at dksX3_rowGoes_3 2 rfl rfl)
theorem dX3_rowGoes_76 : decode cX3_rowGoes 76 = .ok (.iload_n 3, 1) := dk_29 (dk_at dksX3_rowGoes_3 5 rfl rfl)
theorem dX3_rowGoes_77 : decode cX3_rowGoes 77 = .ok (.iconst 1, 1) := dk_4 (dk_at dksX3_rowGoes_3 6 rfl rfl)
theorem dX3_rowGoes_78 : decode cX3_rowGoes 78 = .ok (.invokevirtual 285, 3) := dk_182 1 29 (dk_at dksX3_rowGoes_3 7 rfl rfl)
theorem dX3_rowGoes_81 : decode cX3_rowGoes 81 = .ok (.iastore, 1) := dk_79 (dk_at dksX3_rowGoes_3 10 rfl rfl)
theorem dX3_rowGoes_82 : decode cX3_rowGoes 82 = .ok (.aload_n 0, 1) := dk_42 (dk_at dksX3_rowGoes_3 11 rfl rfl)
theorem dX3_rowGoes_83 : decode cX3_rowGoes 83 = .ok (.dup, 1) := dk_89 (dk_at dksX3_rowGoes_3 12 rfl rfl)
theorem dX3_rowGoes_84 : decode cX3_rowGoes 84 = .ok (.getfield 400, 3) := dk_180 1 144 (dk_at dksX3_rowGoes_3 13 rfl rfl)
theorem dX3_rowGoes_87 : decode cX3_rowGoes 87 = .ok (.iconst 1, 1) := dk_4 (dk_at dksX3_rowGoes_3 16 rfl rfl)
theorem dX3_rowGoes_88 : decode cX3_rowGoes 88 = .ok (.iload_n 3, 1) := dk_29 (dk_at dksX3_rowGoes_3 17 rfl rfl)
theorem dX3_rowGoes_89 : decode cX3_rowGoes 89 = .ok (.ishl, 1) := dk_120 (dk_at dksX3_rowGoes_3 18 rfl rfl)
theorem dX3_rowGoes_90 : decode cX3_rowGoes 90 = .ok (.ixor, 1) := dk_130 (dk_at dksX3_rowGoes_3 19 rfl rfl)
theorem dX3_rowGoes_91 : decode cX3_rowGoes 91 = .ok (.putfield 400, 3) := dk_181 1 144 (dk_at dksX3_rowGoes_3 20 rfl rfl)
theorem dX3_rowGoes_94 : decode cX3_rowGoes 94 = .ok (.iconst 1, 1) := dk_4 (dk_at dksX3_rowGoes_3 23 rfl rfl)
theorem dX3_rowGoes_95 : decode cX3_rowGoes 95 = .ok (.ireturn, 1) := dk_172 (dk_at dksX3_rowGoes_4 0 rfl rfl)
abbrev cX3_free : ByteArray := prog_19_method_94_code
def yX3_free : MethodName := ⟨RX3, "free", "(I)I"⟩
def dkwX3_free_4 : List UInt8 := [3, 172]
abbrev dktX3_free_4 : List UInt8 := dkwX3_free_4 ++ []
def dkwX3_free_3 : List UInt8 := [153, 0, 24, 42, 27, 182, 1, 150, 153, 0, 16, 42, 182, 1, 156, 32, 148, 154, 0, 7, 4, 167, 0, 4]
abbrev dktX3_free_3 : List UInt8 := dkwX3_free_3 ++ dktX3_free_4
def dkwX3_free_2 : List UInt8 := [154, 0, 5, 3, 172, 42, 182, 1, 156, 65, 42, 27, 182, 1, 153, 87, 42, 27, 4, 96, 182, 1, 150]
abbrev dktX3_free_2 : List UInt8 := dkwX3_free_2 ++ dktX3_free_3
def dkwX3_free_1 : List UInt8 := [182, 1, 153, 27, 161, 0, 21, 42, 27, 182, 1, 150, 153, 0, 13, 42, 27, 4, 96, 182, 1, 150]
abbrev dktX3_free_1 : List UInt8 := dkwX3_free_1 ++ dktX3_free_2
def dkwX3_free_0 : List UInt8 := [27, 133, 9, 42, 180, 0, 42, 16, 6, 46, 5, 100, 133, 184, 0, 125, 154, 0, 5, 2, 172, 42, 27]
abbrev dktX3_free_0 : List UInt8 := dkwX3_free_0 ++ dktX3_free_1
theorem dksX3_free_0 : cX3_free.data.toList.drop 0 = dktX3_free_0 := by decide +kernel
theorem dksX3_free_1 : cX3_free.data.toList.drop 23 = dktX3_free_1 := dk_seg dksX3_free_0 23 rfl rfl
theorem dksX3_free_2 : cX3_free.data.toList.drop 45 = dktX3_free_2 := dk_seg dksX3_free_1 22 rfl rfl
theorem dksX3_free_3 : cX3_free.data.toList.drop 68 = dktX3_free_3 := dk_seg dksX3_free_2 23 rfl rfl
theorem dksX3_free_4 : cX3_free.data.toList.drop 92 = dktX3_free_4 := dk_seg dksX3_free_3 24 rfl rfl
theorem dX3_free_0 : decode cX3_free 0 = .ok (.iload_n 1, 1) := dk_27 (dk_at dksX3_free_0 0 rfl rfl)
theorem dX3_free_1 : decode cX3_free 1 = .ok (.i2l, 1) := dk_133 (dk_at dksX3_free_0 1 rfl rfl)
theorem dX3_free_2 : decode cX3_free 2 = .ok (.lconst 0, 1) := dk_9 (dk_at dksX3_free_0 2 rfl rfl)
theorem dX3_free_3 : decode cX3_free 3 = .ok (.aload_n 0, 1) := dk_42 (dk_at dksX3_free_0 3 rfl rfl)
theorem dX3_free_4 : decode cX3_free 4 = .ok (.getfield 42, 3) := dk_180 0 42 (dk_at dksX3_free_0 4 rfl rfl)
theorem dX3_free_7 : decode cX3_free 7 = .ok (.bipush 6, 2) := dk_16 6 (dk_at dksX3_free_0 7 rfl rfl)
theorem dX3_free_9 : decode cX3_free 9 = .ok (.iaload, 1) := dk_46 (dk_at dksX3_free_0 9 rfl rfl)
theorem dX3_free_10 : decode cX3_free 10 = .ok (.iconst 2, 1) := dk_5 (dk_at dksX3_free_0 10 rfl rfl)
theorem dX3_free_11 : decode cX3_free 11 = .ok (.isub, 1) := dk_100 (dk_at dksX3_free_0 11 rfl rfl)
theorem dX3_free_12 : decode cX3_free 12 = .ok (.i2l, 1) := dk_133 (dk_at dksX3_free_0 12 rfl rfl)
theorem dX3_free_13 : decode cX3_free 13 = .ok (.invokestatic 125, 3) := dk_184 0 125 (dk_at dksX3_free_0 13 rfl rfl)
theorem dX3_free_16 : decode cX3_free 16 = .ok (.ifCond .ne 5, 3) := dk_154 0 5 (dk_at dksX3_free_0 16 rfl rfl)
theorem dX3_free_19 : decode cX3_free 19 = .ok (.iconst (-1), 1) := dk_2 (dk_at dksX3_free_0 19 rfl rfl)
theorem dX3_free_20 : decode cX3_free 20 = .ok (.ireturn, 1) := dk_172 (dk_at dksX3_free_0 20 rfl rfl)
theorem dX3_free_21 : decode cX3_free 21 = .ok (.aload_n 0, 1) := dk_42 (dk_at dksX3_free_0 21 rfl rfl)
theorem dX3_free_22 : decode cX3_free 22 = .ok (.iload_n 1, 1) := dk_27 (dk_at dksX3_free_0 22 rfl rfl)
theorem dX3_free_23 : decode cX3_free 23 = .ok (.invokevirtual 409, 3) := dk_182 1 153 (dk_at dksX3_free_1 0 rfl rfl)
theorem dX3_free_26 : decode cX3_free 26 = .ok (.iload_n 1, 1) := dk_27 (dk_at dksX3_free_1 3 rfl rfl)
theorem dX3_free_27 : decode cX3_free 27 = .ok (.if_icmp .lt 21, 3) := dk_161 0 21 (dk_at dksX3_free_1 4 rfl rfl)
theorem dX3_free_30 : decode cX3_free 30 = .ok (.aload_n 0, 1) := dk_42 (dk_at dksX3_free_1 7 rfl rfl)
theorem dX3_free_31 : decode cX3_free 31 = .ok (.iload_n 1, 1) := dk_27 (dk_at dksX3_free_1 8 rfl rfl)
theorem dX3_free_32 : decode cX3_free 32 = .ok (.invokevirtual 406, 3) := dk_182 1 150 (dk_at dksX3_free_1 9 rfl rfl)
theorem dX3_free_35 : decode cX3_free 35 = .ok (.ifCond .eq 13, 3) := dk_153 0 13 (dk_at dksX3_free_1 12 rfl rfl)
theorem dX3_free_38 : decode cX3_free 38 = .ok (.aload_n 0, 1) := dk_42 (dk_at dksX3_free_1 15 rfl rfl)
theorem dX3_free_39 : decode cX3_free 39 = .ok (.iload_n 1, 1) := dk_27 (dk_at dksX3_free_1 16 rfl rfl)
theorem dX3_free_40 : decode cX3_free 40 = .ok (.iconst 1, 1) := dk_4 (dk_at dksX3_free_1 17 rfl rfl)
theorem dX3_free_41 : decode cX3_free 41 = .ok (.iadd, 1) := dk_96 (dk_at dksX3_free_1 18 rfl rfl)
theorem dX3_free_42 : decode cX3_free 42 = .ok (.invokevirtual 406, 3) := dk_182 1 150 (dk_at dksX3_free_1 19 rfl rfl)
theorem dX3_free_45 : decode cX3_free 45 = .ok (.ifCond .ne 5, 3) := dk_154 0 5 (dk_at dksX3_free_2 0 rfl rfl)
theorem dX3_free_48 : decode cX3_free 48 = .ok (.iconst 0, 1) := dk_3 (dk_at dksX3_free_2 3 rfl rfl)
theorem dX3_free_49 : decode cX3_free 49 = .ok (.ireturn, 1) := dk_172 (dk_at dksX3_free_2 4 rfl rfl)
theorem dX3_free_50 : decode cX3_free 50 = .ok (.aload_n 0, 1) := dk_42 (dk_at dksX3_free_2 5 rfl rfl)
theorem dX3_free_51 : decode cX3_free 51 = .ok (.invokevirtual 412, 3) := dk_182 1 156 (dk_at dksX3_free_2 6 rfl rfl)
theorem dX3_free_54 : decode cX3_free 54 = .ok (.lstore_n 2, 1) := dk_65 (dk_at dksX3_free_2 9 rfl rfl)
theorem dX3_free_55 : decode cX3_free 55 = .ok (.aload_n 0, 1) := dk_42 (dk_at dksX3_free_2 10 rfl rfl)
theorem dX3_free_56 : decode cX3_free 56 = .ok (.iload_n 1, 1) := dk_27 (dk_at dksX3_free_2 11 rfl rfl)
theorem dX3_free_57 : decode cX3_free 57 = .ok (.invokevirtual 409, 3) := dk_182 1 153 (dk_at dksX3_free_2 12 rfl rfl)
theorem dX3_free_60 : decode cX3_free 60 = .ok (.pop, 1) := dk_87 (dk_at dksX3_free_2 15 rfl rfl)
theorem dX3_free_61 : decode cX3_free 61 = .ok (.aload_n 0, 1) := dk_42 (dk_at dksX3_free_2 16 rfl rfl)
theorem dX3_free_62 : decode cX3_free 62 = .ok (.iload_n 1, 1) := dk_27 (dk_at dksX3_free_2 17 rfl rfl)
theorem dX3_free_63 : decode cX3_free 63 = .ok (.iconst 1, 1) := dk_4 (dk_at dksX3_free_2 18 rfl rfl)
theorem dX3_free_64 : decode cX3_free 64 = .ok (.iadd, 1) := dk_96 (dk_at dksX3_free_2 19 rfl rfl)
theorem dX3_free_65 : decode cX3_free 65 = .ok (.invokevirtual 406, 3) := dk_182 1 150 (dk_at dksX3_free_2 20 rfl rfl)
theorem dX3_free_68 : decode cX3_free 68 = .ok (.ifCond .eq 24, 3) := dk_153 0 24 (dk_at dksX3_free_3 0 rfl rfl)
theorem dX3_free_71 : decode cX3_free 71 = .ok (.aload_n 0, 1) := dk_42 (dk_at dksX3_free_3 3 rfl rfl)
theorem dX3_free_72 : decode cX3_free 72 = .ok (.iload_n 1, 1) := dk_27 (dk_at dksX3_free_3 4 rfl rfl)
theorem dX3_free_73 : decode cX3_free 73 = .ok (.invokevirtual 406, 3) := dk_182 1 150 (dk_at dksX3_free_3 5 rfl rfl)
theorem dX3_free_76 : decode cX3_free 76 = .ok (.ifCond .eq 16, 3) := dk_153 0 16 (dk_at dksX3_free_3 8 rfl rfl)
theorem dX3_free_79 : decode cX3_free 79 = .ok (.aload_n 0, 1) := dk_42 (dk_at dksX3_free_3 11 rfl rfl)
theorem dX3_free_80 : decode cX3_free 80 = .ok (.invokevirtual 412, 3) := dk_182 1 156 (dk_at dksX3_free_3 12 rfl rfl)
theorem dX3_free_83 : decode cX3_free 83 = .ok (.lload_n 2, 1) := dk_32 (dk_at dksX3_free_3 15 rfl rfl)
theorem dX3_free_84 : decode cX3_free 84 = .ok (.lcmp, 1) := dk_148 (dk_at dksX3_free_3 16 rfl rfl)
theorem dX3_free_85 : decode cX3_free 85 = .ok (.ifCond .ne 7, 3) := dk_154 0 7 (dk_at dksX3_free_3 17 rfl rfl)
theorem dX3_free_88 : decode cX3_free 88 = .ok (.iconst 1, 1) := dk_4 (dk_at dksX3_free_3 20 rfl rfl)
theorem dX3_free_89 : decode cX3_free 89 = .ok (.goto 4, 3) := dk_167 0 4 (dk_at dksX3_free_3 21 rfl rfl)
theorem dX3_free_92 : decode cX3_free 92 = .ok (.iconst 0, 1) := dk_3 (dk_at dksX3_free_4 0 rfl rfl)
theorem dX3_free_93 : decode cX3_free 93 = .ok (.ireturn, 1) := dk_172 (dk_at dksX3_free_4 1 rfl rfl)
abbrev cX3_rowState : ByteArray := prog_19_method_93_code
def yX3_rowState : MethodName := ⟨RX3, "rowState", "()J"⟩
def dkwX3_rowState_1 : List UInt8 := [180, 0, 77, 29, 46, 133, 97, 64, 132, 3, 1, 167, 255, 229, 31, 173]
abbrev dktX3_rowState_1 : List UInt8 := dkwX3_rowState_1 ++ []
def dkwX3_rowState_0 : List UInt8 := [42, 180, 1, 144, 133, 64, 3, 62, 29, 42, 180, 0, 42, 4, 46, 162, 0, 23, 31, 20, 1, 139, 105, 42]
abbrev dktX3_rowState_0 : List UInt8 := dkwX3_rowState_0 ++ dktX3_rowState_1
theorem dksX3_rowState_0 : cX3_rowState.data.toList.drop 0 = dktX3_rowState_0 := by decide +kernel
theorem dksX3_rowState_1 : cX3_rowState.data.toList.drop 24 = dktX3_rowState_1 := dk_seg dksX3_rowState_0 24 rfl rfl
theorem dX3_rowState_0 : decode cX3_rowState 0 = .ok (.aload_n 0, 1) := dk_42 (dk_at dksX3_rowState_0 0 rfl rfl)
theorem dX3_rowState_1 : decode cX3_rowState 1 = .ok (.getfield 400, 3) := dk_180 1 144 (dk_at dksX3_rowState_0 1 rfl rfl)
theorem dX3_rowState_4 : decode cX3_rowState 4 = .ok (.i2l, 1) := dk_133 (dk_at dksX3_rowState_0 4 rfl rfl)
theorem dX3_rowState_5 : decode cX3_rowState 5 = .ok (.lstore_n 1, 1) := dk_64 (dk_at dksX3_rowState_0 5 rfl rfl)
theorem dX3_rowState_6 : decode cX3_rowState 6 = .ok (.iconst 0, 1) := dk_3 (dk_at dksX3_rowState_0 6 rfl rfl)
theorem dX3_rowState_7 : decode cX3_rowState 7 = .ok (.istore_n 3, 1) := dk_62 (dk_at dksX3_rowState_0 7 rfl rfl)
theorem dX3_rowState_8 : decode cX3_rowState 8 = .ok (.iload_n 3, 1) := dk_29 (dk_at dksX3_rowState_0 8 rfl rfl)
theorem dX3_rowState_9 : decode cX3_rowState 9 = .ok (.aload_n 0, 1) := dk_42 (dk_at dksX3_rowState_0 9 rfl rfl)
theorem dX3_rowState_10 : decode cX3_rowState 10 = .ok (.getfield 42, 3) := dk_180 0 42 (dk_at dksX3_rowState_0 10 rfl rfl)
theorem dX3_rowState_13 : decode cX3_rowState 13 = .ok (.iconst 1, 1) := dk_4 (dk_at dksX3_rowState_0 13 rfl rfl)
theorem dX3_rowState_14 : decode cX3_rowState 14 = .ok (.iaload, 1) := dk_46 (dk_at dksX3_rowState_0 14 rfl rfl)
theorem dX3_rowState_15 : decode cX3_rowState 15 = .ok (.if_icmp .ge 23, 3) := dk_162 0 23 (dk_at dksX3_rowState_0 15 rfl rfl)
theorem dX3_rowState_18 : decode cX3_rowState 18 = .ok (.lload_n 1, 1) := dk_31 (dk_at dksX3_rowState_0 18 rfl rfl)
theorem dX3_rowState_19 : decode cX3_rowState 19 = .ok (.ldc2_w 395, 3) := dk_20 1 139 (dk_at dksX3_rowState_0 19 rfl rfl)
theorem dX3_rowState_22 : decode cX3_rowState 22 = .ok (.lmul, 1) := dk_105 (dk_at dksX3_rowState_0 22 rfl rfl)
theorem dX3_rowState_23 : decode cX3_rowState 23 = .ok (.aload_n 0, 1) := dk_42 (dk_at dksX3_rowState_0 23 rfl rfl)
theorem dX3_rowState_24 : decode cX3_rowState 24 = .ok (.getfield 77, 3) := dk_180 0 77 (dk_at dksX3_rowState_1 0 rfl rfl)
theorem dX3_rowState_27 : decode cX3_rowState 27 = .ok (.iload_n 3, 1) := dk_29 (dk_at dksX3_rowState_1 3 rfl rfl)
theorem dX3_rowState_28 : decode cX3_rowState 28 = .ok (.iaload, 1) := dk_46 (dk_at dksX3_rowState_1 4 rfl rfl)
theorem dX3_rowState_29 : decode cX3_rowState 29 = .ok (.i2l, 1) := dk_133 (dk_at dksX3_rowState_1 5 rfl rfl)
theorem dX3_rowState_30 : decode cX3_rowState 30 = .ok (.ladd, 1) := dk_97 (dk_at dksX3_rowState_1 6 rfl rfl)
theorem dX3_rowState_31 : decode cX3_rowState 31 = .ok (.lstore_n 1, 1) := dk_64 (dk_at dksX3_rowState_1 7 rfl rfl)
theorem dX3_rowState_32 : decode cX3_rowState 32 = .ok (.iinc 3 1, 3) := dk_132 3 1 (dk_at dksX3_rowState_1 8 rfl rfl)
theorem dX3_rowState_35 : decode cX3_rowState 35 = .ok (.goto (-27), 3) := dk_167 255 229 (dk_at dksX3_rowState_1 11 rfl rfl)
theorem dX3_rowState_38 : decode cX3_rowState 38 = .ok (.lload_n 1, 1) := dk_31 (dk_at dksX3_rowState_1 14 rfl rfl)
theorem dX3_rowState_39 : decode cX3_rowState 39 = .ok (.lreturn, 1) := dk_173 (dk_at dksX3_rowState_1 15 rfl rfl)
abbrev cX3_tick : ByteArray := prog_19_method_100_code
def yX3_tick : MethodName := ⟨RX3, "tick", "(II)I"⟩
def dkwX3_tick_1 : List UInt8 := [7, 46, 28, 96, 18, 173, 164, 0, 5, 2, 172, 42, 27, 28, 182, 1, 181, 42, 180, 0, 42, 7, 46, 172]
abbrev dktX3_tick_1 : List UInt8 := dkwX3_tick_1 ++ []
def dkwX3_tick_0 : List UInt8 := [42, 27, 182, 1, 176, 153, 0, 28, 28, 133, 10, 20, 1, 179, 184, 0, 125, 153, 0, 16, 42, 180, 0, 42]
abbrev dktX3_tick_0 : List UInt8 := dkwX3_tick_0 ++ dktX3_tick_1
theorem dksX3_tick_0 : cX3_tick.data.toList.drop 0 = dktX3_tick_0 := by decide +kernel
theorem dksX3_tick_1 : cX3_tick.data.toList.drop 24 = dktX3_tick_1 := dk_seg dksX3_tick_0 24 rfl rfl
theorem dX3_tick_0 : decode cX3_tick 0 = .ok (.aload_n 0, 1) := dk_42 (dk_at dksX3_tick_0 0 rfl rfl)
theorem dX3_tick_1 : decode cX3_tick 1 = .ok (.iload_n 1, 1) := dk_27 (dk_at dksX3_tick_0 1 rfl rfl)
theorem dX3_tick_2 : decode cX3_tick 2 = .ok (.invokevirtual 432, 3) := dk_182 1 176 (dk_at dksX3_tick_0 2 rfl rfl)
theorem dX3_tick_5 : decode cX3_tick 5 = .ok (.ifCond .eq 28, 3) := dk_153 0 28 (dk_at dksX3_tick_0 5 rfl rfl)
theorem dX3_tick_8 : decode cX3_tick 8 = .ok (.iload_n 2, 1) := dk_28 (dk_at dksX3_tick_0 8 rfl rfl)
theorem dX3_tick_9 : decode cX3_tick 9 = .ok (.i2l, 1) := dk_133 (dk_at dksX3_tick_0 9 rfl rfl)
theorem dX3_tick_10 : decode cX3_tick 10 = .ok (.lconst 1, 1) := dk_10 (dk_at dksX3_tick_0 10 rfl rfl)
theorem dX3_tick_11 : decode cX3_tick 11 = .ok (.ldc2_w 435, 3) := dk_20 1 179 (dk_at dksX3_tick_0 11 rfl rfl)
theorem dX3_tick_14 : decode cX3_tick 14 = .ok (.invokestatic 125, 3) := dk_184 0 125 (dk_at dksX3_tick_0 14 rfl rfl)
theorem dX3_tick_17 : decode cX3_tick 17 = .ok (.ifCond .eq 16, 3) := dk_153 0 16 (dk_at dksX3_tick_0 17 rfl rfl)
theorem dX3_tick_20 : decode cX3_tick 20 = .ok (.aload_n 0, 1) := dk_42 (dk_at dksX3_tick_0 20 rfl rfl)
theorem dX3_tick_21 : decode cX3_tick 21 = .ok (.getfield 42, 3) := dk_180 0 42 (dk_at dksX3_tick_0 21 rfl rfl)
theorem dX3_tick_24 : decode cX3_tick 24 = .ok (.iconst 4, 1) := dk_7 (dk_at dksX3_tick_1 0 rfl rfl)
theorem dX3_tick_25 : decode cX3_tick 25 = .ok (.iaload, 1) := dk_46 (dk_at dksX3_tick_1 1 rfl rfl)
theorem dX3_tick_26 : decode cX3_tick 26 = .ok (.iload_n 2, 1) := dk_28 (dk_at dksX3_tick_1 2 rfl rfl)
theorem dX3_tick_27 : decode cX3_tick 27 = .ok (.iadd, 1) := dk_96 (dk_at dksX3_tick_1 3 rfl rfl)
theorem dX3_tick_28 : decode cX3_tick 28 = .ok (.ldc 173, 2) := dk_18 173 (dk_at dksX3_tick_1 4 rfl rfl)
theorem dX3_tick_30 : decode cX3_tick 30 = .ok (.if_icmp .le 5, 3) := dk_164 0 5 (dk_at dksX3_tick_1 6 rfl rfl)
theorem dX3_tick_33 : decode cX3_tick 33 = .ok (.iconst (-1), 1) := dk_2 (dk_at dksX3_tick_1 9 rfl rfl)
theorem dX3_tick_34 : decode cX3_tick 34 = .ok (.ireturn, 1) := dk_172 (dk_at dksX3_tick_1 10 rfl rfl)
theorem dX3_tick_35 : decode cX3_tick 35 = .ok (.aload_n 0, 1) := dk_42 (dk_at dksX3_tick_1 11 rfl rfl)
theorem dX3_tick_36 : decode cX3_tick 36 = .ok (.iload_n 1, 1) := dk_27 (dk_at dksX3_tick_1 12 rfl rfl)
theorem dX3_tick_37 : decode cX3_tick 37 = .ok (.iload_n 2, 1) := dk_28 (dk_at dksX3_tick_1 13 rfl rfl)
theorem dX3_tick_38 : decode cX3_tick 38 = .ok (.invokevirtual 437, 3) := dk_182 1 181 (dk_at dksX3_tick_1 14 rfl rfl)
theorem dX3_tick_41 : decode cX3_tick 41 = .ok (.aload_n 0, 1) := dk_42 (dk_at dksX3_tick_1 17 rfl rfl)
theorem dX3_tick_42 : decode cX3_tick 42 = .ok (.getfield 42, 3) := dk_180 0 42 (dk_at dksX3_tick_1 18 rfl rfl)
theorem dX3_tick_45 : decode cX3_tick 45 = .ok (.iconst 4, 1) := dk_7 (dk_at dksX3_tick_1 21 rfl rfl)
theorem dX3_tick_46 : decode cX3_tick 46 = .ok (.iaload, 1) := dk_46 (dk_at dksX3_tick_1 22 rfl rfl)
theorem dX3_tick_47 : decode cX3_tick 47 = .ok (.ireturn, 1) := dk_172 (dk_at dksX3_tick_1 23 rfl rfl)
abbrev cX3_isRule : ByteArray := prog_19_method_35_code
def yX3_isRule : MethodName := ⟨RX3, "isRule", "(I)Z"⟩
def dkwX3_isRule_0 : List UInt8 := [27, 155, 0, 15, 27, 42, 180, 0, 250, 162, 0, 7, 4, 167, 0, 4, 3, 172]
abbrev dktX3_isRule_0 : List UInt8 := dkwX3_isRule_0 ++ []
theorem dksX3_isRule_0 : cX3_isRule.data.toList.drop 0 = dktX3_isRule_0 := by decide +kernel
theorem dX3_isRule_0 : decode cX3_isRule 0 = .ok (.iload_n 1, 1) := dk_27 (dk_at dksX3_isRule_0 0 rfl rfl)
theorem dX3_isRule_1 : decode cX3_isRule 1 = .ok (.ifCond .lt 15, 3) := dk_155 0 15 (dk_at dksX3_isRule_0 1 rfl rfl)
theorem dX3_isRule_4 : decode cX3_isRule 4 = .ok (.iload_n 1, 1) := dk_27 (dk_at dksX3_isRule_0 4 rfl rfl)
theorem dX3_isRule_5 : decode cX3_isRule 5 = .ok (.aload_n 0, 1) := dk_42 (dk_at dksX3_isRule_0 5 rfl rfl)
theorem dX3_isRule_6 : decode cX3_isRule 6 = .ok (.getfield 250, 3) := dk_180 0 250 (dk_at dksX3_isRule_0 6 rfl rfl)
theorem dX3_isRule_9 : decode cX3_isRule 9 = .ok (.if_icmp .ge 7, 3) := dk_162 0 7 (dk_at dksX3_isRule_0 9 rfl rfl)
theorem dX3_isRule_12 : decode cX3_isRule 12 = .ok (.iconst 1, 1) := dk_4 (dk_at dksX3_isRule_0 12 rfl rfl)
theorem dX3_isRule_13 : decode cX3_isRule 13 = .ok (.goto 4, 3) := dk_167 0 4 (dk_at dksX3_isRule_0 13 rfl rfl)
theorem dX3_isRule_16 : decode cX3_isRule 16 = .ok (.iconst 0, 1) := dk_3 (dk_at dksX3_isRule_0 16 rfl rfl)
theorem dX3_isRule_17 : decode cX3_isRule 17 = .ok (.ireturn, 1) := dk_172 (dk_at dksX3_isRule_0 17 rfl rfl)
abbrev cX3_minutes : ByteArray := prog_19_method_99_code
def yX3_minutes : MethodName := ⟨RX3, "minutes", "(II)V"⟩
def dkwX3_minutes_0 : List UInt8 := [3, 62, 29, 28, 162, 0, 14, 42, 27, 182, 1, 173, 132, 3, 1, 167, 255, 243, 177]
abbrev dktX3_minutes_0 : List UInt8 := dkwX3_minutes_0 ++ []
theorem dksX3_minutes_0 : cX3_minutes.data.toList.drop 0 = dktX3_minutes_0 := by decide +kernel
theorem dX3_minutes_0 : decode cX3_minutes 0 = .ok (.iconst 0, 1) := dk_3 (dk_at dksX3_minutes_0 0 rfl rfl)
theorem dX3_minutes_1 : decode cX3_minutes 1 = .ok (.istore_n 3, 1) := dk_62 (dk_at dksX3_minutes_0 1 rfl rfl)
theorem dX3_minutes_2 : decode cX3_minutes 2 = .ok (.iload_n 3, 1) := dk_29 (dk_at dksX3_minutes_0 2 rfl rfl)
theorem dX3_minutes_3 : decode cX3_minutes 3 = .ok (.iload_n 2, 1) := dk_28 (dk_at dksX3_minutes_0 3 rfl rfl)
theorem dX3_minutes_4 : decode cX3_minutes 4 = .ok (.if_icmp .ge 14, 3) := dk_162 0 14 (dk_at dksX3_minutes_0 4 rfl rfl)
theorem dX3_minutes_7 : decode cX3_minutes 7 = .ok (.aload_n 0, 1) := dk_42 (dk_at dksX3_minutes_0 7 rfl rfl)
theorem dX3_minutes_8 : decode cX3_minutes 8 = .ok (.iload_n 1, 1) := dk_27 (dk_at dksX3_minutes_0 8 rfl rfl)
theorem dX3_minutes_9 : decode cX3_minutes 9 = .ok (.invokevirtual 429, 3) := dk_182 1 173 (dk_at dksX3_minutes_0 9 rfl rfl)
theorem dX3_minutes_12 : decode cX3_minutes 12 = .ok (.iinc 3 1, 3) := dk_132 3 1 (dk_at dksX3_minutes_0 12 rfl rfl)
theorem dX3_minutes_15 : decode cX3_minutes 15 = .ok (.goto (-13), 3) := dk_167 255 243 (dk_at dksX3_minutes_0 15 rfl rfl)
theorem dX3_minutes_18 : decode cX3_minutes 18 = .ok (.return_, 1) := dk_177 (dk_at dksX3_minutes_0 18 rfl rfl)
abbrev cX3_minute : ByteArray := prog_19_method_98_code
def yX3_minute : MethodName := ⟨RX3, "minute", "(I)V"⟩
def dkwX3_minute_10 : List UInt8 := [167, 255, 174, 42, 180, 0, 42, 7, 92, 46, 4, 96, 79, 177]
abbrev dktX3_minute_10 : List UInt8 := dkwX3_minute_10 ++ []
def dkwX3_minute_9 : List UInt8 := [182, 1, 23, 159, 0, 7, 4, 167, 0, 4, 3, 96, 79, 132, 3, 1, 167, 255, 192, 132, 2, 1]
abbrev dktX3_minute_9 : List UInt8 := dkwX3_minute_9 ++ dktX3_minute_10
def dkwX3_minute_8 : List UInt8 := [182, 1, 23, 42, 29, 6, 182, 1, 23, 160, 0, 24, 42, 28, 16, 6, 182, 1, 23, 42, 29, 16, 6]
abbrev dktX3_minute_8 : List UInt8 := dkwX3_minute_8 ++ dktX3_minute_9
def dkwX3_minute_7 : List UInt8 := [28, 162, 0, 65, 42, 180, 0, 42, 8, 92, 46, 42, 28, 6, 182, 1, 23, 2, 159, 0, 39, 42, 28, 6]
abbrev dktX3_minute_7 : List UInt8 := dkwX3_minute_7 ++ dktX3_minute_8
def dkwX3_minute_6 : List UInt8 := [182, 1, 170, 132, 2, 1, 167, 255, 197, 3, 61, 28, 42, 180, 0, 42, 4, 46, 162, 0, 78, 3, 62, 29]
abbrev dktX3_minute_6 : List UInt8 := dkwX3_minute_6 ++ dktX3_minute_7
def dkwX3_minute_5 : List UInt8 := [182, 1, 23, 159, 0, 24, 42, 180, 0, 42, 7, 46, 42, 28, 5, 182, 1, 23, 161, 0, 9, 42, 27, 28]
abbrev dktX3_minute_5 : List UInt8 := dkwX3_minute_5 ++ dktX3_minute_6
def dkwX3_minute_4 : List UInt8 := [46, 162, 0, 55, 42, 28, 6, 182, 1, 23, 2, 160, 0, 39, 42, 28, 3, 182, 1, 23, 42, 28, 4]
abbrev dktX3_minute_4 : List UInt8 := dkwX3_minute_4 ++ dktX3_minute_5
def dkwX3_minute_3 : List UInt8 := [180, 0, 42, 7, 46, 4, 96, 182, 1, 63, 132, 2, 1, 167, 255, 174, 3, 61, 28, 42, 180, 0, 42, 4]
abbrev dktX3_minute_3 : List UInt8 := dkwX3_minute_3 ++ dktX3_minute_4
def dkwX3_minute_2 : List UInt8 := [182, 1, 23, 42, 29, 5, 182, 1, 19, 160, 0, 24, 42, 28, 29, 42, 28, 16, 6, 182, 1, 23, 42]
abbrev dktX3_minute_2 : List UInt8 := dkwX3_minute_2 ++ dktX3_minute_3
def dkwX3_minute_1 : List UInt8 := [167, 0, 57, 42, 180, 0, 42, 16, 80, 16, 7, 28, 104, 96, 7, 96, 92, 46, 4, 96, 79, 42, 28, 7]
abbrev dktX3_minute_1 : List UInt8 := dkwX3_minute_1 ++ dktX3_minute_2
def dkwX3_minute_0 : List UInt8 := [3, 61, 28, 42, 180, 0, 42, 4, 46, 162, 0, 78, 42, 28, 6, 182, 1, 23, 62, 29, 2, 160, 0, 6]
abbrev dktX3_minute_0 : List UInt8 := dkwX3_minute_0 ++ dktX3_minute_1
theorem dksX3_minute_0 : cX3_minute.data.toList.drop 0 = dktX3_minute_0 := by decide +kernel
theorem dksX3_minute_1 : cX3_minute.data.toList.drop 24 = dktX3_minute_1 := dk_seg dksX3_minute_0 24 rfl rfl
theorem dksX3_minute_2 : cX3_minute.data.toList.drop 48 = dktX3_minute_2 := dk_seg dksX3_minute_1 24 rfl rfl
theorem dksX3_minute_3 : cX3_minute.data.toList.drop 71 = dktX3_minute_3 := dk_seg dksX3_minute_2 23 rfl rfl
theorem dksX3_minute_4 : cX3_minute.data.toList.drop 95 = dktX3_minute_4 := dk_seg dksX3_minute_3 24 rfl rfl
theorem dksX3_minute_5 : cX3_minute.data.toList.drop 118 = dktX3_minute_5 := dk_seg dksX3_minute_4 23 rfl rfl
theorem dksX3_minute_6 : cX3_minute.data.toList.drop 142 = dktX3_minute_6 := dk_seg dksX3_minute_5 24 rfl rfl
theorem dksX3_minute_7 : cX3_minute.data.toList.drop 166 = dktX3_minute_7 := dk_seg dksX3_minute_6 24 rfl rfl
theorem dksX3_minute_8 : cX3_minute.data.toList.drop 190 = dktX3_minute_8 := dk_seg dksX3_minute_7 24 rfl rfl
theorem dksX3_minute_9 : cX3_minute.data.toList.drop 213 = dktX3_minute_9 := dk_seg dksX3_minute_8 23 rfl rfl
theorem dksX3_minute_10 : cX3_minute.data.toList.drop 235 = dktX3_minute_10 := dk_seg dksX3_minute_9 22 rfl rfl
theorem dX3_minute_0 : decode cX3_minute 0 = .ok (.iconst 0, 1) := dk_3 (dk_at dksX3_minute_0 0 rfl rfl)
theorem dX3_minute_1 : decode cX3_minute 1 = .ok (.istore_n 2, 1) := dk_61 (dk_at dksX3_minute_0 1 rfl rfl)
theorem dX3_minute_2 : decode cX3_minute 2 = .ok (.iload_n 2, 1) := dk_28 (dk_at dksX3_minute_0 2 rfl rfl)
theorem dX3_minute_3 : decode cX3_minute 3 = .ok (.aload_n 0, 1) := dk_42 (dk_at dksX3_minute_0 3 rfl rfl)
theorem dX3_minute_4 : decode cX3_minute 4 = .ok (.getfield 42, 3) := dk_180 0 42 (dk_at dksX3_minute_0 4 rfl rfl)
theorem dX3_minute_7 : decode cX3_minute 7 = .ok (.iconst 1, 1) := dk_4 (dk_at dksX3_minute_0 7 rfl rfl)
theorem dX3_minute_8 : decode cX3_minute 8 = .ok (.iaload, 1) := dk_46 (dk_at dksX3_minute_0 8 rfl rfl)
theorem dX3_minute_9 : decode cX3_minute 9 = .ok (.if_icmp .ge 78, 3) := dk_162 0 78 (dk_at dksX3_minute_0 9 rfl rfl)
theorem dX3_minute_12 : decode cX3_minute 12 = .ok (.aload_n 0, 1) := dk_42 (dk_at dksX3_minute_0 12 rfl rfl)
theorem dX3_minute_13 : decode cX3_minute 13 = .ok (.iload_n 2, 1) := dk_28 (dk_at dksX3_minute_0 13 rfl rfl)
theorem dX3_minute_14 : decode cX3_minute 14 = .ok (.iconst 3, 1) := dk_6 (dk_at dksX3_minute_0 14 rfl rfl)
theorem dX3_minute_15 : decode cX3_minute 15 = .ok (.invokevirtual 279, 3) := dk_182 1 23 (dk_at dksX3_minute_0 15 rfl rfl)
theorem dX3_minute_18 : decode cX3_minute 18 = .ok (.istore_n 3, 1) := dk_62 (dk_at dksX3_minute_0 18 rfl rfl)
theorem dX3_minute_19 : decode cX3_minute 19 = .ok (.iload_n 3, 1) := dk_29 (dk_at dksX3_minute_0 19 rfl rfl)
theorem dX3_minute_20 : decode cX3_minute 20 = .ok (.iconst (-1), 1) := dk_2 (dk_at dksX3_minute_0 20 rfl rfl)
theorem dX3_minute_21 : decode cX3_minute 21 = .ok (.if_icmp .ne 6, 3) := dk_160 0 6 (dk_at dksX3_minute_0 21 rfl rfl)
theorem dX3_minute_24 : decode cX3_minute 24 = .ok (.goto 57, 3) := dk_167 0 57 (dk_at dksX3_minute_1 0 rfl rfl)
theorem dX3_minute_27 : decode cX3_minute 27 = .ok (.aload_n 0, 1) := dk_42 (dk_at dksX3_minute_1 3 rfl rfl)
theorem dX3_minute_28 : decode cX3_minute 28 = .ok (.getfield 42, 3) := dk_180 0 42 (dk_at dksX3_minute_1 4 rfl rfl)
theorem dX3_minute_31 : decode cX3_minute 31 = .ok (.bipush 80, 2) := dk_16 80 (dk_at dksX3_minute_1 7 rfl rfl)
theorem dX3_minute_33 : decode cX3_minute 33 = .ok (.bipush 7, 2) := dk_16 7 (dk_at dksX3_minute_1 9 rfl rfl)
theorem dX3_minute_35 : decode cX3_minute 35 = .ok (.iload_n 2, 1) := dk_28 (dk_at dksX3_minute_1 11 rfl rfl)
theorem dX3_minute_36 : decode cX3_minute 36 = .ok (.imul, 1) := dk_104 (dk_at dksX3_minute_1 12 rfl rfl)
theorem dX3_minute_37 : decode cX3_minute 37 = .ok (.iadd, 1) := dk_96 (dk_at dksX3_minute_1 13 rfl rfl)
theorem dX3_minute_38 : decode cX3_minute 38 = .ok (.iconst 4, 1) := dk_7 (dk_at dksX3_minute_1 14 rfl rfl)
theorem dX3_minute_39 : decode cX3_minute 39 = .ok (.iadd, 1) := dk_96 (dk_at dksX3_minute_1 15 rfl rfl)
theorem dX3_minute_40 : decode cX3_minute 40 = .ok (.dup2, 1) := dk_92 (dk_at dksX3_minute_1 16 rfl rfl)
theorem dX3_minute_41 : decode cX3_minute 41 = .ok (.iaload, 1) := dk_46 (dk_at dksX3_minute_1 17 rfl rfl)
theorem dX3_minute_42 : decode cX3_minute 42 = .ok (.iconst 1, 1) := dk_4 (dk_at dksX3_minute_1 18 rfl rfl)
theorem dX3_minute_43 : decode cX3_minute 43 = .ok (.iadd, 1) := dk_96 (dk_at dksX3_minute_1 19 rfl rfl)
theorem dX3_minute_44 : decode cX3_minute 44 = .ok (.iastore, 1) := dk_79 (dk_at dksX3_minute_1 20 rfl rfl)
theorem dX3_minute_45 : decode cX3_minute 45 = .ok (.aload_n 0, 1) := dk_42 (dk_at dksX3_minute_1 21 rfl rfl)
theorem dX3_minute_46 : decode cX3_minute 46 = .ok (.iload_n 2, 1) := dk_28 (dk_at dksX3_minute_1 22 rfl rfl)
theorem dX3_minute_47 : decode cX3_minute 47 = .ok (.iconst 4, 1) := dk_7 (dk_at dksX3_minute_1 23 rfl rfl)
theorem dX3_minute_48 : decode cX3_minute 48 = .ok (.invokevirtual 279, 3) := dk_182 1 23 (dk_at dksX3_minute_2 0 rfl rfl)
theorem dX3_minute_51 : decode cX3_minute 51 = .ok (.aload_n 0, 1) := dk_42 (dk_at dksX3_minute_2 3 rfl rfl)
theorem dX3_minute_52 : decode cX3_minute 52 = .ok (.iload_n 3, 1) := dk_29 (dk_at dksX3_minute_2 4 rfl rfl)
theorem dX3_minute_53 : decode cX3_minute 53 = .ok (.iconst 2, 1) := dk_5 (dk_at dksX3_minute_2 5 rfl rfl)
theorem dX3_minute_54 : decode cX3_minute 54 = .ok (.invokevirtual 275, 3) := dk_182 1 19 (dk_at dksX3_minute_2 6 rfl rfl)
theorem dX3_minute_57 : decode cX3_minute 57 = .ok (.if_icmp .ne 24, 3) := dk_160 0 24 (dk_at dksX3_minute_2 9 rfl rfl)
theorem dX3_minute_60 : decode cX3_minute 60 = .ok (.aload_n 0, 1) := dk_42 (dk_at dksX3_minute_2 12 rfl rfl)
theorem dX3_minute_61 : decode cX3_minute 61 = .ok (.iload_n 2, 1) := dk_28 (dk_at dksX3_minute_2 13 rfl rfl)
theorem dX3_minute_62 : decode cX3_minute 62 = .ok (.iload_n 3, 1) := dk_29 (dk_at dksX3_minute_2 14 rfl rfl)
theorem dX3_minute_63 : decode cX3_minute 63 = .ok (.aload_n 0, 1) := dk_42 (dk_at dksX3_minute_2 15 rfl rfl)
theorem dX3_minute_64 : decode cX3_minute 64 = .ok (.iload_n 2, 1) := dk_28 (dk_at dksX3_minute_2 16 rfl rfl)
theorem dX3_minute_65 : decode cX3_minute 65 = .ok (.bipush 6, 2) := dk_16 6 (dk_at dksX3_minute_2 17 rfl rfl)
theorem dX3_minute_67 : decode cX3_minute 67 = .ok (.invokevirtual 279, 3) := dk_182 1 23 (dk_at dksX3_minute_2 19 rfl rfl)
theorem dX3_minute_70 : decode cX3_minute 70 = .ok (.aload_n 0, 1) := dk_42 (dk_at dksX3_minute_2 22 rfl rfl)
theorem dX3_minute_71 : decode cX3_minute 71 = .ok (.getfield 42, 3) := dk_180 0 42 (dk_at dksX3_minute_3 0 rfl rfl)
theorem dX3_minute_74 : decode cX3_minute 74 = .ok (.iconst 4, 1) := dk_7 (dk_at dksX3_minute_3 3 rfl rfl)
theorem dX3_minute_75 : decode cX3_minute 75 = .ok (.iaload, 1) := dk_46 (dk_at dksX3_minute_3 4 rfl rfl)
theorem dX3_minute_76 : decode cX3_minute 76 = .ok (.iconst 1, 1) := dk_4 (dk_at dksX3_minute_3 5 rfl rfl)
theorem dX3_minute_77 : decode cX3_minute 77 = .ok (.iadd, 1) := dk_96 (dk_at dksX3_minute_3 6 rfl rfl)
theorem dX3_minute_78 : decode cX3_minute 78 = .ok (.invokevirtual 319, 3) := dk_182 1 63 (dk_at dksX3_minute_3 7 rfl rfl)
theorem dX3_minute_81 : decode cX3_minute 81 = .ok (.iinc 2 1, 3) := dk_132 2 1 (dk_at dksX3_minute_3 10 rfl rfl)
theorem dX3_minute_84 : decode cX3_minute 84 = .ok (.goto (-82), 3) := dk_167 255 174 (dk_at dksX3_minute_3 13 rfl rfl)
theorem dX3_minute_87 : decode cX3_minute 87 = .ok (.iconst 0, 1) := dk_3 (dk_at dksX3_minute_3 16 rfl rfl)
theorem dX3_minute_88 : decode cX3_minute 88 = .ok (.istore_n 2, 1) := dk_61 (dk_at dksX3_minute_3 17 rfl rfl)
theorem dX3_minute_89 : decode cX3_minute 89 = .ok (.iload_n 2, 1) := dk_28 (dk_at dksX3_minute_3 18 rfl rfl)
theorem dX3_minute_90 : decode cX3_minute 90 = .ok (.aload_n 0, 1) := dk_42 (dk_at dksX3_minute_3 19 rfl rfl)
theorem dX3_minute_91 : decode cX3_minute 91 = .ok (.getfield 42, 3) := dk_180 0 42 (dk_at dksX3_minute_3 20 rfl rfl)
theorem dX3_minute_94 : decode cX3_minute 94 = .ok (.iconst 1, 1) := dk_4 (dk_at dksX3_minute_3 23 rfl rfl)
theorem dX3_minute_95 : decode cX3_minute 95 = .ok (.iaload, 1) := dk_46 (dk_at dksX3_minute_4 0 rfl rfl)
theorem dX3_minute_96 : decode cX3_minute 96 = .ok (.if_icmp .ge 55, 3) := dk_162 0 55 (dk_at dksX3_minute_4 1 rfl rfl)
theorem dX3_minute_99 : decode cX3_minute 99 = .ok (.aload_n 0, 1) := dk_42 (dk_at dksX3_minute_4 4 rfl rfl)
theorem dX3_minute_100 : decode cX3_minute 100 = .ok (.iload_n 2, 1) := dk_28 (dk_at dksX3_minute_4 5 rfl rfl)
theorem dX3_minute_101 : decode cX3_minute 101 = .ok (.iconst 3, 1) := dk_6 (dk_at dksX3_minute_4 6 rfl rfl)
theorem dX3_minute_102 : decode cX3_minute 102 = .ok (.invokevirtual 279, 3) := dk_182 1 23 (dk_at dksX3_minute_4 7 rfl rfl)
theorem dX3_minute_105 : decode cX3_minute 105 = .ok (.iconst (-1), 1) := dk_2 (dk_at dksX3_minute_4 10 rfl rfl)
theorem dX3_minute_106 : decode cX3_minute 106 = .ok (.if_icmp .ne 39, 3) := dk_160 0 39 (dk_at dksX3_minute_4 11 rfl rfl)
theorem dX3_minute_109 : decode cX3_minute 109 = .ok (.aload_n 0, 1) := dk_42 (dk_at dksX3_minute_4 14 rfl rfl)
theorem dX3_minute_110 : decode cX3_minute 110 = .ok (.iload_n 2, 1) := dk_28 (dk_at dksX3_minute_4 15 rfl rfl)
theorem dX3_minute_111 : decode cX3_minute 111 = .ok (.iconst 0, 1) := dk_3 (dk_at dksX3_minute_4 16 rfl rfl)
theorem dX3_minute_112 : decode cX3_minute 112 = .ok (.invokevirtual 279, 3) := dk_182 1 23 (dk_at dksX3_minute_4 17 rfl rfl)
theorem dX3_minute_115 : decode cX3_minute 115 = .ok (.aload_n 0, 1) := dk_42 (dk_at dksX3_minute_4 20 rfl rfl)
theorem dX3_minute_116 : decode cX3_minute 116 = .ok (.iload_n 2, 1) := dk_28 (dk_at dksX3_minute_4 21 rfl rfl)
theorem dX3_minute_117 : decode cX3_minute 117 = .ok (.iconst 1, 1) := dk_4 (dk_at dksX3_minute_4 22 rfl rfl)
theorem dX3_minute_118 : decode cX3_minute 118 = .ok (.invokevirtual 279, 3) := dk_182 1 23 (dk_at dksX3_minute_5 0 rfl rfl)
theorem dX3_minute_121 : decode cX3_minute 121 = .ok (.if_icmp .eq 24, 3) := dk_159 0 24 (dk_at dksX3_minute_5 3 rfl rfl)
theorem dX3_minute_124 : decode cX3_minute 124 = .ok (.aload_n 0, 1) := dk_42 (dk_at dksX3_minute_5 6 rfl rfl)
theorem dX3_minute_125 : decode cX3_minute 125 = .ok (.getfield 42, 3) := dk_180 0 42 (dk_at dksX3_minute_5 7 rfl rfl)
theorem dX3_minute_128 : decode cX3_minute 128 = .ok (.iconst 4, 1) := dk_7 (dk_at dksX3_minute_5 10 rfl rfl)
theorem dX3_minute_129 : decode cX3_minute 129 = .ok (.iaload, 1) := dk_46 (dk_at dksX3_minute_5 11 rfl rfl)
theorem dX3_minute_130 : decode cX3_minute 130 = .ok (.aload_n 0, 1) := dk_42 (dk_at dksX3_minute_5 12 rfl rfl)
theorem dX3_minute_131 : decode cX3_minute 131 = .ok (.iload_n 2, 1) := dk_28 (dk_at dksX3_minute_5 13 rfl rfl)
theorem dX3_minute_132 : decode cX3_minute 132 = .ok (.iconst 2, 1) := dk_5 (dk_at dksX3_minute_5 14 rfl rfl)
theorem dX3_minute_133 : decode cX3_minute 133 = .ok (.invokevirtual 279, 3) := dk_182 1 23 (dk_at dksX3_minute_5 15 rfl rfl)
theorem dX3_minute_136 : decode cX3_minute 136 = .ok (.if_icmp .lt 9, 3) := dk_161 0 9 (dk_at dksX3_minute_5 18 rfl rfl)
theorem dX3_minute_139 : decode cX3_minute 139 = .ok (.aload_n 0, 1) := dk_42 (dk_at dksX3_minute_5 21 rfl rfl)
theorem dX3_minute_140 : decode cX3_minute 140 = .ok (.iload_n 1, 1) := dk_27 (dk_at dksX3_minute_5 22 rfl rfl)
theorem dX3_minute_141 : decode cX3_minute 141 = .ok (.iload_n 2, 1) := dk_28 (dk_at dksX3_minute_5 23 rfl rfl)
theorem dX3_minute_142 : decode cX3_minute 142 = .ok (.invokevirtual 426, 3) := dk_182 1 170 (dk_at dksX3_minute_6 0 rfl rfl)
theorem dX3_minute_145 : decode cX3_minute 145 = .ok (.iinc 2 1, 3) := dk_132 2 1 (dk_at dksX3_minute_6 3 rfl rfl)
theorem dX3_minute_148 : decode cX3_minute 148 = .ok (.goto (-59), 3) := dk_167 255 197 (dk_at dksX3_minute_6 6 rfl rfl)
theorem dX3_minute_151 : decode cX3_minute 151 = .ok (.iconst 0, 1) := dk_3 (dk_at dksX3_minute_6 9 rfl rfl)
theorem dX3_minute_152 : decode cX3_minute 152 = .ok (.istore_n 2, 1) := dk_61 (dk_at dksX3_minute_6 10 rfl rfl)
theorem dX3_minute_153 : decode cX3_minute 153 = .ok (.iload_n 2, 1) := dk_28 (dk_at dksX3_minute_6 11 rfl rfl)
theorem dX3_minute_154 : decode cX3_minute 154 = .ok (.aload_n 0, 1) := dk_42 (dk_at dksX3_minute_6 12 rfl rfl)
theorem dX3_minute_155 : decode cX3_minute 155 = .ok (.getfield 42, 3) := dk_180 0 42 (dk_at dksX3_minute_6 13 rfl rfl)
theorem dX3_minute_158 : decode cX3_minute 158 = .ok (.iconst 1, 1) := dk_4 (dk_at dksX3_minute_6 16 rfl rfl)
theorem dX3_minute_159 : decode cX3_minute 159 = .ok (.iaload, 1) := dk_46 (dk_at dksX3_minute_6 17 rfl rfl)
theorem dX3_minute_160 : decode cX3_minute 160 = .ok (.if_icmp .ge 78, 3) := dk_162 0 78 (dk_at dksX3_minute_6 18 rfl rfl)
theorem dX3_minute_163 : decode cX3_minute 163 = .ok (.iconst 0, 1) := dk_3 (dk_at dksX3_minute_6 21 rfl rfl)
theorem dX3_minute_164 : decode cX3_minute 164 = .ok (.istore_n 3, 1) := dk_62 (dk_at dksX3_minute_6 22 rfl rfl)
theorem dX3_minute_165 : decode cX3_minute 165 = .ok (.iload_n 3, 1) := dk_29 (dk_at dksX3_minute_6 23 rfl rfl)
theorem dX3_minute_166 : decode cX3_minute 166 = .ok (.iload_n 2, 1) := dk_28 (dk_at dksX3_minute_7 0 rfl rfl)
theorem dX3_minute_167 : decode cX3_minute 167 = .ok (.if_icmp .ge 65, 3) := dk_162 0 65 (dk_at dksX3_minute_7 1 rfl rfl)
theorem dX3_minute_170 : decode cX3_minute 170 = .ok (.aload_n 0, 1) := dk_42 (dk_at dksX3_minute_7 4 rfl rfl)
theorem dX3_minute_171 : decode cX3_minute 171 = .ok (.getfield 42, 3) := dk_180 0 42 (dk_at dksX3_minute_7 5 rfl rfl)
theorem dX3_minute_174 : decode cX3_minute 174 = .ok (.iconst 5, 1) := dk_8 (dk_at dksX3_minute_7 8 rfl rfl)
theorem dX3_minute_175 : decode cX3_minute 175 = .ok (.dup2, 1) := dk_92 (dk_at dksX3_minute_7 9 rfl rfl)
theorem dX3_minute_176 : decode cX3_minute 176 = .ok (.iaload, 1) := dk_46 (dk_at dksX3_minute_7 10 rfl rfl)
theorem dX3_minute_177 : decode cX3_minute 177 = .ok (.aload_n 0, 1) := dk_42 (dk_at dksX3_minute_7 11 rfl rfl)
theorem dX3_minute_178 : decode cX3_minute 178 = .ok (.iload_n 2, 1) := dk_28 (dk_at dksX3_minute_7 12 rfl rfl)
theorem dX3_minute_179 : decode cX3_minute 179 = .ok (.iconst 3, 1) := dk_6 (dk_at dksX3_minute_7 13 rfl rfl)
theorem dX3_minute_180 : decode cX3_minute 180 = .ok (.invokevirtual 279, 3) := dk_182 1 23 (dk_at dksX3_minute_7 14 rfl rfl)
theorem dX3_minute_183 : decode cX3_minute 183 = .ok (.iconst (-1), 1) := dk_2 (dk_at dksX3_minute_7 17 rfl rfl)
theorem dX3_minute_184 : decode cX3_minute 184 = .ok (.if_icmp .eq 39, 3) := dk_159 0 39 (dk_at dksX3_minute_7 18 rfl rfl)
theorem dX3_minute_187 : decode cX3_minute 187 = .ok (.aload_n 0, 1) := dk_42 (dk_at dksX3_minute_7 21 rfl rfl)
theorem dX3_minute_188 : decode cX3_minute 188 = .ok (.iload_n 2, 1) := dk_28 (dk_at dksX3_minute_7 22 rfl rfl)
theorem dX3_minute_189 : decode cX3_minute 189 = .ok (.iconst 3, 1) := dk_6 (dk_at dksX3_minute_7 23 rfl rfl)
theorem dX3_minute_190 : decode cX3_minute 190 = .ok (.invokevirtual 279, 3) := dk_182 1 23 (dk_at dksX3_minute_8 0 rfl rfl)
theorem dX3_minute_193 : decode cX3_minute 193 = .ok (.aload_n 0, 1) := dk_42 (dk_at dksX3_minute_8 3 rfl rfl)
theorem dX3_minute_194 : decode cX3_minute 194 = .ok (.iload_n 3, 1) := dk_29 (dk_at dksX3_minute_8 4 rfl rfl)
theorem dX3_minute_195 : decode cX3_minute 195 = .ok (.iconst 3, 1) := dk_6 (dk_at dksX3_minute_8 5 rfl rfl)
theorem dX3_minute_196 : decode cX3_minute 196 = .ok (.invokevirtual 279, 3) := dk_182 1 23 (dk_at dksX3_minute_8 6 rfl rfl)
theorem dX3_minute_199 : decode cX3_minute 199 = .ok (.if_icmp .ne 24, 3) := dk_160 0 24 (dk_at dksX3_minute_8 9 rfl rfl)
theorem dX3_minute_202 : decode cX3_minute 202 = .ok (.aload_n 0, 1) := dk_42 (dk_at dksX3_minute_8 12 rfl rfl)
theorem dX3_minute_203 : decode cX3_minute 203 = .ok (.iload_n 2, 1) := dk_28 (dk_at dksX3_minute_8 13 rfl rfl)
theorem dX3_minute_204 : decode cX3_minute 204 = .ok (.bipush 6, 2) := dk_16 6 (dk_at dksX3_minute_8 14 rfl rfl)
theorem dX3_minute_206 : decode cX3_minute 206 = .ok (.invokevirtual 279, 3) := dk_182 1 23 (dk_at dksX3_minute_8 16 rfl rfl)
theorem dX3_minute_209 : decode cX3_minute 209 = .ok (.aload_n 0, 1) := dk_42 (dk_at dksX3_minute_8 19 rfl rfl)
theorem dX3_minute_210 : decode cX3_minute 210 = .ok (.iload_n 3, 1) := dk_29 (dk_at dksX3_minute_8 20 rfl rfl)
theorem dX3_minute_211 : decode cX3_minute 211 = .ok (.bipush 6, 2) := dk_16 6 (dk_at dksX3_minute_8 21 rfl rfl)
theorem dX3_minute_213 : decode cX3_minute 213 = .ok (.invokevirtual 279, 3) := dk_182 1 23 (dk_at dksX3_minute_9 0 rfl rfl)
theorem dX3_minute_216 : decode cX3_minute 216 = .ok (.if_icmp .eq 7, 3) := dk_159 0 7 (dk_at dksX3_minute_9 3 rfl rfl)
theorem dX3_minute_219 : decode cX3_minute 219 = .ok (.iconst 1, 1) := dk_4 (dk_at dksX3_minute_9 6 rfl rfl)
theorem dX3_minute_220 : decode cX3_minute 220 = .ok (.goto 4, 3) := dk_167 0 4 (dk_at dksX3_minute_9 7 rfl rfl)
theorem dX3_minute_223 : decode cX3_minute 223 = .ok (.iconst 0, 1) := dk_3 (dk_at dksX3_minute_9 10 rfl rfl)
theorem dX3_minute_224 : decode cX3_minute 224 = .ok (.iadd, 1) := dk_96 (dk_at dksX3_minute_9 11 rfl rfl)
theorem dX3_minute_225 : decode cX3_minute 225 = .ok (.iastore, 1) := dk_79 (dk_at dksX3_minute_9 12 rfl rfl)
theorem dX3_minute_226 : decode cX3_minute 226 = .ok (.iinc 3 1, 3) := dk_132 3 1 (dk_at dksX3_minute_9 13 rfl rfl)
theorem dX3_minute_229 : decode cX3_minute 229 = .ok (.goto (-64), 3) := dk_167 255 192 (dk_at dksX3_minute_9 16 rfl rfl)
theorem dX3_minute_232 : decode cX3_minute 232 = .ok (.iinc 2 1, 3) := dk_132 2 1 (dk_at dksX3_minute_9 19 rfl rfl)
theorem dX3_minute_235 : decode cX3_minute 235 = .ok (.goto (-82), 3) := dk_167 255 174 (dk_at dksX3_minute_10 0 rfl rfl)
theorem dX3_minute_238 : decode cX3_minute 238 = .ok (.aload_n 0, 1) := dk_42 (dk_at dksX3_minute_10 3 rfl rfl)
theorem dX3_minute_239 : decode cX3_minute 239 = .ok (.getfield 42, 3) := dk_180 0 42 (dk_at dksX3_minute_10 4 rfl rfl)
theorem dX3_minute_242 : decode cX3_minute 242 = .ok (.iconst 4, 1) := dk_7 (dk_at dksX3_minute_10 7 rfl rfl)
theorem dX3_minute_243 : decode cX3_minute 243 = .ok (.dup2, 1) := dk_92 (dk_at dksX3_minute_10 8 rfl rfl)
theorem dX3_minute_244 : decode cX3_minute 244 = .ok (.iaload, 1) := dk_46 (dk_at dksX3_minute_10 9 rfl rfl)
theorem dX3_minute_245 : decode cX3_minute 245 = .ok (.iconst 1, 1) := dk_4 (dk_at dksX3_minute_10 10 rfl rfl)
theorem dX3_minute_246 : decode cX3_minute 246 = .ok (.iadd, 1) := dk_96 (dk_at dksX3_minute_10 11 rfl rfl)
theorem dX3_minute_247 : decode cX3_minute 247 = .ok (.iastore, 1) := dk_79 (dk_at dksX3_minute_10 12 rfl rfl)
theorem dX3_minute_248 : decode cX3_minute 248 = .ok (.return_, 1) := dk_177 (dk_at dksX3_minute_10 13 rfl rfl)
abbrev cX3_leaves : ByteArray := prog_19_method_97_code
def yX3_leaves : MethodName := ⟨RX3, "leaves", "(II)V"⟩
def dkwX3_leaves_12 : List UInt8 := [21, 7, 16, 6, 96, 42, 42, 180, 0, 42, 5, 46, 21, 4, 4, 182, 1, 29, 79, 177]
abbrev dktX3_leaves_12 : List UInt8 := dkwX3_leaves_12 ++ []
def dkwX3_leaves_11 : List UInt8 := [180, 0, 42, 21, 7, 6, 96, 21, 4, 79, 42, 180, 0, 42, 21, 7, 7, 96, 3, 79, 42, 180, 0, 42]
abbrev dktX3_leaves_11 : List UInt8 := dkwX3_leaves_11 ++ dktX3_leaves_12
def dkwX3_leaves_10 : List UInt8 := [156, 0, 4, 177, 16, 80, 16, 7, 28, 104, 96, 54, 7, 42, 180, 0, 42, 21, 7, 16, 8, 79, 42]
abbrev dktX3_leaves_10 : List UInt8 := dkwX3_leaves_10 ++ dktX3_leaves_11
def dkwX3_leaves_9 : List UInt8 := [157, 0, 6, 167, 0, 11, 21, 7, 54, 4, 22, 9, 55, 5, 132, 7, 1, 167, 255, 69, 21, 4]
abbrev dktX3_leaves_9 : List UInt8 := dkwX3_leaves_9 ++ dktX3_leaves_10
def dkwX3_leaves_8 : List UInt8 := [42, 180, 0, 20, 21, 8, 5, 96, 46, 182, 1, 15, 55, 9, 21, 4, 155, 0, 14, 22, 9, 22, 5, 148]
abbrev dktX3_leaves_8 : List UInt8 := dkwX3_leaves_8 ++ dktX3_leaves_9
def dkwX3_leaves_7 : List UInt8 := [182, 1, 167, 54, 8, 21, 8, 156, 0, 6, 167, 0, 52, 42, 27, 42, 180, 0, 20, 21, 8, 4, 96, 46]
abbrev dktX3_leaves_7 : List UInt8 := dkwX3_leaves_7 ++ dktX3_leaves_8
def dkwX3_leaves_6 : List UInt8 := [182, 1, 19, 133, 80, 42, 180, 0, 39, 16, 11, 42, 21, 7, 182, 1, 38, 133, 80, 42, 27, 3]
abbrev dktX3_leaves_6 : List UInt8 := dkwX3_leaves_6 ++ dktX3_leaves_7
def dkwX3_leaves_5 : List UInt8 := [180, 0, 39, 5, 42, 21, 7, 6, 182, 1, 19, 133, 80, 42, 180, 0, 39, 6, 42, 21, 7, 7]
abbrev dktX3_leaves_5 : List UInt8 := dkwX3_leaves_5 ++ dktX3_leaves_6
def dkwX3_leaves_4 : List UInt8 := [180, 0, 39, 3, 21, 7, 133, 80, 42, 180, 0, 39, 4, 42, 21, 7, 5, 182, 1, 19, 133, 80, 42]
abbrev dktX3_leaves_4 : List UInt8 := dkwX3_leaves_4 ++ dktX3_leaves_5
def dkwX3_leaves_3 : List UInt8 := [182, 1, 161, 42, 28, 42, 42, 180, 0, 42, 5, 46, 21, 7, 4, 182, 1, 29, 182, 1, 164, 42]
abbrev dktX3_leaves_3 : List UInt8 := dkwX3_leaves_3 ++ dktX3_leaves_4
def dkwX3_leaves_2 : List UInt8 := [42, 42, 180, 0, 42, 5, 46, 21, 7, 3, 182, 1, 29, 29, 159, 0, 6, 167, 0, 156, 42, 28]
abbrev dktX3_leaves_2 : List UInt8 := dkwX3_leaves_2 ++ dktX3_leaves_3
def dkwX3_leaves_1 : List UInt8 := [155, 0, 4, 177, 2, 54, 4, 9, 55, 5, 3, 54, 7, 21, 7, 42, 180, 0, 42, 3, 46, 162, 0, 182]
abbrev dktX3_leaves_1 : List UInt8 := dkwX3_leaves_1 ++ dktX3_leaves_2
def dkwX3_leaves_0 : List UInt8 := [42, 28, 3, 182, 1, 23, 62, 42, 28, 182, 1, 161, 42, 28, 29, 182, 1, 164, 42, 27, 4, 182, 1, 167]
abbrev dktX3_leaves_0 : List UInt8 := dkwX3_leaves_0 ++ dktX3_leaves_1
theorem dksX3_leaves_0 : cX3_leaves.data.toList.drop 0 = dktX3_leaves_0 := by decide +kernel
theorem dksX3_leaves_1 : cX3_leaves.data.toList.drop 24 = dktX3_leaves_1 := dk_seg dksX3_leaves_0 24 rfl rfl
theorem dksX3_leaves_2 : cX3_leaves.data.toList.drop 48 = dktX3_leaves_2 := dk_seg dksX3_leaves_1 24 rfl rfl
theorem dksX3_leaves_3 : cX3_leaves.data.toList.drop 70 = dktX3_leaves_3 := dk_seg dksX3_leaves_2 22 rfl rfl
theorem dksX3_leaves_4 : cX3_leaves.data.toList.drop 92 = dktX3_leaves_4 := dk_seg dksX3_leaves_3 22 rfl rfl
theorem dksX3_leaves_5 : cX3_leaves.data.toList.drop 115 = dktX3_leaves_5 := dk_seg dksX3_leaves_4 23 rfl rfl
theorem dksX3_leaves_6 : cX3_leaves.data.toList.drop 137 = dktX3_leaves_6 := dk_seg dksX3_leaves_5 22 rfl rfl
theorem dksX3_leaves_7 : cX3_leaves.data.toList.drop 159 = dktX3_leaves_7 := dk_seg dksX3_leaves_6 22 rfl rfl
theorem dksX3_leaves_8 : cX3_leaves.data.toList.drop 183 = dktX3_leaves_8 := dk_seg dksX3_leaves_7 24 rfl rfl
theorem dksX3_leaves_9 : cX3_leaves.data.toList.drop 207 = dktX3_leaves_9 := dk_seg dksX3_leaves_8 24 rfl rfl
theorem dksX3_leaves_10 : cX3_leaves.data.toList.drop 229 = dktX3_leaves_10 := dk_seg dksX3_leaves_9 22 rfl rfl
theorem dksX3_leaves_11 : cX3_leaves.data.toList.drop 252 = dktX3_leaves_11 := dk_seg dksX3_leaves_10 23 rfl rfl
theorem dksX3_leaves_12 : cX3_leaves.data.toList.drop 276 = dktX3_leaves_12 := dk_seg dksX3_leaves_11 24 rfl rfl
theorem dX3_leaves_0 : decode cX3_leaves 0 = .ok (.aload_n 0, 1) := dk_42 (dk_at dksX3_leaves_0 0 rfl rfl)
theorem dX3_leaves_1 : decode cX3_leaves 1 = .ok (.iload_n 2, 1) := dk_28 (dk_at dksX3_leaves_0 1 rfl rfl)
theorem dX3_leaves_2 : decode cX3_leaves 2 = .ok (.iconst 0, 1) := dk_3 (dk_at dksX3_leaves_0 2 rfl rfl)
theorem dX3_leaves_3 : decode cX3_leaves 3 = .ok (.invokevirtual 279, 3) := dk_182 1 23 (dk_at dksX3_leaves_0 3 rfl rfl)
theorem dX3_leaves_6 : decode cX3_leaves 6 = .ok (.istore_n 3, 1) := dk_62 (dk_at dksX3_leaves_0 6 rfl rfl)
theorem dX3_leaves_7 : decode cX3_leaves 7 = .ok (.aload_n 0, 1) := dk_42 (dk_at dksX3_leaves_0 7 rfl rfl)
theorem dX3_leaves_8 : decode cX3_leaves 8 = .ok (.iload_n 2, 1) := dk_28 (dk_at dksX3_leaves_0 8 rfl rfl)
theorem dX3_leaves_9 : decode cX3_leaves 9 = .ok (.invokevirtual 417, 3) := dk_182 1 161 (dk_at dksX3_leaves_0 9 rfl rfl)
theorem dX3_leaves_12 : decode cX3_leaves 12 = .ok (.aload_n 0, 1) := dk_42 (dk_at dksX3_leaves_0 12 rfl rfl)
theorem dX3_leaves_13 : decode cX3_leaves 13 = .ok (.iload_n 2, 1) := dk_28 (dk_at dksX3_leaves_0 13 rfl rfl)
theorem dX3_leaves_14 : decode cX3_leaves 14 = .ok (.iload_n 3, 1) := dk_29 (dk_at dksX3_leaves_0 14 rfl rfl)
theorem dX3_leaves_15 : decode cX3_leaves 15 = .ok (.invokevirtual 420, 3) := dk_182 1 164 (dk_at dksX3_leaves_0 15 rfl rfl)
theorem dX3_leaves_18 : decode cX3_leaves 18 = .ok (.aload_n 0, 1) := dk_42 (dk_at dksX3_leaves_0 18 rfl rfl)
theorem dX3_leaves_19 : decode cX3_leaves 19 = .ok (.iload_n 1, 1) := dk_27 (dk_at dksX3_leaves_0 19 rfl rfl)
theorem dX3_leaves_20 : decode cX3_leaves 20 = .ok (.iconst 1, 1) := dk_4 (dk_at dksX3_leaves_0 20 rfl rfl)
theorem dX3_leaves_21 : decode cX3_leaves 21 = .ok (.invokevirtual 423, 3) := dk_182 1 167 (dk_at dksX3_leaves_0 21 rfl rfl)
theorem dX3_leaves_24 : decode cX3_leaves 24 = .ok (.ifCond .lt 4, 3) := dk_155 0 4 (dk_at dksX3_leaves_1 0 rfl rfl)
theorem dX3_leaves_27 : decode cX3_leaves 27 = .ok (.return_, 1) := dk_177 (dk_at dksX3_leaves_1 3 rfl rfl)
theorem dX3_leaves_28 : decode cX3_leaves 28 = .ok (.iconst (-1), 1) := dk_2 (dk_at dksX3_leaves_1 4 rfl rfl)
theorem dX3_leaves_29 : decode cX3_leaves 29 = .ok (.istore 4, 2) := dk_54 4 (dk_at dksX3_leaves_1 5 rfl rfl)
theorem dX3_leaves_31 : decode cX3_leaves 31 = .ok (.lconst 0, 1) := dk_9 (dk_at dksX3_leaves_1 7 rfl rfl)
theorem dX3_leaves_32 : decode cX3_leaves 32 = .ok (.lstore 5, 2) := dk_55 5 (dk_at dksX3_leaves_1 8 rfl rfl)
theorem dX3_leaves_34 : decode cX3_leaves 34 = .ok (.iconst 0, 1) := dk_3 (dk_at dksX3_leaves_1 10 rfl rfl)
theorem dX3_leaves_35 : decode cX3_leaves 35 = .ok (.istore 7, 2) := dk_54 7 (dk_at dksX3_leaves_1 11 rfl rfl)
theorem dX3_leaves_37 : decode cX3_leaves 37 = .ok (.iload 7, 2) := dk_21 7 (dk_at dksX3_leaves_1 13 rfl rfl)
theorem dX3_leaves_39 : decode cX3_leaves 39 = .ok (.aload_n 0, 1) := dk_42 (dk_at dksX3_leaves_1 15 rfl rfl)
theorem dX3_leaves_40 : decode cX3_leaves 40 = .ok (.getfield 42, 3) := dk_180 0 42 (dk_at dksX3_leaves_1 16 rfl rfl)
theorem dX3_leaves_43 : decode cX3_leaves 43 = .ok (.iconst 0, 1) := dk_3 (dk_at dksX3_leaves_1 19 rfl rfl)
theorem dX3_leaves_44 : decode cX3_leaves 44 = .ok (.iaload, 1) := dk_46 (dk_at dksX3_leaves_1 20 rfl rfl)
theorem dX3_leaves_45 : decode cX3_leaves 45 = .ok (.if_icmp .ge 182, 3) := dk_162 0 182 (dk_at dksX3_leaves_1 21 rfl rfl)
theorem dX3_leaves_48 : decode cX3_leaves 48 = .ok (.aload_n 0, 1) := dk_42 (dk_at dksX3_leaves_2 0 rfl rfl)
theorem dX3_leaves_49 : decode cX3_leaves 49 = .ok (.aload_n 0, 1) := dk_42 (dk_at dksX3_leaves_2 1 rfl rfl)
theorem dX3_leaves_50 : decode cX3_leaves 50 = .ok (.getfield 42, 3) := dk_180 0 42 (dk_at dksX3_leaves_2 2 rfl rfl)
theorem dX3_leaves_53 : decode cX3_leaves 53 = .ok (.iconst 2, 1) := dk_5 (dk_at dksX3_leaves_2 5 rfl rfl)
theorem dX3_leaves_54 : decode cX3_leaves 54 = .ok (.iaload, 1) := dk_46 (dk_at dksX3_leaves_2 6 rfl rfl)
theorem dX3_leaves_55 : decode cX3_leaves 55 = .ok (.iload 7, 2) := dk_21 7 (dk_at dksX3_leaves_2 7 rfl rfl)
theorem dX3_leaves_57 : decode cX3_leaves 57 = .ok (.iconst 0, 1) := dk_3 (dk_at dksX3_leaves_2 9 rfl rfl)
theorem dX3_leaves_58 : decode cX3_leaves 58 = .ok (.invokevirtual 285, 3) := dk_182 1 29 (dk_at dksX3_leaves_2 10 rfl rfl)
theorem dX3_leaves_61 : decode cX3_leaves 61 = .ok (.iload_n 3, 1) := dk_29 (dk_at dksX3_leaves_2 13 rfl rfl)
theorem dX3_leaves_62 : decode cX3_leaves 62 = .ok (.if_icmp .eq 6, 3) := dk_159 0 6 (dk_at dksX3_leaves_2 14 rfl rfl)
theorem dX3_leaves_65 : decode cX3_leaves 65 = .ok (.goto 156, 3) := dk_167 0 156 (dk_at dksX3_leaves_2 17 rfl rfl)
theorem dX3_leaves_68 : decode cX3_leaves 68 = .ok (.aload_n 0, 1) := dk_42 (dk_at dksX3_leaves_2 20 rfl rfl)
theorem dX3_leaves_69 : decode cX3_leaves 69 = .ok (.iload_n 2, 1) := dk_28 (dk_at dksX3_leaves_2 21 rfl rfl)
theorem dX3_leaves_70 : decode cX3_leaves 70 = .ok (.invokevirtual 417, 3) := dk_182 1 161 (dk_at dksX3_leaves_3 0 rfl rfl)
theorem dX3_leaves_73 : decode cX3_leaves 73 = .ok (.aload_n 0, 1) := dk_42 (dk_at dksX3_leaves_3 3 rfl rfl)
theorem dX3_leaves_74 : decode cX3_leaves 74 = .ok (.iload_n 2, 1) := dk_28 (dk_at dksX3_leaves_3 4 rfl rfl)
theorem dX3_leaves_75 : decode cX3_leaves 75 = .ok (.aload_n 0, 1) := dk_42 (dk_at dksX3_leaves_3 5 rfl rfl)
theorem dX3_leaves_76 : decode cX3_leaves 76 = .ok (.aload_n 0, 1) := dk_42 (dk_at dksX3_leaves_3 6 rfl rfl)
theorem dX3_leaves_77 : decode cX3_leaves 77 = .ok (.getfield 42, 3) := dk_180 0 42 (dk_at dksX3_leaves_3 7 rfl rfl)
theorem dX3_leaves_80 : decode cX3_leaves 80 = .ok (.iconst 2, 1) := dk_5 (dk_at dksX3_leaves_3 10 rfl rfl)
theorem dX3_leaves_81 : decode cX3_leaves 81 = .ok (.iaload, 1) := dk_46 (dk_at dksX3_leaves_3 11 rfl rfl)
theorem dX3_leaves_82 : decode cX3_leaves 82 = .ok (.iload 7, 2) := dk_21 7 (dk_at dksX3_leaves_3 12 rfl rfl)
theorem dX3_leaves_84 : decode cX3_leaves 84 = .ok (.iconst 1, 1) := dk_4 (dk_at dksX3_leaves_3 14 rfl rfl)
theorem dX3_leaves_85 : decode cX3_leaves 85 = .ok (.invokevirtual 285, 3) := dk_182 1 29 (dk_at dksX3_leaves_3 15 rfl rfl)
theorem dX3_leaves_88 : decode cX3_leaves 88 = .ok (.invokevirtual 420, 3) := dk_182 1 164 (dk_at dksX3_leaves_3 18 rfl rfl)
theorem dX3_leaves_91 : decode cX3_leaves 91 = .ok (.aload_n 0, 1) := dk_42 (dk_at dksX3_leaves_3 21 rfl rfl)
theorem dX3_leaves_92 : decode cX3_leaves 92 = .ok (.getfield 39, 3) := dk_180 0 39 (dk_at dksX3_leaves_4 0 rfl rfl)
theorem dX3_leaves_95 : decode cX3_leaves 95 = .ok (.iconst 0, 1) := dk_3 (dk_at dksX3_leaves_4 3 rfl rfl)
theorem dX3_leaves_96 : decode cX3_leaves 96 = .ok (.iload 7, 2) := dk_21 7 (dk_at dksX3_leaves_4 4 rfl rfl)
theorem dX3_leaves_98 : decode cX3_leaves 98 = .ok (.i2l, 1) := dk_133 (dk_at dksX3_leaves_4 6 rfl rfl)
theorem dX3_leaves_99 : decode cX3_leaves 99 = .ok (.lastore, 1) := dk_80 (dk_at dksX3_leaves_4 7 rfl rfl)
theorem dX3_leaves_100 : decode cX3_leaves 100 = .ok (.aload_n 0, 1) := dk_42 (dk_at dksX3_leaves_4 8 rfl rfl)
theorem dX3_leaves_101 : decode cX3_leaves 101 = .ok (.getfield 39, 3) := dk_180 0 39 (dk_at dksX3_leaves_4 9 rfl rfl)
theorem dX3_leaves_104 : decode cX3_leaves 104 = .ok (.iconst 1, 1) := dk_4 (dk_at dksX3_leaves_4 12 rfl rfl)
theorem dX3_leaves_105 : decode cX3_leaves 105 = .ok (.aload_n 0, 1) := dk_42 (dk_at dksX3_leaves_4 13 rfl rfl)
theorem dX3_leaves_106 : decode cX3_leaves 106 = .ok (.iload 7, 2) := dk_21 7 (dk_at dksX3_leaves_4 14 rfl rfl)
theorem dX3_leaves_108 : decode cX3_leaves 108 = .ok (.iconst 2, 1) := dk_5 (dk_at dksX3_leaves_4 16 rfl rfl)
theorem dX3_leaves_109 : decode cX3_leaves 109 = .ok (.invokevirtual 275, 3) := dk_182 1 19 (dk_at dksX3_leaves_4 17 rfl rfl)
theorem dX3_leaves_112 : decode cX3_leaves 112 = .ok (.i2l, 1) := dk_133 (dk_at dksX3_leaves_4 20 rfl rfl)
theorem dX3_leaves_113 : decode cX3_leaves 113 = .ok (.lastore, 1) := dk_80 (dk_at dksX3_leaves_4 21 rfl rfl)
theorem dX3_leaves_114 : decode cX3_leaves 114 = .ok (.aload_n 0, 1) := dk_42 (dk_at dksX3_leaves_4 22 rfl rfl)
theorem dX3_leaves_115 : decode cX3_leaves 115 = .ok (.getfield 39, 3) := dk_180 0 39 (dk_at dksX3_leaves_5 0 rfl rfl)
theorem dX3_leaves_118 : decode cX3_leaves 118 = .ok (.iconst 2, 1) := dk_5 (dk_at dksX3_leaves_5 3 rfl rfl)
theorem dX3_leaves_119 : decode cX3_leaves 119 = .ok (.aload_n 0, 1) := dk_42 (dk_at dksX3_leaves_5 4 rfl rfl)
theorem dX3_leaves_120 : decode cX3_leaves 120 = .ok (.iload 7, 2) := dk_21 7 (dk_at dksX3_leaves_5 5 rfl rfl)
theorem dX3_leaves_122 : decode cX3_leaves 122 = .ok (.iconst 3, 1) := dk_6 (dk_at dksX3_leaves_5 7 rfl rfl)
theorem dX3_leaves_123 : decode cX3_leaves 123 = .ok (.invokevirtual 275, 3) := dk_182 1 19 (dk_at dksX3_leaves_5 8 rfl rfl)
theorem dX3_leaves_126 : decode cX3_leaves 126 = .ok (.i2l, 1) := dk_133 (dk_at dksX3_leaves_5 11 rfl rfl)
theorem dX3_leaves_127 : decode cX3_leaves 127 = .ok (.lastore, 1) := dk_80 (dk_at dksX3_leaves_5 12 rfl rfl)
theorem dX3_leaves_128 : decode cX3_leaves 128 = .ok (.aload_n 0, 1) := dk_42 (dk_at dksX3_leaves_5 13 rfl rfl)
theorem dX3_leaves_129 : decode cX3_leaves 129 = .ok (.getfield 39, 3) := dk_180 0 39 (dk_at dksX3_leaves_5 14 rfl rfl)
theorem dX3_leaves_132 : decode cX3_leaves 132 = .ok (.iconst 3, 1) := dk_6 (dk_at dksX3_leaves_5 17 rfl rfl)
theorem dX3_leaves_133 : decode cX3_leaves 133 = .ok (.aload_n 0, 1) := dk_42 (dk_at dksX3_leaves_5 18 rfl rfl)
theorem dX3_leaves_134 : decode cX3_leaves 134 = .ok (.iload 7, 2) := dk_21 7 (dk_at dksX3_leaves_5 19 rfl rfl)
theorem dX3_leaves_136 : decode cX3_leaves 136 = .ok (.iconst 4, 1) := dk_7 (dk_at dksX3_leaves_5 21 rfl rfl)
theorem dX3_leaves_137 : decode cX3_leaves 137 = .ok (.invokevirtual 275, 3) := dk_182 1 19 (dk_at dksX3_leaves_6 0 rfl rfl)
theorem dX3_leaves_140 : decode cX3_leaves 140 = .ok (.i2l, 1) := dk_133 (dk_at dksX3_leaves_6 3 rfl rfl)
theorem dX3_leaves_141 : decode cX3_leaves 141 = .ok (.lastore, 1) := dk_80 (dk_at dksX3_leaves_6 4 rfl rfl)
theorem dX3_leaves_142 : decode cX3_leaves 142 = .ok (.aload_n 0, 1) := dk_42 (dk_at dksX3_leaves_6 5 rfl rfl)
theorem dX3_leaves_143 : decode cX3_leaves 143 = .ok (.getfield 39, 3) := dk_180 0 39 (dk_at dksX3_leaves_6 6 rfl rfl)
theorem dX3_leaves_146 : decode cX3_leaves 146 = .ok (.bipush 11, 2) := dk_16 11 (dk_at dksX3_leaves_6 9 rfl rfl)
theorem dX3_leaves_148 : decode cX3_leaves 148 = .ok (.aload_n 0, 1) := dk_42 (dk_at dksX3_leaves_6 11 rfl rfl)
theorem dX3_leaves_149 : decode cX3_leaves 149 = .ok (.iload 7, 2) := dk_21 7 (dk_at dksX3_leaves_6 12 rfl rfl)
theorem dX3_leaves_151 : decode cX3_leaves 151 = .ok (.invokevirtual 294, 3) := dk_182 1 38 (dk_at dksX3_leaves_6 14 rfl rfl)
theorem dX3_leaves_154 : decode cX3_leaves 154 = .ok (.i2l, 1) := dk_133 (dk_at dksX3_leaves_6 17 rfl rfl)
theorem dX3_leaves_155 : decode cX3_leaves 155 = .ok (.lastore, 1) := dk_80 (dk_at dksX3_leaves_6 18 rfl rfl)
theorem dX3_leaves_156 : decode cX3_leaves 156 = .ok (.aload_n 0, 1) := dk_42 (dk_at dksX3_leaves_6 19 rfl rfl)
theorem dX3_leaves_157 : decode cX3_leaves 157 = .ok (.iload_n 1, 1) := dk_27 (dk_at dksX3_leaves_6 20 rfl rfl)
theorem dX3_leaves_158 : decode cX3_leaves 158 = .ok (.iconst 0, 1) := dk_3 (dk_at dksX3_leaves_6 21 rfl rfl)
theorem dX3_leaves_159 : decode cX3_leaves 159 = .ok (.invokevirtual 423, 3) := dk_182 1 167 (dk_at dksX3_leaves_7 0 rfl rfl)
theorem dX3_leaves_162 : decode cX3_leaves 162 = .ok (.istore 8, 2) := dk_54 8 (dk_at dksX3_leaves_7 3 rfl rfl)
theorem dX3_leaves_164 : decode cX3_leaves 164 = .ok (.iload 8, 2) := dk_21 8 (dk_at dksX3_leaves_7 5 rfl rfl)
theorem dX3_leaves_166 : decode cX3_leaves 166 = .ok (.ifCond .ge 6, 3) := dk_156 0 6 (dk_at dksX3_leaves_7 7 rfl rfl)
theorem dX3_leaves_169 : decode cX3_leaves 169 = .ok (.goto 52, 3) := dk_167 0 52 (dk_at dksX3_leaves_7 10 rfl rfl)
theorem dX3_leaves_172 : decode cX3_leaves 172 = .ok (.aload_n 0, 1) := dk_42 (dk_at dksX3_leaves_7 13 rfl rfl)
theorem dX3_leaves_173 : decode cX3_leaves 173 = .ok (.iload_n 1, 1) := dk_27 (dk_at dksX3_leaves_7 14 rfl rfl)
theorem dX3_leaves_174 : decode cX3_leaves 174 = .ok (.aload_n 0, 1) := dk_42 (dk_at dksX3_leaves_7 15 rfl rfl)
theorem dX3_leaves_175 : decode cX3_leaves 175 = .ok (.getfield 20, 3) := dk_180 0 20 (dk_at dksX3_leaves_7 16 rfl rfl)
theorem dX3_leaves_178 : decode cX3_leaves 178 = .ok (.iload 8, 2) := dk_21 8 (dk_at dksX3_leaves_7 19 rfl rfl)
theorem dX3_leaves_180 : decode cX3_leaves 180 = .ok (.iconst 1, 1) := dk_4 (dk_at dksX3_leaves_7 21 rfl rfl)
theorem dX3_leaves_181 : decode cX3_leaves 181 = .ok (.iadd, 1) := dk_96 (dk_at dksX3_leaves_7 22 rfl rfl)
theorem dX3_leaves_182 : decode cX3_leaves 182 = .ok (.iaload, 1) := dk_46 (dk_at dksX3_leaves_7 23 rfl rfl)
theorem dX3_leaves_183 : decode cX3_leaves 183 = .ok (.aload_n 0, 1) := dk_42 (dk_at dksX3_leaves_8 0 rfl rfl)
theorem dX3_leaves_184 : decode cX3_leaves 184 = .ok (.getfield 20, 3) := dk_180 0 20 (dk_at dksX3_leaves_8 1 rfl rfl)
theorem dX3_leaves_187 : decode cX3_leaves 187 = .ok (.iload 8, 2) := dk_21 8 (dk_at dksX3_leaves_8 4 rfl rfl)
theorem dX3_leaves_189 : decode cX3_leaves 189 = .ok (.iconst 2, 1) := dk_5 (dk_at dksX3_leaves_8 6 rfl rfl)
theorem dX3_leaves_190 : decode cX3_leaves 190 = .ok (.iadd, 1) := dk_96 (dk_at dksX3_leaves_8 7 rfl rfl)
theorem dX3_leaves_191 : decode cX3_leaves 191 = .ok (.iaload, 1) := dk_46 (dk_at dksX3_leaves_8 8 rfl rfl)
theorem dX3_leaves_192 : decode cX3_leaves 192 = .ok (.invokevirtual 271, 3) := dk_182 1 15 (dk_at dksX3_leaves_8 9 rfl rfl)
theorem dX3_leaves_195 : decode cX3_leaves 195 = .ok (.lstore 9, 2) := dk_55 9 (dk_at dksX3_leaves_8 12 rfl rfl)
theorem dX3_leaves_197 : decode cX3_leaves 197 = .ok (.iload 4, 2) := dk_21 4 (dk_at dksX3_leaves_8 14 rfl rfl)
theorem dX3_leaves_199 : decode cX3_leaves 199 = .ok (.ifCond .lt 14, 3) := dk_155 0 14 (dk_at dksX3_leaves_8 16 rfl rfl)
theorem dX3_leaves_202 : decode cX3_leaves 202 = .ok (.lload 9, 2) := dk_22 9 (dk_at dksX3_leaves_8 19 rfl rfl)
theorem dX3_leaves_204 : decode cX3_leaves 204 = .ok (.lload 5, 2) := dk_22 5 (dk_at dksX3_leaves_8 21 rfl rfl)
theorem dX3_leaves_206 : decode cX3_leaves 206 = .ok (.lcmp, 1) := dk_148 (dk_at dksX3_leaves_8 23 rfl rfl)
theorem dX3_leaves_207 : decode cX3_leaves 207 = .ok (.ifCond .gt 6, 3) := dk_157 0 6 (dk_at dksX3_leaves_9 0 rfl rfl)
theorem dX3_leaves_210 : decode cX3_leaves 210 = .ok (.goto 11, 3) := dk_167 0 11 (dk_at dksX3_leaves_9 3 rfl rfl)
theorem dX3_leaves_213 : decode cX3_leaves 213 = .ok (.iload 7, 2) := dk_21 7 (dk_at dksX3_leaves_9 6 rfl rfl)
theorem dX3_leaves_215 : decode cX3_leaves 215 = .ok (.istore 4, 2) := dk_54 4 (dk_at dksX3_leaves_9 8 rfl rfl)
theorem dX3_leaves_217 : decode cX3_leaves 217 = .ok (.lload 9, 2) := dk_22 9 (dk_at dksX3_leaves_9 10 rfl rfl)
theorem dX3_leaves_219 : decode cX3_leaves 219 = .ok (.lstore 5, 2) := dk_55 5 (dk_at dksX3_leaves_9 12 rfl rfl)
theorem dX3_leaves_221 : decode cX3_leaves 221 = .ok (.iinc 7 1, 3) := dk_132 7 1 (dk_at dksX3_leaves_9 14 rfl rfl)
theorem dX3_leaves_224 : decode cX3_leaves 224 = .ok (.goto (-187), 3) := dk_167 255 69 (dk_at dksX3_leaves_9 17 rfl rfl)
theorem dX3_leaves_227 : decode cX3_leaves 227 = .ok (.iload 4, 2) := dk_21 4 (dk_at dksX3_leaves_9 20 rfl rfl)
theorem dX3_leaves_229 : decode cX3_leaves 229 = .ok (.ifCond .ge 4, 3) := dk_156 0 4 (dk_at dksX3_leaves_10 0 rfl rfl)
theorem dX3_leaves_232 : decode cX3_leaves 232 = .ok (.return_, 1) := dk_177 (dk_at dksX3_leaves_10 3 rfl rfl)
theorem dX3_leaves_233 : decode cX3_leaves 233 = .ok (.bipush 80, 2) := dk_16 80 (dk_at dksX3_leaves_10 4 rfl rfl)
theorem dX3_leaves_235 : decode cX3_leaves 235 = .ok (.bipush 7, 2) := dk_16 7 (dk_at dksX3_leaves_10 6 rfl rfl)
theorem dX3_leaves_237 : decode cX3_leaves 237 = .ok (.iload_n 2, 1) := dk_28 (dk_at dksX3_leaves_10 8 rfl rfl)
theorem dX3_leaves_238 : decode cX3_leaves 238 = .ok (.imul, 1) := dk_104 (dk_at dksX3_leaves_10 9 rfl rfl)
theorem dX3_leaves_239 : decode cX3_leaves 239 = .ok (.iadd, 1) := dk_96 (dk_at dksX3_leaves_10 10 rfl rfl)
theorem dX3_leaves_240 : decode cX3_leaves 240 = .ok (.istore 7, 2) := dk_54 7 (dk_at dksX3_leaves_10 11 rfl rfl)
theorem dX3_leaves_242 : decode cX3_leaves 242 = .ok (.aload_n 0, 1) := dk_42 (dk_at dksX3_leaves_10 13 rfl rfl)
theorem dX3_leaves_243 : decode cX3_leaves 243 = .ok (.getfield 42, 3) := dk_180 0 42 (dk_at dksX3_leaves_10 14 rfl rfl)
theorem dX3_leaves_246 : decode cX3_leaves 246 = .ok (.iload 7, 2) := dk_21 7 (dk_at dksX3_leaves_10 17 rfl rfl)
theorem dX3_leaves_248 : decode cX3_leaves 248 = .ok (.bipush 8, 2) := dk_16 8 (dk_at dksX3_leaves_10 19 rfl rfl)
theorem dX3_leaves_250 : decode cX3_leaves 250 = .ok (.iastore, 1) := dk_79 (dk_at dksX3_leaves_10 21 rfl rfl)
theorem dX3_leaves_251 : decode cX3_leaves 251 = .ok (.aload_n 0, 1) := dk_42 (dk_at dksX3_leaves_10 22 rfl rfl)
theorem dX3_leaves_252 : decode cX3_leaves 252 = .ok (.getfield 42, 3) := dk_180 0 42 (dk_at dksX3_leaves_11 0 rfl rfl)
theorem dX3_leaves_255 : decode cX3_leaves 255 = .ok (.iload 7, 2) := dk_21 7 (dk_at dksX3_leaves_11 3 rfl rfl)
theorem dX3_leaves_257 : decode cX3_leaves 257 = .ok (.iconst 3, 1) := dk_6 (dk_at dksX3_leaves_11 5 rfl rfl)
theorem dX3_leaves_258 : decode cX3_leaves 258 = .ok (.iadd, 1) := dk_96 (dk_at dksX3_leaves_11 6 rfl rfl)
theorem dX3_leaves_259 : decode cX3_leaves 259 = .ok (.iload 4, 2) := dk_21 4 (dk_at dksX3_leaves_11 7 rfl rfl)
theorem dX3_leaves_261 : decode cX3_leaves 261 = .ok (.iastore, 1) := dk_79 (dk_at dksX3_leaves_11 9 rfl rfl)
theorem dX3_leaves_262 : decode cX3_leaves 262 = .ok (.aload_n 0, 1) := dk_42 (dk_at dksX3_leaves_11 10 rfl rfl)
theorem dX3_leaves_263 : decode cX3_leaves 263 = .ok (.getfield 42, 3) := dk_180 0 42 (dk_at dksX3_leaves_11 11 rfl rfl)
theorem dX3_leaves_266 : decode cX3_leaves 266 = .ok (.iload 7, 2) := dk_21 7 (dk_at dksX3_leaves_11 14 rfl rfl)
theorem dX3_leaves_268 : decode cX3_leaves 268 = .ok (.iconst 4, 1) := dk_7 (dk_at dksX3_leaves_11 16 rfl rfl)
theorem dX3_leaves_269 : decode cX3_leaves 269 = .ok (.iadd, 1) := dk_96 (dk_at dksX3_leaves_11 17 rfl rfl)
theorem dX3_leaves_270 : decode cX3_leaves 270 = .ok (.iconst 0, 1) := dk_3 (dk_at dksX3_leaves_11 18 rfl rfl)
theorem dX3_leaves_271 : decode cX3_leaves 271 = .ok (.iastore, 1) := dk_79 (dk_at dksX3_leaves_11 19 rfl rfl)
theorem dX3_leaves_272 : decode cX3_leaves 272 = .ok (.aload_n 0, 1) := dk_42 (dk_at dksX3_leaves_11 20 rfl rfl)
theorem dX3_leaves_273 : decode cX3_leaves 273 = .ok (.getfield 42, 3) := dk_180 0 42 (dk_at dksX3_leaves_11 21 rfl rfl)
theorem dX3_leaves_276 : decode cX3_leaves 276 = .ok (.iload 7, 2) := dk_21 7 (dk_at dksX3_leaves_12 0 rfl rfl)
theorem dX3_leaves_278 : decode cX3_leaves 278 = .ok (.bipush 6, 2) := dk_16 6 (dk_at dksX3_leaves_12 2 rfl rfl)
theorem dX3_leaves_280 : decode cX3_leaves 280 = .ok (.iadd, 1) := dk_96 (dk_at dksX3_leaves_12 4 rfl rfl)
theorem dX3_leaves_281 : decode cX3_leaves 281 = .ok (.aload_n 0, 1) := dk_42 (dk_at dksX3_leaves_12 5 rfl rfl)
theorem dX3_leaves_282 : decode cX3_leaves 282 = .ok (.aload_n 0, 1) := dk_42 (dk_at dksX3_leaves_12 6 rfl rfl)
theorem dX3_leaves_283 : decode cX3_leaves 283 = .ok (.getfield 42, 3) := dk_180 0 42 (dk_at dksX3_leaves_12 7 rfl rfl)
theorem dX3_leaves_286 : decode cX3_leaves 286 = .ok (.iconst 2, 1) := dk_5 (dk_at dksX3_leaves_12 10 rfl rfl)
theorem dX3_leaves_287 : decode cX3_leaves 287 = .ok (.iaload, 1) := dk_46 (dk_at dksX3_leaves_12 11 rfl rfl)
theorem dX3_leaves_288 : decode cX3_leaves 288 = .ok (.iload 4, 2) := dk_21 4 (dk_at dksX3_leaves_12 12 rfl rfl)
theorem dX3_leaves_290 : decode cX3_leaves 290 = .ok (.iconst 1, 1) := dk_4 (dk_at dksX3_leaves_12 14 rfl rfl)
theorem dX3_leaves_291 : decode cX3_leaves 291 = .ok (.invokevirtual 285, 3) := dk_182 1 29 (dk_at dksX3_leaves_12 15 rfl rfl)
theorem dX3_leaves_294 : decode cX3_leaves 294 = .ok (.iastore, 1) := dk_79 (dk_at dksX3_leaves_12 18 rfl rfl)
theorem dX3_leaves_295 : decode cX3_leaves 295 = .ok (.return_, 1) := dk_177 (dk_at dksX3_leaves_12 19 rfl rfl)
abbrev cX3_clearWords : ByteArray := prog_19_method_95_code
def yX3_clearWords : MethodName := ⟨RX3, "clearWords", "(I)V"⟩
def dkwX3_clearWords_2 : List UInt8 := [180, 0, 39, 16, 10, 42, 180, 0, 42, 7, 46, 133, 80, 177]
abbrev dktX3_clearWords_2 : List UInt8 := dkwX3_clearWords_2 ++ []
def dkwX3_clearWords_1 : List UInt8 := [180, 0, 39, 16, 8, 27, 133, 80, 42, 180, 0, 39, 16, 9, 42, 27, 4, 182, 1, 23, 133, 80, 42]
abbrev dktX3_clearWords_1 : List UInt8 := dkwX3_clearWords_1 ++ dktX3_clearWords_2
def dkwX3_clearWords_0 : List UInt8 := [3, 61, 28, 16, 12, 162, 0, 16, 42, 180, 0, 39, 28, 9, 80, 132, 2, 1, 167, 255, 240, 42]
abbrev dktX3_clearWords_0 : List UInt8 := dkwX3_clearWords_0 ++ dktX3_clearWords_1
theorem dksX3_clearWords_0 : cX3_clearWords.data.toList.drop 0 = dktX3_clearWords_0 := by decide +kernel
theorem dksX3_clearWords_1 : cX3_clearWords.data.toList.drop 22 = dktX3_clearWords_1 := dk_seg dksX3_clearWords_0 22 rfl rfl
theorem dksX3_clearWords_2 : cX3_clearWords.data.toList.drop 45 = dktX3_clearWords_2 := dk_seg dksX3_clearWords_1 23 rfl rfl
theorem dX3_clearWords_0 : decode cX3_clearWords 0 = .ok (.iconst 0, 1) := dk_3 (dk_at dksX3_clearWords_0 0 rfl rfl)
theorem dX3_clearWords_1 : decode cX3_clearWords 1 = .ok (.istore_n 2, 1) := dk_61 (dk_at dksX3_clearWords_0 1 rfl rfl)
theorem dX3_clearWords_2 : decode cX3_clearWords 2 = .ok (.iload_n 2, 1) := dk_28 (dk_at dksX3_clearWords_0 2 rfl rfl)
theorem dX3_clearWords_3 : decode cX3_clearWords 3 = .ok (.bipush 12, 2) := dk_16 12 (dk_at dksX3_clearWords_0 3 rfl rfl)
theorem dX3_clearWords_5 : decode cX3_clearWords 5 = .ok (.if_icmp .ge 16, 3) := dk_162 0 16 (dk_at dksX3_clearWords_0 5 rfl rfl)
theorem dX3_clearWords_8 : decode cX3_clearWords 8 = .ok (.aload_n 0, 1) := dk_42 (dk_at dksX3_clearWords_0 8 rfl rfl)
theorem dX3_clearWords_9 : decode cX3_clearWords 9 = .ok (.getfield 39, 3) := dk_180 0 39 (dk_at dksX3_clearWords_0 9 rfl rfl)
theorem dX3_clearWords_12 : decode cX3_clearWords 12 = .ok (.iload_n 2, 1) := dk_28 (dk_at dksX3_clearWords_0 12 rfl rfl)
theorem dX3_clearWords_13 : decode cX3_clearWords 13 = .ok (.lconst 0, 1) := dk_9 (dk_at dksX3_clearWords_0 13 rfl rfl)
theorem dX3_clearWords_14 : decode cX3_clearWords 14 = .ok (.lastore, 1) := dk_80 (dk_at dksX3_clearWords_0 14 rfl rfl)
theorem dX3_clearWords_15 : decode cX3_clearWords 15 = .ok (.iinc 2 1, 3) := dk_132 2 1 (dk_at dksX3_clearWords_0 15 rfl rfl)
theorem dX3_clearWords_18 : decode cX3_clearWords 18 = .ok (.goto (-16), 3) := dk_167 255 240 (dk_at dksX3_clearWords_0 18 rfl rfl)
theorem dX3_clearWords_21 : decode cX3_clearWords 21 = .ok (.aload_n 0, 1) := dk_42 (dk_at dksX3_clearWords_0 21 rfl rfl)
theorem dX3_clearWords_22 : decode cX3_clearWords 22 = .ok (.getfield 39, 3) := dk_180 0 39 (dk_at dksX3_clearWords_1 0 rfl rfl)
theorem dX3_clearWords_25 : decode cX3_clearWords 25 = .ok (.bipush 8, 2) := dk_16 8 (dk_at dksX3_clearWords_1 3 rfl rfl)
theorem dX3_clearWords_27 : decode cX3_clearWords 27 = .ok (.iload_n 1, 1) := dk_27 (dk_at dksX3_clearWords_1 5 rfl rfl)
theorem dX3_clearWords_28 : decode cX3_clearWords 28 = .ok (.i2l, 1) := dk_133 (dk_at dksX3_clearWords_1 6 rfl rfl)
theorem dX3_clearWords_29 : decode cX3_clearWords 29 = .ok (.lastore, 1) := dk_80 (dk_at dksX3_clearWords_1 7 rfl rfl)
theorem dX3_clearWords_30 : decode cX3_clearWords 30 = .ok (.aload_n 0, 1) := dk_42 (dk_at dksX3_clearWords_1 8 rfl rfl)
theorem dX3_clearWords_31 : decode cX3_clearWords 31 = .ok (.getfield 39, 3) := dk_180 0 39 (dk_at dksX3_clearWords_1 9 rfl rfl)
theorem dX3_clearWords_34 : decode cX3_clearWords 34 = .ok (.bipush 9, 2) := dk_16 9 (dk_at dksX3_clearWords_1 12 rfl rfl)
theorem dX3_clearWords_36 : decode cX3_clearWords 36 = .ok (.aload_n 0, 1) := dk_42 (dk_at dksX3_clearWords_1 14 rfl rfl)
theorem dX3_clearWords_37 : decode cX3_clearWords 37 = .ok (.iload_n 1, 1) := dk_27 (dk_at dksX3_clearWords_1 15 rfl rfl)
theorem dX3_clearWords_38 : decode cX3_clearWords 38 = .ok (.iconst 1, 1) := dk_4 (dk_at dksX3_clearWords_1 16 rfl rfl)
theorem dX3_clearWords_39 : decode cX3_clearWords 39 = .ok (.invokevirtual 279, 3) := dk_182 1 23 (dk_at dksX3_clearWords_1 17 rfl rfl)
theorem dX3_clearWords_42 : decode cX3_clearWords 42 = .ok (.i2l, 1) := dk_133 (dk_at dksX3_clearWords_1 20 rfl rfl)
theorem dX3_clearWords_43 : decode cX3_clearWords 43 = .ok (.lastore, 1) := dk_80 (dk_at dksX3_clearWords_1 21 rfl rfl)
theorem dX3_clearWords_44 : decode cX3_clearWords 44 = .ok (.aload_n 0, 1) := dk_42 (dk_at dksX3_clearWords_1 22 rfl rfl)
theorem dX3_clearWords_45 : decode cX3_clearWords 45 = .ok (.getfield 39, 3) := dk_180 0 39 (dk_at dksX3_clearWords_2 0 rfl rfl)
theorem dX3_clearWords_48 : decode cX3_clearWords 48 = .ok (.bipush 10, 2) := dk_16 10 (dk_at dksX3_clearWords_2 3 rfl rfl)
theorem dX3_clearWords_50 : decode cX3_clearWords 50 = .ok (.aload_n 0, 1) := dk_42 (dk_at dksX3_clearWords_2 5 rfl rfl)
theorem dX3_clearWords_51 : decode cX3_clearWords 51 = .ok (.getfield 42, 3) := dk_180 0 42 (dk_at dksX3_clearWords_2 6 rfl rfl)
theorem dX3_clearWords_54 : decode cX3_clearWords 54 = .ok (.iconst 4, 1) := dk_7 (dk_at dksX3_clearWords_2 9 rfl rfl)
theorem dX3_clearWords_55 : decode cX3_clearWords 55 = .ok (.iaload, 1) := dk_46 (dk_at dksX3_clearWords_2 10 rfl rfl)
theorem dX3_clearWords_56 : decode cX3_clearWords 56 = .ok (.i2l, 1) := dk_133 (dk_at dksX3_clearWords_2 11 rfl rfl)
theorem dX3_clearWords_57 : decode cX3_clearWords 57 = .ok (.lastore, 1) := dk_80 (dk_at dksX3_clearWords_2 12 rfl rfl)
theorem dX3_clearWords_58 : decode cX3_clearWords 58 = .ok (.return_, 1) := dk_177 (dk_at dksX3_clearWords_2 13 rfl rfl)
abbrev cX3_placeWords : ByteArray := prog_19_method_96_code
def yX3_placeWords : MethodName := ⟨RX3, "placeWords", "(II)V"⟩
def dkwX3_placeWords_3 : List UInt8 := [182, 1, 51, 133, 80, 177]
abbrev dktX3_placeWords_3 : List UInt8 := dkwX3_placeWords_3 ++ []
def dkwX3_placeWords_2 : List UInt8 := [16, 6, 42, 42, 180, 0, 42, 5, 46, 28, 3, 182, 1, 48, 133, 80, 42, 180, 0, 39, 16, 7, 42, 28]
abbrev dktX3_placeWords_2 : List UInt8 := dkwX3_placeWords_2 ++ dktX3_placeWords_3
def dkwX3_placeWords_1 : List UInt8 := [80, 42, 180, 0, 39, 8, 29, 156, 0, 9, 20, 1, 159, 167, 0, 5, 29, 133, 80, 42, 180, 0, 39]
abbrev dktX3_placeWords_1 : List UInt8 := dkwX3_placeWords_1 ++ dktX3_placeWords_2
def dkwX3_placeWords_0 : List UInt8 := [42, 28, 182, 1, 54, 42, 180, 0, 48, 42, 27, 4, 182, 1, 23, 46, 62, 42, 180, 0, 39, 7, 28, 133]
abbrev dktX3_placeWords_0 : List UInt8 := dkwX3_placeWords_0 ++ dktX3_placeWords_1
theorem dksX3_placeWords_0 : cX3_placeWords.data.toList.drop 0 = dktX3_placeWords_0 := by decide +kernel
theorem dksX3_placeWords_1 : cX3_placeWords.data.toList.drop 24 = dktX3_placeWords_1 := dk_seg dksX3_placeWords_0 24 rfl rfl
theorem dksX3_placeWords_2 : cX3_placeWords.data.toList.drop 47 = dktX3_placeWords_2 := dk_seg dksX3_placeWords_1 23 rfl rfl
theorem dksX3_placeWords_3 : cX3_placeWords.data.toList.drop 71 = dktX3_placeWords_3 := dk_seg dksX3_placeWords_2 24 rfl rfl
theorem dX3_placeWords_0 : decode cX3_placeWords 0 = .ok (.aload_n 0, 1) := dk_42 (dk_at dksX3_placeWords_0 0 rfl rfl)
theorem dX3_placeWords_1 : decode cX3_placeWords 1 = .ok (.iload_n 2, 1) := dk_28 (dk_at dksX3_placeWords_0 1 rfl rfl)
theorem dX3_placeWords_2 : decode cX3_placeWords 2 = .ok (.invokevirtual 310, 3) := dk_182 1 54 (dk_at dksX3_placeWords_0 2 rfl rfl)
theorem dX3_placeWords_5 : decode cX3_placeWords 5 = .ok (.aload_n 0, 1) := dk_42 (dk_at dksX3_placeWords_0 5 rfl rfl)
theorem dX3_placeWords_6 : decode cX3_placeWords 6 = .ok (.getfield 48, 3) := dk_180 0 48 (dk_at dksX3_placeWords_0 6 rfl rfl)
theorem dX3_placeWords_9 : decode cX3_placeWords 9 = .ok (.aload_n 0, 1) := dk_42 (dk_at dksX3_placeWords_0 9 rfl rfl)
theorem dX3_placeWords_10 : decode cX3_placeWords 10 = .ok (.iload_n 1, 1) := dk_27 (dk_at dksX3_placeWords_0 10 rfl rfl)
theorem dX3_placeWords_11 : decode cX3_placeWords 11 = .ok (.iconst 1, 1) := dk_4 (dk_at dksX3_placeWords_0 11 rfl rfl)
theorem dX3_placeWords_12 : decode cX3_placeWords 12 = .ok (.invokevirtual 279, 3) := dk_182 1 23 (dk_at dksX3_placeWords_0 12 rfl rfl)
theorem dX3_placeWords_15 : decode cX3_placeWords 15 = .ok (.iaload, 1) := dk_46 (dk_at dksX3_placeWords_0 15 rfl rfl)
theorem dX3_placeWords_16 : decode cX3_placeWords 16 = .ok (.istore_n 3, 1) := dk_62 (dk_at dksX3_placeWords_0 16 rfl rfl)
theorem dX3_placeWords_17 : decode cX3_placeWords 17 = .ok (.aload_n 0, 1) := dk_42 (dk_at dksX3_placeWords_0 17 rfl rfl)
theorem dX3_placeWords_18 : decode cX3_placeWords 18 = .ok (.getfield 39, 3) := dk_180 0 39 (dk_at dksX3_placeWords_0 18 rfl rfl)
theorem dX3_placeWords_21 : decode cX3_placeWords 21 = .ok (.iconst 4, 1) := dk_7 (dk_at dksX3_placeWords_0 21 rfl rfl)
theorem dX3_placeWords_22 : decode cX3_placeWords 22 = .ok (.iload_n 2, 1) := dk_28 (dk_at dksX3_placeWords_0 22 rfl rfl)
theorem dX3_placeWords_23 : decode cX3_placeWords 23 = .ok (.i2l, 1) := dk_133 (dk_at dksX3_placeWords_0 23 rfl rfl)
theorem dX3_placeWords_24 : decode cX3_placeWords 24 = .ok (.lastore, 1) := dk_80 (dk_at dksX3_placeWords_1 0 rfl rfl)
theorem dX3_placeWords_25 : decode cX3_placeWords 25 = .ok (.aload_n 0, 1) := dk_42 (dk_at dksX3_placeWords_1 1 rfl rfl)
theorem dX3_placeWords_26 : decode cX3_placeWords 26 = .ok (.getfield 39, 3) := dk_180 0 39 (dk_at dksX3_placeWords_1 2 rfl rfl)
theorem dX3_placeWords_29 : decode cX3_placeWords 29 = .ok (.iconst 5, 1) := dk_8 (dk_at dksX3_placeWords_1 5 rfl rfl)
theorem dX3_placeWords_30 : decode cX3_placeWords 30 = .ok (.iload_n 3, 1) := dk_29 (dk_at dksX3_placeWords_1 6 rfl rfl)
theorem dX3_placeWords_31 : decode cX3_placeWords 31 = .ok (.ifCond .ge 9, 3) := dk_156 0 9 (dk_at dksX3_placeWords_1 7 rfl rfl)
theorem dX3_placeWords_34 : decode cX3_placeWords 34 = .ok (.ldc2_w 415, 3) := dk_20 1 159 (dk_at dksX3_placeWords_1 10 rfl rfl)
theorem dX3_placeWords_37 : decode cX3_placeWords 37 = .ok (.goto 5, 3) := dk_167 0 5 (dk_at dksX3_placeWords_1 13 rfl rfl)
theorem dX3_placeWords_40 : decode cX3_placeWords 40 = .ok (.iload_n 3, 1) := dk_29 (dk_at dksX3_placeWords_1 16 rfl rfl)
theorem dX3_placeWords_41 : decode cX3_placeWords 41 = .ok (.i2l, 1) := dk_133 (dk_at dksX3_placeWords_1 17 rfl rfl)
theorem dX3_placeWords_42 : decode cX3_placeWords 42 = .ok (.lastore, 1) := dk_80 (dk_at dksX3_placeWords_1 18 rfl rfl)
theorem dX3_placeWords_43 : decode cX3_placeWords 43 = .ok (.aload_n 0, 1) := dk_42 (dk_at dksX3_placeWords_1 19 rfl rfl)
theorem dX3_placeWords_44 : decode cX3_placeWords 44 = .ok (.getfield 39, 3) := dk_180 0 39 (dk_at dksX3_placeWords_1 20 rfl rfl)
theorem dX3_placeWords_47 : decode cX3_placeWords 47 = .ok (.bipush 6, 2) := dk_16 6 (dk_at dksX3_placeWords_2 0 rfl rfl)
theorem dX3_placeWords_49 : decode cX3_placeWords 49 = .ok (.aload_n 0, 1) := dk_42 (dk_at dksX3_placeWords_2 2 rfl rfl)
theorem dX3_placeWords_50 : decode cX3_placeWords 50 = .ok (.aload_n 0, 1) := dk_42 (dk_at dksX3_placeWords_2 3 rfl rfl)
theorem dX3_placeWords_51 : decode cX3_placeWords 51 = .ok (.getfield 42, 3) := dk_180 0 42 (dk_at dksX3_placeWords_2 4 rfl rfl)
theorem dX3_placeWords_54 : decode cX3_placeWords 54 = .ok (.iconst 2, 1) := dk_5 (dk_at dksX3_placeWords_2 7 rfl rfl)
theorem dX3_placeWords_55 : decode cX3_placeWords 55 = .ok (.iaload, 1) := dk_46 (dk_at dksX3_placeWords_2 8 rfl rfl)
theorem dX3_placeWords_56 : decode cX3_placeWords 56 = .ok (.iload_n 2, 1) := dk_28 (dk_at dksX3_placeWords_2 9 rfl rfl)
theorem dX3_placeWords_57 : decode cX3_placeWords 57 = .ok (.iconst 0, 1) := dk_3 (dk_at dksX3_placeWords_2 10 rfl rfl)
theorem dX3_placeWords_58 : decode cX3_placeWords 58 = .ok (.invokevirtual 304, 3) := dk_182 1 48 (dk_at dksX3_placeWords_2 11 rfl rfl)
theorem dX3_placeWords_61 : decode cX3_placeWords 61 = .ok (.i2l, 1) := dk_133 (dk_at dksX3_placeWords_2 14 rfl rfl)
theorem dX3_placeWords_62 : decode cX3_placeWords 62 = .ok (.lastore, 1) := dk_80 (dk_at dksX3_placeWords_2 15 rfl rfl)
theorem dX3_placeWords_63 : decode cX3_placeWords 63 = .ok (.aload_n 0, 1) := dk_42 (dk_at dksX3_placeWords_2 16 rfl rfl)
theorem dX3_placeWords_64 : decode cX3_placeWords 64 = .ok (.getfield 39, 3) := dk_180 0 39 (dk_at dksX3_placeWords_2 17 rfl rfl)
theorem dX3_placeWords_67 : decode cX3_placeWords 67 = .ok (.bipush 7, 2) := dk_16 7 (dk_at dksX3_placeWords_2 20 rfl rfl)
theorem dX3_placeWords_69 : decode cX3_placeWords 69 = .ok (.aload_n 0, 1) := dk_42 (dk_at dksX3_placeWords_2 22 rfl rfl)
theorem dX3_placeWords_70 : decode cX3_placeWords 70 = .ok (.iload_n 2, 1) := dk_28 (dk_at dksX3_placeWords_2 23 rfl rfl)
theorem dX3_placeWords_71 : decode cX3_placeWords 71 = .ok (.invokevirtual 307, 3) := dk_182 1 51 (dk_at dksX3_placeWords_3 0 rfl rfl)
theorem dX3_placeWords_74 : decode cX3_placeWords 74 = .ok (.i2l, 1) := dk_133 (dk_at dksX3_placeWords_3 3 rfl rfl)
theorem dX3_placeWords_75 : decode cX3_placeWords 75 = .ok (.lastore, 1) := dk_80 (dk_at dksX3_placeWords_3 4 rfl rfl)
theorem dX3_placeWords_76 : decode cX3_placeWords 76 = .ok (.return_, 1) := dk_177 (dk_at dksX3_placeWords_3 5 rfl rfl)
abbrev cX3_clauseThat : ByteArray := prog_19_method_40_code
def yX3_clauseThat : MethodName := ⟨RX3, "clauseThat", "(II)I"⟩
def dkwX3_clauseThat_3 : List UInt8 := [154, 0, 6, 21, 4, 172, 132, 3, 1, 167, 255, 179, 2, 172]
abbrev dktX3_clauseThat_3 : List UInt8 := dkwX3_clauseThat_3 ++ []
def dkwX3_clauseThat_2 : List UInt8 := [42, 180, 0, 20, 21, 4, 6, 96, 46, 42, 180, 0, 20, 21, 4, 7, 96, 46, 182, 1, 15, 10, 148]
abbrev dktX3_clauseThat_2 : List UInt8 := dkwX3_clauseThat_2 ++ dktX3_clauseThat_3
def dkwX3_clauseThat_1 : List UInt8 := [180, 0, 20, 21, 4, 46, 28, 160, 0, 46, 42, 180, 0, 20, 21, 4, 6, 96, 46, 155, 0, 31, 42, 27]
abbrev dktX3_clauseThat_1 : List UInt8 := dkwX3_clauseThat_1 ++ dktX3_clauseThat_2
def dkwX3_clauseThat_0 : List UInt8 := [3, 62, 29, 42, 180, 0, 23, 27, 46, 162, 0, 73, 16, 60, 27, 104, 8, 29, 104, 96, 54, 4, 42]
abbrev dktX3_clauseThat_0 : List UInt8 := dkwX3_clauseThat_0 ++ dktX3_clauseThat_1
theorem dksX3_clauseThat_0 : cX3_clauseThat.data.toList.drop 0 = dktX3_clauseThat_0 := by decide +kernel
theorem dksX3_clauseThat_1 : cX3_clauseThat.data.toList.drop 23 = dktX3_clauseThat_1 := dk_seg dksX3_clauseThat_0 23 rfl rfl
theorem dksX3_clauseThat_2 : cX3_clauseThat.data.toList.drop 47 = dktX3_clauseThat_2 := dk_seg dksX3_clauseThat_1 24 rfl rfl
theorem dksX3_clauseThat_3 : cX3_clauseThat.data.toList.drop 70 = dktX3_clauseThat_3 := dk_seg dksX3_clauseThat_2 23 rfl rfl
theorem dX3_clauseThat_0 : decode cX3_clauseThat 0 = .ok (.iconst 0, 1) := dk_3 (dk_at dksX3_clauseThat_0 0 rfl rfl)
theorem dX3_clauseThat_1 : decode cX3_clauseThat 1 = .ok (.istore_n 3, 1) := dk_62 (dk_at dksX3_clauseThat_0 1 rfl rfl)
theorem dX3_clauseThat_2 : decode cX3_clauseThat 2 = .ok (.iload_n 3, 1) := dk_29 (dk_at dksX3_clauseThat_0 2 rfl rfl)
theorem dX3_clauseThat_3 : decode cX3_clauseThat 3 = .ok (.aload_n 0, 1) := dk_42 (dk_at dksX3_clauseThat_0 3 rfl rfl)
theorem dX3_clauseThat_4 : decode cX3_clauseThat 4 = .ok (.getfield 23, 3) := dk_180 0 23 (dk_at dksX3_clauseThat_0 4 rfl rfl)
theorem dX3_clauseThat_7 : decode cX3_clauseThat 7 = .ok (.iload_n 1, 1) := dk_27 (dk_at dksX3_clauseThat_0 7 rfl rfl)
theorem dX3_clauseThat_8 : decode cX3_clauseThat 8 = .ok (.iaload, 1) := dk_46 (dk_at dksX3_clauseThat_0 8 rfl rfl)
theorem dX3_clauseThat_9 : decode cX3_clauseThat 9 = .ok (.if_icmp .ge 73, 3) := dk_162 0 73 (dk_at dksX3_clauseThat_0 9 rfl rfl)
theorem dX3_clauseThat_12 : decode cX3_clauseThat 12 = .ok (.bipush 60, 2) := dk_16 60 (dk_at dksX3_clauseThat_0 12 rfl rfl)
theorem dX3_clauseThat_14 : decode cX3_clauseThat 14 = .ok (.iload_n 1, 1) := dk_27 (dk_at dksX3_clauseThat_0 14 rfl rfl)
theorem dX3_clauseThat_15 : decode cX3_clauseThat 15 = .ok (.imul, 1) := dk_104 (dk_at dksX3_clauseThat_0 15 rfl rfl)
theorem dX3_clauseThat_16 : decode cX3_clauseThat 16 = .ok (.iconst 5, 1) := dk_8 (dk_at dksX3_clauseThat_0 16 rfl rfl)
theorem dX3_clauseThat_17 : decode cX3_clauseThat 17 = .ok (.iload_n 3, 1) := dk_29 (dk_at dksX3_clauseThat_0 17 rfl rfl)
theorem dX3_clauseThat_18 : decode cX3_clauseThat 18 = .ok (.imul, 1) := dk_104 (dk_at dksX3_clauseThat_0 18 rfl rfl)
theorem dX3_clauseThat_19 : decode cX3_clauseThat 19 = .ok (.iadd, 1) := dk_96 (dk_at dksX3_clauseThat_0 19 rfl rfl)
theorem dX3_clauseThat_20 : decode cX3_clauseThat 20 = .ok (.istore 4, 2) := dk_54 4 (dk_at dksX3_clauseThat_0 20 rfl rfl)
theorem dX3_clauseThat_22 : decode cX3_clauseThat 22 = .ok (.aload_n 0, 1) := dk_42 (dk_at dksX3_clauseThat_0 22 rfl rfl)
theorem dX3_clauseThat_23 : decode cX3_clauseThat 23 = .ok (.getfield 20, 3) := dk_180 0 20 (dk_at dksX3_clauseThat_1 0 rfl rfl)
theorem dX3_clauseThat_26 : decode cX3_clauseThat 26 = .ok (.iload 4, 2) := dk_21 4 (dk_at dksX3_clauseThat_1 3 rfl rfl)
theorem dX3_clauseThat_28 : decode cX3_clauseThat 28 = .ok (.iaload, 1) := dk_46 (dk_at dksX3_clauseThat_1 5 rfl rfl)
theorem dX3_clauseThat_29 : decode cX3_clauseThat 29 = .ok (.iload_n 2, 1) := dk_28 (dk_at dksX3_clauseThat_1 6 rfl rfl)
theorem dX3_clauseThat_30 : decode cX3_clauseThat 30 = .ok (.if_icmp .ne 46, 3) := dk_160 0 46 (dk_at dksX3_clauseThat_1 7 rfl rfl)
theorem dX3_clauseThat_33 : decode cX3_clauseThat 33 = .ok (.aload_n 0, 1) := dk_42 (dk_at dksX3_clauseThat_1 10 rfl rfl)
theorem dX3_clauseThat_34 : decode cX3_clauseThat 34 = .ok (.getfield 20, 3) := dk_180 0 20 (dk_at dksX3_clauseThat_1 11 rfl rfl)
theorem dX3_clauseThat_37 : decode cX3_clauseThat 37 = .ok (.iload 4, 2) := dk_21 4 (dk_at dksX3_clauseThat_1 14 rfl rfl)
theorem dX3_clauseThat_39 : decode cX3_clauseThat 39 = .ok (.iconst 3, 1) := dk_6 (dk_at dksX3_clauseThat_1 16 rfl rfl)
theorem dX3_clauseThat_40 : decode cX3_clauseThat 40 = .ok (.iadd, 1) := dk_96 (dk_at dksX3_clauseThat_1 17 rfl rfl)
theorem dX3_clauseThat_41 : decode cX3_clauseThat 41 = .ok (.iaload, 1) := dk_46 (dk_at dksX3_clauseThat_1 18 rfl rfl)
theorem dX3_clauseThat_42 : decode cX3_clauseThat 42 = .ok (.ifCond .lt 31, 3) := dk_155 0 31 (dk_at dksX3_clauseThat_1 19 rfl rfl)
theorem dX3_clauseThat_45 : decode cX3_clauseThat 45 = .ok (.aload_n 0, 1) := dk_42 (dk_at dksX3_clauseThat_1 22 rfl rfl)
theorem dX3_clauseThat_46 : decode cX3_clauseThat 46 = .ok (.iload_n 1, 1) := dk_27 (dk_at dksX3_clauseThat_1 23 rfl rfl)
theorem dX3_clauseThat_47 : decode cX3_clauseThat 47 = .ok (.aload_n 0, 1) := dk_42 (dk_at dksX3_clauseThat_2 0 rfl rfl)
theorem dX3_clauseThat_48 : decode cX3_clauseThat 48 = .ok (.getfield 20, 3) := dk_180 0 20 (dk_at dksX3_clauseThat_2 1 rfl rfl)
theorem dX3_clauseThat_51 : decode cX3_clauseThat 51 = .ok (.iload 4, 2) := dk_21 4 (dk_at dksX3_clauseThat_2 4 rfl rfl)
theorem dX3_clauseThat_53 : decode cX3_clauseThat 53 = .ok (.iconst 3, 1) := dk_6 (dk_at dksX3_clauseThat_2 6 rfl rfl)
theorem dX3_clauseThat_54 : decode cX3_clauseThat 54 = .ok (.iadd, 1) := dk_96 (dk_at dksX3_clauseThat_2 7 rfl rfl)
theorem dX3_clauseThat_55 : decode cX3_clauseThat 55 = .ok (.iaload, 1) := dk_46 (dk_at dksX3_clauseThat_2 8 rfl rfl)
theorem dX3_clauseThat_56 : decode cX3_clauseThat 56 = .ok (.aload_n 0, 1) := dk_42 (dk_at dksX3_clauseThat_2 9 rfl rfl)
theorem dX3_clauseThat_57 : decode cX3_clauseThat 57 = .ok (.getfield 20, 3) := dk_180 0 20 (dk_at dksX3_clauseThat_2 10 rfl rfl)
theorem dX3_clauseThat_60 : decode cX3_clauseThat 60 = .ok (.iload 4, 2) := dk_21 4 (dk_at dksX3_clauseThat_2 13 rfl rfl)
theorem dX3_clauseThat_62 : decode cX3_clauseThat 62 = .ok (.iconst 4, 1) := dk_7 (dk_at dksX3_clauseThat_2 15 rfl rfl)
theorem dX3_clauseThat_63 : decode cX3_clauseThat 63 = .ok (.iadd, 1) := dk_96 (dk_at dksX3_clauseThat_2 16 rfl rfl)
theorem dX3_clauseThat_64 : decode cX3_clauseThat 64 = .ok (.iaload, 1) := dk_46 (dk_at dksX3_clauseThat_2 17 rfl rfl)
theorem dX3_clauseThat_65 : decode cX3_clauseThat 65 = .ok (.invokevirtual 271, 3) := dk_182 1 15 (dk_at dksX3_clauseThat_2 18 rfl rfl)
theorem dX3_clauseThat_68 : decode cX3_clauseThat 68 = .ok (.lconst 1, 1) := dk_10 (dk_at dksX3_clauseThat_2 21 rfl rfl)
theorem dX3_clauseThat_69 : decode cX3_clauseThat 69 = .ok (.lcmp, 1) := dk_148 (dk_at dksX3_clauseThat_2 22 rfl rfl)
theorem dX3_clauseThat_70 : decode cX3_clauseThat 70 = .ok (.ifCond .ne 6, 3) := dk_154 0 6 (dk_at dksX3_clauseThat_3 0 rfl rfl)
theorem dX3_clauseThat_73 : decode cX3_clauseThat 73 = .ok (.iload 4, 2) := dk_21 4 (dk_at dksX3_clauseThat_3 3 rfl rfl)
theorem dX3_clauseThat_75 : decode cX3_clauseThat 75 = .ok (.ireturn, 1) := dk_172 (dk_at dksX3_clauseThat_3 5 rfl rfl)
theorem dX3_clauseThat_76 : decode cX3_clauseThat 76 = .ok (.iinc 3 1, 3) := dk_132 3 1 (dk_at dksX3_clauseThat_3 6 rfl rfl)
theorem dX3_clauseThat_79 : decode cX3_clauseThat 79 = .ok (.goto (-77), 3) := dk_167 255 179 (dk_at dksX3_clauseThat_3 9 rfl rfl)
theorem dX3_clauseThat_82 : decode cX3_clauseThat 82 = .ok (.iconst (-1), 1) := dk_2 (dk_at dksX3_clauseThat_3 12 rfl rfl)
theorem dX3_clauseThat_83 : decode cX3_clauseThat 83 = .ok (.ireturn, 1) := dk_172 (dk_at dksX3_clauseThat_3 13 rfl rfl)
abbrev cX3_reckons : ByteArray := prog_19_method_39_code
def yX3_reckons : MethodName := ⟨RX3, "reckons", "(III)J"⟩
def dkwX3_reckons_5 : List UInt8 := [21, 5, 22, 9, 22, 7, 184, 1, 11, 182, 1, 3, 132, 4, 1, 167, 255, 132, 42, 182, 1, 7, 173]
abbrev dktX3_reckons_5 : List UInt8 := dkwX3_reckons_5 ++ []
def dkwX3_reckons_4 : List UInt8 := [182, 1, 7, 101, 182, 1, 3, 167, 0, 28, 42, 182, 1, 7, 55, 7, 42, 182, 1, 7, 55, 9, 42]
abbrev dktX3_reckons_4 : List UInt8 := dkwX3_reckons_4 ++ dktX3_reckons_5
def dkwX3_reckons_3 : List UInt8 := [42, 180, 0, 39, 21, 6, 47, 182, 1, 3, 167, 0, 48, 21, 5, 16, 11, 160, 0, 16, 42, 10, 42]
abbrev dktX3_reckons_3 : List UInt8 := dkwX3_reckons_3 ++ dktX3_reckons_4
def dkwX3_reckons_2 : List UInt8 := [54, 6, 21, 5, 154, 0, 13, 42, 21, 6, 133, 182, 1, 3, 167, 0, 68, 21, 5, 4, 160, 0, 17, 42]
abbrev dktX3_reckons_2 : List UInt8 := dkwX3_reckons_2 ++ dktX3_reckons_3
def dkwX3_reckons_1 : List UInt8 := [21, 4, 96, 46, 16, 15, 126, 54, 5, 42, 180, 0, 13, 17, 1, 144, 27, 104, 21, 4, 96, 46, 7, 122]
abbrev dktX3_reckons_1 : List UInt8 := dkwX3_reckons_1 ++ dktX3_reckons_2
def dkwX3_reckons_0 : List UInt8 := [42, 3, 181, 1, 0, 28, 54, 4, 21, 4, 29, 162, 0, 124, 42, 180, 0, 13, 17, 1, 144, 27, 104]
abbrev dktX3_reckons_0 : List UInt8 := dkwX3_reckons_0 ++ dktX3_reckons_1
theorem dksX3_reckons_0 : cX3_reckons.data.toList.drop 0 = dktX3_reckons_0 := by decide +kernel
theorem dksX3_reckons_1 : cX3_reckons.data.toList.drop 23 = dktX3_reckons_1 := dk_seg dksX3_reckons_0 23 rfl rfl
theorem dksX3_reckons_2 : cX3_reckons.data.toList.drop 47 = dktX3_reckons_2 := dk_seg dksX3_reckons_1 24 rfl rfl
theorem dksX3_reckons_3 : cX3_reckons.data.toList.drop 71 = dktX3_reckons_3 := dk_seg dksX3_reckons_2 24 rfl rfl
theorem dksX3_reckons_4 : cX3_reckons.data.toList.drop 94 = dktX3_reckons_4 := dk_seg dksX3_reckons_3 23 rfl rfl
theorem dksX3_reckons_5 : cX3_reckons.data.toList.drop 117 = dktX3_reckons_5 := dk_seg dksX3_reckons_4 23 rfl rfl
theorem dX3_reckons_0 : decode cX3_reckons 0 = .ok (.aload_n 0, 1) := dk_42 (dk_at dksX3_reckons_0 0 rfl rfl)
theorem dX3_reckons_1 : decode cX3_reckons 1 = .ok (.iconst 0, 1) := dk_3 (dk_at dksX3_reckons_0 1 rfl rfl)
theorem dX3_reckons_2 : decode cX3_reckons 2 = .ok (.putfield 256, 3) := dk_181 1 0 (dk_at dksX3_reckons_0 2 rfl rfl)
theorem dX3_reckons_5 : decode cX3_reckons 5 = .ok (.iload_n 2, 1) := dk_28 (dk_at dksX3_reckons_0 5 rfl rfl)
theorem dX3_reckons_6 : decode cX3_reckons 6 = .ok (.istore 4, 2) := dk_54 4 (dk_at dksX3_reckons_0 6 rfl rfl)
theorem dX3_reckons_8 : decode cX3_reckons 8 = .ok (.iload 4, 2) := dk_21 4 (dk_at dksX3_reckons_0 8 rfl rfl)
theorem dX3_reckons_10 : decode cX3_reckons 10 = .ok (.iload_n 3, 1) := dk_29 (dk_at dksX3_reckons_0 10 rfl rfl)
theorem dX3_reckons_11 : decode cX3_reckons 11 = .ok (.if_icmp .ge 124, 3) := dk_162 0 124 (dk_at dksX3_reckons_0 11 rfl rfl)
theorem dX3_reckons_14 : decode cX3_reckons 14 = .ok (.aload_n 0, 1) := dk_42 (dk_at dksX3_reckons_0 14 rfl rfl)
theorem dX3_reckons_15 : decode cX3_reckons 15 = .ok (.getfield 13, 3) := dk_180 0 13 (dk_at dksX3_reckons_0 15 rfl rfl)
theorem dX3_reckons_18 : decode cX3_reckons 18 = .ok (.sipush 400, 3) := dk_17 1 144 (dk_at dksX3_reckons_0 18 rfl rfl)
theorem dX3_reckons_21 : decode cX3_reckons 21 = .ok (.iload_n 1, 1) := dk_27 (dk_at dksX3_reckons_0 21 rfl rfl)
theorem dX3_reckons_22 : decode cX3_reckons 22 = .ok (.imul, 1) := dk_104 (dk_at dksX3_reckons_0 22 rfl rfl)
theorem dX3_reckons_23 : decode cX3_reckons 23 = .ok (.iload 4, 2) := dk_21 4 (dk_at dksX3_reckons_1 0 rfl rfl)
theorem dX3_reckons_25 : decode cX3_reckons 25 = .ok (.iadd, 1) := dk_96 (dk_at dksX3_reckons_1 2 rfl rfl)
theorem dX3_reckons_26 : decode cX3_reckons 26 = .ok (.iaload, 1) := dk_46 (dk_at dksX3_reckons_1 3 rfl rfl)
theorem dX3_reckons_27 : decode cX3_reckons 27 = .ok (.bipush 15, 2) := dk_16 15 (dk_at dksX3_reckons_1 4 rfl rfl)
theorem dX3_reckons_29 : decode cX3_reckons 29 = .ok (.iand, 1) := dk_126 (dk_at dksX3_reckons_1 6 rfl rfl)
theorem dX3_reckons_30 : decode cX3_reckons 30 = .ok (.istore 5, 2) := dk_54 5 (dk_at dksX3_reckons_1 7 rfl rfl)
theorem dX3_reckons_32 : decode cX3_reckons 32 = .ok (.aload_n 0, 1) := dk_42 (dk_at dksX3_reckons_1 9 rfl rfl)
theorem dX3_reckons_33 : decode cX3_reckons 33 = .ok (.getfield 13, 3) := dk_180 0 13 (dk_at dksX3_reckons_1 10 rfl rfl)
theorem dX3_reckons_36 : decode cX3_reckons 36 = .ok (.sipush 400, 3) := dk_17 1 144 (dk_at dksX3_reckons_1 13 rfl rfl)
theorem dX3_reckons_39 : decode cX3_reckons 39 = .ok (.iload_n 1, 1) := dk_27 (dk_at dksX3_reckons_1 16 rfl rfl)
theorem dX3_reckons_40 : decode cX3_reckons 40 = .ok (.imul, 1) := dk_104 (dk_at dksX3_reckons_1 17 rfl rfl)
theorem dX3_reckons_41 : decode cX3_reckons 41 = .ok (.iload 4, 2) := dk_21 4 (dk_at dksX3_reckons_1 18 rfl rfl)
theorem dX3_reckons_43 : decode cX3_reckons 43 = .ok (.iadd, 1) := dk_96 (dk_at dksX3_reckons_1 20 rfl rfl)
theorem dX3_reckons_44 : decode cX3_reckons 44 = .ok (.iaload, 1) := dk_46 (dk_at dksX3_reckons_1 21 rfl rfl)
theorem dX3_reckons_45 : decode cX3_reckons 45 = .ok (.iconst 4, 1) := dk_7 (dk_at dksX3_reckons_1 22 rfl rfl)
theorem dX3_reckons_46 : decode cX3_reckons 46 = .ok (.ishr, 1) := dk_122 (dk_at dksX3_reckons_1 23 rfl rfl)
theorem dX3_reckons_47 : decode cX3_reckons 47 = .ok (.istore 6, 2) := dk_54 6 (dk_at dksX3_reckons_2 0 rfl rfl)
theorem dX3_reckons_49 : decode cX3_reckons 49 = .ok (.iload 5, 2) := dk_21 5 (dk_at dksX3_reckons_2 2 rfl rfl)
theorem dX3_reckons_51 : decode cX3_reckons 51 = .ok (.ifCond .ne 13, 3) := dk_154 0 13 (dk_at dksX3_reckons_2 4 rfl rfl)
theorem dX3_reckons_54 : decode cX3_reckons 54 = .ok (.aload_n 0, 1) := dk_42 (dk_at dksX3_reckons_2 7 rfl rfl)
theorem dX3_reckons_55 : decode cX3_reckons 55 = .ok (.iload 6, 2) := dk_21 6 (dk_at dksX3_reckons_2 8 rfl rfl)
theorem dX3_reckons_57 : decode cX3_reckons 57 = .ok (.i2l, 1) := dk_133 (dk_at dksX3_reckons_2 10 rfl rfl)
theorem dX3_reckons_58 : decode cX3_reckons 58 = .ok (.invokevirtual 259, 3) := dk_182 1 3 (dk_at dksX3_reckons_2 11 rfl rfl)
theorem dX3_reckons_61 : decode cX3_reckons 61 = .ok (.goto 68, 3) := dk_167 0 68 (dk_at dksX3_reckons_2 14 rfl rfl)
theorem dX3_reckons_64 : decode cX3_reckons 64 = .ok (.iload 5, 2) := dk_21 5 (dk_at dksX3_reckons_2 17 rfl rfl)
theorem dX3_reckons_66 : decode cX3_reckons 66 = .ok (.iconst 1, 1) := dk_4 (dk_at dksX3_reckons_2 19 rfl rfl)
theorem dX3_reckons_67 : decode cX3_reckons 67 = .ok (.if_icmp .ne 17, 3) := dk_160 0 17 (dk_at dksX3_reckons_2 20 rfl rfl)
theorem dX3_reckons_70 : decode cX3_reckons 70 = .ok (.aload_n 0, 1) := dk_42 (dk_at dksX3_reckons_2 23 rfl rfl)
theorem dX3_reckons_71 : decode cX3_reckons 71 = .ok (.aload_n 0, 1) := dk_42 (dk_at dksX3_reckons_3 0 rfl rfl)
theorem dX3_reckons_72 : decode cX3_reckons 72 = .ok (.getfield 39, 3) := dk_180 0 39 (dk_at dksX3_reckons_3 1 rfl rfl)
theorem dX3_reckons_75 : decode cX3_reckons 75 = .ok (.iload 6, 2) := dk_21 6 (dk_at dksX3_reckons_3 4 rfl rfl)
theorem dX3_reckons_77 : decode cX3_reckons 77 = .ok (.laload, 1) := dk_47 (dk_at dksX3_reckons_3 6 rfl rfl)
theorem dX3_reckons_78 : decode cX3_reckons 78 = .ok (.invokevirtual 259, 3) := dk_182 1 3 (dk_at dksX3_reckons_3 7 rfl rfl)
theorem dX3_reckons_81 : decode cX3_reckons 81 = .ok (.goto 48, 3) := dk_167 0 48 (dk_at dksX3_reckons_3 10 rfl rfl)
theorem dX3_reckons_84 : decode cX3_reckons 84 = .ok (.iload 5, 2) := dk_21 5 (dk_at dksX3_reckons_3 13 rfl rfl)
theorem dX3_reckons_86 : decode cX3_reckons 86 = .ok (.bipush 11, 2) := dk_16 11 (dk_at dksX3_reckons_3 15 rfl rfl)
theorem dX3_reckons_88 : decode cX3_reckons 88 = .ok (.if_icmp .ne 16, 3) := dk_160 0 16 (dk_at dksX3_reckons_3 17 rfl rfl)
theorem dX3_reckons_91 : decode cX3_reckons 91 = .ok (.aload_n 0, 1) := dk_42 (dk_at dksX3_reckons_3 20 rfl rfl)
theorem dX3_reckons_92 : decode cX3_reckons 92 = .ok (.lconst 1, 1) := dk_10 (dk_at dksX3_reckons_3 21 rfl rfl)
theorem dX3_reckons_93 : decode cX3_reckons 93 = .ok (.aload_n 0, 1) := dk_42 (dk_at dksX3_reckons_3 22 rfl rfl)
theorem dX3_reckons_94 : decode cX3_reckons 94 = .ok (.invokevirtual 263, 3) := dk_182 1 7 (dk_at dksX3_reckons_4 0 rfl rfl)
theorem dX3_reckons_97 : decode cX3_reckons 97 = .ok (.lsub, 1) := dk_101 (dk_at dksX3_reckons_4 3 rfl rfl)
theorem dX3_reckons_98 : decode cX3_reckons 98 = .ok (.invokevirtual 259, 3) := dk_182 1 3 (dk_at dksX3_reckons_4 4 rfl rfl)
theorem dX3_reckons_101 : decode cX3_reckons 101 = .ok (.goto 28, 3) := dk_167 0 28 (dk_at dksX3_reckons_4 7 rfl rfl)
theorem dX3_reckons_104 : decode cX3_reckons 104 = .ok (.aload_n 0, 1) := dk_42 (dk_at dksX3_reckons_4 10 rfl rfl)
theorem dX3_reckons_105 : decode cX3_reckons 105 = .ok (.invokevirtual 263, 3) := dk_182 1 7 (dk_at dksX3_reckons_4 11 rfl rfl)
theorem dX3_reckons_108 : decode cX3_reckons 108 = .ok (.lstore 7, 2) := dk_55 7 (dk_at dksX3_reckons_4 14 rfl rfl)
theorem dX3_reckons_110 : decode cX3_reckons 110 = .ok (.aload_n 0, 1) := dk_42 (dk_at dksX3_reckons_4 16 rfl rfl)
theorem dX3_reckons_111 : decode cX3_reckons 111 = .ok (.invokevirtual 263, 3) := dk_182 1 7 (dk_at dksX3_reckons_4 17 rfl rfl)
theorem dX3_reckons_114 : decode cX3_reckons 114 = .ok (.lstore 9, 2) := dk_55 9 (dk_at dksX3_reckons_4 20 rfl rfl)
theorem dX3_reckons_116 : decode cX3_reckons 116 = .ok (.aload_n 0, 1) := dk_42 (dk_at dksX3_reckons_4 22 rfl rfl)
theorem dX3_reckons_117 : decode cX3_reckons 117 = .ok (.iload 5, 2) := dk_21 5 (dk_at dksX3_reckons_5 0 rfl rfl)
theorem dX3_reckons_119 : decode cX3_reckons 119 = .ok (.lload 9, 2) := dk_22 9 (dk_at dksX3_reckons_5 2 rfl rfl)
theorem dX3_reckons_121 : decode cX3_reckons 121 = .ok (.lload 7, 2) := dk_22 7 (dk_at dksX3_reckons_5 4 rfl rfl)
theorem dX3_reckons_123 : decode cX3_reckons 123 = .ok (.invokestatic 267, 3) := dk_184 1 11 (dk_at dksX3_reckons_5 6 rfl rfl)
theorem dX3_reckons_126 : decode cX3_reckons 126 = .ok (.invokevirtual 259, 3) := dk_182 1 3 (dk_at dksX3_reckons_5 9 rfl rfl)
theorem dX3_reckons_129 : decode cX3_reckons 129 = .ok (.iinc 4 1, 3) := dk_132 4 1 (dk_at dksX3_reckons_5 12 rfl rfl)
theorem dX3_reckons_132 : decode cX3_reckons 132 = .ok (.goto (-124), 3) := dk_167 255 132 (dk_at dksX3_reckons_5 15 rfl rfl)
theorem dX3_reckons_135 : decode cX3_reckons 135 = .ok (.aload_n 0, 1) := dk_42 (dk_at dksX3_reckons_5 18 rfl rfl)
theorem dX3_reckons_136 : decode cX3_reckons 136 = .ok (.invokevirtual 263, 3) := dk_182 1 7 (dk_at dksX3_reckons_5 19 rfl rfl)
theorem dX3_reckons_139 : decode cX3_reckons 139 = .ok (.lreturn, 1) := dk_173 (dk_at dksX3_reckons_5 22 rfl rfl)
abbrev cX3_push : ByteArray := prog_19_method_36_code
def yX3_push : MethodName := ⟨RX3, "push", "(J)V"⟩
def dkwX3_push_0 : List UInt8 := [42, 180, 0, 35, 42, 180, 1, 0, 31, 80, 42, 89, 180, 1, 0, 4, 96, 181, 1, 0, 177]
abbrev dktX3_push_0 : List UInt8 := dkwX3_push_0 ++ []
theorem dksX3_push_0 : cX3_push.data.toList.drop 0 = dktX3_push_0 := by decide +kernel
theorem dX3_push_0 : decode cX3_push 0 = .ok (.aload_n 0, 1) := dk_42 (dk_at dksX3_push_0 0 rfl rfl)
theorem dX3_push_1 : decode cX3_push 1 = .ok (.getfield 35, 3) := dk_180 0 35 (dk_at dksX3_push_0 1 rfl rfl)
theorem dX3_push_4 : decode cX3_push 4 = .ok (.aload_n 0, 1) := dk_42 (dk_at dksX3_push_0 4 rfl rfl)
theorem dX3_push_5 : decode cX3_push 5 = .ok (.getfield 256, 3) := dk_180 1 0 (dk_at dksX3_push_0 5 rfl rfl)
theorem dX3_push_8 : decode cX3_push 8 = .ok (.lload_n 1, 1) := dk_31 (dk_at dksX3_push_0 8 rfl rfl)
theorem dX3_push_9 : decode cX3_push 9 = .ok (.lastore, 1) := dk_80 (dk_at dksX3_push_0 9 rfl rfl)
theorem dX3_push_10 : decode cX3_push 10 = .ok (.aload_n 0, 1) := dk_42 (dk_at dksX3_push_0 10 rfl rfl)
theorem dX3_push_11 : decode cX3_push 11 = .ok (.dup, 1) := dk_89 (dk_at dksX3_push_0 11 rfl rfl)
theorem dX3_push_12 : decode cX3_push 12 = .ok (.getfield 256, 3) := dk_180 1 0 (dk_at dksX3_push_0 12 rfl rfl)
theorem dX3_push_15 : decode cX3_push 15 = .ok (.iconst 1, 1) := dk_4 (dk_at dksX3_push_0 15 rfl rfl)
theorem dX3_push_16 : decode cX3_push 16 = .ok (.iadd, 1) := dk_96 (dk_at dksX3_push_0 16 rfl rfl)
theorem dX3_push_17 : decode cX3_push 17 = .ok (.putfield 256, 3) := dk_181 1 0 (dk_at dksX3_push_0 17 rfl rfl)
theorem dX3_push_20 : decode cX3_push 20 = .ok (.return_, 1) := dk_177 (dk_at dksX3_push_0 20 rfl rfl)
abbrev cX3_pop : ByteArray := prog_19_method_37_code
def yX3_pop : MethodName := ⟨RX3, "pop", "()J"⟩
def dkwX3_pop_0 : List UInt8 := [42, 89, 180, 1, 0, 4, 100, 181, 1, 0, 42, 180, 0, 35, 42, 180, 1, 0, 47, 173]
abbrev dktX3_pop_0 : List UInt8 := dkwX3_pop_0 ++ []
theorem dksX3_pop_0 : cX3_pop.data.toList.drop 0 = dktX3_pop_0 := by decide +kernel
theorem dX3_pop_0 : decode cX3_pop 0 = .ok (.aload_n 0, 1) := dk_42 (dk_at dksX3_pop_0 0 rfl rfl)
theorem dX3_pop_1 : decode cX3_pop 1 = .ok (.dup, 1) := dk_89 (dk_at dksX3_pop_0 1 rfl rfl)
theorem dX3_pop_2 : decode cX3_pop 2 = .ok (.getfield 256, 3) := dk_180 1 0 (dk_at dksX3_pop_0 2 rfl rfl)
theorem dX3_pop_5 : decode cX3_pop 5 = .ok (.iconst 1, 1) := dk_4 (dk_at dksX3_pop_0 5 rfl rfl)
theorem dX3_pop_6 : decode cX3_pop 6 = .ok (.isub, 1) := dk_100 (dk_at dksX3_pop_0 6 rfl rfl)
theorem dX3_pop_7 : decode cX3_pop 7 = .ok (.putfield 256, 3) := dk_181 1 0 (dk_at dksX3_pop_0 7 rfl rfl)
theorem dX3_pop_10 : decode cX3_pop 10 = .ok (.aload_n 0, 1) := dk_42 (dk_at dksX3_pop_0 10 rfl rfl)
theorem dX3_pop_11 : decode cX3_pop 11 = .ok (.getfield 35, 3) := dk_180 0 35 (dk_at dksX3_pop_0 11 rfl rfl)
theorem dX3_pop_14 : decode cX3_pop 14 = .ok (.aload_n 0, 1) := dk_42 (dk_at dksX3_pop_0 14 rfl rfl)
theorem dX3_pop_15 : decode cX3_pop 15 = .ok (.getfield 256, 3) := dk_180 1 0 (dk_at dksX3_pop_0 15 rfl rfl)
theorem dX3_pop_18 : decode cX3_pop 18 = .ok (.laload, 1) := dk_47 (dk_at dksX3_pop_0 18 rfl rfl)
theorem dX3_pop_19 : decode cX3_pop 19 = .ok (.lreturn, 1) := dk_173 (dk_at dksX3_pop_0 19 rfl rfl)
abbrev cX3_one : ByteArray := prog_19_method_38_code
def yX3_one : MethodName := ⟨RX3, "one", "(IJJ)J"⟩
def dkwX3_one_5 : List UInt8 := [9, 173, 31, 33, 148, 158, 0, 7, 10, 167, 0, 4, 9, 173, 31, 33, 127, 173, 31, 33, 129, 173]
abbrev dktX3_one_5 : List UInt8 := dkwX3_one_5 ++ []
def dkwX3_one_4 : List UInt8 := [9, 173, 31, 33, 148, 154, 0, 7, 10, 167, 0, 4, 9, 173, 31, 33, 148, 155, 0, 7, 10, 167, 0, 4]
abbrev dktX3_one_4 : List UInt8 := dkwX3_one_4 ++ dktX3_one_5
def dkwX3_one_3 : List UInt8 := [109, 173, 31, 33, 148, 156, 0, 7, 10, 167, 0, 4, 9, 173, 31, 33, 148, 157, 0, 7, 10, 167, 0, 4]
abbrev dktX3_one_3 : List UInt8 := dkwX3_one_3 ++ dktX3_one_4
def dkwX3_one_2 : List UInt8 := [31, 33, 97, 173, 31, 33, 101, 173, 31, 33, 105, 173, 33, 9, 148, 154, 0, 7, 9, 167, 0, 6, 31, 33]
abbrev dktX3_one_2 : List UInt8 := dkwX3_one_2 ++ dktX3_one_3
def dkwX3_one_1 : List UInt8 := [170, 0, 0, 0, 0, 0, 149, 0, 0, 0, 2, 0, 0, 0, 12, 0, 0, 0, 59, 0, 0, 0, 63, 0, 0, 0, 67, 0, 0, 0, 71, 0, 0, 0, 85, 0, 0, 0, 97, 0, 0, 0, 109, 0, 0, 0, 121, 0, 0, 0, 133, 0, 0, 0, 149, 0, 0, 0, 145]
abbrev dktX3_one_1 : List UInt8 := dkwX3_one_1 ++ dktX3_one_2
def dkwX3_one_0 : List UInt8 := [26]
abbrev dktX3_one_0 : List UInt8 := dkwX3_one_0 ++ dktX3_one_1
theorem dksX3_one_0 : cX3_one.data.toList.drop 0 = dktX3_one_0 := by decide +kernel
theorem dksX3_one_1 : cX3_one.data.toList.drop 1 = dktX3_one_1 := dk_seg dksX3_one_0 1 rfl rfl
theorem dksX3_one_2 : cX3_one.data.toList.drop 60 = dktX3_one_2 := dk_seg dksX3_one_1 59 rfl rfl
theorem dksX3_one_3 : cX3_one.data.toList.drop 84 = dktX3_one_3 := dk_seg dksX3_one_2 24 rfl rfl
theorem dksX3_one_4 : cX3_one.data.toList.drop 108 = dktX3_one_4 := dk_seg dksX3_one_3 24 rfl rfl
theorem dksX3_one_5 : cX3_one.data.toList.drop 132 = dktX3_one_5 := dk_seg dksX3_one_4 24 rfl rfl
theorem dX3_one_0 : decode cX3_one 0 = .ok (.iload_n 0, 1) := dk_26 (dk_at dksX3_one_0 0 rfl rfl)
theorem dX3_one_1 : decode cX3_one 1 = .ok (.tableswitch 149 2 12 #[59, 63, 67, 71, 85, 97, 109, 121, 133, 149, 145], 59) := by decide +kernel
theorem dX3_one_60 : decode cX3_one 60 = .ok (.lload_n 1, 1) := dk_31 (dk_at dksX3_one_2 0 rfl rfl)
theorem dX3_one_61 : decode cX3_one 61 = .ok (.lload_n 3, 1) := dk_33 (dk_at dksX3_one_2 1 rfl rfl)
theorem dX3_one_62 : decode cX3_one 62 = .ok (.ladd, 1) := dk_97 (dk_at dksX3_one_2 2 rfl rfl)
theorem dX3_one_63 : decode cX3_one 63 = .ok (.lreturn, 1) := dk_173 (dk_at dksX3_one_2 3 rfl rfl)
theorem dX3_one_64 : decode cX3_one 64 = .ok (.lload_n 1, 1) := dk_31 (dk_at dksX3_one_2 4 rfl rfl)
theorem dX3_one_65 : decode cX3_one 65 = .ok (.lload_n 3, 1) := dk_33 (dk_at dksX3_one_2 5 rfl rfl)
theorem dX3_one_66 : decode cX3_one 66 = .ok (.lsub, 1) := dk_101 (dk_at dksX3_one_2 6 rfl rfl)
theorem dX3_one_67 : decode cX3_one 67 = .ok (.lreturn, 1) := dk_173 (dk_at dksX3_one_2 7 rfl rfl)
theorem dX3_one_68 : decode cX3_one 68 = .ok (.lload_n 1, 1) := dk_31 (dk_at dksX3_one_2 8 rfl rfl)
theorem dX3_one_69 : decode cX3_one 69 = .ok (.lload_n 3, 1) := dk_33 (dk_at dksX3_one_2 9 rfl rfl)
theorem dX3_one_70 : decode cX3_one 70 = .ok (.lmul, 1) := dk_105 (dk_at dksX3_one_2 10 rfl rfl)
theorem dX3_one_71 : decode cX3_one 71 = .ok (.lreturn, 1) := dk_173 (dk_at dksX3_one_2 11 rfl rfl)
theorem dX3_one_72 : decode cX3_one 72 = .ok (.lload_n 3, 1) := dk_33 (dk_at dksX3_one_2 12 rfl rfl)
theorem dX3_one_73 : decode cX3_one 73 = .ok (.lconst 0, 1) := dk_9 (dk_at dksX3_one_2 13 rfl rfl)
theorem dX3_one_74 : decode cX3_one 74 = .ok (.lcmp, 1) := dk_148 (dk_at dksX3_one_2 14 rfl rfl)
theorem dX3_one_75 : decode cX3_one 75 = .ok (.ifCond .ne 7, 3) := dk_154 0 7 (dk_at dksX3_one_2 15 rfl rfl)
theorem dX3_one_78 : decode cX3_one 78 = .ok (.lconst 0, 1) := dk_9 (dk_at dksX3_one_2 18 rfl rfl)
theorem dX3_one_79 : decode cX3_one 79 = .ok (.goto 6, 3) := dk_167 0 6 (dk_at dksX3_one_2 19 rfl rfl)
theorem dX3_one_82 : decode cX3_one 82 = .ok (.lload_n 1, 1) := dk_31 (dk_at dksX3_one_2 22 rfl rfl)
theorem dX3_one_83 : decode cX3_one 83 = .ok (.lload_n 3, 1) := dk_33 (dk_at dksX3_one_2 23 rfl rfl)
theorem dX3_one_84 : decode cX3_one 84 = .ok (.ldiv, 1) := dk_109 (dk_at dksX3_one_3 0 rfl rfl)
theorem dX3_one_85 : decode cX3_one 85 = .ok (.lreturn, 1) := dk_173 (dk_at dksX3_one_3 1 rfl rfl)
theorem dX3_one_86 : decode cX3_one 86 = .ok (.lload_n 1, 1) := dk_31 (dk_at dksX3_one_3 2 rfl rfl)
theorem dX3_one_87 : decode cX3_one 87 = .ok (.lload_n 3, 1) := dk_33 (dk_at dksX3_one_3 3 rfl rfl)
theorem dX3_one_88 : decode cX3_one 88 = .ok (.lcmp, 1) := dk_148 (dk_at dksX3_one_3 4 rfl rfl)
theorem dX3_one_89 : decode cX3_one 89 = .ok (.ifCond .ge 7, 3) := dk_156 0 7 (dk_at dksX3_one_3 5 rfl rfl)
theorem dX3_one_92 : decode cX3_one 92 = .ok (.lconst 1, 1) := dk_10 (dk_at dksX3_one_3 8 rfl rfl)
theorem dX3_one_93 : decode cX3_one 93 = .ok (.goto 4, 3) := dk_167 0 4 (dk_at dksX3_one_3 9 rfl rfl)
theorem dX3_one_96 : decode cX3_one 96 = .ok (.lconst 0, 1) := dk_9 (dk_at dksX3_one_3 12 rfl rfl)
theorem dX3_one_97 : decode cX3_one 97 = .ok (.lreturn, 1) := dk_173 (dk_at dksX3_one_3 13 rfl rfl)
theorem dX3_one_98 : decode cX3_one 98 = .ok (.lload_n 1, 1) := dk_31 (dk_at dksX3_one_3 14 rfl rfl)
theorem dX3_one_99 : decode cX3_one 99 = .ok (.lload_n 3, 1) := dk_33 (dk_at dksX3_one_3 15 rfl rfl)
theorem dX3_one_100 : decode cX3_one 100 = .ok (.lcmp, 1) := dk_148 (dk_at dksX3_one_3 16 rfl rfl)
theorem dX3_one_101 : decode cX3_one 101 = .ok (.ifCond .gt 7, 3) := dk_157 0 7 (dk_at dksX3_one_3 17 rfl rfl)
theorem dX3_one_104 : decode cX3_one 104 = .ok (.lconst 1, 1) := dk_10 (dk_at dksX3_one_3 20 rfl rfl)
theorem dX3_one_105 : decode cX3_one 105 = .ok (.goto 4, 3) := dk_167 0 4 (dk_at dksX3_one_3 21 rfl rfl)
theorem dX3_one_108 : decode cX3_one 108 = .ok (.lconst 0, 1) := dk_9 (dk_at dksX3_one_4 0 rfl rfl)
theorem dX3_one_109 : decode cX3_one 109 = .ok (.lreturn, 1) := dk_173 (dk_at dksX3_one_4 1 rfl rfl)
theorem dX3_one_110 : decode cX3_one 110 = .ok (.lload_n 1, 1) := dk_31 (dk_at dksX3_one_4 2 rfl rfl)
theorem dX3_one_111 : decode cX3_one 111 = .ok (.lload_n 3, 1) := dk_33 (dk_at dksX3_one_4 3 rfl rfl)
theorem dX3_one_112 : decode cX3_one 112 = .ok (.lcmp, 1) := dk_148 (dk_at dksX3_one_4 4 rfl rfl)
theorem dX3_one_113 : decode cX3_one 113 = .ok (.ifCond .ne 7, 3) := dk_154 0 7 (dk_at dksX3_one_4 5 rfl rfl)
theorem dX3_one_116 : decode cX3_one 116 = .ok (.lconst 1, 1) := dk_10 (dk_at dksX3_one_4 8 rfl rfl)
theorem dX3_one_117 : decode cX3_one 117 = .ok (.goto 4, 3) := dk_167 0 4 (dk_at dksX3_one_4 9 rfl rfl)
theorem dX3_one_120 : decode cX3_one 120 = .ok (.lconst 0, 1) := dk_9 (dk_at dksX3_one_4 12 rfl rfl)
theorem dX3_one_121 : decode cX3_one 121 = .ok (.lreturn, 1) := dk_173 (dk_at dksX3_one_4 13 rfl rfl)
theorem dX3_one_122 : decode cX3_one 122 = .ok (.lload_n 1, 1) := dk_31 (dk_at dksX3_one_4 14 rfl rfl)
theorem dX3_one_123 : decode cX3_one 123 = .ok (.lload_n 3, 1) := dk_33 (dk_at dksX3_one_4 15 rfl rfl)
theorem dX3_one_124 : decode cX3_one 124 = .ok (.lcmp, 1) := dk_148 (dk_at dksX3_one_4 16 rfl rfl)
theorem dX3_one_125 : decode cX3_one 125 = .ok (.ifCond .lt 7, 3) := dk_155 0 7 (dk_at dksX3_one_4 17 rfl rfl)
theorem dX3_one_128 : decode cX3_one 128 = .ok (.lconst 1, 1) := dk_10 (dk_at dksX3_one_4 20 rfl rfl)
theorem dX3_one_129 : decode cX3_one 129 = .ok (.goto 4, 3) := dk_167 0 4 (dk_at dksX3_one_4 21 rfl rfl)
theorem dX3_one_132 : decode cX3_one 132 = .ok (.lconst 0, 1) := dk_9 (dk_at dksX3_one_5 0 rfl rfl)
theorem dX3_one_133 : decode cX3_one 133 = .ok (.lreturn, 1) := dk_173 (dk_at dksX3_one_5 1 rfl rfl)
theorem dX3_one_134 : decode cX3_one 134 = .ok (.lload_n 1, 1) := dk_31 (dk_at dksX3_one_5 2 rfl rfl)
theorem dX3_one_135 : decode cX3_one 135 = .ok (.lload_n 3, 1) := dk_33 (dk_at dksX3_one_5 3 rfl rfl)
theorem dX3_one_136 : decode cX3_one 136 = .ok (.lcmp, 1) := dk_148 (dk_at dksX3_one_5 4 rfl rfl)
theorem dX3_one_137 : decode cX3_one 137 = .ok (.ifCond .le 7, 3) := dk_158 0 7 (dk_at dksX3_one_5 5 rfl rfl)
theorem dX3_one_140 : decode cX3_one 140 = .ok (.lconst 1, 1) := dk_10 (dk_at dksX3_one_5 8 rfl rfl)
theorem dX3_one_141 : decode cX3_one 141 = .ok (.goto 4, 3) := dk_167 0 4 (dk_at dksX3_one_5 9 rfl rfl)
theorem dX3_one_144 : decode cX3_one 144 = .ok (.lconst 0, 1) := dk_9 (dk_at dksX3_one_5 12 rfl rfl)
theorem dX3_one_145 : decode cX3_one 145 = .ok (.lreturn, 1) := dk_173 (dk_at dksX3_one_5 13 rfl rfl)
theorem dX3_one_146 : decode cX3_one 146 = .ok (.lload_n 1, 1) := dk_31 (dk_at dksX3_one_5 14 rfl rfl)
theorem dX3_one_147 : decode cX3_one 147 = .ok (.lload_n 3, 1) := dk_33 (dk_at dksX3_one_5 15 rfl rfl)
theorem dX3_one_148 : decode cX3_one 148 = .ok (.land, 1) := dk_127 (dk_at dksX3_one_5 16 rfl rfl)
theorem dX3_one_149 : decode cX3_one 149 = .ok (.lreturn, 1) := dk_173 (dk_at dksX3_one_5 17 rfl rfl)
theorem dX3_one_150 : decode cX3_one 150 = .ok (.lload_n 1, 1) := dk_31 (dk_at dksX3_one_5 18 rfl rfl)
theorem dX3_one_151 : decode cX3_one 151 = .ok (.lload_n 3, 1) := dk_33 (dk_at dksX3_one_5 19 rfl rfl)
theorem dX3_one_152 : decode cX3_one 152 = .ok (.lor, 1) := dk_129 (dk_at dksX3_one_5 20 rfl rfl)
theorem dX3_one_153 : decode cX3_one 153 = .ok (.lreturn, 1) := dk_173 (dk_at dksX3_one_5 21 rfl rfl)
abbrev cX3_ahead : ByteArray := prog_19_method_104_code
def yX3_ahead : MethodName := ⟨RX3, "ahead", "(III)I"⟩
def dkwX3_ahead_4 : List UInt8 := [6, 46, 100, 167, 0, 9, 42, 180, 0, 42, 5, 46, 54, 4, 42, 182, 1, 192, 21, 4, 172]
abbrev dktX3_ahead_4 : List UInt8 := dkwX3_ahead_4 ++ []
def dkwX3_ahead_3 : List UInt8 := [180, 0, 45, 8, 46, 100, 167, 0, 30, 29, 5, 160, 0, 19, 42, 180, 0, 42, 6, 46, 42, 180, 0, 45]
abbrev dktX3_ahead_3 : List UInt8 := dkwX3_ahead_3 ++ dktX3_ahead_4
def dkwX3_ahead_2 : List UInt8 := [154, 0, 10, 42, 182, 1, 189, 167, 0, 51, 29, 4, 160, 0, 19, 42, 180, 0, 42, 8, 46, 42]
abbrev dktX3_ahead_2 : List UInt8 := dkwX3_ahead_2 ++ dktX3_ahead_3
def dkwX3_ahead_1 : List UInt8 := [20, 1, 184, 184, 0, 125, 154, 0, 5, 2, 172, 42, 182, 1, 186, 42, 27, 28, 182, 1, 181, 29]
abbrev dktX3_ahead_1 : List UInt8 := dkwX3_ahead_1 ++ dktX3_ahead_2
def dkwX3_ahead_0 : List UInt8 := [42, 27, 182, 1, 176, 153, 0, 27, 28, 133, 9, 20, 1, 179, 184, 0, 125, 153, 0, 15, 29, 133, 9]
abbrev dktX3_ahead_0 : List UInt8 := dkwX3_ahead_0 ++ dktX3_ahead_1
theorem dksX3_ahead_0 : cX3_ahead.data.toList.drop 0 = dktX3_ahead_0 := by decide +kernel
theorem dksX3_ahead_1 : cX3_ahead.data.toList.drop 23 = dktX3_ahead_1 := dk_seg dksX3_ahead_0 23 rfl rfl
theorem dksX3_ahead_2 : cX3_ahead.data.toList.drop 45 = dktX3_ahead_2 := dk_seg dksX3_ahead_1 22 rfl rfl
theorem dksX3_ahead_3 : cX3_ahead.data.toList.drop 67 = dktX3_ahead_3 := dk_seg dksX3_ahead_2 22 rfl rfl
theorem dksX3_ahead_4 : cX3_ahead.data.toList.drop 91 = dktX3_ahead_4 := dk_seg dksX3_ahead_3 24 rfl rfl
theorem dX3_ahead_0 : decode cX3_ahead 0 = .ok (.aload_n 0, 1) := dk_42 (dk_at dksX3_ahead_0 0 rfl rfl)
theorem dX3_ahead_1 : decode cX3_ahead 1 = .ok (.iload_n 1, 1) := dk_27 (dk_at dksX3_ahead_0 1 rfl rfl)
theorem dX3_ahead_2 : decode cX3_ahead 2 = .ok (.invokevirtual 432, 3) := dk_182 1 176 (dk_at dksX3_ahead_0 2 rfl rfl)
theorem dX3_ahead_5 : decode cX3_ahead 5 = .ok (.ifCond .eq 27, 3) := dk_153 0 27 (dk_at dksX3_ahead_0 5 rfl rfl)
theorem dX3_ahead_8 : decode cX3_ahead 8 = .ok (.iload_n 2, 1) := dk_28 (dk_at dksX3_ahead_0 8 rfl rfl)
theorem dX3_ahead_9 : decode cX3_ahead 9 = .ok (.i2l, 1) := dk_133 (dk_at dksX3_ahead_0 9 rfl rfl)
theorem dX3_ahead_10 : decode cX3_ahead 10 = .ok (.lconst 0, 1) := dk_9 (dk_at dksX3_ahead_0 10 rfl rfl)
theorem dX3_ahead_11 : decode cX3_ahead 11 = .ok (.ldc2_w 435, 3) := dk_20 1 179 (dk_at dksX3_ahead_0 11 rfl rfl)
theorem dX3_ahead_14 : decode cX3_ahead 14 = .ok (.invokestatic 125, 3) := dk_184 0 125 (dk_at dksX3_ahead_0 14 rfl rfl)
theorem dX3_ahead_17 : decode cX3_ahead 17 = .ok (.ifCond .eq 15, 3) := dk_153 0 15 (dk_at dksX3_ahead_0 17 rfl rfl)
theorem dX3_ahead_20 : decode cX3_ahead 20 = .ok (.iload_n 3, 1) := dk_29 (dk_at dksX3_ahead_0 20 rfl rfl)
theorem dX3_ahead_21 : decode cX3_ahead 21 = .ok (.i2l, 1) := dk_133 (dk_at dksX3_ahead_0 21 rfl rfl)
theorem dX3_ahead_22 : decode cX3_ahead 22 = .ok (.lconst 0, 1) := dk_9 (dk_at dksX3_ahead_0 22 rfl rfl)
theorem dX3_ahead_23 : decode cX3_ahead 23 = .ok (.ldc2_w 440, 3) := dk_20 1 184 (dk_at dksX3_ahead_1 0 rfl rfl)
theorem dX3_ahead_26 : decode cX3_ahead 26 = .ok (.invokestatic 125, 3) := dk_184 0 125 (dk_at dksX3_ahead_1 3 rfl rfl)
theorem dX3_ahead_29 : decode cX3_ahead 29 = .ok (.ifCond .ne 5, 3) := dk_154 0 5 (dk_at dksX3_ahead_1 6 rfl rfl)
theorem dX3_ahead_32 : decode cX3_ahead 32 = .ok (.iconst (-1), 1) := dk_2 (dk_at dksX3_ahead_1 9 rfl rfl)
theorem dX3_ahead_33 : decode cX3_ahead 33 = .ok (.ireturn, 1) := dk_172 (dk_at dksX3_ahead_1 10 rfl rfl)
theorem dX3_ahead_34 : decode cX3_ahead 34 = .ok (.aload_n 0, 1) := dk_42 (dk_at dksX3_ahead_1 11 rfl rfl)
theorem dX3_ahead_35 : decode cX3_ahead 35 = .ok (.invokevirtual 442, 3) := dk_182 1 186 (dk_at dksX3_ahead_1 12 rfl rfl)
theorem dX3_ahead_38 : decode cX3_ahead 38 = .ok (.aload_n 0, 1) := dk_42 (dk_at dksX3_ahead_1 15 rfl rfl)
theorem dX3_ahead_39 : decode cX3_ahead 39 = .ok (.iload_n 1, 1) := dk_27 (dk_at dksX3_ahead_1 16 rfl rfl)
theorem dX3_ahead_40 : decode cX3_ahead 40 = .ok (.iload_n 2, 1) := dk_28 (dk_at dksX3_ahead_1 17 rfl rfl)
theorem dX3_ahead_41 : decode cX3_ahead 41 = .ok (.invokevirtual 437, 3) := dk_182 1 181 (dk_at dksX3_ahead_1 18 rfl rfl)
theorem dX3_ahead_44 : decode cX3_ahead 44 = .ok (.iload_n 3, 1) := dk_29 (dk_at dksX3_ahead_1 21 rfl rfl)
theorem dX3_ahead_45 : decode cX3_ahead 45 = .ok (.ifCond .ne 10, 3) := dk_154 0 10 (dk_at dksX3_ahead_2 0 rfl rfl)
theorem dX3_ahead_48 : decode cX3_ahead 48 = .ok (.aload_n 0, 1) := dk_42 (dk_at dksX3_ahead_2 3 rfl rfl)
theorem dX3_ahead_49 : decode cX3_ahead 49 = .ok (.invokevirtual 445, 3) := dk_182 1 189 (dk_at dksX3_ahead_2 4 rfl rfl)
theorem dX3_ahead_52 : decode cX3_ahead 52 = .ok (.goto 51, 3) := dk_167 0 51 (dk_at dksX3_ahead_2 7 rfl rfl)
theorem dX3_ahead_55 : decode cX3_ahead 55 = .ok (.iload_n 3, 1) := dk_29 (dk_at dksX3_ahead_2 10 rfl rfl)
theorem dX3_ahead_56 : decode cX3_ahead 56 = .ok (.iconst 1, 1) := dk_4 (dk_at dksX3_ahead_2 11 rfl rfl)
theorem dX3_ahead_57 : decode cX3_ahead 57 = .ok (.if_icmp .ne 19, 3) := dk_160 0 19 (dk_at dksX3_ahead_2 12 rfl rfl)
theorem dX3_ahead_60 : decode cX3_ahead 60 = .ok (.aload_n 0, 1) := dk_42 (dk_at dksX3_ahead_2 15 rfl rfl)
theorem dX3_ahead_61 : decode cX3_ahead 61 = .ok (.getfield 42, 3) := dk_180 0 42 (dk_at dksX3_ahead_2 16 rfl rfl)
theorem dX3_ahead_64 : decode cX3_ahead 64 = .ok (.iconst 5, 1) := dk_8 (dk_at dksX3_ahead_2 19 rfl rfl)
theorem dX3_ahead_65 : decode cX3_ahead 65 = .ok (.iaload, 1) := dk_46 (dk_at dksX3_ahead_2 20 rfl rfl)
theorem dX3_ahead_66 : decode cX3_ahead 66 = .ok (.aload_n 0, 1) := dk_42 (dk_at dksX3_ahead_2 21 rfl rfl)
theorem dX3_ahead_67 : decode cX3_ahead 67 = .ok (.getfield 45, 3) := dk_180 0 45 (dk_at dksX3_ahead_3 0 rfl rfl)
theorem dX3_ahead_70 : decode cX3_ahead 70 = .ok (.iconst 5, 1) := dk_8 (dk_at dksX3_ahead_3 3 rfl rfl)
theorem dX3_ahead_71 : decode cX3_ahead 71 = .ok (.iaload, 1) := dk_46 (dk_at dksX3_ahead_3 4 rfl rfl)
theorem dX3_ahead_72 : decode cX3_ahead 72 = .ok (.isub, 1) := dk_100 (dk_at dksX3_ahead_3 5 rfl rfl)
theorem dX3_ahead_73 : decode cX3_ahead 73 = .ok (.goto 30, 3) := dk_167 0 30 (dk_at dksX3_ahead_3 6 rfl rfl)
theorem dX3_ahead_76 : decode cX3_ahead 76 = .ok (.iload_n 3, 1) := dk_29 (dk_at dksX3_ahead_3 9 rfl rfl)
theorem dX3_ahead_77 : decode cX3_ahead 77 = .ok (.iconst 2, 1) := dk_5 (dk_at dksX3_ahead_3 10 rfl rfl)
theorem dX3_ahead_78 : decode cX3_ahead 78 = .ok (.if_icmp .ne 19, 3) := dk_160 0 19 (dk_at dksX3_ahead_3 11 rfl rfl)
theorem dX3_ahead_81 : decode cX3_ahead 81 = .ok (.aload_n 0, 1) := dk_42 (dk_at dksX3_ahead_3 14 rfl rfl)
theorem dX3_ahead_82 : decode cX3_ahead 82 = .ok (.getfield 42, 3) := dk_180 0 42 (dk_at dksX3_ahead_3 15 rfl rfl)
theorem dX3_ahead_85 : decode cX3_ahead 85 = .ok (.iconst 3, 1) := dk_6 (dk_at dksX3_ahead_3 18 rfl rfl)
theorem dX3_ahead_86 : decode cX3_ahead 86 = .ok (.iaload, 1) := dk_46 (dk_at dksX3_ahead_3 19 rfl rfl)
theorem dX3_ahead_87 : decode cX3_ahead 87 = .ok (.aload_n 0, 1) := dk_42 (dk_at dksX3_ahead_3 20 rfl rfl)
theorem dX3_ahead_88 : decode cX3_ahead 88 = .ok (.getfield 45, 3) := dk_180 0 45 (dk_at dksX3_ahead_3 21 rfl rfl)
theorem dX3_ahead_91 : decode cX3_ahead 91 = .ok (.iconst 3, 1) := dk_6 (dk_at dksX3_ahead_4 0 rfl rfl)
theorem dX3_ahead_92 : decode cX3_ahead 92 = .ok (.iaload, 1) := dk_46 (dk_at dksX3_ahead_4 1 rfl rfl)
theorem dX3_ahead_93 : decode cX3_ahead 93 = .ok (.isub, 1) := dk_100 (dk_at dksX3_ahead_4 2 rfl rfl)
theorem dX3_ahead_94 : decode cX3_ahead 94 = .ok (.goto 9, 3) := dk_167 0 9 (dk_at dksX3_ahead_4 3 rfl rfl)
theorem dX3_ahead_97 : decode cX3_ahead 97 = .ok (.aload_n 0, 1) := dk_42 (dk_at dksX3_ahead_4 6 rfl rfl)
theorem dX3_ahead_98 : decode cX3_ahead 98 = .ok (.getfield 42, 3) := dk_180 0 42 (dk_at dksX3_ahead_4 7 rfl rfl)
theorem dX3_ahead_101 : decode cX3_ahead 101 = .ok (.iconst 2, 1) := dk_5 (dk_at dksX3_ahead_4 10 rfl rfl)
theorem dX3_ahead_102 : decode cX3_ahead 102 = .ok (.iaload, 1) := dk_46 (dk_at dksX3_ahead_4 11 rfl rfl)
theorem dX3_ahead_103 : decode cX3_ahead 103 = .ok (.istore 4, 2) := dk_54 4 (dk_at dksX3_ahead_4 12 rfl rfl)
theorem dX3_ahead_105 : decode cX3_ahead 105 = .ok (.aload_n 0, 1) := dk_42 (dk_at dksX3_ahead_4 14 rfl rfl)
theorem dX3_ahead_106 : decode cX3_ahead 106 = .ok (.invokevirtual 448, 3) := dk_182 1 192 (dk_at dksX3_ahead_4 15 rfl rfl)
theorem dX3_ahead_109 : decode cX3_ahead 109 = .ok (.iload 4, 2) := dk_21 4 (dk_at dksX3_ahead_4 18 rfl rfl)
theorem dX3_ahead_111 : decode cX3_ahead 111 = .ok (.ireturn, 1) := dk_172 (dk_at dksX3_ahead_4 20 rfl rfl)
abbrev cX3_keeps : ByteArray := prog_19_method_102_code
def yX3_keeps : MethodName := ⟨RX3, "keeps", "()V"⟩
def dkwX3_keeps_1 : List UInt8 := [167, 255, 234, 177]
abbrev dktX3_keeps_1 : List UInt8 := dkwX3_keeps_1 ++ []
def dkwX3_keeps_0 : List UInt8 := [3, 60, 27, 17, 0, 202, 162, 0, 21, 42, 180, 0, 45, 27, 42, 180, 0, 42, 27, 46, 79, 132, 1, 1]
abbrev dktX3_keeps_0 : List UInt8 := dkwX3_keeps_0 ++ dktX3_keeps_1
theorem dksX3_keeps_0 : cX3_keeps.data.toList.drop 0 = dktX3_keeps_0 := by decide +kernel
theorem dksX3_keeps_1 : cX3_keeps.data.toList.drop 24 = dktX3_keeps_1 := dk_seg dksX3_keeps_0 24 rfl rfl
theorem dX3_keeps_0 : decode cX3_keeps 0 = .ok (.iconst 0, 1) := dk_3 (dk_at dksX3_keeps_0 0 rfl rfl)
theorem dX3_keeps_1 : decode cX3_keeps 1 = .ok (.istore_n 1, 1) := dk_60 (dk_at dksX3_keeps_0 1 rfl rfl)
theorem dX3_keeps_2 : decode cX3_keeps 2 = .ok (.iload_n 1, 1) := dk_27 (dk_at dksX3_keeps_0 2 rfl rfl)
theorem dX3_keeps_3 : decode cX3_keeps 3 = .ok (.sipush 202, 3) := dk_17 0 202 (dk_at dksX3_keeps_0 3 rfl rfl)
theorem dX3_keeps_6 : decode cX3_keeps 6 = .ok (.if_icmp .ge 21, 3) := dk_162 0 21 (dk_at dksX3_keeps_0 6 rfl rfl)
theorem dX3_keeps_9 : decode cX3_keeps 9 = .ok (.aload_n 0, 1) := dk_42 (dk_at dksX3_keeps_0 9 rfl rfl)
theorem dX3_keeps_10 : decode cX3_keeps 10 = .ok (.getfield 45, 3) := dk_180 0 45 (dk_at dksX3_keeps_0 10 rfl rfl)
theorem dX3_keeps_13 : decode cX3_keeps 13 = .ok (.iload_n 1, 1) := dk_27 (dk_at dksX3_keeps_0 13 rfl rfl)
theorem dX3_keeps_14 : decode cX3_keeps 14 = .ok (.aload_n 0, 1) := dk_42 (dk_at dksX3_keeps_0 14 rfl rfl)
theorem dX3_keeps_15 : decode cX3_keeps 15 = .ok (.getfield 42, 3) := dk_180 0 42 (dk_at dksX3_keeps_0 15 rfl rfl)
theorem dX3_keeps_18 : decode cX3_keeps 18 = .ok (.iload_n 1, 1) := dk_27 (dk_at dksX3_keeps_0 18 rfl rfl)
theorem dX3_keeps_19 : decode cX3_keeps 19 = .ok (.iaload, 1) := dk_46 (dk_at dksX3_keeps_0 19 rfl rfl)
theorem dX3_keeps_20 : decode cX3_keeps 20 = .ok (.iastore, 1) := dk_79 (dk_at dksX3_keeps_0 20 rfl rfl)
theorem dX3_keeps_21 : decode cX3_keeps 21 = .ok (.iinc 1 1, 3) := dk_132 1 1 (dk_at dksX3_keeps_0 21 rfl rfl)
theorem dX3_keeps_24 : decode cX3_keeps 24 = .ok (.goto (-22), 3) := dk_167 255 234 (dk_at dksX3_keeps_1 0 rfl rfl)
theorem dX3_keeps_27 : decode cX3_keeps 27 = .ok (.return_, 1) := dk_177 (dk_at dksX3_keeps_1 3 rfl rfl)
abbrev cX3_arrived : ByteArray := prog_19_method_101_code
def yX3_arrived : MethodName := ⟨RX3, "arrived", "()I"⟩
def dkwX3_arrived_1 : List UInt8 := [182, 1, 23, 160, 0, 7, 4, 167, 0, 4, 3, 96, 60, 132, 2, 1, 167, 255, 220, 27, 172]
abbrev dktX3_arrived_1 : List UInt8 := dkwX3_arrived_1 ++ []
def dkwX3_arrived_0 : List UInt8 := [3, 60, 3, 61, 28, 42, 180, 0, 42, 4, 46, 162, 0, 32, 27, 42, 28, 3, 182, 1, 23, 42, 28, 4]
abbrev dktX3_arrived_0 : List UInt8 := dkwX3_arrived_0 ++ dktX3_arrived_1
theorem dksX3_arrived_0 : cX3_arrived.data.toList.drop 0 = dktX3_arrived_0 := by decide +kernel
theorem dksX3_arrived_1 : cX3_arrived.data.toList.drop 24 = dktX3_arrived_1 := dk_seg dksX3_arrived_0 24 rfl rfl
theorem dX3_arrived_0 : decode cX3_arrived 0 = .ok (.iconst 0, 1) := dk_3 (dk_at dksX3_arrived_0 0 rfl rfl)
theorem dX3_arrived_1 : decode cX3_arrived 1 = .ok (.istore_n 1, 1) := dk_60 (dk_at dksX3_arrived_0 1 rfl rfl)
theorem dX3_arrived_2 : decode cX3_arrived 2 = .ok (.iconst 0, 1) := dk_3 (dk_at dksX3_arrived_0 2 rfl rfl)
theorem dX3_arrived_3 : decode cX3_arrived 3 = .ok (.istore_n 2, 1) := dk_61 (dk_at dksX3_arrived_0 3 rfl rfl)
theorem dX3_arrived_4 : decode cX3_arrived 4 = .ok (.iload_n 2, 1) := dk_28 (dk_at dksX3_arrived_0 4 rfl rfl)
theorem dX3_arrived_5 : decode cX3_arrived 5 = .ok (.aload_n 0, 1) := dk_42 (dk_at dksX3_arrived_0 5 rfl rfl)
theorem dX3_arrived_6 : decode cX3_arrived 6 = .ok (.getfield 42, 3) := dk_180 0 42 (dk_at dksX3_arrived_0 6 rfl rfl)
theorem dX3_arrived_9 : decode cX3_arrived 9 = .ok (.iconst 1, 1) := dk_4 (dk_at dksX3_arrived_0 9 rfl rfl)
theorem dX3_arrived_10 : decode cX3_arrived 10 = .ok (.iaload, 1) := dk_46 (dk_at dksX3_arrived_0 10 rfl rfl)
theorem dX3_arrived_11 : decode cX3_arrived 11 = .ok (.if_icmp .ge 32, 3) := dk_162 0 32 (dk_at dksX3_arrived_0 11 rfl rfl)
theorem dX3_arrived_14 : decode cX3_arrived 14 = .ok (.iload_n 1, 1) := dk_27 (dk_at dksX3_arrived_0 14 rfl rfl)
theorem dX3_arrived_15 : decode cX3_arrived 15 = .ok (.aload_n 0, 1) := dk_42 (dk_at dksX3_arrived_0 15 rfl rfl)
theorem dX3_arrived_16 : decode cX3_arrived 16 = .ok (.iload_n 2, 1) := dk_28 (dk_at dksX3_arrived_0 16 rfl rfl)
theorem dX3_arrived_17 : decode cX3_arrived 17 = .ok (.iconst 0, 1) := dk_3 (dk_at dksX3_arrived_0 17 rfl rfl)
theorem dX3_arrived_18 : decode cX3_arrived 18 = .ok (.invokevirtual 279, 3) := dk_182 1 23 (dk_at dksX3_arrived_0 18 rfl rfl)
theorem dX3_arrived_21 : decode cX3_arrived 21 = .ok (.aload_n 0, 1) := dk_42 (dk_at dksX3_arrived_0 21 rfl rfl)
theorem dX3_arrived_22 : decode cX3_arrived 22 = .ok (.iload_n 2, 1) := dk_28 (dk_at dksX3_arrived_0 22 rfl rfl)
theorem dX3_arrived_23 : decode cX3_arrived 23 = .ok (.iconst 1, 1) := dk_4 (dk_at dksX3_arrived_0 23 rfl rfl)
theorem dX3_arrived_24 : decode cX3_arrived 24 = .ok (.invokevirtual 279, 3) := dk_182 1 23 (dk_at dksX3_arrived_1 0 rfl rfl)
theorem dX3_arrived_27 : decode cX3_arrived 27 = .ok (.if_icmp .ne 7, 3) := dk_160 0 7 (dk_at dksX3_arrived_1 3 rfl rfl)
theorem dX3_arrived_30 : decode cX3_arrived 30 = .ok (.iconst 1, 1) := dk_4 (dk_at dksX3_arrived_1 6 rfl rfl)
theorem dX3_arrived_31 : decode cX3_arrived 31 = .ok (.goto 4, 3) := dk_167 0 4 (dk_at dksX3_arrived_1 7 rfl rfl)
theorem dX3_arrived_34 : decode cX3_arrived 34 = .ok (.iconst 0, 1) := dk_3 (dk_at dksX3_arrived_1 10 rfl rfl)
theorem dX3_arrived_35 : decode cX3_arrived 35 = .ok (.iadd, 1) := dk_96 (dk_at dksX3_arrived_1 11 rfl rfl)
theorem dX3_arrived_36 : decode cX3_arrived 36 = .ok (.istore_n 1, 1) := dk_60 (dk_at dksX3_arrived_1 12 rfl rfl)
theorem dX3_arrived_37 : decode cX3_arrived 37 = .ok (.iinc 2 1, 3) := dk_132 2 1 (dk_at dksX3_arrived_1 13 rfl rfl)
theorem dX3_arrived_40 : decode cX3_arrived 40 = .ok (.goto (-36), 3) := dk_167 255 220 (dk_at dksX3_arrived_1 16 rfl rfl)
theorem dX3_arrived_43 : decode cX3_arrived 43 = .ok (.iload_n 1, 1) := dk_27 (dk_at dksX3_arrived_1 19 rfl rfl)
theorem dX3_arrived_44 : decode cX3_arrived 44 = .ok (.ireturn, 1) := dk_172 (dk_at dksX3_arrived_1 20 rfl rfl)
abbrev cX3_putsBack : ByteArray := prog_19_method_103_code
def yX3_putsBack : MethodName := ⟨RX3, "putsBack", "()V"⟩
def dkwX3_putsBack_1 : List UInt8 := [167, 255, 234, 177]
abbrev dktX3_putsBack_1 : List UInt8 := dkwX3_putsBack_1 ++ []
def dkwX3_putsBack_0 : List UInt8 := [3, 60, 27, 17, 0, 202, 162, 0, 21, 42, 180, 0, 42, 27, 42, 180, 0, 45, 27, 46, 79, 132, 1, 1]
abbrev dktX3_putsBack_0 : List UInt8 := dkwX3_putsBack_0 ++ dktX3_putsBack_1
theorem dksX3_putsBack_0 : cX3_putsBack.data.toList.drop 0 = dktX3_putsBack_0 := by decide +kernel
theorem dksX3_putsBack_1 : cX3_putsBack.data.toList.drop 24 = dktX3_putsBack_1 := dk_seg dksX3_putsBack_0 24 rfl rfl
theorem dX3_putsBack_0 : decode cX3_putsBack 0 = .ok (.iconst 0, 1) := dk_3 (dk_at dksX3_putsBack_0 0 rfl rfl)
theorem dX3_putsBack_1 : decode cX3_putsBack 1 = .ok (.istore_n 1, 1) := dk_60 (dk_at dksX3_putsBack_0 1 rfl rfl)
theorem dX3_putsBack_2 : decode cX3_putsBack 2 = .ok (.iload_n 1, 1) := dk_27 (dk_at dksX3_putsBack_0 2 rfl rfl)
theorem dX3_putsBack_3 : decode cX3_putsBack 3 = .ok (.sipush 202, 3) := dk_17 0 202 (dk_at dksX3_putsBack_0 3 rfl rfl)
theorem dX3_putsBack_6 : decode cX3_putsBack 6 = .ok (.if_icmp .ge 21, 3) := dk_162 0 21 (dk_at dksX3_putsBack_0 6 rfl rfl)
theorem dX3_putsBack_9 : decode cX3_putsBack 9 = .ok (.aload_n 0, 1) := dk_42 (dk_at dksX3_putsBack_0 9 rfl rfl)
theorem dX3_putsBack_10 : decode cX3_putsBack 10 = .ok (.getfield 42, 3) := dk_180 0 42 (dk_at dksX3_putsBack_0 10 rfl rfl)
theorem dX3_putsBack_13 : decode cX3_putsBack 13 = .ok (.iload_n 1, 1) := dk_27 (dk_at dksX3_putsBack_0 13 rfl rfl)
theorem dX3_putsBack_14 : decode cX3_putsBack 14 = .ok (.aload_n 0, 1) := dk_42 (dk_at dksX3_putsBack_0 14 rfl rfl)
theorem dX3_putsBack_15 : decode cX3_putsBack 15 = .ok (.getfield 45, 3) := dk_180 0 45 (dk_at dksX3_putsBack_0 15 rfl rfl)
theorem dX3_putsBack_18 : decode cX3_putsBack 18 = .ok (.iload_n 1, 1) := dk_27 (dk_at dksX3_putsBack_0 18 rfl rfl)
theorem dX3_putsBack_19 : decode cX3_putsBack 19 = .ok (.iaload, 1) := dk_46 (dk_at dksX3_putsBack_0 19 rfl rfl)
theorem dX3_putsBack_20 : decode cX3_putsBack 20 = .ok (.iastore, 1) := dk_79 (dk_at dksX3_putsBack_0 20 rfl rfl)
theorem dX3_putsBack_21 : decode cX3_putsBack 21 = .ok (.iinc 1 1, 3) := dk_132 1 1 (dk_at dksX3_putsBack_0 21 rfl rfl)
theorem dX3_putsBack_24 : decode cX3_putsBack 24 = .ok (.goto (-22), 3) := dk_167 255 234 (dk_at dksX3_putsBack_1 0 rfl rfl)
theorem dX3_putsBack_27 : decode cX3_putsBack 27 = .ok (.return_, 1) := dk_177 (dk_at dksX3_putsBack_1 3 rfl rfl)
abbrev cX3_finest : ByteArray := prog_19_method_105_code
def yX3_finest : MethodName := ⟨RX3, "finest", "(I)I"⟩
def dkwX3_finest_4 : List UInt8 := [62, 21, 7, 54, 4, 132, 5, 1, 167, 255, 183, 28, 172]
abbrev dktX3_finest_4 : List UInt8 := dkwX3_finest_4 ++ []
def dkwX3_finest_3 : List UInt8 := [161, 0, 29, 21, 6, 29, 160, 0, 13, 21, 7, 21, 4, 161, 0, 6, 167, 0, 13, 21, 5, 61, 21, 6]
abbrev dktX3_finest_3 : List UInt8 := dkwX3_finest_3 ++ dktX3_finest_4
def dkwX3_finest_2 : List UInt8 := [182, 1, 189, 54, 6, 42, 180, 0, 42, 8, 46, 54, 7, 42, 182, 1, 192, 28, 155, 0, 25, 21, 6, 29]
abbrev dktX3_finest_2 : List UInt8 := dkwX3_finest_2 ++ dktX3_finest_3
def dkwX3_finest_1 : List UInt8 := [182, 1, 186, 3, 54, 5, 21, 5, 42, 180, 0, 250, 162, 0, 70, 42, 21, 5, 27, 182, 1, 181, 42]
abbrev dktX3_finest_1 : List UInt8 := dkwX3_finest_1 ++ dktX3_finest_2
def dkwX3_finest_0 : List UInt8 := [27, 133, 9, 20, 1, 179, 184, 0, 125, 154, 0, 5, 2, 172, 16, 254, 61, 3, 62, 3, 54, 4, 42]
abbrev dktX3_finest_0 : List UInt8 := dkwX3_finest_0 ++ dktX3_finest_1
theorem dksX3_finest_0 : cX3_finest.data.toList.drop 0 = dktX3_finest_0 := by decide +kernel
theorem dksX3_finest_1 : cX3_finest.data.toList.drop 23 = dktX3_finest_1 := dk_seg dksX3_finest_0 23 rfl rfl
theorem dksX3_finest_2 : cX3_finest.data.toList.drop 46 = dktX3_finest_2 := dk_seg dksX3_finest_1 23 rfl rfl
theorem dksX3_finest_3 : cX3_finest.data.toList.drop 70 = dktX3_finest_3 := dk_seg dksX3_finest_2 24 rfl rfl
theorem dksX3_finest_4 : cX3_finest.data.toList.drop 94 = dktX3_finest_4 := dk_seg dksX3_finest_3 24 rfl rfl
theorem dX3_finest_0 : decode cX3_finest 0 = .ok (.iload_n 1, 1) := dk_27 (dk_at dksX3_finest_0 0 rfl rfl)
theorem dX3_finest_1 : decode cX3_finest 1 = .ok (.i2l, 1) := dk_133 (dk_at dksX3_finest_0 1 rfl rfl)
theorem dX3_finest_2 : decode cX3_finest 2 = .ok (.lconst 0, 1) := dk_9 (dk_at dksX3_finest_0 2 rfl rfl)
theorem dX3_finest_3 : decode cX3_finest 3 = .ok (.ldc2_w 435, 3) := dk_20 1 179 (dk_at dksX3_finest_0 3 rfl rfl)
theorem dX3_finest_6 : decode cX3_finest 6 = .ok (.invokestatic 125, 3) := dk_184 0 125 (dk_at dksX3_finest_0 6 rfl rfl)
theorem dX3_finest_9 : decode cX3_finest 9 = .ok (.ifCond .ne 5, 3) := dk_154 0 5 (dk_at dksX3_finest_0 9 rfl rfl)
theorem dX3_finest_12 : decode cX3_finest 12 = .ok (.iconst (-1), 1) := dk_2 (dk_at dksX3_finest_0 12 rfl rfl)
theorem dX3_finest_13 : decode cX3_finest 13 = .ok (.ireturn, 1) := dk_172 (dk_at dksX3_finest_0 13 rfl rfl)
theorem dX3_finest_14 : decode cX3_finest 14 = .ok (.bipush (-2), 2) := dk_16 254 (dk_at dksX3_finest_0 14 rfl rfl)
theorem dX3_finest_16 : decode cX3_finest 16 = .ok (.istore_n 2, 1) := dk_61 (dk_at dksX3_finest_0 16 rfl rfl)
theorem dX3_finest_17 : decode cX3_finest 17 = .ok (.iconst 0, 1) := dk_3 (dk_at dksX3_finest_0 17 rfl rfl)
theorem dX3_finest_18 : decode cX3_finest 18 = .ok (.istore_n 3, 1) := dk_62 (dk_at dksX3_finest_0 18 rfl rfl)
theorem dX3_finest_19 : decode cX3_finest 19 = .ok (.iconst 0, 1) := dk_3 (dk_at dksX3_finest_0 19 rfl rfl)
theorem dX3_finest_20 : decode cX3_finest 20 = .ok (.istore 4, 2) := dk_54 4 (dk_at dksX3_finest_0 20 rfl rfl)
theorem dX3_finest_22 : decode cX3_finest 22 = .ok (.aload_n 0, 1) := dk_42 (dk_at dksX3_finest_0 22 rfl rfl)
theorem dX3_finest_23 : decode cX3_finest 23 = .ok (.invokevirtual 442, 3) := dk_182 1 186 (dk_at dksX3_finest_1 0 rfl rfl)
theorem dX3_finest_26 : decode cX3_finest 26 = .ok (.iconst 0, 1) := dk_3 (dk_at dksX3_finest_1 3 rfl rfl)
theorem dX3_finest_27 : decode cX3_finest 27 = .ok (.istore 5, 2) := dk_54 5 (dk_at dksX3_finest_1 4 rfl rfl)
theorem dX3_finest_29 : decode cX3_finest 29 = .ok (.iload 5, 2) := dk_21 5 (dk_at dksX3_finest_1 6 rfl rfl)
theorem dX3_finest_31 : decode cX3_finest 31 = .ok (.aload_n 0, 1) := dk_42 (dk_at dksX3_finest_1 8 rfl rfl)
theorem dX3_finest_32 : decode cX3_finest 32 = .ok (.getfield 250, 3) := dk_180 0 250 (dk_at dksX3_finest_1 9 rfl rfl)
theorem dX3_finest_35 : decode cX3_finest 35 = .ok (.if_icmp .ge 70, 3) := dk_162 0 70 (dk_at dksX3_finest_1 12 rfl rfl)
theorem dX3_finest_38 : decode cX3_finest 38 = .ok (.aload_n 0, 1) := dk_42 (dk_at dksX3_finest_1 15 rfl rfl)
theorem dX3_finest_39 : decode cX3_finest 39 = .ok (.iload 5, 2) := dk_21 5 (dk_at dksX3_finest_1 16 rfl rfl)
theorem dX3_finest_41 : decode cX3_finest 41 = .ok (.iload_n 1, 1) := dk_27 (dk_at dksX3_finest_1 18 rfl rfl)
theorem dX3_finest_42 : decode cX3_finest 42 = .ok (.invokevirtual 437, 3) := dk_182 1 181 (dk_at dksX3_finest_1 19 rfl rfl)
theorem dX3_finest_45 : decode cX3_finest 45 = .ok (.aload_n 0, 1) := dk_42 (dk_at dksX3_finest_1 22 rfl rfl)
theorem dX3_finest_46 : decode cX3_finest 46 = .ok (.invokevirtual 445, 3) := dk_182 1 189 (dk_at dksX3_finest_2 0 rfl rfl)
theorem dX3_finest_49 : decode cX3_finest 49 = .ok (.istore 6, 2) := dk_54 6 (dk_at dksX3_finest_2 3 rfl rfl)
theorem dX3_finest_51 : decode cX3_finest 51 = .ok (.aload_n 0, 1) := dk_42 (dk_at dksX3_finest_2 5 rfl rfl)
theorem dX3_finest_52 : decode cX3_finest 52 = .ok (.getfield 42, 3) := dk_180 0 42 (dk_at dksX3_finest_2 6 rfl rfl)
theorem dX3_finest_55 : decode cX3_finest 55 = .ok (.iconst 5, 1) := dk_8 (dk_at dksX3_finest_2 9 rfl rfl)
theorem dX3_finest_56 : decode cX3_finest 56 = .ok (.iaload, 1) := dk_46 (dk_at dksX3_finest_2 10 rfl rfl)
theorem dX3_finest_57 : decode cX3_finest 57 = .ok (.istore 7, 2) := dk_54 7 (dk_at dksX3_finest_2 11 rfl rfl)
theorem dX3_finest_59 : decode cX3_finest 59 = .ok (.aload_n 0, 1) := dk_42 (dk_at dksX3_finest_2 13 rfl rfl)
theorem dX3_finest_60 : decode cX3_finest 60 = .ok (.invokevirtual 448, 3) := dk_182 1 192 (dk_at dksX3_finest_2 14 rfl rfl)
theorem dX3_finest_63 : decode cX3_finest 63 = .ok (.iload_n 2, 1) := dk_28 (dk_at dksX3_finest_2 17 rfl rfl)
theorem dX3_finest_64 : decode cX3_finest 64 = .ok (.ifCond .lt 25, 3) := dk_155 0 25 (dk_at dksX3_finest_2 18 rfl rfl)
theorem dX3_finest_67 : decode cX3_finest 67 = .ok (.iload 6, 2) := dk_21 6 (dk_at dksX3_finest_2 21 rfl rfl)
theorem dX3_finest_69 : decode cX3_finest 69 = .ok (.iload_n 3, 1) := dk_29 (dk_at dksX3_finest_2 23 rfl rfl)
theorem dX3_finest_70 : decode cX3_finest 70 = .ok (.if_icmp .lt 29, 3) := dk_161 0 29 (dk_at dksX3_finest_3 0 rfl rfl)
theorem dX3_finest_73 : decode cX3_finest 73 = .ok (.iload 6, 2) := dk_21 6 (dk_at dksX3_finest_3 3 rfl rfl)
theorem dX3_finest_75 : decode cX3_finest 75 = .ok (.iload_n 3, 1) := dk_29 (dk_at dksX3_finest_3 5 rfl rfl)
theorem dX3_finest_76 : decode cX3_finest 76 = .ok (.if_icmp .ne 13, 3) := dk_160 0 13 (dk_at dksX3_finest_3 6 rfl rfl)
theorem dX3_finest_79 : decode cX3_finest 79 = .ok (.iload 7, 2) := dk_21 7 (dk_at dksX3_finest_3 9 rfl rfl)
theorem dX3_finest_81 : decode cX3_finest 81 = .ok (.iload 4, 2) := dk_21 4 (dk_at dksX3_finest_3 11 rfl rfl)
theorem dX3_finest_83 : decode cX3_finest 83 = .ok (.if_icmp .lt 6, 3) := dk_161 0 6 (dk_at dksX3_finest_3 13 rfl rfl)
theorem dX3_finest_86 : decode cX3_finest 86 = .ok (.goto 13, 3) := dk_167 0 13 (dk_at dksX3_finest_3 16 rfl rfl)
theorem dX3_finest_89 : decode cX3_finest 89 = .ok (.iload 5, 2) := dk_21 5 (dk_at dksX3_finest_3 19 rfl rfl)
theorem dX3_finest_91 : decode cX3_finest 91 = .ok (.istore_n 2, 1) := dk_61 (dk_at dksX3_finest_3 21 rfl rfl)
theorem dX3_finest_92 : decode cX3_finest 92 = .ok (.iload 6, 2) := dk_21 6 (dk_at dksX3_finest_3 22 rfl rfl)
theorem dX3_finest_94 : decode cX3_finest 94 = .ok (.istore_n 3, 1) := dk_62 (dk_at dksX3_finest_4 0 rfl rfl)
theorem dX3_finest_95 : decode cX3_finest 95 = .ok (.iload 7, 2) := dk_21 7 (dk_at dksX3_finest_4 1 rfl rfl)
theorem dX3_finest_97 : decode cX3_finest 97 = .ok (.istore 4, 2) := dk_54 4 (dk_at dksX3_finest_4 3 rfl rfl)
theorem dX3_finest_99 : decode cX3_finest 99 = .ok (.iinc 5 1, 3) := dk_132 5 1 (dk_at dksX3_finest_4 5 rfl rfl)
theorem dX3_finest_102 : decode cX3_finest 102 = .ok (.goto (-73), 3) := dk_167 255 183 (dk_at dksX3_finest_4 8 rfl rfl)
theorem dX3_finest_105 : decode cX3_finest 105 = .ok (.iload_n 2, 1) := dk_28 (dk_at dksX3_finest_4 11 rfl rfl)
theorem dX3_finest_106 : decode cX3_finest 106 = .ok (.ireturn, 1) := dk_172 (dk_at dksX3_finest_4 12 rfl rfl)
abbrev cX3_home : ByteArray := prog_19_method_106_code
def yX3_home : MethodName := ⟨RX3, "home", "(II)I"⟩
def dkwX3_home_3 : List UInt8 := [182, 1, 173, 132, 4, 1, 167, 255, 213, 42, 182, 1, 192, 29, 172]
abbrev dktX3_home_3 : List UInt8 := dkwX3_home_3 ++ []
def dkwX3_home_2 : List UInt8 := [180, 0, 42, 4, 46, 160, 0, 9, 21, 4, 62, 167, 0, 14, 21, 4, 28, 162, 0, 8, 42, 27]
abbrev dktX3_home_2 : List UInt8 := dkwX3_home_2 ++ dktX3_home_3
def dkwX3_home_1 : List UInt8 := [182, 1, 186, 16, 254, 62, 3, 54, 4, 21, 4, 28, 163, 0, 43, 29, 156, 0, 39, 42, 182, 1, 189, 42]
abbrev dktX3_home_1 : List UInt8 := dkwX3_home_1 ++ dktX3_home_2
def dkwX3_home_0 : List UInt8 := [42, 27, 182, 1, 176, 153, 0, 15, 28, 133, 9, 20, 1, 179, 184, 0, 125, 154, 0, 5, 2, 172, 42]
abbrev dktX3_home_0 : List UInt8 := dkwX3_home_0 ++ dktX3_home_1
theorem dksX3_home_0 : cX3_home.data.toList.drop 0 = dktX3_home_0 := by decide +kernel
theorem dksX3_home_1 : cX3_home.data.toList.drop 23 = dktX3_home_1 := dk_seg dksX3_home_0 23 rfl rfl
theorem dksX3_home_2 : cX3_home.data.toList.drop 47 = dktX3_home_2 := dk_seg dksX3_home_1 24 rfl rfl
theorem dksX3_home_3 : cX3_home.data.toList.drop 69 = dktX3_home_3 := dk_seg dksX3_home_2 22 rfl rfl
theorem dX3_home_0 : decode cX3_home 0 = .ok (.aload_n 0, 1) := dk_42 (dk_at dksX3_home_0 0 rfl rfl)
theorem dX3_home_1 : decode cX3_home 1 = .ok (.iload_n 1, 1) := dk_27 (dk_at dksX3_home_0 1 rfl rfl)
theorem dX3_home_2 : decode cX3_home 2 = .ok (.invokevirtual 432, 3) := dk_182 1 176 (dk_at dksX3_home_0 2 rfl rfl)
theorem dX3_home_5 : decode cX3_home 5 = .ok (.ifCond .eq 15, 3) := dk_153 0 15 (dk_at dksX3_home_0 5 rfl rfl)
theorem dX3_home_8 : decode cX3_home 8 = .ok (.iload_n 2, 1) := dk_28 (dk_at dksX3_home_0 8 rfl rfl)
theorem dX3_home_9 : decode cX3_home 9 = .ok (.i2l, 1) := dk_133 (dk_at dksX3_home_0 9 rfl rfl)
theorem dX3_home_10 : decode cX3_home 10 = .ok (.lconst 0, 1) := dk_9 (dk_at dksX3_home_0 10 rfl rfl)
theorem dX3_home_11 : decode cX3_home 11 = .ok (.ldc2_w 435, 3) := dk_20 1 179 (dk_at dksX3_home_0 11 rfl rfl)
theorem dX3_home_14 : decode cX3_home 14 = .ok (.invokestatic 125, 3) := dk_184 0 125 (dk_at dksX3_home_0 14 rfl rfl)
theorem dX3_home_17 : decode cX3_home 17 = .ok (.ifCond .ne 5, 3) := dk_154 0 5 (dk_at dksX3_home_0 17 rfl rfl)
theorem dX3_home_20 : decode cX3_home 20 = .ok (.iconst (-1), 1) := dk_2 (dk_at dksX3_home_0 20 rfl rfl)
theorem dX3_home_21 : decode cX3_home 21 = .ok (.ireturn, 1) := dk_172 (dk_at dksX3_home_0 21 rfl rfl)
theorem dX3_home_22 : decode cX3_home 22 = .ok (.aload_n 0, 1) := dk_42 (dk_at dksX3_home_0 22 rfl rfl)
theorem dX3_home_23 : decode cX3_home 23 = .ok (.invokevirtual 442, 3) := dk_182 1 186 (dk_at dksX3_home_1 0 rfl rfl)
theorem dX3_home_26 : decode cX3_home 26 = .ok (.bipush (-2), 2) := dk_16 254 (dk_at dksX3_home_1 3 rfl rfl)
theorem dX3_home_28 : decode cX3_home 28 = .ok (.istore_n 3, 1) := dk_62 (dk_at dksX3_home_1 5 rfl rfl)
theorem dX3_home_29 : decode cX3_home 29 = .ok (.iconst 0, 1) := dk_3 (dk_at dksX3_home_1 6 rfl rfl)
theorem dX3_home_30 : decode cX3_home 30 = .ok (.istore 4, 2) := dk_54 4 (dk_at dksX3_home_1 7 rfl rfl)
theorem dX3_home_32 : decode cX3_home 32 = .ok (.iload 4, 2) := dk_21 4 (dk_at dksX3_home_1 9 rfl rfl)
theorem dX3_home_34 : decode cX3_home 34 = .ok (.iload_n 2, 1) := dk_28 (dk_at dksX3_home_1 11 rfl rfl)
theorem dX3_home_35 : decode cX3_home 35 = .ok (.if_icmp .gt 43, 3) := dk_163 0 43 (dk_at dksX3_home_1 12 rfl rfl)
theorem dX3_home_38 : decode cX3_home 38 = .ok (.iload_n 3, 1) := dk_29 (dk_at dksX3_home_1 15 rfl rfl)
theorem dX3_home_39 : decode cX3_home 39 = .ok (.ifCond .ge 39, 3) := dk_156 0 39 (dk_at dksX3_home_1 16 rfl rfl)
theorem dX3_home_42 : decode cX3_home 42 = .ok (.aload_n 0, 1) := dk_42 (dk_at dksX3_home_1 19 rfl rfl)
theorem dX3_home_43 : decode cX3_home 43 = .ok (.invokevirtual 445, 3) := dk_182 1 189 (dk_at dksX3_home_1 20 rfl rfl)
theorem dX3_home_46 : decode cX3_home 46 = .ok (.aload_n 0, 1) := dk_42 (dk_at dksX3_home_1 23 rfl rfl)
theorem dX3_home_47 : decode cX3_home 47 = .ok (.getfield 42, 3) := dk_180 0 42 (dk_at dksX3_home_2 0 rfl rfl)
theorem dX3_home_50 : decode cX3_home 50 = .ok (.iconst 1, 1) := dk_4 (dk_at dksX3_home_2 3 rfl rfl)
theorem dX3_home_51 : decode cX3_home 51 = .ok (.iaload, 1) := dk_46 (dk_at dksX3_home_2 4 rfl rfl)
theorem dX3_home_52 : decode cX3_home 52 = .ok (.if_icmp .ne 9, 3) := dk_160 0 9 (dk_at dksX3_home_2 5 rfl rfl)
theorem dX3_home_55 : decode cX3_home 55 = .ok (.iload 4, 2) := dk_21 4 (dk_at dksX3_home_2 8 rfl rfl)
theorem dX3_home_57 : decode cX3_home 57 = .ok (.istore_n 3, 1) := dk_62 (dk_at dksX3_home_2 10 rfl rfl)
theorem dX3_home_58 : decode cX3_home 58 = .ok (.goto 14, 3) := dk_167 0 14 (dk_at dksX3_home_2 11 rfl rfl)
theorem dX3_home_61 : decode cX3_home 61 = .ok (.iload 4, 2) := dk_21 4 (dk_at dksX3_home_2 14 rfl rfl)
theorem dX3_home_63 : decode cX3_home 63 = .ok (.iload_n 2, 1) := dk_28 (dk_at dksX3_home_2 16 rfl rfl)
theorem dX3_home_64 : decode cX3_home 64 = .ok (.if_icmp .ge 8, 3) := dk_162 0 8 (dk_at dksX3_home_2 17 rfl rfl)
theorem dX3_home_67 : decode cX3_home 67 = .ok (.aload_n 0, 1) := dk_42 (dk_at dksX3_home_2 20 rfl rfl)
theorem dX3_home_68 : decode cX3_home 68 = .ok (.iload_n 1, 1) := dk_27 (dk_at dksX3_home_2 21 rfl rfl)
theorem dX3_home_69 : decode cX3_home 69 = .ok (.invokevirtual 429, 3) := dk_182 1 173 (dk_at dksX3_home_3 0 rfl rfl)
theorem dX3_home_72 : decode cX3_home 72 = .ok (.iinc 4 1, 3) := dk_132 4 1 (dk_at dksX3_home_3 3 rfl rfl)
theorem dX3_home_75 : decode cX3_home 75 = .ok (.goto (-43), 3) := dk_167 255 213 (dk_at dksX3_home_3 6 rfl rfl)
theorem dX3_home_78 : decode cX3_home 78 = .ok (.aload_n 0, 1) := dk_42 (dk_at dksX3_home_3 9 rfl rfl)
theorem dX3_home_79 : decode cX3_home 79 = .ok (.invokevirtual 448, 3) := dk_182 1 192 (dk_at dksX3_home_3 10 rfl rfl)
theorem dX3_home_82 : decode cX3_home 82 = .ok (.iload_n 3, 1) := dk_29 (dk_at dksX3_home_3 13 rfl rfl)
theorem dX3_home_83 : decode cX3_home 83 = .ok (.ireturn, 1) := dk_172 (dk_at dksX3_home_3 14 rfl rfl)
abbrev cX3_seed : ByteArray := prog_19_method_107_code
def yX3_seed : MethodName := ⟨RX3, "seed", "(I)I"⟩
def dkwX3_seed_0 : List UInt8 := [27, 156, 0, 5, 2, 172, 42, 180, 0, 42, 16, 7, 46, 61, 42, 180, 0, 42, 16, 7, 27, 79, 28, 172]
abbrev dktX3_seed_0 : List UInt8 := dkwX3_seed_0 ++ []
theorem dksX3_seed_0 : cX3_seed.data.toList.drop 0 = dktX3_seed_0 := by decide +kernel
theorem dX3_seed_0 : decode cX3_seed 0 = .ok (.iload_n 1, 1) := dk_27 (dk_at dksX3_seed_0 0 rfl rfl)
theorem dX3_seed_1 : decode cX3_seed 1 = .ok (.ifCond .ge 5, 3) := dk_156 0 5 (dk_at dksX3_seed_0 1 rfl rfl)
theorem dX3_seed_4 : decode cX3_seed 4 = .ok (.iconst (-1), 1) := dk_2 (dk_at dksX3_seed_0 4 rfl rfl)
theorem dX3_seed_5 : decode cX3_seed 5 = .ok (.ireturn, 1) := dk_172 (dk_at dksX3_seed_0 5 rfl rfl)
theorem dX3_seed_6 : decode cX3_seed 6 = .ok (.aload_n 0, 1) := dk_42 (dk_at dksX3_seed_0 6 rfl rfl)
theorem dX3_seed_7 : decode cX3_seed 7 = .ok (.getfield 42, 3) := dk_180 0 42 (dk_at dksX3_seed_0 7 rfl rfl)
theorem dX3_seed_10 : decode cX3_seed 10 = .ok (.bipush 7, 2) := dk_16 7 (dk_at dksX3_seed_0 10 rfl rfl)
theorem dX3_seed_12 : decode cX3_seed 12 = .ok (.iaload, 1) := dk_46 (dk_at dksX3_seed_0 12 rfl rfl)
theorem dX3_seed_13 : decode cX3_seed 13 = .ok (.istore_n 2, 1) := dk_61 (dk_at dksX3_seed_0 13 rfl rfl)
theorem dX3_seed_14 : decode cX3_seed 14 = .ok (.aload_n 0, 1) := dk_42 (dk_at dksX3_seed_0 14 rfl rfl)
theorem dX3_seed_15 : decode cX3_seed 15 = .ok (.getfield 42, 3) := dk_180 0 42 (dk_at dksX3_seed_0 15 rfl rfl)
theorem dX3_seed_18 : decode cX3_seed 18 = .ok (.bipush 7, 2) := dk_16 7 (dk_at dksX3_seed_0 18 rfl rfl)
theorem dX3_seed_20 : decode cX3_seed 20 = .ok (.iload_n 1, 1) := dk_27 (dk_at dksX3_seed_0 20 rfl rfl)
theorem dX3_seed_21 : decode cX3_seed 21 = .ok (.iastore, 1) := dk_79 (dk_at dksX3_seed_0 21 rfl rfl)
theorem dX3_seed_22 : decode cX3_seed 22 = .ok (.iload_n 2, 1) := dk_28 (dk_at dksX3_seed_0 22 rfl rfl)
theorem dX3_seed_23 : decode cX3_seed 23 = .ok (.ireturn, 1) := dk_172 (dk_at dksX3_seed_0 23 rfl rfl)
abbrev cX3_days : ByteArray := prog_19_method_108_code
def yX3_days : MethodName := ⟨RX3, "days", "(IIII)I"⟩
def dkwX3_days_9 : List UInt8 := [154, 0, 8, 21, 7, 167, 0, 16, 21, 4, 4, 160, 0, 8, 21, 8, 167, 0, 5, 21, 9, 172]
abbrev dktX3_days_9 : List UInt8 := dkwX3_days_9 ++ []
def dkwX3_days_8 : List UInt8 := [160, 0, 7, 4, 167, 0, 4, 3, 96, 54, 9, 42, 182, 1, 192, 132, 10, 1, 167, 255, 122, 21, 4]
abbrev dktX3_days_8 : List UInt8 := dkwX3_days_8 ++ dktX3_days_9
def dkwX3_days_7 : List UInt8 := [8, 46, 42, 180, 0, 45, 8, 46, 100, 96, 54, 8, 21, 9, 42, 182, 1, 189, 42, 180, 0, 42, 4, 46]
abbrev dktX3_days_7 : List UInt8 := dkwX3_days_7 ++ dktX3_days_8
def dkwX3_days_6 : List UInt8 := [167, 255, 197, 42, 27, 29, 182, 1, 181, 21, 7, 42, 182, 1, 189, 96, 54, 7, 21, 8, 42, 180, 0, 42]
abbrev dktX3_days_6 : List UInt8 := dkwX3_days_6 ++ dktX3_days_7
def dkwX3_days_5 : List UInt8 := [104, 96, 5, 96, 92, 46, 22, 5, 20, 1, 205, 109, 20, 1, 207, 113, 136, 96, 79, 132, 11, 1]
abbrev dktX3_days_5 : List UInt8 := dkwX3_days_5 ++ dktX3_days_6
def dkwX3_days_4 : List UInt8 := [20, 1, 199, 105, 20, 1, 201, 97, 20, 1, 203, 113, 55, 5, 42, 180, 0, 42, 16, 80, 16, 7, 21, 11]
abbrev dktX3_days_4 : List UInt8 := dkwX3_days_4 ++ dktX3_days_5
def dkwX3_days_3 : List UInt8 := [54, 10, 21, 10, 28, 162, 0, 134, 3, 54, 11, 21, 11, 42, 180, 0, 42, 4, 46, 162, 0, 54, 22, 5]
abbrev dktX3_days_3 : List UInt8 := dkwX3_days_3 ++ dktX3_days_4
def dkwX3_days_2 : List UInt8 := [42, 182, 1, 186, 42, 180, 0, 42, 16, 7, 46, 133, 55, 5, 3, 54, 7, 3, 54, 8, 3, 54, 9, 3]
abbrev dktX3_days_2 : List UInt8 := dkwX3_days_2 ++ dktX3_days_3
def dkwX3_days_1 : List UInt8 := [20, 1, 197, 184, 0, 125, 153, 0, 16, 21, 4, 133, 9, 20, 1, 128, 184, 0, 125, 154, 0, 5, 2, 172]
abbrev dktX3_days_1 : List UInt8 := dkwX3_days_1 ++ dktX3_days_2
def dkwX3_days_0 : List UInt8 := [42, 27, 182, 1, 176, 153, 0, 40, 28, 133, 10, 20, 1, 195, 184, 0, 125, 153, 0, 28, 29, 133, 9]
abbrev dktX3_days_0 : List UInt8 := dkwX3_days_0 ++ dktX3_days_1
theorem dksX3_days_0 : cX3_days.data.toList.drop 0 = dktX3_days_0 := by decide +kernel
theorem dksX3_days_1 : cX3_days.data.toList.drop 23 = dktX3_days_1 := dk_seg dksX3_days_0 23 rfl rfl
theorem dksX3_days_2 : cX3_days.data.toList.drop 47 = dktX3_days_2 := dk_seg dksX3_days_1 24 rfl rfl
theorem dksX3_days_3 : cX3_days.data.toList.drop 71 = dktX3_days_3 := dk_seg dksX3_days_2 24 rfl rfl
theorem dksX3_days_4 : cX3_days.data.toList.drop 95 = dktX3_days_4 := dk_seg dksX3_days_3 24 rfl rfl
theorem dksX3_days_5 : cX3_days.data.toList.drop 119 = dktX3_days_5 := dk_seg dksX3_days_4 24 rfl rfl
theorem dksX3_days_6 : cX3_days.data.toList.drop 141 = dktX3_days_6 := dk_seg dksX3_days_5 22 rfl rfl
theorem dksX3_days_7 : cX3_days.data.toList.drop 165 = dktX3_days_7 := dk_seg dksX3_days_6 24 rfl rfl
theorem dksX3_days_8 : cX3_days.data.toList.drop 189 = dktX3_days_8 := dk_seg dksX3_days_7 24 rfl rfl
theorem dksX3_days_9 : cX3_days.data.toList.drop 212 = dktX3_days_9 := dk_seg dksX3_days_8 23 rfl rfl
theorem dX3_days_0 : decode cX3_days 0 = .ok (.aload_n 0, 1) := dk_42 (dk_at dksX3_days_0 0 rfl rfl)
theorem dX3_days_1 : decode cX3_days 1 = .ok (.iload_n 1, 1) := dk_27 (dk_at dksX3_days_0 1 rfl rfl)
theorem dX3_days_2 : decode cX3_days 2 = .ok (.invokevirtual 432, 3) := dk_182 1 176 (dk_at dksX3_days_0 2 rfl rfl)
theorem dX3_days_5 : decode cX3_days 5 = .ok (.ifCond .eq 40, 3) := dk_153 0 40 (dk_at dksX3_days_0 5 rfl rfl)
theorem dX3_days_8 : decode cX3_days 8 = .ok (.iload_n 2, 1) := dk_28 (dk_at dksX3_days_0 8 rfl rfl)
theorem dX3_days_9 : decode cX3_days 9 = .ok (.i2l, 1) := dk_133 (dk_at dksX3_days_0 9 rfl rfl)
theorem dX3_days_10 : decode cX3_days 10 = .ok (.lconst 1, 1) := dk_10 (dk_at dksX3_days_0 10 rfl rfl)
theorem dX3_days_11 : decode cX3_days 11 = .ok (.ldc2_w 451, 3) := dk_20 1 195 (dk_at dksX3_days_0 11 rfl rfl)
theorem dX3_days_14 : decode cX3_days 14 = .ok (.invokestatic 125, 3) := dk_184 0 125 (dk_at dksX3_days_0 14 rfl rfl)
theorem dX3_days_17 : decode cX3_days 17 = .ok (.ifCond .eq 28, 3) := dk_153 0 28 (dk_at dksX3_days_0 17 rfl rfl)
theorem dX3_days_20 : decode cX3_days 20 = .ok (.iload_n 3, 1) := dk_29 (dk_at dksX3_days_0 20 rfl rfl)
theorem dX3_days_21 : decode cX3_days 21 = .ok (.i2l, 1) := dk_133 (dk_at dksX3_days_0 21 rfl rfl)
theorem dX3_days_22 : decode cX3_days 22 = .ok (.lconst 0, 1) := dk_9 (dk_at dksX3_days_0 22 rfl rfl)
theorem dX3_days_23 : decode cX3_days 23 = .ok (.ldc2_w 453, 3) := dk_20 1 197 (dk_at dksX3_days_1 0 rfl rfl)
theorem dX3_days_26 : decode cX3_days 26 = .ok (.invokestatic 125, 3) := dk_184 0 125 (dk_at dksX3_days_1 3 rfl rfl)
theorem dX3_days_29 : decode cX3_days 29 = .ok (.ifCond .eq 16, 3) := dk_153 0 16 (dk_at dksX3_days_1 6 rfl rfl)
theorem dX3_days_32 : decode cX3_days 32 = .ok (.iload 4, 2) := dk_21 4 (dk_at dksX3_days_1 9 rfl rfl)
theorem dX3_days_34 : decode cX3_days 34 = .ok (.i2l, 1) := dk_133 (dk_at dksX3_days_1 11 rfl rfl)
theorem dX3_days_35 : decode cX3_days 35 = .ok (.lconst 0, 1) := dk_9 (dk_at dksX3_days_1 12 rfl rfl)
theorem dX3_days_36 : decode cX3_days 36 = .ok (.ldc2_w 384, 3) := dk_20 1 128 (dk_at dksX3_days_1 13 rfl rfl)
theorem dX3_days_39 : decode cX3_days 39 = .ok (.invokestatic 125, 3) := dk_184 0 125 (dk_at dksX3_days_1 16 rfl rfl)
theorem dX3_days_42 : decode cX3_days 42 = .ok (.ifCond .ne 5, 3) := dk_154 0 5 (dk_at dksX3_days_1 19 rfl rfl)
theorem dX3_days_45 : decode cX3_days 45 = .ok (.iconst (-1), 1) := dk_2 (dk_at dksX3_days_1 22 rfl rfl)
theorem dX3_days_46 : decode cX3_days 46 = .ok (.ireturn, 1) := dk_172 (dk_at dksX3_days_1 23 rfl rfl)
theorem dX3_days_47 : decode cX3_days 47 = .ok (.aload_n 0, 1) := dk_42 (dk_at dksX3_days_2 0 rfl rfl)
theorem dX3_days_48 : decode cX3_days 48 = .ok (.invokevirtual 442, 3) := dk_182 1 186 (dk_at dksX3_days_2 1 rfl rfl)
theorem dX3_days_51 : decode cX3_days 51 = .ok (.aload_n 0, 1) := dk_42 (dk_at dksX3_days_2 4 rfl rfl)
theorem dX3_days_52 : decode cX3_days 52 = .ok (.getfield 42, 3) := dk_180 0 42 (dk_at dksX3_days_2 5 rfl rfl)
theorem dX3_days_55 : decode cX3_days 55 = .ok (.bipush 7, 2) := dk_16 7 (dk_at dksX3_days_2 8 rfl rfl)
theorem dX3_days_57 : decode cX3_days 57 = .ok (.iaload, 1) := dk_46 (dk_at dksX3_days_2 10 rfl rfl)
theorem dX3_days_58 : decode cX3_days 58 = .ok (.i2l, 1) := dk_133 (dk_at dksX3_days_2 11 rfl rfl)
theorem dX3_days_59 : decode cX3_days 59 = .ok (.lstore 5, 2) := dk_55 5 (dk_at dksX3_days_2 12 rfl rfl)
theorem dX3_days_61 : decode cX3_days 61 = .ok (.iconst 0, 1) := dk_3 (dk_at dksX3_days_2 14 rfl rfl)
theorem dX3_days_62 : decode cX3_days 62 = .ok (.istore 7, 2) := dk_54 7 (dk_at dksX3_days_2 15 rfl rfl)
theorem dX3_days_64 : decode cX3_days 64 = .ok (.iconst 0, 1) := dk_3 (dk_at dksX3_days_2 17 rfl rfl)
theorem dX3_days_65 : decode cX3_days 65 = .ok (.istore 8, 2) := dk_54 8 (dk_at dksX3_days_2 18 rfl rfl)
theorem dX3_days_67 : decode cX3_days 67 = .ok (.iconst 0, 1) := dk_3 (dk_at dksX3_days_2 20 rfl rfl)
theorem dX3_days_68 : decode cX3_days 68 = .ok (.istore 9, 2) := dk_54 9 (dk_at dksX3_days_2 21 rfl rfl)
theorem dX3_days_70 : decode cX3_days 70 = .ok (.iconst 0, 1) := dk_3 (dk_at dksX3_days_2 23 rfl rfl)
theorem dX3_days_71 : decode cX3_days 71 = .ok (.istore 10, 2) := dk_54 10 (dk_at dksX3_days_3 0 rfl rfl)
theorem dX3_days_73 : decode cX3_days 73 = .ok (.iload 10, 2) := dk_21 10 (dk_at dksX3_days_3 2 rfl rfl)
theorem dX3_days_75 : decode cX3_days 75 = .ok (.iload_n 2, 1) := dk_28 (dk_at dksX3_days_3 4 rfl rfl)
theorem dX3_days_76 : decode cX3_days 76 = .ok (.if_icmp .ge 134, 3) := dk_162 0 134 (dk_at dksX3_days_3 5 rfl rfl)
theorem dX3_days_79 : decode cX3_days 79 = .ok (.iconst 0, 1) := dk_3 (dk_at dksX3_days_3 8 rfl rfl)
theorem dX3_days_80 : decode cX3_days 80 = .ok (.istore 11, 2) := dk_54 11 (dk_at dksX3_days_3 9 rfl rfl)
theorem dX3_days_82 : decode cX3_days 82 = .ok (.iload 11, 2) := dk_21 11 (dk_at dksX3_days_3 11 rfl rfl)
theorem dX3_days_84 : decode cX3_days 84 = .ok (.aload_n 0, 1) := dk_42 (dk_at dksX3_days_3 13 rfl rfl)
theorem dX3_days_85 : decode cX3_days 85 = .ok (.getfield 42, 3) := dk_180 0 42 (dk_at dksX3_days_3 14 rfl rfl)
theorem dX3_days_88 : decode cX3_days 88 = .ok (.iconst 1, 1) := dk_4 (dk_at dksX3_days_3 17 rfl rfl)
theorem dX3_days_89 : decode cX3_days 89 = .ok (.iaload, 1) := dk_46 (dk_at dksX3_days_3 18 rfl rfl)
theorem dX3_days_90 : decode cX3_days 90 = .ok (.if_icmp .ge 54, 3) := dk_162 0 54 (dk_at dksX3_days_3 19 rfl rfl)
theorem dX3_days_93 : decode cX3_days 93 = .ok (.lload 5, 2) := dk_22 5 (dk_at dksX3_days_3 22 rfl rfl)
theorem dX3_days_95 : decode cX3_days 95 = .ok (.ldc2_w 455, 3) := dk_20 1 199 (dk_at dksX3_days_4 0 rfl rfl)
theorem dX3_days_98 : decode cX3_days 98 = .ok (.lmul, 1) := dk_105 (dk_at dksX3_days_4 3 rfl rfl)
theorem dX3_days_99 : decode cX3_days 99 = .ok (.ldc2_w 457, 3) := dk_20 1 201 (dk_at dksX3_days_4 4 rfl rfl)
theorem dX3_days_102 : decode cX3_days 102 = .ok (.ladd, 1) := dk_97 (dk_at dksX3_days_4 7 rfl rfl)
theorem dX3_days_103 : decode cX3_days 103 = .ok (.ldc2_w 459, 3) := dk_20 1 203 (dk_at dksX3_days_4 8 rfl rfl)
theorem dX3_days_106 : decode cX3_days 106 = .ok (.lrem, 1) := dk_113 (dk_at dksX3_days_4 11 rfl rfl)
theorem dX3_days_107 : decode cX3_days 107 = .ok (.lstore 5, 2) := dk_55 5 (dk_at dksX3_days_4 12 rfl rfl)
theorem dX3_days_109 : decode cX3_days 109 = .ok (.aload_n 0, 1) := dk_42 (dk_at dksX3_days_4 14 rfl rfl)
theorem dX3_days_110 : decode cX3_days 110 = .ok (.getfield 42, 3) := dk_180 0 42 (dk_at dksX3_days_4 15 rfl rfl)
theorem dX3_days_113 : decode cX3_days 113 = .ok (.bipush 80, 2) := dk_16 80 (dk_at dksX3_days_4 18 rfl rfl)
theorem dX3_days_115 : decode cX3_days 115 = .ok (.bipush 7, 2) := dk_16 7 (dk_at dksX3_days_4 20 rfl rfl)
theorem dX3_days_117 : decode cX3_days 117 = .ok (.iload 11, 2) := dk_21 11 (dk_at dksX3_days_4 22 rfl rfl)
theorem dX3_days_119 : decode cX3_days 119 = .ok (.imul, 1) := dk_104 (dk_at dksX3_days_5 0 rfl rfl)
theorem dX3_days_120 : decode cX3_days 120 = .ok (.iadd, 1) := dk_96 (dk_at dksX3_days_5 1 rfl rfl)
theorem dX3_days_121 : decode cX3_days 121 = .ok (.iconst 2, 1) := dk_5 (dk_at dksX3_days_5 2 rfl rfl)
theorem dX3_days_122 : decode cX3_days 122 = .ok (.iadd, 1) := dk_96 (dk_at dksX3_days_5 3 rfl rfl)
theorem dX3_days_123 : decode cX3_days 123 = .ok (.dup2, 1) := dk_92 (dk_at dksX3_days_5 4 rfl rfl)
theorem dX3_days_124 : decode cX3_days 124 = .ok (.iaload, 1) := dk_46 (dk_at dksX3_days_5 5 rfl rfl)
theorem dX3_days_125 : decode cX3_days 125 = .ok (.lload 5, 2) := dk_22 5 (dk_at dksX3_days_5 6 rfl rfl)
theorem dX3_days_127 : decode cX3_days 127 = .ok (.ldc2_w 461, 3) := dk_20 1 205 (dk_at dksX3_days_5 8 rfl rfl)
theorem dX3_days_130 : decode cX3_days 130 = .ok (.ldiv, 1) := dk_109 (dk_at dksX3_days_5 11 rfl rfl)
theorem dX3_days_131 : decode cX3_days 131 = .ok (.ldc2_w 463, 3) := dk_20 1 207 (dk_at dksX3_days_5 12 rfl rfl)
theorem dX3_days_134 : decode cX3_days 134 = .ok (.lrem, 1) := dk_113 (dk_at dksX3_days_5 15 rfl rfl)
theorem dX3_days_135 : decode cX3_days 135 = .ok (.l2i, 1) := dk_136 (dk_at dksX3_days_5 16 rfl rfl)
theorem dX3_days_136 : decode cX3_days 136 = .ok (.iadd, 1) := dk_96 (dk_at dksX3_days_5 17 rfl rfl)
theorem dX3_days_137 : decode cX3_days 137 = .ok (.iastore, 1) := dk_79 (dk_at dksX3_days_5 18 rfl rfl)
theorem dX3_days_138 : decode cX3_days 138 = .ok (.iinc 11 1, 3) := dk_132 11 1 (dk_at dksX3_days_5 19 rfl rfl)
theorem dX3_days_141 : decode cX3_days 141 = .ok (.goto (-59), 3) := dk_167 255 197 (dk_at dksX3_days_6 0 rfl rfl)
theorem dX3_days_144 : decode cX3_days 144 = .ok (.aload_n 0, 1) := dk_42 (dk_at dksX3_days_6 3 rfl rfl)
theorem dX3_days_145 : decode cX3_days 145 = .ok (.iload_n 1, 1) := dk_27 (dk_at dksX3_days_6 4 rfl rfl)
theorem dX3_days_146 : decode cX3_days 146 = .ok (.iload_n 3, 1) := dk_29 (dk_at dksX3_days_6 5 rfl rfl)
theorem dX3_days_147 : decode cX3_days 147 = .ok (.invokevirtual 437, 3) := dk_182 1 181 (dk_at dksX3_days_6 6 rfl rfl)
theorem dX3_days_150 : decode cX3_days 150 = .ok (.iload 7, 2) := dk_21 7 (dk_at dksX3_days_6 9 rfl rfl)
theorem dX3_days_152 : decode cX3_days 152 = .ok (.aload_n 0, 1) := dk_42 (dk_at dksX3_days_6 11 rfl rfl)
theorem dX3_days_153 : decode cX3_days 153 = .ok (.invokevirtual 445, 3) := dk_182 1 189 (dk_at dksX3_days_6 12 rfl rfl)
theorem dX3_days_156 : decode cX3_days 156 = .ok (.iadd, 1) := dk_96 (dk_at dksX3_days_6 15 rfl rfl)
theorem dX3_days_157 : decode cX3_days 157 = .ok (.istore 7, 2) := dk_54 7 (dk_at dksX3_days_6 16 rfl rfl)
theorem dX3_days_159 : decode cX3_days 159 = .ok (.iload 8, 2) := dk_21 8 (dk_at dksX3_days_6 18 rfl rfl)
theorem dX3_days_161 : decode cX3_days 161 = .ok (.aload_n 0, 1) := dk_42 (dk_at dksX3_days_6 20 rfl rfl)
theorem dX3_days_162 : decode cX3_days 162 = .ok (.getfield 42, 3) := dk_180 0 42 (dk_at dksX3_days_6 21 rfl rfl)
theorem dX3_days_165 : decode cX3_days 165 = .ok (.iconst 5, 1) := dk_8 (dk_at dksX3_days_7 0 rfl rfl)
theorem dX3_days_166 : decode cX3_days 166 = .ok (.iaload, 1) := dk_46 (dk_at dksX3_days_7 1 rfl rfl)
theorem dX3_days_167 : decode cX3_days 167 = .ok (.aload_n 0, 1) := dk_42 (dk_at dksX3_days_7 2 rfl rfl)
theorem dX3_days_168 : decode cX3_days 168 = .ok (.getfield 45, 3) := dk_180 0 45 (dk_at dksX3_days_7 3 rfl rfl)
theorem dX3_days_171 : decode cX3_days 171 = .ok (.iconst 5, 1) := dk_8 (dk_at dksX3_days_7 6 rfl rfl)
theorem dX3_days_172 : decode cX3_days 172 = .ok (.iaload, 1) := dk_46 (dk_at dksX3_days_7 7 rfl rfl)
theorem dX3_days_173 : decode cX3_days 173 = .ok (.isub, 1) := dk_100 (dk_at dksX3_days_7 8 rfl rfl)
theorem dX3_days_174 : decode cX3_days 174 = .ok (.iadd, 1) := dk_96 (dk_at dksX3_days_7 9 rfl rfl)
theorem dX3_days_175 : decode cX3_days 175 = .ok (.istore 8, 2) := dk_54 8 (dk_at dksX3_days_7 10 rfl rfl)
theorem dX3_days_177 : decode cX3_days 177 = .ok (.iload 9, 2) := dk_21 9 (dk_at dksX3_days_7 12 rfl rfl)
theorem dX3_days_179 : decode cX3_days 179 = .ok (.aload_n 0, 1) := dk_42 (dk_at dksX3_days_7 14 rfl rfl)
theorem dX3_days_180 : decode cX3_days 180 = .ok (.invokevirtual 445, 3) := dk_182 1 189 (dk_at dksX3_days_7 15 rfl rfl)
theorem dX3_days_183 : decode cX3_days 183 = .ok (.aload_n 0, 1) := dk_42 (dk_at dksX3_days_7 18 rfl rfl)
theorem dX3_days_184 : decode cX3_days 184 = .ok (.getfield 42, 3) := dk_180 0 42 (dk_at dksX3_days_7 19 rfl rfl)
theorem dX3_days_187 : decode cX3_days 187 = .ok (.iconst 1, 1) := dk_4 (dk_at dksX3_days_7 22 rfl rfl)
theorem dX3_days_188 : decode cX3_days 188 = .ok (.iaload, 1) := dk_46 (dk_at dksX3_days_7 23 rfl rfl)
theorem dX3_days_189 : decode cX3_days 189 = .ok (.if_icmp .ne 7, 3) := dk_160 0 7 (dk_at dksX3_days_8 0 rfl rfl)
theorem dX3_days_192 : decode cX3_days 192 = .ok (.iconst 1, 1) := dk_4 (dk_at dksX3_days_8 3 rfl rfl)
theorem dX3_days_193 : decode cX3_days 193 = .ok (.goto 4, 3) := dk_167 0 4 (dk_at dksX3_days_8 4 rfl rfl)
theorem dX3_days_196 : decode cX3_days 196 = .ok (.iconst 0, 1) := dk_3 (dk_at dksX3_days_8 7 rfl rfl)
theorem dX3_days_197 : decode cX3_days 197 = .ok (.iadd, 1) := dk_96 (dk_at dksX3_days_8 8 rfl rfl)
theorem dX3_days_198 : decode cX3_days 198 = .ok (.istore 9, 2) := dk_54 9 (dk_at dksX3_days_8 9 rfl rfl)
theorem dX3_days_200 : decode cX3_days 200 = .ok (.aload_n 0, 1) := dk_42 (dk_at dksX3_days_8 11 rfl rfl)
theorem dX3_days_201 : decode cX3_days 201 = .ok (.invokevirtual 448, 3) := dk_182 1 192 (dk_at dksX3_days_8 12 rfl rfl)
theorem dX3_days_204 : decode cX3_days 204 = .ok (.iinc 10 1, 3) := dk_132 10 1 (dk_at dksX3_days_8 15 rfl rfl)
theorem dX3_days_207 : decode cX3_days 207 = .ok (.goto (-134), 3) := dk_167 255 122 (dk_at dksX3_days_8 18 rfl rfl)
theorem dX3_days_210 : decode cX3_days 210 = .ok (.iload 4, 2) := dk_21 4 (dk_at dksX3_days_8 21 rfl rfl)
theorem dX3_days_212 : decode cX3_days 212 = .ok (.ifCond .ne 8, 3) := dk_154 0 8 (dk_at dksX3_days_9 0 rfl rfl)
theorem dX3_days_215 : decode cX3_days 215 = .ok (.iload 7, 2) := dk_21 7 (dk_at dksX3_days_9 3 rfl rfl)
theorem dX3_days_217 : decode cX3_days 217 = .ok (.goto 16, 3) := dk_167 0 16 (dk_at dksX3_days_9 5 rfl rfl)
theorem dX3_days_220 : decode cX3_days 220 = .ok (.iload 4, 2) := dk_21 4 (dk_at dksX3_days_9 8 rfl rfl)
theorem dX3_days_222 : decode cX3_days 222 = .ok (.iconst 1, 1) := dk_4 (dk_at dksX3_days_9 10 rfl rfl)
theorem dX3_days_223 : decode cX3_days 223 = .ok (.if_icmp .ne 8, 3) := dk_160 0 8 (dk_at dksX3_days_9 11 rfl rfl)
theorem dX3_days_226 : decode cX3_days 226 = .ok (.iload 8, 2) := dk_21 8 (dk_at dksX3_days_9 14 rfl rfl)
theorem dX3_days_228 : decode cX3_days 228 = .ok (.goto 5, 3) := dk_167 0 5 (dk_at dksX3_days_9 16 rfl rfl)
theorem dX3_days_231 : decode cX3_days 231 = .ok (.iload 9, 2) := dk_21 9 (dk_at dksX3_days_9 19 rfl rfl)
theorem dX3_days_233 : decode cX3_days 233 = .ok (.ireturn, 1) := dk_172 (dk_at dksX3_days_9 21 rfl rfl)
abbrev cX3_count : ByteArray := prog_19_method_109_code
def yX3_count : MethodName := ⟨RX3, "count", "(I)I"⟩
def dkwX3_count_3 : List UInt8 := [180, 0, 86, 172, 2, 172]
abbrev dktX3_count_3 : List UInt8 := dkwX3_count_3 ++ []
def dkwX3_count_2 : List UInt8 := [42, 180, 0, 42, 27, 46, 172, 42, 180, 0, 250, 172, 42, 180, 0, 42, 27, 4, 100, 46, 172, 42]
abbrev dktX3_count_2 : List UInt8 := dkwX3_count_2 ++ dktX3_count_3
def dkwX3_count_1 : List UInt8 := [170, 0, 0, 0, 0, 0, 81, 0, 0, 0, 0, 0, 0, 0, 9, 0, 0, 0, 55, 0, 0, 0, 55, 0, 0, 0, 62, 0, 0, 0, 67, 0, 0, 0, 67, 0, 0, 0, 67, 0, 0, 0, 67, 0, 0, 0, 67, 0, 0, 0, 67, 0, 0, 0, 76]
abbrev dktX3_count_1 : List UInt8 := dkwX3_count_1 ++ dktX3_count_2
def dkwX3_count_0 : List UInt8 := [27]
abbrev dktX3_count_0 : List UInt8 := dkwX3_count_0 ++ dktX3_count_1
theorem dksX3_count_0 : cX3_count.data.toList.drop 0 = dktX3_count_0 := by decide +kernel
theorem dksX3_count_1 : cX3_count.data.toList.drop 1 = dktX3_count_1 := dk_seg dksX3_count_0 1 rfl rfl
theorem dksX3_count_2 : cX3_count.data.toList.drop 56 = dktX3_count_2 := dk_seg dksX3_count_1 55 rfl rfl
theorem dksX3_count_3 : cX3_count.data.toList.drop 78 = dktX3_count_3 := dk_seg dksX3_count_2 22 rfl rfl
theorem dX3_count_0 : decode cX3_count 0 = .ok (.iload_n 1, 1) := dk_27 (dk_at dksX3_count_0 0 rfl rfl)
theorem dX3_count_1 : decode cX3_count 1 = .ok (.tableswitch 81 0 9 #[55, 55, 62, 67, 67, 67, 67, 67, 67, 76], 55) := by decide +kernel
theorem dX3_count_56 : decode cX3_count 56 = .ok (.aload_n 0, 1) := dk_42 (dk_at dksX3_count_2 0 rfl rfl)
theorem dX3_count_57 : decode cX3_count 57 = .ok (.getfield 42, 3) := dk_180 0 42 (dk_at dksX3_count_2 1 rfl rfl)
theorem dX3_count_60 : decode cX3_count 60 = .ok (.iload_n 1, 1) := dk_27 (dk_at dksX3_count_2 4 rfl rfl)
theorem dX3_count_61 : decode cX3_count 61 = .ok (.iaload, 1) := dk_46 (dk_at dksX3_count_2 5 rfl rfl)
theorem dX3_count_62 : decode cX3_count 62 = .ok (.ireturn, 1) := dk_172 (dk_at dksX3_count_2 6 rfl rfl)
theorem dX3_count_63 : decode cX3_count 63 = .ok (.aload_n 0, 1) := dk_42 (dk_at dksX3_count_2 7 rfl rfl)
theorem dX3_count_64 : decode cX3_count 64 = .ok (.getfield 250, 3) := dk_180 0 250 (dk_at dksX3_count_2 8 rfl rfl)
theorem dX3_count_67 : decode cX3_count 67 = .ok (.ireturn, 1) := dk_172 (dk_at dksX3_count_2 11 rfl rfl)
theorem dX3_count_68 : decode cX3_count 68 = .ok (.aload_n 0, 1) := dk_42 (dk_at dksX3_count_2 12 rfl rfl)
theorem dX3_count_69 : decode cX3_count 69 = .ok (.getfield 42, 3) := dk_180 0 42 (dk_at dksX3_count_2 13 rfl rfl)
theorem dX3_count_72 : decode cX3_count 72 = .ok (.iload_n 1, 1) := dk_27 (dk_at dksX3_count_2 16 rfl rfl)
theorem dX3_count_73 : decode cX3_count 73 = .ok (.iconst 1, 1) := dk_4 (dk_at dksX3_count_2 17 rfl rfl)
theorem dX3_count_74 : decode cX3_count 74 = .ok (.isub, 1) := dk_100 (dk_at dksX3_count_2 18 rfl rfl)
theorem dX3_count_75 : decode cX3_count 75 = .ok (.iaload, 1) := dk_46 (dk_at dksX3_count_2 19 rfl rfl)
theorem dX3_count_76 : decode cX3_count 76 = .ok (.ireturn, 1) := dk_172 (dk_at dksX3_count_2 20 rfl rfl)
theorem dX3_count_77 : decode cX3_count 77 = .ok (.aload_n 0, 1) := dk_42 (dk_at dksX3_count_2 21 rfl rfl)
theorem dX3_count_78 : decode cX3_count 78 = .ok (.getfield 86, 3) := dk_180 0 86 (dk_at dksX3_count_3 0 rfl rfl)
theorem dX3_count_81 : decode cX3_count 81 = .ok (.ireturn, 1) := dk_172 (dk_at dksX3_count_3 3 rfl rfl)
theorem dX3_count_82 : decode cX3_count 82 = .ok (.iconst (-1), 1) := dk_2 (dk_at dksX3_count_3 4 rfl rfl)
theorem dX3_count_83 : decode cX3_count 83 = .ok (.ireturn, 1) := dk_172 (dk_at dksX3_count_3 5 rfl rfl)
abbrev cX3_image : ByteArray := prog_19_method_110_code
def yX3_image : MethodName := ⟨RX3, "image", "(I)I"⟩
def dkwX3_image_2 : List UInt8 := [132, 2, 1, 167, 255, 228, 42, 180, 0, 42, 7, 46, 172]
abbrev dktX3_image_2 : List UInt8 := dkwX3_image_2 ++ []
def dkwX3_image_1 : List UInt8 := [17, 0, 202, 162, 0, 27, 42, 180, 0, 80, 17, 0, 202, 27, 104, 28, 96, 42, 180, 0, 42, 28, 46, 79]
abbrev dktX3_image_1 : List UInt8 := dkwX3_image_1 ++ dktX3_image_2
def dkwX3_image_0 : List UInt8 := [27, 133, 9, 20, 1, 184, 184, 0, 125, 154, 0, 5, 2, 172, 42, 180, 0, 83, 27, 4, 84, 3, 61, 28]
abbrev dktX3_image_0 : List UInt8 := dkwX3_image_0 ++ dktX3_image_1
theorem dksX3_image_0 : cX3_image.data.toList.drop 0 = dktX3_image_0 := by decide +kernel
theorem dksX3_image_1 : cX3_image.data.toList.drop 24 = dktX3_image_1 := dk_seg dksX3_image_0 24 rfl rfl
theorem dksX3_image_2 : cX3_image.data.toList.drop 48 = dktX3_image_2 := dk_seg dksX3_image_1 24 rfl rfl
theorem dX3_image_0 : decode cX3_image 0 = .ok (.iload_n 1, 1) := dk_27 (dk_at dksX3_image_0 0 rfl rfl)
theorem dX3_image_1 : decode cX3_image 1 = .ok (.i2l, 1) := dk_133 (dk_at dksX3_image_0 1 rfl rfl)
theorem dX3_image_2 : decode cX3_image 2 = .ok (.lconst 0, 1) := dk_9 (dk_at dksX3_image_0 2 rfl rfl)
theorem dX3_image_3 : decode cX3_image 3 = .ok (.ldc2_w 440, 3) := dk_20 1 184 (dk_at dksX3_image_0 3 rfl rfl)
theorem dX3_image_6 : decode cX3_image 6 = .ok (.invokestatic 125, 3) := dk_184 0 125 (dk_at dksX3_image_0 6 rfl rfl)
theorem dX3_image_9 : decode cX3_image 9 = .ok (.ifCond .ne 5, 3) := dk_154 0 5 (dk_at dksX3_image_0 9 rfl rfl)
theorem dX3_image_12 : decode cX3_image 12 = .ok (.iconst (-1), 1) := dk_2 (dk_at dksX3_image_0 12 rfl rfl)
theorem dX3_image_13 : decode cX3_image 13 = .ok (.ireturn, 1) := dk_172 (dk_at dksX3_image_0 13 rfl rfl)
theorem dX3_image_14 : decode cX3_image 14 = .ok (.aload_n 0, 1) := dk_42 (dk_at dksX3_image_0 14 rfl rfl)
theorem dX3_image_15 : decode cX3_image 15 = .ok (.getfield 83, 3) := dk_180 0 83 (dk_at dksX3_image_0 15 rfl rfl)
theorem dX3_image_18 : decode cX3_image 18 = .ok (.iload_n 1, 1) := dk_27 (dk_at dksX3_image_0 18 rfl rfl)
theorem dX3_image_19 : decode cX3_image 19 = .ok (.iconst 1, 1) := dk_4 (dk_at dksX3_image_0 19 rfl rfl)
theorem dX3_image_20 : decode cX3_image 20 = .ok (.bastore, 1) := dk_84 (dk_at dksX3_image_0 20 rfl rfl)
theorem dX3_image_21 : decode cX3_image 21 = .ok (.iconst 0, 1) := dk_3 (dk_at dksX3_image_0 21 rfl rfl)
theorem dX3_image_22 : decode cX3_image 22 = .ok (.istore_n 2, 1) := dk_61 (dk_at dksX3_image_0 22 rfl rfl)
theorem dX3_image_23 : decode cX3_image 23 = .ok (.iload_n 2, 1) := dk_28 (dk_at dksX3_image_0 23 rfl rfl)
theorem dX3_image_24 : decode cX3_image 24 = .ok (.sipush 202, 3) := dk_17 0 202 (dk_at dksX3_image_1 0 rfl rfl)
theorem dX3_image_27 : decode cX3_image 27 = .ok (.if_icmp .ge 27, 3) := dk_162 0 27 (dk_at dksX3_image_1 3 rfl rfl)
theorem dX3_image_30 : decode cX3_image 30 = .ok (.aload_n 0, 1) := dk_42 (dk_at dksX3_image_1 6 rfl rfl)
theorem dX3_image_31 : decode cX3_image 31 = .ok (.getfield 80, 3) := dk_180 0 80 (dk_at dksX3_image_1 7 rfl rfl)
theorem dX3_image_34 : decode cX3_image 34 = .ok (.sipush 202, 3) := dk_17 0 202 (dk_at dksX3_image_1 10 rfl rfl)
theorem dX3_image_37 : decode cX3_image 37 = .ok (.iload_n 1, 1) := dk_27 (dk_at dksX3_image_1 13 rfl rfl)
theorem dX3_image_38 : decode cX3_image 38 = .ok (.imul, 1) := dk_104 (dk_at dksX3_image_1 14 rfl rfl)
theorem dX3_image_39 : decode cX3_image 39 = .ok (.iload_n 2, 1) := dk_28 (dk_at dksX3_image_1 15 rfl rfl)
theorem dX3_image_40 : decode cX3_image 40 = .ok (.iadd, 1) := dk_96 (dk_at dksX3_image_1 16 rfl rfl)
theorem dX3_image_41 : decode cX3_image 41 = .ok (.aload_n 0, 1) := dk_42 (dk_at dksX3_image_1 17 rfl rfl)
theorem dX3_image_42 : decode cX3_image 42 = .ok (.getfield 42, 3) := dk_180 0 42 (dk_at dksX3_image_1 18 rfl rfl)
theorem dX3_image_45 : decode cX3_image 45 = .ok (.iload_n 2, 1) := dk_28 (dk_at dksX3_image_1 21 rfl rfl)
theorem dX3_image_46 : decode cX3_image 46 = .ok (.iaload, 1) := dk_46 (dk_at dksX3_image_1 22 rfl rfl)
theorem dX3_image_47 : decode cX3_image 47 = .ok (.iastore, 1) := dk_79 (dk_at dksX3_image_1 23 rfl rfl)
theorem dX3_image_48 : decode cX3_image 48 = .ok (.iinc 2 1, 3) := dk_132 2 1 (dk_at dksX3_image_2 0 rfl rfl)
theorem dX3_image_51 : decode cX3_image 51 = .ok (.goto (-28), 3) := dk_167 255 228 (dk_at dksX3_image_2 3 rfl rfl)
theorem dX3_image_54 : decode cX3_image 54 = .ok (.aload_n 0, 1) := dk_42 (dk_at dksX3_image_2 6 rfl rfl)
theorem dX3_image_55 : decode cX3_image 55 = .ok (.getfield 42, 3) := dk_180 0 42 (dk_at dksX3_image_2 7 rfl rfl)
theorem dX3_image_58 : decode cX3_image 58 = .ok (.iconst 4, 1) := dk_7 (dk_at dksX3_image_2 10 rfl rfl)
theorem dX3_image_59 : decode cX3_image 59 = .ok (.iaload, 1) := dk_46 (dk_at dksX3_image_2 11 rfl rfl)
theorem dX3_image_60 : decode cX3_image 60 = .ok (.ireturn, 1) := dk_172 (dk_at dksX3_image_2 12 rfl rfl)
abbrev cX3_back : ByteArray := prog_19_method_111_code
def yX3_back : MethodName := ⟨RX3, "back", "(I)I"⟩
def dkwX3_back_2 : List UInt8 := [46, 79, 132, 2, 1, 167, 255, 228, 42, 180, 0, 42, 7, 46, 172]
abbrev dktX3_back_2 : List UInt8 := dkwX3_back_2 ++ []
def dkwX3_back_1 : List UInt8 := [61, 28, 17, 0, 202, 162, 0, 27, 42, 180, 0, 42, 28, 42, 180, 0, 80, 17, 0, 202, 27, 104, 28, 96]
abbrev dktX3_back_1 : List UInt8 := dkwX3_back_1 ++ dktX3_back_2
def dkwX3_back_0 : List UInt8 := [27, 133, 9, 20, 1, 184, 184, 0, 125, 153, 0, 12, 42, 180, 0, 83, 27, 51, 154, 0, 5, 2, 172, 3]
abbrev dktX3_back_0 : List UInt8 := dkwX3_back_0 ++ dktX3_back_1
theorem dksX3_back_0 : cX3_back.data.toList.drop 0 = dktX3_back_0 := by decide +kernel
theorem dksX3_back_1 : cX3_back.data.toList.drop 24 = dktX3_back_1 := dk_seg dksX3_back_0 24 rfl rfl
theorem dksX3_back_2 : cX3_back.data.toList.drop 48 = dktX3_back_2 := dk_seg dksX3_back_1 24 rfl rfl
theorem dX3_back_0 : decode cX3_back 0 = .ok (.iload_n 1, 1) := dk_27 (dk_at dksX3_back_0 0 rfl rfl)
theorem dX3_back_1 : decode cX3_back 1 = .ok (.i2l, 1) := dk_133 (dk_at dksX3_back_0 1 rfl rfl)
theorem dX3_back_2 : decode cX3_back 2 = .ok (.lconst 0, 1) := dk_9 (dk_at dksX3_back_0 2 rfl rfl)
theorem dX3_back_3 : decode cX3_back 3 = .ok (.ldc2_w 440, 3) := dk_20 1 184 (dk_at dksX3_back_0 3 rfl rfl)
theorem dX3_back_6 : decode cX3_back 6 = .ok (.invokestatic 125, 3) := dk_184 0 125 (dk_at dksX3_back_0 6 rfl rfl)
theorem dX3_back_9 : decode cX3_back 9 = .ok (.ifCond .eq 12, 3) := dk_153 0 12 (dk_at dksX3_back_0 9 rfl rfl)
theorem dX3_back_12 : decode cX3_back 12 = .ok (.aload_n 0, 1) := dk_42 (dk_at dksX3_back_0 12 rfl rfl)
theorem dX3_back_13 : decode cX3_back 13 = .ok (.getfield 83, 3) := dk_180 0 83 (dk_at dksX3_back_0 13 rfl rfl)
theorem dX3_back_16 : decode cX3_back 16 = .ok (.iload_n 1, 1) := dk_27 (dk_at dksX3_back_0 16 rfl rfl)
theorem dX3_back_17 : decode cX3_back 17 = .ok (.baload, 1) := dk_51 (dk_at dksX3_back_0 17 rfl rfl)
theorem dX3_back_18 : decode cX3_back 18 = .ok (.ifCond .ne 5, 3) := dk_154 0 5 (dk_at dksX3_back_0 18 rfl rfl)
theorem dX3_back_21 : decode cX3_back 21 = .ok (.iconst (-1), 1) := dk_2 (dk_at dksX3_back_0 21 rfl rfl)
theorem dX3_back_22 : decode cX3_back 22 = .ok (.ireturn, 1) := dk_172 (dk_at dksX3_back_0 22 rfl rfl)
theorem dX3_back_23 : decode cX3_back 23 = .ok (.iconst 0, 1) := dk_3 (dk_at dksX3_back_0 23 rfl rfl)
theorem dX3_back_24 : decode cX3_back 24 = .ok (.istore_n 2, 1) := dk_61 (dk_at dksX3_back_1 0 rfl rfl)
theorem dX3_back_25 : decode cX3_back 25 = .ok (.iload_n 2, 1) := dk_28 (dk_at dksX3_back_1 1 rfl rfl)
theorem dX3_back_26 : decode cX3_back 26 = .ok (.sipush 202, 3) := dk_17 0 202 (dk_at dksX3_back_1 2 rfl rfl)
theorem dX3_back_29 : decode cX3_back 29 = .ok (.if_icmp .ge 27, 3) := dk_162 0 27 (dk_at dksX3_back_1 5 rfl rfl)
theorem dX3_back_32 : decode cX3_back 32 = .ok (.aload_n 0, 1) := dk_42 (dk_at dksX3_back_1 8 rfl rfl)
theorem dX3_back_33 : decode cX3_back 33 = .ok (.getfield 42, 3) := dk_180 0 42 (dk_at dksX3_back_1 9 rfl rfl)
theorem dX3_back_36 : decode cX3_back 36 = .ok (.iload_n 2, 1) := dk_28 (dk_at dksX3_back_1 12 rfl rfl)
theorem dX3_back_37 : decode cX3_back 37 = .ok (.aload_n 0, 1) := dk_42 (dk_at dksX3_back_1 13 rfl rfl)
theorem dX3_back_38 : decode cX3_back 38 = .ok (.getfield 80, 3) := dk_180 0 80 (dk_at dksX3_back_1 14 rfl rfl)
theorem dX3_back_41 : decode cX3_back 41 = .ok (.sipush 202, 3) := dk_17 0 202 (dk_at dksX3_back_1 17 rfl rfl)
theorem dX3_back_44 : decode cX3_back 44 = .ok (.iload_n 1, 1) := dk_27 (dk_at dksX3_back_1 20 rfl rfl)
theorem dX3_back_45 : decode cX3_back 45 = .ok (.imul, 1) := dk_104 (dk_at dksX3_back_1 21 rfl rfl)
theorem dX3_back_46 : decode cX3_back 46 = .ok (.iload_n 2, 1) := dk_28 (dk_at dksX3_back_1 22 rfl rfl)
theorem dX3_back_47 : decode cX3_back 47 = .ok (.iadd, 1) := dk_96 (dk_at dksX3_back_1 23 rfl rfl)
theorem dX3_back_48 : decode cX3_back 48 = .ok (.iaload, 1) := dk_46 (dk_at dksX3_back_2 0 rfl rfl)
theorem dX3_back_49 : decode cX3_back 49 = .ok (.iastore, 1) := dk_79 (dk_at dksX3_back_2 1 rfl rfl)
theorem dX3_back_50 : decode cX3_back 50 = .ok (.iinc 2 1, 3) := dk_132 2 1 (dk_at dksX3_back_2 2 rfl rfl)
theorem dX3_back_53 : decode cX3_back 53 = .ok (.goto (-28), 3) := dk_167 255 228 (dk_at dksX3_back_2 5 rfl rfl)
theorem dX3_back_56 : decode cX3_back 56 = .ok (.aload_n 0, 1) := dk_42 (dk_at dksX3_back_2 8 rfl rfl)
theorem dX3_back_57 : decode cX3_back 57 = .ok (.getfield 42, 3) := dk_180 0 42 (dk_at dksX3_back_2 9 rfl rfl)
theorem dX3_back_60 : decode cX3_back 60 = .ok (.iconst 4, 1) := dk_7 (dk_at dksX3_back_2 12 rfl rfl)
theorem dX3_back_61 : decode cX3_back 61 = .ok (.iaload, 1) := dk_46 (dk_at dksX3_back_2 13 rfl rfl)
theorem dX3_back_62 : decode cX3_back 62 = .ok (.ireturn, 1) := dk_172 (dk_at dksX3_back_2 14 rfl rfl)
theorem q151 : (Jvm.Cond.initialized "TurningRoadsModel") ∈ lw_all := lw_g (lw_at lw_m1 9 rfl) rfl
theorem q663 : (Jvm.Cond.selects "TurningRoadsModel" ({ cls := "java/lang/Object", name := "getClass", desc := "()Ljava/lang/Class;" } : Jvm.MethodName) ({ cls := "java/lang/Object", name := "getClass", desc := "()Ljava/lang/Class;" } : Jvm.MethodName)) ∈ lw_all := lw_g (lw_at lw_m3 41 rfl) rfl
theorem q1372 : (Jvm.Cond.instantiable "TurningRoadsModel" (43 : Nat)) ∈ lw_all := lw_g (lw_at lw_m6 30 rfl) rfl
theorem q1374 : (Jvm.Cond.instanceMethod ({ cls := "TurningRoadsModel", name := "<init>", desc := "()V" } : Jvm.MethodName)) ∈ lw_all := lw_g (lw_at lw_m6 32 rfl) rfl
theorem q1375 : (Jvm.Cond.code ({ cls := "TurningRoadsModel", name := "<init>", desc := "()V" } : Jvm.MethodName) prog_19_method_1_code (1 : Nat) (Option.none : Option Jvm.ClassFile.FieldType)) ∈ lw_all := lw_g (lw_at lw_m6 33 rfl) rfl
theorem q1376 : (Jvm.Cond.methodLink "TurningRoadsModel" (1 : Nat) ({ cls := "java/lang/Object", name := "<init>", desc := "()V" } : Jvm.MethodName)) ∈ lw_all := lw_g (lw_at lw_m6 34 rfl) rfl
theorem q1377 : (Jvm.Cond.constant "TurningRoadsModel" (51 : Nat) (1048576 : Int32)) ∈ lw_all := lw_g (lw_at lw_m6 35 rfl) rfl
theorem q1378 : (Jvm.Cond.fieldLink "TurningRoadsModel" (7 : Nat) "TurningRoadsModel" "tape" "[B") ∈ lw_all := lw_g (lw_at lw_m6 36 rfl) rfl
theorem q1379 : (Jvm.Cond.fieldLink "TurningRoadsModel" (86 : Nat) "TurningRoadsModel" "taped" "I") ∈ lw_all := lw_g (lw_at lw_m6 37 rfl) rfl
theorem q1380 : (Jvm.Cond.fieldLink "TurningRoadsModel" (250 : Nat) "TurningRoadsModel" "rules" "I") ∈ lw_all := lw_g (lw_at lw_m6 38 rfl) rfl
theorem q1381 : (Jvm.Cond.fieldLink "TurningRoadsModel" (13 : Nat) "TurningRoadsModel" "sign" "[I") ∈ lw_all := lw_g (lw_at lw_m6 39 rfl) rfl
theorem q1382 : (Jvm.Cond.fieldLink "TurningRoadsModel" (17 : Nat) "TurningRoadsModel" "length" "[I") ∈ lw_all := lw_g (lw_at lw_m6 40 rfl) rfl
theorem q1383 : (Jvm.Cond.fieldLink "TurningRoadsModel" (20 : Nat) "TurningRoadsModel" "clause" "[I") ∈ lw_all := lw_g (lw_at lw_m6 41 rfl) rfl
theorem q1384 : (Jvm.Cond.fieldLink "TurningRoadsModel" (23 : Nat) "TurningRoadsModel" "clauses" "[I") ∈ lw_all := lw_g (lw_at lw_m6 42 rfl) rfl
theorem q1385 : (Jvm.Cond.fieldLink "TurningRoadsModel" (225 : Nat) "TurningRoadsModel" "waysRead" "I") ∈ lw_all := lw_g (lw_at lw_m6 43 rfl) rfl
theorem q1386 : (Jvm.Cond.fieldLink "TurningRoadsModel" (228 : Nat) "TurningRoadsModel" "goersRead" "I") ∈ lw_all := lw_g (lw_at lw_m6 44 rfl) rfl
theorem q1387 : (Jvm.Cond.fieldLink "TurningRoadsModel" (26 : Nat) "TurningRoadsModel" "wayRead" "[I") ∈ lw_all := lw_g (lw_at lw_m6 45 rfl) rfl
theorem q1388 : (Jvm.Cond.fieldLink "TurningRoadsModel" (29 : Nat) "TurningRoadsModel" "goerRead" "[I") ∈ lw_all := lw_g (lw_at lw_m6 46 rfl) rfl
theorem q1389 : (Jvm.Cond.fieldLink "TurningRoadsModel" (97 : Nat) "TurningRoadsModel" "next" "I") ∈ lw_all := lw_g (lw_at lw_m6 47 rfl) rfl
theorem q1390 : (Jvm.Cond.fieldLink "TurningRoadsModel" (94 : Nat) "TurningRoadsModel" "wrong" "I") ∈ lw_all := lw_g (lw_at lw_m6 48 rfl) rfl
theorem q1391 : (Jvm.Cond.fieldLink "TurningRoadsModel" (122 : Nat) "TurningRoadsModel" "number" "I") ∈ lw_all := lw_g (lw_at lw_m6 49 rfl) rfl
theorem q1392 : (Jvm.Cond.fieldLink "TurningRoadsModel" (153 : Nat) "TurningRoadsModel" "text" "I") ∈ lw_all := lw_g (lw_at lw_m6 50 rfl) rfl
theorem q1393 : (Jvm.Cond.fieldLink "TurningRoadsModel" (156 : Nat) "TurningRoadsModel" "made" "I") ∈ lw_all := lw_g (lw_at lw_m6 51 rfl) rfl
theorem q1394 : (Jvm.Cond.fieldLink "TurningRoadsModel" (159 : Nat) "TurningRoadsModel" "deep" "I") ∈ lw_all := lw_g (lw_at lw_m6 52 rfl) rfl
theorem q1395 : (Jvm.Cond.fieldLink "TurningRoadsModel" (235 : Nat) "TurningRoadsModel" "lines" "I") ∈ lw_all := lw_g (lw_at lw_m6 53 rfl) rfl
theorem q1396 : (Jvm.Cond.fieldLink "TurningRoadsModel" (32 : Nat) "TurningRoadsModel" "open" "[I") ∈ lw_all := lw_g (lw_at lw_m6 54 rfl) rfl
theorem q1397 : (Jvm.Cond.fieldLink "TurningRoadsModel" (162 : Nat) "TurningRoadsModel" "opened" "I") ∈ lw_all := lw_g (lw_at lw_m6 55 rfl) rfl
theorem q1398 : (Jvm.Cond.fieldLink "TurningRoadsModel" (35 : Nat) "TurningRoadsModel" "stack" "[J") ∈ lw_all := lw_g (lw_at lw_m6 56 rfl) rfl
theorem q1399 : (Jvm.Cond.fieldLink "TurningRoadsModel" (256 : Nat) "TurningRoadsModel" "top" "I") ∈ lw_all := lw_g (lw_at lw_m6 57 rfl) rfl
theorem q1400 : (Jvm.Cond.fieldLink "TurningRoadsModel" (39 : Nat) "TurningRoadsModel" "word" "[J") ∈ lw_all := lw_g (lw_at lw_m6 58 rfl) rfl
theorem q1401 : (Jvm.Cond.fieldLink "TurningRoadsModel" (42 : Nat) "TurningRoadsModel" "said" "[I") ∈ lw_all := lw_g (lw_at lw_m6 59 rfl) rfl
theorem q1402 : (Jvm.Cond.fieldLink "TurningRoadsModel" (45 : Nat) "TurningRoadsModel" "kept" "[I") ∈ lw_all := lw_g (lw_at lw_m6 60 rfl) rfl
theorem q1403 : (Jvm.Cond.fieldLink "TurningRoadsModel" (48 : Nat) "TurningRoadsModel" "far" "[I") ∈ lw_all := lw_g (lw_at lw_m6 61 rfl) rfl
theorem q1404 : (Jvm.Cond.fieldLink "TurningRoadsModel" (52 : Nat) "TurningRoadsModel" "state" "[I") ∈ lw_all := lw_g (lw_at lw_m6 62 rfl) rfl
theorem q1405 : (Jvm.Cond.fieldLink "TurningRoadsModel" (55 : Nat) "TurningRoadsModel" "from" "[I") ∈ lw_all := lw_g (lw_at lw_m6 63 rfl) rfl
theorem q1406 : (Jvm.Cond.fieldLink "TurningRoadsModel" (58 : Nat) "TurningRoadsModel" "metAt" "[I") ∈ lw_all := lw_g (lw_at lw_m6 64 rfl) rfl
theorem q1407 : (Jvm.Cond.fieldLink "TurningRoadsModel" (332 : Nat) "TurningRoadsModel" "states" "I") ∈ lw_all := lw_g (lw_at lw_m6 65 rfl) rfl
theorem q1408 : (Jvm.Cond.fieldLink "TurningRoadsModel" (61 : Nat) "TurningRoadsModel" "mover" "[I") ∈ lw_all := lw_g (lw_at lw_m6 66 rfl) rfl
theorem q1409 : (Jvm.Cond.fieldLink "TurningRoadsModel" (335 : Nat) "TurningRoadsModel" "movers" "I") ∈ lw_all := lw_g (lw_at lw_m6 67 rfl) rfl
theorem q1410 : (Jvm.Cond.fieldLink "TurningRoadsModel" (64 : Nat) "TurningRoadsModel" "isBarred" "[Z") ∈ lw_all := lw_g (lw_at lw_m6 68 rfl) rfl
theorem q1411 : (Jvm.Cond.fieldLink "TurningRoadsModel" (370 : Nat) "TurningRoadsModel" "longPlace" "I") ∈ lw_all := lw_g (lw_at lw_m6 69 rfl) rfl
theorem q1412 : (Jvm.Cond.fieldLink "TurningRoadsModel" (373 : Nat) "TurningRoadsModel" "longDirections" "I") ∈ lw_all := lw_g (lw_at lw_m6 70 rfl) rfl
theorem q1413 : (Jvm.Cond.fieldLink "TurningRoadsModel" (376 : Nat) "TurningRoadsModel" "longGoings" "I") ∈ lw_all := lw_g (lw_at lw_m6 71 rfl) rfl
theorem q1414 : (Jvm.Cond.fieldLink "TurningRoadsModel" (68 : Nat) "TurningRoadsModel" "longLast" "[I") ∈ lw_all := lw_g (lw_at lw_m6 72 rfl) rfl
theorem q1415 : (Jvm.Cond.fieldLink "TurningRoadsModel" (71 : Nat) "TurningRoadsModel" "seenPlace" "[I") ∈ lw_all := lw_g (lw_at lw_m6 73 rfl) rfl
theorem q1416 : (Jvm.Cond.fieldLink "TurningRoadsModel" (74 : Nat) "TurningRoadsModel" "seenOrder" "[J") ∈ lw_all := lw_g (lw_at lw_m6 74 rfl) rfl
theorem q1417 : (Jvm.Cond.fieldLink "TurningRoadsModel" (77 : Nat) "TurningRoadsModel" "rowPlace" "[I") ∈ lw_all := lw_g (lw_at lw_m6 75 rfl) rfl
theorem q1418 : (Jvm.Cond.fieldLink "TurningRoadsModel" (400 : Nat) "TurningRoadsModel" "rowDirections" "I") ∈ lw_all := lw_g (lw_at lw_m6 76 rfl) rfl
theorem q1419 : (Jvm.Cond.fieldLink "TurningRoadsModel" (80 : Nat) "TurningRoadsModel" "images" "[I") ∈ lw_all := lw_g (lw_at lw_m6 77 rfl) rfl
theorem q1420 : (Jvm.Cond.fieldLink "TurningRoadsModel" (83 : Nat) "TurningRoadsModel" "isMade" "[Z") ∈ lw_all := lw_g (lw_at lw_m6 78 rfl) rfl
theorem q1421 : (Jvm.Cond.laysFinal "TurningRoadsModel" "TurningRoadsModel" "tape" "[B") ∈ lw_all := lw_g (lw_at lw_m6 79 rfl) rfl
theorem q1422 : (Jvm.Cond.soleField "TurningRoadsModel" "tape") ∈ lw_all := lw_g (lw_at lw_m6 80 rfl) rfl
theorem q1423 : (Jvm.Cond.lays "TurningRoadsModel" "TurningRoadsModel" "taped" "I") ∈ lw_all := lw_g (lw_at lw_m6 81 rfl) rfl
theorem q1424 : (Jvm.Cond.soleField "TurningRoadsModel" "taped") ∈ lw_all := lw_g (lw_at lw_m6 82 rfl) rfl
theorem q1425 : (Jvm.Cond.lays "TurningRoadsModel" "TurningRoadsModel" "rules" "I") ∈ lw_all := lw_g (lw_at lw_m6 83 rfl) rfl
theorem q1426 : (Jvm.Cond.soleField "TurningRoadsModel" "rules") ∈ lw_all := lw_g (lw_at lw_m6 84 rfl) rfl
theorem q1427 : (Jvm.Cond.laysFinal "TurningRoadsModel" "TurningRoadsModel" "sign" "[I") ∈ lw_all := lw_g (lw_at lw_m6 85 rfl) rfl
theorem q1428 : (Jvm.Cond.soleField "TurningRoadsModel" "sign") ∈ lw_all := lw_g (lw_at lw_m6 86 rfl) rfl
theorem q1429 : (Jvm.Cond.laysFinal "TurningRoadsModel" "TurningRoadsModel" "length" "[I") ∈ lw_all := lw_g (lw_at lw_m6 87 rfl) rfl
theorem q1430 : (Jvm.Cond.soleField "TurningRoadsModel" "length") ∈ lw_all := lw_g (lw_at lw_m6 88 rfl) rfl
theorem q1431 : (Jvm.Cond.laysFinal "TurningRoadsModel" "TurningRoadsModel" "clause" "[I") ∈ lw_all := lw_g (lw_at lw_m6 89 rfl) rfl
theorem q1432 : (Jvm.Cond.soleField "TurningRoadsModel" "clause") ∈ lw_all := lw_g (lw_at lw_m6 90 rfl) rfl
theorem q1433 : (Jvm.Cond.laysFinal "TurningRoadsModel" "TurningRoadsModel" "clauses" "[I") ∈ lw_all := lw_g (lw_at lw_m6 91 rfl) rfl
theorem q1434 : (Jvm.Cond.soleField "TurningRoadsModel" "clauses") ∈ lw_all := lw_g (lw_at lw_m6 92 rfl) rfl
theorem q1435 : (Jvm.Cond.lays "TurningRoadsModel" "TurningRoadsModel" "waysRead" "I") ∈ lw_all := lw_g (lw_at lw_m6 93 rfl) rfl
theorem q1436 : (Jvm.Cond.soleField "TurningRoadsModel" "waysRead") ∈ lw_all := lw_g (lw_at lw_m6 94 rfl) rfl
theorem q1437 : (Jvm.Cond.lays "TurningRoadsModel" "TurningRoadsModel" "goersRead" "I") ∈ lw_all := lw_g (lw_at lw_m6 95 rfl) rfl
theorem q1438 : (Jvm.Cond.soleField "TurningRoadsModel" "goersRead") ∈ lw_all := lw_g (lw_at lw_m6 96 rfl) rfl
theorem q1439 : (Jvm.Cond.laysFinal "TurningRoadsModel" "TurningRoadsModel" "wayRead" "[I") ∈ lw_all := lw_g (lw_at lw_m6 97 rfl) rfl
theorem q1440 : (Jvm.Cond.soleField "TurningRoadsModel" "wayRead") ∈ lw_all := lw_g (lw_at lw_m6 98 rfl) rfl
theorem q1441 : (Jvm.Cond.laysFinal "TurningRoadsModel" "TurningRoadsModel" "goerRead" "[I") ∈ lw_all := lw_g (lw_at lw_m6 99 rfl) rfl
theorem q1442 : (Jvm.Cond.soleField "TurningRoadsModel" "goerRead") ∈ lw_all := lw_g (lw_at lw_m6 100 rfl) rfl
theorem q1443 : (Jvm.Cond.lays "TurningRoadsModel" "TurningRoadsModel" "next" "I") ∈ lw_all := lw_g (lw_at lw_m6 101 rfl) rfl
theorem q1444 : (Jvm.Cond.soleField "TurningRoadsModel" "next") ∈ lw_all := lw_g (lw_at lw_m6 102 rfl) rfl
theorem q1445 : (Jvm.Cond.lays "TurningRoadsModel" "TurningRoadsModel" "wrong" "I") ∈ lw_all := lw_g (lw_at lw_m6 103 rfl) rfl
theorem q1446 : (Jvm.Cond.soleField "TurningRoadsModel" "wrong") ∈ lw_all := lw_g (lw_at lw_m6 104 rfl) rfl
theorem q1447 : (Jvm.Cond.lays "TurningRoadsModel" "TurningRoadsModel" "number" "I") ∈ lw_all := lw_g (lw_at lw_m6 105 rfl) rfl
theorem q1448 : (Jvm.Cond.soleField "TurningRoadsModel" "number") ∈ lw_all := lw_g (lw_at lw_m6 106 rfl) rfl
theorem q1449 : (Jvm.Cond.lays "TurningRoadsModel" "TurningRoadsModel" "text" "I") ∈ lw_all := lw_g (lw_at lw_m6 107 rfl) rfl
theorem q1450 : (Jvm.Cond.soleField "TurningRoadsModel" "text") ∈ lw_all := lw_g (lw_at lw_m6 108 rfl) rfl
theorem q1451 : (Jvm.Cond.lays "TurningRoadsModel" "TurningRoadsModel" "made" "I") ∈ lw_all := lw_g (lw_at lw_m6 109 rfl) rfl
theorem q1452 : (Jvm.Cond.soleField "TurningRoadsModel" "made") ∈ lw_all := lw_g (lw_at lw_m6 110 rfl) rfl
theorem q1453 : (Jvm.Cond.lays "TurningRoadsModel" "TurningRoadsModel" "deep" "I") ∈ lw_all := lw_g (lw_at lw_m6 111 rfl) rfl
theorem q1454 : (Jvm.Cond.soleField "TurningRoadsModel" "deep") ∈ lw_all := lw_g (lw_at lw_m6 112 rfl) rfl
theorem q1455 : (Jvm.Cond.lays "TurningRoadsModel" "TurningRoadsModel" "lines" "I") ∈ lw_all := lw_g (lw_at lw_m6 113 rfl) rfl
theorem q1456 : (Jvm.Cond.soleField "TurningRoadsModel" "lines") ∈ lw_all := lw_g (lw_at lw_m6 114 rfl) rfl
theorem q1457 : (Jvm.Cond.laysFinal "TurningRoadsModel" "TurningRoadsModel" "open" "[I") ∈ lw_all := lw_g (lw_at lw_m6 115 rfl) rfl
theorem q1458 : (Jvm.Cond.soleField "TurningRoadsModel" "open") ∈ lw_all := lw_g (lw_at lw_m6 116 rfl) rfl
theorem q1459 : (Jvm.Cond.lays "TurningRoadsModel" "TurningRoadsModel" "opened" "I") ∈ lw_all := lw_g (lw_at lw_m6 117 rfl) rfl
theorem q1460 : (Jvm.Cond.soleField "TurningRoadsModel" "opened") ∈ lw_all := lw_g (lw_at lw_m6 118 rfl) rfl
theorem q1461 : (Jvm.Cond.laysFinal "TurningRoadsModel" "TurningRoadsModel" "stack" "[J") ∈ lw_all := lw_g (lw_at lw_m6 119 rfl) rfl
theorem q1462 : (Jvm.Cond.soleField "TurningRoadsModel" "stack") ∈ lw_all := lw_g (lw_at lw_m6 120 rfl) rfl
theorem q1463 : (Jvm.Cond.lays "TurningRoadsModel" "TurningRoadsModel" "top" "I") ∈ lw_all := lw_g (lw_at lw_m6 121 rfl) rfl
theorem q1464 : (Jvm.Cond.soleField "TurningRoadsModel" "top") ∈ lw_all := lw_g (lw_at lw_m6 122 rfl) rfl
theorem q1465 : (Jvm.Cond.laysFinal "TurningRoadsModel" "TurningRoadsModel" "word" "[J") ∈ lw_all := lw_g (lw_at lw_m6 123 rfl) rfl
theorem q1466 : (Jvm.Cond.soleField "TurningRoadsModel" "word") ∈ lw_all := lw_g (lw_at lw_m6 124 rfl) rfl
theorem q1467 : (Jvm.Cond.laysFinal "TurningRoadsModel" "TurningRoadsModel" "said" "[I") ∈ lw_all := lw_g (lw_at lw_m6 125 rfl) rfl
theorem q1468 : (Jvm.Cond.soleField "TurningRoadsModel" "said") ∈ lw_all := lw_g (lw_at lw_m6 126 rfl) rfl
theorem q1469 : (Jvm.Cond.laysFinal "TurningRoadsModel" "TurningRoadsModel" "kept" "[I") ∈ lw_all := lw_g (lw_at lw_m6 127 rfl) rfl
theorem q1470 : (Jvm.Cond.soleField "TurningRoadsModel" "kept") ∈ lw_all := lw_g (lw_at lw_m6 128 rfl) rfl
theorem q1471 : (Jvm.Cond.laysFinal "TurningRoadsModel" "TurningRoadsModel" "far" "[I") ∈ lw_all := lw_g (lw_at lw_m6 129 rfl) rfl
theorem q1472 : (Jvm.Cond.soleField "TurningRoadsModel" "far") ∈ lw_all := lw_g (lw_at lw_m6 130 rfl) rfl
theorem q1473 : (Jvm.Cond.laysFinal "TurningRoadsModel" "TurningRoadsModel" "state" "[I") ∈ lw_all := lw_g (lw_at lw_m6 131 rfl) rfl
theorem q1474 : (Jvm.Cond.soleField "TurningRoadsModel" "state") ∈ lw_all := lw_g (lw_at lw_m6 132 rfl) rfl
theorem q1475 : (Jvm.Cond.laysFinal "TurningRoadsModel" "TurningRoadsModel" "from" "[I") ∈ lw_all := lw_g (lw_at lw_m6 133 rfl) rfl
theorem q1476 : (Jvm.Cond.soleField "TurningRoadsModel" "from") ∈ lw_all := lw_g (lw_at lw_m6 134 rfl) rfl
theorem q1477 : (Jvm.Cond.laysFinal "TurningRoadsModel" "TurningRoadsModel" "metAt" "[I") ∈ lw_all := lw_g (lw_at lw_m6 135 rfl) rfl
theorem q1478 : (Jvm.Cond.soleField "TurningRoadsModel" "metAt") ∈ lw_all := lw_g (lw_at lw_m6 136 rfl) rfl
theorem q1479 : (Jvm.Cond.lays "TurningRoadsModel" "TurningRoadsModel" "states" "I") ∈ lw_all := lw_g (lw_at lw_m6 137 rfl) rfl
theorem q1480 : (Jvm.Cond.soleField "TurningRoadsModel" "states") ∈ lw_all := lw_g (lw_at lw_m6 138 rfl) rfl
theorem q1481 : (Jvm.Cond.laysFinal "TurningRoadsModel" "TurningRoadsModel" "mover" "[I") ∈ lw_all := lw_g (lw_at lw_m6 139 rfl) rfl
theorem q1482 : (Jvm.Cond.soleField "TurningRoadsModel" "mover") ∈ lw_all := lw_g (lw_at lw_m6 140 rfl) rfl
theorem q1483 : (Jvm.Cond.lays "TurningRoadsModel" "TurningRoadsModel" "movers" "I") ∈ lw_all := lw_g (lw_at lw_m6 141 rfl) rfl
theorem q1484 : (Jvm.Cond.soleField "TurningRoadsModel" "movers") ∈ lw_all := lw_g (lw_at lw_m6 142 rfl) rfl
theorem q1485 : (Jvm.Cond.laysFinal "TurningRoadsModel" "TurningRoadsModel" "isBarred" "[Z") ∈ lw_all := lw_g (lw_at lw_m6 143 rfl) rfl
theorem q1486 : (Jvm.Cond.soleField "TurningRoadsModel" "isBarred") ∈ lw_all := lw_g (lw_at lw_m6 144 rfl) rfl
theorem q1487 : (Jvm.Cond.lays "TurningRoadsModel" "TurningRoadsModel" "longPlace" "I") ∈ lw_all := lw_g (lw_at lw_m6 145 rfl) rfl
theorem q1488 : (Jvm.Cond.soleField "TurningRoadsModel" "longPlace") ∈ lw_all := lw_g (lw_at lw_m6 146 rfl) rfl
theorem q1489 : (Jvm.Cond.lays "TurningRoadsModel" "TurningRoadsModel" "longDirections" "I") ∈ lw_all := lw_g (lw_at lw_m6 147 rfl) rfl
theorem q1490 : (Jvm.Cond.soleField "TurningRoadsModel" "longDirections") ∈ lw_all := lw_g (lw_at lw_m6 148 rfl) rfl
theorem q1491 : (Jvm.Cond.lays "TurningRoadsModel" "TurningRoadsModel" "longGoings" "I") ∈ lw_all := lw_g (lw_at lw_m6 149 rfl) rfl
theorem q1492 : (Jvm.Cond.soleField "TurningRoadsModel" "longGoings") ∈ lw_all := lw_g (lw_at lw_m6 150 rfl) rfl
theorem q1493 : (Jvm.Cond.laysFinal "TurningRoadsModel" "TurningRoadsModel" "longLast" "[I") ∈ lw_all := lw_g (lw_at lw_m6 151 rfl) rfl
theorem q1494 : (Jvm.Cond.soleField "TurningRoadsModel" "longLast") ∈ lw_all := lw_g (lw_at lw_m6 152 rfl) rfl
theorem q1495 : (Jvm.Cond.laysFinal "TurningRoadsModel" "TurningRoadsModel" "seenPlace" "[I") ∈ lw_all := lw_g (lw_at lw_m6 153 rfl) rfl
theorem q1496 : (Jvm.Cond.soleField "TurningRoadsModel" "seenPlace") ∈ lw_all := lw_g (lw_at lw_m6 154 rfl) rfl
theorem q1497 : (Jvm.Cond.laysFinal "TurningRoadsModel" "TurningRoadsModel" "seenOrder" "[J") ∈ lw_all := lw_g (lw_at lw_m6 155 rfl) rfl
theorem q1498 : (Jvm.Cond.soleField "TurningRoadsModel" "seenOrder") ∈ lw_all := lw_g (lw_at lw_m6 156 rfl) rfl
theorem q1499 : (Jvm.Cond.laysFinal "TurningRoadsModel" "TurningRoadsModel" "rowPlace" "[I") ∈ lw_all := lw_g (lw_at lw_m6 157 rfl) rfl
theorem q1500 : (Jvm.Cond.soleField "TurningRoadsModel" "rowPlace") ∈ lw_all := lw_g (lw_at lw_m6 158 rfl) rfl
theorem q1501 : (Jvm.Cond.lays "TurningRoadsModel" "TurningRoadsModel" "rowDirections" "I") ∈ lw_all := lw_g (lw_at lw_m6 159 rfl) rfl
theorem q1502 : (Jvm.Cond.soleField "TurningRoadsModel" "rowDirections") ∈ lw_all := lw_g (lw_at lw_m6 160 rfl) rfl
theorem q1503 : (Jvm.Cond.laysFinal "TurningRoadsModel" "TurningRoadsModel" "images" "[I") ∈ lw_all := lw_g (lw_at lw_m6 161 rfl) rfl
theorem q1504 : (Jvm.Cond.soleField "TurningRoadsModel" "images") ∈ lw_all := lw_g (lw_at lw_m6 162 rfl) rfl
theorem q1505 : (Jvm.Cond.laysFinal "TurningRoadsModel" "TurningRoadsModel" "isMade" "[Z") ∈ lw_all := lw_g (lw_at lw_m6 163 rfl) rfl
theorem q1506 : (Jvm.Cond.soleField "TurningRoadsModel" "isMade") ∈ lw_all := lw_g (lw_at lw_m6 164 rfl) rfl
theorem q1507 : (Jvm.Cond.superclass "TurningRoadsModel" "java/lang/Object") ∈ lw_all := lw_g (lw_at lw_m6 165 rfl) rfl
theorem q1510 : (Jvm.Cond.instanceMethod ({ cls := "TurningRoadsModel", name := "feed", desc := "(IIIII)I" } : Jvm.MethodName)) ∈ lw_all := lw_g (lw_at lw_m6 168 rfl) rfl
theorem q1511 : (Jvm.Cond.selects "TurningRoadsModel" ({ cls := "TurningRoadsModel", name := "feed", desc := "(IIIII)I" } : Jvm.MethodName) ({ cls := "TurningRoadsModel", name := "feed", desc := "(IIIII)I" } : Jvm.MethodName)) ∈ lw_all := lw_g (lw_at lw_m6 169 rfl) rfl
theorem q1512 : (Jvm.Cond.code ({ cls := "TurningRoadsModel", name := "feed", desc := "(IIIII)I" } : Jvm.MethodName) prog_19_method_4_code (6 : Nat) (Option.some Jvm.ClassFile.FieldType.int)) ∈ lw_all := lw_g (lw_at lw_m6 170 rfl) rfl
theorem q1513 : (Jvm.Cond.methodLink "TurningRoadsModel" (90 : Nat) ({ cls := "TurningRoadsModel", name := "four", desc := "(I)V" } : Jvm.MethodName)) ∈ lw_all := lw_g (lw_at lw_m6 171 rfl) rfl
theorem q1514 : (Jvm.Cond.privateMethod ({ cls := "TurningRoadsModel", name := "four", desc := "(I)V" } : Jvm.MethodName)) ∈ lw_tbl := lw_at lw_m6 172 rfl
theorem q1515 : (Jvm.Cond.instanceMethod ({ cls := "TurningRoadsModel", name := "four", desc := "(I)V" } : Jvm.MethodName)) ∈ lw_all := lw_g (lw_at lw_m6 173 rfl) rfl
theorem q1516 : (Jvm.Cond.code ({ cls := "TurningRoadsModel", name := "four", desc := "(I)V" } : Jvm.MethodName) prog_19_method_3_code (3 : Nat) (Option.none : Option Jvm.ClassFile.FieldType)) ∈ lw_all := lw_g (lw_at lw_m6 174 rfl) rfl
theorem q1518 : (Jvm.Cond.instanceMethod ({ cls := "TurningRoadsModel", name := "end", desc := "(I)I" } : Jvm.MethodName)) ∈ lw_all := lw_g (lw_at lw_m6 176 rfl) rfl
theorem q1519 : (Jvm.Cond.selects "TurningRoadsModel" ({ cls := "TurningRoadsModel", name := "end", desc := "(I)I" } : Jvm.MethodName) ({ cls := "TurningRoadsModel", name := "end", desc := "(I)I" } : Jvm.MethodName)) ∈ lw_all := lw_g (lw_at lw_m6 177 rfl) rfl
theorem q1520 : (Jvm.Cond.code ({ cls := "TurningRoadsModel", name := "end", desc := "(I)I" } : Jvm.MethodName) prog_19_method_5_code (2 : Nat) (Option.some Jvm.ClassFile.FieldType.int)) ∈ lw_all := lw_g (lw_at lw_m6 178 rfl) rfl
theorem q1522 : (Jvm.Cond.instanceMethod ({ cls := "TurningRoadsModel", name := "rule", desc := "()I" } : Jvm.MethodName)) ∈ lw_all := lw_g (lw_at lw_m6 180 rfl) rfl
theorem q1523 : (Jvm.Cond.selects "TurningRoadsModel" ({ cls := "TurningRoadsModel", name := "rule", desc := "()I" } : Jvm.MethodName) ({ cls := "TurningRoadsModel", name := "rule", desc := "()I" } : Jvm.MethodName)) ∈ lw_all := lw_g (lw_at lw_m6 181 rfl) rfl
theorem q1524 : (Jvm.Cond.code ({ cls := "TurningRoadsModel", name := "rule", desc := "()I" } : Jvm.MethodName) prog_19_method_33_code (1 : Nat) (Option.some Jvm.ClassFile.FieldType.int)) ∈ lw_all := lw_g (lw_at lw_m6 182 rfl) rfl
theorem q1525 : (Jvm.Cond.methodLink "TurningRoadsModel" (253 : Nat) ({ cls := "TurningRoadsModel", name := "readsAll", desc := "()Z" } : Jvm.MethodName)) ∈ lw_all := lw_g (lw_at lw_m6 183 rfl) rfl
theorem q1526 : (Jvm.Cond.privateMethod ({ cls := "TurningRoadsModel", name := "readsAll", desc := "()Z" } : Jvm.MethodName)) ∈ lw_tbl := lw_at lw_m6 184 rfl
theorem q1527 : (Jvm.Cond.instanceMethod ({ cls := "TurningRoadsModel", name := "readsAll", desc := "()Z" } : Jvm.MethodName)) ∈ lw_all := lw_g (lw_at lw_m6 185 rfl) rfl
theorem q1528 : (Jvm.Cond.code ({ cls := "TurningRoadsModel", name := "readsAll", desc := "()Z" } : Jvm.MethodName) prog_19_method_32_code (2 : Nat) (Option.some Jvm.ClassFile.FieldType.boolean)) ∈ lw_all := lw_g (lw_at lw_m6 186 rfl) rfl
theorem q1529 : (Jvm.Cond.methodLink "TurningRoadsModel" (247 : Nat) ({ cls := "TurningRoadsModel", name := "clauseHere", desc := "()Z" } : Jvm.MethodName)) ∈ lw_all := lw_g (lw_at lw_m6 187 rfl) rfl
theorem q1530 : (Jvm.Cond.privateMethod ({ cls := "TurningRoadsModel", name := "clauseHere", desc := "()Z" } : Jvm.MethodName)) ∈ lw_tbl := lw_at lw_m6 188 rfl
theorem q1531 : (Jvm.Cond.instanceMethod ({ cls := "TurningRoadsModel", name := "clauseHere", desc := "()Z" } : Jvm.MethodName)) ∈ lw_all := lw_g (lw_at lw_m6 189 rfl) rfl
theorem q1532 : (Jvm.Cond.code ({ cls := "TurningRoadsModel", name := "clauseHere", desc := "()Z" } : Jvm.MethodName) prog_19_method_31_code (4 : Nat) (Option.some Jvm.ClassFile.FieldType.boolean)) ∈ lw_all := lw_g (lw_at lw_m6 190 rfl) rfl
theorem q1533 : (Jvm.Cond.methodLink "TurningRoadsModel" (100 : Nat) ({ cls := "TurningRoadsModel", name := "see", desc := "()I" } : Jvm.MethodName)) ∈ lw_all := lw_g (lw_at lw_m6 191 rfl) rfl
theorem q1534 : (Jvm.Cond.privateMethod ({ cls := "TurningRoadsModel", name := "see", desc := "()I" } : Jvm.MethodName)) ∈ lw_tbl := lw_at lw_m6 192 rfl
theorem q1535 : (Jvm.Cond.instanceMethod ({ cls := "TurningRoadsModel", name := "see", desc := "()I" } : Jvm.MethodName)) ∈ lw_all := lw_g (lw_at lw_m6 193 rfl) rfl
theorem q1536 : (Jvm.Cond.code ({ cls := "TurningRoadsModel", name := "see", desc := "()I" } : Jvm.MethodName) prog_19_method_7_code (1 : Nat) (Option.some Jvm.ClassFile.FieldType.int)) ∈ lw_all := lw_g (lw_at lw_m6 194 rfl) rfl
theorem q1537 : (Jvm.Cond.constantLong "TurningRoadsModel" (129 : Nat) (7823737 : Int64)) ∈ lw_all := lw_g (lw_at lw_m6 195 rfl) rfl
theorem q1538 : (Jvm.Cond.methodLink "TurningRoadsModel" (108 : Nat) ({ cls := "TurningRoadsModel", name := "isWord", desc := "(J)Z" } : Jvm.MethodName)) ∈ lw_all := lw_g (lw_at lw_m6 196 rfl) rfl
theorem q1539 : (Jvm.Cond.privateMethod ({ cls := "TurningRoadsModel", name := "isWord", desc := "(J)Z" } : Jvm.MethodName)) ∈ lw_tbl := lw_at lw_m6 197 rfl
theorem q1540 : (Jvm.Cond.instanceMethod ({ cls := "TurningRoadsModel", name := "isWord", desc := "(J)Z" } : Jvm.MethodName)) ∈ lw_all := lw_g (lw_at lw_m6 198 rfl) rfl
theorem q1541 : (Jvm.Cond.code ({ cls := "TurningRoadsModel", name := "isWord", desc := "(J)Z" } : Jvm.MethodName) prog_19_method_10_code (6 : Nat) (Option.some Jvm.ClassFile.FieldType.boolean)) ∈ lw_all := lw_g (lw_at lw_m6 199 rfl) rfl
theorem q1542 : (Jvm.Cond.methodLink "TurningRoadsModel" (104 : Nat) ({ cls := "TurningRoadsModel", name := "isLetter", desc := "(I)Z" } : Jvm.MethodName)) ∈ lw_all := lw_g (lw_at lw_m6 200 rfl) rfl
theorem q1543 : (Jvm.Cond.privateMethod ({ cls := "TurningRoadsModel", name := "isLetter", desc := "(I)Z" } : Jvm.MethodName)) ∈ lw_tbl := lw_at lw_m6 201 rfl
theorem q1544 : (Jvm.Cond.instanceMethod ({ cls := "TurningRoadsModel", name := "isLetter", desc := "(I)Z" } : Jvm.MethodName)) ∈ lw_all := lw_g (lw_at lw_m6 202 rfl) rfl
theorem q1545 : (Jvm.Cond.code ({ cls := "TurningRoadsModel", name := "isLetter", desc := "(I)Z" } : Jvm.MethodName) prog_19_method_9_code (2 : Nat) (Option.some Jvm.ClassFile.FieldType.boolean)) ∈ lw_all := lw_g (lw_at lw_m6 203 rfl) rfl
theorem q1546 : (Jvm.Cond.constantLong "TurningRoadsModel" (145 : Nat) (1735353714 : Int64)) ∈ lw_all := lw_g (lw_at lw_m6 204 rfl) rfl
theorem q1547 : (Jvm.Cond.constantLong "TurningRoadsModel" (231 : Nat) (1952541541 : Int64)) ∈ lw_all := lw_g (lw_at lw_m6 205 rfl) rfl
theorem q1548 : (Jvm.Cond.constantLong "TurningRoadsModel" (233 : Nat) (2002872692 : Int64)) ∈ lw_all := lw_g (lw_at lw_m6 206 rfl) rfl
theorem q1549 : (Jvm.Cond.methodLink "TurningRoadsModel" (118 : Nat) ({ cls := "TurningRoadsModel", name := "fails", desc := "(II)Z" } : Jvm.MethodName)) ∈ lw_all := lw_g (lw_at lw_m6 207 rfl) rfl
theorem q1550 : (Jvm.Cond.privateMethod ({ cls := "TurningRoadsModel", name := "fails", desc := "(II)Z" } : Jvm.MethodName)) ∈ lw_tbl := lw_at lw_m6 208 rfl
theorem q1551 : (Jvm.Cond.instanceMethod ({ cls := "TurningRoadsModel", name := "fails", desc := "(II)Z" } : Jvm.MethodName)) ∈ lw_all := lw_g (lw_at lw_m6 209 rfl) rfl
theorem q1552 : (Jvm.Cond.code ({ cls := "TurningRoadsModel", name := "fails", desc := "(II)Z" } : Jvm.MethodName) prog_19_method_6_code (3 : Nat) (Option.some Jvm.ClassFile.FieldType.boolean)) ∈ lw_all := lw_g (lw_at lw_m6 210 rfl) rfl
theorem q1553 : (Jvm.Cond.methodLink "TurningRoadsModel" (238 : Nat) ({ cls := "TurningRoadsModel", name := "isWayHere", desc := "(I)Z" } : Jvm.MethodName)) ∈ lw_all := lw_g (lw_at lw_m6 211 rfl) rfl
theorem q1554 : (Jvm.Cond.privateMethod ({ cls := "TurningRoadsModel", name := "isWayHere", desc := "(I)Z" } : Jvm.MethodName)) ∈ lw_tbl := lw_at lw_m6 212 rfl
theorem q1555 : (Jvm.Cond.instanceMethod ({ cls := "TurningRoadsModel", name := "isWayHere", desc := "(I)Z" } : Jvm.MethodName)) ∈ lw_all := lw_g (lw_at lw_m6 213 rfl) rfl
theorem q1556 : (Jvm.Cond.code ({ cls := "TurningRoadsModel", name := "isWayHere", desc := "(I)Z" } : Jvm.MethodName) prog_19_method_29_code (4 : Nat) (Option.some Jvm.ClassFile.FieldType.boolean)) ∈ lw_all := lw_g (lw_at lw_m6 214 rfl) rfl
theorem q1557 : (Jvm.Cond.methodLink "TurningRoadsModel" (112 : Nat) ({ cls := "TurningRoadsModel", name := "passWord", desc := "()V" } : Jvm.MethodName)) ∈ lw_all := lw_g (lw_at lw_m6 215 rfl) rfl
theorem q1558 : (Jvm.Cond.privateMethod ({ cls := "TurningRoadsModel", name := "passWord", desc := "()V" } : Jvm.MethodName)) ∈ lw_tbl := lw_at lw_m6 216 rfl
theorem q1559 : (Jvm.Cond.instanceMethod ({ cls := "TurningRoadsModel", name := "passWord", desc := "()V" } : Jvm.MethodName)) ∈ lw_all := lw_g (lw_at lw_m6 217 rfl) rfl
theorem q1560 : (Jvm.Cond.code ({ cls := "TurningRoadsModel", name := "passWord", desc := "()V" } : Jvm.MethodName) prog_19_method_11_code (1 : Nat) (Option.none : Option Jvm.ClassFile.FieldType)) ∈ lw_all := lw_g (lw_at lw_m6 218 rfl) rfl
theorem q1561 : (Jvm.Cond.methodLink "TurningRoadsModel" (174 : Nat) ({ cls := "TurningRoadsModel", name := "numberHere", desc := "(II)Z" } : Jvm.MethodName)) ∈ lw_all := lw_g (lw_at lw_m6 219 rfl) rfl
theorem q1562 : (Jvm.Cond.privateMethod ({ cls := "TurningRoadsModel", name := "numberHere", desc := "(II)Z" } : Jvm.MethodName)) ∈ lw_tbl := lw_at lw_m6 220 rfl
theorem q1563 : (Jvm.Cond.instanceMethod ({ cls := "TurningRoadsModel", name := "numberHere", desc := "(II)Z" } : Jvm.MethodName)) ∈ lw_all := lw_g (lw_at lw_m6 221 rfl) rfl
theorem q1564 : (Jvm.Cond.code ({ cls := "TurningRoadsModel", name := "numberHere", desc := "(II)Z" } : Jvm.MethodName) prog_19_method_13_code (5 : Nat) (Option.some Jvm.ClassFile.FieldType.boolean)) ∈ lw_all := lw_g (lw_at lw_m6 222 rfl) rfl
theorem q1565 : (Jvm.Cond.methodLink "TurningRoadsModel" (115 : Nat) ({ cls := "TurningRoadsModel", name := "isDigit", desc := "(I)Z" } : Jvm.MethodName)) ∈ lw_all := lw_g (lw_at lw_m6 223 rfl) rfl
theorem q1566 : (Jvm.Cond.privateMethod ({ cls := "TurningRoadsModel", name := "isDigit", desc := "(I)Z" } : Jvm.MethodName)) ∈ lw_tbl := lw_at lw_m6 224 rfl
theorem q1567 : (Jvm.Cond.instanceMethod ({ cls := "TurningRoadsModel", name := "isDigit", desc := "(I)Z" } : Jvm.MethodName)) ∈ lw_all := lw_g (lw_at lw_m6 225 rfl) rfl
theorem q1568 : (Jvm.Cond.code ({ cls := "TurningRoadsModel", name := "isDigit", desc := "(I)Z" } : Jvm.MethodName) prog_19_method_8_code (2 : Nat) (Option.some Jvm.ClassFile.FieldType.boolean)) ∈ lw_all := lw_g (lw_at lw_m6 226 rfl) rfl
theorem q1569 : (Jvm.Cond.methodLink "TurningRoadsModel" (125 : Nat) ({ cls := "TurningRoadsModel", name := "in", desc := "(JJJ)Z" } : Jvm.MethodName)) ∈ lw_all := lw_g (lw_at lw_m6 227 rfl) rfl
theorem q1570 : (Jvm.Cond.static ({ cls := "TurningRoadsModel", name := "in", desc := "(JJJ)Z" } : Jvm.MethodName)) ∈ lw_all := lw_g (lw_at lw_m6 228 rfl) rfl
theorem q1571 : (Jvm.Cond.code ({ cls := "TurningRoadsModel", name := "in", desc := "(JJJ)Z" } : Jvm.MethodName) prog_19_method_2_code (6 : Nat) (Option.some Jvm.ClassFile.FieldType.boolean)) ∈ lw_all := lw_g (lw_at lw_m6 229 rfl) rfl
theorem q1572 : (Jvm.Cond.methodLink "TurningRoadsModel" (241 : Nat) ({ cls := "TurningRoadsModel", name := "isGoerHere", desc := "(I)Z" } : Jvm.MethodName)) ∈ lw_all := lw_g (lw_at lw_m6 230 rfl) rfl
theorem q1573 : (Jvm.Cond.privateMethod ({ cls := "TurningRoadsModel", name := "isGoerHere", desc := "(I)Z" } : Jvm.MethodName)) ∈ lw_tbl := lw_at lw_m6 231 rfl
theorem q1574 : (Jvm.Cond.instanceMethod ({ cls := "TurningRoadsModel", name := "isGoerHere", desc := "(I)Z" } : Jvm.MethodName)) ∈ lw_all := lw_g (lw_at lw_m6 232 rfl) rfl
theorem q1575 : (Jvm.Cond.code ({ cls := "TurningRoadsModel", name := "isGoerHere", desc := "(I)Z" } : Jvm.MethodName) prog_19_method_30_code (3 : Nat) (Option.some Jvm.ClassFile.FieldType.boolean)) ∈ lw_all := lw_g (lw_at lw_m6 233 rfl) rfl
theorem q1576 : (Jvm.Cond.methodLink "TurningRoadsModel" (244 : Nat) ({ cls := "TurningRoadsModel", name := "clauseOf", desc := "(I)Z" } : Jvm.MethodName)) ∈ lw_all := lw_g (lw_at lw_m6 234 rfl) rfl
theorem q1577 : (Jvm.Cond.privateMethod ({ cls := "TurningRoadsModel", name := "clauseOf", desc := "(I)Z" } : Jvm.MethodName)) ∈ lw_tbl := lw_at lw_m6 235 rfl
theorem q1578 : (Jvm.Cond.instanceMethod ({ cls := "TurningRoadsModel", name := "clauseOf", desc := "(I)Z" } : Jvm.MethodName)) ∈ lw_all := lw_g (lw_at lw_m6 236 rfl) rfl
theorem q1579 : (Jvm.Cond.code ({ cls := "TurningRoadsModel", name := "clauseOf", desc := "(I)Z" } : Jvm.MethodName) prog_19_method_28_code (3 : Nat) (Option.some Jvm.ClassFile.FieldType.boolean)) ∈ lw_all := lw_g (lw_at lw_m6 237 rfl) rfl
theorem q1580 : (Jvm.Cond.methodLink "TurningRoadsModel" (190 : Nat) ({ cls := "TurningRoadsModel", name := "sum", desc := "()Z" } : Jvm.MethodName)) ∈ lw_all := lw_g (lw_at lw_m6 238 rfl) rfl
theorem q1581 : (Jvm.Cond.privateMethod ({ cls := "TurningRoadsModel", name := "sum", desc := "()Z" } : Jvm.MethodName)) ∈ lw_tbl := lw_at lw_m6 239 rfl
theorem q1582 : (Jvm.Cond.instanceMethod ({ cls := "TurningRoadsModel", name := "sum", desc := "()Z" } : Jvm.MethodName)) ∈ lw_all := lw_g (lw_at lw_m7 0 rfl) rfl
theorem q1583 : (Jvm.Cond.code ({ cls := "TurningRoadsModel", name := "sum", desc := "()Z" } : Jvm.MethodName) prog_19_method_22_code (2 : Nat) (Option.some Jvm.ClassFile.FieldType.boolean)) ∈ lw_all := lw_g (lw_at lw_m7 1 rfl) rfl
theorem q1584 : (Jvm.Cond.methodLink "TurningRoadsModel" (187 : Nat) ({ cls := "TurningRoadsModel", name := "term", desc := "()Z" } : Jvm.MethodName)) ∈ lw_all := lw_g (lw_at lw_m7 2 rfl) rfl
theorem q1585 : (Jvm.Cond.privateMethod ({ cls := "TurningRoadsModel", name := "term", desc := "()Z" } : Jvm.MethodName)) ∈ lw_tbl := lw_at lw_m7 3 rfl
theorem q1586 : (Jvm.Cond.instanceMethod ({ cls := "TurningRoadsModel", name := "term", desc := "()Z" } : Jvm.MethodName)) ∈ lw_all := lw_g (lw_at lw_m7 4 rfl) rfl
theorem q1587 : (Jvm.Cond.code ({ cls := "TurningRoadsModel", name := "term", desc := "()Z" } : Jvm.MethodName) prog_19_method_21_code (2 : Nat) (Option.some Jvm.ClassFile.FieldType.boolean)) ∈ lw_all := lw_g (lw_at lw_m7 5 rfl) rfl
theorem q1588 : (Jvm.Cond.methodLink "TurningRoadsModel" (183 : Nat) ({ cls := "TurningRoadsModel", name := "value", desc := "()Z" } : Jvm.MethodName)) ∈ lw_all := lw_g (lw_at lw_m7 6 rfl) rfl
theorem q1589 : (Jvm.Cond.privateMethod ({ cls := "TurningRoadsModel", name := "value", desc := "()Z" } : Jvm.MethodName)) ∈ lw_tbl := lw_at lw_m7 7 rfl
theorem q1590 : (Jvm.Cond.instanceMethod ({ cls := "TurningRoadsModel", name := "value", desc := "()Z" } : Jvm.MethodName)) ∈ lw_all := lw_g (lw_at lw_m7 8 rfl) rfl
theorem q1591 : (Jvm.Cond.code ({ cls := "TurningRoadsModel", name := "value", desc := "()Z" } : Jvm.MethodName) prog_19_method_20_code (3 : Nat) (Option.some Jvm.ClassFile.FieldType.boolean)) ∈ lw_all := lw_g (lw_at lw_m7 9 rfl) rfl
theorem q1592 : (Jvm.Cond.constant "TurningRoadsModel" (173 : Nat) (99999 : Int32)) ∈ lw_all := lw_g (lw_at lw_m7 10 rfl) rfl
theorem q1593 : (Jvm.Cond.methodLink "TurningRoadsModel" (177 : Nat) ({ cls := "TurningRoadsModel", name := "makes", desc := "(I)Z" } : Jvm.MethodName)) ∈ lw_all := lw_g (lw_at lw_m7 11 rfl) rfl
theorem q1594 : (Jvm.Cond.privateMethod ({ cls := "TurningRoadsModel", name := "makes", desc := "(I)Z" } : Jvm.MethodName)) ∈ lw_tbl := lw_at lw_m7 12 rfl
theorem q1595 : (Jvm.Cond.instanceMethod ({ cls := "TurningRoadsModel", name := "makes", desc := "(I)Z" } : Jvm.MethodName)) ∈ lw_all := lw_g (lw_at lw_m7 13 rfl) rfl
theorem q1596 : (Jvm.Cond.code ({ cls := "TurningRoadsModel", name := "makes", desc := "(I)Z" } : Jvm.MethodName) prog_19_method_16_code (2 : Nat) (Option.some Jvm.ClassFile.FieldType.boolean)) ∈ lw_all := lw_g (lw_at lw_m7 14 rfl) rfl
theorem q1597 : (Jvm.Cond.methodLink "TurningRoadsModel" (169 : Nat) ({ cls := "TurningRoadsModel", name := "puts", desc := "(II)V" } : Jvm.MethodName)) ∈ lw_all := lw_g (lw_at lw_m7 15 rfl) rfl
theorem q1598 : (Jvm.Cond.privateMethod ({ cls := "TurningRoadsModel", name := "puts", desc := "(II)V" } : Jvm.MethodName)) ∈ lw_tbl := lw_at lw_m7 16 rfl
theorem q1599 : (Jvm.Cond.instanceMethod ({ cls := "TurningRoadsModel", name := "puts", desc := "(II)V" } : Jvm.MethodName)) ∈ lw_all := lw_g (lw_at lw_m7 17 rfl) rfl
theorem q1600 : (Jvm.Cond.code ({ cls := "TurningRoadsModel", name := "puts", desc := "(II)V" } : Jvm.MethodName) prog_19_method_15_code (3 : Nat) (Option.none : Option Jvm.ClassFile.FieldType)) ∈ lw_all := lw_g (lw_at lw_m7 18 rfl) rfl
theorem q1601 : (Jvm.Cond.methodLink "TurningRoadsModel" (180 : Nat) ({ cls := "TurningRoadsModel", name := "wordHere", desc := "()I" } : Jvm.MethodName)) ∈ lw_all := lw_g (lw_at lw_m7 19 rfl) rfl
theorem q1602 : (Jvm.Cond.privateMethod ({ cls := "TurningRoadsModel", name := "wordHere", desc := "()I" } : Jvm.MethodName)) ∈ lw_tbl := lw_at lw_m7 20 rfl
theorem q1603 : (Jvm.Cond.instanceMethod ({ cls := "TurningRoadsModel", name := "wordHere", desc := "()I" } : Jvm.MethodName)) ∈ lw_all := lw_g (lw_at lw_m7 21 rfl) rfl
theorem q1604 : (Jvm.Cond.code ({ cls := "TurningRoadsModel", name := "wordHere", desc := "()I" } : Jvm.MethodName) prog_19_method_14_code (1 : Nat) (Option.some Jvm.ClassFile.FieldType.int)) ∈ lw_all := lw_g (lw_at lw_m7 22 rfl) rfl
theorem q1605 : (Jvm.Cond.constantLong "TurningRoadsModel" (131 : Nat) (30796695599342963 : Int64)) ∈ lw_all := lw_g (lw_at lw_m7 23 rfl) rfl
theorem q1606 : (Jvm.Cond.constantLong "TurningRoadsModel" (133 : Nat) (1735356005 : Int64)) ∈ lw_all := lw_g (lw_at lw_m7 24 rfl) rfl
theorem q1607 : (Jvm.Cond.constantLong "TurningRoadsModel" (135 : Nat) (1818325876 : Int64)) ∈ lw_all := lw_g (lw_at lw_m7 25 rfl) rfl
theorem q1608 : (Jvm.Cond.constantLong "TurningRoadsModel" (137 : Nat) (29807 : Int64)) ∈ lw_all := lw_g (lw_at lw_m7 26 rfl) rfl
theorem q1609 : (Jvm.Cond.constantLong "TurningRoadsModel" (139 : Nat) (6709618 : Int64)) ∈ lw_all := lw_g (lw_at lw_m7 27 rfl) rfl
theorem q1610 : (Jvm.Cond.constantLong "TurningRoadsModel" (141 : Nat) (7304564 : Int64)) ∈ lw_all := lw_g (lw_at lw_m7 28 rfl) rfl
theorem q1611 : (Jvm.Cond.constantLong "TurningRoadsModel" (143 : Nat) (499967685221 : Int64)) ∈ lw_all := lw_g (lw_at lw_m7 29 rfl) rfl
theorem q1612 : (Jvm.Cond.constantLong "TurningRoadsModel" (147 : Nat) (6383981 : Int64)) ∈ lw_all := lw_g (lw_at lw_m7 30 rfl) rfl
theorem q1613 : (Jvm.Cond.constantLong "TurningRoadsModel" (149 : Nat) (427021001579 : Int64)) ∈ lw_all := lw_g (lw_at lw_m7 31 rfl) rfl
theorem q1614 : (Jvm.Cond.constantLong "TurningRoadsModel" (151 : Nat) (28526 : Int64)) ∈ lw_all := lw_g (lw_at lw_m7 32 rfl) rfl
theorem q1615 : (Jvm.Cond.constantLong "TurningRoadsModel" (217 : Nat) (26982 : Int64)) ∈ lw_all := lw_g (lw_at lw_m7 33 rfl) rfl
theorem q1616 : (Jvm.Cond.methodLink "TurningRoadsModel" (219 : Nat) ({ cls := "TurningRoadsModel", name := "takesWord", desc := "(J)Z" } : Jvm.MethodName)) ∈ lw_all := lw_g (lw_at lw_m7 34 rfl) rfl
theorem q1617 : (Jvm.Cond.privateMethod ({ cls := "TurningRoadsModel", name := "takesWord", desc := "(J)Z" } : Jvm.MethodName)) ∈ lw_tbl := lw_at lw_m7 35 rfl
theorem q1618 : (Jvm.Cond.instanceMethod ({ cls := "TurningRoadsModel", name := "takesWord", desc := "(J)Z" } : Jvm.MethodName)) ∈ lw_all := lw_g (lw_at lw_m7 36 rfl) rfl
theorem q1619 : (Jvm.Cond.code ({ cls := "TurningRoadsModel", name := "takesWord", desc := "(J)Z" } : Jvm.MethodName) prog_19_method_12_code (3 : Nat) (Option.some Jvm.ClassFile.FieldType.boolean)) ∈ lw_all := lw_g (lw_at lw_m7 37 rfl) rfl
theorem q1620 : (Jvm.Cond.methodLink "TurningRoadsModel" (222 : Nat) ({ cls := "TurningRoadsModel", name := "tested", desc := "()Z" } : Jvm.MethodName)) ∈ lw_all := lw_g (lw_at lw_m7 38 rfl) rfl
theorem q1621 : (Jvm.Cond.privateMethod ({ cls := "TurningRoadsModel", name := "tested", desc := "()Z" } : Jvm.MethodName)) ∈ lw_tbl := lw_at lw_m7 39 rfl
theorem q1622 : (Jvm.Cond.instanceMethod ({ cls := "TurningRoadsModel", name := "tested", desc := "()Z" } : Jvm.MethodName)) ∈ lw_all := lw_g (lw_at lw_m7 40 rfl) rfl
theorem q1623 : (Jvm.Cond.code ({ cls := "TurningRoadsModel", name := "tested", desc := "()Z" } : Jvm.MethodName) prog_19_method_27_code (3 : Nat) (Option.some Jvm.ClassFile.FieldType.boolean)) ∈ lw_all := lw_g (lw_at lw_m7 41 rfl) rfl
theorem q1624 : (Jvm.Cond.methodLink "TurningRoadsModel" (207 : Nat) ({ cls := "TurningRoadsModel", name := "fact", desc := "()Z" } : Jvm.MethodName)) ∈ lw_all := lw_g (lw_at lw_m7 42 rfl) rfl
theorem q1625 : (Jvm.Cond.privateMethod ({ cls := "TurningRoadsModel", name := "fact", desc := "()Z" } : Jvm.MethodName)) ∈ lw_tbl := lw_at lw_m7 43 rfl
theorem q1626 : (Jvm.Cond.instanceMethod ({ cls := "TurningRoadsModel", name := "fact", desc := "()Z" } : Jvm.MethodName)) ∈ lw_all := lw_g (lw_at lw_m7 44 rfl) rfl
theorem q1627 : (Jvm.Cond.code ({ cls := "TurningRoadsModel", name := "fact", desc := "()Z" } : Jvm.MethodName) prog_19_method_24_code (3 : Nat) (Option.some Jvm.ClassFile.FieldType.boolean)) ∈ lw_all := lw_g (lw_at lw_m7 45 rfl) rfl
theorem q1628 : (Jvm.Cond.constantLong "TurningRoadsModel" (193 : Nat) (7237492 : Int64)) ∈ lw_all := lw_g (lw_at lw_m7 46 rfl) rfl
theorem q1629 : (Jvm.Cond.methodLink "TurningRoadsModel" (195 : Nat) ({ cls := "TurningRoadsModel", name := "opens", desc := "(I)Z" } : Jvm.MethodName)) ∈ lw_all := lw_g (lw_at lw_m7 47 rfl) rfl
theorem q1630 : (Jvm.Cond.privateMethod ({ cls := "TurningRoadsModel", name := "opens", desc := "(I)Z" } : Jvm.MethodName)) ∈ lw_tbl := lw_at lw_m7 48 rfl
theorem q1631 : (Jvm.Cond.instanceMethod ({ cls := "TurningRoadsModel", name := "opens", desc := "(I)Z" } : Jvm.MethodName)) ∈ lw_all := lw_g (lw_at lw_m7 49 rfl) rfl
theorem q1632 : (Jvm.Cond.code ({ cls := "TurningRoadsModel", name := "opens", desc := "(I)Z" } : Jvm.MethodName) prog_19_method_17_code (2 : Nat) (Option.some Jvm.ClassFile.FieldType.boolean)) ∈ lw_all := lw_g (lw_at lw_m7 50 rfl) rfl
theorem q1633 : (Jvm.Cond.methodLink "TurningRoadsModel" (198 : Nat) ({ cls := "TurningRoadsModel", name := "compare", desc := "()Z" } : Jvm.MethodName)) ∈ lw_all := lw_g (lw_at lw_m7 51 rfl) rfl
theorem q1634 : (Jvm.Cond.privateMethod ({ cls := "TurningRoadsModel", name := "compare", desc := "()Z" } : Jvm.MethodName)) ∈ lw_tbl := lw_at lw_m7 52 rfl
theorem q1635 : (Jvm.Cond.instanceMethod ({ cls := "TurningRoadsModel", name := "compare", desc := "()Z" } : Jvm.MethodName)) ∈ lw_all := lw_g (lw_at lw_m7 53 rfl) rfl
theorem q1636 : (Jvm.Cond.code ({ cls := "TurningRoadsModel", name := "compare", desc := "()Z" } : Jvm.MethodName) prog_19_method_23_code (5 : Nat) (Option.some Jvm.ClassFile.FieldType.boolean)) ∈ lw_all := lw_g (lw_at lw_m7 54 rfl) rfl
theorem q1637 : (Jvm.Cond.methodLink "TurningRoadsModel" (210 : Nat) ({ cls := "TurningRoadsModel", name := "closes", desc := "()V" } : Jvm.MethodName)) ∈ lw_all := lw_g (lw_at lw_m7 55 rfl) rfl
theorem q1638 : (Jvm.Cond.privateMethod ({ cls := "TurningRoadsModel", name := "closes", desc := "()V" } : Jvm.MethodName)) ∈ lw_tbl := lw_at lw_m7 56 rfl
theorem q1639 : (Jvm.Cond.instanceMethod ({ cls := "TurningRoadsModel", name := "closes", desc := "()V" } : Jvm.MethodName)) ∈ lw_all := lw_g (lw_at lw_m7 57 rfl) rfl
theorem q1640 : (Jvm.Cond.code ({ cls := "TurningRoadsModel", name := "closes", desc := "()V" } : Jvm.MethodName) prog_19_method_26_code (1 : Nat) (Option.none : Option Jvm.ClassFile.FieldType)) ∈ lw_all := lw_g (lw_at lw_m7 58 rfl) rfl
theorem q1641 : (Jvm.Cond.methodLink "TurningRoadsModel" (201 : Nat) ({ cls := "TurningRoadsModel", name := "settles", desc := "(I)V" } : Jvm.MethodName)) ∈ lw_all := lw_g (lw_at lw_m7 59 rfl) rfl
theorem q1642 : (Jvm.Cond.privateMethod ({ cls := "TurningRoadsModel", name := "settles", desc := "(I)V" } : Jvm.MethodName)) ∈ lw_tbl := lw_at lw_m7 60 rfl
theorem q1643 : (Jvm.Cond.instanceMethod ({ cls := "TurningRoadsModel", name := "settles", desc := "(I)V" } : Jvm.MethodName)) ∈ lw_all := lw_g (lw_at lw_m7 61 rfl) rfl
theorem q1644 : (Jvm.Cond.code ({ cls := "TurningRoadsModel", name := "settles", desc := "(I)V" } : Jvm.MethodName) prog_19_method_19_code (2 : Nat) (Option.none : Option Jvm.ClassFile.FieldType)) ∈ lw_all := lw_g (lw_at lw_m7 62 rfl) rfl
theorem q1645 : (Jvm.Cond.methodLink "TurningRoadsModel" (165 : Nat) ({ cls := "TurningRoadsModel", name := "strength", desc := "(I)I" } : Jvm.MethodName)) ∈ lw_all := lw_g (lw_at lw_m7 63 rfl) rfl
theorem q1646 : (Jvm.Cond.static ({ cls := "TurningRoadsModel", name := "strength", desc := "(I)I" } : Jvm.MethodName)) ∈ lw_all := lw_g (lw_at lw_m7 64 rfl) rfl
theorem q1647 : (Jvm.Cond.code ({ cls := "TurningRoadsModel", name := "strength", desc := "(I)I" } : Jvm.MethodName) prog_19_method_18_code (1 : Nat) (Option.some Jvm.ClassFile.FieldType.int)) ∈ lw_all := lw_g (lw_at lw_m7 65 rfl) rfl
theorem q1648 : (Jvm.Cond.methodLink "TurningRoadsModel" (204 : Nat) ({ cls := "TurningRoadsModel", name := "isInside", desc := "()Z" } : Jvm.MethodName)) ∈ lw_all := lw_g (lw_at lw_m7 66 rfl) rfl
theorem q1649 : (Jvm.Cond.privateMethod ({ cls := "TurningRoadsModel", name := "isInside", desc := "()Z" } : Jvm.MethodName)) ∈ lw_tbl := lw_at lw_m7 67 rfl
theorem q1650 : (Jvm.Cond.instanceMethod ({ cls := "TurningRoadsModel", name := "isInside", desc := "()Z" } : Jvm.MethodName)) ∈ lw_all := lw_g (lw_at lw_m7 68 rfl) rfl
theorem q1651 : (Jvm.Cond.code ({ cls := "TurningRoadsModel", name := "isInside", desc := "()Z" } : Jvm.MethodName) prog_19_method_25_code (2 : Nat) (Option.some Jvm.ClassFile.FieldType.boolean)) ∈ lw_all := lw_g (lw_at lw_m7 69 rfl) rfl
theorem q1652 : (Jvm.Cond.constantLong "TurningRoadsModel" (213 : Nat) (6385252 : Int64)) ∈ lw_all := lw_g (lw_at lw_m7 70 rfl) rfl
theorem q1653 : (Jvm.Cond.constantLong "TurningRoadsModel" (215 : Nat) (28530 : Int64)) ∈ lw_all := lw_g (lw_at lw_m7 71 rfl) rfl
theorem q1655 : (Jvm.Cond.instanceMethod ({ cls := "TurningRoadsModel", name := "land", desc := "()I" } : Jvm.MethodName)) ∈ lw_all := lw_g (lw_at lw_m7 73 rfl) rfl
theorem q1656 : (Jvm.Cond.selects "TurningRoadsModel" ({ cls := "TurningRoadsModel", name := "land", desc := "()I" } : Jvm.MethodName) ({ cls := "TurningRoadsModel", name := "land", desc := "()I" } : Jvm.MethodName)) ∈ lw_all := lw_g (lw_at lw_m7 74 rfl) rfl
theorem q1657 : (Jvm.Cond.code ({ cls := "TurningRoadsModel", name := "land", desc := "()I" } : Jvm.MethodName) prog_19_method_34_code (5 : Nat) (Option.some Jvm.ClassFile.FieldType.int)) ∈ lw_all := lw_g (lw_at lw_m7 75 rfl) rfl
theorem q1659 : (Jvm.Cond.instanceMethod ({ cls := "TurningRoadsModel", name := "way", desc := "(II)I" } : Jvm.MethodName)) ∈ lw_all := lw_g (lw_at lw_m7 77 rfl) rfl
theorem q1660 : (Jvm.Cond.selects "TurningRoadsModel" ({ cls := "TurningRoadsModel", name := "way", desc := "(II)I" } : Jvm.MethodName) ({ cls := "TurningRoadsModel", name := "way", desc := "(II)I" } : Jvm.MethodName)) ∈ lw_all := lw_g (lw_at lw_m7 78 rfl) rfl
theorem q1661 : (Jvm.Cond.code ({ cls := "TurningRoadsModel", name := "way", desc := "(II)I" } : Jvm.MethodName) prog_19_method_53_code (3 : Nat) (Option.some Jvm.ClassFile.FieldType.int)) ∈ lw_all := lw_g (lw_at lw_m7 79 rfl) rfl
theorem q1662 : (Jvm.Cond.methodLink "TurningRoadsModel" (289 : Nat) ({ cls := "TurningRoadsModel", name := "isWay", desc := "(I)Z" } : Jvm.MethodName)) ∈ lw_all := lw_g (lw_at lw_m7 80 rfl) rfl
theorem q1663 : (Jvm.Cond.privateMethod ({ cls := "TurningRoadsModel", name := "isWay", desc := "(I)Z" } : Jvm.MethodName)) ∈ lw_tbl := lw_at lw_m7 81 rfl
theorem q1664 : (Jvm.Cond.instanceMethod ({ cls := "TurningRoadsModel", name := "isWay", desc := "(I)Z" } : Jvm.MethodName)) ∈ lw_all := lw_g (lw_at lw_m7 82 rfl) rfl
theorem q1665 : (Jvm.Cond.code ({ cls := "TurningRoadsModel", name := "isWay", desc := "(I)Z" } : Jvm.MethodName) prog_19_method_41_code (2 : Nat) (Option.some Jvm.ClassFile.FieldType.boolean)) ∈ lw_all := lw_g (lw_at lw_m7 83 rfl) rfl
theorem q1666 : (Jvm.Cond.constantLong "TurningRoadsModel" (292 : Nat) (5 : Int64)) ∈ lw_all := lw_g (lw_at lw_m7 84 rfl) rfl
theorem q1667 : (Jvm.Cond.methodLink "TurningRoadsModel" (285 : Nat) ({ cls := "TurningRoadsModel", name := "endOf", desc := "(III)I" } : Jvm.MethodName)) ∈ lw_all := lw_g (lw_at lw_m7 85 rfl) rfl
theorem q1668 : (Jvm.Cond.privateMethod ({ cls := "TurningRoadsModel", name := "endOf", desc := "(III)I" } : Jvm.MethodName)) ∈ lw_tbl := lw_at lw_m7 86 rfl
theorem q1669 : (Jvm.Cond.instanceMethod ({ cls := "TurningRoadsModel", name := "endOf", desc := "(III)I" } : Jvm.MethodName)) ∈ lw_all := lw_g (lw_at lw_m7 87 rfl) rfl
theorem q1670 : (Jvm.Cond.code ({ cls := "TurningRoadsModel", name := "endOf", desc := "(III)I" } : Jvm.MethodName) prog_19_method_46_code (4 : Nat) (Option.some Jvm.ClassFile.FieldType.int)) ∈ lw_all := lw_g (lw_at lw_m7 88 rfl) rfl
theorem q1671 : (Jvm.Cond.methodLink "TurningRoadsModel" (275 : Nat) ({ cls := "TurningRoadsModel", name := "wayOf", desc := "(II)I" } : Jvm.MethodName)) ∈ lw_all := lw_g (lw_at lw_m7 89 rfl) rfl
theorem q1672 : (Jvm.Cond.privateMethod ({ cls := "TurningRoadsModel", name := "wayOf", desc := "(II)I" } : Jvm.MethodName)) ∈ lw_tbl := lw_at lw_m7 90 rfl
theorem q1673 : (Jvm.Cond.instanceMethod ({ cls := "TurningRoadsModel", name := "wayOf", desc := "(II)I" } : Jvm.MethodName)) ∈ lw_all := lw_g (lw_at lw_m7 91 rfl) rfl
theorem q1674 : (Jvm.Cond.code ({ cls := "TurningRoadsModel", name := "wayOf", desc := "(II)I" } : Jvm.MethodName) prog_19_method_44_code (3 : Nat) (Option.some Jvm.ClassFile.FieldType.int)) ∈ lw_all := lw_g (lw_at lw_m7 92 rfl) rfl
theorem q1675 : (Jvm.Cond.methodLink "TurningRoadsModel" (294 : Nat) ({ cls := "TurningRoadsModel", name := "onWay", desc := "(I)I" } : Jvm.MethodName)) ∈ lw_all := lw_g (lw_at lw_m7 93 rfl) rfl
theorem q1676 : (Jvm.Cond.privateMethod ({ cls := "TurningRoadsModel", name := "onWay", desc := "(I)I" } : Jvm.MethodName)) ∈ lw_tbl := lw_at lw_m7 94 rfl
theorem q1677 : (Jvm.Cond.instanceMethod ({ cls := "TurningRoadsModel", name := "onWay", desc := "(I)I" } : Jvm.MethodName)) ∈ lw_all := lw_g (lw_at lw_m7 95 rfl) rfl
theorem q1678 : (Jvm.Cond.code ({ cls := "TurningRoadsModel", name := "onWay", desc := "(I)I" } : Jvm.MethodName) prog_19_method_47_code (4 : Nat) (Option.some Jvm.ClassFile.FieldType.int)) ∈ lw_all := lw_g (lw_at lw_m7 96 rfl) rfl
theorem q1679 : (Jvm.Cond.methodLink "TurningRoadsModel" (279 : Nat) ({ cls := "TurningRoadsModel", name := "goerOf", desc := "(II)I" } : Jvm.MethodName)) ∈ lw_all := lw_g (lw_at lw_m7 97 rfl) rfl
theorem q1680 : (Jvm.Cond.privateMethod ({ cls := "TurningRoadsModel", name := "goerOf", desc := "(II)I" } : Jvm.MethodName)) ∈ lw_tbl := lw_at lw_m7 98 rfl
theorem q1681 : (Jvm.Cond.instanceMethod ({ cls := "TurningRoadsModel", name := "goerOf", desc := "(II)I" } : Jvm.MethodName)) ∈ lw_all := lw_g (lw_at lw_m7 99 rfl) rfl
theorem q1682 : (Jvm.Cond.code ({ cls := "TurningRoadsModel", name := "goerOf", desc := "(II)I" } : Jvm.MethodName) prog_19_method_45_code (3 : Nat) (Option.some Jvm.ClassFile.FieldType.int)) ∈ lw_all := lw_g (lw_at lw_m7 100 rfl) rfl
theorem q1684 : (Jvm.Cond.instanceMethod ({ cls := "TurningRoadsModel", name := "goer", desc := "(II)I" } : Jvm.MethodName)) ∈ lw_all := lw_g (lw_at lw_m7 102 rfl) rfl
theorem q1685 : (Jvm.Cond.selects "TurningRoadsModel" ({ cls := "TurningRoadsModel", name := "goer", desc := "(II)I" } : Jvm.MethodName) ({ cls := "TurningRoadsModel", name := "goer", desc := "(II)I" } : Jvm.MethodName)) ∈ lw_all := lw_g (lw_at lw_m7 103 rfl) rfl
theorem q1686 : (Jvm.Cond.code ({ cls := "TurningRoadsModel", name := "goer", desc := "(II)I" } : Jvm.MethodName) prog_19_method_54_code (3 : Nat) (Option.some Jvm.ClassFile.FieldType.int)) ∈ lw_all := lw_g (lw_at lw_m7 104 rfl) rfl
theorem q1687 : (Jvm.Cond.methodLink "TurningRoadsModel" (282 : Nat) ({ cls := "TurningRoadsModel", name := "isGoer", desc := "(I)Z" } : Jvm.MethodName)) ∈ lw_all := lw_g (lw_at lw_m7 105 rfl) rfl
theorem q1688 : (Jvm.Cond.privateMethod ({ cls := "TurningRoadsModel", name := "isGoer", desc := "(I)Z" } : Jvm.MethodName)) ∈ lw_tbl := lw_at lw_m7 106 rfl
theorem q1689 : (Jvm.Cond.instanceMethod ({ cls := "TurningRoadsModel", name := "isGoer", desc := "(I)Z" } : Jvm.MethodName)) ∈ lw_all := lw_g (lw_at lw_m7 107 rfl) rfl
theorem q1690 : (Jvm.Cond.code ({ cls := "TurningRoadsModel", name := "isGoer", desc := "(I)Z" } : Jvm.MethodName) prog_19_method_42_code (2 : Nat) (Option.some Jvm.ClassFile.FieldType.boolean)) ∈ lw_all := lw_g (lw_at lw_m7 108 rfl) rfl
theorem q1691 : (Jvm.Cond.constantLong "TurningRoadsModel" (297 : Nat) (6 : Int64)) ∈ lw_all := lw_g (lw_at lw_m7 109 rfl) rfl
theorem q1693 : (Jvm.Cond.instanceMethod ({ cls := "TurningRoadsModel", name := "place", desc := "(II)I" } : Jvm.MethodName)) ∈ lw_all := lw_g (lw_at lw_m7 111 rfl) rfl
theorem q1694 : (Jvm.Cond.selects "TurningRoadsModel" ({ cls := "TurningRoadsModel", name := "place", desc := "(II)I" } : Jvm.MethodName) ({ cls := "TurningRoadsModel", name := "place", desc := "(II)I" } : Jvm.MethodName)) ∈ lw_all := lw_g (lw_at lw_m7 112 rfl) rfl
theorem q1695 : (Jvm.Cond.code ({ cls := "TurningRoadsModel", name := "place", desc := "(II)I" } : Jvm.MethodName) prog_19_method_55_code (5 : Nat) (Option.some Jvm.ClassFile.FieldType.int)) ∈ lw_all := lw_g (lw_at lw_m7 113 rfl) rfl
theorem q1696 : (Jvm.Cond.methodLink "TurningRoadsModel" (299 : Nat) ({ cls := "TurningRoadsModel", name := "isPlace", desc := "(I)Z" } : Jvm.MethodName)) ∈ lw_all := lw_g (lw_at lw_m7 114 rfl) rfl
theorem q1697 : (Jvm.Cond.static ({ cls := "TurningRoadsModel", name := "isPlace", desc := "(I)Z" } : Jvm.MethodName)) ∈ lw_all := lw_g (lw_at lw_m7 115 rfl) rfl
theorem q1698 : (Jvm.Cond.code ({ cls := "TurningRoadsModel", name := "isPlace", desc := "(I)Z" } : Jvm.MethodName) prog_19_method_43_code (1 : Nat) (Option.some Jvm.ClassFile.FieldType.boolean)) ∈ lw_all := lw_g (lw_at lw_m7 116 rfl) rfl
theorem q1699 : (Jvm.Cond.constantLong "TurningRoadsModel" (302 : Nat) (4 : Int64)) ∈ lw_all := lw_g (lw_at lw_m7 117 rfl) rfl
theorem q1700 : (Jvm.Cond.methodLink "TurningRoadsModel" (304 : Nat) ({ cls := "TurningRoadsModel", name := "leading", desc := "(III)I" } : Jvm.MethodName)) ∈ lw_all := lw_g (lw_at lw_m7 118 rfl) rfl
theorem q1701 : (Jvm.Cond.privateMethod ({ cls := "TurningRoadsModel", name := "leading", desc := "(III)I" } : Jvm.MethodName)) ∈ lw_tbl := lw_at lw_m7 119 rfl
theorem q1702 : (Jvm.Cond.instanceMethod ({ cls := "TurningRoadsModel", name := "leading", desc := "(III)I" } : Jvm.MethodName)) ∈ lw_all := lw_g (lw_at lw_m7 120 rfl) rfl
theorem q1703 : (Jvm.Cond.code ({ cls := "TurningRoadsModel", name := "leading", desc := "(III)I" } : Jvm.MethodName) prog_19_method_51_code (6 : Nat) (Option.some Jvm.ClassFile.FieldType.int)) ∈ lw_all := lw_g (lw_at lw_m7 121 rfl) rfl
theorem q1704 : (Jvm.Cond.methodLink "TurningRoadsModel" (307 : Nat) ({ cls := "TurningRoadsModel", name := "standing", desc := "(I)I" } : Jvm.MethodName)) ∈ lw_all := lw_g (lw_at lw_m7 122 rfl) rfl
theorem q1705 : (Jvm.Cond.privateMethod ({ cls := "TurningRoadsModel", name := "standing", desc := "(I)I" } : Jvm.MethodName)) ∈ lw_tbl := lw_at lw_m7 123 rfl
theorem q1706 : (Jvm.Cond.instanceMethod ({ cls := "TurningRoadsModel", name := "standing", desc := "(I)I" } : Jvm.MethodName)) ∈ lw_all := lw_g (lw_at lw_m7 124 rfl) rfl
theorem q1707 : (Jvm.Cond.code ({ cls := "TurningRoadsModel", name := "standing", desc := "(I)I" } : Jvm.MethodName) prog_19_method_50_code (4 : Nat) (Option.some Jvm.ClassFile.FieldType.int)) ∈ lw_all := lw_g (lw_at lw_m7 125 rfl) rfl
theorem q1708 : (Jvm.Cond.methodLink "TurningRoadsModel" (310 : Nat) ({ cls := "TurningRoadsModel", name := "spreads", desc := "(I)V" } : Jvm.MethodName)) ∈ lw_all := lw_g (lw_at lw_m7 126 rfl) rfl
theorem q1709 : (Jvm.Cond.privateMethod ({ cls := "TurningRoadsModel", name := "spreads", desc := "(I)V" } : Jvm.MethodName)) ∈ lw_tbl := lw_at lw_m7 127 rfl
theorem q1710 : (Jvm.Cond.instanceMethod ({ cls := "TurningRoadsModel", name := "spreads", desc := "(I)V" } : Jvm.MethodName)) ∈ lw_all := lw_g (lw_at lw_m7 128 rfl) rfl
theorem q1711 : (Jvm.Cond.code ({ cls := "TurningRoadsModel", name := "spreads", desc := "(I)V" } : Jvm.MethodName) prog_19_method_52_code (6 : Nat) (Option.none : Option Jvm.ClassFile.FieldType)) ∈ lw_all := lw_g (lw_at lw_m7 129 rfl) rfl
theorem q1713 : (Jvm.Cond.instanceMethod ({ cls := "TurningRoadsModel", name := "far", desc := "(II)I" } : Jvm.MethodName)) ∈ lw_all := lw_g (lw_at lw_m7 131 rfl) rfl
theorem q1714 : (Jvm.Cond.selects "TurningRoadsModel" ({ cls := "TurningRoadsModel", name := "far", desc := "(II)I" } : Jvm.MethodName) ({ cls := "TurningRoadsModel", name := "far", desc := "(II)I" } : Jvm.MethodName)) ∈ lw_all := lw_g (lw_at lw_m7 132 rfl) rfl
theorem q1715 : (Jvm.Cond.code ({ cls := "TurningRoadsModel", name := "far", desc := "(II)I" } : Jvm.MethodName) prog_19_method_56_code (3 : Nat) (Option.some Jvm.ClassFile.FieldType.int)) ∈ lw_all := lw_g (lw_at lw_m7 133 rfl) rfl
theorem q1717 : (Jvm.Cond.instanceMethod ({ cls := "TurningRoadsModel", name := "go", desc := "(II)I" } : Jvm.MethodName)) ∈ lw_all := lw_g (lw_at lw_m7 135 rfl) rfl
theorem q1718 : (Jvm.Cond.selects "TurningRoadsModel" ({ cls := "TurningRoadsModel", name := "go", desc := "(II)I" } : Jvm.MethodName) ({ cls := "TurningRoadsModel", name := "go", desc := "(II)I" } : Jvm.MethodName)) ∈ lw_all := lw_g (lw_at lw_m7 136 rfl) rfl
theorem q1719 : (Jvm.Cond.code ({ cls := "TurningRoadsModel", name := "go", desc := "(II)I" } : Jvm.MethodName) prog_19_method_59_code (3 : Nat) (Option.some Jvm.ClassFile.FieldType.int)) ∈ lw_all := lw_g (lw_at lw_m7 137 rfl) rfl
theorem q1720 : (Jvm.Cond.methodLink "TurningRoadsModel" (316 : Nat) ({ cls := "TurningRoadsModel", name := "canGo", desc := "(II)Z" } : Jvm.MethodName)) ∈ lw_all := lw_g (lw_at lw_m7 138 rfl) rfl
theorem q1721 : (Jvm.Cond.privateMethod ({ cls := "TurningRoadsModel", name := "canGo", desc := "(II)Z" } : Jvm.MethodName)) ∈ lw_tbl := lw_at lw_m7 139 rfl
theorem q1722 : (Jvm.Cond.instanceMethod ({ cls := "TurningRoadsModel", name := "canGo", desc := "(II)Z" } : Jvm.MethodName)) ∈ lw_all := lw_g (lw_at lw_m7 140 rfl) rfl
theorem q1723 : (Jvm.Cond.code ({ cls := "TurningRoadsModel", name := "canGo", desc := "(II)Z" } : Jvm.MethodName) prog_19_method_58_code (3 : Nat) (Option.some Jvm.ClassFile.FieldType.boolean)) ∈ lw_all := lw_g (lw_at lw_m7 141 rfl) rfl
theorem q1724 : (Jvm.Cond.methodLink "TurningRoadsModel" (313 : Nat) ({ cls := "TurningRoadsModel", name := "stands", desc := "(I)Z" } : Jvm.MethodName)) ∈ lw_all := lw_g (lw_at lw_m7 142 rfl) rfl
theorem q1725 : (Jvm.Cond.privateMethod ({ cls := "TurningRoadsModel", name := "stands", desc := "(I)Z" } : Jvm.MethodName)) ∈ lw_tbl := lw_at lw_m7 143 rfl
theorem q1726 : (Jvm.Cond.instanceMethod ({ cls := "TurningRoadsModel", name := "stands", desc := "(I)Z" } : Jvm.MethodName)) ∈ lw_all := lw_g (lw_at lw_m7 144 rfl) rfl
theorem q1727 : (Jvm.Cond.code ({ cls := "TurningRoadsModel", name := "stands", desc := "(I)Z" } : Jvm.MethodName) prog_19_method_49_code (2 : Nat) (Option.some Jvm.ClassFile.FieldType.boolean)) ∈ lw_all := lw_g (lw_at lw_m7 145 rfl) rfl
theorem q1728 : (Jvm.Cond.methodLink "TurningRoadsModel" (319 : Nat) ({ cls := "TurningRoadsModel", name := "arrives", desc := "(IIII)V" } : Jvm.MethodName)) ∈ lw_all := lw_g (lw_at lw_m7 146 rfl) rfl
theorem q1729 : (Jvm.Cond.privateMethod ({ cls := "TurningRoadsModel", name := "arrives", desc := "(IIII)V" } : Jvm.MethodName)) ∈ lw_tbl := lw_at lw_m7 147 rfl
theorem q1730 : (Jvm.Cond.instanceMethod ({ cls := "TurningRoadsModel", name := "arrives", desc := "(IIII)V" } : Jvm.MethodName)) ∈ lw_all := lw_g (lw_at lw_m7 148 rfl) rfl
theorem q1731 : (Jvm.Cond.code ({ cls := "TurningRoadsModel", name := "arrives", desc := "(IIII)V" } : Jvm.MethodName) prog_19_method_57_code (6 : Nat) (Option.none : Option Jvm.ClassFile.FieldType)) ∈ lw_all := lw_g (lw_at lw_m7 149 rfl) rfl
theorem q1733 : (Jvm.Cond.instanceMethod ({ cls := "TurningRoadsModel", name := "turn", desc := "(I)I" } : Jvm.MethodName)) ∈ lw_all := lw_g (lw_at lw_m7 151 rfl) rfl
theorem q1734 : (Jvm.Cond.selects "TurningRoadsModel" ({ cls := "TurningRoadsModel", name := "turn", desc := "(I)I" } : Jvm.MethodName) ({ cls := "TurningRoadsModel", name := "turn", desc := "(I)I" } : Jvm.MethodName)) ∈ lw_all := lw_g (lw_at lw_m7 152 rfl) rfl
theorem q1735 : (Jvm.Cond.code ({ cls := "TurningRoadsModel", name := "turn", desc := "(I)I" } : Jvm.MethodName) prog_19_method_60_code (3 : Nat) (Option.some Jvm.ClassFile.FieldType.int)) ∈ lw_all := lw_g (lw_at lw_m7 153 rfl) rfl
theorem q1736 : (Jvm.Cond.methodLink "TurningRoadsModel" (323 : Nat) ({ cls := "TurningRoadsModel", name := "isAnyOnWay", desc := "()Z" } : Jvm.MethodName)) ∈ lw_all := lw_g (lw_at lw_m7 154 rfl) rfl
theorem q1737 : (Jvm.Cond.privateMethod ({ cls := "TurningRoadsModel", name := "isAnyOnWay", desc := "()Z" } : Jvm.MethodName)) ∈ lw_tbl := lw_at lw_m7 155 rfl
theorem q1738 : (Jvm.Cond.instanceMethod ({ cls := "TurningRoadsModel", name := "isAnyOnWay", desc := "()Z" } : Jvm.MethodName)) ∈ lw_all := lw_g (lw_at lw_m7 156 rfl) rfl
theorem q1739 : (Jvm.Cond.code ({ cls := "TurningRoadsModel", name := "isAnyOnWay", desc := "()Z" } : Jvm.MethodName) prog_19_method_48_code (2 : Nat) (Option.some Jvm.ClassFile.FieldType.boolean)) ∈ lw_all := lw_g (lw_at lw_m7 157 rfl) rfl
theorem q1741 : (Jvm.Cond.instanceMethod ({ cls := "TurningRoadsModel", name := "fewest", desc := "(I)I" } : Jvm.MethodName)) ∈ lw_all := lw_g (lw_at lw_m7 159 rfl) rfl
theorem q1742 : (Jvm.Cond.selects "TurningRoadsModel" ({ cls := "TurningRoadsModel", name := "fewest", desc := "(I)I" } : Jvm.MethodName) ({ cls := "TurningRoadsModel", name := "fewest", desc := "(I)I" } : Jvm.MethodName)) ∈ lw_all := lw_g (lw_at lw_m7 160 rfl) rfl
theorem q1743 : (Jvm.Cond.code ({ cls := "TurningRoadsModel", name := "fewest", desc := "(I)I" } : Jvm.MethodName) prog_19_method_72_code (3 : Nat) (Option.some Jvm.ClassFile.FieldType.int)) ∈ lw_all := lw_g (lw_at lw_m7 161 rfl) rfl
theorem q1744 : (Jvm.Cond.methodLink "TurningRoadsModel" (350 : Nat) ({ cls := "TurningRoadsModel", name := "areGoers", desc := "(I)Z" } : Jvm.MethodName)) ∈ lw_all := lw_g (lw_at lw_m7 162 rfl) rfl
theorem q1745 : (Jvm.Cond.privateMethod ({ cls := "TurningRoadsModel", name := "areGoers", desc := "(I)Z" } : Jvm.MethodName)) ∈ lw_tbl := lw_at lw_m7 163 rfl
theorem q1746 : (Jvm.Cond.instanceMethod ({ cls := "TurningRoadsModel", name := "areGoers", desc := "(I)Z" } : Jvm.MethodName)) ∈ lw_all := lw_g (lw_at lw_m7 164 rfl) rfl
theorem q1747 : (Jvm.Cond.code ({ cls := "TurningRoadsModel", name := "areGoers", desc := "(I)Z" } : Jvm.MethodName) prog_19_method_63_code (3 : Nat) (Option.some Jvm.ClassFile.FieldType.boolean)) ∈ lw_all := lw_g (lw_at lw_m7 165 rfl) rfl
theorem q1748 : (Jvm.Cond.methodLink "TurningRoadsModel" (326 : Nat) ({ cls := "TurningRoadsModel", name := "bits", desc := "(I)I" } : Jvm.MethodName)) ∈ lw_all := lw_g (lw_at lw_m7 166 rfl) rfl
theorem q1749 : (Jvm.Cond.static ({ cls := "TurningRoadsModel", name := "bits", desc := "(I)I" } : Jvm.MethodName)) ∈ lw_all := lw_g (lw_at lw_m7 167 rfl) rfl
theorem q1750 : (Jvm.Cond.code ({ cls := "TurningRoadsModel", name := "bits", desc := "(I)I" } : Jvm.MethodName) prog_19_method_61_code (3 : Nat) (Option.some Jvm.ClassFile.FieldType.int)) ∈ lw_all := lw_g (lw_at lw_m7 168 rfl) rfl
theorem q1751 : (Jvm.Cond.methodLink "TurningRoadsModel" (329 : Nat) ({ cls := "TurningRoadsModel", name := "fits", desc := "(I)Z" } : Jvm.MethodName)) ∈ lw_all := lw_g (lw_at lw_m7 169 rfl) rfl
theorem q1752 : (Jvm.Cond.privateMethod ({ cls := "TurningRoadsModel", name := "fits", desc := "(I)Z" } : Jvm.MethodName)) ∈ lw_tbl := lw_at lw_m7 170 rfl
theorem q1753 : (Jvm.Cond.instanceMethod ({ cls := "TurningRoadsModel", name := "fits", desc := "(I)Z" } : Jvm.MethodName)) ∈ lw_all := lw_g (lw_at lw_m7 171 rfl) rfl
theorem q1754 : (Jvm.Cond.code ({ cls := "TurningRoadsModel", name := "fits", desc := "(I)Z" } : Jvm.MethodName) prog_19_method_62_code (2 : Nat) (Option.some Jvm.ClassFile.FieldType.boolean)) ∈ lw_all := lw_g (lw_at lw_m7 172 rfl) rfl
theorem q1755 : (Jvm.Cond.methodLink "TurningRoadsModel" (353 : Nat) ({ cls := "TurningRoadsModel", name := "begins", desc := "(I)V" } : Jvm.MethodName)) ∈ lw_all := lw_g (lw_at lw_m7 173 rfl) rfl
theorem q1756 : (Jvm.Cond.privateMethod ({ cls := "TurningRoadsModel", name := "begins", desc := "(I)V" } : Jvm.MethodName)) ∈ lw_tbl := lw_at lw_m7 174 rfl
theorem q1757 : (Jvm.Cond.instanceMethod ({ cls := "TurningRoadsModel", name := "begins", desc := "(I)V" } : Jvm.MethodName)) ∈ lw_all := lw_g (lw_at lw_m7 175 rfl) rfl
theorem q1758 : (Jvm.Cond.code ({ cls := "TurningRoadsModel", name := "begins", desc := "(I)V" } : Jvm.MethodName) prog_19_method_65_code (3 : Nat) (Option.none : Option Jvm.ClassFile.FieldType)) ∈ lw_all := lw_g (lw_at lw_m7 176 rfl) rfl
theorem q1759 : (Jvm.Cond.methodLink "TurningRoadsModel" (356 : Nat) ({ cls := "TurningRoadsModel", name := "searches", desc := "(ZI)I" } : Jvm.MethodName)) ∈ lw_all := lw_g (lw_at lw_m7 177 rfl) rfl
theorem q1760 : (Jvm.Cond.privateMethod ({ cls := "TurningRoadsModel", name := "searches", desc := "(ZI)I" } : Jvm.MethodName)) ∈ lw_tbl := lw_at lw_m7 178 rfl
theorem q1761 : (Jvm.Cond.instanceMethod ({ cls := "TurningRoadsModel", name := "searches", desc := "(ZI)I" } : Jvm.MethodName)) ∈ lw_all := lw_g (lw_at lw_m7 179 rfl) rfl
theorem q1762 : (Jvm.Cond.code ({ cls := "TurningRoadsModel", name := "searches", desc := "(ZI)I" } : Jvm.MethodName) prog_19_method_70_code (9 : Nat) (Option.some Jvm.ClassFile.FieldType.int)) ∈ lw_all := lw_g (lw_at lw_m7 180 rfl) rfl
theorem q1763 : (Jvm.Cond.methodLink "TurningRoadsModel" (341 : Nat) ({ cls := "TurningRoadsModel", name := "begun", desc := "()I" } : Jvm.MethodName)) ∈ lw_all := lw_g (lw_at lw_m7 181 rfl) rfl
theorem q1764 : (Jvm.Cond.privateMethod ({ cls := "TurningRoadsModel", name := "begun", desc := "()I" } : Jvm.MethodName)) ∈ lw_tbl := lw_at lw_m7 182 rfl
theorem q1765 : (Jvm.Cond.instanceMethod ({ cls := "TurningRoadsModel", name := "begun", desc := "()I" } : Jvm.MethodName)) ∈ lw_all := lw_g (lw_at lw_m7 183 rfl) rfl
theorem q1766 : (Jvm.Cond.code ({ cls := "TurningRoadsModel", name := "begun", desc := "()I" } : Jvm.MethodName) prog_19_method_68_code (3 : Nat) (Option.some Jvm.ClassFile.FieldType.int)) ∈ lw_all := lw_g (lw_at lw_m7 184 rfl) rfl
theorem q1767 : (Jvm.Cond.methodLink "TurningRoadsModel" (344 : Nat) ({ cls := "TurningRoadsModel", name := "meets", desc := "(II)V" } : Jvm.MethodName)) ∈ lw_all := lw_g (lw_at lw_m7 185 rfl) rfl
theorem q1768 : (Jvm.Cond.privateMethod ({ cls := "TurningRoadsModel", name := "meets", desc := "(II)V" } : Jvm.MethodName)) ∈ lw_tbl := lw_at lw_m7 186 rfl
theorem q1769 : (Jvm.Cond.instanceMethod ({ cls := "TurningRoadsModel", name := "meets", desc := "(II)V" } : Jvm.MethodName)) ∈ lw_all := lw_g (lw_at lw_m7 187 rfl) rfl
theorem q1770 : (Jvm.Cond.code ({ cls := "TurningRoadsModel", name := "meets", desc := "(II)V" } : Jvm.MethodName) prog_19_method_64_code (3 : Nat) (Option.none : Option Jvm.ClassFile.FieldType)) ∈ lw_all := lw_g (lw_at lw_m7 188 rfl) rfl
theorem q1771 : (Jvm.Cond.methodLink "TurningRoadsModel" (347 : Nat) ({ cls := "TurningRoadsModel", name := "areHome", desc := "(II)Z" } : Jvm.MethodName)) ∈ lw_all := lw_g (lw_at lw_m7 189 rfl) rfl
theorem q1772 : (Jvm.Cond.privateMethod ({ cls := "TurningRoadsModel", name := "areHome", desc := "(II)Z" } : Jvm.MethodName)) ∈ lw_tbl := lw_at lw_m7 190 rfl
theorem q1773 : (Jvm.Cond.instanceMethod ({ cls := "TurningRoadsModel", name := "areHome", desc := "(II)Z" } : Jvm.MethodName)) ∈ lw_all := lw_g (lw_at lw_m7 191 rfl) rfl
theorem q1774 : (Jvm.Cond.code ({ cls := "TurningRoadsModel", name := "areHome", desc := "(II)Z" } : Jvm.MethodName) prog_19_method_69_code (4 : Nat) (Option.some Jvm.ClassFile.FieldType.boolean)) ∈ lw_all := lw_g (lw_at lw_m7 192 rfl) rfl
theorem q1775 : (Jvm.Cond.methodLink "TurningRoadsModel" (338 : Nat) ({ cls := "TurningRoadsModel", name := "placeIn", desc := "(II)I" } : Jvm.MethodName)) ∈ lw_all := lw_g (lw_at lw_m7 193 rfl) rfl
theorem q1776 : (Jvm.Cond.privateMethod ({ cls := "TurningRoadsModel", name := "placeIn", desc := "(II)I" } : Jvm.MethodName)) ∈ lw_tbl := lw_at lw_m7 194 rfl
theorem q1777 : (Jvm.Cond.instanceMethod ({ cls := "TurningRoadsModel", name := "placeIn", desc := "(II)I" } : Jvm.MethodName)) ∈ lw_all := lw_g (lw_at lw_m7 195 rfl) rfl
theorem q1778 : (Jvm.Cond.code ({ cls := "TurningRoadsModel", name := "placeIn", desc := "(II)I" } : Jvm.MethodName) prog_19_method_66_code (3 : Nat) (Option.some Jvm.ClassFile.FieldType.int)) ∈ lw_all := lw_g (lw_at lw_m7 196 rfl) rfl
theorem q1779 : (Jvm.Cond.methodLink "TurningRoadsModel" (360 : Nat) ({ cls := "TurningRoadsModel", name := "lengthTo", desc := "(I)I" } : Jvm.MethodName)) ∈ lw_all := lw_g (lw_at lw_m7 197 rfl) rfl
theorem q1780 : (Jvm.Cond.privateMethod ({ cls := "TurningRoadsModel", name := "lengthTo", desc := "(I)I" } : Jvm.MethodName)) ∈ lw_tbl := lw_at lw_m7 198 rfl
theorem q1781 : (Jvm.Cond.instanceMethod ({ cls := "TurningRoadsModel", name := "lengthTo", desc := "(I)I" } : Jvm.MethodName)) ∈ lw_all := lw_g (lw_at lw_m7 199 rfl) rfl
theorem q1782 : (Jvm.Cond.code ({ cls := "TurningRoadsModel", name := "lengthTo", desc := "(I)I" } : Jvm.MethodName) prog_19_method_71_code (4 : Nat) (Option.some Jvm.ClassFile.FieldType.int)) ∈ lw_all := lw_g (lw_at lw_m7 200 rfl) rfl
theorem q1784 : (Jvm.Cond.instanceMethod ({ cls := "TurningRoadsModel", name := "step", desc := "(II)I" } : Jvm.MethodName)) ∈ lw_all := lw_g (lw_at lw_m7 202 rfl) rfl
theorem q1785 : (Jvm.Cond.selects "TurningRoadsModel" ({ cls := "TurningRoadsModel", name := "step", desc := "(II)I" } : Jvm.MethodName) ({ cls := "TurningRoadsModel", name := "step", desc := "(II)I" } : Jvm.MethodName)) ∈ lw_all := lw_g (lw_at lw_m7 203 rfl) rfl
theorem q1786 : (Jvm.Cond.code ({ cls := "TurningRoadsModel", name := "step", desc := "(II)I" } : Jvm.MethodName) prog_19_method_73_code (9 : Nat) (Option.some Jvm.ClassFile.FieldType.int)) ∈ lw_all := lw_g (lw_at lw_m7 204 rfl) rfl
theorem q1787 : (Jvm.Cond.constantLong "TurningRoadsModel" (363 : Nat) (999 : Int64)) ∈ lw_all := lw_g (lw_at lw_m7 205 rfl) rfl
theorem q1789 : (Jvm.Cond.instanceMethod ({ cls := "TurningRoadsModel", name := "comes", desc := "(II)I" } : Jvm.MethodName)) ∈ lw_all := lw_g (lw_at lw_m7 207 rfl) rfl
theorem q1790 : (Jvm.Cond.selects "TurningRoadsModel" ({ cls := "TurningRoadsModel", name := "comes", desc := "(II)I" } : Jvm.MethodName) ({ cls := "TurningRoadsModel", name := "comes", desc := "(II)I" } : Jvm.MethodName)) ∈ lw_all := lw_g (lw_at lw_m7 208 rfl) rfl
theorem q1791 : (Jvm.Cond.code ({ cls := "TurningRoadsModel", name := "comes", desc := "(II)I" } : Jvm.MethodName) prog_19_method_74_code (3 : Nat) (Option.some Jvm.ClassFile.FieldType.int)) ∈ lw_all := lw_g (lw_at lw_m7 209 rfl) rfl
theorem q1793 : (Jvm.Cond.instanceMethod ({ cls := "TurningRoadsModel", name := "closed", desc := "(II)I" } : Jvm.MethodName)) ∈ lw_all := lw_g (lw_at lw_m7 211 rfl) rfl
theorem q1794 : (Jvm.Cond.selects "TurningRoadsModel" ({ cls := "TurningRoadsModel", name := "closed", desc := "(II)I" } : Jvm.MethodName) ({ cls := "TurningRoadsModel", name := "closed", desc := "(II)I" } : Jvm.MethodName)) ∈ lw_all := lw_g (lw_at lw_m7 212 rfl) rfl
theorem q1795 : (Jvm.Cond.code ({ cls := "TurningRoadsModel", name := "closed", desc := "(II)I" } : Jvm.MethodName) prog_19_method_76_code (6 : Nat) (Option.some Jvm.ClassFile.FieldType.int)) ∈ lw_all := lw_g (lw_at lw_m7 213 rfl) rfl
theorem q1796 : (Jvm.Cond.methodLink "TurningRoadsModel" (365 : Nat) ({ cls := "TurningRoadsModel", name := "hasSums", desc := "(I)Z" } : Jvm.MethodName)) ∈ lw_all := lw_g (lw_at lw_m7 214 rfl) rfl
theorem q1797 : (Jvm.Cond.privateMethod ({ cls := "TurningRoadsModel", name := "hasSums", desc := "(I)Z" } : Jvm.MethodName)) ∈ lw_tbl := lw_at lw_m7 215 rfl
theorem q1798 : (Jvm.Cond.instanceMethod ({ cls := "TurningRoadsModel", name := "hasSums", desc := "(I)Z" } : Jvm.MethodName)) ∈ lw_all := lw_g (lw_at lw_m7 216 rfl) rfl
theorem q1799 : (Jvm.Cond.code ({ cls := "TurningRoadsModel", name := "hasSums", desc := "(I)Z" } : Jvm.MethodName) prog_19_method_75_code (7 : Nat) (Option.some Jvm.ClassFile.FieldType.boolean)) ∈ lw_all := lw_g (lw_at lw_m7 217 rfl) rfl
theorem q1801 : (Jvm.Cond.instanceMethod ({ cls := "TurningRoadsModel", name := "alike", desc := "()I" } : Jvm.MethodName)) ∈ lw_all := lw_g (lw_at lw_m7 219 rfl) rfl
theorem q1802 : (Jvm.Cond.selects "TurningRoadsModel" ({ cls := "TurningRoadsModel", name := "alike", desc := "()I" } : Jvm.MethodName) ({ cls := "TurningRoadsModel", name := "alike", desc := "()I" } : Jvm.MethodName)) ∈ lw_all := lw_g (lw_at lw_m7 220 rfl) rfl
theorem q1803 : (Jvm.Cond.code ({ cls := "TurningRoadsModel", name := "alike", desc := "()I" } : Jvm.MethodName) prog_19_method_77_code (5 : Nat) (Option.some Jvm.ClassFile.FieldType.int)) ∈ lw_all := lw_g (lw_at lw_m7 221 rfl) rfl
theorem q1805 : (Jvm.Cond.instanceMethod ({ cls := "TurningRoadsModel", name := "decoys", desc := "(I)I" } : Jvm.MethodName)) ∈ lw_all := lw_g (lw_at lw_m7 223 rfl) rfl
theorem q1806 : (Jvm.Cond.selects "TurningRoadsModel" ({ cls := "TurningRoadsModel", name := "decoys", desc := "(I)I" } : Jvm.MethodName) ({ cls := "TurningRoadsModel", name := "decoys", desc := "(I)I" } : Jvm.MethodName)) ∈ lw_all := lw_g (lw_at lw_m7 224 rfl) rfl
theorem q1807 : (Jvm.Cond.code ({ cls := "TurningRoadsModel", name := "decoys", desc := "(I)I" } : Jvm.MethodName) prog_19_method_78_code (5 : Nat) (Option.some Jvm.ClassFile.FieldType.int)) ∈ lw_all := lw_g (lw_at lw_m7 225 rfl) rfl
theorem q1809 : (Jvm.Cond.instanceMethod ({ cls := "TurningRoadsModel", name := "post", desc := "(IIZ)I" } : Jvm.MethodName)) ∈ lw_all := lw_g (lw_at lw_m7 227 rfl) rfl
theorem q1810 : (Jvm.Cond.selects "TurningRoadsModel" ({ cls := "TurningRoadsModel", name := "post", desc := "(IIZ)I" } : Jvm.MethodName) ({ cls := "TurningRoadsModel", name := "post", desc := "(IIZ)I" } : Jvm.MethodName)) ∈ lw_all := lw_g (lw_at lw_m7 228 rfl) rfl
theorem q1811 : (Jvm.Cond.code ({ cls := "TurningRoadsModel", name := "post", desc := "(IIZ)I" } : Jvm.MethodName) prog_19_method_79_code (10 : Nat) (Option.some Jvm.ClassFile.FieldType.int)) ∈ lw_all := lw_g (lw_at lw_m7 229 rfl) rfl
theorem q1812 : (Jvm.Cond.constantLong "TurningRoadsModel" (368 : Nat) (255 : Int64)) ∈ lw_all := lw_g (lw_at lw_m7 230 rfl) rfl
theorem q1814 : (Jvm.Cond.instanceMethod ({ cls := "TurningRoadsModel", name := "longest", desc := "(III)I" } : Jvm.MethodName)) ∈ lw_all := lw_g (lw_at lw_m7 232 rfl) rfl
theorem q1815 : (Jvm.Cond.selects "TurningRoadsModel" ({ cls := "TurningRoadsModel", name := "longest", desc := "(III)I" } : Jvm.MethodName) ({ cls := "TurningRoadsModel", name := "longest", desc := "(III)I" } : Jvm.MethodName)) ∈ lw_all := lw_g (lw_at lw_m7 233 rfl) rfl
theorem q1816 : (Jvm.Cond.code ({ cls := "TurningRoadsModel", name := "longest", desc := "(III)I" } : Jvm.MethodName) prog_19_method_83_code (5 : Nat) (Option.some Jvm.ClassFile.FieldType.int)) ∈ lw_all := lw_g (lw_at lw_m7 234 rfl) rfl
theorem q1817 : (Jvm.Cond.methodLink "TurningRoadsModel" (379 : Nat) ({ cls := "TurningRoadsModel", name := "canTake", desc := "(I)Z" } : Jvm.MethodName)) ∈ lw_all := lw_g (lw_at lw_m7 235 rfl) rfl
theorem q1818 : (Jvm.Cond.privateMethod ({ cls := "TurningRoadsModel", name := "canTake", desc := "(I)Z" } : Jvm.MethodName)) ∈ lw_tbl := lw_at lw_m7 236 rfl
theorem q1819 : (Jvm.Cond.instanceMethod ({ cls := "TurningRoadsModel", name := "canTake", desc := "(I)Z" } : Jvm.MethodName)) ∈ lw_all := lw_g (lw_at lw_m7 237 rfl) rfl
theorem q1820 : (Jvm.Cond.code ({ cls := "TurningRoadsModel", name := "canTake", desc := "(I)Z" } : Jvm.MethodName) prog_19_method_80_code (2 : Nat) (Option.some Jvm.ClassFile.FieldType.boolean)) ∈ lw_all := lw_g (lw_at lw_m7 238 rfl) rfl
theorem q1821 : (Jvm.Cond.constantLong "TurningRoadsModel" (382 : Nat) (2000 : Int64)) ∈ lw_all := lw_g (lw_at lw_m7 239 rfl) rfl
theorem q1822 : (Jvm.Cond.constantLong "TurningRoadsModel" (384 : Nat) (2 : Int64)) ∈ lw_all := lw_g (lw_at lw_m8 0 rfl) rfl
theorem q1823 : (Jvm.Cond.methodLink "TurningRoadsModel" (386 : Nat) ({ cls := "TurningRoadsModel", name := "takesBegin", desc := "(I)V" } : Jvm.MethodName)) ∈ lw_all := lw_g (lw_at lw_m8 1 rfl) rfl
theorem q1824 : (Jvm.Cond.privateMethod ({ cls := "TurningRoadsModel", name := "takesBegin", desc := "(I)V" } : Jvm.MethodName)) ∈ lw_tbl := lw_at lw_m8 2 rfl
theorem q1825 : (Jvm.Cond.instanceMethod ({ cls := "TurningRoadsModel", name := "takesBegin", desc := "(I)V" } : Jvm.MethodName)) ∈ lw_all := lw_g (lw_at lw_m8 3 rfl) rfl
theorem q1826 : (Jvm.Cond.code ({ cls := "TurningRoadsModel", name := "takesBegin", desc := "(I)V" } : Jvm.MethodName) prog_19_method_81_code (3 : Nat) (Option.none : Option Jvm.ClassFile.FieldType)) ∈ lw_all := lw_g (lw_at lw_m8 4 rfl) rfl
theorem q1827 : (Jvm.Cond.methodLink "TurningRoadsModel" (389 : Nat) ({ cls := "TurningRoadsModel", name := "stepsOn", desc := "()Z" } : Jvm.MethodName)) ∈ lw_all := lw_g (lw_at lw_m8 5 rfl) rfl
theorem q1828 : (Jvm.Cond.privateMethod ({ cls := "TurningRoadsModel", name := "stepsOn", desc := "()Z" } : Jvm.MethodName)) ∈ lw_tbl := lw_at lw_m8 6 rfl
theorem q1829 : (Jvm.Cond.instanceMethod ({ cls := "TurningRoadsModel", name := "stepsOn", desc := "()Z" } : Jvm.MethodName)) ∈ lw_all := lw_g (lw_at lw_m8 7 rfl) rfl
theorem q1830 : (Jvm.Cond.code ({ cls := "TurningRoadsModel", name := "stepsOn", desc := "()Z" } : Jvm.MethodName) prog_19_method_82_code (3 : Nat) (Option.some Jvm.ClassFile.FieldType.boolean)) ∈ lw_all := lw_g (lw_at lw_m8 8 rfl) rfl
theorem q1832 : (Jvm.Cond.instanceMethod ({ cls := "TurningRoadsModel", name := "covers", desc := "(I)I" } : Jvm.MethodName)) ∈ lw_all := lw_g (lw_at lw_m8 10 rfl) rfl
theorem q1833 : (Jvm.Cond.selects "TurningRoadsModel" ({ cls := "TurningRoadsModel", name := "covers", desc := "(I)I" } : Jvm.MethodName) ({ cls := "TurningRoadsModel", name := "covers", desc := "(I)I" } : Jvm.MethodName)) ∈ lw_all := lw_g (lw_at lw_m8 11 rfl) rfl
theorem q1834 : (Jvm.Cond.code ({ cls := "TurningRoadsModel", name := "covers", desc := "(I)I" } : Jvm.MethodName) prog_19_method_85_code (3 : Nat) (Option.some Jvm.ClassFile.FieldType.int)) ∈ lw_all := lw_g (lw_at lw_m8 12 rfl) rfl
theorem q1835 : (Jvm.Cond.methodLink "TurningRoadsModel" (392 : Nat) ({ cls := "TurningRoadsModel", name := "haveAllBeen", desc := "()Z" } : Jvm.MethodName)) ∈ lw_all := lw_g (lw_at lw_m8 13 rfl) rfl
theorem q1836 : (Jvm.Cond.privateMethod ({ cls := "TurningRoadsModel", name := "haveAllBeen", desc := "()Z" } : Jvm.MethodName)) ∈ lw_tbl := lw_at lw_m8 14 rfl
theorem q1837 : (Jvm.Cond.instanceMethod ({ cls := "TurningRoadsModel", name := "haveAllBeen", desc := "()Z" } : Jvm.MethodName)) ∈ lw_all := lw_g (lw_at lw_m8 15 rfl) rfl
theorem q1838 : (Jvm.Cond.code ({ cls := "TurningRoadsModel", name := "haveAllBeen", desc := "()Z" } : Jvm.MethodName) prog_19_method_84_code (2 : Nat) (Option.some Jvm.ClassFile.FieldType.boolean)) ∈ lw_all := lw_g (lw_at lw_m8 16 rfl) rfl
theorem q1840 : (Jvm.Cond.instanceMethod ({ cls := "TurningRoadsModel", name := "settles", desc := "(II)I" } : Jvm.MethodName)) ∈ lw_all := lw_g (lw_at lw_m8 18 rfl) rfl
theorem q1841 : (Jvm.Cond.selects "TurningRoadsModel" ({ cls := "TurningRoadsModel", name := "settles", desc := "(II)I" } : Jvm.MethodName) ({ cls := "TurningRoadsModel", name := "settles", desc := "(II)I" } : Jvm.MethodName)) ∈ lw_all := lw_g (lw_at lw_m8 19 rfl) rfl
theorem q1842 : (Jvm.Cond.code ({ cls := "TurningRoadsModel", name := "settles", desc := "(II)I" } : Jvm.MethodName) prog_19_method_87_code (5 : Nat) (Option.some Jvm.ClassFile.FieldType.int)) ∈ lw_all := lw_g (lw_at lw_m8 20 rfl) rfl
theorem q1843 : (Jvm.Cond.methodLink "TurningRoadsModel" (397 : Nat) ({ cls := "TurningRoadsModel", name := "orderOf", desc := "()J" } : Jvm.MethodName)) ∈ lw_all := lw_g (lw_at lw_m8 21 rfl) rfl
theorem q1844 : (Jvm.Cond.privateMethod ({ cls := "TurningRoadsModel", name := "orderOf", desc := "()J" } : Jvm.MethodName)) ∈ lw_tbl := lw_at lw_m8 22 rfl
theorem q1845 : (Jvm.Cond.instanceMethod ({ cls := "TurningRoadsModel", name := "orderOf", desc := "()J" } : Jvm.MethodName)) ∈ lw_all := lw_g (lw_at lw_m8 23 rfl) rfl
theorem q1846 : (Jvm.Cond.code ({ cls := "TurningRoadsModel", name := "orderOf", desc := "()J" } : Jvm.MethodName) prog_19_method_86_code (8 : Nat) (Option.some Jvm.ClassFile.FieldType.long)) ∈ lw_all := lw_g (lw_at lw_m8 24 rfl) rfl
theorem q1847 : (Jvm.Cond.constantLong "TurningRoadsModel" (395 : Nat) (16 : Int64)) ∈ lw_all := lw_g (lw_at lw_m8 25 rfl) rfl
theorem q1849 : (Jvm.Cond.instanceMethod ({ cls := "TurningRoadsModel", name := "row", desc := "(II)I" } : Jvm.MethodName)) ∈ lw_all := lw_g (lw_at lw_m8 27 rfl) rfl
theorem q1850 : (Jvm.Cond.selects "TurningRoadsModel" ({ cls := "TurningRoadsModel", name := "row", desc := "(II)I" } : Jvm.MethodName) ({ cls := "TurningRoadsModel", name := "row", desc := "(II)I" } : Jvm.MethodName)) ∈ lw_all := lw_g (lw_at lw_m8 28 rfl) rfl
theorem q1851 : (Jvm.Cond.code ({ cls := "TurningRoadsModel", name := "row", desc := "(II)I" } : Jvm.MethodName) prog_19_method_88_code (3 : Nat) (Option.some Jvm.ClassFile.FieldType.int)) ∈ lw_all := lw_g (lw_at lw_m8 29 rfl) rfl
theorem q1853 : (Jvm.Cond.instanceMethod ({ cls := "TurningRoadsModel", name := "done", desc := "()I" } : Jvm.MethodName)) ∈ lw_all := lw_g (lw_at lw_m8 31 rfl) rfl
theorem q1854 : (Jvm.Cond.selects "TurningRoadsModel" ({ cls := "TurningRoadsModel", name := "done", desc := "()I" } : Jvm.MethodName) ({ cls := "TurningRoadsModel", name := "done", desc := "()I" } : Jvm.MethodName)) ∈ lw_all := lw_g (lw_at lw_m8 32 rfl) rfl
theorem q1855 : (Jvm.Cond.code ({ cls := "TurningRoadsModel", name := "done", desc := "()I" } : Jvm.MethodName) prog_19_method_92_code (1 : Nat) (Option.some Jvm.ClassFile.FieldType.int)) ∈ lw_all := lw_g (lw_at lw_m8 33 rfl) rfl
theorem q1856 : (Jvm.Cond.methodLink "TurningRoadsModel" (409 : Nat) ({ cls := "TurningRoadsModel", name := "goesTo", desc := "(I)I" } : Jvm.MethodName)) ∈ lw_all := lw_g (lw_at lw_m8 34 rfl) rfl
theorem q1857 : (Jvm.Cond.privateMethod ({ cls := "TurningRoadsModel", name := "goesTo", desc := "(I)I" } : Jvm.MethodName)) ∈ lw_tbl := lw_at lw_m8 35 rfl
theorem q1858 : (Jvm.Cond.instanceMethod ({ cls := "TurningRoadsModel", name := "goesTo", desc := "(I)I" } : Jvm.MethodName)) ∈ lw_all := lw_g (lw_at lw_m8 36 rfl) rfl
theorem q1859 : (Jvm.Cond.code ({ cls := "TurningRoadsModel", name := "goesTo", desc := "(I)I" } : Jvm.MethodName) prog_19_method_91_code (3 : Nat) (Option.some Jvm.ClassFile.FieldType.int)) ∈ lw_all := lw_g (lw_at lw_m8 37 rfl) rfl
theorem q1860 : (Jvm.Cond.methodLink "TurningRoadsModel" (403 : Nat) ({ cls := "TurningRoadsModel", name := "rowBegins", desc := "()V" } : Jvm.MethodName)) ∈ lw_all := lw_g (lw_at lw_m8 38 rfl) rfl
theorem q1861 : (Jvm.Cond.privateMethod ({ cls := "TurningRoadsModel", name := "rowBegins", desc := "()V" } : Jvm.MethodName)) ∈ lw_tbl := lw_at lw_m8 39 rfl
theorem q1862 : (Jvm.Cond.instanceMethod ({ cls := "TurningRoadsModel", name := "rowBegins", desc := "()V" } : Jvm.MethodName)) ∈ lw_all := lw_g (lw_at lw_m8 40 rfl) rfl
theorem q1863 : (Jvm.Cond.code ({ cls := "TurningRoadsModel", name := "rowBegins", desc := "()V" } : Jvm.MethodName) prog_19_method_89_code (2 : Nat) (Option.none : Option Jvm.ClassFile.FieldType)) ∈ lw_all := lw_g (lw_at lw_m8 41 rfl) rfl
theorem q1864 : (Jvm.Cond.methodLink "TurningRoadsModel" (406 : Nat) ({ cls := "TurningRoadsModel", name := "rowGoes", desc := "(I)Z" } : Jvm.MethodName)) ∈ lw_all := lw_g (lw_at lw_m8 42 rfl) rfl
theorem q1865 : (Jvm.Cond.privateMethod ({ cls := "TurningRoadsModel", name := "rowGoes", desc := "(I)Z" } : Jvm.MethodName)) ∈ lw_tbl := lw_at lw_m8 43 rfl
theorem q1866 : (Jvm.Cond.instanceMethod ({ cls := "TurningRoadsModel", name := "rowGoes", desc := "(I)Z" } : Jvm.MethodName)) ∈ lw_all := lw_g (lw_at lw_m8 44 rfl) rfl
theorem q1867 : (Jvm.Cond.code ({ cls := "TurningRoadsModel", name := "rowGoes", desc := "(I)Z" } : Jvm.MethodName) prog_19_method_90_code (4 : Nat) (Option.some Jvm.ClassFile.FieldType.boolean)) ∈ lw_all := lw_g (lw_at lw_m8 45 rfl) rfl
theorem q1869 : (Jvm.Cond.instanceMethod ({ cls := "TurningRoadsModel", name := "free", desc := "(I)I" } : Jvm.MethodName)) ∈ lw_all := lw_g (lw_at lw_m8 47 rfl) rfl
theorem q1870 : (Jvm.Cond.selects "TurningRoadsModel" ({ cls := "TurningRoadsModel", name := "free", desc := "(I)I" } : Jvm.MethodName) ({ cls := "TurningRoadsModel", name := "free", desc := "(I)I" } : Jvm.MethodName)) ∈ lw_all := lw_g (lw_at lw_m8 48 rfl) rfl
theorem q1871 : (Jvm.Cond.code ({ cls := "TurningRoadsModel", name := "free", desc := "(I)I" } : Jvm.MethodName) prog_19_method_94_code (4 : Nat) (Option.some Jvm.ClassFile.FieldType.int)) ∈ lw_all := lw_g (lw_at lw_m8 49 rfl) rfl
theorem q1872 : (Jvm.Cond.methodLink "TurningRoadsModel" (412 : Nat) ({ cls := "TurningRoadsModel", name := "rowState", desc := "()J" } : Jvm.MethodName)) ∈ lw_all := lw_g (lw_at lw_m8 50 rfl) rfl
theorem q1873 : (Jvm.Cond.privateMethod ({ cls := "TurningRoadsModel", name := "rowState", desc := "()J" } : Jvm.MethodName)) ∈ lw_tbl := lw_at lw_m8 51 rfl
theorem q1874 : (Jvm.Cond.instanceMethod ({ cls := "TurningRoadsModel", name := "rowState", desc := "()J" } : Jvm.MethodName)) ∈ lw_all := lw_g (lw_at lw_m8 52 rfl) rfl
theorem q1875 : (Jvm.Cond.code ({ cls := "TurningRoadsModel", name := "rowState", desc := "()J" } : Jvm.MethodName) prog_19_method_93_code (4 : Nat) (Option.some Jvm.ClassFile.FieldType.long)) ∈ lw_all := lw_g (lw_at lw_m8 53 rfl) rfl
theorem q1877 : (Jvm.Cond.instanceMethod ({ cls := "TurningRoadsModel", name := "tick", desc := "(II)I" } : Jvm.MethodName)) ∈ lw_all := lw_g (lw_at lw_m8 55 rfl) rfl
theorem q1878 : (Jvm.Cond.selects "TurningRoadsModel" ({ cls := "TurningRoadsModel", name := "tick", desc := "(II)I" } : Jvm.MethodName) ({ cls := "TurningRoadsModel", name := "tick", desc := "(II)I" } : Jvm.MethodName)) ∈ lw_all := lw_g (lw_at lw_m8 56 rfl) rfl
theorem q1879 : (Jvm.Cond.code ({ cls := "TurningRoadsModel", name := "tick", desc := "(II)I" } : Jvm.MethodName) prog_19_method_100_code (3 : Nat) (Option.some Jvm.ClassFile.FieldType.int)) ∈ lw_all := lw_g (lw_at lw_m8 57 rfl) rfl
theorem q1880 : (Jvm.Cond.methodLink "TurningRoadsModel" (432 : Nat) ({ cls := "TurningRoadsModel", name := "isRule", desc := "(I)Z" } : Jvm.MethodName)) ∈ lw_all := lw_g (lw_at lw_m8 58 rfl) rfl
theorem q1881 : (Jvm.Cond.privateMethod ({ cls := "TurningRoadsModel", name := "isRule", desc := "(I)Z" } : Jvm.MethodName)) ∈ lw_tbl := lw_at lw_m8 59 rfl
theorem q1882 : (Jvm.Cond.instanceMethod ({ cls := "TurningRoadsModel", name := "isRule", desc := "(I)Z" } : Jvm.MethodName)) ∈ lw_all := lw_g (lw_at lw_m8 60 rfl) rfl
theorem q1883 : (Jvm.Cond.code ({ cls := "TurningRoadsModel", name := "isRule", desc := "(I)Z" } : Jvm.MethodName) prog_19_method_35_code (2 : Nat) (Option.some Jvm.ClassFile.FieldType.boolean)) ∈ lw_all := lw_g (lw_at lw_m8 61 rfl) rfl
theorem q1884 : (Jvm.Cond.constantLong "TurningRoadsModel" (435 : Nat) (600 : Int64)) ∈ lw_all := lw_g (lw_at lw_m8 62 rfl) rfl
theorem q1885 : (Jvm.Cond.methodLink "TurningRoadsModel" (437 : Nat) ({ cls := "TurningRoadsModel", name := "minutes", desc := "(II)V" } : Jvm.MethodName)) ∈ lw_all := lw_g (lw_at lw_m8 63 rfl) rfl
theorem q1886 : (Jvm.Cond.privateMethod ({ cls := "TurningRoadsModel", name := "minutes", desc := "(II)V" } : Jvm.MethodName)) ∈ lw_tbl := lw_at lw_m8 64 rfl
theorem q1887 : (Jvm.Cond.instanceMethod ({ cls := "TurningRoadsModel", name := "minutes", desc := "(II)V" } : Jvm.MethodName)) ∈ lw_all := lw_g (lw_at lw_m8 65 rfl) rfl
theorem q1888 : (Jvm.Cond.code ({ cls := "TurningRoadsModel", name := "minutes", desc := "(II)V" } : Jvm.MethodName) prog_19_method_99_code (4 : Nat) (Option.none : Option Jvm.ClassFile.FieldType)) ∈ lw_all := lw_g (lw_at lw_m8 66 rfl) rfl
theorem q1889 : (Jvm.Cond.methodLink "TurningRoadsModel" (429 : Nat) ({ cls := "TurningRoadsModel", name := "minute", desc := "(I)V" } : Jvm.MethodName)) ∈ lw_all := lw_g (lw_at lw_m8 67 rfl) rfl
theorem q1890 : (Jvm.Cond.privateMethod ({ cls := "TurningRoadsModel", name := "minute", desc := "(I)V" } : Jvm.MethodName)) ∈ lw_tbl := lw_at lw_m8 68 rfl
theorem q1891 : (Jvm.Cond.instanceMethod ({ cls := "TurningRoadsModel", name := "minute", desc := "(I)V" } : Jvm.MethodName)) ∈ lw_all := lw_g (lw_at lw_m8 69 rfl) rfl
theorem q1892 : (Jvm.Cond.code ({ cls := "TurningRoadsModel", name := "minute", desc := "(I)V" } : Jvm.MethodName) prog_19_method_98_code (4 : Nat) (Option.none : Option Jvm.ClassFile.FieldType)) ∈ lw_all := lw_g (lw_at lw_m8 70 rfl) rfl
theorem q1893 : (Jvm.Cond.methodLink "TurningRoadsModel" (426 : Nat) ({ cls := "TurningRoadsModel", name := "leaves", desc := "(II)V" } : Jvm.MethodName)) ∈ lw_all := lw_g (lw_at lw_m8 71 rfl) rfl
theorem q1894 : (Jvm.Cond.privateMethod ({ cls := "TurningRoadsModel", name := "leaves", desc := "(II)V" } : Jvm.MethodName)) ∈ lw_tbl := lw_at lw_m8 72 rfl
theorem q1895 : (Jvm.Cond.instanceMethod ({ cls := "TurningRoadsModel", name := "leaves", desc := "(II)V" } : Jvm.MethodName)) ∈ lw_all := lw_g (lw_at lw_m8 73 rfl) rfl
theorem q1896 : (Jvm.Cond.code ({ cls := "TurningRoadsModel", name := "leaves", desc := "(II)V" } : Jvm.MethodName) prog_19_method_97_code (11 : Nat) (Option.none : Option Jvm.ClassFile.FieldType)) ∈ lw_all := lw_g (lw_at lw_m8 74 rfl) rfl
theorem q1897 : (Jvm.Cond.methodLink "TurningRoadsModel" (417 : Nat) ({ cls := "TurningRoadsModel", name := "clearWords", desc := "(I)V" } : Jvm.MethodName)) ∈ lw_all := lw_g (lw_at lw_m8 75 rfl) rfl
theorem q1898 : (Jvm.Cond.privateMethod ({ cls := "TurningRoadsModel", name := "clearWords", desc := "(I)V" } : Jvm.MethodName)) ∈ lw_tbl := lw_at lw_m8 76 rfl
theorem q1899 : (Jvm.Cond.instanceMethod ({ cls := "TurningRoadsModel", name := "clearWords", desc := "(I)V" } : Jvm.MethodName)) ∈ lw_all := lw_g (lw_at lw_m8 77 rfl) rfl
theorem q1900 : (Jvm.Cond.code ({ cls := "TurningRoadsModel", name := "clearWords", desc := "(I)V" } : Jvm.MethodName) prog_19_method_95_code (3 : Nat) (Option.none : Option Jvm.ClassFile.FieldType)) ∈ lw_all := lw_g (lw_at lw_m8 78 rfl) rfl
theorem q1901 : (Jvm.Cond.methodLink "TurningRoadsModel" (420 : Nat) ({ cls := "TurningRoadsModel", name := "placeWords", desc := "(II)V" } : Jvm.MethodName)) ∈ lw_all := lw_g (lw_at lw_m8 79 rfl) rfl
theorem q1902 : (Jvm.Cond.privateMethod ({ cls := "TurningRoadsModel", name := "placeWords", desc := "(II)V" } : Jvm.MethodName)) ∈ lw_tbl := lw_at lw_m8 80 rfl
theorem q1903 : (Jvm.Cond.instanceMethod ({ cls := "TurningRoadsModel", name := "placeWords", desc := "(II)V" } : Jvm.MethodName)) ∈ lw_all := lw_g (lw_at lw_m8 81 rfl) rfl
theorem q1904 : (Jvm.Cond.code ({ cls := "TurningRoadsModel", name := "placeWords", desc := "(II)V" } : Jvm.MethodName) prog_19_method_96_code (4 : Nat) (Option.none : Option Jvm.ClassFile.FieldType)) ∈ lw_all := lw_g (lw_at lw_m8 82 rfl) rfl
theorem q1905 : (Jvm.Cond.constantLong "TurningRoadsModel" (415 : Nat) (99 : Int64)) ∈ lw_all := lw_g (lw_at lw_m8 83 rfl) rfl
theorem q1906 : (Jvm.Cond.methodLink "TurningRoadsModel" (423 : Nat) ({ cls := "TurningRoadsModel", name := "clauseThat", desc := "(II)I" } : Jvm.MethodName)) ∈ lw_all := lw_g (lw_at lw_m8 84 rfl) rfl
theorem q1907 : (Jvm.Cond.privateMethod ({ cls := "TurningRoadsModel", name := "clauseThat", desc := "(II)I" } : Jvm.MethodName)) ∈ lw_tbl := lw_at lw_m8 85 rfl
theorem q1908 : (Jvm.Cond.instanceMethod ({ cls := "TurningRoadsModel", name := "clauseThat", desc := "(II)I" } : Jvm.MethodName)) ∈ lw_all := lw_g (lw_at lw_m8 86 rfl) rfl
theorem q1909 : (Jvm.Cond.code ({ cls := "TurningRoadsModel", name := "clauseThat", desc := "(II)I" } : Jvm.MethodName) prog_19_method_40_code (5 : Nat) (Option.some Jvm.ClassFile.FieldType.int)) ∈ lw_all := lw_g (lw_at lw_m8 87 rfl) rfl
theorem q1910 : (Jvm.Cond.methodLink "TurningRoadsModel" (271 : Nat) ({ cls := "TurningRoadsModel", name := "reckons", desc := "(III)J" } : Jvm.MethodName)) ∈ lw_all := lw_g (lw_at lw_m8 88 rfl) rfl
theorem q1911 : (Jvm.Cond.privateMethod ({ cls := "TurningRoadsModel", name := "reckons", desc := "(III)J" } : Jvm.MethodName)) ∈ lw_tbl := lw_at lw_m8 89 rfl
theorem q1912 : (Jvm.Cond.instanceMethod ({ cls := "TurningRoadsModel", name := "reckons", desc := "(III)J" } : Jvm.MethodName)) ∈ lw_all := lw_g (lw_at lw_m8 90 rfl) rfl
theorem q1913 : (Jvm.Cond.code ({ cls := "TurningRoadsModel", name := "reckons", desc := "(III)J" } : Jvm.MethodName) prog_19_method_39_code (11 : Nat) (Option.some Jvm.ClassFile.FieldType.long)) ∈ lw_all := lw_g (lw_at lw_m8 91 rfl) rfl
theorem q1914 : (Jvm.Cond.methodLink "TurningRoadsModel" (259 : Nat) ({ cls := "TurningRoadsModel", name := "push", desc := "(J)V" } : Jvm.MethodName)) ∈ lw_all := lw_g (lw_at lw_m8 92 rfl) rfl
theorem q1915 : (Jvm.Cond.privateMethod ({ cls := "TurningRoadsModel", name := "push", desc := "(J)V" } : Jvm.MethodName)) ∈ lw_tbl := lw_at lw_m8 93 rfl
theorem q1916 : (Jvm.Cond.instanceMethod ({ cls := "TurningRoadsModel", name := "push", desc := "(J)V" } : Jvm.MethodName)) ∈ lw_all := lw_g (lw_at lw_m8 94 rfl) rfl
theorem q1917 : (Jvm.Cond.code ({ cls := "TurningRoadsModel", name := "push", desc := "(J)V" } : Jvm.MethodName) prog_19_method_36_code (3 : Nat) (Option.none : Option Jvm.ClassFile.FieldType)) ∈ lw_all := lw_g (lw_at lw_m8 95 rfl) rfl
theorem q1918 : (Jvm.Cond.methodLink "TurningRoadsModel" (263 : Nat) ({ cls := "TurningRoadsModel", name := "pop", desc := "()J" } : Jvm.MethodName)) ∈ lw_all := lw_g (lw_at lw_m8 96 rfl) rfl
theorem q1919 : (Jvm.Cond.privateMethod ({ cls := "TurningRoadsModel", name := "pop", desc := "()J" } : Jvm.MethodName)) ∈ lw_tbl := lw_at lw_m8 97 rfl
theorem q1920 : (Jvm.Cond.instanceMethod ({ cls := "TurningRoadsModel", name := "pop", desc := "()J" } : Jvm.MethodName)) ∈ lw_all := lw_g (lw_at lw_m8 98 rfl) rfl
theorem q1921 : (Jvm.Cond.code ({ cls := "TurningRoadsModel", name := "pop", desc := "()J" } : Jvm.MethodName) prog_19_method_37_code (1 : Nat) (Option.some Jvm.ClassFile.FieldType.long)) ∈ lw_all := lw_g (lw_at lw_m8 99 rfl) rfl
theorem q1922 : (Jvm.Cond.methodLink "TurningRoadsModel" (267 : Nat) ({ cls := "TurningRoadsModel", name := "one", desc := "(IJJ)J" } : Jvm.MethodName)) ∈ lw_all := lw_g (lw_at lw_m8 100 rfl) rfl
theorem q1923 : (Jvm.Cond.static ({ cls := "TurningRoadsModel", name := "one", desc := "(IJJ)J" } : Jvm.MethodName)) ∈ lw_all := lw_g (lw_at lw_m8 101 rfl) rfl
theorem q1924 : (Jvm.Cond.code ({ cls := "TurningRoadsModel", name := "one", desc := "(IJJ)J" } : Jvm.MethodName) prog_19_method_38_code (5 : Nat) (Option.some Jvm.ClassFile.FieldType.long)) ∈ lw_all := lw_g (lw_at lw_m8 102 rfl) rfl
theorem q1926 : (Jvm.Cond.instanceMethod ({ cls := "TurningRoadsModel", name := "ahead", desc := "(III)I" } : Jvm.MethodName)) ∈ lw_all := lw_g (lw_at lw_m8 104 rfl) rfl
theorem q1927 : (Jvm.Cond.selects "TurningRoadsModel" ({ cls := "TurningRoadsModel", name := "ahead", desc := "(III)I" } : Jvm.MethodName) ({ cls := "TurningRoadsModel", name := "ahead", desc := "(III)I" } : Jvm.MethodName)) ∈ lw_all := lw_g (lw_at lw_m8 105 rfl) rfl
theorem q1928 : (Jvm.Cond.code ({ cls := "TurningRoadsModel", name := "ahead", desc := "(III)I" } : Jvm.MethodName) prog_19_method_104_code (5 : Nat) (Option.some Jvm.ClassFile.FieldType.int)) ∈ lw_all := lw_g (lw_at lw_m8 106 rfl) rfl
theorem q1929 : (Jvm.Cond.constantLong "TurningRoadsModel" (440 : Nat) (3 : Int64)) ∈ lw_all := lw_g (lw_at lw_m8 107 rfl) rfl
theorem q1930 : (Jvm.Cond.methodLink "TurningRoadsModel" (442 : Nat) ({ cls := "TurningRoadsModel", name := "keeps", desc := "()V" } : Jvm.MethodName)) ∈ lw_all := lw_g (lw_at lw_m8 108 rfl) rfl
theorem q1931 : (Jvm.Cond.privateMethod ({ cls := "TurningRoadsModel", name := "keeps", desc := "()V" } : Jvm.MethodName)) ∈ lw_tbl := lw_at lw_m8 109 rfl
theorem q1932 : (Jvm.Cond.instanceMethod ({ cls := "TurningRoadsModel", name := "keeps", desc := "()V" } : Jvm.MethodName)) ∈ lw_all := lw_g (lw_at lw_m8 110 rfl) rfl
theorem q1933 : (Jvm.Cond.code ({ cls := "TurningRoadsModel", name := "keeps", desc := "()V" } : Jvm.MethodName) prog_19_method_102_code (2 : Nat) (Option.none : Option Jvm.ClassFile.FieldType)) ∈ lw_all := lw_g (lw_at lw_m8 111 rfl) rfl
theorem q1934 : (Jvm.Cond.methodLink "TurningRoadsModel" (445 : Nat) ({ cls := "TurningRoadsModel", name := "arrived", desc := "()I" } : Jvm.MethodName)) ∈ lw_all := lw_g (lw_at lw_m8 112 rfl) rfl
theorem q1935 : (Jvm.Cond.privateMethod ({ cls := "TurningRoadsModel", name := "arrived", desc := "()I" } : Jvm.MethodName)) ∈ lw_tbl := lw_at lw_m8 113 rfl
theorem q1936 : (Jvm.Cond.instanceMethod ({ cls := "TurningRoadsModel", name := "arrived", desc := "()I" } : Jvm.MethodName)) ∈ lw_all := lw_g (lw_at lw_m8 114 rfl) rfl
theorem q1937 : (Jvm.Cond.code ({ cls := "TurningRoadsModel", name := "arrived", desc := "()I" } : Jvm.MethodName) prog_19_method_101_code (3 : Nat) (Option.some Jvm.ClassFile.FieldType.int)) ∈ lw_all := lw_g (lw_at lw_m8 115 rfl) rfl
theorem q1938 : (Jvm.Cond.methodLink "TurningRoadsModel" (448 : Nat) ({ cls := "TurningRoadsModel", name := "putsBack", desc := "()V" } : Jvm.MethodName)) ∈ lw_all := lw_g (lw_at lw_m8 116 rfl) rfl
theorem q1939 : (Jvm.Cond.privateMethod ({ cls := "TurningRoadsModel", name := "putsBack", desc := "()V" } : Jvm.MethodName)) ∈ lw_tbl := lw_at lw_m8 117 rfl
theorem q1940 : (Jvm.Cond.instanceMethod ({ cls := "TurningRoadsModel", name := "putsBack", desc := "()V" } : Jvm.MethodName)) ∈ lw_all := lw_g (lw_at lw_m8 118 rfl) rfl
theorem q1941 : (Jvm.Cond.code ({ cls := "TurningRoadsModel", name := "putsBack", desc := "()V" } : Jvm.MethodName) prog_19_method_103_code (2 : Nat) (Option.none : Option Jvm.ClassFile.FieldType)) ∈ lw_all := lw_g (lw_at lw_m8 119 rfl) rfl
theorem q1943 : (Jvm.Cond.instanceMethod ({ cls := "TurningRoadsModel", name := "finest", desc := "(I)I" } : Jvm.MethodName)) ∈ lw_all := lw_g (lw_at lw_m8 121 rfl) rfl
theorem q1944 : (Jvm.Cond.selects "TurningRoadsModel" ({ cls := "TurningRoadsModel", name := "finest", desc := "(I)I" } : Jvm.MethodName) ({ cls := "TurningRoadsModel", name := "finest", desc := "(I)I" } : Jvm.MethodName)) ∈ lw_all := lw_g (lw_at lw_m8 122 rfl) rfl
theorem q1945 : (Jvm.Cond.code ({ cls := "TurningRoadsModel", name := "finest", desc := "(I)I" } : Jvm.MethodName) prog_19_method_105_code (8 : Nat) (Option.some Jvm.ClassFile.FieldType.int)) ∈ lw_all := lw_g (lw_at lw_m8 123 rfl) rfl
theorem q1947 : (Jvm.Cond.instanceMethod ({ cls := "TurningRoadsModel", name := "home", desc := "(II)I" } : Jvm.MethodName)) ∈ lw_all := lw_g (lw_at lw_m8 125 rfl) rfl
theorem q1948 : (Jvm.Cond.selects "TurningRoadsModel" ({ cls := "TurningRoadsModel", name := "home", desc := "(II)I" } : Jvm.MethodName) ({ cls := "TurningRoadsModel", name := "home", desc := "(II)I" } : Jvm.MethodName)) ∈ lw_all := lw_g (lw_at lw_m8 126 rfl) rfl
theorem q1949 : (Jvm.Cond.code ({ cls := "TurningRoadsModel", name := "home", desc := "(II)I" } : Jvm.MethodName) prog_19_method_106_code (5 : Nat) (Option.some Jvm.ClassFile.FieldType.int)) ∈ lw_all := lw_g (lw_at lw_m8 127 rfl) rfl
theorem q1951 : (Jvm.Cond.instanceMethod ({ cls := "TurningRoadsModel", name := "seed", desc := "(I)I" } : Jvm.MethodName)) ∈ lw_all := lw_g (lw_at lw_m8 129 rfl) rfl
theorem q1952 : (Jvm.Cond.selects "TurningRoadsModel" ({ cls := "TurningRoadsModel", name := "seed", desc := "(I)I" } : Jvm.MethodName) ({ cls := "TurningRoadsModel", name := "seed", desc := "(I)I" } : Jvm.MethodName)) ∈ lw_all := lw_g (lw_at lw_m8 130 rfl) rfl
theorem q1953 : (Jvm.Cond.code ({ cls := "TurningRoadsModel", name := "seed", desc := "(I)I" } : Jvm.MethodName) prog_19_method_107_code (3 : Nat) (Option.some Jvm.ClassFile.FieldType.int)) ∈ lw_all := lw_g (lw_at lw_m8 131 rfl) rfl
theorem q1955 : (Jvm.Cond.instanceMethod ({ cls := "TurningRoadsModel", name := "days", desc := "(IIII)I" } : Jvm.MethodName)) ∈ lw_all := lw_g (lw_at lw_m8 133 rfl) rfl
theorem q1956 : (Jvm.Cond.selects "TurningRoadsModel" ({ cls := "TurningRoadsModel", name := "days", desc := "(IIII)I" } : Jvm.MethodName) ({ cls := "TurningRoadsModel", name := "days", desc := "(IIII)I" } : Jvm.MethodName)) ∈ lw_all := lw_g (lw_at lw_m8 134 rfl) rfl
theorem q1957 : (Jvm.Cond.code ({ cls := "TurningRoadsModel", name := "days", desc := "(IIII)I" } : Jvm.MethodName) prog_19_method_108_code (12 : Nat) (Option.some Jvm.ClassFile.FieldType.int)) ∈ lw_all := lw_g (lw_at lw_m8 135 rfl) rfl
theorem q1958 : (Jvm.Cond.constantLong "TurningRoadsModel" (451 : Nat) (20 : Int64)) ∈ lw_all := lw_g (lw_at lw_m8 136 rfl) rfl
theorem q1959 : (Jvm.Cond.constantLong "TurningRoadsModel" (453 : Nat) (300 : Int64)) ∈ lw_all := lw_g (lw_at lw_m8 137 rfl) rfl
theorem q1960 : (Jvm.Cond.constantLong "TurningRoadsModel" (455 : Nat) (1103515245 : Int64)) ∈ lw_all := lw_g (lw_at lw_m8 138 rfl) rfl
theorem q1961 : (Jvm.Cond.constantLong "TurningRoadsModel" (457 : Nat) (12345 : Int64)) ∈ lw_all := lw_g (lw_at lw_m8 139 rfl) rfl
theorem q1962 : (Jvm.Cond.constantLong "TurningRoadsModel" (459 : Nat) (2147483648 : Int64)) ∈ lw_all := lw_g (lw_at lw_m8 140 rfl) rfl
theorem q1963 : (Jvm.Cond.constantLong "TurningRoadsModel" (461 : Nat) (65536 : Int64)) ∈ lw_all := lw_g (lw_at lw_m8 141 rfl) rfl
theorem q1964 : (Jvm.Cond.constantLong "TurningRoadsModel" (463 : Nat) (60 : Int64)) ∈ lw_all := lw_g (lw_at lw_m8 142 rfl) rfl
theorem q1966 : (Jvm.Cond.instanceMethod ({ cls := "TurningRoadsModel", name := "count", desc := "(I)I" } : Jvm.MethodName)) ∈ lw_all := lw_g (lw_at lw_m8 144 rfl) rfl
theorem q1967 : (Jvm.Cond.selects "TurningRoadsModel" ({ cls := "TurningRoadsModel", name := "count", desc := "(I)I" } : Jvm.MethodName) ({ cls := "TurningRoadsModel", name := "count", desc := "(I)I" } : Jvm.MethodName)) ∈ lw_all := lw_g (lw_at lw_m8 145 rfl) rfl
theorem q1968 : (Jvm.Cond.code ({ cls := "TurningRoadsModel", name := "count", desc := "(I)I" } : Jvm.MethodName) prog_19_method_109_code (2 : Nat) (Option.some Jvm.ClassFile.FieldType.int)) ∈ lw_all := lw_g (lw_at lw_m8 146 rfl) rfl
theorem q1970 : (Jvm.Cond.instanceMethod ({ cls := "TurningRoadsModel", name := "image", desc := "(I)I" } : Jvm.MethodName)) ∈ lw_all := lw_g (lw_at lw_m8 148 rfl) rfl
theorem q1971 : (Jvm.Cond.selects "TurningRoadsModel" ({ cls := "TurningRoadsModel", name := "image", desc := "(I)I" } : Jvm.MethodName) ({ cls := "TurningRoadsModel", name := "image", desc := "(I)I" } : Jvm.MethodName)) ∈ lw_all := lw_g (lw_at lw_m8 149 rfl) rfl
theorem q1972 : (Jvm.Cond.code ({ cls := "TurningRoadsModel", name := "image", desc := "(I)I" } : Jvm.MethodName) prog_19_method_110_code (3 : Nat) (Option.some Jvm.ClassFile.FieldType.int)) ∈ lw_all := lw_g (lw_at lw_m8 150 rfl) rfl
theorem q1974 : (Jvm.Cond.instanceMethod ({ cls := "TurningRoadsModel", name := "back", desc := "(I)I" } : Jvm.MethodName)) ∈ lw_all := lw_g (lw_at lw_m8 152 rfl) rfl
theorem q1975 : (Jvm.Cond.selects "TurningRoadsModel" ({ cls := "TurningRoadsModel", name := "back", desc := "(I)I" } : Jvm.MethodName) ({ cls := "TurningRoadsModel", name := "back", desc := "(I)I" } : Jvm.MethodName)) ∈ lw_all := lw_g (lw_at lw_m8 153 rfl) rfl
theorem q1976 : (Jvm.Cond.code ({ cls := "TurningRoadsModel", name := "back", desc := "(I)I" } : Jvm.MethodName) prog_19_method_111_code (3 : Nat) (Option.some Jvm.ClassFile.FieldType.int)) ∈ lw_all := lw_g (lw_at lw_m8 154 rfl) rfl
theorem q1987 : (Jvm.Cond.castable "TurningRoadsModel" "java/lang/Object") ∈ lw_tbl := lw_at lw_m8 165 rfl
theorem in_X3 : ∀ w ∈ wsX30, w ∈ lw_all := lw_in wsX30 [1421, 1423, 1425, 1427, 1429, 1431, 1433, 1435, 1437, 1439, 1441, 1443, 1445, 1447, 1449, 1451, 1453, 1455, 1457, 1459, 1461, 1463, 1465, 1467, 1469, 1471, 1473, 1475, 1477, 1479, 1481, 1483, 1485, 1487, 1489, 1491, 1493, 1495, 1497, 1499, 1501, 1503, 1505] (by decide +kernel) (by decide +kernel)
