/-! the component's further names, as given -/
set_option maxRecDepth 100000
/-! TurningRoads$Wrong -/
def RX1 : String := "TurningRoads$Wrong"
def TX1 : u_T := fun k => match k with
  | 0 => ("java/lang/Throwable", "cause", "Ljava/lang/Throwable;", false)
  | 1 => ("java/lang/Throwable", "stackTrace", "[Ljava/lang/StackTraceElement;", false)
  | 2 => ("java/lang/Throwable", "suppressedExceptions", "Ljava/util/List;", false)
  | 3 => ("java/lang/Throwable", "detailMessage", "Ljava/lang/String;", false)
  | 4 => ("java/lang/Throwable", "backtrace", "Ljava/lang/Object;", false)
  | 5 => ("java/lang/Throwable", "depth", "I", false)
  | _ => ("TurningRoads$Wrong", "number", "I", false)
def tyX1 : Nat → FieldType := fun k => match k with
  | 0 => .object "java/lang/Throwable"
  | 1 => .array (.object "java/lang/StackTraceElement")
  | 2 => .object "java/util/List"
  | 3 => .object "java/lang/String"
  | 4 => .object "java/lang/Object"
  | 5 => .int
  | _ => .int
abbrev wsX10 : List Cond := u_ws RX1 TX1 7
theorem nmX1 : ∀ a, a < 7 → ∀ b, b < 7 → a ≠ b → (TX1 a).2.1 ≠ (TX1 b).2.1 := by decide +kernel
theorem tyX1_ok : ∀ k, k < 7 → parseFieldDescriptor (TX1 k).2.2.1 = some (tyX1 k) := by decide +kernel
abbrev cX1_init : ByteArray := prog_17_method_1_code
def yX1_init : MethodName := ⟨RX1, "<init>", "()V"⟩
theorem dX1_init_0 : decode cX1_init 0 = .ok (.aload_n 0, 1) := by decide +kernel
theorem dX1_init_1 : decode cX1_init 1 = .ok (.invokespecial 1, 3) := by decide +kernel
theorem dX1_init_4 : decode cX1_init 4 = .ok (.return_, 1) := by decide +kernel
theorem q149 : (Jvm.Cond.initialized "TurningRoads$Wrong") ∈ lw_all := lw_g (lw_at lw_m1 7 rfl) rfl
theorem q214 : (Jvm.Cond.instantiable "TurningRoads$Wrong" (7 : Nat)) ∈ lw_all := lw_g (lw_at lw_m1 72 rfl) rfl
theorem q215 : (Jvm.Cond.castable "TurningRoads$Wrong" "TurningRoads$Wrong") ∈ lw_tbl := lw_at lw_m1 73 rfl
theorem q220 : (Jvm.Cond.selects "TurningRoads$Wrong" ({ cls := "java/lang/Throwable", name := "fillInStackTrace", desc := "(I)Ljava/lang/Throwable;" } : Jvm.MethodName) ({ cls := "java/lang/Throwable", name := "fillInStackTrace", desc := "(I)Ljava/lang/Throwable;" } : Jvm.MethodName)) ∈ lw_all := lw_g (lw_at lw_m1 78 rfl) rfl
theorem q221 : (Jvm.Cond.selects "TurningRoads$Wrong" ({ cls := "java/lang/Throwable", name := "fillInStackTrace", desc := "()Ljava/lang/Throwable;" } : Jvm.MethodName) ({ cls := "java/lang/Throwable", name := "fillInStackTrace", desc := "()Ljava/lang/Throwable;" } : Jvm.MethodName)) ∈ lw_all := lw_g (lw_at lw_m1 79 rfl) rfl
theorem q222 : (Jvm.Cond.lays "TurningRoads$Wrong" "java/lang/Throwable" "cause" "Ljava/lang/Throwable;") ∈ lw_all := lw_g (lw_at lw_m1 80 rfl) rfl
theorem q224 : (Jvm.Cond.lays "TurningRoads$Wrong" "java/lang/Throwable" "stackTrace" "[Ljava/lang/StackTraceElement;") ∈ lw_all := lw_g (lw_at lw_m1 82 rfl) rfl
theorem q226 : (Jvm.Cond.lays "TurningRoads$Wrong" "java/lang/Throwable" "suppressedExceptions" "Ljava/util/List;") ∈ lw_all := lw_g (lw_at lw_m1 84 rfl) rfl
theorem q228 : (Jvm.Cond.lays "TurningRoads$Wrong" "java/lang/Throwable" "detailMessage" "Ljava/lang/String;") ∈ lw_all := lw_g (lw_at lw_m1 86 rfl) rfl
theorem q230 : (Jvm.Cond.lays "TurningRoads$Wrong" "java/lang/Throwable" "backtrace" "Ljava/lang/Object;") ∈ lw_all := lw_g (lw_at lw_m1 88 rfl) rfl
theorem q251 : (Jvm.Cond.instanceMethod ({ cls := "TurningRoads$Wrong", name := "<init>", desc := "()V" } : Jvm.MethodName)) ∈ lw_all := lw_g (lw_at lw_m1 109 rfl) rfl
theorem q252 : (Jvm.Cond.code ({ cls := "TurningRoads$Wrong", name := "<init>", desc := "()V" } : Jvm.MethodName) prog_17_method_1_code (1 : Nat) (Option.none : Option Jvm.ClassFile.FieldType)) ∈ lw_all := lw_g (lw_at lw_m1 110 rfl) rfl
theorem q253 : (Jvm.Cond.methodLink "TurningRoads$Wrong" (1 : Nat) ({ cls := "java/lang/Exception", name := "<init>", desc := "()V" } : Jvm.MethodName)) ∈ lw_all := lw_g (lw_at lw_m1 111 rfl) rfl
theorem q262 : (Jvm.Cond.lays "TurningRoads$Wrong" "TurningRoads$Wrong" "number" "I") ∈ lw_all := lw_g (lw_at lw_m1 120 rfl) rfl
theorem q263 : (Jvm.Cond.soleField "TurningRoads$Wrong" "number") ∈ lw_all := lw_g (lw_at lw_m1 121 rfl) rfl
theorem q268 : (Jvm.Cond.lays "TurningRoads$Wrong" "java/lang/Throwable" "depth" "I") ∈ lw_all := lw_g (lw_at lw_m1 126 rfl) rfl
theorem q271 : (Jvm.Cond.superclass "TurningRoads$Wrong" "java/lang/Exception") ∈ lw_all := lw_g (lw_at lw_m1 129 rfl) rfl
theorem q662 : (Jvm.Cond.selects "TurningRoads$Wrong" ({ cls := "java/lang/Object", name := "getClass", desc := "()Ljava/lang/Class;" } : Jvm.MethodName) ({ cls := "java/lang/Object", name := "getClass", desc := "()Ljava/lang/Class;" } : Jvm.MethodName)) ∈ lw_all := lw_g (lw_at lw_m3 40 rfl) rfl
theorem q1985 : (Jvm.Cond.castable "TurningRoads$Wrong" "java/lang/Object") ∈ lw_tbl := lw_at lw_m8 163 rfl
theorem in_X1 : ∀ w ∈ wsX10, w ∈ lw_all := lw_in wsX10 [222, 224, 226, 228, 230, 268, 262] (by decide +kernel) (by decide +kernel)

/-! TurningRoads$Kept -/
def RX2 : String := "TurningRoads$Kept"
def TX2 : u_T := fun k => match k with
  | 0 => ("TurningRoads$Kept", "place", "[I", true)
  | 1 => ("TurningRoads$Kept", "way", "[I", true)
  | 2 => ("TurningRoads$Kept", "minutes", "[I", true)
  | 3 => ("TurningRoads$Kept", "to", "[I", true)
  | 4 => ("TurningRoads$Kept", "home", "[I", true)
  | 5 => ("TurningRoads$Kept", "gone", "[I", true)
  | 6 => ("TurningRoads$Kept", "last", "[I", true)
  | 7 => ("TurningRoads$Kept", "bits", "I", false)
  | 8 => ("TurningRoads$Kept", "all", "I", false)
  | 9 => ("TurningRoads$Kept", "time", "I", false)
  | 10 => ("TurningRoads$Kept", "meetings", "I", false)
  | _ => ("TurningRoads$Kept", "this$0", "LTurningRoads;", true)
def tyX2 : Nat → FieldType := fun k => match k with
  | 0 => .array .int
  | 1 => .array .int
  | 2 => .array .int
  | 3 => .array .int
  | 4 => .array .int
  | 5 => .array .int
  | 6 => .array .int
  | 7 => .int
  | 8 => .int
  | 9 => .int
  | 10 => .int
  | _ => .object "TurningRoads"
abbrev wsX20 : List Cond := u_ws RX2 TX2 12
theorem nmX2 : ∀ a, a < 12 → ∀ b, b < 12 → a ≠ b → (TX2 a).2.1 ≠ (TX2 b).2.1 := by decide +kernel
theorem tyX2_ok : ∀ k, k < 12 → parseFieldDescriptor (TX2 k).2.2.1 = some (tyX2 k) := by decide +kernel
abbrev cX2_init : ByteArray := prog_9_method_1_code
def yX2_init : MethodName := ⟨RX2, "<init>", "(LTurningRoads;)V"⟩
def dkwX2_init_2 : List UInt8 := [181, 0, 28, 42, 16, 14, 188, 10, 181, 0, 31, 42, 16, 14, 188, 10, 181, 0, 34, 177]
abbrev dktX2_init_2 : List UInt8 := dkwX2_init_2 ++ []
def dkwX2_init_1 : List UInt8 := [181, 0, 19, 42, 16, 6, 188, 10, 181, 0, 22, 42, 16, 6, 188, 10, 181, 0, 25, 42, 16, 6, 188, 10]
abbrev dktX2_init_1 : List UInt8 := dkwX2_init_1 ++ dktX2_init_2
def dkwX2_init_0 : List UInt8 := [42, 43, 181, 0, 3, 42, 183, 0, 9, 42, 16, 6, 188, 10, 181, 0, 15, 42, 16, 6, 188, 10]
abbrev dktX2_init_0 : List UInt8 := dkwX2_init_0 ++ dktX2_init_1
theorem dksX2_init_0 : cX2_init.data.toList.drop 0 = dktX2_init_0 := by decide +kernel
theorem dksX2_init_1 : cX2_init.data.toList.drop 22 = dktX2_init_1 := dk_seg dksX2_init_0 22 rfl rfl
theorem dksX2_init_2 : cX2_init.data.toList.drop 46 = dktX2_init_2 := dk_seg dksX2_init_1 24 rfl rfl
theorem dX2_init_0 : decode cX2_init 0 = .ok (.aload_n 0, 1) := dk_42 (dk_at dksX2_init_0 0 rfl rfl)
theorem dX2_init_1 : decode cX2_init 1 = .ok (.aload_n 1, 1) := dk_43 (dk_at dksX2_init_0 1 rfl rfl)
theorem dX2_init_2 : decode cX2_init 2 = .ok (.putfield 3, 3) := dk_181 0 3 (dk_at dksX2_init_0 2 rfl rfl)
theorem dX2_init_5 : decode cX2_init 5 = .ok (.aload_n 0, 1) := dk_42 (dk_at dksX2_init_0 5 rfl rfl)
theorem dX2_init_6 : decode cX2_init 6 = .ok (.invokespecial 9, 3) := dk_183 0 9 (dk_at dksX2_init_0 6 rfl rfl)
theorem dX2_init_9 : decode cX2_init 9 = .ok (.aload_n 0, 1) := dk_42 (dk_at dksX2_init_0 9 rfl rfl)
theorem dX2_init_10 : decode cX2_init 10 = .ok (.bipush 6, 2) := dk_16 6 (dk_at dksX2_init_0 10 rfl rfl)
theorem dX2_init_12 : decode cX2_init 12 = .ok (.newarray .int, 2) := dk_188_10 (dk_at dksX2_init_0 12 rfl rfl)
theorem dX2_init_14 : decode cX2_init 14 = .ok (.putfield 15, 3) := dk_181 0 15 (dk_at dksX2_init_0 14 rfl rfl)
theorem dX2_init_17 : decode cX2_init 17 = .ok (.aload_n 0, 1) := dk_42 (dk_at dksX2_init_0 17 rfl rfl)
theorem dX2_init_18 : decode cX2_init 18 = .ok (.bipush 6, 2) := dk_16 6 (dk_at dksX2_init_0 18 rfl rfl)
theorem dX2_init_20 : decode cX2_init 20 = .ok (.newarray .int, 2) := dk_188_10 (dk_at dksX2_init_0 20 rfl rfl)
theorem dX2_init_22 : decode cX2_init 22 = .ok (.putfield 19, 3) := dk_181 0 19 (dk_at dksX2_init_1 0 rfl rfl)
theorem dX2_init_25 : decode cX2_init 25 = .ok (.aload_n 0, 1) := dk_42 (dk_at dksX2_init_1 3 rfl rfl)
theorem dX2_init_26 : decode cX2_init 26 = .ok (.bipush 6, 2) := dk_16 6 (dk_at dksX2_init_1 4 rfl rfl)
theorem dX2_init_28 : decode cX2_init 28 = .ok (.newarray .int, 2) := dk_188_10 (dk_at dksX2_init_1 6 rfl rfl)
theorem dX2_init_30 : decode cX2_init 30 = .ok (.putfield 22, 3) := dk_181 0 22 (dk_at dksX2_init_1 8 rfl rfl)
theorem dX2_init_33 : decode cX2_init 33 = .ok (.aload_n 0, 1) := dk_42 (dk_at dksX2_init_1 11 rfl rfl)
theorem dX2_init_34 : decode cX2_init 34 = .ok (.bipush 6, 2) := dk_16 6 (dk_at dksX2_init_1 12 rfl rfl)
theorem dX2_init_36 : decode cX2_init 36 = .ok (.newarray .int, 2) := dk_188_10 (dk_at dksX2_init_1 14 rfl rfl)
theorem dX2_init_38 : decode cX2_init 38 = .ok (.putfield 25, 3) := dk_181 0 25 (dk_at dksX2_init_1 16 rfl rfl)
theorem dX2_init_41 : decode cX2_init 41 = .ok (.aload_n 0, 1) := dk_42 (dk_at dksX2_init_1 19 rfl rfl)
theorem dX2_init_42 : decode cX2_init 42 = .ok (.bipush 6, 2) := dk_16 6 (dk_at dksX2_init_1 20 rfl rfl)
theorem dX2_init_44 : decode cX2_init 44 = .ok (.newarray .int, 2) := dk_188_10 (dk_at dksX2_init_1 22 rfl rfl)
theorem dX2_init_46 : decode cX2_init 46 = .ok (.putfield 28, 3) := dk_181 0 28 (dk_at dksX2_init_2 0 rfl rfl)
theorem dX2_init_49 : decode cX2_init 49 = .ok (.aload_n 0, 1) := dk_42 (dk_at dksX2_init_2 3 rfl rfl)
theorem dX2_init_50 : decode cX2_init 50 = .ok (.bipush 14, 2) := dk_16 14 (dk_at dksX2_init_2 4 rfl rfl)
theorem dX2_init_52 : decode cX2_init 52 = .ok (.newarray .int, 2) := dk_188_10 (dk_at dksX2_init_2 6 rfl rfl)
theorem dX2_init_54 : decode cX2_init 54 = .ok (.putfield 31, 3) := dk_181 0 31 (dk_at dksX2_init_2 8 rfl rfl)
theorem dX2_init_57 : decode cX2_init 57 = .ok (.aload_n 0, 1) := dk_42 (dk_at dksX2_init_2 11 rfl rfl)
theorem dX2_init_58 : decode cX2_init 58 = .ok (.bipush 14, 2) := dk_16 14 (dk_at dksX2_init_2 12 rfl rfl)
theorem dX2_init_60 : decode cX2_init 60 = .ok (.newarray .int, 2) := dk_188_10 (dk_at dksX2_init_2 14 rfl rfl)
theorem dX2_init_62 : decode cX2_init 62 = .ok (.putfield 34, 3) := dk_181 0 34 (dk_at dksX2_init_2 16 rfl rfl)
theorem dX2_init_65 : decode cX2_init 65 = .ok (.return_, 1) := dk_177 (dk_at dksX2_init_2 19 rfl rfl)
abbrev cX2_keep : ByteArray := prog_9_method_2_code
def yX2_keep : MethodName := ⟨RX2, "keep", "()V"⟩
def dkwX2_keep_8 : List UInt8 := [181, 0, 88, 42, 42, 180, 0, 3, 180, 0, 91, 181, 0, 94, 177]
abbrev dktX2_keep_8 : List UInt8 := dkwX2_keep_8 ++ []
def dkwX2_keep_7 : List UInt8 := [181, 0, 76, 42, 42, 180, 0, 3, 180, 0, 79, 181, 0, 82, 42, 42, 180, 0, 3, 180, 0, 85]
abbrev dktX2_keep_7 : List UInt8 := dkwX2_keep_7 ++ dktX2_keep_8
def dkwX2_keep_6 : List UInt8 := [182, 0, 47, 192, 0, 67, 180, 0, 71, 79, 132, 1, 1, 167, 255, 193, 42, 42, 180, 0, 3, 182, 0, 73]
abbrev dktX2_keep_6 : List UInt8 := dkwX2_keep_6 ++ dktX2_keep_7
def dkwX2_keep_5 : List UInt8 := [182, 0, 47, 192, 0, 67, 180, 0, 69, 79, 42, 180, 0, 34, 27, 42, 180, 0, 3, 180, 0, 64, 27]
abbrev dktX2_keep_5 : List UInt8 := dkwX2_keep_5 ++ dktX2_keep_6
def dkwX2_keep_4 : List UInt8 := [180, 0, 64, 182, 0, 41, 162, 0, 55, 42, 180, 0, 31, 27, 42, 180, 0, 3, 180, 0, 64, 27]
abbrev dktX2_keep_4 : List UInt8 := dkwX2_keep_4 ++ dktX2_keep_5
def dkwX2_keep_3 : List UInt8 := [42, 180, 0, 28, 27, 44, 180, 0, 62, 79, 132, 1, 1, 167, 255, 174, 3, 60, 27, 42, 180, 0, 3]
abbrev dktX2_keep_3 : List UInt8 := dkwX2_keep_3 ++ dktX2_keep_4
def dkwX2_keep_2 : List UInt8 := [180, 0, 56, 79, 42, 180, 0, 22, 27, 44, 180, 0, 58, 79, 42, 180, 0, 25, 27, 44, 180, 0, 60, 79]
abbrev dktX2_keep_2 : List UInt8 := dkwX2_keep_2 ++ dktX2_keep_3
def dkwX2_keep_1 : List UInt8 := [182, 0, 47, 192, 0, 51, 77, 42, 180, 0, 15, 27, 44, 180, 0, 53, 79, 42, 180, 0, 19, 27, 44]
abbrev dktX2_keep_1 : List UInt8 := dkwX2_keep_1 ++ dktX2_keep_2
def dkwX2_keep_0 : List UInt8 := [3, 60, 27, 42, 180, 0, 3, 180, 0, 37, 182, 0, 41, 162, 0, 74, 42, 180, 0, 3, 180, 0, 37, 27]
abbrev dktX2_keep_0 : List UInt8 := dkwX2_keep_0 ++ dktX2_keep_1
theorem dksX2_keep_0 : cX2_keep.data.toList.drop 0 = dktX2_keep_0 := by decide +kernel
theorem dksX2_keep_1 : cX2_keep.data.toList.drop 24 = dktX2_keep_1 := dk_seg dksX2_keep_0 24 rfl rfl
theorem dksX2_keep_2 : cX2_keep.data.toList.drop 47 = dktX2_keep_2 := dk_seg dksX2_keep_1 23 rfl rfl
theorem dksX2_keep_3 : cX2_keep.data.toList.drop 71 = dktX2_keep_3 := dk_seg dksX2_keep_2 24 rfl rfl
theorem dksX2_keep_4 : cX2_keep.data.toList.drop 94 = dktX2_keep_4 := dk_seg dksX2_keep_3 23 rfl rfl
theorem dksX2_keep_5 : cX2_keep.data.toList.drop 116 = dktX2_keep_5 := dk_seg dksX2_keep_4 22 rfl rfl
theorem dksX2_keep_6 : cX2_keep.data.toList.drop 139 = dktX2_keep_6 := dk_seg dksX2_keep_5 23 rfl rfl
theorem dksX2_keep_7 : cX2_keep.data.toList.drop 163 = dktX2_keep_7 := dk_seg dksX2_keep_6 24 rfl rfl
theorem dksX2_keep_8 : cX2_keep.data.toList.drop 185 = dktX2_keep_8 := dk_seg dksX2_keep_7 22 rfl rfl
theorem dX2_keep_0 : decode cX2_keep 0 = .ok (.iconst 0, 1) := dk_3 (dk_at dksX2_keep_0 0 rfl rfl)
theorem dX2_keep_1 : decode cX2_keep 1 = .ok (.istore_n 1, 1) := dk_60 (dk_at dksX2_keep_0 1 rfl rfl)
theorem dX2_keep_2 : decode cX2_keep 2 = .ok (.iload_n 1, 1) := dk_27 (dk_at dksX2_keep_0 2 rfl rfl)
theorem dX2_keep_3 : decode cX2_keep 3 = .ok (.aload_n 0, 1) := dk_42 (dk_at dksX2_keep_0 3 rfl rfl)
theorem dX2_keep_4 : decode cX2_keep 4 = .ok (.getfield 3, 3) := dk_180 0 3 (dk_at dksX2_keep_0 4 rfl rfl)
theorem dX2_keep_7 : decode cX2_keep 7 = .ok (.getfield 37, 3) := dk_180 0 37 (dk_at dksX2_keep_0 7 rfl rfl)
theorem dX2_keep_10 : decode cX2_keep 10 = .ok (.invokevirtual 41, 3) := dk_182 0 41 (dk_at dksX2_keep_0 10 rfl rfl)
theorem dX2_keep_13 : decode cX2_keep 13 = .ok (.if_icmp .ge 74, 3) := dk_162 0 74 (dk_at dksX2_keep_0 13 rfl rfl)
theorem dX2_keep_16 : decode cX2_keep 16 = .ok (.aload_n 0, 1) := dk_42 (dk_at dksX2_keep_0 16 rfl rfl)
theorem dX2_keep_17 : decode cX2_keep 17 = .ok (.getfield 3, 3) := dk_180 0 3 (dk_at dksX2_keep_0 17 rfl rfl)
theorem dX2_keep_20 : decode cX2_keep 20 = .ok (.getfield 37, 3) := dk_180 0 37 (dk_at dksX2_keep_0 20 rfl rfl)
theorem dX2_keep_23 : decode cX2_keep 23 = .ok (.iload_n 1, 1) := dk_27 (dk_at dksX2_keep_0 23 rfl rfl)
theorem dX2_keep_24 : decode cX2_keep 24 = .ok (.invokevirtual 47, 3) := dk_182 0 47 (dk_at dksX2_keep_1 0 rfl rfl)
theorem dX2_keep_27 : decode cX2_keep 27 = .ok (.checkcast 51, 3) := dk_192 0 51 (dk_at dksX2_keep_1 3 rfl rfl)
theorem dX2_keep_30 : decode cX2_keep 30 = .ok (.astore_n 2, 1) := dk_77 (dk_at dksX2_keep_1 6 rfl rfl)
theorem dX2_keep_31 : decode cX2_keep 31 = .ok (.aload_n 0, 1) := dk_42 (dk_at dksX2_keep_1 7 rfl rfl)
theorem dX2_keep_32 : decode cX2_keep 32 = .ok (.getfield 15, 3) := dk_180 0 15 (dk_at dksX2_keep_1 8 rfl rfl)
theorem dX2_keep_35 : decode cX2_keep 35 = .ok (.iload_n 1, 1) := dk_27 (dk_at dksX2_keep_1 11 rfl rfl)
theorem dX2_keep_36 : decode cX2_keep 36 = .ok (.aload_n 2, 1) := dk_44 (dk_at dksX2_keep_1 12 rfl rfl)
theorem dX2_keep_37 : decode cX2_keep 37 = .ok (.getfield 53, 3) := dk_180 0 53 (dk_at dksX2_keep_1 13 rfl rfl)
theorem dX2_keep_40 : decode cX2_keep 40 = .ok (.iastore, 1) := dk_79 (dk_at dksX2_keep_1 16 rfl rfl)
theorem dX2_keep_41 : decode cX2_keep 41 = .ok (.aload_n 0, 1) := dk_42 (dk_at dksX2_keep_1 17 rfl rfl)
theorem dX2_keep_42 : decode cX2_keep 42 = .ok (.getfield 19, 3) := dk_180 0 19 (dk_at dksX2_keep_1 18 rfl rfl)
theorem dX2_keep_45 : decode cX2_keep 45 = .ok (.iload_n 1, 1) := dk_27 (dk_at dksX2_keep_1 21 rfl rfl)
theorem dX2_keep_46 : decode cX2_keep 46 = .ok (.aload_n 2, 1) := dk_44 (dk_at dksX2_keep_1 22 rfl rfl)
theorem dX2_keep_47 : decode cX2_keep 47 = .ok (.getfield 56, 3) := dk_180 0 56 (dk_at dksX2_keep_2 0 rfl rfl)
theorem dX2_keep_50 : decode cX2_keep 50 = .ok (.iastore, 1) := dk_79 (dk_at dksX2_keep_2 3 rfl rfl)
theorem dX2_keep_51 : decode cX2_keep 51 = .ok (.aload_n 0, 1) := dk_42 (dk_at dksX2_keep_2 4 rfl rfl)
theorem dX2_keep_52 : decode cX2_keep 52 = .ok (.getfield 22, 3) := dk_180 0 22 (dk_at dksX2_keep_2 5 rfl rfl)
theorem dX2_keep_55 : decode cX2_keep 55 = .ok (.iload_n 1, 1) := dk_27 (dk_at dksX2_keep_2 8 rfl rfl)
theorem dX2_keep_56 : decode cX2_keep 56 = .ok (.aload_n 2, 1) := dk_44 (dk_at dksX2_keep_2 9 rfl rfl)
theorem dX2_keep_57 : decode cX2_keep 57 = .ok (.getfield 58, 3) := dk_180 0 58 (dk_at dksX2_keep_2 10 rfl rfl)
theorem dX2_keep_60 : decode cX2_keep 60 = .ok (.iastore, 1) := dk_79 (dk_at dksX2_keep_2 13 rfl rfl)
theorem dX2_keep_61 : decode cX2_keep 61 = .ok (.aload_n 0, 1) := dk_42 (dk_at dksX2_keep_2 14 rfl rfl)
theorem dX2_keep_62 : decode cX2_keep 62 = .ok (.getfield 25, 3) := dk_180 0 25 (dk_at dksX2_keep_2 15 rfl rfl)
theorem dX2_keep_65 : decode cX2_keep 65 = .ok (.iload_n 1, 1) := dk_27 (dk_at dksX2_keep_2 18 rfl rfl)
theorem dX2_keep_66 : decode cX2_keep 66 = .ok (.aload_n 2, 1) := dk_44 (dk_at dksX2_keep_2 19 rfl rfl)
theorem dX2_keep_67 : decode cX2_keep 67 = .ok (.getfield 60, 3) := dk_180 0 60 (dk_at dksX2_keep_2 20 rfl rfl)
theorem dX2_keep_70 : decode cX2_keep 70 = .ok (.iastore, 1) := dk_79 (dk_at dksX2_keep_2 23 rfl rfl)
theorem dX2_keep_71 : decode cX2_keep 71 = .ok (.aload_n 0, 1) := dk_42 (dk_at dksX2_keep_3 0 rfl rfl)
theorem dX2_keep_72 : decode cX2_keep 72 = .ok (.getfield 28, 3) := dk_180 0 28 (dk_at dksX2_keep_3 1 rfl rfl)
theorem dX2_keep_75 : decode cX2_keep 75 = .ok (.iload_n 1, 1) := dk_27 (dk_at dksX2_keep_3 4 rfl rfl)
theorem dX2_keep_76 : decode cX2_keep 76 = .ok (.aload_n 2, 1) := dk_44 (dk_at dksX2_keep_3 5 rfl rfl)
theorem dX2_keep_77 : decode cX2_keep 77 = .ok (.getfield 62, 3) := dk_180 0 62 (dk_at dksX2_keep_3 6 rfl rfl)
theorem dX2_keep_80 : decode cX2_keep 80 = .ok (.iastore, 1) := dk_79 (dk_at dksX2_keep_3 9 rfl rfl)
theorem dX2_keep_81 : decode cX2_keep 81 = .ok (.iinc 1 1, 3) := dk_132 1 1 (dk_at dksX2_keep_3 10 rfl rfl)
theorem dX2_keep_84 : decode cX2_keep 84 = .ok (.goto (-82), 3) := dk_167 255 174 (dk_at dksX2_keep_3 13 rfl rfl)
theorem dX2_keep_87 : decode cX2_keep 87 = .ok (.iconst 0, 1) := dk_3 (dk_at dksX2_keep_3 16 rfl rfl)
theorem dX2_keep_88 : decode cX2_keep 88 = .ok (.istore_n 1, 1) := dk_60 (dk_at dksX2_keep_3 17 rfl rfl)
theorem dX2_keep_89 : decode cX2_keep 89 = .ok (.iload_n 1, 1) := dk_27 (dk_at dksX2_keep_3 18 rfl rfl)
theorem dX2_keep_90 : decode cX2_keep 90 = .ok (.aload_n 0, 1) := dk_42 (dk_at dksX2_keep_3 19 rfl rfl)
theorem dX2_keep_91 : decode cX2_keep 91 = .ok (.getfield 3, 3) := dk_180 0 3 (dk_at dksX2_keep_3 20 rfl rfl)
theorem dX2_keep_94 : decode cX2_keep 94 = .ok (.getfield 64, 3) := dk_180 0 64 (dk_at dksX2_keep_4 0 rfl rfl)
theorem dX2_keep_97 : decode cX2_keep 97 = .ok (.invokevirtual 41, 3) := dk_182 0 41 (dk_at dksX2_keep_4 3 rfl rfl)
theorem dX2_keep_100 : decode cX2_keep 100 = .ok (.if_icmp .ge 55, 3) := dk_162 0 55 (dk_at dksX2_keep_4 6 rfl rfl)
theorem dX2_keep_103 : decode cX2_keep 103 = .ok (.aload_n 0, 1) := dk_42 (dk_at dksX2_keep_4 9 rfl rfl)
theorem dX2_keep_104 : decode cX2_keep 104 = .ok (.getfield 31, 3) := dk_180 0 31 (dk_at dksX2_keep_4 10 rfl rfl)
theorem dX2_keep_107 : decode cX2_keep 107 = .ok (.iload_n 1, 1) := dk_27 (dk_at dksX2_keep_4 13 rfl rfl)
theorem dX2_keep_108 : decode cX2_keep 108 = .ok (.aload_n 0, 1) := dk_42 (dk_at dksX2_keep_4 14 rfl rfl)
theorem dX2_keep_109 : decode cX2_keep 109 = .ok (.getfield 3, 3) := dk_180 0 3 (dk_at dksX2_keep_4 15 rfl rfl)
theorem dX2_keep_112 : decode cX2_keep 112 = .ok (.getfield 64, 3) := dk_180 0 64 (dk_at dksX2_keep_4 18 rfl rfl)
theorem dX2_keep_115 : decode cX2_keep 115 = .ok (.iload_n 1, 1) := dk_27 (dk_at dksX2_keep_4 21 rfl rfl)
theorem dX2_keep_116 : decode cX2_keep 116 = .ok (.invokevirtual 47, 3) := dk_182 0 47 (dk_at dksX2_keep_5 0 rfl rfl)
theorem dX2_keep_119 : decode cX2_keep 119 = .ok (.checkcast 67, 3) := dk_192 0 67 (dk_at dksX2_keep_5 3 rfl rfl)
theorem dX2_keep_122 : decode cX2_keep 122 = .ok (.getfield 69, 3) := dk_180 0 69 (dk_at dksX2_keep_5 6 rfl rfl)
theorem dX2_keep_125 : decode cX2_keep 125 = .ok (.iastore, 1) := dk_79 (dk_at dksX2_keep_5 9 rfl rfl)
theorem dX2_keep_126 : decode cX2_keep 126 = .ok (.aload_n 0, 1) := dk_42 (dk_at dksX2_keep_5 10 rfl rfl)
theorem dX2_keep_127 : decode cX2_keep 127 = .ok (.getfield 34, 3) := dk_180 0 34 (dk_at dksX2_keep_5 11 rfl rfl)
theorem dX2_keep_130 : decode cX2_keep 130 = .ok (.iload_n 1, 1) := dk_27 (dk_at dksX2_keep_5 14 rfl rfl)
theorem dX2_keep_131 : decode cX2_keep 131 = .ok (.aload_n 0, 1) := dk_42 (dk_at dksX2_keep_5 15 rfl rfl)
theorem dX2_keep_132 : decode cX2_keep 132 = .ok (.getfield 3, 3) := dk_180 0 3 (dk_at dksX2_keep_5 16 rfl rfl)
theorem dX2_keep_135 : decode cX2_keep 135 = .ok (.getfield 64, 3) := dk_180 0 64 (dk_at dksX2_keep_5 19 rfl rfl)
theorem dX2_keep_138 : decode cX2_keep 138 = .ok (.iload_n 1, 1) := dk_27 (dk_at dksX2_keep_5 22 rfl rfl)
theorem dX2_keep_139 : decode cX2_keep 139 = .ok (.invokevirtual 47, 3) := dk_182 0 47 (dk_at dksX2_keep_6 0 rfl rfl)
theorem dX2_keep_142 : decode cX2_keep 142 = .ok (.checkcast 67, 3) := dk_192 0 67 (dk_at dksX2_keep_6 3 rfl rfl)
theorem dX2_keep_145 : decode cX2_keep 145 = .ok (.getfield 71, 3) := dk_180 0 71 (dk_at dksX2_keep_6 6 rfl rfl)
theorem dX2_keep_148 : decode cX2_keep 148 = .ok (.iastore, 1) := dk_79 (dk_at dksX2_keep_6 9 rfl rfl)
theorem dX2_keep_149 : decode cX2_keep 149 = .ok (.iinc 1 1, 3) := dk_132 1 1 (dk_at dksX2_keep_6 10 rfl rfl)
theorem dX2_keep_152 : decode cX2_keep 152 = .ok (.goto (-63), 3) := dk_167 255 193 (dk_at dksX2_keep_6 13 rfl rfl)
theorem dX2_keep_155 : decode cX2_keep 155 = .ok (.aload_n 0, 1) := dk_42 (dk_at dksX2_keep_6 16 rfl rfl)
theorem dX2_keep_156 : decode cX2_keep 156 = .ok (.aload_n 0, 1) := dk_42 (dk_at dksX2_keep_6 17 rfl rfl)
theorem dX2_keep_157 : decode cX2_keep 157 = .ok (.getfield 3, 3) := dk_180 0 3 (dk_at dksX2_keep_6 18 rfl rfl)
theorem dX2_keep_160 : decode cX2_keep 160 = .ok (.invokevirtual 73, 3) := dk_182 0 73 (dk_at dksX2_keep_6 21 rfl rfl)
theorem dX2_keep_163 : decode cX2_keep 163 = .ok (.putfield 76, 3) := dk_181 0 76 (dk_at dksX2_keep_7 0 rfl rfl)
theorem dX2_keep_166 : decode cX2_keep 166 = .ok (.aload_n 0, 1) := dk_42 (dk_at dksX2_keep_7 3 rfl rfl)
theorem dX2_keep_167 : decode cX2_keep 167 = .ok (.aload_n 0, 1) := dk_42 (dk_at dksX2_keep_7 4 rfl rfl)
theorem dX2_keep_168 : decode cX2_keep 168 = .ok (.getfield 3, 3) := dk_180 0 3 (dk_at dksX2_keep_7 5 rfl rfl)
theorem dX2_keep_171 : decode cX2_keep 171 = .ok (.getfield 79, 3) := dk_180 0 79 (dk_at dksX2_keep_7 8 rfl rfl)
theorem dX2_keep_174 : decode cX2_keep 174 = .ok (.putfield 82, 3) := dk_181 0 82 (dk_at dksX2_keep_7 11 rfl rfl)
theorem dX2_keep_177 : decode cX2_keep 177 = .ok (.aload_n 0, 1) := dk_42 (dk_at dksX2_keep_7 14 rfl rfl)
theorem dX2_keep_178 : decode cX2_keep 178 = .ok (.aload_n 0, 1) := dk_42 (dk_at dksX2_keep_7 15 rfl rfl)
theorem dX2_keep_179 : decode cX2_keep 179 = .ok (.getfield 3, 3) := dk_180 0 3 (dk_at dksX2_keep_7 16 rfl rfl)
theorem dX2_keep_182 : decode cX2_keep 182 = .ok (.getfield 85, 3) := dk_180 0 85 (dk_at dksX2_keep_7 19 rfl rfl)
theorem dX2_keep_185 : decode cX2_keep 185 = .ok (.putfield 88, 3) := dk_181 0 88 (dk_at dksX2_keep_8 0 rfl rfl)
theorem dX2_keep_188 : decode cX2_keep 188 = .ok (.aload_n 0, 1) := dk_42 (dk_at dksX2_keep_8 3 rfl rfl)
theorem dX2_keep_189 : decode cX2_keep 189 = .ok (.aload_n 0, 1) := dk_42 (dk_at dksX2_keep_8 4 rfl rfl)
theorem dX2_keep_190 : decode cX2_keep 190 = .ok (.getfield 3, 3) := dk_180 0 3 (dk_at dksX2_keep_8 5 rfl rfl)
theorem dX2_keep_193 : decode cX2_keep 193 = .ok (.getfield 91, 3) := dk_180 0 91 (dk_at dksX2_keep_8 8 rfl rfl)
theorem dX2_keep_196 : decode cX2_keep 196 = .ok (.putfield 94, 3) := dk_181 0 94 (dk_at dksX2_keep_8 11 rfl rfl)
theorem dX2_keep_199 : decode cX2_keep 199 = .ok (.return_, 1) := dk_177 (dk_at dksX2_keep_8 14 rfl rfl)
abbrev cX2_back : ByteArray := prog_9_method_3_code
def yX2_back : MethodName := ⟨RX2, "back", "()V"⟩
def dkwX2_back_8 : List UInt8 := [181, 0, 85, 42, 180, 0, 3, 42, 180, 0, 94, 181, 0, 91, 177]
abbrev dktX2_back_8 : List UInt8 := dkwX2_back_8 ++ []
def dkwX2_back_7 : List UInt8 := [182, 0, 97, 42, 180, 0, 3, 42, 180, 0, 82, 181, 0, 79, 42, 180, 0, 3, 42, 180, 0, 88]
abbrev dktX2_back_7 : List UInt8 := dkwX2_back_7 ++ dktX2_back_8
def dkwX2_back_6 : List UInt8 := [180, 0, 34, 27, 46, 181, 0, 71, 132, 1, 1, 167, 255, 193, 42, 180, 0, 3, 42, 180, 0, 76]
abbrev dktX2_back_6 : List UInt8 := dkwX2_back_6 ++ dktX2_back_7
def dkwX2_back_5 : List UInt8 := [180, 0, 31, 27, 46, 181, 0, 69, 42, 180, 0, 3, 180, 0, 64, 27, 182, 0, 47, 192, 0, 67, 42]
abbrev dktX2_back_5 : List UInt8 := dkwX2_back_5 ++ dktX2_back_6
def dkwX2_back_4 : List UInt8 := [180, 0, 64, 182, 0, 41, 162, 0, 55, 42, 180, 0, 3, 180, 0, 64, 27, 182, 0, 47, 192, 0, 67, 42]
abbrev dktX2_back_4 : List UInt8 := dkwX2_back_4 ++ dktX2_back_5
def dkwX2_back_3 : List UInt8 := [42, 180, 0, 28, 27, 46, 181, 0, 62, 132, 1, 1, 167, 255, 174, 3, 60, 27, 42, 180, 0, 3]
abbrev dktX2_back_3 : List UInt8 := dkwX2_back_3 ++ dktX2_back_4
def dkwX2_back_2 : List UInt8 := [181, 0, 56, 44, 42, 180, 0, 22, 27, 46, 181, 0, 58, 44, 42, 180, 0, 25, 27, 46, 181, 0, 60, 44]
abbrev dktX2_back_2 : List UInt8 := dkwX2_back_2 ++ dktX2_back_3
def dkwX2_back_1 : List UInt8 := [182, 0, 47, 192, 0, 51, 77, 44, 42, 180, 0, 15, 27, 46, 181, 0, 53, 44, 42, 180, 0, 19, 27, 46]
abbrev dktX2_back_1 : List UInt8 := dkwX2_back_1 ++ dktX2_back_2
def dkwX2_back_0 : List UInt8 := [3, 60, 27, 42, 180, 0, 3, 180, 0, 37, 182, 0, 41, 162, 0, 74, 42, 180, 0, 3, 180, 0, 37, 27]
abbrev dktX2_back_0 : List UInt8 := dkwX2_back_0 ++ dktX2_back_1
theorem dksX2_back_0 : cX2_back.data.toList.drop 0 = dktX2_back_0 := by decide +kernel
theorem dksX2_back_1 : cX2_back.data.toList.drop 24 = dktX2_back_1 := dk_seg dksX2_back_0 24 rfl rfl
theorem dksX2_back_2 : cX2_back.data.toList.drop 48 = dktX2_back_2 := dk_seg dksX2_back_1 24 rfl rfl
theorem dksX2_back_3 : cX2_back.data.toList.drop 72 = dktX2_back_3 := dk_seg dksX2_back_2 24 rfl rfl
theorem dksX2_back_4 : cX2_back.data.toList.drop 94 = dktX2_back_4 := dk_seg dksX2_back_3 22 rfl rfl
theorem dksX2_back_5 : cX2_back.data.toList.drop 118 = dktX2_back_5 := dk_seg dksX2_back_4 24 rfl rfl
theorem dksX2_back_6 : cX2_back.data.toList.drop 141 = dktX2_back_6 := dk_seg dksX2_back_5 23 rfl rfl
theorem dksX2_back_7 : cX2_back.data.toList.drop 163 = dktX2_back_7 := dk_seg dksX2_back_6 22 rfl rfl
theorem dksX2_back_8 : cX2_back.data.toList.drop 185 = dktX2_back_8 := dk_seg dksX2_back_7 22 rfl rfl
theorem dX2_back_0 : decode cX2_back 0 = .ok (.iconst 0, 1) := dk_3 (dk_at dksX2_back_0 0 rfl rfl)
theorem dX2_back_1 : decode cX2_back 1 = .ok (.istore_n 1, 1) := dk_60 (dk_at dksX2_back_0 1 rfl rfl)
theorem dX2_back_2 : decode cX2_back 2 = .ok (.iload_n 1, 1) := dk_27 (dk_at dksX2_back_0 2 rfl rfl)
theorem dX2_back_3 : decode cX2_back 3 = .ok (.aload_n 0, 1) := dk_42 (dk_at dksX2_back_0 3 rfl rfl)
theorem dX2_back_4 : decode cX2_back 4 = .ok (.getfield 3, 3) := dk_180 0 3 (dk_at dksX2_back_0 4 rfl rfl)
theorem dX2_back_7 : decode cX2_back 7 = .ok (.getfield 37, 3) := dk_180 0 37 (dk_at dksX2_back_0 7 rfl rfl)
theorem dX2_back_10 : decode cX2_back 10 = .ok (.invokevirtual 41, 3) := dk_182 0 41 (dk_at dksX2_back_0 10 rfl rfl)
theorem dX2_back_13 : decode cX2_back 13 = .ok (.if_icmp .ge 74, 3) := dk_162 0 74 (dk_at dksX2_back_0 13 rfl rfl)
theorem dX2_back_16 : decode cX2_back 16 = .ok (.aload_n 0, 1) := dk_42 (dk_at dksX2_back_0 16 rfl rfl)
theorem dX2_back_17 : decode cX2_back 17 = .ok (.getfield 3, 3) := dk_180 0 3 (dk_at dksX2_back_0 17 rfl rfl)
theorem dX2_back_20 : decode cX2_back 20 = .ok (.getfield 37, 3) := dk_180 0 37 (dk_at dksX2_back_0 20 rfl rfl)
theorem dX2_back_23 : decode cX2_back 23 = .ok (.iload_n 1, 1) := dk_27 (dk_at dksX2_back_0 23 rfl rfl)
theorem dX2_back_24 : decode cX2_back 24 = .ok (.invokevirtual 47, 3) := dk_182 0 47 (dk_at dksX2_back_1 0 rfl rfl)
theorem dX2_back_27 : decode cX2_back 27 = .ok (.checkcast 51, 3) := dk_192 0 51 (dk_at dksX2_back_1 3 rfl rfl)
theorem dX2_back_30 : decode cX2_back 30 = .ok (.astore_n 2, 1) := dk_77 (dk_at dksX2_back_1 6 rfl rfl)
theorem dX2_back_31 : decode cX2_back 31 = .ok (.aload_n 2, 1) := dk_44 (dk_at dksX2_back_1 7 rfl rfl)
theorem dX2_back_32 : decode cX2_back 32 = .ok (.aload_n 0, 1) := dk_42 (dk_at dksX2_back_1 8 rfl rfl)
theorem dX2_back_33 : decode cX2_back 33 = .ok (.getfield 15, 3) := dk_180 0 15 (dk_at dksX2_back_1 9 rfl rfl)
theorem dX2_back_36 : decode cX2_back 36 = .ok (.iload_n 1, 1) := dk_27 (dk_at dksX2_back_1 12 rfl rfl)
theorem dX2_back_37 : decode cX2_back 37 = .ok (.iaload, 1) := dk_46 (dk_at dksX2_back_1 13 rfl rfl)
theorem dX2_back_38 : decode cX2_back 38 = .ok (.putfield 53, 3) := dk_181 0 53 (dk_at dksX2_back_1 14 rfl rfl)
theorem dX2_back_41 : decode cX2_back 41 = .ok (.aload_n 2, 1) := dk_44 (dk_at dksX2_back_1 17 rfl rfl)
theorem dX2_back_42 : decode cX2_back 42 = .ok (.aload_n 0, 1) := dk_42 (dk_at dksX2_back_1 18 rfl rfl)
theorem dX2_back_43 : decode cX2_back 43 = .ok (.getfield 19, 3) := dk_180 0 19 (dk_at dksX2_back_1 19 rfl rfl)
theorem dX2_back_46 : decode cX2_back 46 = .ok (.iload_n 1, 1) := dk_27 (dk_at dksX2_back_1 22 rfl rfl)
theorem dX2_back_47 : decode cX2_back 47 = .ok (.iaload, 1) := dk_46 (dk_at dksX2_back_1 23 rfl rfl)
theorem dX2_back_48 : decode cX2_back 48 = .ok (.putfield 56, 3) := dk_181 0 56 (dk_at dksX2_back_2 0 rfl rfl)
theorem dX2_back_51 : decode cX2_back 51 = .ok (.aload_n 2, 1) := dk_44 (dk_at dksX2_back_2 3 rfl rfl)
theorem dX2_back_52 : decode cX2_back 52 = .ok (.aload_n 0, 1) := dk_42 (dk_at dksX2_back_2 4 rfl rfl)
theorem dX2_back_53 : decode cX2_back 53 = .ok (.getfield 22, 3) := dk_180 0 22 (dk_at dksX2_back_2 5 rfl rfl)
theorem dX2_back_56 : decode cX2_back 56 = .ok (.iload_n 1, 1) := dk_27 (dk_at dksX2_back_2 8 rfl rfl)
theorem dX2_back_57 : decode cX2_back 57 = .ok (.iaload, 1) := dk_46 (dk_at dksX2_back_2 9 rfl rfl)
theorem dX2_back_58 : decode cX2_back 58 = .ok (.putfield 58, 3) := dk_181 0 58 (dk_at dksX2_back_2 10 rfl rfl)
theorem dX2_back_61 : decode cX2_back 61 = .ok (.aload_n 2, 1) := dk_44 (dk_at dksX2_back_2 13 rfl rfl)
theorem dX2_back_62 : decode cX2_back 62 = .ok (.aload_n 0, 1) := dk_42 (dk_at dksX2_back_2 14 rfl rfl)
theorem dX2_back_63 : decode cX2_back 63 = .ok (.getfield 25, 3) := dk_180 0 25 (dk_at dksX2_back_2 15 rfl rfl)
theorem dX2_back_66 : decode cX2_back 66 = .ok (.iload_n 1, 1) := dk_27 (dk_at dksX2_back_2 18 rfl rfl)
theorem dX2_back_67 : decode cX2_back 67 = .ok (.iaload, 1) := dk_46 (dk_at dksX2_back_2 19 rfl rfl)
theorem dX2_back_68 : decode cX2_back 68 = .ok (.putfield 60, 3) := dk_181 0 60 (dk_at dksX2_back_2 20 rfl rfl)
theorem dX2_back_71 : decode cX2_back 71 = .ok (.aload_n 2, 1) := dk_44 (dk_at dksX2_back_2 23 rfl rfl)
theorem dX2_back_72 : decode cX2_back 72 = .ok (.aload_n 0, 1) := dk_42 (dk_at dksX2_back_3 0 rfl rfl)
theorem dX2_back_73 : decode cX2_back 73 = .ok (.getfield 28, 3) := dk_180 0 28 (dk_at dksX2_back_3 1 rfl rfl)
theorem dX2_back_76 : decode cX2_back 76 = .ok (.iload_n 1, 1) := dk_27 (dk_at dksX2_back_3 4 rfl rfl)
theorem dX2_back_77 : decode cX2_back 77 = .ok (.iaload, 1) := dk_46 (dk_at dksX2_back_3 5 rfl rfl)
theorem dX2_back_78 : decode cX2_back 78 = .ok (.putfield 62, 3) := dk_181 0 62 (dk_at dksX2_back_3 6 rfl rfl)
theorem dX2_back_81 : decode cX2_back 81 = .ok (.iinc 1 1, 3) := dk_132 1 1 (dk_at dksX2_back_3 9 rfl rfl)
theorem dX2_back_84 : decode cX2_back 84 = .ok (.goto (-82), 3) := dk_167 255 174 (dk_at dksX2_back_3 12 rfl rfl)
theorem dX2_back_87 : decode cX2_back 87 = .ok (.iconst 0, 1) := dk_3 (dk_at dksX2_back_3 15 rfl rfl)
theorem dX2_back_88 : decode cX2_back 88 = .ok (.istore_n 1, 1) := dk_60 (dk_at dksX2_back_3 16 rfl rfl)
theorem dX2_back_89 : decode cX2_back 89 = .ok (.iload_n 1, 1) := dk_27 (dk_at dksX2_back_3 17 rfl rfl)
theorem dX2_back_90 : decode cX2_back 90 = .ok (.aload_n 0, 1) := dk_42 (dk_at dksX2_back_3 18 rfl rfl)
theorem dX2_back_91 : decode cX2_back 91 = .ok (.getfield 3, 3) := dk_180 0 3 (dk_at dksX2_back_3 19 rfl rfl)
theorem dX2_back_94 : decode cX2_back 94 = .ok (.getfield 64, 3) := dk_180 0 64 (dk_at dksX2_back_4 0 rfl rfl)
theorem dX2_back_97 : decode cX2_back 97 = .ok (.invokevirtual 41, 3) := dk_182 0 41 (dk_at dksX2_back_4 3 rfl rfl)
theorem dX2_back_100 : decode cX2_back 100 = .ok (.if_icmp .ge 55, 3) := dk_162 0 55 (dk_at dksX2_back_4 6 rfl rfl)
theorem dX2_back_103 : decode cX2_back 103 = .ok (.aload_n 0, 1) := dk_42 (dk_at dksX2_back_4 9 rfl rfl)
theorem dX2_back_104 : decode cX2_back 104 = .ok (.getfield 3, 3) := dk_180 0 3 (dk_at dksX2_back_4 10 rfl rfl)
theorem dX2_back_107 : decode cX2_back 107 = .ok (.getfield 64, 3) := dk_180 0 64 (dk_at dksX2_back_4 13 rfl rfl)
theorem dX2_back_110 : decode cX2_back 110 = .ok (.iload_n 1, 1) := dk_27 (dk_at dksX2_back_4 16 rfl rfl)
theorem dX2_back_111 : decode cX2_back 111 = .ok (.invokevirtual 47, 3) := dk_182 0 47 (dk_at dksX2_back_4 17 rfl rfl)
theorem dX2_back_114 : decode cX2_back 114 = .ok (.checkcast 67, 3) := dk_192 0 67 (dk_at dksX2_back_4 20 rfl rfl)
theorem dX2_back_117 : decode cX2_back 117 = .ok (.aload_n 0, 1) := dk_42 (dk_at dksX2_back_4 23 rfl rfl)
theorem dX2_back_118 : decode cX2_back 118 = .ok (.getfield 31, 3) := dk_180 0 31 (dk_at dksX2_back_5 0 rfl rfl)
theorem dX2_back_121 : decode cX2_back 121 = .ok (.iload_n 1, 1) := dk_27 (dk_at dksX2_back_5 3 rfl rfl)
theorem dX2_back_122 : decode cX2_back 122 = .ok (.iaload, 1) := dk_46 (dk_at dksX2_back_5 4 rfl rfl)
theorem dX2_back_123 : decode cX2_back 123 = .ok (.putfield 69, 3) := dk_181 0 69 (dk_at dksX2_back_5 5 rfl rfl)
theorem dX2_back_126 : decode cX2_back 126 = .ok (.aload_n 0, 1) := dk_42 (dk_at dksX2_back_5 8 rfl rfl)
theorem dX2_back_127 : decode cX2_back 127 = .ok (.getfield 3, 3) := dk_180 0 3 (dk_at dksX2_back_5 9 rfl rfl)
theorem dX2_back_130 : decode cX2_back 130 = .ok (.getfield 64, 3) := dk_180 0 64 (dk_at dksX2_back_5 12 rfl rfl)
theorem dX2_back_133 : decode cX2_back 133 = .ok (.iload_n 1, 1) := dk_27 (dk_at dksX2_back_5 15 rfl rfl)
theorem dX2_back_134 : decode cX2_back 134 = .ok (.invokevirtual 47, 3) := dk_182 0 47 (dk_at dksX2_back_5 16 rfl rfl)
theorem dX2_back_137 : decode cX2_back 137 = .ok (.checkcast 67, 3) := dk_192 0 67 (dk_at dksX2_back_5 19 rfl rfl)
theorem dX2_back_140 : decode cX2_back 140 = .ok (.aload_n 0, 1) := dk_42 (dk_at dksX2_back_5 22 rfl rfl)
theorem dX2_back_141 : decode cX2_back 141 = .ok (.getfield 34, 3) := dk_180 0 34 (dk_at dksX2_back_6 0 rfl rfl)
theorem dX2_back_144 : decode cX2_back 144 = .ok (.iload_n 1, 1) := dk_27 (dk_at dksX2_back_6 3 rfl rfl)
theorem dX2_back_145 : decode cX2_back 145 = .ok (.iaload, 1) := dk_46 (dk_at dksX2_back_6 4 rfl rfl)
theorem dX2_back_146 : decode cX2_back 146 = .ok (.putfield 71, 3) := dk_181 0 71 (dk_at dksX2_back_6 5 rfl rfl)
theorem dX2_back_149 : decode cX2_back 149 = .ok (.iinc 1 1, 3) := dk_132 1 1 (dk_at dksX2_back_6 8 rfl rfl)
theorem dX2_back_152 : decode cX2_back 152 = .ok (.goto (-63), 3) := dk_167 255 193 (dk_at dksX2_back_6 11 rfl rfl)
theorem dX2_back_155 : decode cX2_back 155 = .ok (.aload_n 0, 1) := dk_42 (dk_at dksX2_back_6 14 rfl rfl)
theorem dX2_back_156 : decode cX2_back 156 = .ok (.getfield 3, 3) := dk_180 0 3 (dk_at dksX2_back_6 15 rfl rfl)
theorem dX2_back_159 : decode cX2_back 159 = .ok (.aload_n 0, 1) := dk_42 (dk_at dksX2_back_6 18 rfl rfl)
theorem dX2_back_160 : decode cX2_back 160 = .ok (.getfield 76, 3) := dk_180 0 76 (dk_at dksX2_back_6 19 rfl rfl)
theorem dX2_back_163 : decode cX2_back 163 = .ok (.invokevirtual 97, 3) := dk_182 0 97 (dk_at dksX2_back_7 0 rfl rfl)
theorem dX2_back_166 : decode cX2_back 166 = .ok (.aload_n 0, 1) := dk_42 (dk_at dksX2_back_7 3 rfl rfl)
theorem dX2_back_167 : decode cX2_back 167 = .ok (.getfield 3, 3) := dk_180 0 3 (dk_at dksX2_back_7 4 rfl rfl)
theorem dX2_back_170 : decode cX2_back 170 = .ok (.aload_n 0, 1) := dk_42 (dk_at dksX2_back_7 7 rfl rfl)
theorem dX2_back_171 : decode cX2_back 171 = .ok (.getfield 82, 3) := dk_180 0 82 (dk_at dksX2_back_7 8 rfl rfl)
theorem dX2_back_174 : decode cX2_back 174 = .ok (.putfield 79, 3) := dk_181 0 79 (dk_at dksX2_back_7 11 rfl rfl)
theorem dX2_back_177 : decode cX2_back 177 = .ok (.aload_n 0, 1) := dk_42 (dk_at dksX2_back_7 14 rfl rfl)
theorem dX2_back_178 : decode cX2_back 178 = .ok (.getfield 3, 3) := dk_180 0 3 (dk_at dksX2_back_7 15 rfl rfl)
theorem dX2_back_181 : decode cX2_back 181 = .ok (.aload_n 0, 1) := dk_42 (dk_at dksX2_back_7 18 rfl rfl)
theorem dX2_back_182 : decode cX2_back 182 = .ok (.getfield 88, 3) := dk_180 0 88 (dk_at dksX2_back_7 19 rfl rfl)
theorem dX2_back_185 : decode cX2_back 185 = .ok (.putfield 85, 3) := dk_181 0 85 (dk_at dksX2_back_8 0 rfl rfl)
theorem dX2_back_188 : decode cX2_back 188 = .ok (.aload_n 0, 1) := dk_42 (dk_at dksX2_back_8 3 rfl rfl)
theorem dX2_back_189 : decode cX2_back 189 = .ok (.getfield 3, 3) := dk_180 0 3 (dk_at dksX2_back_8 4 rfl rfl)
theorem dX2_back_192 : decode cX2_back 192 = .ok (.aload_n 0, 1) := dk_42 (dk_at dksX2_back_8 7 rfl rfl)
theorem dX2_back_193 : decode cX2_back 193 = .ok (.getfield 94, 3) := dk_180 0 94 (dk_at dksX2_back_8 8 rfl rfl)
theorem dX2_back_196 : decode cX2_back 196 = .ok (.putfield 91, 3) := dk_181 0 91 (dk_at dksX2_back_8 11 rfl rfl)
theorem dX2_back_199 : decode cX2_back 199 = .ok (.return_, 1) := dk_177 (dk_at dksX2_back_8 14 rfl rfl)
theorem q150 : (Jvm.Cond.initialized "TurningRoads$Kept") ∈ lw_all := lw_g (lw_at lw_m1 8 rfl) rfl
theorem q275 : (Jvm.Cond.instantiable "TurningRoads$Kept" (12 : Nat)) ∈ lw_all := lw_g (lw_at lw_m1 133 rfl) rfl
theorem q277 : (Jvm.Cond.instanceMethod ({ cls := "TurningRoads$Kept", name := "<init>", desc := "(LTurningRoads;)V" } : Jvm.MethodName)) ∈ lw_all := lw_g (lw_at lw_m1 135 rfl) rfl
theorem q278 : (Jvm.Cond.code ({ cls := "TurningRoads$Kept", name := "<init>", desc := "(LTurningRoads;)V" } : Jvm.MethodName) prog_9_method_1_code (2 : Nat) (Option.none : Option Jvm.ClassFile.FieldType)) ∈ lw_all := lw_g (lw_at lw_m1 136 rfl) rfl
theorem q279 : (Jvm.Cond.methodLink "TurningRoads$Kept" (9 : Nat) ({ cls := "java/lang/Object", name := "<init>", desc := "()V" } : Jvm.MethodName)) ∈ lw_all := lw_g (lw_at lw_m1 137 rfl) rfl
theorem q280 : (Jvm.Cond.fieldLink "TurningRoads$Kept" (15 : Nat) "TurningRoads$Kept" "place" "[I") ∈ lw_all := lw_g (lw_at lw_m1 138 rfl) rfl
theorem q281 : (Jvm.Cond.fieldLink "TurningRoads$Kept" (19 : Nat) "TurningRoads$Kept" "way" "[I") ∈ lw_all := lw_g (lw_at lw_m1 139 rfl) rfl
theorem q282 : (Jvm.Cond.fieldLink "TurningRoads$Kept" (22 : Nat) "TurningRoads$Kept" "minutes" "[I") ∈ lw_all := lw_g (lw_at lw_m1 140 rfl) rfl
theorem q283 : (Jvm.Cond.fieldLink "TurningRoads$Kept" (25 : Nat) "TurningRoads$Kept" "to" "[I") ∈ lw_all := lw_g (lw_at lw_m1 141 rfl) rfl
theorem q284 : (Jvm.Cond.fieldLink "TurningRoads$Kept" (28 : Nat) "TurningRoads$Kept" "home" "[I") ∈ lw_all := lw_g (lw_at lw_m1 142 rfl) rfl
theorem q285 : (Jvm.Cond.fieldLink "TurningRoads$Kept" (31 : Nat) "TurningRoads$Kept" "gone" "[I") ∈ lw_all := lw_g (lw_at lw_m1 143 rfl) rfl
theorem q286 : (Jvm.Cond.fieldLink "TurningRoads$Kept" (34 : Nat) "TurningRoads$Kept" "last" "[I") ∈ lw_all := lw_g (lw_at lw_m1 144 rfl) rfl
theorem q287 : (Jvm.Cond.fieldLink "TurningRoads$Kept" (76 : Nat) "TurningRoads$Kept" "bits" "I") ∈ lw_all := lw_g (lw_at lw_m1 145 rfl) rfl
theorem q288 : (Jvm.Cond.fieldLink "TurningRoads$Kept" (82 : Nat) "TurningRoads$Kept" "all" "I") ∈ lw_all := lw_g (lw_at lw_m1 146 rfl) rfl
theorem q290 : (Jvm.Cond.fieldLink "TurningRoads$Kept" (88 : Nat) "TurningRoads$Kept" "time" "I") ∈ lw_all := lw_g (lw_at lw_m1 148 rfl) rfl
theorem q291 : (Jvm.Cond.fieldLink "TurningRoads$Kept" (94 : Nat) "TurningRoads$Kept" "meetings" "I") ∈ lw_all := lw_g (lw_at lw_m1 149 rfl) rfl
theorem q293 : (Jvm.Cond.fieldLink "TurningRoads$Kept" (3 : Nat) "TurningRoads$Kept" "this$0" "LTurningRoads;") ∈ lw_all := lw_g (lw_at lw_m1 151 rfl) rfl
theorem q294 : (Jvm.Cond.laysFinal "TurningRoads$Kept" "TurningRoads$Kept" "place" "[I") ∈ lw_all := lw_g (lw_at lw_m1 152 rfl) rfl
theorem q295 : (Jvm.Cond.soleField "TurningRoads$Kept" "place") ∈ lw_all := lw_g (lw_at lw_m1 153 rfl) rfl
theorem q296 : (Jvm.Cond.laysFinal "TurningRoads$Kept" "TurningRoads$Kept" "way" "[I") ∈ lw_all := lw_g (lw_at lw_m1 154 rfl) rfl
theorem q297 : (Jvm.Cond.soleField "TurningRoads$Kept" "way") ∈ lw_all := lw_g (lw_at lw_m1 155 rfl) rfl
theorem q298 : (Jvm.Cond.laysFinal "TurningRoads$Kept" "TurningRoads$Kept" "minutes" "[I") ∈ lw_all := lw_g (lw_at lw_m1 156 rfl) rfl
theorem q299 : (Jvm.Cond.soleField "TurningRoads$Kept" "minutes") ∈ lw_all := lw_g (lw_at lw_m1 157 rfl) rfl
theorem q300 : (Jvm.Cond.laysFinal "TurningRoads$Kept" "TurningRoads$Kept" "to" "[I") ∈ lw_all := lw_g (lw_at lw_m1 158 rfl) rfl
theorem q301 : (Jvm.Cond.soleField "TurningRoads$Kept" "to") ∈ lw_all := lw_g (lw_at lw_m1 159 rfl) rfl
theorem q302 : (Jvm.Cond.laysFinal "TurningRoads$Kept" "TurningRoads$Kept" "home" "[I") ∈ lw_all := lw_g (lw_at lw_m1 160 rfl) rfl
theorem q303 : (Jvm.Cond.soleField "TurningRoads$Kept" "home") ∈ lw_all := lw_g (lw_at lw_m1 161 rfl) rfl
theorem q304 : (Jvm.Cond.laysFinal "TurningRoads$Kept" "TurningRoads$Kept" "gone" "[I") ∈ lw_all := lw_g (lw_at lw_m1 162 rfl) rfl
theorem q305 : (Jvm.Cond.soleField "TurningRoads$Kept" "gone") ∈ lw_all := lw_g (lw_at lw_m1 163 rfl) rfl
theorem q306 : (Jvm.Cond.laysFinal "TurningRoads$Kept" "TurningRoads$Kept" "last" "[I") ∈ lw_all := lw_g (lw_at lw_m1 164 rfl) rfl
theorem q307 : (Jvm.Cond.soleField "TurningRoads$Kept" "last") ∈ lw_all := lw_g (lw_at lw_m1 165 rfl) rfl
theorem q308 : (Jvm.Cond.lays "TurningRoads$Kept" "TurningRoads$Kept" "bits" "I") ∈ lw_all := lw_g (lw_at lw_m1 166 rfl) rfl
theorem q309 : (Jvm.Cond.soleField "TurningRoads$Kept" "bits") ∈ lw_all := lw_g (lw_at lw_m1 167 rfl) rfl
theorem q310 : (Jvm.Cond.lays "TurningRoads$Kept" "TurningRoads$Kept" "all" "I") ∈ lw_all := lw_g (lw_at lw_m1 168 rfl) rfl
theorem q311 : (Jvm.Cond.soleField "TurningRoads$Kept" "all") ∈ lw_all := lw_g (lw_at lw_m1 169 rfl) rfl
theorem q312 : (Jvm.Cond.lays "TurningRoads$Kept" "TurningRoads$Kept" "time" "I") ∈ lw_all := lw_g (lw_at lw_m1 170 rfl) rfl
theorem q313 : (Jvm.Cond.soleField "TurningRoads$Kept" "time") ∈ lw_all := lw_g (lw_at lw_m1 171 rfl) rfl
theorem q314 : (Jvm.Cond.lays "TurningRoads$Kept" "TurningRoads$Kept" "meetings" "I") ∈ lw_all := lw_g (lw_at lw_m1 172 rfl) rfl
theorem q315 : (Jvm.Cond.soleField "TurningRoads$Kept" "meetings") ∈ lw_all := lw_g (lw_at lw_m1 173 rfl) rfl
theorem q316 : (Jvm.Cond.laysFinal "TurningRoads$Kept" "TurningRoads$Kept" "this$0" "LTurningRoads;") ∈ lw_all := lw_g (lw_at lw_m1 174 rfl) rfl
theorem q317 : (Jvm.Cond.soleField "TurningRoads$Kept" "this$0") ∈ lw_all := lw_g (lw_at lw_m1 175 rfl) rfl
theorem q318 : (Jvm.Cond.superclass "TurningRoads$Kept" "java/lang/Object") ∈ lw_all := lw_g (lw_at lw_m1 176 rfl) rfl
theorem q325 : (Jvm.Cond.fieldLinkNest "TurningRoads$Kept" (64 : Nat) "TurningRoads" "ways" "Ljava/util/ArrayList;" "TurningRoads") ∈ lw_tbl := lw_at lw_m1 183 rfl
theorem q327 : (Jvm.Cond.fieldLinkNest "TurningRoads$Kept" (37 : Nat) "TurningRoads" "goers" "Ljava/util/ArrayList;" "TurningRoads") ∈ lw_tbl := lw_at lw_m1 185 rfl
theorem q330 : (Jvm.Cond.fieldLinkNest "TurningRoads$Kept" (79 : Nat) "TurningRoads" "goings" "I" "TurningRoads") ∈ lw_tbl := lw_at lw_m1 188 rfl
theorem q332 : (Jvm.Cond.fieldLinkNest "TurningRoads$Kept" (85 : Nat) "TurningRoads" "clock" "I" "TurningRoads") ∈ lw_tbl := lw_at lw_m1 190 rfl
theorem q334 : (Jvm.Cond.fieldLinkNest "TurningRoads$Kept" (91 : Nat) "TurningRoads" "met" "I" "TurningRoads") ∈ lw_tbl := lw_at lw_m1 192 rfl
theorem q595 : (Jvm.Cond.fieldLinkNest "TurningRoads$Kept" (69 : Nat) "TurningRoads$Way" "gone" "I" "TurningRoads") ∈ lw_tbl := lw_at lw_m2 213 rfl
theorem q597 : (Jvm.Cond.fieldLinkNest "TurningRoads$Kept" (71 : Nat) "TurningRoads$Way" "last" "I" "TurningRoads") ∈ lw_tbl := lw_at lw_m2 215 rfl
theorem q655 : (Jvm.Cond.selects "TurningRoads$Kept" ({ cls := "java/lang/Object", name := "getClass", desc := "()Ljava/lang/Class;" } : Jvm.MethodName) ({ cls := "java/lang/Object", name := "getClass", desc := "()Ljava/lang/Class;" } : Jvm.MethodName)) ∈ lw_all := lw_g (lw_at lw_m3 33 rfl) rfl
theorem q690 : (Jvm.Cond.fieldLinkNest "TurningRoads$Kept" (53 : Nat) "TurningRoads$Goer" "place" "I" "TurningRoads") ∈ lw_tbl := lw_at lw_m3 68 rfl
theorem q693 : (Jvm.Cond.fieldLinkNest "TurningRoads$Kept" (56 : Nat) "TurningRoads$Goer" "way" "I" "TurningRoads") ∈ lw_tbl := lw_at lw_m3 71 rfl
theorem q695 : (Jvm.Cond.fieldLinkNest "TurningRoads$Kept" (58 : Nat) "TurningRoads$Goer" "minutes" "I" "TurningRoads") ∈ lw_tbl := lw_at lw_m3 73 rfl
theorem q698 : (Jvm.Cond.fieldLinkNest "TurningRoads$Kept" (60 : Nat) "TurningRoads$Goer" "to" "I" "TurningRoads") ∈ lw_tbl := lw_at lw_m3 76 rfl
theorem q701 : (Jvm.Cond.fieldLinkNest "TurningRoads$Kept" (62 : Nat) "TurningRoads$Goer" "home" "I" "TurningRoads") ∈ lw_tbl := lw_at lw_m3 79 rfl
theorem q1273 : (Jvm.Cond.instanceMethod ({ cls := "TurningRoads$Kept", name := "keep", desc := "()V" } : Jvm.MethodName)) ∈ lw_all := lw_g (lw_at lw_m5 171 rfl) rfl
theorem q1274 : (Jvm.Cond.selects "TurningRoads$Kept" ({ cls := "TurningRoads$Kept", name := "keep", desc := "()V" } : Jvm.MethodName) ({ cls := "TurningRoads$Kept", name := "keep", desc := "()V" } : Jvm.MethodName)) ∈ lw_all := lw_g (lw_at lw_m5 172 rfl) rfl
theorem q1275 : (Jvm.Cond.code ({ cls := "TurningRoads$Kept", name := "keep", desc := "()V" } : Jvm.MethodName) prog_9_method_2_code (3 : Nat) (Option.none : Option Jvm.ClassFile.FieldType)) ∈ lw_all := lw_g (lw_at lw_m5 173 rfl) rfl
theorem q1276 : (Jvm.Cond.methodLink "TurningRoads$Kept" (41 : Nat) ({ cls := "java/util/ArrayList", name := "size", desc := "()I" } : Jvm.MethodName)) ∈ lw_all := lw_g (lw_at lw_m5 174 rfl) rfl
theorem q1277 : (Jvm.Cond.methodLink "TurningRoads$Kept" (47 : Nat) ({ cls := "java/util/ArrayList", name := "get", desc := "(I)Ljava/lang/Object;" } : Jvm.MethodName)) ∈ lw_all := lw_g (lw_at lw_m5 175 rfl) rfl
theorem q1278 : (Jvm.Cond.classLink "TurningRoads$Kept" (51 : Nat) "TurningRoads$Goer") ∈ lw_all := lw_g (lw_at lw_m5 176 rfl) rfl
theorem q1279 : (Jvm.Cond.classLink "TurningRoads$Kept" (67 : Nat) "TurningRoads$Way") ∈ lw_all := lw_g (lw_at lw_m5 177 rfl) rfl
theorem q1280 : (Jvm.Cond.methodLinkNest "TurningRoads$Kept" (73 : Nat) ({ cls := "TurningRoads", name := "directions", desc := "()I" } : Jvm.MethodName) "TurningRoads") ∈ lw_tbl := lw_at lw_m5 178 rfl
theorem q1287 : (Jvm.Cond.instanceMethod ({ cls := "TurningRoads$Kept", name := "back", desc := "()V" } : Jvm.MethodName)) ∈ lw_all := lw_g (lw_at lw_m5 185 rfl) rfl
theorem q1288 : (Jvm.Cond.selects "TurningRoads$Kept" ({ cls := "TurningRoads$Kept", name := "back", desc := "()V" } : Jvm.MethodName) ({ cls := "TurningRoads$Kept", name := "back", desc := "()V" } : Jvm.MethodName)) ∈ lw_all := lw_g (lw_at lw_m5 186 rfl) rfl
theorem q1289 : (Jvm.Cond.code ({ cls := "TurningRoads$Kept", name := "back", desc := "()V" } : Jvm.MethodName) prog_9_method_3_code (3 : Nat) (Option.none : Option Jvm.ClassFile.FieldType)) ∈ lw_all := lw_g (lw_at lw_m5 187 rfl) rfl
theorem q1290 : (Jvm.Cond.methodLinkNest "TurningRoads$Kept" (97 : Nat) ({ cls := "TurningRoads", name := "lays", desc := "(I)V" } : Jvm.MethodName) "TurningRoads") ∈ lw_tbl := lw_at lw_m5 188 rfl
theorem q1986 : (Jvm.Cond.castable "TurningRoads$Kept" "java/lang/Object") ∈ lw_tbl := lw_at lw_m8 164 rfl
theorem in_X2 : ∀ w ∈ wsX20, w ∈ lw_all := lw_in wsX20 [294, 296, 298, 300, 302, 304, 306, 308, 310, 312, 314, 316] (by decide +kernel) (by decide +kernel)

/-! TurningRoads$Parser -/
def RX4 : String := "TurningRoads$Parser"
def TX4 : u_T := fun k => match k with
  | 0 => ("TurningRoads$Parser", "names", "[Ljava/lang/String;", true)
  | 1 => ("TurningRoads$Parser", "at", "I", false)
  | 2 => ("TurningRoads$Parser", "deep", "I", false)
  | 3 => ("TurningRoads$Parser", "counted", "I", false)
  | 4 => ("TurningRoads$Parser", "clauses", "I", false)
  | 5 => ("TurningRoads$Parser", "most", "I", true)
  | _ => ("TurningRoads$Parser", "this$0", "LTurningRoads;", true)
def tyX4 : Nat → FieldType := fun k => match k with
  | 0 => .array (.object "java/lang/String")
  | 1 => .int
  | 2 => .int
  | 3 => .int
  | 4 => .int
  | 5 => .int
  | _ => .object "TurningRoads"
abbrev wsX40 : List Cond := u_ws RX4 TX4 7
theorem nmX4 : ∀ a, a < 7 → ∀ b, b < 7 → a ≠ b → (TX4 a).2.1 ≠ (TX4 b).2.1 := by decide +kernel
theorem tyX4_ok : ∀ k, k < 7 → parseFieldDescriptor (TX4 k).2.2.1 = some (tyX4 k) := by decide +kernel
abbrev cX4_init : ByteArray := prog_11_method_1_code
def yX4_init : MethodName := ⟨RX4, "<init>", "(LTurningRoads;[Ljava/lang/String;I)V"⟩
def dkwX4_init_0 : List UInt8 := [42, 43, 181, 0, 3, 42, 183, 0, 9, 42, 44, 181, 0, 15, 42, 29, 181, 0, 19, 177]
abbrev dktX4_init_0 : List UInt8 := dkwX4_init_0 ++ []
theorem dksX4_init_0 : cX4_init.data.toList.drop 0 = dktX4_init_0 := by decide +kernel
theorem dX4_init_0 : decode cX4_init 0 = .ok (.aload_n 0, 1) := dk_42 (dk_at dksX4_init_0 0 rfl rfl)
theorem dX4_init_1 : decode cX4_init 1 = .ok (.aload_n 1, 1) := dk_43 (dk_at dksX4_init_0 1 rfl rfl)
theorem dX4_init_2 : decode cX4_init 2 = .ok (.putfield 3, 3) := dk_181 0 3 (dk_at dksX4_init_0 2 rfl rfl)
theorem dX4_init_5 : decode cX4_init 5 = .ok (.aload_n 0, 1) := dk_42 (dk_at dksX4_init_0 5 rfl rfl)
theorem dX4_init_6 : decode cX4_init 6 = .ok (.invokespecial 9, 3) := dk_183 0 9 (dk_at dksX4_init_0 6 rfl rfl)
theorem dX4_init_9 : decode cX4_init 9 = .ok (.aload_n 0, 1) := dk_42 (dk_at dksX4_init_0 9 rfl rfl)
theorem dX4_init_10 : decode cX4_init 10 = .ok (.aload_n 2, 1) := dk_44 (dk_at dksX4_init_0 10 rfl rfl)
theorem dX4_init_11 : decode cX4_init 11 = .ok (.putfield 15, 3) := dk_181 0 15 (dk_at dksX4_init_0 11 rfl rfl)
theorem dX4_init_14 : decode cX4_init 14 = .ok (.aload_n 0, 1) := dk_42 (dk_at dksX4_init_0 14 rfl rfl)
theorem dX4_init_15 : decode cX4_init 15 = .ok (.iload_n 3, 1) := dk_29 (dk_at dksX4_init_0 15 rfl rfl)
theorem dX4_init_16 : decode cX4_init 16 = .ok (.putfield 19, 3) := dk_181 0 19 (dk_at dksX4_init_0 16 rfl rfl)
theorem dX4_init_19 : decode cX4_init 19 = .ok (.return_, 1) := dk_177 (dk_at dksX4_init_0 19 rfl rfl)
abbrev cX4_land : ByteArray := prog_11_method_22_code
def yX4_land : MethodName := ⟨RX4, "land", "(Ljava/util/ArrayList;Ljava/util/ArrayList;)V"⟩
def dkwX4_land_0 : List UInt8 := [42, 43, 44, 182, 0, 202, 42, 182, 0, 206, 153, 0, 12, 42, 43, 44, 182, 0, 202, 167, 255, 243, 177]
abbrev dktX4_land_0 : List UInt8 := dkwX4_land_0 ++ []
theorem dksX4_land_0 : cX4_land.data.toList.drop 0 = dktX4_land_0 := by decide +kernel
theorem dX4_land_0 : decode cX4_land 0 = .ok (.aload_n 0, 1) := dk_42 (dk_at dksX4_land_0 0 rfl rfl)
theorem dX4_land_1 : decode cX4_land 1 = .ok (.aload_n 1, 1) := dk_43 (dk_at dksX4_land_0 1 rfl rfl)
theorem dX4_land_2 : decode cX4_land 2 = .ok (.aload_n 2, 1) := dk_44 (dk_at dksX4_land_0 2 rfl rfl)
theorem dX4_land_3 : decode cX4_land 3 = .ok (.invokevirtual 202, 3) := dk_182 0 202 (dk_at dksX4_land_0 3 rfl rfl)
theorem dX4_land_6 : decode cX4_land 6 = .ok (.aload_n 0, 1) := dk_42 (dk_at dksX4_land_0 6 rfl rfl)
theorem dX4_land_7 : decode cX4_land 7 = .ok (.invokevirtual 206, 3) := dk_182 0 206 (dk_at dksX4_land_0 7 rfl rfl)
theorem dX4_land_10 : decode cX4_land 10 = .ok (.ifCond .eq 12, 3) := dk_153 0 12 (dk_at dksX4_land_0 10 rfl rfl)
theorem dX4_land_13 : decode cX4_land 13 = .ok (.aload_n 0, 1) := dk_42 (dk_at dksX4_land_0 13 rfl rfl)
theorem dX4_land_14 : decode cX4_land 14 = .ok (.aload_n 1, 1) := dk_43 (dk_at dksX4_land_0 14 rfl rfl)
theorem dX4_land_15 : decode cX4_land 15 = .ok (.aload_n 2, 1) := dk_44 (dk_at dksX4_land_0 15 rfl rfl)
theorem dX4_land_16 : decode cX4_land 16 = .ok (.invokevirtual 202, 3) := dk_182 0 202 (dk_at dksX4_land_0 16 rfl rfl)
theorem dX4_land_19 : decode cX4_land 19 = .ok (.goto (-13), 3) := dk_167 255 243 (dk_at dksX4_land_0 19 rfl rfl)
theorem dX4_land_22 : decode cX4_land 22 = .ok (.return_, 1) := dk_177 (dk_at dksX4_land_0 22 rfl rfl)
abbrev cX4_clause : ByteArray := prog_11_method_19_code
def yX4_clause : MethodName := ⟨RX4, "clause", "(Ljava/util/ArrayList;Ljava/util/ArrayList;)V"⟩
def dkwX4_clause_5 : List UInt8 := [183, 0, 185, 182, 0, 177, 87, 167, 0, 16, 42, 180, 0, 3, 3, 42, 180, 0, 23, 182, 0, 69, 191, 177]
abbrev dktX4_clause_5 : List UInt8 := dkwX4_clause_5 ++ []
def dkwX4_clause_4 : List UInt8 := [16, 7, 182, 0, 82, 54, 4, 44, 187, 0, 183, 89, 29, 21, 4, 42, 3, 17, 3, 231, 182, 0, 82]
abbrev dktX4_clause_4 : List UInt8 := dkwX4_clause_4 ++ dktX4_clause_5
def dkwX4_clause_3 : List UInt8 := [162, 0, 7, 4, 167, 0, 4, 3, 182, 0, 164, 153, 0, 46, 42, 3, 16, 7, 182, 0, 82, 62, 42, 3]
abbrev dktX4_clause_3 : List UInt8 := dkwX4_clause_3 ++ dktX4_clause_4
def dkwX4_clause_2 : List UInt8 := [16, 60, 182, 0, 82, 183, 0, 174, 182, 0, 177, 87, 167, 0, 82, 42, 18, 181, 44, 182, 0, 159, 16, 6]
abbrev dktX4_clause_2 : List UInt8 := dkwX4_clause_2 ++ dktX4_clause_3
def dkwX4_clause_1 : List UInt8 := [3, 16, 7, 182, 0, 82, 62, 42, 29, 182, 0, 168, 54, 4, 43, 187, 0, 172, 89, 29, 21, 4, 42, 4]
abbrev dktX4_clause_1 : List UInt8 := dkwX4_clause_1 ++ dktX4_clause_2
def dkwX4_clause_0 : List UInt8 := [42, 18, 157, 43, 182, 0, 159, 16, 14, 162, 0, 7, 4, 167, 0, 4, 3, 182, 0, 164, 153, 0, 43, 42]
abbrev dktX4_clause_0 : List UInt8 := dkwX4_clause_0 ++ dktX4_clause_1
theorem dksX4_clause_0 : cX4_clause.data.toList.drop 0 = dktX4_clause_0 := by decide +kernel
theorem dksX4_clause_1 : cX4_clause.data.toList.drop 24 = dktX4_clause_1 := dk_seg dksX4_clause_0 24 rfl rfl
theorem dksX4_clause_2 : cX4_clause.data.toList.drop 48 = dktX4_clause_2 := dk_seg dksX4_clause_1 24 rfl rfl
theorem dksX4_clause_3 : cX4_clause.data.toList.drop 72 = dktX4_clause_3 := dk_seg dksX4_clause_2 24 rfl rfl
theorem dksX4_clause_4 : cX4_clause.data.toList.drop 96 = dktX4_clause_4 := dk_seg dksX4_clause_3 24 rfl rfl
theorem dksX4_clause_5 : cX4_clause.data.toList.drop 119 = dktX4_clause_5 := dk_seg dksX4_clause_4 23 rfl rfl
theorem dX4_clause_0 : decode cX4_clause 0 = .ok (.aload_n 0, 1) := dk_42 (dk_at dksX4_clause_0 0 rfl rfl)
theorem dX4_clause_1 : decode cX4_clause 1 = .ok (.ldc 157, 2) := dk_18 157 (dk_at dksX4_clause_0 1 rfl rfl)
theorem dX4_clause_3 : decode cX4_clause 3 = .ok (.aload_n 1, 1) := dk_43 (dk_at dksX4_clause_0 3 rfl rfl)
theorem dX4_clause_4 : decode cX4_clause 4 = .ok (.invokevirtual 159, 3) := dk_182 0 159 (dk_at dksX4_clause_0 4 rfl rfl)
theorem dX4_clause_7 : decode cX4_clause 7 = .ok (.bipush 14, 2) := dk_16 14 (dk_at dksX4_clause_0 7 rfl rfl)
theorem dX4_clause_9 : decode cX4_clause 9 = .ok (.if_icmp .ge 7, 3) := dk_162 0 7 (dk_at dksX4_clause_0 9 rfl rfl)
theorem dX4_clause_12 : decode cX4_clause 12 = .ok (.iconst 1, 1) := dk_4 (dk_at dksX4_clause_0 12 rfl rfl)
theorem dX4_clause_13 : decode cX4_clause 13 = .ok (.goto 4, 3) := dk_167 0 4 (dk_at dksX4_clause_0 13 rfl rfl)
theorem dX4_clause_16 : decode cX4_clause 16 = .ok (.iconst 0, 1) := dk_3 (dk_at dksX4_clause_0 16 rfl rfl)
theorem dX4_clause_17 : decode cX4_clause 17 = .ok (.invokevirtual 164, 3) := dk_182 0 164 (dk_at dksX4_clause_0 17 rfl rfl)
theorem dX4_clause_20 : decode cX4_clause 20 = .ok (.ifCond .eq 43, 3) := dk_153 0 43 (dk_at dksX4_clause_0 20 rfl rfl)
theorem dX4_clause_23 : decode cX4_clause 23 = .ok (.aload_n 0, 1) := dk_42 (dk_at dksX4_clause_0 23 rfl rfl)
theorem dX4_clause_24 : decode cX4_clause 24 = .ok (.iconst 0, 1) := dk_3 (dk_at dksX4_clause_1 0 rfl rfl)
theorem dX4_clause_25 : decode cX4_clause 25 = .ok (.bipush 7, 2) := dk_16 7 (dk_at dksX4_clause_1 1 rfl rfl)
theorem dX4_clause_27 : decode cX4_clause 27 = .ok (.invokevirtual 82, 3) := dk_182 0 82 (dk_at dksX4_clause_1 3 rfl rfl)
theorem dX4_clause_30 : decode cX4_clause 30 = .ok (.istore_n 3, 1) := dk_62 (dk_at dksX4_clause_1 6 rfl rfl)
theorem dX4_clause_31 : decode cX4_clause 31 = .ok (.aload_n 0, 1) := dk_42 (dk_at dksX4_clause_1 7 rfl rfl)
theorem dX4_clause_32 : decode cX4_clause 32 = .ok (.iload_n 3, 1) := dk_29 (dk_at dksX4_clause_1 8 rfl rfl)
theorem dX4_clause_33 : decode cX4_clause 33 = .ok (.invokevirtual 168, 3) := dk_182 0 168 (dk_at dksX4_clause_1 9 rfl rfl)
theorem dX4_clause_36 : decode cX4_clause 36 = .ok (.istore 4, 2) := dk_54 4 (dk_at dksX4_clause_1 12 rfl rfl)
theorem dX4_clause_38 : decode cX4_clause 38 = .ok (.aload_n 1, 1) := dk_43 (dk_at dksX4_clause_1 14 rfl rfl)
theorem dX4_clause_39 : decode cX4_clause 39 = .ok (.new 172, 3) := dk_187 0 172 (dk_at dksX4_clause_1 15 rfl rfl)
theorem dX4_clause_42 : decode cX4_clause 42 = .ok (.dup, 1) := dk_89 (dk_at dksX4_clause_1 18 rfl rfl)
theorem dX4_clause_43 : decode cX4_clause 43 = .ok (.iload_n 3, 1) := dk_29 (dk_at dksX4_clause_1 19 rfl rfl)
theorem dX4_clause_44 : decode cX4_clause 44 = .ok (.iload 4, 2) := dk_21 4 (dk_at dksX4_clause_1 20 rfl rfl)
theorem dX4_clause_46 : decode cX4_clause 46 = .ok (.aload_n 0, 1) := dk_42 (dk_at dksX4_clause_1 22 rfl rfl)
theorem dX4_clause_47 : decode cX4_clause 47 = .ok (.iconst 1, 1) := dk_4 (dk_at dksX4_clause_1 23 rfl rfl)
theorem dX4_clause_48 : decode cX4_clause 48 = .ok (.bipush 60, 2) := dk_16 60 (dk_at dksX4_clause_2 0 rfl rfl)
theorem dX4_clause_50 : decode cX4_clause 50 = .ok (.invokevirtual 82, 3) := dk_182 0 82 (dk_at dksX4_clause_2 2 rfl rfl)
theorem dX4_clause_53 : decode cX4_clause 53 = .ok (.invokespecial 174, 3) := dk_183 0 174 (dk_at dksX4_clause_2 5 rfl rfl)
theorem dX4_clause_56 : decode cX4_clause 56 = .ok (.invokevirtual 177, 3) := dk_182 0 177 (dk_at dksX4_clause_2 8 rfl rfl)
theorem dX4_clause_59 : decode cX4_clause 59 = .ok (.pop, 1) := dk_87 (dk_at dksX4_clause_2 11 rfl rfl)
theorem dX4_clause_60 : decode cX4_clause 60 = .ok (.goto 82, 3) := dk_167 0 82 (dk_at dksX4_clause_2 12 rfl rfl)
theorem dX4_clause_63 : decode cX4_clause 63 = .ok (.aload_n 0, 1) := dk_42 (dk_at dksX4_clause_2 15 rfl rfl)
theorem dX4_clause_64 : decode cX4_clause 64 = .ok (.ldc 181, 2) := dk_18 181 (dk_at dksX4_clause_2 16 rfl rfl)
theorem dX4_clause_66 : decode cX4_clause 66 = .ok (.aload_n 2, 1) := dk_44 (dk_at dksX4_clause_2 18 rfl rfl)
theorem dX4_clause_67 : decode cX4_clause 67 = .ok (.invokevirtual 159, 3) := dk_182 0 159 (dk_at dksX4_clause_2 19 rfl rfl)
theorem dX4_clause_70 : decode cX4_clause 70 = .ok (.bipush 6, 2) := dk_16 6 (dk_at dksX4_clause_2 22 rfl rfl)
theorem dX4_clause_72 : decode cX4_clause 72 = .ok (.if_icmp .ge 7, 3) := dk_162 0 7 (dk_at dksX4_clause_3 0 rfl rfl)
theorem dX4_clause_75 : decode cX4_clause 75 = .ok (.iconst 1, 1) := dk_4 (dk_at dksX4_clause_3 3 rfl rfl)
theorem dX4_clause_76 : decode cX4_clause 76 = .ok (.goto 4, 3) := dk_167 0 4 (dk_at dksX4_clause_3 4 rfl rfl)
theorem dX4_clause_79 : decode cX4_clause 79 = .ok (.iconst 0, 1) := dk_3 (dk_at dksX4_clause_3 7 rfl rfl)
theorem dX4_clause_80 : decode cX4_clause 80 = .ok (.invokevirtual 164, 3) := dk_182 0 164 (dk_at dksX4_clause_3 8 rfl rfl)
theorem dX4_clause_83 : decode cX4_clause 83 = .ok (.ifCond .eq 46, 3) := dk_153 0 46 (dk_at dksX4_clause_3 11 rfl rfl)
theorem dX4_clause_86 : decode cX4_clause 86 = .ok (.aload_n 0, 1) := dk_42 (dk_at dksX4_clause_3 14 rfl rfl)
theorem dX4_clause_87 : decode cX4_clause 87 = .ok (.iconst 0, 1) := dk_3 (dk_at dksX4_clause_3 15 rfl rfl)
theorem dX4_clause_88 : decode cX4_clause 88 = .ok (.bipush 7, 2) := dk_16 7 (dk_at dksX4_clause_3 16 rfl rfl)
theorem dX4_clause_90 : decode cX4_clause 90 = .ok (.invokevirtual 82, 3) := dk_182 0 82 (dk_at dksX4_clause_3 18 rfl rfl)
theorem dX4_clause_93 : decode cX4_clause 93 = .ok (.istore_n 3, 1) := dk_62 (dk_at dksX4_clause_3 21 rfl rfl)
theorem dX4_clause_94 : decode cX4_clause 94 = .ok (.aload_n 0, 1) := dk_42 (dk_at dksX4_clause_3 22 rfl rfl)
theorem dX4_clause_95 : decode cX4_clause 95 = .ok (.iconst 0, 1) := dk_3 (dk_at dksX4_clause_3 23 rfl rfl)
theorem dX4_clause_96 : decode cX4_clause 96 = .ok (.bipush 7, 2) := dk_16 7 (dk_at dksX4_clause_4 0 rfl rfl)
theorem dX4_clause_98 : decode cX4_clause 98 = .ok (.invokevirtual 82, 3) := dk_182 0 82 (dk_at dksX4_clause_4 2 rfl rfl)
theorem dX4_clause_101 : decode cX4_clause 101 = .ok (.istore 4, 2) := dk_54 4 (dk_at dksX4_clause_4 5 rfl rfl)
theorem dX4_clause_103 : decode cX4_clause 103 = .ok (.aload_n 2, 1) := dk_44 (dk_at dksX4_clause_4 7 rfl rfl)
theorem dX4_clause_104 : decode cX4_clause 104 = .ok (.new 183, 3) := dk_187 0 183 (dk_at dksX4_clause_4 8 rfl rfl)
theorem dX4_clause_107 : decode cX4_clause 107 = .ok (.dup, 1) := dk_89 (dk_at dksX4_clause_4 11 rfl rfl)
theorem dX4_clause_108 : decode cX4_clause 108 = .ok (.iload_n 3, 1) := dk_29 (dk_at dksX4_clause_4 12 rfl rfl)
theorem dX4_clause_109 : decode cX4_clause 109 = .ok (.iload 4, 2) := dk_21 4 (dk_at dksX4_clause_4 13 rfl rfl)
theorem dX4_clause_111 : decode cX4_clause 111 = .ok (.aload_n 0, 1) := dk_42 (dk_at dksX4_clause_4 15 rfl rfl)
theorem dX4_clause_112 : decode cX4_clause 112 = .ok (.iconst 0, 1) := dk_3 (dk_at dksX4_clause_4 16 rfl rfl)
theorem dX4_clause_113 : decode cX4_clause 113 = .ok (.sipush 999, 3) := dk_17 3 231 (dk_at dksX4_clause_4 17 rfl rfl)
theorem dX4_clause_116 : decode cX4_clause 116 = .ok (.invokevirtual 82, 3) := dk_182 0 82 (dk_at dksX4_clause_4 20 rfl rfl)
theorem dX4_clause_119 : decode cX4_clause 119 = .ok (.invokespecial 185, 3) := dk_183 0 185 (dk_at dksX4_clause_5 0 rfl rfl)
theorem dX4_clause_122 : decode cX4_clause 122 = .ok (.invokevirtual 177, 3) := dk_182 0 177 (dk_at dksX4_clause_5 3 rfl rfl)
theorem dX4_clause_125 : decode cX4_clause 125 = .ok (.pop, 1) := dk_87 (dk_at dksX4_clause_5 6 rfl rfl)
theorem dX4_clause_126 : decode cX4_clause 126 = .ok (.goto 16, 3) := dk_167 0 16 (dk_at dksX4_clause_5 7 rfl rfl)
theorem dX4_clause_129 : decode cX4_clause 129 = .ok (.aload_n 0, 1) := dk_42 (dk_at dksX4_clause_5 10 rfl rfl)
theorem dX4_clause_130 : decode cX4_clause 130 = .ok (.getfield 3, 3) := dk_180 0 3 (dk_at dksX4_clause_5 11 rfl rfl)
theorem dX4_clause_133 : decode cX4_clause 133 = .ok (.iconst 0, 1) := dk_3 (dk_at dksX4_clause_5 14 rfl rfl)
theorem dX4_clause_134 : decode cX4_clause 134 = .ok (.aload_n 0, 1) := dk_42 (dk_at dksX4_clause_5 15 rfl rfl)
theorem dX4_clause_135 : decode cX4_clause 135 = .ok (.getfield 23, 3) := dk_180 0 23 (dk_at dksX4_clause_5 16 rfl rfl)
theorem dX4_clause_138 : decode cX4_clause 138 = .ok (.invokevirtual 69, 3) := dk_182 0 69 (dk_at dksX4_clause_5 19 rfl rfl)
theorem dX4_clause_141 : decode cX4_clause 141 = .ok (.athrow, 1) := dk_191 (dk_at dksX4_clause_5 22 rfl rfl)
theorem dX4_clause_142 : decode cX4_clause 142 = .ok (.return_, 1) := dk_177 (dk_at dksX4_clause_5 23 rfl rfl)
abbrev cX4_begins : ByteArray := prog_11_method_16_code
def yX4_begins : MethodName := ⟨RX4, "begins", "(Ljava/lang/String;Z)Z"⟩
def dkwX4_begins_2 : List UInt8 := [181, 0, 147, 42, 89, 180, 0, 23, 43, 182, 0, 52, 96, 181, 0, 23, 4, 172]
abbrev dktX4_begins_2 : List UInt8 := dkwX4_begins_2 ++ []
def dkwX4_begins_1 : List UInt8 := [154, 0, 16, 42, 180, 0, 3, 7, 42, 180, 0, 23, 182, 0, 69, 191, 42, 89, 180, 0, 147, 4, 96]
abbrev dktX4_begins_1 : List UInt8 := dkwX4_begins_1 ++ dktX4_begins_2
def dkwX4_begins_0 : List UInt8 := [42, 43, 182, 0, 61, 154, 0, 5, 3, 172, 42, 180, 0, 147, 42, 180, 0, 19, 159, 0, 7, 28]
abbrev dktX4_begins_0 : List UInt8 := dkwX4_begins_0 ++ dktX4_begins_1
theorem dksX4_begins_0 : cX4_begins.data.toList.drop 0 = dktX4_begins_0 := by decide +kernel
theorem dksX4_begins_1 : cX4_begins.data.toList.drop 22 = dktX4_begins_1 := dk_seg dksX4_begins_0 22 rfl rfl
theorem dksX4_begins_2 : cX4_begins.data.toList.drop 45 = dktX4_begins_2 := dk_seg dksX4_begins_1 23 rfl rfl
theorem dX4_begins_0 : decode cX4_begins 0 = .ok (.aload_n 0, 1) := dk_42 (dk_at dksX4_begins_0 0 rfl rfl)
theorem dX4_begins_1 : decode cX4_begins 1 = .ok (.aload_n 1, 1) := dk_43 (dk_at dksX4_begins_0 1 rfl rfl)
theorem dX4_begins_2 : decode cX4_begins 2 = .ok (.invokevirtual 61, 3) := dk_182 0 61 (dk_at dksX4_begins_0 2 rfl rfl)
theorem dX4_begins_5 : decode cX4_begins 5 = .ok (.ifCond .ne 5, 3) := dk_154 0 5 (dk_at dksX4_begins_0 5 rfl rfl)
theorem dX4_begins_8 : decode cX4_begins 8 = .ok (.iconst 0, 1) := dk_3 (dk_at dksX4_begins_0 8 rfl rfl)
theorem dX4_begins_9 : decode cX4_begins 9 = .ok (.ireturn, 1) := dk_172 (dk_at dksX4_begins_0 9 rfl rfl)
theorem dX4_begins_10 : decode cX4_begins 10 = .ok (.aload_n 0, 1) := dk_42 (dk_at dksX4_begins_0 10 rfl rfl)
theorem dX4_begins_11 : decode cX4_begins 11 = .ok (.getfield 147, 3) := dk_180 0 147 (dk_at dksX4_begins_0 11 rfl rfl)
theorem dX4_begins_14 : decode cX4_begins 14 = .ok (.aload_n 0, 1) := dk_42 (dk_at dksX4_begins_0 14 rfl rfl)
theorem dX4_begins_15 : decode cX4_begins 15 = .ok (.getfield 19, 3) := dk_180 0 19 (dk_at dksX4_begins_0 15 rfl rfl)
theorem dX4_begins_18 : decode cX4_begins 18 = .ok (.if_icmp .eq 7, 3) := dk_159 0 7 (dk_at dksX4_begins_0 18 rfl rfl)
theorem dX4_begins_21 : decode cX4_begins 21 = .ok (.iload_n 2, 1) := dk_28 (dk_at dksX4_begins_0 21 rfl rfl)
theorem dX4_begins_22 : decode cX4_begins 22 = .ok (.ifCond .ne 16, 3) := dk_154 0 16 (dk_at dksX4_begins_1 0 rfl rfl)
theorem dX4_begins_25 : decode cX4_begins 25 = .ok (.aload_n 0, 1) := dk_42 (dk_at dksX4_begins_1 3 rfl rfl)
theorem dX4_begins_26 : decode cX4_begins 26 = .ok (.getfield 3, 3) := dk_180 0 3 (dk_at dksX4_begins_1 4 rfl rfl)
theorem dX4_begins_29 : decode cX4_begins 29 = .ok (.iconst 4, 1) := dk_7 (dk_at dksX4_begins_1 7 rfl rfl)
theorem dX4_begins_30 : decode cX4_begins 30 = .ok (.aload_n 0, 1) := dk_42 (dk_at dksX4_begins_1 8 rfl rfl)
theorem dX4_begins_31 : decode cX4_begins 31 = .ok (.getfield 23, 3) := dk_180 0 23 (dk_at dksX4_begins_1 9 rfl rfl)
theorem dX4_begins_34 : decode cX4_begins 34 = .ok (.invokevirtual 69, 3) := dk_182 0 69 (dk_at dksX4_begins_1 12 rfl rfl)
theorem dX4_begins_37 : decode cX4_begins 37 = .ok (.athrow, 1) := dk_191 (dk_at dksX4_begins_1 15 rfl rfl)
theorem dX4_begins_38 : decode cX4_begins 38 = .ok (.aload_n 0, 1) := dk_42 (dk_at dksX4_begins_1 16 rfl rfl)
theorem dX4_begins_39 : decode cX4_begins 39 = .ok (.dup, 1) := dk_89 (dk_at dksX4_begins_1 17 rfl rfl)
theorem dX4_begins_40 : decode cX4_begins 40 = .ok (.getfield 147, 3) := dk_180 0 147 (dk_at dksX4_begins_1 18 rfl rfl)
theorem dX4_begins_43 : decode cX4_begins 43 = .ok (.iconst 1, 1) := dk_4 (dk_at dksX4_begins_1 21 rfl rfl)
theorem dX4_begins_44 : decode cX4_begins 44 = .ok (.iadd, 1) := dk_96 (dk_at dksX4_begins_1 22 rfl rfl)
theorem dX4_begins_45 : decode cX4_begins 45 = .ok (.putfield 147, 3) := dk_181 0 147 (dk_at dksX4_begins_2 0 rfl rfl)
theorem dX4_begins_48 : decode cX4_begins 48 = .ok (.aload_n 0, 1) := dk_42 (dk_at dksX4_begins_2 3 rfl rfl)
theorem dX4_begins_49 : decode cX4_begins 49 = .ok (.dup, 1) := dk_89 (dk_at dksX4_begins_2 4 rfl rfl)
theorem dX4_begins_50 : decode cX4_begins 50 = .ok (.getfield 23, 3) := dk_180 0 23 (dk_at dksX4_begins_2 5 rfl rfl)
theorem dX4_begins_53 : decode cX4_begins 53 = .ok (.aload_n 1, 1) := dk_43 (dk_at dksX4_begins_2 8 rfl rfl)
theorem dX4_begins_54 : decode cX4_begins 54 = .ok (.invokevirtual 52, 3) := dk_182 0 52 (dk_at dksX4_begins_2 9 rfl rfl)
theorem dX4_begins_57 : decode cX4_begins 57 = .ok (.iadd, 1) := dk_96 (dk_at dksX4_begins_2 12 rfl rfl)
theorem dX4_begins_58 : decode cX4_begins 58 = .ok (.putfield 23, 3) := dk_181 0 23 (dk_at dksX4_begins_2 13 rfl rfl)
theorem dX4_begins_61 : decode cX4_begins 61 = .ok (.iconst 1, 1) := dk_4 (dk_at dksX4_begins_2 16 rfl rfl)
theorem dX4_begins_62 : decode cX4_begins 62 = .ok (.ireturn, 1) := dk_172 (dk_at dksX4_begins_2 17 rfl rfl)
abbrev cX4_isWord : ByteArray := prog_11_method_5_code
def yX4_isWord : MethodName := ⟨RX4, "isWord", "(Ljava/lang/String;)Z"⟩
def dkwX4_isWord_5 : List UInt8 := [132, 4, 1, 167, 255, 210, 29, 172]
abbrev dktX4_isWord_5 : List UInt8 := dkwX4_isWord_5 ++ []
def dkwX4_isWord_4 : List UInt8 := [180, 0, 23, 21, 4, 96, 51, 43, 21, 4, 182, 0, 57, 160, 0, 7, 4, 167, 0, 4, 3, 62]
abbrev dktX4_isWord_4 : List UInt8 := dkwX4_isWord_4 ++ dktX4_isWord_5
def dkwX4_isWord_3 : List UInt8 := [54, 4, 21, 4, 43, 182, 0, 52, 162, 0, 43, 29, 153, 0, 39, 42, 180, 0, 3, 180, 0, 29, 42]
abbrev dktX4_isWord_3 : List UInt8 := dkwX4_isWord_3 ++ dktX4_isWord_4
def dkwX4_isWord_2 : List UInt8 := [167, 255, 220, 28, 42, 180, 0, 23, 100, 43, 182, 0, 52, 160, 0, 7, 4, 167, 0, 4, 3, 62, 3]
abbrev dktX4_isWord_2 : List UInt8 := dkwX4_isWord_2 ++ dktX4_isWord_3
def dkwX4_isWord_1 : List UInt8 := [180, 0, 3, 180, 0, 29, 28, 51, 133, 20, 0, 48, 20, 0, 50, 184, 0, 41, 153, 0, 9, 132, 2, 1]
abbrev dktX4_isWord_1 : List UInt8 := dkwX4_isWord_1 ++ dktX4_isWord_2
def dkwX4_isWord_0 : List UInt8 := [42, 182, 0, 45, 87, 42, 180, 0, 23, 61, 28, 42, 180, 0, 3, 180, 0, 26, 162, 0, 31, 42]
abbrev dktX4_isWord_0 : List UInt8 := dkwX4_isWord_0 ++ dktX4_isWord_1
theorem dksX4_isWord_0 : cX4_isWord.data.toList.drop 0 = dktX4_isWord_0 := by decide +kernel
theorem dksX4_isWord_1 : cX4_isWord.data.toList.drop 22 = dktX4_isWord_1 := dk_seg dksX4_isWord_0 22 rfl rfl
theorem dksX4_isWord_2 : cX4_isWord.data.toList.drop 46 = dktX4_isWord_2 := dk_seg dksX4_isWord_1 24 rfl rfl
theorem dksX4_isWord_3 : cX4_isWord.data.toList.drop 69 = dktX4_isWord_3 := dk_seg dksX4_isWord_2 23 rfl rfl
theorem dksX4_isWord_4 : cX4_isWord.data.toList.drop 92 = dktX4_isWord_4 := dk_seg dksX4_isWord_3 23 rfl rfl
theorem dksX4_isWord_5 : cX4_isWord.data.toList.drop 114 = dktX4_isWord_5 := dk_seg dksX4_isWord_4 22 rfl rfl
theorem dX4_isWord_0 : decode cX4_isWord 0 = .ok (.aload_n 0, 1) := dk_42 (dk_at dksX4_isWord_0 0 rfl rfl)
theorem dX4_isWord_1 : decode cX4_isWord 1 = .ok (.invokevirtual 45, 3) := dk_182 0 45 (dk_at dksX4_isWord_0 1 rfl rfl)
theorem dX4_isWord_4 : decode cX4_isWord 4 = .ok (.pop, 1) := dk_87 (dk_at dksX4_isWord_0 4 rfl rfl)
theorem dX4_isWord_5 : decode cX4_isWord 5 = .ok (.aload_n 0, 1) := dk_42 (dk_at dksX4_isWord_0 5 rfl rfl)
theorem dX4_isWord_6 : decode cX4_isWord 6 = .ok (.getfield 23, 3) := dk_180 0 23 (dk_at dksX4_isWord_0 6 rfl rfl)
theorem dX4_isWord_9 : decode cX4_isWord 9 = .ok (.istore_n 2, 1) := dk_61 (dk_at dksX4_isWord_0 9 rfl rfl)
theorem dX4_isWord_10 : decode cX4_isWord 10 = .ok (.iload_n 2, 1) := dk_28 (dk_at dksX4_isWord_0 10 rfl rfl)
theorem dX4_isWord_11 : decode cX4_isWord 11 = .ok (.aload_n 0, 1) := dk_42 (dk_at dksX4_isWord_0 11 rfl rfl)
theorem dX4_isWord_12 : decode cX4_isWord 12 = .ok (.getfield 3, 3) := dk_180 0 3 (dk_at dksX4_isWord_0 12 rfl rfl)
theorem dX4_isWord_15 : decode cX4_isWord 15 = .ok (.getfield 26, 3) := dk_180 0 26 (dk_at dksX4_isWord_0 15 rfl rfl)
theorem dX4_isWord_18 : decode cX4_isWord 18 = .ok (.if_icmp .ge 31, 3) := dk_162 0 31 (dk_at dksX4_isWord_0 18 rfl rfl)
theorem dX4_isWord_21 : decode cX4_isWord 21 = .ok (.aload_n 0, 1) := dk_42 (dk_at dksX4_isWord_0 21 rfl rfl)
theorem dX4_isWord_22 : decode cX4_isWord 22 = .ok (.getfield 3, 3) := dk_180 0 3 (dk_at dksX4_isWord_1 0 rfl rfl)
theorem dX4_isWord_25 : decode cX4_isWord 25 = .ok (.getfield 29, 3) := dk_180 0 29 (dk_at dksX4_isWord_1 3 rfl rfl)
theorem dX4_isWord_28 : decode cX4_isWord 28 = .ok (.iload_n 2, 1) := dk_28 (dk_at dksX4_isWord_1 6 rfl rfl)
theorem dX4_isWord_29 : decode cX4_isWord 29 = .ok (.baload, 1) := dk_51 (dk_at dksX4_isWord_1 7 rfl rfl)
theorem dX4_isWord_30 : decode cX4_isWord 30 = .ok (.i2l, 1) := dk_133 (dk_at dksX4_isWord_1 8 rfl rfl)
theorem dX4_isWord_31 : decode cX4_isWord 31 = .ok (.ldc2_w 48, 3) := dk_20 0 48 (dk_at dksX4_isWord_1 9 rfl rfl)
theorem dX4_isWord_34 : decode cX4_isWord 34 = .ok (.ldc2_w 50, 3) := dk_20 0 50 (dk_at dksX4_isWord_1 12 rfl rfl)
theorem dX4_isWord_37 : decode cX4_isWord 37 = .ok (.invokestatic 41, 3) := dk_184 0 41 (dk_at dksX4_isWord_1 15 rfl rfl)
theorem dX4_isWord_40 : decode cX4_isWord 40 = .ok (.ifCond .eq 9, 3) := dk_153 0 9 (dk_at dksX4_isWord_1 18 rfl rfl)
theorem dX4_isWord_43 : decode cX4_isWord 43 = .ok (.iinc 2 1, 3) := dk_132 2 1 (dk_at dksX4_isWord_1 21 rfl rfl)
theorem dX4_isWord_46 : decode cX4_isWord 46 = .ok (.goto (-36), 3) := dk_167 255 220 (dk_at dksX4_isWord_2 0 rfl rfl)
theorem dX4_isWord_49 : decode cX4_isWord 49 = .ok (.iload_n 2, 1) := dk_28 (dk_at dksX4_isWord_2 3 rfl rfl)
theorem dX4_isWord_50 : decode cX4_isWord 50 = .ok (.aload_n 0, 1) := dk_42 (dk_at dksX4_isWord_2 4 rfl rfl)
theorem dX4_isWord_51 : decode cX4_isWord 51 = .ok (.getfield 23, 3) := dk_180 0 23 (dk_at dksX4_isWord_2 5 rfl rfl)
theorem dX4_isWord_54 : decode cX4_isWord 54 = .ok (.isub, 1) := dk_100 (dk_at dksX4_isWord_2 8 rfl rfl)
theorem dX4_isWord_55 : decode cX4_isWord 55 = .ok (.aload_n 1, 1) := dk_43 (dk_at dksX4_isWord_2 9 rfl rfl)
theorem dX4_isWord_56 : decode cX4_isWord 56 = .ok (.invokevirtual 52, 3) := dk_182 0 52 (dk_at dksX4_isWord_2 10 rfl rfl)
theorem dX4_isWord_59 : decode cX4_isWord 59 = .ok (.if_icmp .ne 7, 3) := dk_160 0 7 (dk_at dksX4_isWord_2 13 rfl rfl)
theorem dX4_isWord_62 : decode cX4_isWord 62 = .ok (.iconst 1, 1) := dk_4 (dk_at dksX4_isWord_2 16 rfl rfl)
theorem dX4_isWord_63 : decode cX4_isWord 63 = .ok (.goto 4, 3) := dk_167 0 4 (dk_at dksX4_isWord_2 17 rfl rfl)
theorem dX4_isWord_66 : decode cX4_isWord 66 = .ok (.iconst 0, 1) := dk_3 (dk_at dksX4_isWord_2 20 rfl rfl)
theorem dX4_isWord_67 : decode cX4_isWord 67 = .ok (.istore_n 3, 1) := dk_62 (dk_at dksX4_isWord_2 21 rfl rfl)
theorem dX4_isWord_68 : decode cX4_isWord 68 = .ok (.iconst 0, 1) := dk_3 (dk_at dksX4_isWord_2 22 rfl rfl)
theorem dX4_isWord_69 : decode cX4_isWord 69 = .ok (.istore 4, 2) := dk_54 4 (dk_at dksX4_isWord_3 0 rfl rfl)
theorem dX4_isWord_71 : decode cX4_isWord 71 = .ok (.iload 4, 2) := dk_21 4 (dk_at dksX4_isWord_3 2 rfl rfl)
theorem dX4_isWord_73 : decode cX4_isWord 73 = .ok (.aload_n 1, 1) := dk_43 (dk_at dksX4_isWord_3 4 rfl rfl)
theorem dX4_isWord_74 : decode cX4_isWord 74 = .ok (.invokevirtual 52, 3) := dk_182 0 52 (dk_at dksX4_isWord_3 5 rfl rfl)
theorem dX4_isWord_77 : decode cX4_isWord 77 = .ok (.if_icmp .ge 43, 3) := dk_162 0 43 (dk_at dksX4_isWord_3 8 rfl rfl)
theorem dX4_isWord_80 : decode cX4_isWord 80 = .ok (.iload_n 3, 1) := dk_29 (dk_at dksX4_isWord_3 11 rfl rfl)
theorem dX4_isWord_81 : decode cX4_isWord 81 = .ok (.ifCond .eq 39, 3) := dk_153 0 39 (dk_at dksX4_isWord_3 12 rfl rfl)
theorem dX4_isWord_84 : decode cX4_isWord 84 = .ok (.aload_n 0, 1) := dk_42 (dk_at dksX4_isWord_3 15 rfl rfl)
theorem dX4_isWord_85 : decode cX4_isWord 85 = .ok (.getfield 3, 3) := dk_180 0 3 (dk_at dksX4_isWord_3 16 rfl rfl)
theorem dX4_isWord_88 : decode cX4_isWord 88 = .ok (.getfield 29, 3) := dk_180 0 29 (dk_at dksX4_isWord_3 19 rfl rfl)
theorem dX4_isWord_91 : decode cX4_isWord 91 = .ok (.aload_n 0, 1) := dk_42 (dk_at dksX4_isWord_3 22 rfl rfl)
theorem dX4_isWord_92 : decode cX4_isWord 92 = .ok (.getfield 23, 3) := dk_180 0 23 (dk_at dksX4_isWord_4 0 rfl rfl)
theorem dX4_isWord_95 : decode cX4_isWord 95 = .ok (.iload 4, 2) := dk_21 4 (dk_at dksX4_isWord_4 3 rfl rfl)
theorem dX4_isWord_97 : decode cX4_isWord 97 = .ok (.iadd, 1) := dk_96 (dk_at dksX4_isWord_4 5 rfl rfl)
theorem dX4_isWord_98 : decode cX4_isWord 98 = .ok (.baload, 1) := dk_51 (dk_at dksX4_isWord_4 6 rfl rfl)
theorem dX4_isWord_99 : decode cX4_isWord 99 = .ok (.aload_n 1, 1) := dk_43 (dk_at dksX4_isWord_4 7 rfl rfl)
theorem dX4_isWord_100 : decode cX4_isWord 100 = .ok (.iload 4, 2) := dk_21 4 (dk_at dksX4_isWord_4 8 rfl rfl)
theorem dX4_isWord_102 : decode cX4_isWord 102 = .ok (.invokevirtual 57, 3) := dk_182 0 57 (dk_at dksX4_isWord_4 10 rfl rfl)
theorem dX4_isWord_105 : decode cX4_isWord 105 = .ok (.if_icmp .ne 7, 3) := dk_160 0 7 (dk_at dksX4_isWord_4 13 rfl rfl)
theorem dX4_isWord_108 : decode cX4_isWord 108 = .ok (.iconst 1, 1) := dk_4 (dk_at dksX4_isWord_4 16 rfl rfl)
theorem dX4_isWord_109 : decode cX4_isWord 109 = .ok (.goto 4, 3) := dk_167 0 4 (dk_at dksX4_isWord_4 17 rfl rfl)
theorem dX4_isWord_112 : decode cX4_isWord 112 = .ok (.iconst 0, 1) := dk_3 (dk_at dksX4_isWord_4 20 rfl rfl)
theorem dX4_isWord_113 : decode cX4_isWord 113 = .ok (.istore_n 3, 1) := dk_62 (dk_at dksX4_isWord_4 21 rfl rfl)
theorem dX4_isWord_114 : decode cX4_isWord 114 = .ok (.iinc 4 1, 3) := dk_132 4 1 (dk_at dksX4_isWord_5 0 rfl rfl)
theorem dX4_isWord_117 : decode cX4_isWord 117 = .ok (.goto (-46), 3) := dk_167 255 210 (dk_at dksX4_isWord_5 3 rfl rfl)
theorem dX4_isWord_120 : decode cX4_isWord 120 = .ok (.iload_n 3, 1) := dk_29 (dk_at dksX4_isWord_5 6 rfl rfl)
theorem dX4_isWord_121 : decode cX4_isWord 121 = .ok (.ireturn, 1) := dk_172 (dk_at dksX4_isWord_5 7 rfl rfl)
abbrev cX4_next : ByteArray := prog_11_method_3_code
def yX4_next : MethodName := ⟨RX4, "next", "()I"⟩
def dkwX4_next_1 : List UInt8 := [182, 0, 33, 172]
abbrev dktX4_next_1 : List UInt8 := dkwX4_next_1 ++ []
def dkwX4_next_0 : List UInt8 := [42, 182, 0, 33, 16, 32, 160, 0, 16, 42, 89, 180, 0, 23, 4, 96, 181, 0, 23, 167, 255, 237, 42]
abbrev dktX4_next_0 : List UInt8 := dkwX4_next_0 ++ dktX4_next_1
theorem dksX4_next_0 : cX4_next.data.toList.drop 0 = dktX4_next_0 := by decide +kernel
theorem dksX4_next_1 : cX4_next.data.toList.drop 23 = dktX4_next_1 := dk_seg dksX4_next_0 23 rfl rfl
theorem dX4_next_0 : decode cX4_next 0 = .ok (.aload_n 0, 1) := dk_42 (dk_at dksX4_next_0 0 rfl rfl)
theorem dX4_next_1 : decode cX4_next 1 = .ok (.invokevirtual 33, 3) := dk_182 0 33 (dk_at dksX4_next_0 1 rfl rfl)
theorem dX4_next_4 : decode cX4_next 4 = .ok (.bipush 32, 2) := dk_16 32 (dk_at dksX4_next_0 4 rfl rfl)
theorem dX4_next_6 : decode cX4_next 6 = .ok (.if_icmp .ne 16, 3) := dk_160 0 16 (dk_at dksX4_next_0 6 rfl rfl)
theorem dX4_next_9 : decode cX4_next 9 = .ok (.aload_n 0, 1) := dk_42 (dk_at dksX4_next_0 9 rfl rfl)
theorem dX4_next_10 : decode cX4_next 10 = .ok (.dup, 1) := dk_89 (dk_at dksX4_next_0 10 rfl rfl)
theorem dX4_next_11 : decode cX4_next 11 = .ok (.getfield 23, 3) := dk_180 0 23 (dk_at dksX4_next_0 11 rfl rfl)
theorem dX4_next_14 : decode cX4_next 14 = .ok (.iconst 1, 1) := dk_4 (dk_at dksX4_next_0 14 rfl rfl)
theorem dX4_next_15 : decode cX4_next 15 = .ok (.iadd, 1) := dk_96 (dk_at dksX4_next_0 15 rfl rfl)
theorem dX4_next_16 : decode cX4_next 16 = .ok (.putfield 23, 3) := dk_181 0 23 (dk_at dksX4_next_0 16 rfl rfl)
theorem dX4_next_19 : decode cX4_next 19 = .ok (.goto (-19), 3) := dk_167 255 237 (dk_at dksX4_next_0 19 rfl rfl)
theorem dX4_next_22 : decode cX4_next 22 = .ok (.aload_n 0, 1) := dk_42 (dk_at dksX4_next_0 22 rfl rfl)
theorem dX4_next_23 : decode cX4_next 23 = .ok (.invokevirtual 33, 3) := dk_182 0 33 (dk_at dksX4_next_1 0 rfl rfl)
theorem dX4_next_26 : decode cX4_next 26 = .ok (.ireturn, 1) := dk_172 (dk_at dksX4_next_1 3 rfl rfl)
abbrev cX4_sign : ByteArray := prog_11_method_2_code
def yX4_sign : MethodName := ⟨RX4, "sign", "()I"⟩
def dkwX4_sign_1 : List UInt8 := [180, 0, 23, 51, 17, 0, 255, 126, 167, 0, 4, 2, 172]
abbrev dktX4_sign_1 : List UInt8 := dkwX4_sign_1 ++ []
def dkwX4_sign_0 : List UInt8 := [42, 180, 0, 23, 42, 180, 0, 3, 180, 0, 26, 162, 0, 22, 42, 180, 0, 3, 180, 0, 29, 42]
abbrev dktX4_sign_0 : List UInt8 := dkwX4_sign_0 ++ dktX4_sign_1
theorem dksX4_sign_0 : cX4_sign.data.toList.drop 0 = dktX4_sign_0 := by decide +kernel
theorem dksX4_sign_1 : cX4_sign.data.toList.drop 22 = dktX4_sign_1 := dk_seg dksX4_sign_0 22 rfl rfl
theorem dX4_sign_0 : decode cX4_sign 0 = .ok (.aload_n 0, 1) := dk_42 (dk_at dksX4_sign_0 0 rfl rfl)
theorem dX4_sign_1 : decode cX4_sign 1 = .ok (.getfield 23, 3) := dk_180 0 23 (dk_at dksX4_sign_0 1 rfl rfl)
theorem dX4_sign_4 : decode cX4_sign 4 = .ok (.aload_n 0, 1) := dk_42 (dk_at dksX4_sign_0 4 rfl rfl)
theorem dX4_sign_5 : decode cX4_sign 5 = .ok (.getfield 3, 3) := dk_180 0 3 (dk_at dksX4_sign_0 5 rfl rfl)
theorem dX4_sign_8 : decode cX4_sign 8 = .ok (.getfield 26, 3) := dk_180 0 26 (dk_at dksX4_sign_0 8 rfl rfl)
theorem dX4_sign_11 : decode cX4_sign 11 = .ok (.if_icmp .ge 22, 3) := dk_162 0 22 (dk_at dksX4_sign_0 11 rfl rfl)
theorem dX4_sign_14 : decode cX4_sign 14 = .ok (.aload_n 0, 1) := dk_42 (dk_at dksX4_sign_0 14 rfl rfl)
theorem dX4_sign_15 : decode cX4_sign 15 = .ok (.getfield 3, 3) := dk_180 0 3 (dk_at dksX4_sign_0 15 rfl rfl)
theorem dX4_sign_18 : decode cX4_sign 18 = .ok (.getfield 29, 3) := dk_180 0 29 (dk_at dksX4_sign_0 18 rfl rfl)
theorem dX4_sign_21 : decode cX4_sign 21 = .ok (.aload_n 0, 1) := dk_42 (dk_at dksX4_sign_0 21 rfl rfl)
theorem dX4_sign_22 : decode cX4_sign 22 = .ok (.getfield 23, 3) := dk_180 0 23 (dk_at dksX4_sign_1 0 rfl rfl)
theorem dX4_sign_25 : decode cX4_sign 25 = .ok (.baload, 1) := dk_51 (dk_at dksX4_sign_1 3 rfl rfl)
theorem dX4_sign_26 : decode cX4_sign 26 = .ok (.sipush 255, 3) := dk_17 0 255 (dk_at dksX4_sign_1 4 rfl rfl)
theorem dX4_sign_29 : decode cX4_sign 29 = .ok (.iand, 1) := dk_126 (dk_at dksX4_sign_1 7 rfl rfl)
theorem dX4_sign_30 : decode cX4_sign 30 = .ok (.goto 4, 3) := dk_167 0 4 (dk_at dksX4_sign_1 8 rfl rfl)
theorem dX4_sign_33 : decode cX4_sign 33 = .ok (.iconst (-1), 1) := dk_2 (dk_at dksX4_sign_1 11 rfl rfl)
theorem dX4_sign_34 : decode cX4_sign 34 = .ok (.ireturn, 1) := dk_172 (dk_at dksX4_sign_1 12 rfl rfl)
abbrev cX4_number : ByteArray := prog_11_method_7_code
def yX4_number : MethodName := ⟨RX4, "number", "(II)I"⟩
def dkwX4_number_4 : List UInt8 := [133, 27, 133, 28, 133, 184, 0, 41, 154, 0, 13, 42, 180, 0, 3, 4, 29, 182, 0, 69, 191, 21, 4, 172]
abbrev dktX4_number_4 : List UInt8 := dkwX4_number_4 ++ []
def dkwX4_number_3 : List UInt8 := [89, 180, 0, 23, 4, 96, 181, 0, 23, 167, 255, 209, 42, 180, 0, 23, 29, 100, 8, 163, 0, 16, 21, 4]
abbrev dktX4_number_3 : List UInt8 := dkwX4_number_3 ++ dktX4_number_4
def dkwX4_number_2 : List UInt8 := [162, 0, 19, 16, 10, 21, 4, 104, 42, 182, 0, 33, 96, 16, 48, 100, 167, 0, 5, 21, 4, 54, 4, 42]
abbrev dktX4_number_2 : List UInt8 := dkwX4_number_2 ++ dktX4_number_3
def dkwX4_number_1 : List UInt8 := [191, 42, 180, 0, 23, 62, 3, 54, 4, 42, 182, 0, 65, 153, 0, 46, 42, 180, 0, 23, 29, 100, 8]
abbrev dktX4_number_1 : List UInt8 := dkwX4_number_1 ++ dktX4_number_2
def dkwX4_number_0 : List UInt8 := [42, 182, 0, 45, 87, 42, 182, 0, 65, 154, 0, 16, 42, 180, 0, 3, 3, 42, 180, 0, 23, 182, 0, 69]
abbrev dktX4_number_0 : List UInt8 := dkwX4_number_0 ++ dktX4_number_1
theorem dksX4_number_0 : cX4_number.data.toList.drop 0 = dktX4_number_0 := by decide +kernel
theorem dksX4_number_1 : cX4_number.data.toList.drop 24 = dktX4_number_1 := dk_seg dksX4_number_0 24 rfl rfl
theorem dksX4_number_2 : cX4_number.data.toList.drop 47 = dktX4_number_2 := dk_seg dksX4_number_1 23 rfl rfl
theorem dksX4_number_3 : cX4_number.data.toList.drop 71 = dktX4_number_3 := dk_seg dksX4_number_2 24 rfl rfl
theorem dksX4_number_4 : cX4_number.data.toList.drop 95 = dktX4_number_4 := dk_seg dksX4_number_3 24 rfl rfl
theorem dX4_number_0 : decode cX4_number 0 = .ok (.aload_n 0, 1) := dk_42 (dk_at dksX4_number_0 0 rfl rfl)
theorem dX4_number_1 : decode cX4_number 1 = .ok (.invokevirtual 45, 3) := dk_182 0 45 (dk_at dksX4_number_0 1 rfl rfl)
theorem dX4_number_4 : decode cX4_number 4 = .ok (.pop, 1) := dk_87 (dk_at dksX4_number_0 4 rfl rfl)
theorem dX4_number_5 : decode cX4_number 5 = .ok (.aload_n 0, 1) := dk_42 (dk_at dksX4_number_0 5 rfl rfl)
theorem dX4_number_6 : decode cX4_number 6 = .ok (.invokevirtual 65, 3) := dk_182 0 65 (dk_at dksX4_number_0 6 rfl rfl)
theorem dX4_number_9 : decode cX4_number 9 = .ok (.ifCond .ne 16, 3) := dk_154 0 16 (dk_at dksX4_number_0 9 rfl rfl)
theorem dX4_number_12 : decode cX4_number 12 = .ok (.aload_n 0, 1) := dk_42 (dk_at dksX4_number_0 12 rfl rfl)
theorem dX4_number_13 : decode cX4_number 13 = .ok (.getfield 3, 3) := dk_180 0 3 (dk_at dksX4_number_0 13 rfl rfl)
theorem dX4_number_16 : decode cX4_number 16 = .ok (.iconst 0, 1) := dk_3 (dk_at dksX4_number_0 16 rfl rfl)
theorem dX4_number_17 : decode cX4_number 17 = .ok (.aload_n 0, 1) := dk_42 (dk_at dksX4_number_0 17 rfl rfl)
theorem dX4_number_18 : decode cX4_number 18 = .ok (.getfield 23, 3) := dk_180 0 23 (dk_at dksX4_number_0 18 rfl rfl)
theorem dX4_number_21 : decode cX4_number 21 = .ok (.invokevirtual 69, 3) := dk_182 0 69 (dk_at dksX4_number_0 21 rfl rfl)
theorem dX4_number_24 : decode cX4_number 24 = .ok (.athrow, 1) := dk_191 (dk_at dksX4_number_1 0 rfl rfl)
theorem dX4_number_25 : decode cX4_number 25 = .ok (.aload_n 0, 1) := dk_42 (dk_at dksX4_number_1 1 rfl rfl)
theorem dX4_number_26 : decode cX4_number 26 = .ok (.getfield 23, 3) := dk_180 0 23 (dk_at dksX4_number_1 2 rfl rfl)
theorem dX4_number_29 : decode cX4_number 29 = .ok (.istore_n 3, 1) := dk_62 (dk_at dksX4_number_1 5 rfl rfl)
theorem dX4_number_30 : decode cX4_number 30 = .ok (.iconst 0, 1) := dk_3 (dk_at dksX4_number_1 6 rfl rfl)
theorem dX4_number_31 : decode cX4_number 31 = .ok (.istore 4, 2) := dk_54 4 (dk_at dksX4_number_1 7 rfl rfl)
theorem dX4_number_33 : decode cX4_number 33 = .ok (.aload_n 0, 1) := dk_42 (dk_at dksX4_number_1 9 rfl rfl)
theorem dX4_number_34 : decode cX4_number 34 = .ok (.invokevirtual 65, 3) := dk_182 0 65 (dk_at dksX4_number_1 10 rfl rfl)
theorem dX4_number_37 : decode cX4_number 37 = .ok (.ifCond .eq 46, 3) := dk_153 0 46 (dk_at dksX4_number_1 13 rfl rfl)
theorem dX4_number_40 : decode cX4_number 40 = .ok (.aload_n 0, 1) := dk_42 (dk_at dksX4_number_1 16 rfl rfl)
theorem dX4_number_41 : decode cX4_number 41 = .ok (.getfield 23, 3) := dk_180 0 23 (dk_at dksX4_number_1 17 rfl rfl)
theorem dX4_number_44 : decode cX4_number 44 = .ok (.iload_n 3, 1) := dk_29 (dk_at dksX4_number_1 20 rfl rfl)
theorem dX4_number_45 : decode cX4_number 45 = .ok (.isub, 1) := dk_100 (dk_at dksX4_number_1 21 rfl rfl)
theorem dX4_number_46 : decode cX4_number 46 = .ok (.iconst 5, 1) := dk_8 (dk_at dksX4_number_1 22 rfl rfl)
theorem dX4_number_47 : decode cX4_number 47 = .ok (.if_icmp .ge 19, 3) := dk_162 0 19 (dk_at dksX4_number_2 0 rfl rfl)
theorem dX4_number_50 : decode cX4_number 50 = .ok (.bipush 10, 2) := dk_16 10 (dk_at dksX4_number_2 3 rfl rfl)
theorem dX4_number_52 : decode cX4_number 52 = .ok (.iload 4, 2) := dk_21 4 (dk_at dksX4_number_2 5 rfl rfl)
theorem dX4_number_54 : decode cX4_number 54 = .ok (.imul, 1) := dk_104 (dk_at dksX4_number_2 7 rfl rfl)
theorem dX4_number_55 : decode cX4_number 55 = .ok (.aload_n 0, 1) := dk_42 (dk_at dksX4_number_2 8 rfl rfl)
theorem dX4_number_56 : decode cX4_number 56 = .ok (.invokevirtual 33, 3) := dk_182 0 33 (dk_at dksX4_number_2 9 rfl rfl)
theorem dX4_number_59 : decode cX4_number 59 = .ok (.iadd, 1) := dk_96 (dk_at dksX4_number_2 12 rfl rfl)
theorem dX4_number_60 : decode cX4_number 60 = .ok (.bipush 48, 2) := dk_16 48 (dk_at dksX4_number_2 13 rfl rfl)
theorem dX4_number_62 : decode cX4_number 62 = .ok (.isub, 1) := dk_100 (dk_at dksX4_number_2 15 rfl rfl)
theorem dX4_number_63 : decode cX4_number 63 = .ok (.goto 5, 3) := dk_167 0 5 (dk_at dksX4_number_2 16 rfl rfl)
theorem dX4_number_66 : decode cX4_number 66 = .ok (.iload 4, 2) := dk_21 4 (dk_at dksX4_number_2 19 rfl rfl)
theorem dX4_number_68 : decode cX4_number 68 = .ok (.istore 4, 2) := dk_54 4 (dk_at dksX4_number_2 21 rfl rfl)
theorem dX4_number_70 : decode cX4_number 70 = .ok (.aload_n 0, 1) := dk_42 (dk_at dksX4_number_2 23 rfl rfl)
theorem dX4_number_71 : decode cX4_number 71 = .ok (.dup, 1) := dk_89 (dk_at dksX4_number_3 0 rfl rfl)
theorem dX4_number_72 : decode cX4_number 72 = .ok (.getfield 23, 3) := dk_180 0 23 (dk_at dksX4_number_3 1 rfl rfl)
theorem dX4_number_75 : decode cX4_number 75 = .ok (.iconst 1, 1) := dk_4 (dk_at dksX4_number_3 4 rfl rfl)
theorem dX4_number_76 : decode cX4_number 76 = .ok (.iadd, 1) := dk_96 (dk_at dksX4_number_3 5 rfl rfl)
theorem dX4_number_77 : decode cX4_number 77 = .ok (.putfield 23, 3) := dk_181 0 23 (dk_at dksX4_number_3 6 rfl rfl)
theorem dX4_number_80 : decode cX4_number 80 = .ok (.goto (-47), 3) := dk_167 255 209 (dk_at dksX4_number_3 9 rfl rfl)
theorem dX4_number_83 : decode cX4_number 83 = .ok (.aload_n 0, 1) := dk_42 (dk_at dksX4_number_3 12 rfl rfl)
theorem dX4_number_84 : decode cX4_number 84 = .ok (.getfield 23, 3) := dk_180 0 23 (dk_at dksX4_number_3 13 rfl rfl)
theorem dX4_number_87 : decode cX4_number 87 = .ok (.iload_n 3, 1) := dk_29 (dk_at dksX4_number_3 16 rfl rfl)
theorem dX4_number_88 : decode cX4_number 88 = .ok (.isub, 1) := dk_100 (dk_at dksX4_number_3 17 rfl rfl)
theorem dX4_number_89 : decode cX4_number 89 = .ok (.iconst 5, 1) := dk_8 (dk_at dksX4_number_3 18 rfl rfl)
theorem dX4_number_90 : decode cX4_number 90 = .ok (.if_icmp .gt 16, 3) := dk_163 0 16 (dk_at dksX4_number_3 19 rfl rfl)
theorem dX4_number_93 : decode cX4_number 93 = .ok (.iload 4, 2) := dk_21 4 (dk_at dksX4_number_3 22 rfl rfl)
theorem dX4_number_95 : decode cX4_number 95 = .ok (.i2l, 1) := dk_133 (dk_at dksX4_number_4 0 rfl rfl)
theorem dX4_number_96 : decode cX4_number 96 = .ok (.iload_n 1, 1) := dk_27 (dk_at dksX4_number_4 1 rfl rfl)
theorem dX4_number_97 : decode cX4_number 97 = .ok (.i2l, 1) := dk_133 (dk_at dksX4_number_4 2 rfl rfl)
theorem dX4_number_98 : decode cX4_number 98 = .ok (.iload_n 2, 1) := dk_28 (dk_at dksX4_number_4 3 rfl rfl)
theorem dX4_number_99 : decode cX4_number 99 = .ok (.i2l, 1) := dk_133 (dk_at dksX4_number_4 4 rfl rfl)
theorem dX4_number_100 : decode cX4_number 100 = .ok (.invokestatic 41, 3) := dk_184 0 41 (dk_at dksX4_number_4 5 rfl rfl)
theorem dX4_number_103 : decode cX4_number 103 = .ok (.ifCond .ne 13, 3) := dk_154 0 13 (dk_at dksX4_number_4 8 rfl rfl)
theorem dX4_number_106 : decode cX4_number 106 = .ok (.aload_n 0, 1) := dk_42 (dk_at dksX4_number_4 11 rfl rfl)
theorem dX4_number_107 : decode cX4_number 107 = .ok (.getfield 3, 3) := dk_180 0 3 (dk_at dksX4_number_4 12 rfl rfl)
theorem dX4_number_110 : decode cX4_number 110 = .ok (.iconst 1, 1) := dk_4 (dk_at dksX4_number_4 15 rfl rfl)
theorem dX4_number_111 : decode cX4_number 111 = .ok (.iload_n 3, 1) := dk_29 (dk_at dksX4_number_4 16 rfl rfl)
theorem dX4_number_112 : decode cX4_number 112 = .ok (.invokevirtual 69, 3) := dk_182 0 69 (dk_at dksX4_number_4 17 rfl rfl)
theorem dX4_number_115 : decode cX4_number 115 = .ok (.athrow, 1) := dk_191 (dk_at dksX4_number_4 20 rfl rfl)
theorem dX4_number_116 : decode cX4_number 116 = .ok (.iload 4, 2) := dk_21 4 (dk_at dksX4_number_4 21 rfl rfl)
theorem dX4_number_118 : decode cX4_number 118 = .ok (.ireturn, 1) := dk_172 (dk_at dksX4_number_4 23 rfl rfl)
abbrev cX4_isDigit : ByteArray := prog_11_method_4_code
def yX4_isDigit : MethodName := ⟨RX4, "isDigit", "()Z"⟩
def dkwX4_isDigit_0 : List UInt8 := [42, 182, 0, 33, 133, 20, 0, 37, 20, 0, 39, 184, 0, 41, 172]
abbrev dktX4_isDigit_0 : List UInt8 := dkwX4_isDigit_0 ++ []
theorem dksX4_isDigit_0 : cX4_isDigit.data.toList.drop 0 = dktX4_isDigit_0 := by decide +kernel
theorem dX4_isDigit_0 : decode cX4_isDigit 0 = .ok (.aload_n 0, 1) := dk_42 (dk_at dksX4_isDigit_0 0 rfl rfl)
theorem dX4_isDigit_1 : decode cX4_isDigit 1 = .ok (.invokevirtual 33, 3) := dk_182 0 33 (dk_at dksX4_isDigit_0 1 rfl rfl)
theorem dX4_isDigit_4 : decode cX4_isDigit 4 = .ok (.i2l, 1) := dk_133 (dk_at dksX4_isDigit_0 4 rfl rfl)
theorem dX4_isDigit_5 : decode cX4_isDigit 5 = .ok (.ldc2_w 37, 3) := dk_20 0 37 (dk_at dksX4_isDigit_0 5 rfl rfl)
theorem dX4_isDigit_8 : decode cX4_isDigit 8 = .ok (.ldc2_w 39, 3) := dk_20 0 39 (dk_at dksX4_isDigit_0 8 rfl rfl)
theorem dX4_isDigit_11 : decode cX4_isDigit 11 = .ok (.invokestatic 41, 3) := dk_184 0 41 (dk_at dksX4_isDigit_0 11 rfl rfl)
theorem dX4_isDigit_14 : decode cX4_isDigit 14 = .ok (.ireturn, 1) := dk_172 (dk_at dksX4_isDigit_0 14 rfl rfl)
abbrev cX4_other : ByteArray := prog_11_method_18_code
def yX4_other : MethodName := ⟨RX4, "other", "(I)I"⟩
def dkwX4_other_1 : List UInt8 := [180, 0, 3, 4, 28, 182, 0, 69, 191, 29, 172]
abbrev dktX4_other_1 : List UInt8 := dkwX4_other_1 ++ []
def dkwX4_other_0 : List UInt8 := [42, 182, 0, 45, 87, 42, 180, 0, 23, 61, 42, 3, 16, 7, 182, 0, 82, 62, 29, 27, 160, 0, 13, 42]
abbrev dktX4_other_0 : List UInt8 := dkwX4_other_0 ++ dktX4_other_1
theorem dksX4_other_0 : cX4_other.data.toList.drop 0 = dktX4_other_0 := by decide +kernel
theorem dksX4_other_1 : cX4_other.data.toList.drop 24 = dktX4_other_1 := dk_seg dksX4_other_0 24 rfl rfl
theorem dX4_other_0 : decode cX4_other 0 = .ok (.aload_n 0, 1) := dk_42 (dk_at dksX4_other_0 0 rfl rfl)
theorem dX4_other_1 : decode cX4_other 1 = .ok (.invokevirtual 45, 3) := dk_182 0 45 (dk_at dksX4_other_0 1 rfl rfl)
theorem dX4_other_4 : decode cX4_other 4 = .ok (.pop, 1) := dk_87 (dk_at dksX4_other_0 4 rfl rfl)
theorem dX4_other_5 : decode cX4_other 5 = .ok (.aload_n 0, 1) := dk_42 (dk_at dksX4_other_0 5 rfl rfl)
theorem dX4_other_6 : decode cX4_other 6 = .ok (.getfield 23, 3) := dk_180 0 23 (dk_at dksX4_other_0 6 rfl rfl)
theorem dX4_other_9 : decode cX4_other 9 = .ok (.istore_n 2, 1) := dk_61 (dk_at dksX4_other_0 9 rfl rfl)
theorem dX4_other_10 : decode cX4_other 10 = .ok (.aload_n 0, 1) := dk_42 (dk_at dksX4_other_0 10 rfl rfl)
theorem dX4_other_11 : decode cX4_other 11 = .ok (.iconst 0, 1) := dk_3 (dk_at dksX4_other_0 11 rfl rfl)
theorem dX4_other_12 : decode cX4_other 12 = .ok (.bipush 7, 2) := dk_16 7 (dk_at dksX4_other_0 12 rfl rfl)
theorem dX4_other_14 : decode cX4_other 14 = .ok (.invokevirtual 82, 3) := dk_182 0 82 (dk_at dksX4_other_0 14 rfl rfl)
theorem dX4_other_17 : decode cX4_other 17 = .ok (.istore_n 3, 1) := dk_62 (dk_at dksX4_other_0 17 rfl rfl)
theorem dX4_other_18 : decode cX4_other 18 = .ok (.iload_n 3, 1) := dk_29 (dk_at dksX4_other_0 18 rfl rfl)
theorem dX4_other_19 : decode cX4_other 19 = .ok (.iload_n 1, 1) := dk_27 (dk_at dksX4_other_0 19 rfl rfl)
theorem dX4_other_20 : decode cX4_other 20 = .ok (.if_icmp .ne 13, 3) := dk_160 0 13 (dk_at dksX4_other_0 20 rfl rfl)
theorem dX4_other_23 : decode cX4_other 23 = .ok (.aload_n 0, 1) := dk_42 (dk_at dksX4_other_0 23 rfl rfl)
theorem dX4_other_24 : decode cX4_other 24 = .ok (.getfield 3, 3) := dk_180 0 3 (dk_at dksX4_other_1 0 rfl rfl)
theorem dX4_other_27 : decode cX4_other 27 = .ok (.iconst 1, 1) := dk_4 (dk_at dksX4_other_1 3 rfl rfl)
theorem dX4_other_28 : decode cX4_other 28 = .ok (.iload_n 2, 1) := dk_28 (dk_at dksX4_other_1 4 rfl rfl)
theorem dX4_other_29 : decode cX4_other 29 = .ok (.invokevirtual 69, 3) := dk_182 0 69 (dk_at dksX4_other_1 5 rfl rfl)
theorem dX4_other_32 : decode cX4_other 32 = .ok (.athrow, 1) := dk_191 (dk_at dksX4_other_1 8 rfl rfl)
theorem dX4_other_33 : decode cX4_other 33 = .ok (.iload_n 3, 1) := dk_29 (dk_at dksX4_other_1 9 rfl rfl)
theorem dX4_other_34 : decode cX4_other 34 = .ok (.ireturn, 1) := dk_172 (dk_at dksX4_other_1 10 rfl rfl)
abbrev cX4_goesOn : ByteArray := prog_11_method_21_code
def yX4_goesOn : MethodName := ⟨RX4, "goesOn", "()Z"⟩
def dkwX4_goesOn_1 : List UInt8 := [180, 0, 23, 182, 0, 69, 191, 42, 89, 180, 0, 23, 4, 96, 181, 0, 23, 4, 172]
abbrev dktX4_goesOn_1 : List UInt8 := dkwX4_goesOn_1 ++ []
def dkwX4_goesOn_0 : List UInt8 := [42, 182, 0, 45, 60, 27, 2, 160, 0, 5, 3, 172, 27, 16, 59, 159, 0, 16, 42, 180, 0, 3, 3, 42]
abbrev dktX4_goesOn_0 : List UInt8 := dkwX4_goesOn_0 ++ dktX4_goesOn_1
theorem dksX4_goesOn_0 : cX4_goesOn.data.toList.drop 0 = dktX4_goesOn_0 := by decide +kernel
theorem dksX4_goesOn_1 : cX4_goesOn.data.toList.drop 24 = dktX4_goesOn_1 := dk_seg dksX4_goesOn_0 24 rfl rfl
theorem dX4_goesOn_0 : decode cX4_goesOn 0 = .ok (.aload_n 0, 1) := dk_42 (dk_at dksX4_goesOn_0 0 rfl rfl)
theorem dX4_goesOn_1 : decode cX4_goesOn 1 = .ok (.invokevirtual 45, 3) := dk_182 0 45 (dk_at dksX4_goesOn_0 1 rfl rfl)
theorem dX4_goesOn_4 : decode cX4_goesOn 4 = .ok (.istore_n 1, 1) := dk_60 (dk_at dksX4_goesOn_0 4 rfl rfl)
theorem dX4_goesOn_5 : decode cX4_goesOn 5 = .ok (.iload_n 1, 1) := dk_27 (dk_at dksX4_goesOn_0 5 rfl rfl)
theorem dX4_goesOn_6 : decode cX4_goesOn 6 = .ok (.iconst (-1), 1) := dk_2 (dk_at dksX4_goesOn_0 6 rfl rfl)
theorem dX4_goesOn_7 : decode cX4_goesOn 7 = .ok (.if_icmp .ne 5, 3) := dk_160 0 5 (dk_at dksX4_goesOn_0 7 rfl rfl)
theorem dX4_goesOn_10 : decode cX4_goesOn 10 = .ok (.iconst 0, 1) := dk_3 (dk_at dksX4_goesOn_0 10 rfl rfl)
theorem dX4_goesOn_11 : decode cX4_goesOn 11 = .ok (.ireturn, 1) := dk_172 (dk_at dksX4_goesOn_0 11 rfl rfl)
theorem dX4_goesOn_12 : decode cX4_goesOn 12 = .ok (.iload_n 1, 1) := dk_27 (dk_at dksX4_goesOn_0 12 rfl rfl)
theorem dX4_goesOn_13 : decode cX4_goesOn 13 = .ok (.bipush 59, 2) := dk_16 59 (dk_at dksX4_goesOn_0 13 rfl rfl)
theorem dX4_goesOn_15 : decode cX4_goesOn 15 = .ok (.if_icmp .eq 16, 3) := dk_159 0 16 (dk_at dksX4_goesOn_0 15 rfl rfl)
theorem dX4_goesOn_18 : decode cX4_goesOn 18 = .ok (.aload_n 0, 1) := dk_42 (dk_at dksX4_goesOn_0 18 rfl rfl)
theorem dX4_goesOn_19 : decode cX4_goesOn 19 = .ok (.getfield 3, 3) := dk_180 0 3 (dk_at dksX4_goesOn_0 19 rfl rfl)
theorem dX4_goesOn_22 : decode cX4_goesOn 22 = .ok (.iconst 0, 1) := dk_3 (dk_at dksX4_goesOn_0 22 rfl rfl)
theorem dX4_goesOn_23 : decode cX4_goesOn 23 = .ok (.aload_n 0, 1) := dk_42 (dk_at dksX4_goesOn_0 23 rfl rfl)
theorem dX4_goesOn_24 : decode cX4_goesOn 24 = .ok (.getfield 23, 3) := dk_180 0 23 (dk_at dksX4_goesOn_1 0 rfl rfl)
theorem dX4_goesOn_27 : decode cX4_goesOn 27 = .ok (.invokevirtual 69, 3) := dk_182 0 69 (dk_at dksX4_goesOn_1 3 rfl rfl)
theorem dX4_goesOn_30 : decode cX4_goesOn 30 = .ok (.athrow, 1) := dk_191 (dk_at dksX4_goesOn_1 6 rfl rfl)
theorem dX4_goesOn_31 : decode cX4_goesOn 31 = .ok (.aload_n 0, 1) := dk_42 (dk_at dksX4_goesOn_1 7 rfl rfl)
theorem dX4_goesOn_32 : decode cX4_goesOn 32 = .ok (.dup, 1) := dk_89 (dk_at dksX4_goesOn_1 8 rfl rfl)
theorem dX4_goesOn_33 : decode cX4_goesOn 33 = .ok (.getfield 23, 3) := dk_180 0 23 (dk_at dksX4_goesOn_1 9 rfl rfl)
theorem dX4_goesOn_36 : decode cX4_goesOn 36 = .ok (.iconst 1, 1) := dk_4 (dk_at dksX4_goesOn_1 12 rfl rfl)
theorem dX4_goesOn_37 : decode cX4_goesOn 37 = .ok (.iadd, 1) := dk_96 (dk_at dksX4_goesOn_1 13 rfl rfl)
theorem dX4_goesOn_38 : decode cX4_goesOn 38 = .ok (.putfield 23, 3) := dk_181 0 23 (dk_at dksX4_goesOn_1 14 rfl rfl)
theorem dX4_goesOn_41 : decode cX4_goesOn 41 = .ok (.iconst 1, 1) := dk_4 (dk_at dksX4_goesOn_1 17 rfl rfl)
theorem dX4_goesOn_42 : decode cX4_goesOn 42 = .ok (.ireturn, 1) := dk_172 (dk_at dksX4_goesOn_1 18 rfl rfl)
abbrev cX4_rule : ByteArray := prog_11_method_23_code
def yX4_rule : MethodName := ⟨RX4, "rule", "()I"⟩
def dkwX4_rule_2 : List UInt8 := [180, 0, 213, 182, 0, 159, 4, 100, 172]
abbrev dktX4_rule_2 : List UInt8 := dkwX4_rule_2 ++ []
def dkwX4_rule_1 : List UInt8 := [182, 0, 210, 167, 255, 244, 42, 180, 0, 3, 180, 0, 213, 43, 182, 0, 177, 87, 42, 180, 0, 3]
abbrev dktX4_rule_1 : List UInt8 := dkwX4_rule_1 ++ dktX4_rule_2
def dkwX4_rule_0 : List UInt8 := [187, 0, 189, 89, 183, 0, 209, 76, 42, 43, 182, 0, 210, 42, 182, 0, 206, 153, 0, 11, 42, 43]
abbrev dktX4_rule_0 : List UInt8 := dkwX4_rule_0 ++ dktX4_rule_1
theorem dksX4_rule_0 : cX4_rule.data.toList.drop 0 = dktX4_rule_0 := by decide +kernel
theorem dksX4_rule_1 : cX4_rule.data.toList.drop 22 = dktX4_rule_1 := dk_seg dksX4_rule_0 22 rfl rfl
theorem dksX4_rule_2 : cX4_rule.data.toList.drop 44 = dktX4_rule_2 := dk_seg dksX4_rule_1 22 rfl rfl
theorem dX4_rule_0 : decode cX4_rule 0 = .ok (.new 189, 3) := dk_187 0 189 (dk_at dksX4_rule_0 0 rfl rfl)
theorem dX4_rule_3 : decode cX4_rule 3 = .ok (.dup, 1) := dk_89 (dk_at dksX4_rule_0 3 rfl rfl)
theorem dX4_rule_4 : decode cX4_rule 4 = .ok (.invokespecial 209, 3) := dk_183 0 209 (dk_at dksX4_rule_0 4 rfl rfl)
theorem dX4_rule_7 : decode cX4_rule 7 = .ok (.astore_n 1, 1) := dk_76 (dk_at dksX4_rule_0 7 rfl rfl)
theorem dX4_rule_8 : decode cX4_rule 8 = .ok (.aload_n 0, 1) := dk_42 (dk_at dksX4_rule_0 8 rfl rfl)
theorem dX4_rule_9 : decode cX4_rule 9 = .ok (.aload_n 1, 1) := dk_43 (dk_at dksX4_rule_0 9 rfl rfl)
theorem dX4_rule_10 : decode cX4_rule 10 = .ok (.invokevirtual 210, 3) := dk_182 0 210 (dk_at dksX4_rule_0 10 rfl rfl)
theorem dX4_rule_13 : decode cX4_rule 13 = .ok (.aload_n 0, 1) := dk_42 (dk_at dksX4_rule_0 13 rfl rfl)
theorem dX4_rule_14 : decode cX4_rule 14 = .ok (.invokevirtual 206, 3) := dk_182 0 206 (dk_at dksX4_rule_0 14 rfl rfl)
theorem dX4_rule_17 : decode cX4_rule 17 = .ok (.ifCond .eq 11, 3) := dk_153 0 11 (dk_at dksX4_rule_0 17 rfl rfl)
theorem dX4_rule_20 : decode cX4_rule 20 = .ok (.aload_n 0, 1) := dk_42 (dk_at dksX4_rule_0 20 rfl rfl)
theorem dX4_rule_21 : decode cX4_rule 21 = .ok (.aload_n 1, 1) := dk_43 (dk_at dksX4_rule_0 21 rfl rfl)
theorem dX4_rule_22 : decode cX4_rule 22 = .ok (.invokevirtual 210, 3) := dk_182 0 210 (dk_at dksX4_rule_1 0 rfl rfl)
theorem dX4_rule_25 : decode cX4_rule 25 = .ok (.goto (-12), 3) := dk_167 255 244 (dk_at dksX4_rule_1 3 rfl rfl)
theorem dX4_rule_28 : decode cX4_rule 28 = .ok (.aload_n 0, 1) := dk_42 (dk_at dksX4_rule_1 6 rfl rfl)
theorem dX4_rule_29 : decode cX4_rule 29 = .ok (.getfield 3, 3) := dk_180 0 3 (dk_at dksX4_rule_1 7 rfl rfl)
theorem dX4_rule_32 : decode cX4_rule 32 = .ok (.getfield 213, 3) := dk_180 0 213 (dk_at dksX4_rule_1 10 rfl rfl)
theorem dX4_rule_35 : decode cX4_rule 35 = .ok (.aload_n 1, 1) := dk_43 (dk_at dksX4_rule_1 13 rfl rfl)
theorem dX4_rule_36 : decode cX4_rule 36 = .ok (.invokevirtual 177, 3) := dk_182 0 177 (dk_at dksX4_rule_1 14 rfl rfl)
theorem dX4_rule_39 : decode cX4_rule 39 = .ok (.pop, 1) := dk_87 (dk_at dksX4_rule_1 17 rfl rfl)
theorem dX4_rule_40 : decode cX4_rule 40 = .ok (.aload_n 0, 1) := dk_42 (dk_at dksX4_rule_1 18 rfl rfl)
theorem dX4_rule_41 : decode cX4_rule 41 = .ok (.getfield 3, 3) := dk_180 0 3 (dk_at dksX4_rule_1 19 rfl rfl)
theorem dX4_rule_44 : decode cX4_rule 44 = .ok (.getfield 213, 3) := dk_180 0 213 (dk_at dksX4_rule_2 0 rfl rfl)
theorem dX4_rule_47 : decode cX4_rule 47 = .ok (.invokevirtual 159, 3) := dk_182 0 159 (dk_at dksX4_rule_2 3 rfl rfl)
theorem dX4_rule_50 : decode cX4_rule 50 = .ok (.iconst 1, 1) := dk_4 (dk_at dksX4_rule_2 6 rfl rfl)
theorem dX4_rule_51 : decode cX4_rule 51 = .ok (.isub, 1) := dk_100 (dk_at dksX4_rule_2 7 rfl rfl)
theorem dX4_rule_52 : decode cX4_rule 52 = .ok (.ireturn, 1) := dk_172 (dk_at dksX4_rule_2 8 rfl rfl)
abbrev cX4_clause_2 : ByteArray := prog_11_method_20_code
def yX4_clause_2 : MethodName := ⟨RX4, "clause", "(LTurningRoads$Rule;)V"⟩
def dkwX4_clause_2_2 : List UInt8 := [87, 167, 0, 16, 42, 180, 0, 3, 3, 42, 180, 0, 23, 182, 0, 69, 191, 177]
abbrev dktX4_clause_2_2 : List UInt8 := dkwX4_clause_2_2 ++ []
def dkwX4_clause_2_1 : List UInt8 := [167, 0, 41, 42, 18, 197, 4, 182, 0, 164, 153, 0, 18, 43, 180, 0, 199, 42, 182, 0, 121, 182, 0, 177]
abbrev dktX4_clause_2_1 : List UInt8 := dkwX4_clause_2_1 ++ dktX4_clause_2_2
def dkwX4_clause_2_0 : List UInt8 := [42, 18, 186, 4, 182, 0, 164, 153, 0, 19, 43, 180, 0, 188, 42, 3, 182, 0, 193, 182, 0, 177, 87]
abbrev dktX4_clause_2_0 : List UInt8 := dkwX4_clause_2_0 ++ dktX4_clause_2_1
theorem dksX4_clause_2_0 : cX4_clause_2.data.toList.drop 0 = dktX4_clause_2_0 := by decide +kernel
theorem dksX4_clause_2_1 : cX4_clause_2.data.toList.drop 23 = dktX4_clause_2_1 := dk_seg dksX4_clause_2_0 23 rfl rfl
theorem dksX4_clause_2_2 : cX4_clause_2.data.toList.drop 47 = dktX4_clause_2_2 := dk_seg dksX4_clause_2_1 24 rfl rfl
theorem dX4_clause_2_0 : decode cX4_clause_2 0 = .ok (.aload_n 0, 1) := dk_42 (dk_at dksX4_clause_2_0 0 rfl rfl)
theorem dX4_clause_2_1 : decode cX4_clause_2 1 = .ok (.ldc 186, 2) := dk_18 186 (dk_at dksX4_clause_2_0 1 rfl rfl)
theorem dX4_clause_2_3 : decode cX4_clause_2 3 = .ok (.iconst 1, 1) := dk_4 (dk_at dksX4_clause_2_0 3 rfl rfl)
theorem dX4_clause_2_4 : decode cX4_clause_2 4 = .ok (.invokevirtual 164, 3) := dk_182 0 164 (dk_at dksX4_clause_2_0 4 rfl rfl)
theorem dX4_clause_2_7 : decode cX4_clause_2 7 = .ok (.ifCond .eq 19, 3) := dk_153 0 19 (dk_at dksX4_clause_2_0 7 rfl rfl)
theorem dX4_clause_2_10 : decode cX4_clause_2 10 = .ok (.aload_n 1, 1) := dk_43 (dk_at dksX4_clause_2_0 10 rfl rfl)
theorem dX4_clause_2_11 : decode cX4_clause_2 11 = .ok (.getfield 188, 3) := dk_180 0 188 (dk_at dksX4_clause_2_0 11 rfl rfl)
theorem dX4_clause_2_14 : decode cX4_clause_2 14 = .ok (.aload_n 0, 1) := dk_42 (dk_at dksX4_clause_2_0 14 rfl rfl)
theorem dX4_clause_2_15 : decode cX4_clause_2 15 = .ok (.iconst 0, 1) := dk_3 (dk_at dksX4_clause_2_0 15 rfl rfl)
theorem dX4_clause_2_16 : decode cX4_clause_2 16 = .ok (.invokevirtual 193, 3) := dk_182 0 193 (dk_at dksX4_clause_2_0 16 rfl rfl)
theorem dX4_clause_2_19 : decode cX4_clause_2 19 = .ok (.invokevirtual 177, 3) := dk_182 0 177 (dk_at dksX4_clause_2_0 19 rfl rfl)
theorem dX4_clause_2_22 : decode cX4_clause_2 22 = .ok (.pop, 1) := dk_87 (dk_at dksX4_clause_2_0 22 rfl rfl)
theorem dX4_clause_2_23 : decode cX4_clause_2 23 = .ok (.goto 41, 3) := dk_167 0 41 (dk_at dksX4_clause_2_1 0 rfl rfl)
theorem dX4_clause_2_26 : decode cX4_clause_2 26 = .ok (.aload_n 0, 1) := dk_42 (dk_at dksX4_clause_2_1 3 rfl rfl)
theorem dX4_clause_2_27 : decode cX4_clause_2 27 = .ok (.ldc 197, 2) := dk_18 197 (dk_at dksX4_clause_2_1 4 rfl rfl)
theorem dX4_clause_2_29 : decode cX4_clause_2 29 = .ok (.iconst 1, 1) := dk_4 (dk_at dksX4_clause_2_1 6 rfl rfl)
theorem dX4_clause_2_30 : decode cX4_clause_2 30 = .ok (.invokevirtual 164, 3) := dk_182 0 164 (dk_at dksX4_clause_2_1 7 rfl rfl)
theorem dX4_clause_2_33 : decode cX4_clause_2 33 = .ok (.ifCond .eq 18, 3) := dk_153 0 18 (dk_at dksX4_clause_2_1 10 rfl rfl)
theorem dX4_clause_2_36 : decode cX4_clause_2 36 = .ok (.aload_n 1, 1) := dk_43 (dk_at dksX4_clause_2_1 13 rfl rfl)
theorem dX4_clause_2_37 : decode cX4_clause_2 37 = .ok (.getfield 199, 3) := dk_180 0 199 (dk_at dksX4_clause_2_1 14 rfl rfl)
theorem dX4_clause_2_40 : decode cX4_clause_2 40 = .ok (.aload_n 0, 1) := dk_42 (dk_at dksX4_clause_2_1 17 rfl rfl)
theorem dX4_clause_2_41 : decode cX4_clause_2 41 = .ok (.invokevirtual 121, 3) := dk_182 0 121 (dk_at dksX4_clause_2_1 18 rfl rfl)
theorem dX4_clause_2_44 : decode cX4_clause_2 44 = .ok (.invokevirtual 177, 3) := dk_182 0 177 (dk_at dksX4_clause_2_1 21 rfl rfl)
theorem dX4_clause_2_47 : decode cX4_clause_2 47 = .ok (.pop, 1) := dk_87 (dk_at dksX4_clause_2_2 0 rfl rfl)
theorem dX4_clause_2_48 : decode cX4_clause_2 48 = .ok (.goto 16, 3) := dk_167 0 16 (dk_at dksX4_clause_2_2 1 rfl rfl)
theorem dX4_clause_2_51 : decode cX4_clause_2 51 = .ok (.aload_n 0, 1) := dk_42 (dk_at dksX4_clause_2_2 4 rfl rfl)
theorem dX4_clause_2_52 : decode cX4_clause_2 52 = .ok (.getfield 3, 3) := dk_180 0 3 (dk_at dksX4_clause_2_2 5 rfl rfl)
theorem dX4_clause_2_55 : decode cX4_clause_2 55 = .ok (.iconst 0, 1) := dk_3 (dk_at dksX4_clause_2_2 8 rfl rfl)
theorem dX4_clause_2_56 : decode cX4_clause_2 56 = .ok (.aload_n 0, 1) := dk_42 (dk_at dksX4_clause_2_2 9 rfl rfl)
theorem dX4_clause_2_57 : decode cX4_clause_2 57 = .ok (.getfield 23, 3) := dk_180 0 23 (dk_at dksX4_clause_2_2 10 rfl rfl)
theorem dX4_clause_2_60 : decode cX4_clause_2 60 = .ok (.invokevirtual 69, 3) := dk_182 0 69 (dk_at dksX4_clause_2_2 13 rfl rfl)
theorem dX4_clause_2_63 : decode cX4_clause_2 63 = .ok (.athrow, 1) := dk_191 (dk_at dksX4_clause_2_2 16 rfl rfl)
theorem dX4_clause_2_64 : decode cX4_clause_2 64 = .ok (.return_, 1) := dk_177 (dk_at dksX4_clause_2_2 17 rfl rfl)
abbrev cX4_told : ByteArray := prog_11_method_17_code
def yX4_told : MethodName := ⟨RX4, "told", "(I)LTurningRoads$Told;"⟩
def dkwX4_told_1 : List UInt8 := [167, 0, 4, 1, 183, 0, 154, 176]
abbrev dktX4_told_1 : List UInt8 := dkwX4_told_1 ++ []
def dkwX4_told_0 : List UInt8 := [42, 182, 0, 124, 77, 187, 0, 150, 89, 27, 44, 42, 18, 152, 182, 0, 134, 153, 0, 10, 42, 182, 0, 121]
abbrev dktX4_told_0 : List UInt8 := dkwX4_told_0 ++ dktX4_told_1
theorem dksX4_told_0 : cX4_told.data.toList.drop 0 = dktX4_told_0 := by decide +kernel
theorem dksX4_told_1 : cX4_told.data.toList.drop 24 = dktX4_told_1 := dk_seg dksX4_told_0 24 rfl rfl
theorem dX4_told_0 : decode cX4_told 0 = .ok (.aload_n 0, 1) := dk_42 (dk_at dksX4_told_0 0 rfl rfl)
theorem dX4_told_1 : decode cX4_told 1 = .ok (.invokevirtual 124, 3) := dk_182 0 124 (dk_at dksX4_told_0 1 rfl rfl)
theorem dX4_told_4 : decode cX4_told 4 = .ok (.astore_n 2, 1) := dk_77 (dk_at dksX4_told_0 4 rfl rfl)
theorem dX4_told_5 : decode cX4_told 5 = .ok (.new 150, 3) := dk_187 0 150 (dk_at dksX4_told_0 5 rfl rfl)
theorem dX4_told_8 : decode cX4_told 8 = .ok (.dup, 1) := dk_89 (dk_at dksX4_told_0 8 rfl rfl)
theorem dX4_told_9 : decode cX4_told 9 = .ok (.iload_n 1, 1) := dk_27 (dk_at dksX4_told_0 9 rfl rfl)
theorem dX4_told_10 : decode cX4_told 10 = .ok (.aload_n 2, 1) := dk_44 (dk_at dksX4_told_0 10 rfl rfl)
theorem dX4_told_11 : decode cX4_told 11 = .ok (.aload_n 0, 1) := dk_42 (dk_at dksX4_told_0 11 rfl rfl)
theorem dX4_told_12 : decode cX4_told 12 = .ok (.ldc 152, 2) := dk_18 152 (dk_at dksX4_told_0 12 rfl rfl)
theorem dX4_told_14 : decode cX4_told 14 = .ok (.invokevirtual 134, 3) := dk_182 0 134 (dk_at dksX4_told_0 14 rfl rfl)
theorem dX4_told_17 : decode cX4_told 17 = .ok (.ifCond .eq 10, 3) := dk_153 0 10 (dk_at dksX4_told_0 17 rfl rfl)
theorem dX4_told_20 : decode cX4_told 20 = .ok (.aload_n 0, 1) := dk_42 (dk_at dksX4_told_0 20 rfl rfl)
theorem dX4_told_21 : decode cX4_told 21 = .ok (.invokevirtual 121, 3) := dk_182 0 121 (dk_at dksX4_told_0 21 rfl rfl)
theorem dX4_told_24 : decode cX4_told 24 = .ok (.goto 4, 3) := dk_167 0 4 (dk_at dksX4_told_1 0 rfl rfl)
theorem dX4_told_27 : decode cX4_told 27 = .ok (.aconst_null, 1) := dk_1 (dk_at dksX4_told_1 3 rfl rfl)
theorem dX4_told_28 : decode cX4_told 28 = .ok (.invokespecial 154, 3) := dk_183 0 154 (dk_at dksX4_told_1 4 rfl rfl)
theorem dX4_told_31 : decode cX4_told 31 = .ok (.areturn, 1) := dk_176 (dk_at dksX4_told_1 7 rfl rfl)
abbrev cX4_sum : ByteArray := prog_11_method_12_code
def yX4_sum : MethodName := ⟨RX4, "sum", "()LTurningRoads$Value;"⟩
def dkwX4_sum_2 : List UInt8 := [183, 0, 101, 76, 167, 255, 209, 43, 176]
abbrev dktX4_sum_2 : List UInt8 := dkwX4_sum_2 ++ []
def dkwX4_sum_1 : List UInt8 := [182, 0, 33, 61, 42, 89, 180, 0, 23, 4, 96, 181, 0, 23, 187, 0, 99, 89, 43, 42, 182, 0, 104, 28]
abbrev dktX4_sum_1 : List UInt8 := dkwX4_sum_1 ++ dktX4_sum_2
def dkwX4_sum_0 : List UInt8 := [42, 182, 0, 104, 76, 42, 182, 0, 45, 16, 43, 159, 0, 12, 42, 182, 0, 33, 16, 45, 160, 0, 35, 42]
abbrev dktX4_sum_0 : List UInt8 := dkwX4_sum_0 ++ dktX4_sum_1
theorem dksX4_sum_0 : cX4_sum.data.toList.drop 0 = dktX4_sum_0 := by decide +kernel
theorem dksX4_sum_1 : cX4_sum.data.toList.drop 24 = dktX4_sum_1 := dk_seg dksX4_sum_0 24 rfl rfl
theorem dksX4_sum_2 : cX4_sum.data.toList.drop 48 = dktX4_sum_2 := dk_seg dksX4_sum_1 24 rfl rfl
theorem dX4_sum_0 : decode cX4_sum 0 = .ok (.aload_n 0, 1) := dk_42 (dk_at dksX4_sum_0 0 rfl rfl)
theorem dX4_sum_1 : decode cX4_sum 1 = .ok (.invokevirtual 104, 3) := dk_182 0 104 (dk_at dksX4_sum_0 1 rfl rfl)
theorem dX4_sum_4 : decode cX4_sum 4 = .ok (.astore_n 1, 1) := dk_76 (dk_at dksX4_sum_0 4 rfl rfl)
theorem dX4_sum_5 : decode cX4_sum 5 = .ok (.aload_n 0, 1) := dk_42 (dk_at dksX4_sum_0 5 rfl rfl)
theorem dX4_sum_6 : decode cX4_sum 6 = .ok (.invokevirtual 45, 3) := dk_182 0 45 (dk_at dksX4_sum_0 6 rfl rfl)
theorem dX4_sum_9 : decode cX4_sum 9 = .ok (.bipush 43, 2) := dk_16 43 (dk_at dksX4_sum_0 9 rfl rfl)
theorem dX4_sum_11 : decode cX4_sum 11 = .ok (.if_icmp .eq 12, 3) := dk_159 0 12 (dk_at dksX4_sum_0 11 rfl rfl)
theorem dX4_sum_14 : decode cX4_sum 14 = .ok (.aload_n 0, 1) := dk_42 (dk_at dksX4_sum_0 14 rfl rfl)
theorem dX4_sum_15 : decode cX4_sum 15 = .ok (.invokevirtual 33, 3) := dk_182 0 33 (dk_at dksX4_sum_0 15 rfl rfl)
theorem dX4_sum_18 : decode cX4_sum 18 = .ok (.bipush 45, 2) := dk_16 45 (dk_at dksX4_sum_0 18 rfl rfl)
theorem dX4_sum_20 : decode cX4_sum 20 = .ok (.if_icmp .ne 35, 3) := dk_160 0 35 (dk_at dksX4_sum_0 20 rfl rfl)
theorem dX4_sum_23 : decode cX4_sum 23 = .ok (.aload_n 0, 1) := dk_42 (dk_at dksX4_sum_0 23 rfl rfl)
theorem dX4_sum_24 : decode cX4_sum 24 = .ok (.invokevirtual 33, 3) := dk_182 0 33 (dk_at dksX4_sum_1 0 rfl rfl)
theorem dX4_sum_27 : decode cX4_sum 27 = .ok (.istore_n 2, 1) := dk_61 (dk_at dksX4_sum_1 3 rfl rfl)
theorem dX4_sum_28 : decode cX4_sum 28 = .ok (.aload_n 0, 1) := dk_42 (dk_at dksX4_sum_1 4 rfl rfl)
theorem dX4_sum_29 : decode cX4_sum 29 = .ok (.dup, 1) := dk_89 (dk_at dksX4_sum_1 5 rfl rfl)
theorem dX4_sum_30 : decode cX4_sum 30 = .ok (.getfield 23, 3) := dk_180 0 23 (dk_at dksX4_sum_1 6 rfl rfl)
theorem dX4_sum_33 : decode cX4_sum 33 = .ok (.iconst 1, 1) := dk_4 (dk_at dksX4_sum_1 9 rfl rfl)
theorem dX4_sum_34 : decode cX4_sum 34 = .ok (.iadd, 1) := dk_96 (dk_at dksX4_sum_1 10 rfl rfl)
theorem dX4_sum_35 : decode cX4_sum 35 = .ok (.putfield 23, 3) := dk_181 0 23 (dk_at dksX4_sum_1 11 rfl rfl)
theorem dX4_sum_38 : decode cX4_sum 38 = .ok (.new 99, 3) := dk_187 0 99 (dk_at dksX4_sum_1 14 rfl rfl)
theorem dX4_sum_41 : decode cX4_sum 41 = .ok (.dup, 1) := dk_89 (dk_at dksX4_sum_1 17 rfl rfl)
theorem dX4_sum_42 : decode cX4_sum 42 = .ok (.aload_n 1, 1) := dk_43 (dk_at dksX4_sum_1 18 rfl rfl)
theorem dX4_sum_43 : decode cX4_sum 43 = .ok (.aload_n 0, 1) := dk_42 (dk_at dksX4_sum_1 19 rfl rfl)
theorem dX4_sum_44 : decode cX4_sum 44 = .ok (.invokevirtual 104, 3) := dk_182 0 104 (dk_at dksX4_sum_1 20 rfl rfl)
theorem dX4_sum_47 : decode cX4_sum 47 = .ok (.iload_n 2, 1) := dk_28 (dk_at dksX4_sum_1 23 rfl rfl)
theorem dX4_sum_48 : decode cX4_sum 48 = .ok (.invokespecial 101, 3) := dk_183 0 101 (dk_at dksX4_sum_2 0 rfl rfl)
theorem dX4_sum_51 : decode cX4_sum 51 = .ok (.astore_n 1, 1) := dk_76 (dk_at dksX4_sum_2 3 rfl rfl)
theorem dX4_sum_52 : decode cX4_sum 52 = .ok (.goto (-47), 3) := dk_167 255 209 (dk_at dksX4_sum_2 4 rfl rfl)
theorem dX4_sum_55 : decode cX4_sum 55 = .ok (.aload_n 1, 1) := dk_43 (dk_at dksX4_sum_2 7 rfl rfl)
theorem dX4_sum_56 : decode cX4_sum 56 = .ok (.areturn, 1) := dk_176 (dk_at dksX4_sum_2 8 rfl rfl)
abbrev cX4_term : ByteArray := prog_11_method_11_code
def yX4_term : MethodName := ⟨RX4, "term", "()LTurningRoads$Value;"⟩
def dkwX4_term_2 : List UInt8 := [183, 0, 101, 76, 167, 255, 209, 43, 176]
abbrev dktX4_term_2 : List UInt8 := dkwX4_term_2 ++ []
def dkwX4_term_1 : List UInt8 := [182, 0, 33, 61, 42, 89, 180, 0, 23, 4, 96, 181, 0, 23, 187, 0, 99, 89, 43, 42, 182, 0, 95, 28]
abbrev dktX4_term_1 : List UInt8 := dkwX4_term_1 ++ dktX4_term_2
def dkwX4_term_0 : List UInt8 := [42, 182, 0, 95, 76, 42, 182, 0, 45, 16, 42, 159, 0, 12, 42, 182, 0, 33, 16, 47, 160, 0, 35, 42]
abbrev dktX4_term_0 : List UInt8 := dkwX4_term_0 ++ dktX4_term_1
theorem dksX4_term_0 : cX4_term.data.toList.drop 0 = dktX4_term_0 := by decide +kernel
theorem dksX4_term_1 : cX4_term.data.toList.drop 24 = dktX4_term_1 := dk_seg dksX4_term_0 24 rfl rfl
theorem dksX4_term_2 : cX4_term.data.toList.drop 48 = dktX4_term_2 := dk_seg dksX4_term_1 24 rfl rfl
theorem dX4_term_0 : decode cX4_term 0 = .ok (.aload_n 0, 1) := dk_42 (dk_at dksX4_term_0 0 rfl rfl)
theorem dX4_term_1 : decode cX4_term 1 = .ok (.invokevirtual 95, 3) := dk_182 0 95 (dk_at dksX4_term_0 1 rfl rfl)
theorem dX4_term_4 : decode cX4_term 4 = .ok (.astore_n 1, 1) := dk_76 (dk_at dksX4_term_0 4 rfl rfl)
theorem dX4_term_5 : decode cX4_term 5 = .ok (.aload_n 0, 1) := dk_42 (dk_at dksX4_term_0 5 rfl rfl)
theorem dX4_term_6 : decode cX4_term 6 = .ok (.invokevirtual 45, 3) := dk_182 0 45 (dk_at dksX4_term_0 6 rfl rfl)
theorem dX4_term_9 : decode cX4_term 9 = .ok (.bipush 42, 2) := dk_16 42 (dk_at dksX4_term_0 9 rfl rfl)
theorem dX4_term_11 : decode cX4_term 11 = .ok (.if_icmp .eq 12, 3) := dk_159 0 12 (dk_at dksX4_term_0 11 rfl rfl)
theorem dX4_term_14 : decode cX4_term 14 = .ok (.aload_n 0, 1) := dk_42 (dk_at dksX4_term_0 14 rfl rfl)
theorem dX4_term_15 : decode cX4_term 15 = .ok (.invokevirtual 33, 3) := dk_182 0 33 (dk_at dksX4_term_0 15 rfl rfl)
theorem dX4_term_18 : decode cX4_term 18 = .ok (.bipush 47, 2) := dk_16 47 (dk_at dksX4_term_0 18 rfl rfl)
theorem dX4_term_20 : decode cX4_term 20 = .ok (.if_icmp .ne 35, 3) := dk_160 0 35 (dk_at dksX4_term_0 20 rfl rfl)
theorem dX4_term_23 : decode cX4_term 23 = .ok (.aload_n 0, 1) := dk_42 (dk_at dksX4_term_0 23 rfl rfl)
theorem dX4_term_24 : decode cX4_term 24 = .ok (.invokevirtual 33, 3) := dk_182 0 33 (dk_at dksX4_term_1 0 rfl rfl)
theorem dX4_term_27 : decode cX4_term 27 = .ok (.istore_n 2, 1) := dk_61 (dk_at dksX4_term_1 3 rfl rfl)
theorem dX4_term_28 : decode cX4_term 28 = .ok (.aload_n 0, 1) := dk_42 (dk_at dksX4_term_1 4 rfl rfl)
theorem dX4_term_29 : decode cX4_term 29 = .ok (.dup, 1) := dk_89 (dk_at dksX4_term_1 5 rfl rfl)
theorem dX4_term_30 : decode cX4_term 30 = .ok (.getfield 23, 3) := dk_180 0 23 (dk_at dksX4_term_1 6 rfl rfl)
theorem dX4_term_33 : decode cX4_term 33 = .ok (.iconst 1, 1) := dk_4 (dk_at dksX4_term_1 9 rfl rfl)
theorem dX4_term_34 : decode cX4_term 34 = .ok (.iadd, 1) := dk_96 (dk_at dksX4_term_1 10 rfl rfl)
theorem dX4_term_35 : decode cX4_term 35 = .ok (.putfield 23, 3) := dk_181 0 23 (dk_at dksX4_term_1 11 rfl rfl)
theorem dX4_term_38 : decode cX4_term 38 = .ok (.new 99, 3) := dk_187 0 99 (dk_at dksX4_term_1 14 rfl rfl)
theorem dX4_term_41 : decode cX4_term 41 = .ok (.dup, 1) := dk_89 (dk_at dksX4_term_1 17 rfl rfl)
theorem dX4_term_42 : decode cX4_term 42 = .ok (.aload_n 1, 1) := dk_43 (dk_at dksX4_term_1 18 rfl rfl)
theorem dX4_term_43 : decode cX4_term 43 = .ok (.aload_n 0, 1) := dk_42 (dk_at dksX4_term_1 19 rfl rfl)
theorem dX4_term_44 : decode cX4_term 44 = .ok (.invokevirtual 95, 3) := dk_182 0 95 (dk_at dksX4_term_1 20 rfl rfl)
theorem dX4_term_47 : decode cX4_term 47 = .ok (.iload_n 2, 1) := dk_28 (dk_at dksX4_term_1 23 rfl rfl)
theorem dX4_term_48 : decode cX4_term 48 = .ok (.invokespecial 101, 3) := dk_183 0 101 (dk_at dksX4_term_2 0 rfl rfl)
theorem dX4_term_51 : decode cX4_term 51 = .ok (.astore_n 1, 1) := dk_76 (dk_at dksX4_term_2 3 rfl rfl)
theorem dX4_term_52 : decode cX4_term 52 = .ok (.goto (-47), 3) := dk_167 255 209 (dk_at dksX4_term_2 4 rfl rfl)
theorem dX4_term_55 : decode cX4_term 55 = .ok (.aload_n 1, 1) := dk_43 (dk_at dksX4_term_2 7 rfl rfl)
theorem dX4_term_56 : decode cX4_term 56 = .ok (.areturn, 1) := dk_176 (dk_at dksX4_term_2 8 rfl rfl)
abbrev cX4_value : ByteArray := prog_11_method_10_code
def yX4_value : MethodName := ⟨RX4, "value", "()LTurningRoads$Value;"⟩
def dkwX4_value_4 : List UInt8 := [183, 0, 94, 176, 132, 2, 1, 167, 255, 196, 42, 180, 0, 3, 3, 27, 182, 0, 69, 191]
abbrev dktX4_value_4 : List UInt8 := dkwX4_value_4 ++ []
def dkwX4_value_3 : List UInt8 := [42, 89, 180, 0, 23, 42, 180, 0, 15, 28, 50, 182, 0, 52, 96, 181, 0, 23, 187, 0, 92, 89, 28]
abbrev dktX4_value_3 : List UInt8 := dkwX4_value_3 ++ dktX4_value_4
def dkwX4_value_2 : List UInt8 := [162, 0, 57, 42, 42, 180, 0, 15, 28, 50, 182, 0, 61, 154, 0, 6, 167, 0, 35, 42, 27, 182, 0, 89]
abbrev dktX4_value_2 : List UInt8 := dkwX4_value_2 ++ dktX4_value_3
def dkwX4_value_1 : List UInt8 := [18, 81, 182, 0, 82, 183, 0, 86, 77, 42, 27, 182, 0, 89, 44, 176, 3, 61, 28, 42, 180, 0, 15, 190]
abbrev dktX4_value_1 : List UInt8 := dkwX4_value_1 ++ dktX4_value_2
def dkwX4_value_0 : List UInt8 := [42, 182, 0, 45, 87, 42, 180, 0, 23, 60, 42, 182, 0, 65, 153, 0, 25, 187, 0, 79, 89, 42, 3]
abbrev dktX4_value_0 : List UInt8 := dkwX4_value_0 ++ dktX4_value_1
theorem dksX4_value_0 : cX4_value.data.toList.drop 0 = dktX4_value_0 := by decide +kernel
theorem dksX4_value_1 : cX4_value.data.toList.drop 23 = dktX4_value_1 := dk_seg dksX4_value_0 23 rfl rfl
theorem dksX4_value_2 : cX4_value.data.toList.drop 47 = dktX4_value_2 := dk_seg dksX4_value_1 24 rfl rfl
theorem dksX4_value_3 : cX4_value.data.toList.drop 71 = dktX4_value_3 := dk_seg dksX4_value_2 24 rfl rfl
theorem dksX4_value_4 : cX4_value.data.toList.drop 94 = dktX4_value_4 := dk_seg dksX4_value_3 23 rfl rfl
theorem dX4_value_0 : decode cX4_value 0 = .ok (.aload_n 0, 1) := dk_42 (dk_at dksX4_value_0 0 rfl rfl)
theorem dX4_value_1 : decode cX4_value 1 = .ok (.invokevirtual 45, 3) := dk_182 0 45 (dk_at dksX4_value_0 1 rfl rfl)
theorem dX4_value_4 : decode cX4_value 4 = .ok (.pop, 1) := dk_87 (dk_at dksX4_value_0 4 rfl rfl)
theorem dX4_value_5 : decode cX4_value 5 = .ok (.aload_n 0, 1) := dk_42 (dk_at dksX4_value_0 5 rfl rfl)
theorem dX4_value_6 : decode cX4_value 6 = .ok (.getfield 23, 3) := dk_180 0 23 (dk_at dksX4_value_0 6 rfl rfl)
theorem dX4_value_9 : decode cX4_value 9 = .ok (.istore_n 1, 1) := dk_60 (dk_at dksX4_value_0 9 rfl rfl)
theorem dX4_value_10 : decode cX4_value 10 = .ok (.aload_n 0, 1) := dk_42 (dk_at dksX4_value_0 10 rfl rfl)
theorem dX4_value_11 : decode cX4_value 11 = .ok (.invokevirtual 65, 3) := dk_182 0 65 (dk_at dksX4_value_0 11 rfl rfl)
theorem dX4_value_14 : decode cX4_value 14 = .ok (.ifCond .eq 25, 3) := dk_153 0 25 (dk_at dksX4_value_0 14 rfl rfl)
theorem dX4_value_17 : decode cX4_value 17 = .ok (.new 79, 3) := dk_187 0 79 (dk_at dksX4_value_0 17 rfl rfl)
theorem dX4_value_20 : decode cX4_value 20 = .ok (.dup, 1) := dk_89 (dk_at dksX4_value_0 20 rfl rfl)
theorem dX4_value_21 : decode cX4_value 21 = .ok (.aload_n 0, 1) := dk_42 (dk_at dksX4_value_0 21 rfl rfl)
theorem dX4_value_22 : decode cX4_value 22 = .ok (.iconst 0, 1) := dk_3 (dk_at dksX4_value_0 22 rfl rfl)
theorem dX4_value_23 : decode cX4_value 23 = .ok (.ldc 81, 2) := dk_18 81 (dk_at dksX4_value_1 0 rfl rfl)
theorem dX4_value_25 : decode cX4_value 25 = .ok (.invokevirtual 82, 3) := dk_182 0 82 (dk_at dksX4_value_1 2 rfl rfl)
theorem dX4_value_28 : decode cX4_value 28 = .ok (.invokespecial 86, 3) := dk_183 0 86 (dk_at dksX4_value_1 5 rfl rfl)
theorem dX4_value_31 : decode cX4_value 31 = .ok (.astore_n 2, 1) := dk_77 (dk_at dksX4_value_1 8 rfl rfl)
theorem dX4_value_32 : decode cX4_value 32 = .ok (.aload_n 0, 1) := dk_42 (dk_at dksX4_value_1 9 rfl rfl)
theorem dX4_value_33 : decode cX4_value 33 = .ok (.iload_n 1, 1) := dk_27 (dk_at dksX4_value_1 10 rfl rfl)
theorem dX4_value_34 : decode cX4_value 34 = .ok (.invokevirtual 89, 3) := dk_182 0 89 (dk_at dksX4_value_1 11 rfl rfl)
theorem dX4_value_37 : decode cX4_value 37 = .ok (.aload_n 2, 1) := dk_44 (dk_at dksX4_value_1 14 rfl rfl)
theorem dX4_value_38 : decode cX4_value 38 = .ok (.areturn, 1) := dk_176 (dk_at dksX4_value_1 15 rfl rfl)
theorem dX4_value_39 : decode cX4_value 39 = .ok (.iconst 0, 1) := dk_3 (dk_at dksX4_value_1 16 rfl rfl)
theorem dX4_value_40 : decode cX4_value 40 = .ok (.istore_n 2, 1) := dk_61 (dk_at dksX4_value_1 17 rfl rfl)
theorem dX4_value_41 : decode cX4_value 41 = .ok (.iload_n 2, 1) := dk_28 (dk_at dksX4_value_1 18 rfl rfl)
theorem dX4_value_42 : decode cX4_value 42 = .ok (.aload_n 0, 1) := dk_42 (dk_at dksX4_value_1 19 rfl rfl)
theorem dX4_value_43 : decode cX4_value 43 = .ok (.getfield 15, 3) := dk_180 0 15 (dk_at dksX4_value_1 20 rfl rfl)
theorem dX4_value_46 : decode cX4_value 46 = .ok (.arraylength, 1) := dk_190 (dk_at dksX4_value_1 23 rfl rfl)
theorem dX4_value_47 : decode cX4_value 47 = .ok (.if_icmp .ge 57, 3) := dk_162 0 57 (dk_at dksX4_value_2 0 rfl rfl)
theorem dX4_value_50 : decode cX4_value 50 = .ok (.aload_n 0, 1) := dk_42 (dk_at dksX4_value_2 3 rfl rfl)
theorem dX4_value_51 : decode cX4_value 51 = .ok (.aload_n 0, 1) := dk_42 (dk_at dksX4_value_2 4 rfl rfl)
theorem dX4_value_52 : decode cX4_value 52 = .ok (.getfield 15, 3) := dk_180 0 15 (dk_at dksX4_value_2 5 rfl rfl)
theorem dX4_value_55 : decode cX4_value 55 = .ok (.iload_n 2, 1) := dk_28 (dk_at dksX4_value_2 8 rfl rfl)
theorem dX4_value_56 : decode cX4_value 56 = .ok (.aaload, 1) := dk_50 (dk_at dksX4_value_2 9 rfl rfl)
theorem dX4_value_57 : decode cX4_value 57 = .ok (.invokevirtual 61, 3) := dk_182 0 61 (dk_at dksX4_value_2 10 rfl rfl)
theorem dX4_value_60 : decode cX4_value 60 = .ok (.ifCond .ne 6, 3) := dk_154 0 6 (dk_at dksX4_value_2 13 rfl rfl)
theorem dX4_value_63 : decode cX4_value 63 = .ok (.goto 35, 3) := dk_167 0 35 (dk_at dksX4_value_2 16 rfl rfl)
theorem dX4_value_66 : decode cX4_value 66 = .ok (.aload_n 0, 1) := dk_42 (dk_at dksX4_value_2 19 rfl rfl)
theorem dX4_value_67 : decode cX4_value 67 = .ok (.iload_n 1, 1) := dk_27 (dk_at dksX4_value_2 20 rfl rfl)
theorem dX4_value_68 : decode cX4_value 68 = .ok (.invokevirtual 89, 3) := dk_182 0 89 (dk_at dksX4_value_2 21 rfl rfl)
theorem dX4_value_71 : decode cX4_value 71 = .ok (.aload_n 0, 1) := dk_42 (dk_at dksX4_value_3 0 rfl rfl)
theorem dX4_value_72 : decode cX4_value 72 = .ok (.dup, 1) := dk_89 (dk_at dksX4_value_3 1 rfl rfl)
theorem dX4_value_73 : decode cX4_value 73 = .ok (.getfield 23, 3) := dk_180 0 23 (dk_at dksX4_value_3 2 rfl rfl)
theorem dX4_value_76 : decode cX4_value 76 = .ok (.aload_n 0, 1) := dk_42 (dk_at dksX4_value_3 5 rfl rfl)
theorem dX4_value_77 : decode cX4_value 77 = .ok (.getfield 15, 3) := dk_180 0 15 (dk_at dksX4_value_3 6 rfl rfl)
theorem dX4_value_80 : decode cX4_value 80 = .ok (.iload_n 2, 1) := dk_28 (dk_at dksX4_value_3 9 rfl rfl)
theorem dX4_value_81 : decode cX4_value 81 = .ok (.aaload, 1) := dk_50 (dk_at dksX4_value_3 10 rfl rfl)
theorem dX4_value_82 : decode cX4_value 82 = .ok (.invokevirtual 52, 3) := dk_182 0 52 (dk_at dksX4_value_3 11 rfl rfl)
theorem dX4_value_85 : decode cX4_value 85 = .ok (.iadd, 1) := dk_96 (dk_at dksX4_value_3 14 rfl rfl)
theorem dX4_value_86 : decode cX4_value 86 = .ok (.putfield 23, 3) := dk_181 0 23 (dk_at dksX4_value_3 15 rfl rfl)
theorem dX4_value_89 : decode cX4_value 89 = .ok (.new 92, 3) := dk_187 0 92 (dk_at dksX4_value_3 18 rfl rfl)
theorem dX4_value_92 : decode cX4_value 92 = .ok (.dup, 1) := dk_89 (dk_at dksX4_value_3 21 rfl rfl)
theorem dX4_value_93 : decode cX4_value 93 = .ok (.iload_n 2, 1) := dk_28 (dk_at dksX4_value_3 22 rfl rfl)
theorem dX4_value_94 : decode cX4_value 94 = .ok (.invokespecial 94, 3) := dk_183 0 94 (dk_at dksX4_value_4 0 rfl rfl)
theorem dX4_value_97 : decode cX4_value 97 = .ok (.areturn, 1) := dk_176 (dk_at dksX4_value_4 3 rfl rfl)
theorem dX4_value_98 : decode cX4_value 98 = .ok (.iinc 2 1, 3) := dk_132 2 1 (dk_at dksX4_value_4 4 rfl rfl)
theorem dX4_value_101 : decode cX4_value 101 = .ok (.goto (-60), 3) := dk_167 255 196 (dk_at dksX4_value_4 7 rfl rfl)
theorem dX4_value_104 : decode cX4_value 104 = .ok (.aload_n 0, 1) := dk_42 (dk_at dksX4_value_4 10 rfl rfl)
theorem dX4_value_105 : decode cX4_value 105 = .ok (.getfield 3, 3) := dk_180 0 3 (dk_at dksX4_value_4 11 rfl rfl)
theorem dX4_value_108 : decode cX4_value 108 = .ok (.iconst 0, 1) := dk_3 (dk_at dksX4_value_4 14 rfl rfl)
theorem dX4_value_109 : decode cX4_value 109 = .ok (.iload_n 1, 1) := dk_27 (dk_at dksX4_value_4 15 rfl rfl)
theorem dX4_value_110 : decode cX4_value 110 = .ok (.invokevirtual 69, 3) := dk_182 0 69 (dk_at dksX4_value_4 16 rfl rfl)
theorem dX4_value_113 : decode cX4_value 113 = .ok (.athrow, 1) := dk_191 (dk_at dksX4_value_4 19 rfl rfl)
abbrev cX4_counts : ByteArray := prog_11_method_8_code
def yX4_counts : MethodName := ⟨RX4, "counts", "(I)V"⟩
def dkwX4_counts_1 : List UInt8 := [4, 96, 181, 0, 73, 177]
abbrev dktX4_counts_1 : List UInt8 := dkwX4_counts_1 ++ []
def dkwX4_counts_0 : List UInt8 := [42, 180, 0, 73, 16, 60, 160, 0, 13, 42, 180, 0, 3, 6, 27, 182, 0, 69, 191, 42, 89, 180, 0, 73]
abbrev dktX4_counts_0 : List UInt8 := dkwX4_counts_0 ++ dktX4_counts_1
theorem dksX4_counts_0 : cX4_counts.data.toList.drop 0 = dktX4_counts_0 := by decide +kernel
theorem dksX4_counts_1 : cX4_counts.data.toList.drop 24 = dktX4_counts_1 := dk_seg dksX4_counts_0 24 rfl rfl
theorem dX4_counts_0 : decode cX4_counts 0 = .ok (.aload_n 0, 1) := dk_42 (dk_at dksX4_counts_0 0 rfl rfl)
theorem dX4_counts_1 : decode cX4_counts 1 = .ok (.getfield 73, 3) := dk_180 0 73 (dk_at dksX4_counts_0 1 rfl rfl)
theorem dX4_counts_4 : decode cX4_counts 4 = .ok (.bipush 60, 2) := dk_16 60 (dk_at dksX4_counts_0 4 rfl rfl)
theorem dX4_counts_6 : decode cX4_counts 6 = .ok (.if_icmp .ne 13, 3) := dk_160 0 13 (dk_at dksX4_counts_0 6 rfl rfl)
theorem dX4_counts_9 : decode cX4_counts 9 = .ok (.aload_n 0, 1) := dk_42 (dk_at dksX4_counts_0 9 rfl rfl)
theorem dX4_counts_10 : decode cX4_counts 10 = .ok (.getfield 3, 3) := dk_180 0 3 (dk_at dksX4_counts_0 10 rfl rfl)
theorem dX4_counts_13 : decode cX4_counts 13 = .ok (.iconst 3, 1) := dk_6 (dk_at dksX4_counts_0 13 rfl rfl)
theorem dX4_counts_14 : decode cX4_counts 14 = .ok (.iload_n 1, 1) := dk_27 (dk_at dksX4_counts_0 14 rfl rfl)
theorem dX4_counts_15 : decode cX4_counts 15 = .ok (.invokevirtual 69, 3) := dk_182 0 69 (dk_at dksX4_counts_0 15 rfl rfl)
theorem dX4_counts_18 : decode cX4_counts 18 = .ok (.athrow, 1) := dk_191 (dk_at dksX4_counts_0 18 rfl rfl)
theorem dX4_counts_19 : decode cX4_counts 19 = .ok (.aload_n 0, 1) := dk_42 (dk_at dksX4_counts_0 19 rfl rfl)
theorem dX4_counts_20 : decode cX4_counts 20 = .ok (.dup, 1) := dk_89 (dk_at dksX4_counts_0 20 rfl rfl)
theorem dX4_counts_21 : decode cX4_counts 21 = .ok (.getfield 73, 3) := dk_180 0 73 (dk_at dksX4_counts_0 21 rfl rfl)
theorem dX4_counts_24 : decode cX4_counts 24 = .ok (.iconst 1, 1) := dk_4 (dk_at dksX4_counts_1 0 rfl rfl)
theorem dX4_counts_25 : decode cX4_counts 25 = .ok (.iadd, 1) := dk_96 (dk_at dksX4_counts_1 1 rfl rfl)
theorem dX4_counts_26 : decode cX4_counts 26 = .ok (.putfield 73, 3) := dk_181 0 73 (dk_at dksX4_counts_1 2 rfl rfl)
theorem dX4_counts_29 : decode cX4_counts 29 = .ok (.return_, 1) := dk_177 (dk_at dksX4_counts_1 5 rfl rfl)
abbrev cX4_takes : ByteArray := prog_11_method_6_code
def yX4_takes : MethodName := ⟨RX4, "takes", "(Ljava/lang/String;)Z"⟩
def dkwX4_takes_1 : List UInt8 := [181, 0, 23, 28, 172]
abbrev dktX4_takes_1 : List UInt8 := dkwX4_takes_1 ++ []
def dkwX4_takes_0 : List UInt8 := [42, 43, 182, 0, 61, 61, 42, 89, 180, 0, 23, 28, 153, 0, 10, 43, 182, 0, 52, 167, 0, 4, 3, 96]
abbrev dktX4_takes_0 : List UInt8 := dkwX4_takes_0 ++ dktX4_takes_1
theorem dksX4_takes_0 : cX4_takes.data.toList.drop 0 = dktX4_takes_0 := by decide +kernel
theorem dksX4_takes_1 : cX4_takes.data.toList.drop 24 = dktX4_takes_1 := dk_seg dksX4_takes_0 24 rfl rfl
theorem dX4_takes_0 : decode cX4_takes 0 = .ok (.aload_n 0, 1) := dk_42 (dk_at dksX4_takes_0 0 rfl rfl)
theorem dX4_takes_1 : decode cX4_takes 1 = .ok (.aload_n 1, 1) := dk_43 (dk_at dksX4_takes_0 1 rfl rfl)
theorem dX4_takes_2 : decode cX4_takes 2 = .ok (.invokevirtual 61, 3) := dk_182 0 61 (dk_at dksX4_takes_0 2 rfl rfl)
theorem dX4_takes_5 : decode cX4_takes 5 = .ok (.istore_n 2, 1) := dk_61 (dk_at dksX4_takes_0 5 rfl rfl)
theorem dX4_takes_6 : decode cX4_takes 6 = .ok (.aload_n 0, 1) := dk_42 (dk_at dksX4_takes_0 6 rfl rfl)
theorem dX4_takes_7 : decode cX4_takes 7 = .ok (.dup, 1) := dk_89 (dk_at dksX4_takes_0 7 rfl rfl)
theorem dX4_takes_8 : decode cX4_takes 8 = .ok (.getfield 23, 3) := dk_180 0 23 (dk_at dksX4_takes_0 8 rfl rfl)
theorem dX4_takes_11 : decode cX4_takes 11 = .ok (.iload_n 2, 1) := dk_28 (dk_at dksX4_takes_0 11 rfl rfl)
theorem dX4_takes_12 : decode cX4_takes 12 = .ok (.ifCond .eq 10, 3) := dk_153 0 10 (dk_at dksX4_takes_0 12 rfl rfl)
theorem dX4_takes_15 : decode cX4_takes 15 = .ok (.aload_n 1, 1) := dk_43 (dk_at dksX4_takes_0 15 rfl rfl)
theorem dX4_takes_16 : decode cX4_takes 16 = .ok (.invokevirtual 52, 3) := dk_182 0 52 (dk_at dksX4_takes_0 16 rfl rfl)
theorem dX4_takes_19 : decode cX4_takes 19 = .ok (.goto 4, 3) := dk_167 0 4 (dk_at dksX4_takes_0 19 rfl rfl)
theorem dX4_takes_22 : decode cX4_takes 22 = .ok (.iconst 0, 1) := dk_3 (dk_at dksX4_takes_0 22 rfl rfl)
theorem dX4_takes_23 : decode cX4_takes 23 = .ok (.iadd, 1) := dk_96 (dk_at dksX4_takes_0 23 rfl rfl)
theorem dX4_takes_24 : decode cX4_takes 24 = .ok (.putfield 23, 3) := dk_181 0 23 (dk_at dksX4_takes_1 0 rfl rfl)
theorem dX4_takes_27 : decode cX4_takes 27 = .ok (.iload_n 2, 1) := dk_28 (dk_at dksX4_takes_1 3 rfl rfl)
theorem dX4_takes_28 : decode cX4_takes 28 = .ok (.ireturn, 1) := dk_172 (dk_at dksX4_takes_1 4 rfl rfl)
abbrev cX4_test : ByteArray := prog_11_method_15_code
def yX4_test : MethodName := ⟨RX4, "test", "()LTurningRoads$Condition;"⟩
def dkwX4_test_1 : List UInt8 := [183, 0, 139, 76, 167, 255, 233, 43, 176]
abbrev dktX4_test_1 : List UInt8 := dkwX4_test_1 ++ []
def dkwX4_test_0 : List UInt8 := [42, 182, 0, 142, 76, 42, 18, 145, 182, 0, 134, 153, 0, 20, 187, 0, 137, 89, 43, 42, 182, 0, 142, 4]
abbrev dktX4_test_0 : List UInt8 := dkwX4_test_0 ++ dktX4_test_1
theorem dksX4_test_0 : cX4_test.data.toList.drop 0 = dktX4_test_0 := by decide +kernel
theorem dksX4_test_1 : cX4_test.data.toList.drop 24 = dktX4_test_1 := dk_seg dksX4_test_0 24 rfl rfl
theorem dX4_test_0 : decode cX4_test 0 = .ok (.aload_n 0, 1) := dk_42 (dk_at dksX4_test_0 0 rfl rfl)
theorem dX4_test_1 : decode cX4_test 1 = .ok (.invokevirtual 142, 3) := dk_182 0 142 (dk_at dksX4_test_0 1 rfl rfl)
theorem dX4_test_4 : decode cX4_test 4 = .ok (.astore_n 1, 1) := dk_76 (dk_at dksX4_test_0 4 rfl rfl)
theorem dX4_test_5 : decode cX4_test 5 = .ok (.aload_n 0, 1) := dk_42 (dk_at dksX4_test_0 5 rfl rfl)
theorem dX4_test_6 : decode cX4_test 6 = .ok (.ldc 145, 2) := dk_18 145 (dk_at dksX4_test_0 6 rfl rfl)
theorem dX4_test_8 : decode cX4_test 8 = .ok (.invokevirtual 134, 3) := dk_182 0 134 (dk_at dksX4_test_0 8 rfl rfl)
theorem dX4_test_11 : decode cX4_test 11 = .ok (.ifCond .eq 20, 3) := dk_153 0 20 (dk_at dksX4_test_0 11 rfl rfl)
theorem dX4_test_14 : decode cX4_test 14 = .ok (.new 137, 3) := dk_187 0 137 (dk_at dksX4_test_0 14 rfl rfl)
theorem dX4_test_17 : decode cX4_test 17 = .ok (.dup, 1) := dk_89 (dk_at dksX4_test_0 17 rfl rfl)
theorem dX4_test_18 : decode cX4_test 18 = .ok (.aload_n 1, 1) := dk_43 (dk_at dksX4_test_0 18 rfl rfl)
theorem dX4_test_19 : decode cX4_test 19 = .ok (.aload_n 0, 1) := dk_42 (dk_at dksX4_test_0 19 rfl rfl)
theorem dX4_test_20 : decode cX4_test 20 = .ok (.invokevirtual 142, 3) := dk_182 0 142 (dk_at dksX4_test_0 20 rfl rfl)
theorem dX4_test_23 : decode cX4_test 23 = .ok (.iconst 1, 1) := dk_4 (dk_at dksX4_test_0 23 rfl rfl)
theorem dX4_test_24 : decode cX4_test 24 = .ok (.invokespecial 139, 3) := dk_183 0 139 (dk_at dksX4_test_1 0 rfl rfl)
theorem dX4_test_27 : decode cX4_test 27 = .ok (.astore_n 1, 1) := dk_76 (dk_at dksX4_test_1 3 rfl rfl)
theorem dX4_test_28 : decode cX4_test 28 = .ok (.goto (-23), 3) := dk_167 255 233 (dk_at dksX4_test_1 4 rfl rfl)
theorem dX4_test_31 : decode cX4_test 31 = .ok (.aload_n 1, 1) := dk_43 (dk_at dksX4_test_1 7 rfl rfl)
theorem dX4_test_32 : decode cX4_test 32 = .ok (.areturn, 1) := dk_176 (dk_at dksX4_test_1 8 rfl rfl)
abbrev cX4_part : ByteArray := prog_11_method_14_code
def yX4_part : MethodName := ⟨RX4, "part", "()LTurningRoads$Condition;"⟩
def dkwX4_part_1 : List UInt8 := [183, 0, 139, 76, 167, 255, 233, 43, 176]
abbrev dktX4_part_1 : List UInt8 := dkwX4_part_1 ++ []
def dkwX4_part_0 : List UInt8 := [42, 182, 0, 114, 76, 42, 18, 132, 182, 0, 134, 153, 0, 20, 187, 0, 137, 89, 43, 42, 182, 0, 114, 3]
abbrev dktX4_part_0 : List UInt8 := dkwX4_part_0 ++ dktX4_part_1
theorem dksX4_part_0 : cX4_part.data.toList.drop 0 = dktX4_part_0 := by decide +kernel
theorem dksX4_part_1 : cX4_part.data.toList.drop 24 = dktX4_part_1 := dk_seg dksX4_part_0 24 rfl rfl
theorem dX4_part_0 : decode cX4_part 0 = .ok (.aload_n 0, 1) := dk_42 (dk_at dksX4_part_0 0 rfl rfl)
theorem dX4_part_1 : decode cX4_part 1 = .ok (.invokevirtual 114, 3) := dk_182 0 114 (dk_at dksX4_part_0 1 rfl rfl)
theorem dX4_part_4 : decode cX4_part 4 = .ok (.astore_n 1, 1) := dk_76 (dk_at dksX4_part_0 4 rfl rfl)
theorem dX4_part_5 : decode cX4_part 5 = .ok (.aload_n 0, 1) := dk_42 (dk_at dksX4_part_0 5 rfl rfl)
theorem dX4_part_6 : decode cX4_part 6 = .ok (.ldc 132, 2) := dk_18 132 (dk_at dksX4_part_0 6 rfl rfl)
theorem dX4_part_8 : decode cX4_part 8 = .ok (.invokevirtual 134, 3) := dk_182 0 134 (dk_at dksX4_part_0 8 rfl rfl)
theorem dX4_part_11 : decode cX4_part 11 = .ok (.ifCond .eq 20, 3) := dk_153 0 20 (dk_at dksX4_part_0 11 rfl rfl)
theorem dX4_part_14 : decode cX4_part 14 = .ok (.new 137, 3) := dk_187 0 137 (dk_at dksX4_part_0 14 rfl rfl)
theorem dX4_part_17 : decode cX4_part 17 = .ok (.dup, 1) := dk_89 (dk_at dksX4_part_0 17 rfl rfl)
theorem dX4_part_18 : decode cX4_part 18 = .ok (.aload_n 1, 1) := dk_43 (dk_at dksX4_part_0 18 rfl rfl)
theorem dX4_part_19 : decode cX4_part 19 = .ok (.aload_n 0, 1) := dk_42 (dk_at dksX4_part_0 19 rfl rfl)
theorem dX4_part_20 : decode cX4_part 20 = .ok (.invokevirtual 114, 3) := dk_182 0 114 (dk_at dksX4_part_0 20 rfl rfl)
theorem dX4_part_23 : decode cX4_part 23 = .ok (.iconst 0, 1) := dk_3 (dk_at dksX4_part_0 23 rfl rfl)
theorem dX4_part_24 : decode cX4_part 24 = .ok (.invokespecial 139, 3) := dk_183 0 139 (dk_at dksX4_part_1 0 rfl rfl)
theorem dX4_part_27 : decode cX4_part 27 = .ok (.astore_n 1, 1) := dk_76 (dk_at dksX4_part_1 3 rfl rfl)
theorem dX4_part_28 : decode cX4_part 28 = .ok (.goto (-23), 3) := dk_167 255 233 (dk_at dksX4_part_1 4 rfl rfl)
theorem dX4_part_31 : decode cX4_part 31 = .ok (.aload_n 1, 1) := dk_43 (dk_at dksX4_part_1 7 rfl rfl)
theorem dX4_part_32 : decode cX4_part 32 = .ok (.areturn, 1) := dk_176 (dk_at dksX4_part_1 8 rfl rfl)
abbrev cX4_fact : ByteArray := prog_11_method_13_code
def yX4_fact : MethodName := ⟨RX4, "fact", "()LTurningRoads$Condition;"⟩
def dkwX4_fact_10 : List UInt8 := [182, 0, 124, 29, 21, 4, 183, 0, 129, 176]
abbrev dktX4_fact_10 : List UInt8 := dkwX4_fact_10 ++ []
def dkwX4_fact_9 : List UInt8 := [180, 0, 23, 21, 4, 153, 0, 7, 4, 167, 0, 4, 3, 96, 181, 0, 23, 187, 0, 127, 89, 44, 42]
abbrev dktX4_fact_9 : List UInt8 := dkwX4_fact_9 ++ dktX4_fact_10
def dkwX4_fact_8 : List UInt8 := [16, 61, 159, 0, 16, 42, 182, 0, 33, 16, 61, 160, 0, 7, 4, 167, 0, 4, 3, 54, 4, 42, 89]
abbrev dktX4_fact_8 : List UInt8 := dkwX4_fact_8 ++ dktX4_fact_9
def dkwX4_fact_7 : List UInt8 := [182, 0, 69, 191, 42, 42, 180, 0, 23, 182, 0, 89, 42, 89, 180, 0, 23, 4, 96, 181, 0, 23, 29]
abbrev dktX4_fact_7 : List UInt8 := dkwX4_fact_7 ++ dktX4_fact_8
def dkwX4_fact_6 : List UInt8 := [159, 0, 28, 29, 16, 61, 159, 0, 22, 29, 16, 62, 159, 0, 16, 42, 180, 0, 3, 3, 42, 180, 0, 23]
abbrev dktX4_fact_6 : List UInt8 := dkwX4_fact_6 ++ dktX4_fact_7
def dkwX4_fact_5 : List UInt8 := [89, 180, 0, 76, 4, 100, 181, 0, 76, 44, 176, 42, 182, 0, 124, 77, 42, 182, 0, 45, 62, 29, 16, 60]
abbrev dktX4_fact_5 : List UInt8 := dkwX4_fact_5 ++ dktX4_fact_6
def dkwX4_fact_4 : List UInt8 := [42, 180, 0, 3, 3, 42, 180, 0, 23, 182, 0, 69, 191, 42, 89, 180, 0, 23, 4, 96, 181, 0, 23, 42]
abbrev dktX4_fact_4 : List UInt8 := dkwX4_fact_4 ++ dktX4_fact_5
def dkwX4_fact_3 : List UInt8 := [42, 89, 180, 0, 23, 4, 96, 181, 0, 23, 42, 182, 0, 121, 77, 42, 182, 0, 45, 16, 93, 159, 0, 16]
abbrev dktX4_fact_3 : List UInt8 := dkwX4_fact_3 ++ dktX4_fact_4
def dkwX4_fact_2 : List UInt8 := [180, 0, 76, 4, 100, 181, 0, 76, 44, 176, 42, 182, 0, 33, 16, 91, 160, 0, 67, 42, 27, 182, 0, 109]
abbrev dktX4_fact_2 : List UInt8 := dkwX4_fact_2 ++ dktX4_fact_3
def dkwX4_fact_1 : List UInt8 := [42, 89, 180, 0, 23, 6, 96, 181, 0, 23, 187, 0, 112, 89, 42, 182, 0, 114, 183, 0, 118, 77, 42, 89]
abbrev dktX4_fact_1 : List UInt8 := dkwX4_fact_1 ++ dktX4_fact_2
def dkwX4_fact_0 : List UInt8 := [42, 182, 0, 45, 87, 42, 180, 0, 23, 60, 42, 18, 107, 182, 0, 61, 153, 0, 42, 42, 27, 182, 0, 109]
abbrev dktX4_fact_0 : List UInt8 := dkwX4_fact_0 ++ dktX4_fact_1
theorem dksX4_fact_0 : cX4_fact.data.toList.drop 0 = dktX4_fact_0 := by decide +kernel
theorem dksX4_fact_1 : cX4_fact.data.toList.drop 24 = dktX4_fact_1 := dk_seg dksX4_fact_0 24 rfl rfl
theorem dksX4_fact_2 : cX4_fact.data.toList.drop 48 = dktX4_fact_2 := dk_seg dksX4_fact_1 24 rfl rfl
theorem dksX4_fact_3 : cX4_fact.data.toList.drop 72 = dktX4_fact_3 := dk_seg dksX4_fact_2 24 rfl rfl
theorem dksX4_fact_4 : cX4_fact.data.toList.drop 96 = dktX4_fact_4 := dk_seg dksX4_fact_3 24 rfl rfl
theorem dksX4_fact_5 : cX4_fact.data.toList.drop 120 = dktX4_fact_5 := dk_seg dksX4_fact_4 24 rfl rfl
theorem dksX4_fact_6 : cX4_fact.data.toList.drop 144 = dktX4_fact_6 := dk_seg dksX4_fact_5 24 rfl rfl
theorem dksX4_fact_7 : cX4_fact.data.toList.drop 168 = dktX4_fact_7 := dk_seg dksX4_fact_6 24 rfl rfl
theorem dksX4_fact_8 : cX4_fact.data.toList.drop 191 = dktX4_fact_8 := dk_seg dksX4_fact_7 23 rfl rfl
theorem dksX4_fact_9 : cX4_fact.data.toList.drop 214 = dktX4_fact_9 := dk_seg dksX4_fact_8 23 rfl rfl
theorem dksX4_fact_10 : cX4_fact.data.toList.drop 237 = dktX4_fact_10 := dk_seg dksX4_fact_9 23 rfl rfl
theorem dX4_fact_0 : decode cX4_fact 0 = .ok (.aload_n 0, 1) := dk_42 (dk_at dksX4_fact_0 0 rfl rfl)
theorem dX4_fact_1 : decode cX4_fact 1 = .ok (.invokevirtual 45, 3) := dk_182 0 45 (dk_at dksX4_fact_0 1 rfl rfl)
theorem dX4_fact_4 : decode cX4_fact 4 = .ok (.pop, 1) := dk_87 (dk_at dksX4_fact_0 4 rfl rfl)
theorem dX4_fact_5 : decode cX4_fact 5 = .ok (.aload_n 0, 1) := dk_42 (dk_at dksX4_fact_0 5 rfl rfl)
theorem dX4_fact_6 : decode cX4_fact 6 = .ok (.getfield 23, 3) := dk_180 0 23 (dk_at dksX4_fact_0 6 rfl rfl)
theorem dX4_fact_9 : decode cX4_fact 9 = .ok (.istore_n 1, 1) := dk_60 (dk_at dksX4_fact_0 9 rfl rfl)
theorem dX4_fact_10 : decode cX4_fact 10 = .ok (.aload_n 0, 1) := dk_42 (dk_at dksX4_fact_0 10 rfl rfl)
theorem dX4_fact_11 : decode cX4_fact 11 = .ok (.ldc 107, 2) := dk_18 107 (dk_at dksX4_fact_0 11 rfl rfl)
theorem dX4_fact_13 : decode cX4_fact 13 = .ok (.invokevirtual 61, 3) := dk_182 0 61 (dk_at dksX4_fact_0 13 rfl rfl)
theorem dX4_fact_16 : decode cX4_fact 16 = .ok (.ifCond .eq 42, 3) := dk_153 0 42 (dk_at dksX4_fact_0 16 rfl rfl)
theorem dX4_fact_19 : decode cX4_fact 19 = .ok (.aload_n 0, 1) := dk_42 (dk_at dksX4_fact_0 19 rfl rfl)
theorem dX4_fact_20 : decode cX4_fact 20 = .ok (.iload_n 1, 1) := dk_27 (dk_at dksX4_fact_0 20 rfl rfl)
theorem dX4_fact_21 : decode cX4_fact 21 = .ok (.invokevirtual 109, 3) := dk_182 0 109 (dk_at dksX4_fact_0 21 rfl rfl)
theorem dX4_fact_24 : decode cX4_fact 24 = .ok (.aload_n 0, 1) := dk_42 (dk_at dksX4_fact_1 0 rfl rfl)
theorem dX4_fact_25 : decode cX4_fact 25 = .ok (.dup, 1) := dk_89 (dk_at dksX4_fact_1 1 rfl rfl)
theorem dX4_fact_26 : decode cX4_fact 26 = .ok (.getfield 23, 3) := dk_180 0 23 (dk_at dksX4_fact_1 2 rfl rfl)
theorem dX4_fact_29 : decode cX4_fact 29 = .ok (.iconst 3, 1) := dk_6 (dk_at dksX4_fact_1 5 rfl rfl)
theorem dX4_fact_30 : decode cX4_fact 30 = .ok (.iadd, 1) := dk_96 (dk_at dksX4_fact_1 6 rfl rfl)
theorem dX4_fact_31 : decode cX4_fact 31 = .ok (.putfield 23, 3) := dk_181 0 23 (dk_at dksX4_fact_1 7 rfl rfl)
theorem dX4_fact_34 : decode cX4_fact 34 = .ok (.new 112, 3) := dk_187 0 112 (dk_at dksX4_fact_1 10 rfl rfl)
theorem dX4_fact_37 : decode cX4_fact 37 = .ok (.dup, 1) := dk_89 (dk_at dksX4_fact_1 13 rfl rfl)
theorem dX4_fact_38 : decode cX4_fact 38 = .ok (.aload_n 0, 1) := dk_42 (dk_at dksX4_fact_1 14 rfl rfl)
theorem dX4_fact_39 : decode cX4_fact 39 = .ok (.invokevirtual 114, 3) := dk_182 0 114 (dk_at dksX4_fact_1 15 rfl rfl)
theorem dX4_fact_42 : decode cX4_fact 42 = .ok (.invokespecial 118, 3) := dk_183 0 118 (dk_at dksX4_fact_1 18 rfl rfl)
theorem dX4_fact_45 : decode cX4_fact 45 = .ok (.astore_n 2, 1) := dk_77 (dk_at dksX4_fact_1 21 rfl rfl)
theorem dX4_fact_46 : decode cX4_fact 46 = .ok (.aload_n 0, 1) := dk_42 (dk_at dksX4_fact_1 22 rfl rfl)
theorem dX4_fact_47 : decode cX4_fact 47 = .ok (.dup, 1) := dk_89 (dk_at dksX4_fact_1 23 rfl rfl)
theorem dX4_fact_48 : decode cX4_fact 48 = .ok (.getfield 76, 3) := dk_180 0 76 (dk_at dksX4_fact_2 0 rfl rfl)
theorem dX4_fact_51 : decode cX4_fact 51 = .ok (.iconst 1, 1) := dk_4 (dk_at dksX4_fact_2 3 rfl rfl)
theorem dX4_fact_52 : decode cX4_fact 52 = .ok (.isub, 1) := dk_100 (dk_at dksX4_fact_2 4 rfl rfl)
theorem dX4_fact_53 : decode cX4_fact 53 = .ok (.putfield 76, 3) := dk_181 0 76 (dk_at dksX4_fact_2 5 rfl rfl)
theorem dX4_fact_56 : decode cX4_fact 56 = .ok (.aload_n 2, 1) := dk_44 (dk_at dksX4_fact_2 8 rfl rfl)
theorem dX4_fact_57 : decode cX4_fact 57 = .ok (.areturn, 1) := dk_176 (dk_at dksX4_fact_2 9 rfl rfl)
theorem dX4_fact_58 : decode cX4_fact 58 = .ok (.aload_n 0, 1) := dk_42 (dk_at dksX4_fact_2 10 rfl rfl)
theorem dX4_fact_59 : decode cX4_fact 59 = .ok (.invokevirtual 33, 3) := dk_182 0 33 (dk_at dksX4_fact_2 11 rfl rfl)
theorem dX4_fact_62 : decode cX4_fact 62 = .ok (.bipush 91, 2) := dk_16 91 (dk_at dksX4_fact_2 14 rfl rfl)
theorem dX4_fact_64 : decode cX4_fact 64 = .ok (.if_icmp .ne 67, 3) := dk_160 0 67 (dk_at dksX4_fact_2 16 rfl rfl)
theorem dX4_fact_67 : decode cX4_fact 67 = .ok (.aload_n 0, 1) := dk_42 (dk_at dksX4_fact_2 19 rfl rfl)
theorem dX4_fact_68 : decode cX4_fact 68 = .ok (.iload_n 1, 1) := dk_27 (dk_at dksX4_fact_2 20 rfl rfl)
theorem dX4_fact_69 : decode cX4_fact 69 = .ok (.invokevirtual 109, 3) := dk_182 0 109 (dk_at dksX4_fact_2 21 rfl rfl)
theorem dX4_fact_72 : decode cX4_fact 72 = .ok (.aload_n 0, 1) := dk_42 (dk_at dksX4_fact_3 0 rfl rfl)
theorem dX4_fact_73 : decode cX4_fact 73 = .ok (.dup, 1) := dk_89 (dk_at dksX4_fact_3 1 rfl rfl)
theorem dX4_fact_74 : decode cX4_fact 74 = .ok (.getfield 23, 3) := dk_180 0 23 (dk_at dksX4_fact_3 2 rfl rfl)
theorem dX4_fact_77 : decode cX4_fact 77 = .ok (.iconst 1, 1) := dk_4 (dk_at dksX4_fact_3 5 rfl rfl)
theorem dX4_fact_78 : decode cX4_fact 78 = .ok (.iadd, 1) := dk_96 (dk_at dksX4_fact_3 6 rfl rfl)
theorem dX4_fact_79 : decode cX4_fact 79 = .ok (.putfield 23, 3) := dk_181 0 23 (dk_at dksX4_fact_3 7 rfl rfl)
theorem dX4_fact_82 : decode cX4_fact 82 = .ok (.aload_n 0, 1) := dk_42 (dk_at dksX4_fact_3 10 rfl rfl)
theorem dX4_fact_83 : decode cX4_fact 83 = .ok (.invokevirtual 121, 3) := dk_182 0 121 (dk_at dksX4_fact_3 11 rfl rfl)
theorem dX4_fact_86 : decode cX4_fact 86 = .ok (.astore_n 2, 1) := dk_77 (dk_at dksX4_fact_3 14 rfl rfl)
theorem dX4_fact_87 : decode cX4_fact 87 = .ok (.aload_n 0, 1) := dk_42 (dk_at dksX4_fact_3 15 rfl rfl)
theorem dX4_fact_88 : decode cX4_fact 88 = .ok (.invokevirtual 45, 3) := dk_182 0 45 (dk_at dksX4_fact_3 16 rfl rfl)
theorem dX4_fact_91 : decode cX4_fact 91 = .ok (.bipush 93, 2) := dk_16 93 (dk_at dksX4_fact_3 19 rfl rfl)
theorem dX4_fact_93 : decode cX4_fact 93 = .ok (.if_icmp .eq 16, 3) := dk_159 0 16 (dk_at dksX4_fact_3 21 rfl rfl)
theorem dX4_fact_96 : decode cX4_fact 96 = .ok (.aload_n 0, 1) := dk_42 (dk_at dksX4_fact_4 0 rfl rfl)
theorem dX4_fact_97 : decode cX4_fact 97 = .ok (.getfield 3, 3) := dk_180 0 3 (dk_at dksX4_fact_4 1 rfl rfl)
theorem dX4_fact_100 : decode cX4_fact 100 = .ok (.iconst 0, 1) := dk_3 (dk_at dksX4_fact_4 4 rfl rfl)
theorem dX4_fact_101 : decode cX4_fact 101 = .ok (.aload_n 0, 1) := dk_42 (dk_at dksX4_fact_4 5 rfl rfl)
theorem dX4_fact_102 : decode cX4_fact 102 = .ok (.getfield 23, 3) := dk_180 0 23 (dk_at dksX4_fact_4 6 rfl rfl)
theorem dX4_fact_105 : decode cX4_fact 105 = .ok (.invokevirtual 69, 3) := dk_182 0 69 (dk_at dksX4_fact_4 9 rfl rfl)
theorem dX4_fact_108 : decode cX4_fact 108 = .ok (.athrow, 1) := dk_191 (dk_at dksX4_fact_4 12 rfl rfl)
theorem dX4_fact_109 : decode cX4_fact 109 = .ok (.aload_n 0, 1) := dk_42 (dk_at dksX4_fact_4 13 rfl rfl)
theorem dX4_fact_110 : decode cX4_fact 110 = .ok (.dup, 1) := dk_89 (dk_at dksX4_fact_4 14 rfl rfl)
theorem dX4_fact_111 : decode cX4_fact 111 = .ok (.getfield 23, 3) := dk_180 0 23 (dk_at dksX4_fact_4 15 rfl rfl)
theorem dX4_fact_114 : decode cX4_fact 114 = .ok (.iconst 1, 1) := dk_4 (dk_at dksX4_fact_4 18 rfl rfl)
theorem dX4_fact_115 : decode cX4_fact 115 = .ok (.iadd, 1) := dk_96 (dk_at dksX4_fact_4 19 rfl rfl)
theorem dX4_fact_116 : decode cX4_fact 116 = .ok (.putfield 23, 3) := dk_181 0 23 (dk_at dksX4_fact_4 20 rfl rfl)
theorem dX4_fact_119 : decode cX4_fact 119 = .ok (.aload_n 0, 1) := dk_42 (dk_at dksX4_fact_4 23 rfl rfl)
theorem dX4_fact_120 : decode cX4_fact 120 = .ok (.dup, 1) := dk_89 (dk_at dksX4_fact_5 0 rfl rfl)
theorem dX4_fact_121 : decode cX4_fact 121 = .ok (.getfield 76, 3) := dk_180 0 76 (dk_at dksX4_fact_5 1 rfl rfl)
theorem dX4_fact_124 : decode cX4_fact 124 = .ok (.iconst 1, 1) := dk_4 (dk_at dksX4_fact_5 4 rfl rfl)
theorem dX4_fact_125 : decode cX4_fact 125 = .ok (.isub, 1) := dk_100 (dk_at dksX4_fact_5 5 rfl rfl)
theorem dX4_fact_126 : decode cX4_fact 126 = .ok (.putfield 76, 3) := dk_181 0 76 (dk_at dksX4_fact_5 6 rfl rfl)
theorem dX4_fact_129 : decode cX4_fact 129 = .ok (.aload_n 2, 1) := dk_44 (dk_at dksX4_fact_5 9 rfl rfl)
theorem dX4_fact_130 : decode cX4_fact 130 = .ok (.areturn, 1) := dk_176 (dk_at dksX4_fact_5 10 rfl rfl)
theorem dX4_fact_131 : decode cX4_fact 131 = .ok (.aload_n 0, 1) := dk_42 (dk_at dksX4_fact_5 11 rfl rfl)
theorem dX4_fact_132 : decode cX4_fact 132 = .ok (.invokevirtual 124, 3) := dk_182 0 124 (dk_at dksX4_fact_5 12 rfl rfl)
theorem dX4_fact_135 : decode cX4_fact 135 = .ok (.astore_n 2, 1) := dk_77 (dk_at dksX4_fact_5 15 rfl rfl)
theorem dX4_fact_136 : decode cX4_fact 136 = .ok (.aload_n 0, 1) := dk_42 (dk_at dksX4_fact_5 16 rfl rfl)
theorem dX4_fact_137 : decode cX4_fact 137 = .ok (.invokevirtual 45, 3) := dk_182 0 45 (dk_at dksX4_fact_5 17 rfl rfl)
theorem dX4_fact_140 : decode cX4_fact 140 = .ok (.istore_n 3, 1) := dk_62 (dk_at dksX4_fact_5 20 rfl rfl)
theorem dX4_fact_141 : decode cX4_fact 141 = .ok (.iload_n 3, 1) := dk_29 (dk_at dksX4_fact_5 21 rfl rfl)
theorem dX4_fact_142 : decode cX4_fact 142 = .ok (.bipush 60, 2) := dk_16 60 (dk_at dksX4_fact_5 22 rfl rfl)
theorem dX4_fact_144 : decode cX4_fact 144 = .ok (.if_icmp .eq 28, 3) := dk_159 0 28 (dk_at dksX4_fact_6 0 rfl rfl)
theorem dX4_fact_147 : decode cX4_fact 147 = .ok (.iload_n 3, 1) := dk_29 (dk_at dksX4_fact_6 3 rfl rfl)
theorem dX4_fact_148 : decode cX4_fact 148 = .ok (.bipush 61, 2) := dk_16 61 (dk_at dksX4_fact_6 4 rfl rfl)
theorem dX4_fact_150 : decode cX4_fact 150 = .ok (.if_icmp .eq 22, 3) := dk_159 0 22 (dk_at dksX4_fact_6 6 rfl rfl)
theorem dX4_fact_153 : decode cX4_fact 153 = .ok (.iload_n 3, 1) := dk_29 (dk_at dksX4_fact_6 9 rfl rfl)
theorem dX4_fact_154 : decode cX4_fact 154 = .ok (.bipush 62, 2) := dk_16 62 (dk_at dksX4_fact_6 10 rfl rfl)
theorem dX4_fact_156 : decode cX4_fact 156 = .ok (.if_icmp .eq 16, 3) := dk_159 0 16 (dk_at dksX4_fact_6 12 rfl rfl)
theorem dX4_fact_159 : decode cX4_fact 159 = .ok (.aload_n 0, 1) := dk_42 (dk_at dksX4_fact_6 15 rfl rfl)
theorem dX4_fact_160 : decode cX4_fact 160 = .ok (.getfield 3, 3) := dk_180 0 3 (dk_at dksX4_fact_6 16 rfl rfl)
theorem dX4_fact_163 : decode cX4_fact 163 = .ok (.iconst 0, 1) := dk_3 (dk_at dksX4_fact_6 19 rfl rfl)
theorem dX4_fact_164 : decode cX4_fact 164 = .ok (.aload_n 0, 1) := dk_42 (dk_at dksX4_fact_6 20 rfl rfl)
theorem dX4_fact_165 : decode cX4_fact 165 = .ok (.getfield 23, 3) := dk_180 0 23 (dk_at dksX4_fact_6 21 rfl rfl)
theorem dX4_fact_168 : decode cX4_fact 168 = .ok (.invokevirtual 69, 3) := dk_182 0 69 (dk_at dksX4_fact_7 0 rfl rfl)
theorem dX4_fact_171 : decode cX4_fact 171 = .ok (.athrow, 1) := dk_191 (dk_at dksX4_fact_7 3 rfl rfl)
theorem dX4_fact_172 : decode cX4_fact 172 = .ok (.aload_n 0, 1) := dk_42 (dk_at dksX4_fact_7 4 rfl rfl)
theorem dX4_fact_173 : decode cX4_fact 173 = .ok (.aload_n 0, 1) := dk_42 (dk_at dksX4_fact_7 5 rfl rfl)
theorem dX4_fact_174 : decode cX4_fact 174 = .ok (.getfield 23, 3) := dk_180 0 23 (dk_at dksX4_fact_7 6 rfl rfl)
theorem dX4_fact_177 : decode cX4_fact 177 = .ok (.invokevirtual 89, 3) := dk_182 0 89 (dk_at dksX4_fact_7 9 rfl rfl)
theorem dX4_fact_180 : decode cX4_fact 180 = .ok (.aload_n 0, 1) := dk_42 (dk_at dksX4_fact_7 12 rfl rfl)
theorem dX4_fact_181 : decode cX4_fact 181 = .ok (.dup, 1) := dk_89 (dk_at dksX4_fact_7 13 rfl rfl)
theorem dX4_fact_182 : decode cX4_fact 182 = .ok (.getfield 23, 3) := dk_180 0 23 (dk_at dksX4_fact_7 14 rfl rfl)
theorem dX4_fact_185 : decode cX4_fact 185 = .ok (.iconst 1, 1) := dk_4 (dk_at dksX4_fact_7 17 rfl rfl)
theorem dX4_fact_186 : decode cX4_fact 186 = .ok (.iadd, 1) := dk_96 (dk_at dksX4_fact_7 18 rfl rfl)
theorem dX4_fact_187 : decode cX4_fact 187 = .ok (.putfield 23, 3) := dk_181 0 23 (dk_at dksX4_fact_7 19 rfl rfl)
theorem dX4_fact_190 : decode cX4_fact 190 = .ok (.iload_n 3, 1) := dk_29 (dk_at dksX4_fact_7 22 rfl rfl)
theorem dX4_fact_191 : decode cX4_fact 191 = .ok (.bipush 61, 2) := dk_16 61 (dk_at dksX4_fact_8 0 rfl rfl)
theorem dX4_fact_193 : decode cX4_fact 193 = .ok (.if_icmp .eq 16, 3) := dk_159 0 16 (dk_at dksX4_fact_8 2 rfl rfl)
theorem dX4_fact_196 : decode cX4_fact 196 = .ok (.aload_n 0, 1) := dk_42 (dk_at dksX4_fact_8 5 rfl rfl)
theorem dX4_fact_197 : decode cX4_fact 197 = .ok (.invokevirtual 33, 3) := dk_182 0 33 (dk_at dksX4_fact_8 6 rfl rfl)
theorem dX4_fact_200 : decode cX4_fact 200 = .ok (.bipush 61, 2) := dk_16 61 (dk_at dksX4_fact_8 9 rfl rfl)
theorem dX4_fact_202 : decode cX4_fact 202 = .ok (.if_icmp .ne 7, 3) := dk_160 0 7 (dk_at dksX4_fact_8 11 rfl rfl)
theorem dX4_fact_205 : decode cX4_fact 205 = .ok (.iconst 1, 1) := dk_4 (dk_at dksX4_fact_8 14 rfl rfl)
theorem dX4_fact_206 : decode cX4_fact 206 = .ok (.goto 4, 3) := dk_167 0 4 (dk_at dksX4_fact_8 15 rfl rfl)
theorem dX4_fact_209 : decode cX4_fact 209 = .ok (.iconst 0, 1) := dk_3 (dk_at dksX4_fact_8 18 rfl rfl)
theorem dX4_fact_210 : decode cX4_fact 210 = .ok (.istore 4, 2) := dk_54 4 (dk_at dksX4_fact_8 19 rfl rfl)
theorem dX4_fact_212 : decode cX4_fact 212 = .ok (.aload_n 0, 1) := dk_42 (dk_at dksX4_fact_8 21 rfl rfl)
theorem dX4_fact_213 : decode cX4_fact 213 = .ok (.dup, 1) := dk_89 (dk_at dksX4_fact_8 22 rfl rfl)
theorem dX4_fact_214 : decode cX4_fact 214 = .ok (.getfield 23, 3) := dk_180 0 23 (dk_at dksX4_fact_9 0 rfl rfl)
theorem dX4_fact_217 : decode cX4_fact 217 = .ok (.iload 4, 2) := dk_21 4 (dk_at dksX4_fact_9 3 rfl rfl)
theorem dX4_fact_219 : decode cX4_fact 219 = .ok (.ifCond .eq 7, 3) := dk_153 0 7 (dk_at dksX4_fact_9 5 rfl rfl)
theorem dX4_fact_222 : decode cX4_fact 222 = .ok (.iconst 1, 1) := dk_4 (dk_at dksX4_fact_9 8 rfl rfl)
theorem dX4_fact_223 : decode cX4_fact 223 = .ok (.goto 4, 3) := dk_167 0 4 (dk_at dksX4_fact_9 9 rfl rfl)
theorem dX4_fact_226 : decode cX4_fact 226 = .ok (.iconst 0, 1) := dk_3 (dk_at dksX4_fact_9 12 rfl rfl)
theorem dX4_fact_227 : decode cX4_fact 227 = .ok (.iadd, 1) := dk_96 (dk_at dksX4_fact_9 13 rfl rfl)
theorem dX4_fact_228 : decode cX4_fact 228 = .ok (.putfield 23, 3) := dk_181 0 23 (dk_at dksX4_fact_9 14 rfl rfl)
theorem dX4_fact_231 : decode cX4_fact 231 = .ok (.new 127, 3) := dk_187 0 127 (dk_at dksX4_fact_9 17 rfl rfl)
theorem dX4_fact_234 : decode cX4_fact 234 = .ok (.dup, 1) := dk_89 (dk_at dksX4_fact_9 20 rfl rfl)
theorem dX4_fact_235 : decode cX4_fact 235 = .ok (.aload_n 2, 1) := dk_44 (dk_at dksX4_fact_9 21 rfl rfl)
theorem dX4_fact_236 : decode cX4_fact 236 = .ok (.aload_n 0, 1) := dk_42 (dk_at dksX4_fact_9 22 rfl rfl)
theorem dX4_fact_237 : decode cX4_fact 237 = .ok (.invokevirtual 124, 3) := dk_182 0 124 (dk_at dksX4_fact_10 0 rfl rfl)
theorem dX4_fact_240 : decode cX4_fact 240 = .ok (.iload_n 3, 1) := dk_29 (dk_at dksX4_fact_10 3 rfl rfl)
theorem dX4_fact_241 : decode cX4_fact 241 = .ok (.iload 4, 2) := dk_21 4 (dk_at dksX4_fact_10 4 rfl rfl)
theorem dX4_fact_243 : decode cX4_fact 243 = .ok (.invokespecial 129, 3) := dk_183 0 129 (dk_at dksX4_fact_10 6 rfl rfl)
theorem dX4_fact_246 : decode cX4_fact 246 = .ok (.areturn, 1) := dk_176 (dk_at dksX4_fact_10 9 rfl rfl)
abbrev cX4_goesDeeper : ByteArray := prog_11_method_9_code
def yX4_goesDeeper : MethodName := ⟨RX4, "goesDeeper", "(I)V"⟩
def dkwX4_goesDeeper_1 : List UInt8 := [4, 96, 181, 0, 76, 177]
abbrev dktX4_goesDeeper_1 : List UInt8 := dkwX4_goesDeeper_1 ++ []
def dkwX4_goesDeeper_0 : List UInt8 := [42, 180, 0, 76, 16, 10, 160, 0, 13, 42, 180, 0, 3, 5, 27, 182, 0, 69, 191, 42, 89, 180, 0, 76]
abbrev dktX4_goesDeeper_0 : List UInt8 := dkwX4_goesDeeper_0 ++ dktX4_goesDeeper_1
theorem dksX4_goesDeeper_0 : cX4_goesDeeper.data.toList.drop 0 = dktX4_goesDeeper_0 := by decide +kernel
theorem dksX4_goesDeeper_1 : cX4_goesDeeper.data.toList.drop 24 = dktX4_goesDeeper_1 := dk_seg dksX4_goesDeeper_0 24 rfl rfl
theorem dX4_goesDeeper_0 : decode cX4_goesDeeper 0 = .ok (.aload_n 0, 1) := dk_42 (dk_at dksX4_goesDeeper_0 0 rfl rfl)
theorem dX4_goesDeeper_1 : decode cX4_goesDeeper 1 = .ok (.getfield 76, 3) := dk_180 0 76 (dk_at dksX4_goesDeeper_0 1 rfl rfl)
theorem dX4_goesDeeper_4 : decode cX4_goesDeeper 4 = .ok (.bipush 10, 2) := dk_16 10 (dk_at dksX4_goesDeeper_0 4 rfl rfl)
theorem dX4_goesDeeper_6 : decode cX4_goesDeeper 6 = .ok (.if_icmp .ne 13, 3) := dk_160 0 13 (dk_at dksX4_goesDeeper_0 6 rfl rfl)
theorem dX4_goesDeeper_9 : decode cX4_goesDeeper 9 = .ok (.aload_n 0, 1) := dk_42 (dk_at dksX4_goesDeeper_0 9 rfl rfl)
theorem dX4_goesDeeper_10 : decode cX4_goesDeeper 10 = .ok (.getfield 3, 3) := dk_180 0 3 (dk_at dksX4_goesDeeper_0 10 rfl rfl)
theorem dX4_goesDeeper_13 : decode cX4_goesDeeper 13 = .ok (.iconst 2, 1) := dk_5 (dk_at dksX4_goesDeeper_0 13 rfl rfl)
theorem dX4_goesDeeper_14 : decode cX4_goesDeeper 14 = .ok (.iload_n 1, 1) := dk_27 (dk_at dksX4_goesDeeper_0 14 rfl rfl)
theorem dX4_goesDeeper_15 : decode cX4_goesDeeper 15 = .ok (.invokevirtual 69, 3) := dk_182 0 69 (dk_at dksX4_goesDeeper_0 15 rfl rfl)
theorem dX4_goesDeeper_18 : decode cX4_goesDeeper 18 = .ok (.athrow, 1) := dk_191 (dk_at dksX4_goesDeeper_0 18 rfl rfl)
theorem dX4_goesDeeper_19 : decode cX4_goesDeeper 19 = .ok (.aload_n 0, 1) := dk_42 (dk_at dksX4_goesDeeper_0 19 rfl rfl)
theorem dX4_goesDeeper_20 : decode cX4_goesDeeper 20 = .ok (.dup, 1) := dk_89 (dk_at dksX4_goesDeeper_0 20 rfl rfl)
theorem dX4_goesDeeper_21 : decode cX4_goesDeeper 21 = .ok (.getfield 76, 3) := dk_180 0 76 (dk_at dksX4_goesDeeper_0 21 rfl rfl)
theorem dX4_goesDeeper_24 : decode cX4_goesDeeper 24 = .ok (.iconst 1, 1) := dk_4 (dk_at dksX4_goesDeeper_1 0 rfl rfl)
theorem dX4_goesDeeper_25 : decode cX4_goesDeeper 25 = .ok (.iadd, 1) := dk_96 (dk_at dksX4_goesDeeper_1 1 rfl rfl)
theorem dX4_goesDeeper_26 : decode cX4_goesDeeper 26 = .ok (.putfield 76, 3) := dk_181 0 76 (dk_at dksX4_goesDeeper_1 2 rfl rfl)
theorem dX4_goesDeeper_29 : decode cX4_goesDeeper 29 = .ok (.return_, 1) := dk_177 (dk_at dksX4_goesDeeper_1 5 rfl rfl)
theorem q152 : (Jvm.Cond.initialized "TurningRoads$Parser") ∈ lw_all := lw_g (lw_at lw_m1 10 rfl) rfl
theorem q339 : (Jvm.Cond.fieldLinkNest "TurningRoads$Parser" (213 : Nat) "TurningRoads" "rules" "Ljava/util/ArrayList;" "TurningRoads") ∈ lw_tbl := lw_at lw_m1 197 rfl
theorem q341 : (Jvm.Cond.fieldLinkNest "TurningRoads$Parser" (29 : Nat) "TurningRoads" "tape" "[B" "TurningRoads") ∈ lw_tbl := lw_at lw_m1 199 rfl
theorem q343 : (Jvm.Cond.fieldLinkNest "TurningRoads$Parser" (26 : Nat) "TurningRoads" "taped" "I" "TurningRoads") ∈ lw_tbl := lw_at lw_m1 201 rfl
theorem q458 : (Jvm.Cond.instantiable "TurningRoads$Parser" (7 : Nat)) ∈ lw_all := lw_g (lw_at lw_m2 76 rfl) rfl
theorem q460 : (Jvm.Cond.instanceMethod ({ cls := "TurningRoads$Parser", name := "<init>", desc := "(LTurningRoads;[Ljava/lang/String;I)V" } : Jvm.MethodName)) ∈ lw_all := lw_g (lw_at lw_m2 78 rfl) rfl
theorem q461 : (Jvm.Cond.code ({ cls := "TurningRoads$Parser", name := "<init>", desc := "(LTurningRoads;[Ljava/lang/String;I)V" } : Jvm.MethodName) prog_11_method_1_code (4 : Nat) (Option.none : Option Jvm.ClassFile.FieldType)) ∈ lw_all := lw_g (lw_at lw_m2 79 rfl) rfl
theorem q462 : (Jvm.Cond.methodLink "TurningRoads$Parser" (9 : Nat) ({ cls := "java/lang/Object", name := "<init>", desc := "()V" } : Jvm.MethodName)) ∈ lw_all := lw_g (lw_at lw_m2 80 rfl) rfl
theorem q463 : (Jvm.Cond.fieldLink "TurningRoads$Parser" (15 : Nat) "TurningRoads$Parser" "names" "[Ljava/lang/String;") ∈ lw_all := lw_g (lw_at lw_m2 81 rfl) rfl
theorem q464 : (Jvm.Cond.fieldLink "TurningRoads$Parser" (23 : Nat) "TurningRoads$Parser" "at" "I") ∈ lw_all := lw_g (lw_at lw_m2 82 rfl) rfl
theorem q465 : (Jvm.Cond.fieldLink "TurningRoads$Parser" (76 : Nat) "TurningRoads$Parser" "deep" "I") ∈ lw_all := lw_g (lw_at lw_m2 83 rfl) rfl
theorem q466 : (Jvm.Cond.fieldLink "TurningRoads$Parser" (73 : Nat) "TurningRoads$Parser" "counted" "I") ∈ lw_all := lw_g (lw_at lw_m2 84 rfl) rfl
theorem q467 : (Jvm.Cond.fieldLink "TurningRoads$Parser" (147 : Nat) "TurningRoads$Parser" "clauses" "I") ∈ lw_all := lw_g (lw_at lw_m2 85 rfl) rfl
theorem q468 : (Jvm.Cond.fieldLink "TurningRoads$Parser" (19 : Nat) "TurningRoads$Parser" "most" "I") ∈ lw_all := lw_g (lw_at lw_m2 86 rfl) rfl
theorem q469 : (Jvm.Cond.fieldLink "TurningRoads$Parser" (3 : Nat) "TurningRoads$Parser" "this$0" "LTurningRoads;") ∈ lw_all := lw_g (lw_at lw_m2 87 rfl) rfl
theorem q470 : (Jvm.Cond.laysFinal "TurningRoads$Parser" "TurningRoads$Parser" "names" "[Ljava/lang/String;") ∈ lw_all := lw_g (lw_at lw_m2 88 rfl) rfl
theorem q471 : (Jvm.Cond.soleField "TurningRoads$Parser" "names") ∈ lw_all := lw_g (lw_at lw_m2 89 rfl) rfl
theorem q472 : (Jvm.Cond.lays "TurningRoads$Parser" "TurningRoads$Parser" "at" "I") ∈ lw_all := lw_g (lw_at lw_m2 90 rfl) rfl
theorem q473 : (Jvm.Cond.soleField "TurningRoads$Parser" "at") ∈ lw_all := lw_g (lw_at lw_m2 91 rfl) rfl
theorem q474 : (Jvm.Cond.lays "TurningRoads$Parser" "TurningRoads$Parser" "deep" "I") ∈ lw_all := lw_g (lw_at lw_m2 92 rfl) rfl
theorem q475 : (Jvm.Cond.soleField "TurningRoads$Parser" "deep") ∈ lw_all := lw_g (lw_at lw_m2 93 rfl) rfl
theorem q476 : (Jvm.Cond.lays "TurningRoads$Parser" "TurningRoads$Parser" "counted" "I") ∈ lw_all := lw_g (lw_at lw_m2 94 rfl) rfl
theorem q477 : (Jvm.Cond.soleField "TurningRoads$Parser" "counted") ∈ lw_all := lw_g (lw_at lw_m2 95 rfl) rfl
theorem q478 : (Jvm.Cond.lays "TurningRoads$Parser" "TurningRoads$Parser" "clauses" "I") ∈ lw_all := lw_g (lw_at lw_m2 96 rfl) rfl
theorem q479 : (Jvm.Cond.soleField "TurningRoads$Parser" "clauses") ∈ lw_all := lw_g (lw_at lw_m2 97 rfl) rfl
theorem q480 : (Jvm.Cond.laysFinal "TurningRoads$Parser" "TurningRoads$Parser" "most" "I") ∈ lw_all := lw_g (lw_at lw_m2 98 rfl) rfl
theorem q481 : (Jvm.Cond.soleField "TurningRoads$Parser" "most") ∈ lw_all := lw_g (lw_at lw_m2 99 rfl) rfl
theorem q482 : (Jvm.Cond.laysFinal "TurningRoads$Parser" "TurningRoads$Parser" "this$0" "LTurningRoads;") ∈ lw_all := lw_g (lw_at lw_m2 100 rfl) rfl
theorem q483 : (Jvm.Cond.soleField "TurningRoads$Parser" "this$0") ∈ lw_all := lw_g (lw_at lw_m2 101 rfl) rfl
theorem q484 : (Jvm.Cond.superclass "TurningRoads$Parser" "java/lang/Object") ∈ lw_all := lw_g (lw_at lw_m2 102 rfl) rfl
theorem q486 : (Jvm.Cond.instanceMethod ({ cls := "TurningRoads$Parser", name := "land", desc := "(Ljava/util/ArrayList;Ljava/util/ArrayList;)V" } : Jvm.MethodName)) ∈ lw_all := lw_g (lw_at lw_m2 104 rfl) rfl
theorem q487 : (Jvm.Cond.selects "TurningRoads$Parser" ({ cls := "TurningRoads$Parser", name := "land", desc := "(Ljava/util/ArrayList;Ljava/util/ArrayList;)V" } : Jvm.MethodName) ({ cls := "TurningRoads$Parser", name := "land", desc := "(Ljava/util/ArrayList;Ljava/util/ArrayList;)V" } : Jvm.MethodName)) ∈ lw_all := lw_g (lw_at lw_m2 105 rfl) rfl
theorem q488 : (Jvm.Cond.code ({ cls := "TurningRoads$Parser", name := "land", desc := "(Ljava/util/ArrayList;Ljava/util/ArrayList;)V" } : Jvm.MethodName) prog_11_method_22_code (3 : Nat) (Option.none : Option Jvm.ClassFile.FieldType)) ∈ lw_all := lw_g (lw_at lw_m2 106 rfl) rfl
theorem q489 : (Jvm.Cond.methodLink "TurningRoads$Parser" (202 : Nat) ({ cls := "TurningRoads$Parser", name := "clause", desc := "(Ljava/util/ArrayList;Ljava/util/ArrayList;)V" } : Jvm.MethodName)) ∈ lw_all := lw_g (lw_at lw_m2 107 rfl) rfl
theorem q490 : (Jvm.Cond.privateMethod ({ cls := "TurningRoads$Parser", name := "clause", desc := "(Ljava/util/ArrayList;Ljava/util/ArrayList;)V" } : Jvm.MethodName)) ∈ lw_tbl := lw_at lw_m2 108 rfl
theorem q491 : (Jvm.Cond.instanceMethod ({ cls := "TurningRoads$Parser", name := "clause", desc := "(Ljava/util/ArrayList;Ljava/util/ArrayList;)V" } : Jvm.MethodName)) ∈ lw_all := lw_g (lw_at lw_m2 109 rfl) rfl
theorem q492 : (Jvm.Cond.code ({ cls := "TurningRoads$Parser", name := "clause", desc := "(Ljava/util/ArrayList;Ljava/util/ArrayList;)V" } : Jvm.MethodName) prog_11_method_19_code (5 : Nat) (Option.none : Option Jvm.ClassFile.FieldType)) ∈ lw_all := lw_g (lw_at lw_m2 110 rfl) rfl
theorem q493 : (Jvm.Cond.stringRef "TurningRoads$Parser" (157 : Nat) "way") ∈ lw_tbl := lw_at lw_m2 111 rfl
theorem q494 : (Jvm.Cond.methodLink "TurningRoads$Parser" (159 : Nat) ({ cls := "java/util/ArrayList", name := "size", desc := "()I" } : Jvm.MethodName)) ∈ lw_all := lw_g (lw_at lw_m2 112 rfl) rfl
theorem q498 : (Jvm.Cond.methodLink "TurningRoads$Parser" (164 : Nat) ({ cls := "TurningRoads$Parser", name := "begins", desc := "(Ljava/lang/String;Z)Z" } : Jvm.MethodName)) ∈ lw_all := lw_g (lw_at lw_m2 116 rfl) rfl
theorem q499 : (Jvm.Cond.privateMethod ({ cls := "TurningRoads$Parser", name := "begins", desc := "(Ljava/lang/String;Z)Z" } : Jvm.MethodName)) ∈ lw_tbl := lw_at lw_m2 117 rfl
theorem q500 : (Jvm.Cond.instanceMethod ({ cls := "TurningRoads$Parser", name := "begins", desc := "(Ljava/lang/String;Z)Z" } : Jvm.MethodName)) ∈ lw_all := lw_g (lw_at lw_m2 118 rfl) rfl
theorem q501 : (Jvm.Cond.code ({ cls := "TurningRoads$Parser", name := "begins", desc := "(Ljava/lang/String;Z)Z" } : Jvm.MethodName) prog_11_method_16_code (3 : Nat) (Option.some Jvm.ClassFile.FieldType.boolean)) ∈ lw_all := lw_g (lw_at lw_m2 119 rfl) rfl
theorem q502 : (Jvm.Cond.methodLink "TurningRoads$Parser" (61 : Nat) ({ cls := "TurningRoads$Parser", name := "isWord", desc := "(Ljava/lang/String;)Z" } : Jvm.MethodName)) ∈ lw_all := lw_g (lw_at lw_m2 120 rfl) rfl
theorem q503 : (Jvm.Cond.privateMethod ({ cls := "TurningRoads$Parser", name := "isWord", desc := "(Ljava/lang/String;)Z" } : Jvm.MethodName)) ∈ lw_tbl := lw_at lw_m2 121 rfl
theorem q504 : (Jvm.Cond.instanceMethod ({ cls := "TurningRoads$Parser", name := "isWord", desc := "(Ljava/lang/String;)Z" } : Jvm.MethodName)) ∈ lw_all := lw_g (lw_at lw_m2 122 rfl) rfl
theorem q505 : (Jvm.Cond.code ({ cls := "TurningRoads$Parser", name := "isWord", desc := "(Ljava/lang/String;)Z" } : Jvm.MethodName) prog_11_method_5_code (5 : Nat) (Option.some Jvm.ClassFile.FieldType.boolean)) ∈ lw_all := lw_g (lw_at lw_m2 123 rfl) rfl
theorem q506 : (Jvm.Cond.methodLink "TurningRoads$Parser" (45 : Nat) ({ cls := "TurningRoads$Parser", name := "next", desc := "()I" } : Jvm.MethodName)) ∈ lw_all := lw_g (lw_at lw_m2 124 rfl) rfl
theorem q507 : (Jvm.Cond.privateMethod ({ cls := "TurningRoads$Parser", name := "next", desc := "()I" } : Jvm.MethodName)) ∈ lw_tbl := lw_at lw_m2 125 rfl
theorem q508 : (Jvm.Cond.instanceMethod ({ cls := "TurningRoads$Parser", name := "next", desc := "()I" } : Jvm.MethodName)) ∈ lw_all := lw_g (lw_at lw_m2 126 rfl) rfl
theorem q509 : (Jvm.Cond.code ({ cls := "TurningRoads$Parser", name := "next", desc := "()I" } : Jvm.MethodName) prog_11_method_3_code (1 : Nat) (Option.some Jvm.ClassFile.FieldType.int)) ∈ lw_all := lw_g (lw_at lw_m2 127 rfl) rfl
theorem q510 : (Jvm.Cond.methodLink "TurningRoads$Parser" (33 : Nat) ({ cls := "TurningRoads$Parser", name := "sign", desc := "()I" } : Jvm.MethodName)) ∈ lw_all := lw_g (lw_at lw_m2 128 rfl) rfl
theorem q511 : (Jvm.Cond.privateMethod ({ cls := "TurningRoads$Parser", name := "sign", desc := "()I" } : Jvm.MethodName)) ∈ lw_tbl := lw_at lw_m2 129 rfl
theorem q512 : (Jvm.Cond.instanceMethod ({ cls := "TurningRoads$Parser", name := "sign", desc := "()I" } : Jvm.MethodName)) ∈ lw_all := lw_g (lw_at lw_m2 130 rfl) rfl
theorem q513 : (Jvm.Cond.code ({ cls := "TurningRoads$Parser", name := "sign", desc := "()I" } : Jvm.MethodName) prog_11_method_2_code (1 : Nat) (Option.some Jvm.ClassFile.FieldType.int)) ∈ lw_all := lw_g (lw_at lw_m2 131 rfl) rfl
theorem q514 : (Jvm.Cond.constantLong "TurningRoads$Parser" (48 : Nat) (97 : Int64)) ∈ lw_all := lw_g (lw_at lw_m2 132 rfl) rfl
theorem q515 : (Jvm.Cond.constantLong "TurningRoads$Parser" (50 : Nat) (122 : Int64)) ∈ lw_all := lw_g (lw_at lw_m2 133 rfl) rfl
theorem q516 : (Jvm.Cond.methodLinkNest "TurningRoads$Parser" (41 : Nat) ({ cls := "TurningRoads", name := "in", desc := "(JJJ)Z" } : Jvm.MethodName) "TurningRoads") ∈ lw_tbl := lw_at lw_m2 134 rfl
theorem q519 : (Jvm.Cond.methodLink "TurningRoads$Parser" (52 : Nat) ({ cls := "java/lang/String", name := "length", desc := "()I" } : Jvm.MethodName)) ∈ lw_all := lw_g (lw_at lw_m2 137 rfl) rfl
theorem q529 : (Jvm.Cond.methodLink "TurningRoads$Parser" (57 : Nat) ({ cls := "java/lang/String", name := "charAt", desc := "(I)C" } : Jvm.MethodName)) ∈ lw_all := lw_g (lw_at lw_m2 147 rfl) rfl
theorem q567 : (Jvm.Cond.methodLinkNest "TurningRoads$Parser" (69 : Nat) ({ cls := "TurningRoads", name := "fails", desc := "(II)LTurningRoads$Wrong;" } : Jvm.MethodName) "TurningRoads") ∈ lw_tbl := lw_at lw_m2 185 rfl
theorem q571 : (Jvm.Cond.methodLink "TurningRoads$Parser" (82 : Nat) ({ cls := "TurningRoads$Parser", name := "number", desc := "(II)I" } : Jvm.MethodName)) ∈ lw_all := lw_g (lw_at lw_m2 189 rfl) rfl
theorem q572 : (Jvm.Cond.privateMethod ({ cls := "TurningRoads$Parser", name := "number", desc := "(II)I" } : Jvm.MethodName)) ∈ lw_tbl := lw_at lw_m2 190 rfl
theorem q573 : (Jvm.Cond.instanceMethod ({ cls := "TurningRoads$Parser", name := "number", desc := "(II)I" } : Jvm.MethodName)) ∈ lw_all := lw_g (lw_at lw_m2 191 rfl) rfl
theorem q574 : (Jvm.Cond.code ({ cls := "TurningRoads$Parser", name := "number", desc := "(II)I" } : Jvm.MethodName) prog_11_method_7_code (5 : Nat) (Option.some Jvm.ClassFile.FieldType.int)) ∈ lw_all := lw_g (lw_at lw_m2 192 rfl) rfl
theorem q575 : (Jvm.Cond.methodLink "TurningRoads$Parser" (65 : Nat) ({ cls := "TurningRoads$Parser", name := "isDigit", desc := "()Z" } : Jvm.MethodName)) ∈ lw_all := lw_g (lw_at lw_m2 193 rfl) rfl
theorem q576 : (Jvm.Cond.privateMethod ({ cls := "TurningRoads$Parser", name := "isDigit", desc := "()Z" } : Jvm.MethodName)) ∈ lw_tbl := lw_at lw_m2 194 rfl
theorem q577 : (Jvm.Cond.instanceMethod ({ cls := "TurningRoads$Parser", name := "isDigit", desc := "()Z" } : Jvm.MethodName)) ∈ lw_all := lw_g (lw_at lw_m2 195 rfl) rfl
theorem q578 : (Jvm.Cond.code ({ cls := "TurningRoads$Parser", name := "isDigit", desc := "()Z" } : Jvm.MethodName) prog_11_method_4_code (1 : Nat) (Option.some Jvm.ClassFile.FieldType.boolean)) ∈ lw_all := lw_g (lw_at lw_m2 196 rfl) rfl
theorem q579 : (Jvm.Cond.constantLong "TurningRoads$Parser" (37 : Nat) (48 : Int64)) ∈ lw_all := lw_g (lw_at lw_m2 197 rfl) rfl
theorem q580 : (Jvm.Cond.constantLong "TurningRoads$Parser" (39 : Nat) (57 : Int64)) ∈ lw_all := lw_g (lw_at lw_m2 198 rfl) rfl
theorem q581 : (Jvm.Cond.methodLink "TurningRoads$Parser" (168 : Nat) ({ cls := "TurningRoads$Parser", name := "other", desc := "(I)I" } : Jvm.MethodName)) ∈ lw_all := lw_g (lw_at lw_m2 199 rfl) rfl
theorem q582 : (Jvm.Cond.privateMethod ({ cls := "TurningRoads$Parser", name := "other", desc := "(I)I" } : Jvm.MethodName)) ∈ lw_tbl := lw_at lw_m2 200 rfl
theorem q583 : (Jvm.Cond.instanceMethod ({ cls := "TurningRoads$Parser", name := "other", desc := "(I)I" } : Jvm.MethodName)) ∈ lw_all := lw_g (lw_at lw_m2 201 rfl) rfl
theorem q584 : (Jvm.Cond.code ({ cls := "TurningRoads$Parser", name := "other", desc := "(I)I" } : Jvm.MethodName) prog_11_method_18_code (4 : Nat) (Option.some Jvm.ClassFile.FieldType.int)) ∈ lw_all := lw_g (lw_at lw_m2 202 rfl) rfl
theorem q585 : (Jvm.Cond.classLink "TurningRoads$Parser" (172 : Nat) "TurningRoads$Way") ∈ lw_all := lw_g (lw_at lw_m2 203 rfl) rfl
theorem q587 : (Jvm.Cond.methodLink "TurningRoads$Parser" (174 : Nat) ({ cls := "TurningRoads$Way", name := "<init>", desc := "(III)V" } : Jvm.MethodName)) ∈ lw_all := lw_g (lw_at lw_m2 205 rfl) rfl
theorem q614 : (Jvm.Cond.methodLink "TurningRoads$Parser" (177 : Nat) ({ cls := "java/util/ArrayList", name := "add", desc := "(Ljava/lang/Object;)Z" } : Jvm.MethodName)) ∈ lw_all := lw_g (lw_at lw_m2 232 rfl) rfl
theorem q657 : (Jvm.Cond.selects "TurningRoads$Parser" ({ cls := "java/lang/Object", name := "getClass", desc := "()Ljava/lang/Class;" } : Jvm.MethodName) ({ cls := "java/lang/Object", name := "getClass", desc := "()Ljava/lang/Class;" } : Jvm.MethodName)) ∈ lw_all := lw_g (lw_at lw_m3 35 rfl) rfl
theorem q678 : (Jvm.Cond.stringRef "TurningRoads$Parser" (181 : Nat) "goer") ∈ lw_tbl := lw_at lw_m3 56 rfl
theorem q679 : (Jvm.Cond.classLink "TurningRoads$Parser" (183 : Nat) "TurningRoads$Goer") ∈ lw_all := lw_g (lw_at lw_m3 57 rfl) rfl
theorem q681 : (Jvm.Cond.methodLink "TurningRoads$Parser" (185 : Nat) ({ cls := "TurningRoads$Goer", name := "<init>", desc := "(III)V" } : Jvm.MethodName)) ∈ lw_all := lw_g (lw_at lw_m3 59 rfl) rfl
theorem q721 : (Jvm.Cond.methodLink "TurningRoads$Parser" (206 : Nat) ({ cls := "TurningRoads$Parser", name := "goesOn", desc := "()Z" } : Jvm.MethodName)) ∈ lw_all := lw_g (lw_at lw_m3 99 rfl) rfl
theorem q722 : (Jvm.Cond.privateMethod ({ cls := "TurningRoads$Parser", name := "goesOn", desc := "()Z" } : Jvm.MethodName)) ∈ lw_tbl := lw_at lw_m3 100 rfl
theorem q723 : (Jvm.Cond.instanceMethod ({ cls := "TurningRoads$Parser", name := "goesOn", desc := "()Z" } : Jvm.MethodName)) ∈ lw_all := lw_g (lw_at lw_m3 101 rfl) rfl
theorem q724 : (Jvm.Cond.code ({ cls := "TurningRoads$Parser", name := "goesOn", desc := "()Z" } : Jvm.MethodName) prog_11_method_21_code (2 : Nat) (Option.some Jvm.ClassFile.FieldType.boolean)) ∈ lw_all := lw_g (lw_at lw_m3 102 rfl) rfl
theorem q756 : (Jvm.Cond.instanceMethod ({ cls := "TurningRoads$Parser", name := "rule", desc := "()I" } : Jvm.MethodName)) ∈ lw_all := lw_g (lw_at lw_m3 134 rfl) rfl
theorem q757 : (Jvm.Cond.selects "TurningRoads$Parser" ({ cls := "TurningRoads$Parser", name := "rule", desc := "()I" } : Jvm.MethodName) ({ cls := "TurningRoads$Parser", name := "rule", desc := "()I" } : Jvm.MethodName)) ∈ lw_all := lw_g (lw_at lw_m3 135 rfl) rfl
theorem q758 : (Jvm.Cond.code ({ cls := "TurningRoads$Parser", name := "rule", desc := "()I" } : Jvm.MethodName) prog_11_method_23_code (2 : Nat) (Option.some Jvm.ClassFile.FieldType.int)) ∈ lw_all := lw_g (lw_at lw_m3 136 rfl) rfl
theorem q759 : (Jvm.Cond.classLink "TurningRoads$Parser" (189 : Nat) "TurningRoads$Rule") ∈ lw_all := lw_g (lw_at lw_m3 137 rfl) rfl
theorem q761 : (Jvm.Cond.methodLinkNest "TurningRoads$Parser" (209 : Nat) ({ cls := "TurningRoads$Rule", name := "<init>", desc := "()V" } : Jvm.MethodName) "TurningRoads") ∈ lw_tbl := lw_at lw_m3 139 rfl
theorem q768 : (Jvm.Cond.fieldLinkNest "TurningRoads$Parser" (188 : Nat) "TurningRoads$Rule" "takes" "Ljava/util/ArrayList;" "TurningRoads") ∈ lw_tbl := lw_at lw_m3 146 rfl
theorem q770 : (Jvm.Cond.fieldLinkNest "TurningRoads$Parser" (199 : Nat) "TurningRoads$Rule" "waits" "Ljava/util/ArrayList;" "TurningRoads") ∈ lw_tbl := lw_at lw_m3 148 rfl
theorem q776 : (Jvm.Cond.methodLink "TurningRoads$Parser" (210 : Nat) ({ cls := "TurningRoads$Parser", name := "clause", desc := "(LTurningRoads$Rule;)V" } : Jvm.MethodName)) ∈ lw_all := lw_g (lw_at lw_m3 154 rfl) rfl
theorem q777 : (Jvm.Cond.privateMethod ({ cls := "TurningRoads$Parser", name := "clause", desc := "(LTurningRoads$Rule;)V" } : Jvm.MethodName)) ∈ lw_tbl := lw_at lw_m3 155 rfl
theorem q778 : (Jvm.Cond.instanceMethod ({ cls := "TurningRoads$Parser", name := "clause", desc := "(LTurningRoads$Rule;)V" } : Jvm.MethodName)) ∈ lw_all := lw_g (lw_at lw_m3 156 rfl) rfl
theorem q779 : (Jvm.Cond.code ({ cls := "TurningRoads$Parser", name := "clause", desc := "(LTurningRoads$Rule;)V" } : Jvm.MethodName) prog_11_method_20_code (2 : Nat) (Option.none : Option Jvm.ClassFile.FieldType)) ∈ lw_all := lw_g (lw_at lw_m3 157 rfl) rfl
theorem q780 : (Jvm.Cond.stringRef "TurningRoads$Parser" (186 : Nat) "take") ∈ lw_tbl := lw_at lw_m3 158 rfl
theorem q781 : (Jvm.Cond.methodLink "TurningRoads$Parser" (193 : Nat) ({ cls := "TurningRoads$Parser", name := "told", desc := "(I)LTurningRoads$Told;" } : Jvm.MethodName)) ∈ lw_all := lw_g (lw_at lw_m3 159 rfl) rfl
theorem q782 : (Jvm.Cond.privateMethod ({ cls := "TurningRoads$Parser", name := "told", desc := "(I)LTurningRoads$Told;" } : Jvm.MethodName)) ∈ lw_tbl := lw_at lw_m3 160 rfl
theorem q783 : (Jvm.Cond.instanceMethod ({ cls := "TurningRoads$Parser", name := "told", desc := "(I)LTurningRoads$Told;" } : Jvm.MethodName)) ∈ lw_all := lw_g (lw_at lw_m3 161 rfl) rfl
theorem q784 : (Jvm.Cond.code ({ cls := "TurningRoads$Parser", name := "told", desc := "(I)LTurningRoads$Told;" } : Jvm.MethodName) prog_11_method_17_code (3 : Nat) (Option.some (Jvm.ClassFile.FieldType.object "TurningRoads$Told"))) ∈ lw_all := lw_g (lw_at lw_m3 162 rfl) rfl
theorem q785 : (Jvm.Cond.methodLink "TurningRoads$Parser" (124 : Nat) ({ cls := "TurningRoads$Parser", name := "sum", desc := "()LTurningRoads$Value;" } : Jvm.MethodName)) ∈ lw_all := lw_g (lw_at lw_m3 163 rfl) rfl
theorem q786 : (Jvm.Cond.privateMethod ({ cls := "TurningRoads$Parser", name := "sum", desc := "()LTurningRoads$Value;" } : Jvm.MethodName)) ∈ lw_tbl := lw_at lw_m3 164 rfl
theorem q787 : (Jvm.Cond.instanceMethod ({ cls := "TurningRoads$Parser", name := "sum", desc := "()LTurningRoads$Value;" } : Jvm.MethodName)) ∈ lw_all := lw_g (lw_at lw_m3 165 rfl) rfl
theorem q788 : (Jvm.Cond.code ({ cls := "TurningRoads$Parser", name := "sum", desc := "()LTurningRoads$Value;" } : Jvm.MethodName) prog_11_method_12_code (3 : Nat) (Option.some (Jvm.ClassFile.FieldType.object "TurningRoads$Value"))) ∈ lw_all := lw_g (lw_at lw_m3 166 rfl) rfl
theorem q789 : (Jvm.Cond.methodLink "TurningRoads$Parser" (104 : Nat) ({ cls := "TurningRoads$Parser", name := "term", desc := "()LTurningRoads$Value;" } : Jvm.MethodName)) ∈ lw_all := lw_g (lw_at lw_m3 167 rfl) rfl
theorem q790 : (Jvm.Cond.privateMethod ({ cls := "TurningRoads$Parser", name := "term", desc := "()LTurningRoads$Value;" } : Jvm.MethodName)) ∈ lw_tbl := lw_at lw_m3 168 rfl
theorem q791 : (Jvm.Cond.instanceMethod ({ cls := "TurningRoads$Parser", name := "term", desc := "()LTurningRoads$Value;" } : Jvm.MethodName)) ∈ lw_all := lw_g (lw_at lw_m3 169 rfl) rfl
theorem q792 : (Jvm.Cond.code ({ cls := "TurningRoads$Parser", name := "term", desc := "()LTurningRoads$Value;" } : Jvm.MethodName) prog_11_method_11_code (3 : Nat) (Option.some (Jvm.ClassFile.FieldType.object "TurningRoads$Value"))) ∈ lw_all := lw_g (lw_at lw_m3 170 rfl) rfl
theorem q793 : (Jvm.Cond.methodLink "TurningRoads$Parser" (95 : Nat) ({ cls := "TurningRoads$Parser", name := "value", desc := "()LTurningRoads$Value;" } : Jvm.MethodName)) ∈ lw_all := lw_g (lw_at lw_m3 171 rfl) rfl
theorem q794 : (Jvm.Cond.privateMethod ({ cls := "TurningRoads$Parser", name := "value", desc := "()LTurningRoads$Value;" } : Jvm.MethodName)) ∈ lw_tbl := lw_at lw_m3 172 rfl
theorem q795 : (Jvm.Cond.instanceMethod ({ cls := "TurningRoads$Parser", name := "value", desc := "()LTurningRoads$Value;" } : Jvm.MethodName)) ∈ lw_all := lw_g (lw_at lw_m3 173 rfl) rfl
theorem q796 : (Jvm.Cond.code ({ cls := "TurningRoads$Parser", name := "value", desc := "()LTurningRoads$Value;" } : Jvm.MethodName) prog_11_method_10_code (3 : Nat) (Option.some (Jvm.ClassFile.FieldType.object "TurningRoads$Value"))) ∈ lw_all := lw_g (lw_at lw_m3 174 rfl) rfl
theorem q797 : (Jvm.Cond.classLink "TurningRoads$Parser" (79 : Nat) "TurningRoads$Plain") ∈ lw_all := lw_g (lw_at lw_m3 175 rfl) rfl
theorem q799 : (Jvm.Cond.constant "TurningRoads$Parser" (81 : Nat) (99999 : Int32)) ∈ lw_all := lw_g (lw_at lw_m3 177 rfl) rfl
theorem q800 : (Jvm.Cond.methodLink "TurningRoads$Parser" (86 : Nat) ({ cls := "TurningRoads$Plain", name := "<init>", desc := "(I)V" } : Jvm.MethodName)) ∈ lw_all := lw_g (lw_at lw_m3 178 rfl) rfl
theorem q811 : (Jvm.Cond.methodLink "TurningRoads$Parser" (89 : Nat) ({ cls := "TurningRoads$Parser", name := "counts", desc := "(I)V" } : Jvm.MethodName)) ∈ lw_all := lw_g (lw_at lw_m3 189 rfl) rfl
theorem q812 : (Jvm.Cond.privateMethod ({ cls := "TurningRoads$Parser", name := "counts", desc := "(I)V" } : Jvm.MethodName)) ∈ lw_tbl := lw_at lw_m3 190 rfl
theorem q813 : (Jvm.Cond.instanceMethod ({ cls := "TurningRoads$Parser", name := "counts", desc := "(I)V" } : Jvm.MethodName)) ∈ lw_all := lw_g (lw_at lw_m3 191 rfl) rfl
theorem q814 : (Jvm.Cond.code ({ cls := "TurningRoads$Parser", name := "counts", desc := "(I)V" } : Jvm.MethodName) prog_11_method_8_code (2 : Nat) (Option.none : Option Jvm.ClassFile.FieldType)) ∈ lw_all := lw_g (lw_at lw_m3 192 rfl) rfl
theorem q815 : (Jvm.Cond.classLink "TurningRoads$Parser" (92 : Nat) "TurningRoads$Asked") ∈ lw_all := lw_g (lw_at lw_m3 193 rfl) rfl
theorem q817 : (Jvm.Cond.methodLink "TurningRoads$Parser" (94 : Nat) ({ cls := "TurningRoads$Asked", name := "<init>", desc := "(I)V" } : Jvm.MethodName)) ∈ lw_all := lw_g (lw_at lw_m3 195 rfl) rfl
theorem q825 : (Jvm.Cond.classLink "TurningRoads$Parser" (99 : Nat) "TurningRoads$Joined") ∈ lw_all := lw_g (lw_at lw_m3 203 rfl) rfl
theorem q827 : (Jvm.Cond.methodLink "TurningRoads$Parser" (101 : Nat) ({ cls := "TurningRoads$Joined", name := "<init>", desc := "(LTurningRoads$Value;LTurningRoads$Value;I)V" } : Jvm.MethodName)) ∈ lw_all := lw_g (lw_at lw_m3 205 rfl) rfl
theorem q841 : (Jvm.Cond.classLink "TurningRoads$Parser" (150 : Nat) "TurningRoads$Told") ∈ lw_all := lw_g (lw_at lw_m3 219 rfl) rfl
theorem q843 : (Jvm.Cond.stringRef "TurningRoads$Parser" (152 : Nat) "if") ∈ lw_tbl := lw_at lw_m3 221 rfl
theorem q844 : (Jvm.Cond.methodLink "TurningRoads$Parser" (134 : Nat) ({ cls := "TurningRoads$Parser", name := "takes", desc := "(Ljava/lang/String;)Z" } : Jvm.MethodName)) ∈ lw_all := lw_g (lw_at lw_m3 222 rfl) rfl
theorem q845 : (Jvm.Cond.privateMethod ({ cls := "TurningRoads$Parser", name := "takes", desc := "(Ljava/lang/String;)Z" } : Jvm.MethodName)) ∈ lw_tbl := lw_at lw_m3 223 rfl
theorem q846 : (Jvm.Cond.instanceMethod ({ cls := "TurningRoads$Parser", name := "takes", desc := "(Ljava/lang/String;)Z" } : Jvm.MethodName)) ∈ lw_all := lw_g (lw_at lw_m3 224 rfl) rfl
theorem q847 : (Jvm.Cond.code ({ cls := "TurningRoads$Parser", name := "takes", desc := "(Ljava/lang/String;)Z" } : Jvm.MethodName) prog_11_method_6_code (3 : Nat) (Option.some Jvm.ClassFile.FieldType.boolean)) ∈ lw_all := lw_g (lw_at lw_m3 225 rfl) rfl
theorem q848 : (Jvm.Cond.methodLink "TurningRoads$Parser" (121 : Nat) ({ cls := "TurningRoads$Parser", name := "test", desc := "()LTurningRoads$Condition;" } : Jvm.MethodName)) ∈ lw_all := lw_g (lw_at lw_m3 226 rfl) rfl
theorem q849 : (Jvm.Cond.privateMethod ({ cls := "TurningRoads$Parser", name := "test", desc := "()LTurningRoads$Condition;" } : Jvm.MethodName)) ∈ lw_tbl := lw_at lw_m3 227 rfl
theorem q850 : (Jvm.Cond.instanceMethod ({ cls := "TurningRoads$Parser", name := "test", desc := "()LTurningRoads$Condition;" } : Jvm.MethodName)) ∈ lw_all := lw_g (lw_at lw_m3 228 rfl) rfl
theorem q851 : (Jvm.Cond.code ({ cls := "TurningRoads$Parser", name := "test", desc := "()LTurningRoads$Condition;" } : Jvm.MethodName) prog_11_method_15_code (2 : Nat) (Option.some (Jvm.ClassFile.FieldType.object "TurningRoads$Condition"))) ∈ lw_all := lw_g (lw_at lw_m3 229 rfl) rfl
theorem q852 : (Jvm.Cond.methodLink "TurningRoads$Parser" (142 : Nat) ({ cls := "TurningRoads$Parser", name := "part", desc := "()LTurningRoads$Condition;" } : Jvm.MethodName)) ∈ lw_all := lw_g (lw_at lw_m3 230 rfl) rfl
theorem q853 : (Jvm.Cond.privateMethod ({ cls := "TurningRoads$Parser", name := "part", desc := "()LTurningRoads$Condition;" } : Jvm.MethodName)) ∈ lw_tbl := lw_at lw_m3 231 rfl
theorem q854 : (Jvm.Cond.instanceMethod ({ cls := "TurningRoads$Parser", name := "part", desc := "()LTurningRoads$Condition;" } : Jvm.MethodName)) ∈ lw_all := lw_g (lw_at lw_m3 232 rfl) rfl
theorem q855 : (Jvm.Cond.code ({ cls := "TurningRoads$Parser", name := "part", desc := "()LTurningRoads$Condition;" } : Jvm.MethodName) prog_11_method_14_code (2 : Nat) (Option.some (Jvm.ClassFile.FieldType.object "TurningRoads$Condition"))) ∈ lw_all := lw_g (lw_at lw_m3 233 rfl) rfl
theorem q856 : (Jvm.Cond.methodLink "TurningRoads$Parser" (114 : Nat) ({ cls := "TurningRoads$Parser", name := "fact", desc := "()LTurningRoads$Condition;" } : Jvm.MethodName)) ∈ lw_all := lw_g (lw_at lw_m3 234 rfl) rfl
theorem q857 : (Jvm.Cond.privateMethod ({ cls := "TurningRoads$Parser", name := "fact", desc := "()LTurningRoads$Condition;" } : Jvm.MethodName)) ∈ lw_tbl := lw_at lw_m3 235 rfl
theorem q858 : (Jvm.Cond.instanceMethod ({ cls := "TurningRoads$Parser", name := "fact", desc := "()LTurningRoads$Condition;" } : Jvm.MethodName)) ∈ lw_all := lw_g (lw_at lw_m3 236 rfl) rfl
theorem q859 : (Jvm.Cond.code ({ cls := "TurningRoads$Parser", name := "fact", desc := "()LTurningRoads$Condition;" } : Jvm.MethodName) prog_11_method_13_code (5 : Nat) (Option.some (Jvm.ClassFile.FieldType.object "TurningRoads$Condition"))) ∈ lw_all := lw_g (lw_at lw_m3 237 rfl) rfl
theorem q860 : (Jvm.Cond.stringRef "TurningRoads$Parser" (107 : Nat) "not") ∈ lw_tbl := lw_at lw_m3 238 rfl
theorem q861 : (Jvm.Cond.methodLink "TurningRoads$Parser" (109 : Nat) ({ cls := "TurningRoads$Parser", name := "goesDeeper", desc := "(I)V" } : Jvm.MethodName)) ∈ lw_all := lw_g (lw_at lw_m3 239 rfl) rfl
theorem q862 : (Jvm.Cond.privateMethod ({ cls := "TurningRoads$Parser", name := "goesDeeper", desc := "(I)V" } : Jvm.MethodName)) ∈ lw_tbl := lw_at lw_m4 0 rfl
theorem q863 : (Jvm.Cond.instanceMethod ({ cls := "TurningRoads$Parser", name := "goesDeeper", desc := "(I)V" } : Jvm.MethodName)) ∈ lw_all := lw_g (lw_at lw_m4 1 rfl) rfl
theorem q864 : (Jvm.Cond.code ({ cls := "TurningRoads$Parser", name := "goesDeeper", desc := "(I)V" } : Jvm.MethodName) prog_11_method_9_code (2 : Nat) (Option.none : Option Jvm.ClassFile.FieldType)) ∈ lw_all := lw_g (lw_at lw_m4 2 rfl) rfl
theorem q865 : (Jvm.Cond.classLink "TurningRoads$Parser" (112 : Nat) "TurningRoads$Not") ∈ lw_all := lw_g (lw_at lw_m4 3 rfl) rfl
theorem q867 : (Jvm.Cond.methodLink "TurningRoads$Parser" (118 : Nat) ({ cls := "TurningRoads$Not", name := "<init>", desc := "(LTurningRoads$Condition;)V" } : Jvm.MethodName)) ∈ lw_all := lw_g (lw_at lw_m4 5 rfl) rfl
theorem q878 : (Jvm.Cond.classLink "TurningRoads$Parser" (127 : Nat) "TurningRoads$Compared") ∈ lw_all := lw_g (lw_at lw_m4 16 rfl) rfl
theorem q880 : (Jvm.Cond.methodLink "TurningRoads$Parser" (129 : Nat) ({ cls := "TurningRoads$Compared", name := "<init>", desc := "(LTurningRoads$Value;LTurningRoads$Value;IZ)V" } : Jvm.MethodName)) ∈ lw_all := lw_g (lw_at lw_m4 18 rfl) rfl
theorem q897 : (Jvm.Cond.stringRef "TurningRoads$Parser" (132 : Nat) "and") ∈ lw_tbl := lw_at lw_m4 35 rfl
theorem q898 : (Jvm.Cond.classLink "TurningRoads$Parser" (137 : Nat) "TurningRoads$Both") ∈ lw_all := lw_g (lw_at lw_m4 36 rfl) rfl
theorem q900 : (Jvm.Cond.methodLink "TurningRoads$Parser" (139 : Nat) ({ cls := "TurningRoads$Both", name := "<init>", desc := "(LTurningRoads$Condition;LTurningRoads$Condition;Z)V" } : Jvm.MethodName)) ∈ lw_all := lw_g (lw_at lw_m4 38 rfl) rfl
theorem q914 : (Jvm.Cond.stringRef "TurningRoads$Parser" (145 : Nat) "or") ∈ lw_tbl := lw_at lw_m4 52 rfl
theorem q915 : (Jvm.Cond.methodLinkNest "TurningRoads$Parser" (154 : Nat) ({ cls := "TurningRoads$Told", name := "<init>", desc := "(ILTurningRoads$Value;LTurningRoads$Condition;)V" } : Jvm.MethodName) "TurningRoads") ∈ lw_tbl := lw_at lw_m4 53 rfl
theorem q933 : (Jvm.Cond.stringRef "TurningRoads$Parser" (197 : Nat) "wait") ∈ lw_tbl := lw_at lw_m4 71 rfl
theorem q1988 : (Jvm.Cond.castable "TurningRoads$Parser" "java/lang/Object") ∈ lw_tbl := lw_at lw_m8 166 rfl
theorem in_X4 : ∀ w ∈ wsX40, w ∈ lw_all := lw_in wsX40 [470, 472, 474, 476, 478, 480, 482] (by decide +kernel) (by decide +kernel)

/-! TurningRoads$Way -/
def RX5 : String := "TurningRoads$Way"
def TX5 : u_T := fun k => match k with
  | 0 => ("TurningRoads$Way", "one", "I", true)
  | 1 => ("TurningRoads$Way", "other", "I", true)
  | 2 => ("TurningRoads$Way", "minutes", "I", true)
  | 3 => ("TurningRoads$Way", "gone", "I", false)
  | 4 => ("TurningRoads$Way", "last", "I", false)
  | _ => ("TurningRoads$Way", "isTurned", "Z", false)
def tyX5 : Nat → FieldType := fun k => match k with
  | 0 => .int
  | 1 => .int
  | 2 => .int
  | 3 => .int
  | 4 => .int
  | _ => .boolean
abbrev wsX50 : List Cond := u_ws RX5 TX5 6
theorem nmX5 : ∀ a, a < 6 → ∀ b, b < 6 → a ≠ b → (TX5 a).2.1 ≠ (TX5 b).2.1 := by decide +kernel
theorem tyX5_ok : ∀ k, k < 6 → parseFieldDescriptor (TX5 k).2.2.1 = some (tyX5 k) := by decide +kernel
abbrev cX5_init : ByteArray := prog_16_method_1_code
def yX5_init : MethodName := ⟨RX5, "<init>", "(III)V"⟩
def dkwX5_init_0 : List UInt8 := [42, 183, 0, 1, 42, 27, 181, 0, 7, 42, 28, 181, 0, 13, 42, 29, 181, 0, 16, 177]
abbrev dktX5_init_0 : List UInt8 := dkwX5_init_0 ++ []
theorem dksX5_init_0 : cX5_init.data.toList.drop 0 = dktX5_init_0 := by decide +kernel
theorem dX5_init_0 : decode cX5_init 0 = .ok (.aload_n 0, 1) := dk_42 (dk_at dksX5_init_0 0 rfl rfl)
theorem dX5_init_1 : decode cX5_init 1 = .ok (.invokespecial 1, 3) := dk_183 0 1 (dk_at dksX5_init_0 1 rfl rfl)
theorem dX5_init_4 : decode cX5_init 4 = .ok (.aload_n 0, 1) := dk_42 (dk_at dksX5_init_0 4 rfl rfl)
theorem dX5_init_5 : decode cX5_init 5 = .ok (.iload_n 1, 1) := dk_27 (dk_at dksX5_init_0 5 rfl rfl)
theorem dX5_init_6 : decode cX5_init 6 = .ok (.putfield 7, 3) := dk_181 0 7 (dk_at dksX5_init_0 6 rfl rfl)
theorem dX5_init_9 : decode cX5_init 9 = .ok (.aload_n 0, 1) := dk_42 (dk_at dksX5_init_0 9 rfl rfl)
theorem dX5_init_10 : decode cX5_init 10 = .ok (.iload_n 2, 1) := dk_28 (dk_at dksX5_init_0 10 rfl rfl)
theorem dX5_init_11 : decode cX5_init 11 = .ok (.putfield 13, 3) := dk_181 0 13 (dk_at dksX5_init_0 11 rfl rfl)
theorem dX5_init_14 : decode cX5_init 14 = .ok (.aload_n 0, 1) := dk_42 (dk_at dksX5_init_0 14 rfl rfl)
theorem dX5_init_15 : decode cX5_init 15 = .ok (.iload_n 3, 1) := dk_29 (dk_at dksX5_init_0 15 rfl rfl)
theorem dX5_init_16 : decode cX5_init 16 = .ok (.putfield 16, 3) := dk_181 0 16 (dk_at dksX5_init_0 16 rfl rfl)
theorem dX5_init_19 : decode cX5_init 19 = .ok (.return_, 1) := dk_177 (dk_at dksX5_init_0 19 rfl rfl)
abbrev cX5_from : ByteArray := prog_16_method_2_code
def yX5_from : MethodName := ⟨RX5, "from", "()I"⟩
def dkwX5_from_0 : List UInt8 := [42, 180, 0, 19, 153, 0, 10, 42, 180, 0, 13, 167, 0, 7, 42, 180, 0, 7, 172]
abbrev dktX5_from_0 : List UInt8 := dkwX5_from_0 ++ []
theorem dksX5_from_0 : cX5_from.data.toList.drop 0 = dktX5_from_0 := by decide +kernel
theorem dX5_from_0 : decode cX5_from 0 = .ok (.aload_n 0, 1) := dk_42 (dk_at dksX5_from_0 0 rfl rfl)
theorem dX5_from_1 : decode cX5_from 1 = .ok (.getfield 19, 3) := dk_180 0 19 (dk_at dksX5_from_0 1 rfl rfl)
theorem dX5_from_4 : decode cX5_from 4 = .ok (.ifCond .eq 10, 3) := dk_153 0 10 (dk_at dksX5_from_0 4 rfl rfl)
theorem dX5_from_7 : decode cX5_from 7 = .ok (.aload_n 0, 1) := dk_42 (dk_at dksX5_from_0 7 rfl rfl)
theorem dX5_from_8 : decode cX5_from 8 = .ok (.getfield 13, 3) := dk_180 0 13 (dk_at dksX5_from_0 8 rfl rfl)
theorem dX5_from_11 : decode cX5_from 11 = .ok (.goto 7, 3) := dk_167 0 7 (dk_at dksX5_from_0 11 rfl rfl)
theorem dX5_from_14 : decode cX5_from 14 = .ok (.aload_n 0, 1) := dk_42 (dk_at dksX5_from_0 14 rfl rfl)
theorem dX5_from_15 : decode cX5_from 15 = .ok (.getfield 7, 3) := dk_180 0 7 (dk_at dksX5_from_0 15 rfl rfl)
theorem dX5_from_18 : decode cX5_from 18 = .ok (.ireturn, 1) := dk_172 (dk_at dksX5_from_0 18 rfl rfl)
abbrev cX5_to : ByteArray := prog_16_method_3_code
def yX5_to : MethodName := ⟨RX5, "to", "()I"⟩
def dkwX5_to_0 : List UInt8 := [42, 180, 0, 19, 153, 0, 10, 42, 180, 0, 7, 167, 0, 7, 42, 180, 0, 13, 172]
abbrev dktX5_to_0 : List UInt8 := dkwX5_to_0 ++ []
theorem dksX5_to_0 : cX5_to.data.toList.drop 0 = dktX5_to_0 := by decide +kernel
theorem dX5_to_0 : decode cX5_to 0 = .ok (.aload_n 0, 1) := dk_42 (dk_at dksX5_to_0 0 rfl rfl)
theorem dX5_to_1 : decode cX5_to 1 = .ok (.getfield 19, 3) := dk_180 0 19 (dk_at dksX5_to_0 1 rfl rfl)
theorem dX5_to_4 : decode cX5_to 4 = .ok (.ifCond .eq 10, 3) := dk_153 0 10 (dk_at dksX5_to_0 4 rfl rfl)
theorem dX5_to_7 : decode cX5_to 7 = .ok (.aload_n 0, 1) := dk_42 (dk_at dksX5_to_0 7 rfl rfl)
theorem dX5_to_8 : decode cX5_to 8 = .ok (.getfield 7, 3) := dk_180 0 7 (dk_at dksX5_to_0 8 rfl rfl)
theorem dX5_to_11 : decode cX5_to 11 = .ok (.goto 7, 3) := dk_167 0 7 (dk_at dksX5_to_0 11 rfl rfl)
theorem dX5_to_14 : decode cX5_to 14 = .ok (.aload_n 0, 1) := dk_42 (dk_at dksX5_to_0 14 rfl rfl)
theorem dX5_to_15 : decode cX5_to 15 = .ok (.getfield 13, 3) := dk_180 0 13 (dk_at dksX5_to_0 15 rfl rfl)
theorem dX5_to_18 : decode cX5_to 18 = .ok (.ireturn, 1) := dk_172 (dk_at dksX5_to_0 18 rfl rfl)
abbrev cX5_from_2 : ByteArray := prog_16_method_4_code
def yX5_from_2 : MethodName := ⟨RX5, "from", "(I)I"⟩
def dkwX5_from_2_0 : List UInt8 := [27, 4, 160, 0, 10, 42, 180, 0, 13, 167, 0, 7, 42, 180, 0, 7, 172]
abbrev dktX5_from_2_0 : List UInt8 := dkwX5_from_2_0 ++ []
theorem dksX5_from_2_0 : cX5_from_2.data.toList.drop 0 = dktX5_from_2_0 := by decide +kernel
theorem dX5_from_2_0 : decode cX5_from_2 0 = .ok (.iload_n 1, 1) := dk_27 (dk_at dksX5_from_2_0 0 rfl rfl)
theorem dX5_from_2_1 : decode cX5_from_2 1 = .ok (.iconst 1, 1) := dk_4 (dk_at dksX5_from_2_0 1 rfl rfl)
theorem dX5_from_2_2 : decode cX5_from_2 2 = .ok (.if_icmp .ne 10, 3) := dk_160 0 10 (dk_at dksX5_from_2_0 2 rfl rfl)
theorem dX5_from_2_5 : decode cX5_from_2 5 = .ok (.aload_n 0, 1) := dk_42 (dk_at dksX5_from_2_0 5 rfl rfl)
theorem dX5_from_2_6 : decode cX5_from_2 6 = .ok (.getfield 13, 3) := dk_180 0 13 (dk_at dksX5_from_2_0 6 rfl rfl)
theorem dX5_from_2_9 : decode cX5_from_2 9 = .ok (.goto 7, 3) := dk_167 0 7 (dk_at dksX5_from_2_0 9 rfl rfl)
theorem dX5_from_2_12 : decode cX5_from_2 12 = .ok (.aload_n 0, 1) := dk_42 (dk_at dksX5_from_2_0 12 rfl rfl)
theorem dX5_from_2_13 : decode cX5_from_2 13 = .ok (.getfield 7, 3) := dk_180 0 7 (dk_at dksX5_from_2_0 13 rfl rfl)
theorem dX5_from_2_16 : decode cX5_from_2 16 = .ok (.ireturn, 1) := dk_172 (dk_at dksX5_from_2_0 16 rfl rfl)
abbrev cX5_to_2 : ByteArray := prog_16_method_5_code
def yX5_to_2 : MethodName := ⟨RX5, "to", "(I)I"⟩
def dkwX5_to_2_0 : List UInt8 := [27, 4, 160, 0, 10, 42, 180, 0, 7, 167, 0, 7, 42, 180, 0, 13, 172]
abbrev dktX5_to_2_0 : List UInt8 := dkwX5_to_2_0 ++ []
theorem dksX5_to_2_0 : cX5_to_2.data.toList.drop 0 = dktX5_to_2_0 := by decide +kernel
theorem dX5_to_2_0 : decode cX5_to_2 0 = .ok (.iload_n 1, 1) := dk_27 (dk_at dksX5_to_2_0 0 rfl rfl)
theorem dX5_to_2_1 : decode cX5_to_2 1 = .ok (.iconst 1, 1) := dk_4 (dk_at dksX5_to_2_0 1 rfl rfl)
theorem dX5_to_2_2 : decode cX5_to_2 2 = .ok (.if_icmp .ne 10, 3) := dk_160 0 10 (dk_at dksX5_to_2_0 2 rfl rfl)
theorem dX5_to_2_5 : decode cX5_to_2 5 = .ok (.aload_n 0, 1) := dk_42 (dk_at dksX5_to_2_0 5 rfl rfl)
theorem dX5_to_2_6 : decode cX5_to_2 6 = .ok (.getfield 7, 3) := dk_180 0 7 (dk_at dksX5_to_2_0 6 rfl rfl)
theorem dX5_to_2_9 : decode cX5_to_2 9 = .ok (.goto 7, 3) := dk_167 0 7 (dk_at dksX5_to_2_0 9 rfl rfl)
theorem dX5_to_2_12 : decode cX5_to_2 12 = .ok (.aload_n 0, 1) := dk_42 (dk_at dksX5_to_2_0 12 rfl rfl)
theorem dX5_to_2_13 : decode cX5_to_2 13 = .ok (.getfield 13, 3) := dk_180 0 13 (dk_at dksX5_to_2_0 13 rfl rfl)
theorem dX5_to_2_16 : decode cX5_to_2 16 = .ok (.ireturn, 1) := dk_172 (dk_at dksX5_to_2_0 16 rfl rfl)
theorem q157 : (Jvm.Cond.initialized "TurningRoads$Way") ∈ lw_all := lw_g (lw_at lw_m1 15 rfl) rfl
theorem q586 : (Jvm.Cond.instantiable "TurningRoads$Way" (6 : Nat)) ∈ lw_all := lw_g (lw_at lw_m2 204 rfl) rfl
theorem q588 : (Jvm.Cond.instanceMethod ({ cls := "TurningRoads$Way", name := "<init>", desc := "(III)V" } : Jvm.MethodName)) ∈ lw_all := lw_g (lw_at lw_m2 206 rfl) rfl
theorem q589 : (Jvm.Cond.code ({ cls := "TurningRoads$Way", name := "<init>", desc := "(III)V" } : Jvm.MethodName) prog_16_method_1_code (4 : Nat) (Option.none : Option Jvm.ClassFile.FieldType)) ∈ lw_all := lw_g (lw_at lw_m2 207 rfl) rfl
theorem q590 : (Jvm.Cond.methodLink "TurningRoads$Way" (1 : Nat) ({ cls := "java/lang/Object", name := "<init>", desc := "()V" } : Jvm.MethodName)) ∈ lw_all := lw_g (lw_at lw_m2 208 rfl) rfl
theorem q591 : (Jvm.Cond.fieldLink "TurningRoads$Way" (7 : Nat) "TurningRoads$Way" "one" "I") ∈ lw_all := lw_g (lw_at lw_m2 209 rfl) rfl
theorem q592 : (Jvm.Cond.fieldLink "TurningRoads$Way" (13 : Nat) "TurningRoads$Way" "other" "I") ∈ lw_all := lw_g (lw_at lw_m2 210 rfl) rfl
theorem q593 : (Jvm.Cond.fieldLink "TurningRoads$Way" (16 : Nat) "TurningRoads$Way" "minutes" "I") ∈ lw_all := lw_g (lw_at lw_m2 211 rfl) rfl
theorem q599 : (Jvm.Cond.fieldLink "TurningRoads$Way" (19 : Nat) "TurningRoads$Way" "isTurned" "Z") ∈ lw_all := lw_g (lw_at lw_m2 217 rfl) rfl
theorem q601 : (Jvm.Cond.laysFinal "TurningRoads$Way" "TurningRoads$Way" "one" "I") ∈ lw_all := lw_g (lw_at lw_m2 219 rfl) rfl
theorem q602 : (Jvm.Cond.soleField "TurningRoads$Way" "one") ∈ lw_all := lw_g (lw_at lw_m2 220 rfl) rfl
theorem q603 : (Jvm.Cond.laysFinal "TurningRoads$Way" "TurningRoads$Way" "other" "I") ∈ lw_all := lw_g (lw_at lw_m2 221 rfl) rfl
theorem q604 : (Jvm.Cond.soleField "TurningRoads$Way" "other") ∈ lw_all := lw_g (lw_at lw_m2 222 rfl) rfl
theorem q605 : (Jvm.Cond.laysFinal "TurningRoads$Way" "TurningRoads$Way" "minutes" "I") ∈ lw_all := lw_g (lw_at lw_m2 223 rfl) rfl
theorem q606 : (Jvm.Cond.soleField "TurningRoads$Way" "minutes") ∈ lw_all := lw_g (lw_at lw_m2 224 rfl) rfl
theorem q607 : (Jvm.Cond.lays "TurningRoads$Way" "TurningRoads$Way" "gone" "I") ∈ lw_all := lw_g (lw_at lw_m2 225 rfl) rfl
theorem q608 : (Jvm.Cond.soleField "TurningRoads$Way" "gone") ∈ lw_all := lw_g (lw_at lw_m2 226 rfl) rfl
theorem q609 : (Jvm.Cond.lays "TurningRoads$Way" "TurningRoads$Way" "last" "I") ∈ lw_all := lw_g (lw_at lw_m2 227 rfl) rfl
theorem q610 : (Jvm.Cond.soleField "TurningRoads$Way" "last") ∈ lw_all := lw_g (lw_at lw_m2 228 rfl) rfl
theorem q611 : (Jvm.Cond.lays "TurningRoads$Way" "TurningRoads$Way" "isTurned" "Z") ∈ lw_all := lw_g (lw_at lw_m2 229 rfl) rfl
theorem q612 : (Jvm.Cond.soleField "TurningRoads$Way" "isTurned") ∈ lw_all := lw_g (lw_at lw_m2 230 rfl) rfl
theorem q613 : (Jvm.Cond.superclass "TurningRoads$Way" "java/lang/Object") ∈ lw_all := lw_g (lw_at lw_m2 231 rfl) rfl
theorem q661 : (Jvm.Cond.selects "TurningRoads$Way" ({ cls := "java/lang/Object", name := "getClass", desc := "()Ljava/lang/Class;" } : Jvm.MethodName) ({ cls := "java/lang/Object", name := "getClass", desc := "()Ljava/lang/Class;" } : Jvm.MethodName)) ∈ lw_all := lw_g (lw_at lw_m3 39 rfl) rfl
theorem q945 : (Jvm.Cond.instanceMethod ({ cls := "TurningRoads$Way", name := "from", desc := "()I" } : Jvm.MethodName)) ∈ lw_all := lw_g (lw_at lw_m4 83 rfl) rfl
theorem q946 : (Jvm.Cond.selects "TurningRoads$Way" ({ cls := "TurningRoads$Way", name := "from", desc := "()I" } : Jvm.MethodName) ({ cls := "TurningRoads$Way", name := "from", desc := "()I" } : Jvm.MethodName)) ∈ lw_all := lw_g (lw_at lw_m4 84 rfl) rfl
theorem q947 : (Jvm.Cond.code ({ cls := "TurningRoads$Way", name := "from", desc := "()I" } : Jvm.MethodName) prog_16_method_2_code (1 : Nat) (Option.some Jvm.ClassFile.FieldType.int)) ∈ lw_all := lw_g (lw_at lw_m4 85 rfl) rfl
theorem q949 : (Jvm.Cond.instanceMethod ({ cls := "TurningRoads$Way", name := "to", desc := "()I" } : Jvm.MethodName)) ∈ lw_all := lw_g (lw_at lw_m4 87 rfl) rfl
theorem q950 : (Jvm.Cond.selects "TurningRoads$Way" ({ cls := "TurningRoads$Way", name := "to", desc := "()I" } : Jvm.MethodName) ({ cls := "TurningRoads$Way", name := "to", desc := "()I" } : Jvm.MethodName)) ∈ lw_all := lw_g (lw_at lw_m4 88 rfl) rfl
theorem q951 : (Jvm.Cond.code ({ cls := "TurningRoads$Way", name := "to", desc := "()I" } : Jvm.MethodName) prog_16_method_3_code (1 : Nat) (Option.some Jvm.ClassFile.FieldType.int)) ∈ lw_all := lw_g (lw_at lw_m4 89 rfl) rfl
theorem q1058 : (Jvm.Cond.instanceMethod ({ cls := "TurningRoads$Way", name := "from", desc := "(I)I" } : Jvm.MethodName)) ∈ lw_all := lw_g (lw_at lw_m4 196 rfl) rfl
theorem q1059 : (Jvm.Cond.selects "TurningRoads$Way" ({ cls := "TurningRoads$Way", name := "from", desc := "(I)I" } : Jvm.MethodName) ({ cls := "TurningRoads$Way", name := "from", desc := "(I)I" } : Jvm.MethodName)) ∈ lw_all := lw_g (lw_at lw_m4 197 rfl) rfl
theorem q1060 : (Jvm.Cond.code ({ cls := "TurningRoads$Way", name := "from", desc := "(I)I" } : Jvm.MethodName) prog_16_method_4_code (2 : Nat) (Option.some Jvm.ClassFile.FieldType.int)) ∈ lw_all := lw_g (lw_at lw_m4 198 rfl) rfl
theorem q1066 : (Jvm.Cond.instanceMethod ({ cls := "TurningRoads$Way", name := "to", desc := "(I)I" } : Jvm.MethodName)) ∈ lw_all := lw_g (lw_at lw_m4 204 rfl) rfl
theorem q1067 : (Jvm.Cond.selects "TurningRoads$Way" ({ cls := "TurningRoads$Way", name := "to", desc := "(I)I" } : Jvm.MethodName) ({ cls := "TurningRoads$Way", name := "to", desc := "(I)I" } : Jvm.MethodName)) ∈ lw_all := lw_g (lw_at lw_m4 205 rfl) rfl
theorem q1068 : (Jvm.Cond.code ({ cls := "TurningRoads$Way", name := "to", desc := "(I)I" } : Jvm.MethodName) prog_16_method_5_code (2 : Nat) (Option.some Jvm.ClassFile.FieldType.int)) ∈ lw_all := lw_g (lw_at lw_m4 206 rfl) rfl
theorem q1989 : (Jvm.Cond.castable "TurningRoads$Way" "java/lang/Object") ∈ lw_tbl := lw_at lw_m8 167 rfl
theorem in_X5 : ∀ w ∈ wsX50, w ∈ lw_all := lw_in wsX50 [601, 603, 605, 607, 609, 611] (by decide +kernel) (by decide +kernel)

/-! TurningRoads$Goer -/
def RX6 : String := "TurningRoads$Goer"
def TX6 : u_T := fun k => match k with
  | 0 => ("TurningRoads$Goer", "aim", "I", true)
  | 1 => ("TurningRoads$Goer", "leaves", "I", true)
  | 2 => ("TurningRoads$Goer", "place", "I", false)
  | 3 => ("TurningRoads$Goer", "way", "I", false)
  | 4 => ("TurningRoads$Goer", "minutes", "I", false)
  | 5 => ("TurningRoads$Goer", "to", "I", false)
  | 6 => ("TurningRoads$Goer", "home", "I", false)
  | _ => ("TurningRoads$Goer", "later", "I", false)
def tyX6 : Nat → FieldType := fun k => match k with
  | 0 => .int
  | 1 => .int
  | 2 => .int
  | 3 => .int
  | 4 => .int
  | 5 => .int
  | 6 => .int
  | _ => .int
abbrev wsX60 : List Cond := u_ws RX6 TX6 8
theorem nmX6 : ∀ a, a < 8 → ∀ b, b < 8 → a ≠ b → (TX6 a).2.1 ≠ (TX6 b).2.1 := by decide +kernel
theorem tyX6_ok : ∀ k, k < 8 → parseFieldDescriptor (TX6 k).2.2.1 = some (tyX6 k) := by decide +kernel
abbrev cX6_init : ByteArray := prog_6_method_1_code
def yX6_init : MethodName := ⟨RX6, "<init>", "(III)V"⟩
def dkwX6_init_1 : List UInt8 := [42, 28, 181, 0, 24, 42, 29, 181, 0, 27, 177]
abbrev dktX6_init_1 : List UInt8 := dkwX6_init_1 ++ []
def dkwX6_init_0 : List UInt8 := [42, 183, 0, 3, 42, 2, 181, 0, 9, 42, 2, 181, 0, 15, 42, 2, 181, 0, 18, 42, 27, 181, 0, 21]
abbrev dktX6_init_0 : List UInt8 := dkwX6_init_0 ++ dktX6_init_1
theorem dksX6_init_0 : cX6_init.data.toList.drop 0 = dktX6_init_0 := by decide +kernel
theorem dksX6_init_1 : cX6_init.data.toList.drop 24 = dktX6_init_1 := dk_seg dksX6_init_0 24 rfl rfl
theorem dX6_init_0 : decode cX6_init 0 = .ok (.aload_n 0, 1) := dk_42 (dk_at dksX6_init_0 0 rfl rfl)
theorem dX6_init_1 : decode cX6_init 1 = .ok (.invokespecial 3, 3) := dk_183 0 3 (dk_at dksX6_init_0 1 rfl rfl)
theorem dX6_init_4 : decode cX6_init 4 = .ok (.aload_n 0, 1) := dk_42 (dk_at dksX6_init_0 4 rfl rfl)
theorem dX6_init_5 : decode cX6_init 5 = .ok (.iconst (-1), 1) := dk_2 (dk_at dksX6_init_0 5 rfl rfl)
theorem dX6_init_6 : decode cX6_init 6 = .ok (.putfield 9, 3) := dk_181 0 9 (dk_at dksX6_init_0 6 rfl rfl)
theorem dX6_init_9 : decode cX6_init 9 = .ok (.aload_n 0, 1) := dk_42 (dk_at dksX6_init_0 9 rfl rfl)
theorem dX6_init_10 : decode cX6_init 10 = .ok (.iconst (-1), 1) := dk_2 (dk_at dksX6_init_0 10 rfl rfl)
theorem dX6_init_11 : decode cX6_init 11 = .ok (.putfield 15, 3) := dk_181 0 15 (dk_at dksX6_init_0 11 rfl rfl)
theorem dX6_init_14 : decode cX6_init 14 = .ok (.aload_n 0, 1) := dk_42 (dk_at dksX6_init_0 14 rfl rfl)
theorem dX6_init_15 : decode cX6_init 15 = .ok (.iconst (-1), 1) := dk_2 (dk_at dksX6_init_0 15 rfl rfl)
theorem dX6_init_16 : decode cX6_init 16 = .ok (.putfield 18, 3) := dk_181 0 18 (dk_at dksX6_init_0 16 rfl rfl)
theorem dX6_init_19 : decode cX6_init 19 = .ok (.aload_n 0, 1) := dk_42 (dk_at dksX6_init_0 19 rfl rfl)
theorem dX6_init_20 : decode cX6_init 20 = .ok (.iload_n 1, 1) := dk_27 (dk_at dksX6_init_0 20 rfl rfl)
theorem dX6_init_21 : decode cX6_init 21 = .ok (.putfield 21, 3) := dk_181 0 21 (dk_at dksX6_init_0 21 rfl rfl)
theorem dX6_init_24 : decode cX6_init 24 = .ok (.aload_n 0, 1) := dk_42 (dk_at dksX6_init_1 0 rfl rfl)
theorem dX6_init_25 : decode cX6_init 25 = .ok (.iload_n 2, 1) := dk_28 (dk_at dksX6_init_1 1 rfl rfl)
theorem dX6_init_26 : decode cX6_init 26 = .ok (.putfield 24, 3) := dk_181 0 24 (dk_at dksX6_init_1 2 rfl rfl)
theorem dX6_init_29 : decode cX6_init 29 = .ok (.aload_n 0, 1) := dk_42 (dk_at dksX6_init_1 5 rfl rfl)
theorem dX6_init_30 : decode cX6_init 30 = .ok (.iload_n 3, 1) := dk_29 (dk_at dksX6_init_1 6 rfl rfl)
theorem dX6_init_31 : decode cX6_init 31 = .ok (.putfield 27, 3) := dk_181 0 27 (dk_at dksX6_init_1 7 rfl rfl)
theorem dX6_init_34 : decode cX6_init 34 = .ok (.return_, 1) := dk_177 (dk_at dksX6_init_1 10 rfl rfl)
abbrev cX6_stands : ByteArray := prog_6_method_4_code
def yX6_stands : MethodName := ⟨RX6, "stands", "(I)V"⟩
def dkwX6_stands_0 : List UInt8 := [42, 180, 0, 18, 2, 160, 0, 15, 42, 182, 0, 34, 153, 0, 8, 42, 27, 181, 0, 18, 177]
abbrev dktX6_stands_0 : List UInt8 := dkwX6_stands_0 ++ []
theorem dksX6_stands_0 : cX6_stands.data.toList.drop 0 = dktX6_stands_0 := by decide +kernel
theorem dX6_stands_0 : decode cX6_stands 0 = .ok (.aload_n 0, 1) := dk_42 (dk_at dksX6_stands_0 0 rfl rfl)
theorem dX6_stands_1 : decode cX6_stands 1 = .ok (.getfield 18, 3) := dk_180 0 18 (dk_at dksX6_stands_0 1 rfl rfl)
theorem dX6_stands_4 : decode cX6_stands 4 = .ok (.iconst (-1), 1) := dk_2 (dk_at dksX6_stands_0 4 rfl rfl)
theorem dX6_stands_5 : decode cX6_stands 5 = .ok (.if_icmp .ne 15, 3) := dk_160 0 15 (dk_at dksX6_stands_0 5 rfl rfl)
theorem dX6_stands_8 : decode cX6_stands 8 = .ok (.aload_n 0, 1) := dk_42 (dk_at dksX6_stands_0 8 rfl rfl)
theorem dX6_stands_9 : decode cX6_stands 9 = .ok (.invokevirtual 34, 3) := dk_182 0 34 (dk_at dksX6_stands_0 9 rfl rfl)
theorem dX6_stands_12 : decode cX6_stands 12 = .ok (.ifCond .eq 8, 3) := dk_153 0 8 (dk_at dksX6_stands_0 12 rfl rfl)
theorem dX6_stands_15 : decode cX6_stands 15 = .ok (.aload_n 0, 1) := dk_42 (dk_at dksX6_stands_0 15 rfl rfl)
theorem dX6_stands_16 : decode cX6_stands 16 = .ok (.iload_n 1, 1) := dk_27 (dk_at dksX6_stands_0 16 rfl rfl)
theorem dX6_stands_17 : decode cX6_stands 17 = .ok (.putfield 18, 3) := dk_181 0 18 (dk_at dksX6_stands_0 17 rfl rfl)
theorem dX6_stands_20 : decode cX6_stands 20 = .ok (.return_, 1) := dk_177 (dk_at dksX6_stands_0 20 rfl rfl)
abbrev cX6_isThere : ByteArray := prog_6_method_3_code
def yX6_isThere : MethodName := ⟨RX6, "isThere", "()Z"⟩
def dkwX6_isThere_0 : List UInt8 := [42, 182, 0, 30, 153, 0, 18, 42, 180, 0, 21, 42, 180, 0, 24, 160, 0, 7, 4, 167, 0, 4, 3, 172]
abbrev dktX6_isThere_0 : List UInt8 := dkwX6_isThere_0 ++ []
theorem dksX6_isThere_0 : cX6_isThere.data.toList.drop 0 = dktX6_isThere_0 := by decide +kernel
theorem dX6_isThere_0 : decode cX6_isThere 0 = .ok (.aload_n 0, 1) := dk_42 (dk_at dksX6_isThere_0 0 rfl rfl)
theorem dX6_isThere_1 : decode cX6_isThere 1 = .ok (.invokevirtual 30, 3) := dk_182 0 30 (dk_at dksX6_isThere_0 1 rfl rfl)
theorem dX6_isThere_4 : decode cX6_isThere 4 = .ok (.ifCond .eq 18, 3) := dk_153 0 18 (dk_at dksX6_isThere_0 4 rfl rfl)
theorem dX6_isThere_7 : decode cX6_isThere 7 = .ok (.aload_n 0, 1) := dk_42 (dk_at dksX6_isThere_0 7 rfl rfl)
theorem dX6_isThere_8 : decode cX6_isThere 8 = .ok (.getfield 21, 3) := dk_180 0 21 (dk_at dksX6_isThere_0 8 rfl rfl)
theorem dX6_isThere_11 : decode cX6_isThere 11 = .ok (.aload_n 0, 1) := dk_42 (dk_at dksX6_isThere_0 11 rfl rfl)
theorem dX6_isThere_12 : decode cX6_isThere 12 = .ok (.getfield 24, 3) := dk_180 0 24 (dk_at dksX6_isThere_0 12 rfl rfl)
theorem dX6_isThere_15 : decode cX6_isThere 15 = .ok (.if_icmp .ne 7, 3) := dk_160 0 7 (dk_at dksX6_isThere_0 15 rfl rfl)
theorem dX6_isThere_18 : decode cX6_isThere 18 = .ok (.iconst 1, 1) := dk_4 (dk_at dksX6_isThere_0 18 rfl rfl)
theorem dX6_isThere_19 : decode cX6_isThere 19 = .ok (.goto 4, 3) := dk_167 0 4 (dk_at dksX6_isThere_0 19 rfl rfl)
theorem dX6_isThere_22 : decode cX6_isThere 22 = .ok (.iconst 0, 1) := dk_3 (dk_at dksX6_isThere_0 22 rfl rfl)
theorem dX6_isThere_23 : decode cX6_isThere 23 = .ok (.ireturn, 1) := dk_172 (dk_at dksX6_isThere_0 23 rfl rfl)
abbrev cX6_stands_2 : ByteArray := prog_6_method_2_code
def yX6_stands_2 : MethodName := ⟨RX6, "stands", "()Z"⟩
def dkwX6_stands_2_0 : List UInt8 := [42, 180, 0, 9, 2, 160, 0, 7, 4, 167, 0, 4, 3, 172]
abbrev dktX6_stands_2_0 : List UInt8 := dkwX6_stands_2_0 ++ []
theorem dksX6_stands_2_0 : cX6_stands_2.data.toList.drop 0 = dktX6_stands_2_0 := by decide +kernel
theorem dX6_stands_2_0 : decode cX6_stands_2 0 = .ok (.aload_n 0, 1) := dk_42 (dk_at dksX6_stands_2_0 0 rfl rfl)
theorem dX6_stands_2_1 : decode cX6_stands_2 1 = .ok (.getfield 9, 3) := dk_180 0 9 (dk_at dksX6_stands_2_0 1 rfl rfl)
theorem dX6_stands_2_4 : decode cX6_stands_2 4 = .ok (.iconst (-1), 1) := dk_2 (dk_at dksX6_stands_2_0 4 rfl rfl)
theorem dX6_stands_2_5 : decode cX6_stands_2 5 = .ok (.if_icmp .ne 7, 3) := dk_160 0 7 (dk_at dksX6_stands_2_0 5 rfl rfl)
theorem dX6_stands_2_8 : decode cX6_stands_2 8 = .ok (.iconst 1, 1) := dk_4 (dk_at dksX6_stands_2_0 8 rfl rfl)
theorem dX6_stands_2_9 : decode cX6_stands_2 9 = .ok (.goto 4, 3) := dk_167 0 4 (dk_at dksX6_stands_2_0 9 rfl rfl)
theorem dX6_stands_2_12 : decode cX6_stands_2 12 = .ok (.iconst 0, 1) := dk_3 (dk_at dksX6_stands_2_0 12 rfl rfl)
theorem dX6_stands_2_13 : decode cX6_stands_2 13 = .ok (.ireturn, 1) := dk_172 (dk_at dksX6_stands_2_0 13 rfl rfl)
theorem q162 : (Jvm.Cond.initialized "TurningRoads$Goer") ∈ lw_all := lw_g (lw_at lw_m1 20 rfl) rfl
theorem q652 : (Jvm.Cond.selects "TurningRoads$Goer" ({ cls := "java/lang/Object", name := "getClass", desc := "()Ljava/lang/Class;" } : Jvm.MethodName) ({ cls := "java/lang/Object", name := "getClass", desc := "()Ljava/lang/Class;" } : Jvm.MethodName)) ∈ lw_all := lw_g (lw_at lw_m3 30 rfl) rfl
theorem q680 : (Jvm.Cond.instantiable "TurningRoads$Goer" (8 : Nat)) ∈ lw_all := lw_g (lw_at lw_m3 58 rfl) rfl
theorem q682 : (Jvm.Cond.instanceMethod ({ cls := "TurningRoads$Goer", name := "<init>", desc := "(III)V" } : Jvm.MethodName)) ∈ lw_all := lw_g (lw_at lw_m3 60 rfl) rfl
theorem q683 : (Jvm.Cond.code ({ cls := "TurningRoads$Goer", name := "<init>", desc := "(III)V" } : Jvm.MethodName) prog_6_method_1_code (4 : Nat) (Option.none : Option Jvm.ClassFile.FieldType)) ∈ lw_all := lw_g (lw_at lw_m3 61 rfl) rfl
theorem q684 : (Jvm.Cond.methodLink "TurningRoads$Goer" (3 : Nat) ({ cls := "java/lang/Object", name := "<init>", desc := "()V" } : Jvm.MethodName)) ∈ lw_all := lw_g (lw_at lw_m3 62 rfl) rfl
theorem q685 : (Jvm.Cond.fieldLink "TurningRoads$Goer" (24 : Nat) "TurningRoads$Goer" "aim" "I") ∈ lw_all := lw_g (lw_at lw_m3 63 rfl) rfl
theorem q687 : (Jvm.Cond.fieldLink "TurningRoads$Goer" (27 : Nat) "TurningRoads$Goer" "leaves" "I") ∈ lw_all := lw_g (lw_at lw_m3 65 rfl) rfl
theorem q689 : (Jvm.Cond.fieldLink "TurningRoads$Goer" (21 : Nat) "TurningRoads$Goer" "place" "I") ∈ lw_all := lw_g (lw_at lw_m3 67 rfl) rfl
theorem q692 : (Jvm.Cond.fieldLink "TurningRoads$Goer" (9 : Nat) "TurningRoads$Goer" "way" "I") ∈ lw_all := lw_g (lw_at lw_m3 70 rfl) rfl
theorem q697 : (Jvm.Cond.fieldLink "TurningRoads$Goer" (15 : Nat) "TurningRoads$Goer" "to" "I") ∈ lw_all := lw_g (lw_at lw_m3 75 rfl) rfl
theorem q700 : (Jvm.Cond.fieldLink "TurningRoads$Goer" (18 : Nat) "TurningRoads$Goer" "home" "I") ∈ lw_all := lw_g (lw_at lw_m3 78 rfl) rfl
theorem q704 : (Jvm.Cond.laysFinal "TurningRoads$Goer" "TurningRoads$Goer" "aim" "I") ∈ lw_all := lw_g (lw_at lw_m3 82 rfl) rfl
theorem q705 : (Jvm.Cond.soleField "TurningRoads$Goer" "aim") ∈ lw_all := lw_g (lw_at lw_m3 83 rfl) rfl
theorem q706 : (Jvm.Cond.laysFinal "TurningRoads$Goer" "TurningRoads$Goer" "leaves" "I") ∈ lw_all := lw_g (lw_at lw_m3 84 rfl) rfl
theorem q707 : (Jvm.Cond.soleField "TurningRoads$Goer" "leaves") ∈ lw_all := lw_g (lw_at lw_m3 85 rfl) rfl
theorem q708 : (Jvm.Cond.lays "TurningRoads$Goer" "TurningRoads$Goer" "place" "I") ∈ lw_all := lw_g (lw_at lw_m3 86 rfl) rfl
theorem q709 : (Jvm.Cond.soleField "TurningRoads$Goer" "place") ∈ lw_all := lw_g (lw_at lw_m3 87 rfl) rfl
theorem q710 : (Jvm.Cond.lays "TurningRoads$Goer" "TurningRoads$Goer" "way" "I") ∈ lw_all := lw_g (lw_at lw_m3 88 rfl) rfl
theorem q711 : (Jvm.Cond.soleField "TurningRoads$Goer" "way") ∈ lw_all := lw_g (lw_at lw_m3 89 rfl) rfl
theorem q712 : (Jvm.Cond.lays "TurningRoads$Goer" "TurningRoads$Goer" "minutes" "I") ∈ lw_all := lw_g (lw_at lw_m3 90 rfl) rfl
theorem q713 : (Jvm.Cond.soleField "TurningRoads$Goer" "minutes") ∈ lw_all := lw_g (lw_at lw_m3 91 rfl) rfl
theorem q714 : (Jvm.Cond.lays "TurningRoads$Goer" "TurningRoads$Goer" "to" "I") ∈ lw_all := lw_g (lw_at lw_m3 92 rfl) rfl
theorem q715 : (Jvm.Cond.soleField "TurningRoads$Goer" "to") ∈ lw_all := lw_g (lw_at lw_m3 93 rfl) rfl
theorem q716 : (Jvm.Cond.lays "TurningRoads$Goer" "TurningRoads$Goer" "home" "I") ∈ lw_all := lw_g (lw_at lw_m3 94 rfl) rfl
theorem q717 : (Jvm.Cond.soleField "TurningRoads$Goer" "home") ∈ lw_all := lw_g (lw_at lw_m3 95 rfl) rfl
theorem q718 : (Jvm.Cond.lays "TurningRoads$Goer" "TurningRoads$Goer" "later" "I") ∈ lw_all := lw_g (lw_at lw_m3 96 rfl) rfl
theorem q719 : (Jvm.Cond.soleField "TurningRoads$Goer" "later") ∈ lw_all := lw_g (lw_at lw_m3 97 rfl) rfl
theorem q720 : (Jvm.Cond.superclass "TurningRoads$Goer" "java/lang/Object") ∈ lw_all := lw_g (lw_at lw_m3 98 rfl) rfl
theorem q740 : (Jvm.Cond.instanceMethod ({ cls := "TurningRoads$Goer", name := "stands", desc := "(I)V" } : Jvm.MethodName)) ∈ lw_all := lw_g (lw_at lw_m3 118 rfl) rfl
theorem q741 : (Jvm.Cond.selects "TurningRoads$Goer" ({ cls := "TurningRoads$Goer", name := "stands", desc := "(I)V" } : Jvm.MethodName) ({ cls := "TurningRoads$Goer", name := "stands", desc := "(I)V" } : Jvm.MethodName)) ∈ lw_all := lw_g (lw_at lw_m3 119 rfl) rfl
theorem q742 : (Jvm.Cond.code ({ cls := "TurningRoads$Goer", name := "stands", desc := "(I)V" } : Jvm.MethodName) prog_6_method_4_code (2 : Nat) (Option.none : Option Jvm.ClassFile.FieldType)) ∈ lw_all := lw_g (lw_at lw_m3 120 rfl) rfl
theorem q743 : (Jvm.Cond.methodLink "TurningRoads$Goer" (34 : Nat) ({ cls := "TurningRoads$Goer", name := "isThere", desc := "()Z" } : Jvm.MethodName)) ∈ lw_all := lw_g (lw_at lw_m3 121 rfl) rfl
theorem q744 : (Jvm.Cond.instanceMethod ({ cls := "TurningRoads$Goer", name := "isThere", desc := "()Z" } : Jvm.MethodName)) ∈ lw_all := lw_g (lw_at lw_m3 122 rfl) rfl
theorem q745 : (Jvm.Cond.selects "TurningRoads$Goer" ({ cls := "TurningRoads$Goer", name := "isThere", desc := "()Z" } : Jvm.MethodName) ({ cls := "TurningRoads$Goer", name := "isThere", desc := "()Z" } : Jvm.MethodName)) ∈ lw_all := lw_g (lw_at lw_m3 123 rfl) rfl
theorem q746 : (Jvm.Cond.code ({ cls := "TurningRoads$Goer", name := "isThere", desc := "()Z" } : Jvm.MethodName) prog_6_method_3_code (1 : Nat) (Option.some Jvm.ClassFile.FieldType.boolean)) ∈ lw_all := lw_g (lw_at lw_m3 124 rfl) rfl
theorem q747 : (Jvm.Cond.methodLink "TurningRoads$Goer" (30 : Nat) ({ cls := "TurningRoads$Goer", name := "stands", desc := "()Z" } : Jvm.MethodName)) ∈ lw_all := lw_g (lw_at lw_m3 125 rfl) rfl
theorem q748 : (Jvm.Cond.instanceMethod ({ cls := "TurningRoads$Goer", name := "stands", desc := "()Z" } : Jvm.MethodName)) ∈ lw_all := lw_g (lw_at lw_m3 126 rfl) rfl
theorem q749 : (Jvm.Cond.selects "TurningRoads$Goer" ({ cls := "TurningRoads$Goer", name := "stands", desc := "()Z" } : Jvm.MethodName) ({ cls := "TurningRoads$Goer", name := "stands", desc := "()Z" } : Jvm.MethodName)) ∈ lw_all := lw_g (lw_at lw_m3 127 rfl) rfl
theorem q750 : (Jvm.Cond.code ({ cls := "TurningRoads$Goer", name := "stands", desc := "()Z" } : Jvm.MethodName) prog_6_method_2_code (1 : Nat) (Option.some Jvm.ClassFile.FieldType.boolean)) ∈ lw_all := lw_g (lw_at lw_m3 128 rfl) rfl
theorem q1990 : (Jvm.Cond.castable "TurningRoads$Goer" "java/lang/Object") ∈ lw_tbl := lw_at lw_m8 168 rfl
theorem in_X6 : ∀ w ∈ wsX60, w ∈ lw_all := lw_in wsX60 [704, 706, 708, 710, 712, 714, 716, 718] (by decide +kernel) (by decide +kernel)

/-! TurningRoads$Rule -/
def RX7 : String := "TurningRoads$Rule"
def TX7 : u_T := fun k => match k with
  | 0 => ("TurningRoads$Rule", "takes", "Ljava/util/ArrayList;", true)
  | _ => ("TurningRoads$Rule", "waits", "Ljava/util/ArrayList;", true)
def tyX7 : Nat → FieldType := fun k => match k with
  | 0 => .object "java/util/ArrayList"
  | _ => .object "java/util/ArrayList"
abbrev wsX70 : List Cond := u_ws RX7 TX7 2
theorem nmX7 : ∀ a, a < 2 → ∀ b, b < 2 → a ≠ b → (TX7 a).2.1 ≠ (TX7 b).2.1 := by decide +kernel
theorem tyX7_ok : ∀ k, k < 2 → parseFieldDescriptor (TX7 k).2.2.1 = some (tyX7 k) := by decide +kernel
abbrev cX7_init : ByteArray := prog_13_method_1_code
def yX7_init : MethodName := ⟨RX7, "<init>", "()V"⟩
def dkwX7_init_1 : List UInt8 := [183, 0, 9, 181, 0, 18, 177]
abbrev dktX7_init_1 : List UInt8 := dkwX7_init_1 ++ []
def dkwX7_init_0 : List UInt8 := [42, 183, 0, 1, 42, 187, 0, 7, 89, 5, 183, 0, 9, 181, 0, 12, 42, 187, 0, 7, 89, 5]
abbrev dktX7_init_0 : List UInt8 := dkwX7_init_0 ++ dktX7_init_1
theorem dksX7_init_0 : cX7_init.data.toList.drop 0 = dktX7_init_0 := by decide +kernel
theorem dksX7_init_1 : cX7_init.data.toList.drop 22 = dktX7_init_1 := dk_seg dksX7_init_0 22 rfl rfl
theorem dX7_init_0 : decode cX7_init 0 = .ok (.aload_n 0, 1) := dk_42 (dk_at dksX7_init_0 0 rfl rfl)
theorem dX7_init_1 : decode cX7_init 1 = .ok (.invokespecial 1, 3) := dk_183 0 1 (dk_at dksX7_init_0 1 rfl rfl)
theorem dX7_init_4 : decode cX7_init 4 = .ok (.aload_n 0, 1) := dk_42 (dk_at dksX7_init_0 4 rfl rfl)
theorem dX7_init_5 : decode cX7_init 5 = .ok (.new 7, 3) := dk_187 0 7 (dk_at dksX7_init_0 5 rfl rfl)
theorem dX7_init_8 : decode cX7_init 8 = .ok (.dup, 1) := dk_89 (dk_at dksX7_init_0 8 rfl rfl)
theorem dX7_init_9 : decode cX7_init 9 = .ok (.iconst 2, 1) := dk_5 (dk_at dksX7_init_0 9 rfl rfl)
theorem dX7_init_10 : decode cX7_init 10 = .ok (.invokespecial 9, 3) := dk_183 0 9 (dk_at dksX7_init_0 10 rfl rfl)
theorem dX7_init_13 : decode cX7_init 13 = .ok (.putfield 12, 3) := dk_181 0 12 (dk_at dksX7_init_0 13 rfl rfl)
theorem dX7_init_16 : decode cX7_init 16 = .ok (.aload_n 0, 1) := dk_42 (dk_at dksX7_init_0 16 rfl rfl)
theorem dX7_init_17 : decode cX7_init 17 = .ok (.new 7, 3) := dk_187 0 7 (dk_at dksX7_init_0 17 rfl rfl)
theorem dX7_init_20 : decode cX7_init 20 = .ok (.dup, 1) := dk_89 (dk_at dksX7_init_0 20 rfl rfl)
theorem dX7_init_21 : decode cX7_init 21 = .ok (.iconst 2, 1) := dk_5 (dk_at dksX7_init_0 21 rfl rfl)
theorem dX7_init_22 : decode cX7_init 22 = .ok (.invokespecial 9, 3) := dk_183 0 9 (dk_at dksX7_init_1 0 rfl rfl)
theorem dX7_init_25 : decode cX7_init 25 = .ok (.putfield 18, 3) := dk_181 0 18 (dk_at dksX7_init_1 3 rfl rfl)
theorem dX7_init_28 : decode cX7_init 28 = .ok (.return_, 1) := dk_177 (dk_at dksX7_init_1 6 rfl rfl)
abbrev cX7_isWait : ByteArray := prog_13_method_2_code
def yX7_isWait : MethodName := ⟨RX7, "isWait", "([J)Z"⟩
def dkwX7_isWait_2 : List UInt8 := [167, 255, 214, 28, 172]
abbrev dktX7_isWait_2 : List UInt8 := dkwX7_isWait_2 ++ []
def dkwX7_isWait_1 : List UInt8 := [182, 0, 25, 192, 0, 29, 43, 182, 0, 31, 153, 0, 7, 4, 167, 0, 4, 3, 61, 132, 3, 1]
abbrev dktX7_isWait_1 : List UInt8 := dkwX7_isWait_1 ++ dktX7_isWait_2
def dkwX7_isWait_0 : List UInt8 := [3, 61, 3, 62, 29, 42, 180, 0, 18, 182, 0, 21, 162, 0, 37, 28, 154, 0, 21, 42, 180, 0, 18, 29]
abbrev dktX7_isWait_0 : List UInt8 := dkwX7_isWait_0 ++ dktX7_isWait_1
theorem dksX7_isWait_0 : cX7_isWait.data.toList.drop 0 = dktX7_isWait_0 := by decide +kernel
theorem dksX7_isWait_1 : cX7_isWait.data.toList.drop 24 = dktX7_isWait_1 := dk_seg dksX7_isWait_0 24 rfl rfl
theorem dksX7_isWait_2 : cX7_isWait.data.toList.drop 46 = dktX7_isWait_2 := dk_seg dksX7_isWait_1 22 rfl rfl
theorem dX7_isWait_0 : decode cX7_isWait 0 = .ok (.iconst 0, 1) := dk_3 (dk_at dksX7_isWait_0 0 rfl rfl)
theorem dX7_isWait_1 : decode cX7_isWait 1 = .ok (.istore_n 2, 1) := dk_61 (dk_at dksX7_isWait_0 1 rfl rfl)
theorem dX7_isWait_2 : decode cX7_isWait 2 = .ok (.iconst 0, 1) := dk_3 (dk_at dksX7_isWait_0 2 rfl rfl)
theorem dX7_isWait_3 : decode cX7_isWait 3 = .ok (.istore_n 3, 1) := dk_62 (dk_at dksX7_isWait_0 3 rfl rfl)
theorem dX7_isWait_4 : decode cX7_isWait 4 = .ok (.iload_n 3, 1) := dk_29 (dk_at dksX7_isWait_0 4 rfl rfl)
theorem dX7_isWait_5 : decode cX7_isWait 5 = .ok (.aload_n 0, 1) := dk_42 (dk_at dksX7_isWait_0 5 rfl rfl)
theorem dX7_isWait_6 : decode cX7_isWait 6 = .ok (.getfield 18, 3) := dk_180 0 18 (dk_at dksX7_isWait_0 6 rfl rfl)
theorem dX7_isWait_9 : decode cX7_isWait 9 = .ok (.invokevirtual 21, 3) := dk_182 0 21 (dk_at dksX7_isWait_0 9 rfl rfl)
theorem dX7_isWait_12 : decode cX7_isWait 12 = .ok (.if_icmp .ge 37, 3) := dk_162 0 37 (dk_at dksX7_isWait_0 12 rfl rfl)
theorem dX7_isWait_15 : decode cX7_isWait 15 = .ok (.iload_n 2, 1) := dk_28 (dk_at dksX7_isWait_0 15 rfl rfl)
theorem dX7_isWait_16 : decode cX7_isWait 16 = .ok (.ifCond .ne 21, 3) := dk_154 0 21 (dk_at dksX7_isWait_0 16 rfl rfl)
theorem dX7_isWait_19 : decode cX7_isWait 19 = .ok (.aload_n 0, 1) := dk_42 (dk_at dksX7_isWait_0 19 rfl rfl)
theorem dX7_isWait_20 : decode cX7_isWait 20 = .ok (.getfield 18, 3) := dk_180 0 18 (dk_at dksX7_isWait_0 20 rfl rfl)
theorem dX7_isWait_23 : decode cX7_isWait 23 = .ok (.iload_n 3, 1) := dk_29 (dk_at dksX7_isWait_0 23 rfl rfl)
theorem dX7_isWait_24 : decode cX7_isWait 24 = .ok (.invokevirtual 25, 3) := dk_182 0 25 (dk_at dksX7_isWait_1 0 rfl rfl)
theorem dX7_isWait_27 : decode cX7_isWait 27 = .ok (.checkcast 29, 3) := dk_192 0 29 (dk_at dksX7_isWait_1 3 rfl rfl)
theorem dX7_isWait_30 : decode cX7_isWait 30 = .ok (.aload_n 1, 1) := dk_43 (dk_at dksX7_isWait_1 6 rfl rfl)
theorem dX7_isWait_31 : decode cX7_isWait 31 = .ok (.invokevirtual 31, 3) := dk_182 0 31 (dk_at dksX7_isWait_1 7 rfl rfl)
theorem dX7_isWait_34 : decode cX7_isWait 34 = .ok (.ifCond .eq 7, 3) := dk_153 0 7 (dk_at dksX7_isWait_1 10 rfl rfl)
theorem dX7_isWait_37 : decode cX7_isWait 37 = .ok (.iconst 1, 1) := dk_4 (dk_at dksX7_isWait_1 13 rfl rfl)
theorem dX7_isWait_38 : decode cX7_isWait 38 = .ok (.goto 4, 3) := dk_167 0 4 (dk_at dksX7_isWait_1 14 rfl rfl)
theorem dX7_isWait_41 : decode cX7_isWait 41 = .ok (.iconst 0, 1) := dk_3 (dk_at dksX7_isWait_1 17 rfl rfl)
theorem dX7_isWait_42 : decode cX7_isWait 42 = .ok (.istore_n 2, 1) := dk_61 (dk_at dksX7_isWait_1 18 rfl rfl)
theorem dX7_isWait_43 : decode cX7_isWait 43 = .ok (.iinc 3 1, 3) := dk_132 3 1 (dk_at dksX7_isWait_1 19 rfl rfl)
theorem dX7_isWait_46 : decode cX7_isWait 46 = .ok (.goto (-42), 3) := dk_167 255 214 (dk_at dksX7_isWait_2 0 rfl rfl)
theorem dX7_isWait_49 : decode cX7_isWait 49 = .ok (.iload_n 2, 1) := dk_28 (dk_at dksX7_isWait_2 3 rfl rfl)
theorem dX7_isWait_50 : decode cX7_isWait 50 = .ok (.ireturn, 1) := dk_172 (dk_at dksX7_isWait_2 4 rfl rfl)
abbrev cX7_take : ByteArray := prog_13_method_3_code
def yX7_take : MethodName := ⟨RX7, "take", "([J)LTurningRoads$Told;"⟩
def dkwX7_take_2 : List UInt8 := [167, 255, 212, 1, 176]
abbrev dktX7_take_2 : List UInt8 := dkwX7_take_2 ++ []
def dkwX7_take_1 : List UInt8 := [43, 182, 0, 37, 153, 0, 15, 42, 180, 0, 12, 28, 182, 0, 25, 192, 0, 35, 176, 132, 2, 1]
abbrev dktX7_take_1 : List UInt8 := dkwX7_take_1 ++ dktX7_take_2
def dkwX7_take_0 : List UInt8 := [3, 61, 28, 42, 180, 0, 12, 182, 0, 21, 162, 0, 39, 42, 180, 0, 12, 28, 182, 0, 25, 192, 0, 35]
abbrev dktX7_take_0 : List UInt8 := dkwX7_take_0 ++ dktX7_take_1
theorem dksX7_take_0 : cX7_take.data.toList.drop 0 = dktX7_take_0 := by decide +kernel
theorem dksX7_take_1 : cX7_take.data.toList.drop 24 = dktX7_take_1 := dk_seg dksX7_take_0 24 rfl rfl
theorem dksX7_take_2 : cX7_take.data.toList.drop 46 = dktX7_take_2 := dk_seg dksX7_take_1 22 rfl rfl
theorem dX7_take_0 : decode cX7_take 0 = .ok (.iconst 0, 1) := dk_3 (dk_at dksX7_take_0 0 rfl rfl)
theorem dX7_take_1 : decode cX7_take 1 = .ok (.istore_n 2, 1) := dk_61 (dk_at dksX7_take_0 1 rfl rfl)
theorem dX7_take_2 : decode cX7_take 2 = .ok (.iload_n 2, 1) := dk_28 (dk_at dksX7_take_0 2 rfl rfl)
theorem dX7_take_3 : decode cX7_take 3 = .ok (.aload_n 0, 1) := dk_42 (dk_at dksX7_take_0 3 rfl rfl)
theorem dX7_take_4 : decode cX7_take 4 = .ok (.getfield 12, 3) := dk_180 0 12 (dk_at dksX7_take_0 4 rfl rfl)
theorem dX7_take_7 : decode cX7_take 7 = .ok (.invokevirtual 21, 3) := dk_182 0 21 (dk_at dksX7_take_0 7 rfl rfl)
theorem dX7_take_10 : decode cX7_take 10 = .ok (.if_icmp .ge 39, 3) := dk_162 0 39 (dk_at dksX7_take_0 10 rfl rfl)
theorem dX7_take_13 : decode cX7_take 13 = .ok (.aload_n 0, 1) := dk_42 (dk_at dksX7_take_0 13 rfl rfl)
theorem dX7_take_14 : decode cX7_take 14 = .ok (.getfield 12, 3) := dk_180 0 12 (dk_at dksX7_take_0 14 rfl rfl)
theorem dX7_take_17 : decode cX7_take 17 = .ok (.iload_n 2, 1) := dk_28 (dk_at dksX7_take_0 17 rfl rfl)
theorem dX7_take_18 : decode cX7_take 18 = .ok (.invokevirtual 25, 3) := dk_182 0 25 (dk_at dksX7_take_0 18 rfl rfl)
theorem dX7_take_21 : decode cX7_take 21 = .ok (.checkcast 35, 3) := dk_192 0 35 (dk_at dksX7_take_0 21 rfl rfl)
theorem dX7_take_24 : decode cX7_take 24 = .ok (.aload_n 1, 1) := dk_43 (dk_at dksX7_take_1 0 rfl rfl)
theorem dX7_take_25 : decode cX7_take 25 = .ok (.invokevirtual 37, 3) := dk_182 0 37 (dk_at dksX7_take_1 1 rfl rfl)
theorem dX7_take_28 : decode cX7_take 28 = .ok (.ifCond .eq 15, 3) := dk_153 0 15 (dk_at dksX7_take_1 4 rfl rfl)
theorem dX7_take_31 : decode cX7_take 31 = .ok (.aload_n 0, 1) := dk_42 (dk_at dksX7_take_1 7 rfl rfl)
theorem dX7_take_32 : decode cX7_take 32 = .ok (.getfield 12, 3) := dk_180 0 12 (dk_at dksX7_take_1 8 rfl rfl)
theorem dX7_take_35 : decode cX7_take 35 = .ok (.iload_n 2, 1) := dk_28 (dk_at dksX7_take_1 11 rfl rfl)
theorem dX7_take_36 : decode cX7_take 36 = .ok (.invokevirtual 25, 3) := dk_182 0 25 (dk_at dksX7_take_1 12 rfl rfl)
theorem dX7_take_39 : decode cX7_take 39 = .ok (.checkcast 35, 3) := dk_192 0 35 (dk_at dksX7_take_1 15 rfl rfl)
theorem dX7_take_42 : decode cX7_take 42 = .ok (.areturn, 1) := dk_176 (dk_at dksX7_take_1 18 rfl rfl)
theorem dX7_take_43 : decode cX7_take 43 = .ok (.iinc 2 1, 3) := dk_132 2 1 (dk_at dksX7_take_1 19 rfl rfl)
theorem dX7_take_46 : decode cX7_take 46 = .ok (.goto (-44), 3) := dk_167 255 212 (dk_at dksX7_take_2 0 rfl rfl)
theorem dX7_take_49 : decode cX7_take 49 = .ok (.aconst_null, 1) := dk_1 (dk_at dksX7_take_2 3 rfl rfl)
theorem dX7_take_50 : decode cX7_take 50 = .ok (.areturn, 1) := dk_176 (dk_at dksX7_take_2 4 rfl rfl)
theorem q164 : (Jvm.Cond.initialized "TurningRoads$Rule") ∈ lw_all := lw_g (lw_at lw_m1 22 rfl) rfl
theorem q659 : (Jvm.Cond.selects "TurningRoads$Rule" ({ cls := "java/lang/Object", name := "getClass", desc := "()Ljava/lang/Class;" } : Jvm.MethodName) ({ cls := "java/lang/Object", name := "getClass", desc := "()Ljava/lang/Class;" } : Jvm.MethodName)) ∈ lw_all := lw_g (lw_at lw_m3 37 rfl) rfl
theorem q760 : (Jvm.Cond.instantiable "TurningRoads$Rule" (2 : Nat)) ∈ lw_all := lw_g (lw_at lw_m3 138 rfl) rfl
theorem q762 : (Jvm.Cond.instanceMethod ({ cls := "TurningRoads$Rule", name := "<init>", desc := "()V" } : Jvm.MethodName)) ∈ lw_all := lw_g (lw_at lw_m3 140 rfl) rfl
theorem q763 : (Jvm.Cond.code ({ cls := "TurningRoads$Rule", name := "<init>", desc := "()V" } : Jvm.MethodName) prog_13_method_1_code (1 : Nat) (Option.none : Option Jvm.ClassFile.FieldType)) ∈ lw_all := lw_g (lw_at lw_m3 141 rfl) rfl
theorem q764 : (Jvm.Cond.methodLink "TurningRoads$Rule" (1 : Nat) ({ cls := "java/lang/Object", name := "<init>", desc := "()V" } : Jvm.MethodName)) ∈ lw_all := lw_g (lw_at lw_m3 142 rfl) rfl
theorem q765 : (Jvm.Cond.classLink "TurningRoads$Rule" (7 : Nat) "java/util/ArrayList") ∈ lw_all := lw_g (lw_at lw_m3 143 rfl) rfl
theorem q766 : (Jvm.Cond.methodLink "TurningRoads$Rule" (9 : Nat) ({ cls := "java/util/ArrayList", name := "<init>", desc := "(I)V" } : Jvm.MethodName)) ∈ lw_all := lw_g (lw_at lw_m3 144 rfl) rfl
theorem q767 : (Jvm.Cond.fieldLink "TurningRoads$Rule" (12 : Nat) "TurningRoads$Rule" "takes" "Ljava/util/ArrayList;") ∈ lw_all := lw_g (lw_at lw_m3 145 rfl) rfl
theorem q769 : (Jvm.Cond.fieldLink "TurningRoads$Rule" (18 : Nat) "TurningRoads$Rule" "waits" "Ljava/util/ArrayList;") ∈ lw_all := lw_g (lw_at lw_m3 147 rfl) rfl
theorem q771 : (Jvm.Cond.laysFinal "TurningRoads$Rule" "TurningRoads$Rule" "takes" "Ljava/util/ArrayList;") ∈ lw_all := lw_g (lw_at lw_m3 149 rfl) rfl
theorem q772 : (Jvm.Cond.soleField "TurningRoads$Rule" "takes") ∈ lw_all := lw_g (lw_at lw_m3 150 rfl) rfl
theorem q773 : (Jvm.Cond.laysFinal "TurningRoads$Rule" "TurningRoads$Rule" "waits" "Ljava/util/ArrayList;") ∈ lw_all := lw_g (lw_at lw_m3 151 rfl) rfl
theorem q774 : (Jvm.Cond.soleField "TurningRoads$Rule" "waits") ∈ lw_all := lw_g (lw_at lw_m3 152 rfl) rfl
theorem q775 : (Jvm.Cond.superclass "TurningRoads$Rule" "java/lang/Object") ∈ lw_all := lw_g (lw_at lw_m3 153 rfl) rfl
theorem q1215 : (Jvm.Cond.instanceMethod ({ cls := "TurningRoads$Rule", name := "isWait", desc := "([J)Z" } : Jvm.MethodName)) ∈ lw_all := lw_g (lw_at lw_m5 113 rfl) rfl
theorem q1216 : (Jvm.Cond.selects "TurningRoads$Rule" ({ cls := "TurningRoads$Rule", name := "isWait", desc := "([J)Z" } : Jvm.MethodName) ({ cls := "TurningRoads$Rule", name := "isWait", desc := "([J)Z" } : Jvm.MethodName)) ∈ lw_all := lw_g (lw_at lw_m5 114 rfl) rfl
theorem q1217 : (Jvm.Cond.code ({ cls := "TurningRoads$Rule", name := "isWait", desc := "([J)Z" } : Jvm.MethodName) prog_13_method_2_code (4 : Nat) (Option.some Jvm.ClassFile.FieldType.boolean)) ∈ lw_all := lw_g (lw_at lw_m5 115 rfl) rfl
theorem q1218 : (Jvm.Cond.methodLink "TurningRoads$Rule" (21 : Nat) ({ cls := "java/util/ArrayList", name := "size", desc := "()I" } : Jvm.MethodName)) ∈ lw_all := lw_g (lw_at lw_m5 116 rfl) rfl
theorem q1219 : (Jvm.Cond.methodLink "TurningRoads$Rule" (25 : Nat) ({ cls := "java/util/ArrayList", name := "get", desc := "(I)Ljava/lang/Object;" } : Jvm.MethodName)) ∈ lw_all := lw_g (lw_at lw_m5 117 rfl) rfl
theorem q1220 : (Jvm.Cond.classLink "TurningRoads$Rule" (29 : Nat) "TurningRoads$Condition") ∈ lw_all := lw_g (lw_at lw_m5 118 rfl) rfl
theorem q1221 : (Jvm.Cond.methodLink "TurningRoads$Rule" (31 : Nat) ({ cls := "TurningRoads$Condition", name := "is", desc := "([J)Z" } : Jvm.MethodName)) ∈ lw_all := lw_g (lw_at lw_m5 119 rfl) rfl
theorem q1253 : (Jvm.Cond.instanceMethod ({ cls := "TurningRoads$Rule", name := "take", desc := "([J)LTurningRoads$Told;" } : Jvm.MethodName)) ∈ lw_all := lw_g (lw_at lw_m5 151 rfl) rfl
theorem q1254 : (Jvm.Cond.selects "TurningRoads$Rule" ({ cls := "TurningRoads$Rule", name := "take", desc := "([J)LTurningRoads$Told;" } : Jvm.MethodName) ({ cls := "TurningRoads$Rule", name := "take", desc := "([J)LTurningRoads$Told;" } : Jvm.MethodName)) ∈ lw_all := lw_g (lw_at lw_m5 152 rfl) rfl
theorem q1255 : (Jvm.Cond.code ({ cls := "TurningRoads$Rule", name := "take", desc := "([J)LTurningRoads$Told;" } : Jvm.MethodName) prog_13_method_3_code (3 : Nat) (Option.some (Jvm.ClassFile.FieldType.object "TurningRoads$Told"))) ∈ lw_all := lw_g (lw_at lw_m5 153 rfl) rfl
theorem q1256 : (Jvm.Cond.classLink "TurningRoads$Rule" (35 : Nat) "TurningRoads$Told") ∈ lw_all := lw_g (lw_at lw_m5 154 rfl) rfl
theorem q1257 : (Jvm.Cond.methodLink "TurningRoads$Rule" (37 : Nat) ({ cls := "TurningRoads$Told", name := "holds", desc := "([J)Z" } : Jvm.MethodName)) ∈ lw_all := lw_g (lw_at lw_m5 155 rfl) rfl
theorem q1991 : (Jvm.Cond.castable "TurningRoads$Rule" "java/lang/Object") ∈ lw_tbl := lw_at lw_m8 169 rfl
theorem in_X7 : ∀ w ∈ wsX70, w ∈ lw_all := lw_in wsX70 [771, 773] (by decide +kernel) (by decide +kernel)

/-! TurningRoads$Plain -/
def RX9 : String := "TurningRoads$Plain"
def TX9 : u_T := fun k => match k with
  | _ => ("TurningRoads$Plain", "number", "I", true)
def tyX9 : Nat → FieldType := fun k => match k with
  | _ => .int
abbrev wsX90 : List Cond := u_ws RX9 TX9 1
theorem nmX9 : ∀ a, a < 1 → ∀ b, b < 1 → a ≠ b → (TX9 a).2.1 ≠ (TX9 b).2.1 := by decide +kernel
theorem tyX9_ok : ∀ k, k < 1 → parseFieldDescriptor (TX9 k).2.2.1 = some (tyX9 k) := by decide +kernel
abbrev cX9_init : ByteArray := prog_12_method_1_code
def yX9_init : MethodName := ⟨RX9, "<init>", "(I)V"⟩
def dkwX9_init_0 : List UInt8 := [42, 183, 0, 1, 42, 27, 181, 0, 7, 177]
abbrev dktX9_init_0 : List UInt8 := dkwX9_init_0 ++ []
theorem dksX9_init_0 : cX9_init.data.toList.drop 0 = dktX9_init_0 := by decide +kernel
theorem dX9_init_0 : decode cX9_init 0 = .ok (.aload_n 0, 1) := dk_42 (dk_at dksX9_init_0 0 rfl rfl)
theorem dX9_init_1 : decode cX9_init 1 = .ok (.invokespecial 1, 3) := dk_183 0 1 (dk_at dksX9_init_0 1 rfl rfl)
theorem dX9_init_4 : decode cX9_init 4 = .ok (.aload_n 0, 1) := dk_42 (dk_at dksX9_init_0 4 rfl rfl)
theorem dX9_init_5 : decode cX9_init 5 = .ok (.iload_n 1, 1) := dk_27 (dk_at dksX9_init_0 5 rfl rfl)
theorem dX9_init_6 : decode cX9_init 6 = .ok (.putfield 7, 3) := dk_181 0 7 (dk_at dksX9_init_0 6 rfl rfl)
theorem dX9_init_9 : decode cX9_init 9 = .ok (.return_, 1) := dk_177 (dk_at dksX9_init_0 9 rfl rfl)
abbrev cX9_of : ByteArray := prog_12_method_2_code
def yX9_of : MethodName := ⟨RX9, "of", "([J)J"⟩
def dkwX9_of_0 : List UInt8 := [42, 180, 0, 7, 133, 173]
abbrev dktX9_of_0 : List UInt8 := dkwX9_of_0 ++ []
theorem dksX9_of_0 : cX9_of.data.toList.drop 0 = dktX9_of_0 := by decide +kernel
theorem dX9_of_0 : decode cX9_of 0 = .ok (.aload_n 0, 1) := dk_42 (dk_at dksX9_of_0 0 rfl rfl)
theorem dX9_of_1 : decode cX9_of 1 = .ok (.getfield 7, 3) := dk_180 0 7 (dk_at dksX9_of_0 1 rfl rfl)
theorem dX9_of_4 : decode cX9_of 4 = .ok (.i2l, 1) := dk_133 (dk_at dksX9_of_0 4 rfl rfl)
theorem dX9_of_5 : decode cX9_of 5 = .ok (.lreturn, 1) := dk_173 (dk_at dksX9_of_0 5 rfl rfl)
theorem q166 : (Jvm.Cond.initialized "TurningRoads$Plain") ∈ lw_all := lw_g (lw_at lw_m1 24 rfl) rfl
theorem q658 : (Jvm.Cond.selects "TurningRoads$Plain" ({ cls := "java/lang/Object", name := "getClass", desc := "()Ljava/lang/Class;" } : Jvm.MethodName) ({ cls := "java/lang/Object", name := "getClass", desc := "()Ljava/lang/Class;" } : Jvm.MethodName)) ∈ lw_all := lw_g (lw_at lw_m3 36 rfl) rfl
theorem q798 : (Jvm.Cond.instantiable "TurningRoads$Plain" (1 : Nat)) ∈ lw_all := lw_g (lw_at lw_m3 176 rfl) rfl
theorem q801 : (Jvm.Cond.instanceMethod ({ cls := "TurningRoads$Plain", name := "<init>", desc := "(I)V" } : Jvm.MethodName)) ∈ lw_all := lw_g (lw_at lw_m3 179 rfl) rfl
theorem q802 : (Jvm.Cond.code ({ cls := "TurningRoads$Plain", name := "<init>", desc := "(I)V" } : Jvm.MethodName) prog_12_method_1_code (2 : Nat) (Option.none : Option Jvm.ClassFile.FieldType)) ∈ lw_all := lw_g (lw_at lw_m3 180 rfl) rfl
theorem q803 : (Jvm.Cond.methodLinkNest "TurningRoads$Plain" (1 : Nat) ({ cls := "TurningRoads$Value", name := "<init>", desc := "()V" } : Jvm.MethodName) "TurningRoads") ∈ lw_tbl := lw_at lw_m3 181 rfl
theorem q807 : (Jvm.Cond.fieldLink "TurningRoads$Plain" (7 : Nat) "TurningRoads$Plain" "number" "I") ∈ lw_all := lw_g (lw_at lw_m3 185 rfl) rfl
theorem q808 : (Jvm.Cond.laysFinal "TurningRoads$Plain" "TurningRoads$Plain" "number" "I") ∈ lw_all := lw_g (lw_at lw_m3 186 rfl) rfl
theorem q809 : (Jvm.Cond.soleField "TurningRoads$Plain" "number") ∈ lw_all := lw_g (lw_at lw_m3 187 rfl) rfl
theorem q810 : (Jvm.Cond.superclass "TurningRoads$Plain" "TurningRoads$Value") ∈ lw_all := lw_g (lw_at lw_m3 188 rfl) rfl
theorem q1240 : (Jvm.Cond.instanceMethod ({ cls := "TurningRoads$Plain", name := "of", desc := "([J)J" } : Jvm.MethodName)) ∈ lw_all := lw_g (lw_at lw_m5 138 rfl) rfl
theorem q1241 : (Jvm.Cond.code ({ cls := "TurningRoads$Plain", name := "of", desc := "([J)J" } : Jvm.MethodName) prog_12_method_2_code (2 : Nat) (Option.some Jvm.ClassFile.FieldType.long)) ∈ lw_all := lw_g (lw_at lw_m5 139 rfl) rfl
theorem q1242 : (Jvm.Cond.selects "TurningRoads$Plain" ({ cls := "TurningRoads$Value", name := "of", desc := "([J)J" } : Jvm.MethodName) ({ cls := "TurningRoads$Plain", name := "of", desc := "([J)J" } : Jvm.MethodName)) ∈ lw_all := lw_g (lw_at lw_m5 140 rfl) rfl
theorem q1992 : (Jvm.Cond.castable "TurningRoads$Plain" "java/lang/Object") ∈ lw_tbl := lw_at lw_m8 170 rfl
theorem in_X9 : ∀ w ∈ wsX90, w ∈ lw_all := lw_in wsX90 [808] (by decide +kernel) (by decide +kernel)

/-! TurningRoads$Asked -/
def RX10 : String := "TurningRoads$Asked"
def TX10 : u_T := fun k => match k with
  | _ => ("TurningRoads$Asked", "word", "I", true)
def tyX10 : Nat → FieldType := fun k => match k with
  | _ => .int
abbrev wsX100 : List Cond := u_ws RX10 TX10 1
theorem nmX10 : ∀ a, a < 1 → ∀ b, b < 1 → a ≠ b → (TX10 a).2.1 ≠ (TX10 b).2.1 := by decide +kernel
theorem tyX10_ok : ∀ k, k < 1 → parseFieldDescriptor (TX10 k).2.2.1 = some (tyX10 k) := by decide +kernel
abbrev cX10_init : ByteArray := prog_2_method_1_code
def yX10_init : MethodName := ⟨RX10, "<init>", "(I)V"⟩
def dkwX10_init_0 : List UInt8 := [42, 183, 0, 1, 42, 27, 181, 0, 7, 177]
abbrev dktX10_init_0 : List UInt8 := dkwX10_init_0 ++ []
theorem dksX10_init_0 : cX10_init.data.toList.drop 0 = dktX10_init_0 := by decide +kernel
theorem dX10_init_0 : decode cX10_init 0 = .ok (.aload_n 0, 1) := dk_42 (dk_at dksX10_init_0 0 rfl rfl)
theorem dX10_init_1 : decode cX10_init 1 = .ok (.invokespecial 1, 3) := dk_183 0 1 (dk_at dksX10_init_0 1 rfl rfl)
theorem dX10_init_4 : decode cX10_init 4 = .ok (.aload_n 0, 1) := dk_42 (dk_at dksX10_init_0 4 rfl rfl)
theorem dX10_init_5 : decode cX10_init 5 = .ok (.iload_n 1, 1) := dk_27 (dk_at dksX10_init_0 5 rfl rfl)
theorem dX10_init_6 : decode cX10_init 6 = .ok (.putfield 7, 3) := dk_181 0 7 (dk_at dksX10_init_0 6 rfl rfl)
theorem dX10_init_9 : decode cX10_init 9 = .ok (.return_, 1) := dk_177 (dk_at dksX10_init_0 9 rfl rfl)
abbrev cX10_of : ByteArray := prog_2_method_2_code
def yX10_of : MethodName := ⟨RX10, "of", "([J)J"⟩
def dkwX10_of_0 : List UInt8 := [43, 42, 180, 0, 7, 47, 173]
abbrev dktX10_of_0 : List UInt8 := dkwX10_of_0 ++ []
theorem dksX10_of_0 : cX10_of.data.toList.drop 0 = dktX10_of_0 := by decide +kernel
theorem dX10_of_0 : decode cX10_of 0 = .ok (.aload_n 1, 1) := dk_43 (dk_at dksX10_of_0 0 rfl rfl)
theorem dX10_of_1 : decode cX10_of 1 = .ok (.aload_n 0, 1) := dk_42 (dk_at dksX10_of_0 1 rfl rfl)
theorem dX10_of_2 : decode cX10_of 2 = .ok (.getfield 7, 3) := dk_180 0 7 (dk_at dksX10_of_0 2 rfl rfl)
theorem dX10_of_5 : decode cX10_of 5 = .ok (.laload, 1) := dk_47 (dk_at dksX10_of_0 5 rfl rfl)
theorem dX10_of_6 : decode cX10_of 6 = .ok (.lreturn, 1) := dk_173 (dk_at dksX10_of_0 6 rfl rfl)
theorem q167 : (Jvm.Cond.initialized "TurningRoads$Asked") ∈ lw_all := lw_g (lw_at lw_m1 25 rfl) rfl
theorem q649 : (Jvm.Cond.selects "TurningRoads$Asked" ({ cls := "java/lang/Object", name := "getClass", desc := "()Ljava/lang/Class;" } : Jvm.MethodName) ({ cls := "java/lang/Object", name := "getClass", desc := "()Ljava/lang/Class;" } : Jvm.MethodName)) ∈ lw_all := lw_g (lw_at lw_m3 27 rfl) rfl
theorem q816 : (Jvm.Cond.instantiable "TurningRoads$Asked" (1 : Nat)) ∈ lw_all := lw_g (lw_at lw_m3 194 rfl) rfl
theorem q818 : (Jvm.Cond.instanceMethod ({ cls := "TurningRoads$Asked", name := "<init>", desc := "(I)V" } : Jvm.MethodName)) ∈ lw_all := lw_g (lw_at lw_m3 196 rfl) rfl
theorem q819 : (Jvm.Cond.code ({ cls := "TurningRoads$Asked", name := "<init>", desc := "(I)V" } : Jvm.MethodName) prog_2_method_1_code (2 : Nat) (Option.none : Option Jvm.ClassFile.FieldType)) ∈ lw_all := lw_g (lw_at lw_m3 197 rfl) rfl
theorem q820 : (Jvm.Cond.methodLinkNest "TurningRoads$Asked" (1 : Nat) ({ cls := "TurningRoads$Value", name := "<init>", desc := "()V" } : Jvm.MethodName) "TurningRoads") ∈ lw_tbl := lw_at lw_m3 198 rfl
theorem q821 : (Jvm.Cond.fieldLink "TurningRoads$Asked" (7 : Nat) "TurningRoads$Asked" "word" "I") ∈ lw_all := lw_g (lw_at lw_m3 199 rfl) rfl
theorem q822 : (Jvm.Cond.laysFinal "TurningRoads$Asked" "TurningRoads$Asked" "word" "I") ∈ lw_all := lw_g (lw_at lw_m3 200 rfl) rfl
theorem q823 : (Jvm.Cond.soleField "TurningRoads$Asked" "word") ∈ lw_all := lw_g (lw_at lw_m3 201 rfl) rfl
theorem q824 : (Jvm.Cond.superclass "TurningRoads$Asked" "TurningRoads$Value") ∈ lw_all := lw_g (lw_at lw_m3 202 rfl) rfl
theorem q1233 : (Jvm.Cond.selects "TurningRoads$Asked" ({ cls := "TurningRoads$Value", name := "of", desc := "([J)J" } : Jvm.MethodName) ({ cls := "TurningRoads$Asked", name := "of", desc := "([J)J" } : Jvm.MethodName)) ∈ lw_all := lw_g (lw_at lw_m5 131 rfl) rfl
theorem q1234 : (Jvm.Cond.instanceMethod ({ cls := "TurningRoads$Asked", name := "of", desc := "([J)J" } : Jvm.MethodName)) ∈ lw_all := lw_g (lw_at lw_m5 132 rfl) rfl
theorem q1235 : (Jvm.Cond.code ({ cls := "TurningRoads$Asked", name := "of", desc := "([J)J" } : Jvm.MethodName) prog_2_method_2_code (2 : Nat) (Option.some Jvm.ClassFile.FieldType.long)) ∈ lw_all := lw_g (lw_at lw_m5 133 rfl) rfl
theorem q1993 : (Jvm.Cond.castable "TurningRoads$Asked" "java/lang/Object") ∈ lw_tbl := lw_at lw_m8 171 rfl
theorem in_X10 : ∀ w ∈ wsX100, w ∈ lw_all := lw_in wsX100 [822] (by decide +kernel) (by decide +kernel)

/-! TurningRoads$Joined -/
def RX11 : String := "TurningRoads$Joined"
def TX11 : u_T := fun k => match k with
  | 0 => ("TurningRoads$Joined", "a", "LTurningRoads$Value;", true)
  | 1 => ("TurningRoads$Joined", "b", "LTurningRoads$Value;", true)
  | _ => ("TurningRoads$Joined", "sign", "I", true)
def tyX11 : Nat → FieldType := fun k => match k with
  | 0 => .object "TurningRoads$Value"
  | 1 => .object "TurningRoads$Value"
  | _ => .int
abbrev wsX110 : List Cond := u_ws RX11 TX11 3
theorem nmX11 : ∀ a, a < 3 → ∀ b, b < 3 → a ≠ b → (TX11 a).2.1 ≠ (TX11 b).2.1 := by decide +kernel
theorem tyX11_ok : ∀ k, k < 3 → parseFieldDescriptor (TX11 k).2.2.1 = some (tyX11 k) := by decide +kernel
abbrev cX11_init : ByteArray := prog_8_method_1_code
def yX11_init : MethodName := ⟨RX11, "<init>", "(LTurningRoads$Value;LTurningRoads$Value;I)V"⟩
def dkwX11_init_0 : List UInt8 := [42, 183, 0, 1, 42, 43, 181, 0, 7, 42, 44, 181, 0, 13, 42, 29, 181, 0, 16, 177]
abbrev dktX11_init_0 : List UInt8 := dkwX11_init_0 ++ []
theorem dksX11_init_0 : cX11_init.data.toList.drop 0 = dktX11_init_0 := by decide +kernel
theorem dX11_init_0 : decode cX11_init 0 = .ok (.aload_n 0, 1) := dk_42 (dk_at dksX11_init_0 0 rfl rfl)
theorem dX11_init_1 : decode cX11_init 1 = .ok (.invokespecial 1, 3) := dk_183 0 1 (dk_at dksX11_init_0 1 rfl rfl)
theorem dX11_init_4 : decode cX11_init 4 = .ok (.aload_n 0, 1) := dk_42 (dk_at dksX11_init_0 4 rfl rfl)
theorem dX11_init_5 : decode cX11_init 5 = .ok (.aload_n 1, 1) := dk_43 (dk_at dksX11_init_0 5 rfl rfl)
theorem dX11_init_6 : decode cX11_init 6 = .ok (.putfield 7, 3) := dk_181 0 7 (dk_at dksX11_init_0 6 rfl rfl)
theorem dX11_init_9 : decode cX11_init 9 = .ok (.aload_n 0, 1) := dk_42 (dk_at dksX11_init_0 9 rfl rfl)
theorem dX11_init_10 : decode cX11_init 10 = .ok (.aload_n 2, 1) := dk_44 (dk_at dksX11_init_0 10 rfl rfl)
theorem dX11_init_11 : decode cX11_init 11 = .ok (.putfield 13, 3) := dk_181 0 13 (dk_at dksX11_init_0 11 rfl rfl)
theorem dX11_init_14 : decode cX11_init 14 = .ok (.aload_n 0, 1) := dk_42 (dk_at dksX11_init_0 14 rfl rfl)
theorem dX11_init_15 : decode cX11_init 15 = .ok (.iload_n 3, 1) := dk_29 (dk_at dksX11_init_0 15 rfl rfl)
theorem dX11_init_16 : decode cX11_init 16 = .ok (.putfield 16, 3) := dk_181 0 16 (dk_at dksX11_init_0 16 rfl rfl)
theorem dX11_init_19 : decode cX11_init 19 = .ok (.return_, 1) := dk_177 (dk_at dksX11_init_0 19 rfl rfl)
abbrev cX11_of : ByteArray := prog_8_method_2_code
def yX11_of : MethodName := ⟨RX11, "of", "([J)J"⟩
def dkwX11_of_3 : List UInt8 := [154, 0, 7, 9, 167, 0, 7, 32, 22, 4, 109, 173]
abbrev dktX11_of_3 : List UInt8 := dkwX11_of_3 ++ []
def dkwX11_of_2 : List UInt8 := [101, 167, 0, 34, 42, 180, 0, 16, 16, 42, 160, 0, 10, 32, 22, 4, 105, 167, 0, 18, 22, 4, 9, 148]
abbrev dktX11_of_2 : List UInt8 := dkwX11_of_2 ++ dktX11_of_3
def dkwX11_of_1 : List UInt8 := [16, 43, 160, 0, 10, 32, 22, 4, 97, 167, 0, 50, 42, 180, 0, 16, 16, 45, 160, 0, 10, 32, 22, 4]
abbrev dktX11_of_1 : List UInt8 := dkwX11_of_1 ++ dktX11_of_2
def dkwX11_of_0 : List UInt8 := [42, 180, 0, 7, 43, 182, 0, 20, 65, 42, 180, 0, 13, 43, 182, 0, 20, 55, 4, 42, 180, 0, 16]
abbrev dktX11_of_0 : List UInt8 := dkwX11_of_0 ++ dktX11_of_1
theorem dksX11_of_0 : cX11_of.data.toList.drop 0 = dktX11_of_0 := by decide +kernel
theorem dksX11_of_1 : cX11_of.data.toList.drop 23 = dktX11_of_1 := dk_seg dksX11_of_0 23 rfl rfl
theorem dksX11_of_2 : cX11_of.data.toList.drop 47 = dktX11_of_2 := dk_seg dksX11_of_1 24 rfl rfl
theorem dksX11_of_3 : cX11_of.data.toList.drop 71 = dktX11_of_3 := dk_seg dksX11_of_2 24 rfl rfl
theorem dX11_of_0 : decode cX11_of 0 = .ok (.aload_n 0, 1) := dk_42 (dk_at dksX11_of_0 0 rfl rfl)
theorem dX11_of_1 : decode cX11_of 1 = .ok (.getfield 7, 3) := dk_180 0 7 (dk_at dksX11_of_0 1 rfl rfl)
theorem dX11_of_4 : decode cX11_of 4 = .ok (.aload_n 1, 1) := dk_43 (dk_at dksX11_of_0 4 rfl rfl)
theorem dX11_of_5 : decode cX11_of 5 = .ok (.invokevirtual 20, 3) := dk_182 0 20 (dk_at dksX11_of_0 5 rfl rfl)
theorem dX11_of_8 : decode cX11_of 8 = .ok (.lstore_n 2, 1) := dk_65 (dk_at dksX11_of_0 8 rfl rfl)
theorem dX11_of_9 : decode cX11_of 9 = .ok (.aload_n 0, 1) := dk_42 (dk_at dksX11_of_0 9 rfl rfl)
theorem dX11_of_10 : decode cX11_of 10 = .ok (.getfield 13, 3) := dk_180 0 13 (dk_at dksX11_of_0 10 rfl rfl)
theorem dX11_of_13 : decode cX11_of 13 = .ok (.aload_n 1, 1) := dk_43 (dk_at dksX11_of_0 13 rfl rfl)
theorem dX11_of_14 : decode cX11_of 14 = .ok (.invokevirtual 20, 3) := dk_182 0 20 (dk_at dksX11_of_0 14 rfl rfl)
theorem dX11_of_17 : decode cX11_of 17 = .ok (.lstore 4, 2) := dk_55 4 (dk_at dksX11_of_0 17 rfl rfl)
theorem dX11_of_19 : decode cX11_of 19 = .ok (.aload_n 0, 1) := dk_42 (dk_at dksX11_of_0 19 rfl rfl)
theorem dX11_of_20 : decode cX11_of 20 = .ok (.getfield 16, 3) := dk_180 0 16 (dk_at dksX11_of_0 20 rfl rfl)
theorem dX11_of_23 : decode cX11_of 23 = .ok (.bipush 43, 2) := dk_16 43 (dk_at dksX11_of_1 0 rfl rfl)
theorem dX11_of_25 : decode cX11_of 25 = .ok (.if_icmp .ne 10, 3) := dk_160 0 10 (dk_at dksX11_of_1 2 rfl rfl)
theorem dX11_of_28 : decode cX11_of 28 = .ok (.lload_n 2, 1) := dk_32 (dk_at dksX11_of_1 5 rfl rfl)
theorem dX11_of_29 : decode cX11_of 29 = .ok (.lload 4, 2) := dk_22 4 (dk_at dksX11_of_1 6 rfl rfl)
theorem dX11_of_31 : decode cX11_of 31 = .ok (.ladd, 1) := dk_97 (dk_at dksX11_of_1 8 rfl rfl)
theorem dX11_of_32 : decode cX11_of 32 = .ok (.goto 50, 3) := dk_167 0 50 (dk_at dksX11_of_1 9 rfl rfl)
theorem dX11_of_35 : decode cX11_of 35 = .ok (.aload_n 0, 1) := dk_42 (dk_at dksX11_of_1 12 rfl rfl)
theorem dX11_of_36 : decode cX11_of 36 = .ok (.getfield 16, 3) := dk_180 0 16 (dk_at dksX11_of_1 13 rfl rfl)
theorem dX11_of_39 : decode cX11_of 39 = .ok (.bipush 45, 2) := dk_16 45 (dk_at dksX11_of_1 16 rfl rfl)
theorem dX11_of_41 : decode cX11_of 41 = .ok (.if_icmp .ne 10, 3) := dk_160 0 10 (dk_at dksX11_of_1 18 rfl rfl)
theorem dX11_of_44 : decode cX11_of 44 = .ok (.lload_n 2, 1) := dk_32 (dk_at dksX11_of_1 21 rfl rfl)
theorem dX11_of_45 : decode cX11_of 45 = .ok (.lload 4, 2) := dk_22 4 (dk_at dksX11_of_1 22 rfl rfl)
theorem dX11_of_47 : decode cX11_of 47 = .ok (.lsub, 1) := dk_101 (dk_at dksX11_of_2 0 rfl rfl)
theorem dX11_of_48 : decode cX11_of 48 = .ok (.goto 34, 3) := dk_167 0 34 (dk_at dksX11_of_2 1 rfl rfl)
theorem dX11_of_51 : decode cX11_of 51 = .ok (.aload_n 0, 1) := dk_42 (dk_at dksX11_of_2 4 rfl rfl)
theorem dX11_of_52 : decode cX11_of 52 = .ok (.getfield 16, 3) := dk_180 0 16 (dk_at dksX11_of_2 5 rfl rfl)
theorem dX11_of_55 : decode cX11_of 55 = .ok (.bipush 42, 2) := dk_16 42 (dk_at dksX11_of_2 8 rfl rfl)
theorem dX11_of_57 : decode cX11_of 57 = .ok (.if_icmp .ne 10, 3) := dk_160 0 10 (dk_at dksX11_of_2 10 rfl rfl)
theorem dX11_of_60 : decode cX11_of 60 = .ok (.lload_n 2, 1) := dk_32 (dk_at dksX11_of_2 13 rfl rfl)
theorem dX11_of_61 : decode cX11_of 61 = .ok (.lload 4, 2) := dk_22 4 (dk_at dksX11_of_2 14 rfl rfl)
theorem dX11_of_63 : decode cX11_of 63 = .ok (.lmul, 1) := dk_105 (dk_at dksX11_of_2 16 rfl rfl)
theorem dX11_of_64 : decode cX11_of 64 = .ok (.goto 18, 3) := dk_167 0 18 (dk_at dksX11_of_2 17 rfl rfl)
theorem dX11_of_67 : decode cX11_of 67 = .ok (.lload 4, 2) := dk_22 4 (dk_at dksX11_of_2 20 rfl rfl)
theorem dX11_of_69 : decode cX11_of 69 = .ok (.lconst 0, 1) := dk_9 (dk_at dksX11_of_2 22 rfl rfl)
theorem dX11_of_70 : decode cX11_of 70 = .ok (.lcmp, 1) := dk_148 (dk_at dksX11_of_2 23 rfl rfl)
theorem dX11_of_71 : decode cX11_of 71 = .ok (.ifCond .ne 7, 3) := dk_154 0 7 (dk_at dksX11_of_3 0 rfl rfl)
theorem dX11_of_74 : decode cX11_of 74 = .ok (.lconst 0, 1) := dk_9 (dk_at dksX11_of_3 3 rfl rfl)
theorem dX11_of_75 : decode cX11_of 75 = .ok (.goto 7, 3) := dk_167 0 7 (dk_at dksX11_of_3 4 rfl rfl)
theorem dX11_of_78 : decode cX11_of 78 = .ok (.lload_n 2, 1) := dk_32 (dk_at dksX11_of_3 7 rfl rfl)
theorem dX11_of_79 : decode cX11_of 79 = .ok (.lload 4, 2) := dk_22 4 (dk_at dksX11_of_3 8 rfl rfl)
theorem dX11_of_81 : decode cX11_of 81 = .ok (.ldiv, 1) := dk_109 (dk_at dksX11_of_3 10 rfl rfl)
theorem dX11_of_82 : decode cX11_of 82 = .ok (.lreturn, 1) := dk_173 (dk_at dksX11_of_3 11 rfl rfl)
theorem q168 : (Jvm.Cond.initialized "TurningRoads$Joined") ∈ lw_all := lw_g (lw_at lw_m1 26 rfl) rfl
theorem q654 : (Jvm.Cond.selects "TurningRoads$Joined" ({ cls := "java/lang/Object", name := "getClass", desc := "()Ljava/lang/Class;" } : Jvm.MethodName) ({ cls := "java/lang/Object", name := "getClass", desc := "()Ljava/lang/Class;" } : Jvm.MethodName)) ∈ lw_all := lw_g (lw_at lw_m3 32 rfl) rfl
theorem q826 : (Jvm.Cond.instantiable "TurningRoads$Joined" (3 : Nat)) ∈ lw_all := lw_g (lw_at lw_m3 204 rfl) rfl
theorem q828 : (Jvm.Cond.instanceMethod ({ cls := "TurningRoads$Joined", name := "<init>", desc := "(LTurningRoads$Value;LTurningRoads$Value;I)V" } : Jvm.MethodName)) ∈ lw_all := lw_g (lw_at lw_m3 206 rfl) rfl
theorem q829 : (Jvm.Cond.code ({ cls := "TurningRoads$Joined", name := "<init>", desc := "(LTurningRoads$Value;LTurningRoads$Value;I)V" } : Jvm.MethodName) prog_8_method_1_code (4 : Nat) (Option.none : Option Jvm.ClassFile.FieldType)) ∈ lw_all := lw_g (lw_at lw_m3 207 rfl) rfl
theorem q830 : (Jvm.Cond.methodLinkNest "TurningRoads$Joined" (1 : Nat) ({ cls := "TurningRoads$Value", name := "<init>", desc := "()V" } : Jvm.MethodName) "TurningRoads") ∈ lw_tbl := lw_at lw_m3 208 rfl
theorem q831 : (Jvm.Cond.fieldLink "TurningRoads$Joined" (7 : Nat) "TurningRoads$Joined" "a" "LTurningRoads$Value;") ∈ lw_all := lw_g (lw_at lw_m3 209 rfl) rfl
theorem q832 : (Jvm.Cond.fieldLink "TurningRoads$Joined" (13 : Nat) "TurningRoads$Joined" "b" "LTurningRoads$Value;") ∈ lw_all := lw_g (lw_at lw_m3 210 rfl) rfl
theorem q833 : (Jvm.Cond.fieldLink "TurningRoads$Joined" (16 : Nat) "TurningRoads$Joined" "sign" "I") ∈ lw_all := lw_g (lw_at lw_m3 211 rfl) rfl
theorem q834 : (Jvm.Cond.laysFinal "TurningRoads$Joined" "TurningRoads$Joined" "a" "LTurningRoads$Value;") ∈ lw_all := lw_g (lw_at lw_m3 212 rfl) rfl
theorem q835 : (Jvm.Cond.soleField "TurningRoads$Joined" "a") ∈ lw_all := lw_g (lw_at lw_m3 213 rfl) rfl
theorem q836 : (Jvm.Cond.laysFinal "TurningRoads$Joined" "TurningRoads$Joined" "b" "LTurningRoads$Value;") ∈ lw_all := lw_g (lw_at lw_m3 214 rfl) rfl
theorem q837 : (Jvm.Cond.soleField "TurningRoads$Joined" "b") ∈ lw_all := lw_g (lw_at lw_m3 215 rfl) rfl
theorem q838 : (Jvm.Cond.laysFinal "TurningRoads$Joined" "TurningRoads$Joined" "sign" "I") ∈ lw_all := lw_g (lw_at lw_m3 216 rfl) rfl
theorem q839 : (Jvm.Cond.soleField "TurningRoads$Joined" "sign") ∈ lw_all := lw_g (lw_at lw_m3 217 rfl) rfl
theorem q840 : (Jvm.Cond.superclass "TurningRoads$Joined" "TurningRoads$Value") ∈ lw_all := lw_g (lw_at lw_m3 218 rfl) rfl
theorem q1236 : (Jvm.Cond.selects "TurningRoads$Joined" ({ cls := "TurningRoads$Value", name := "of", desc := "([J)J" } : Jvm.MethodName) ({ cls := "TurningRoads$Joined", name := "of", desc := "([J)J" } : Jvm.MethodName)) ∈ lw_all := lw_g (lw_at lw_m5 134 rfl) rfl
theorem q1237 : (Jvm.Cond.instanceMethod ({ cls := "TurningRoads$Joined", name := "of", desc := "([J)J" } : Jvm.MethodName)) ∈ lw_all := lw_g (lw_at lw_m5 135 rfl) rfl
theorem q1238 : (Jvm.Cond.code ({ cls := "TurningRoads$Joined", name := "of", desc := "([J)J" } : Jvm.MethodName) prog_8_method_2_code (6 : Nat) (Option.some Jvm.ClassFile.FieldType.long)) ∈ lw_all := lw_g (lw_at lw_m5 136 rfl) rfl
theorem q1239 : (Jvm.Cond.methodLink "TurningRoads$Joined" (20 : Nat) ({ cls := "TurningRoads$Value", name := "of", desc := "([J)J" } : Jvm.MethodName)) ∈ lw_all := lw_g (lw_at lw_m5 137 rfl) rfl
theorem q1994 : (Jvm.Cond.castable "TurningRoads$Joined" "java/lang/Object") ∈ lw_tbl := lw_at lw_m8 172 rfl
theorem in_X11 : ∀ w ∈ wsX110, w ∈ lw_all := lw_in wsX110 [834, 836, 838] (by decide +kernel) (by decide +kernel)

/-! TurningRoads$Told -/
def RX12 : String := "TurningRoads$Told"
def TX12 : u_T := fun k => match k with
  | 0 => ("TurningRoads$Told", "kind", "I", true)
  | 1 => ("TurningRoads$Told", "sum", "LTurningRoads$Value;", true)
  | _ => ("TurningRoads$Told", "when", "LTurningRoads$Condition;", true)
def tyX12 : Nat → FieldType := fun k => match k with
  | 0 => .int
  | 1 => .object "TurningRoads$Value"
  | _ => .object "TurningRoads$Condition"
abbrev wsX120 : List Cond := u_ws RX12 TX12 3
theorem nmX12 : ∀ a, a < 3 → ∀ b, b < 3 → a ≠ b → (TX12 a).2.1 ≠ (TX12 b).2.1 := by decide +kernel
theorem tyX12_ok : ∀ k, k < 3 → parseFieldDescriptor (TX12 k).2.2.1 = some (tyX12 k) := by decide +kernel
abbrev cX12_init : ByteArray := prog_14_method_1_code
def yX12_init : MethodName := ⟨RX12, "<init>", "(ILTurningRoads$Value;LTurningRoads$Condition;)V"⟩
def dkwX12_init_0 : List UInt8 := [42, 183, 0, 1, 42, 27, 181, 0, 7, 42, 44, 181, 0, 13, 42, 45, 181, 0, 17, 177]
abbrev dktX12_init_0 : List UInt8 := dkwX12_init_0 ++ []
theorem dksX12_init_0 : cX12_init.data.toList.drop 0 = dktX12_init_0 := by decide +kernel
theorem dX12_init_0 : decode cX12_init 0 = .ok (.aload_n 0, 1) := dk_42 (dk_at dksX12_init_0 0 rfl rfl)
theorem dX12_init_1 : decode cX12_init 1 = .ok (.invokespecial 1, 3) := dk_183 0 1 (dk_at dksX12_init_0 1 rfl rfl)
theorem dX12_init_4 : decode cX12_init 4 = .ok (.aload_n 0, 1) := dk_42 (dk_at dksX12_init_0 4 rfl rfl)
theorem dX12_init_5 : decode cX12_init 5 = .ok (.iload_n 1, 1) := dk_27 (dk_at dksX12_init_0 5 rfl rfl)
theorem dX12_init_6 : decode cX12_init 6 = .ok (.putfield 7, 3) := dk_181 0 7 (dk_at dksX12_init_0 6 rfl rfl)
theorem dX12_init_9 : decode cX12_init 9 = .ok (.aload_n 0, 1) := dk_42 (dk_at dksX12_init_0 9 rfl rfl)
theorem dX12_init_10 : decode cX12_init 10 = .ok (.aload_n 2, 1) := dk_44 (dk_at dksX12_init_0 10 rfl rfl)
theorem dX12_init_11 : decode cX12_init 11 = .ok (.putfield 13, 3) := dk_181 0 13 (dk_at dksX12_init_0 11 rfl rfl)
theorem dX12_init_14 : decode cX12_init 14 = .ok (.aload_n 0, 1) := dk_42 (dk_at dksX12_init_0 14 rfl rfl)
theorem dX12_init_15 : decode cX12_init 15 = .ok (.aload_n 3, 1) := dk_45 (dk_at dksX12_init_0 15 rfl rfl)
theorem dX12_init_16 : decode cX12_init 16 = .ok (.putfield 17, 3) := dk_181 0 17 (dk_at dksX12_init_0 16 rfl rfl)
theorem dX12_init_19 : decode cX12_init 19 = .ok (.return_, 1) := dk_177 (dk_at dksX12_init_0 19 rfl rfl)
abbrev cX12_holds : ByteArray := prog_14_method_2_code
def yX12_holds : MethodName := ⟨RX12, "holds", "([J)Z"⟩
def dkwX12_holds_0 : List UInt8 := [42, 180, 0, 17, 198, 0, 14, 42, 180, 0, 17, 43, 182, 0, 21, 153, 0, 7, 4, 167, 0, 4, 3, 172]
abbrev dktX12_holds_0 : List UInt8 := dkwX12_holds_0 ++ []
theorem dksX12_holds_0 : cX12_holds.data.toList.drop 0 = dktX12_holds_0 := by decide +kernel
theorem dX12_holds_0 : decode cX12_holds 0 = .ok (.aload_n 0, 1) := dk_42 (dk_at dksX12_holds_0 0 rfl rfl)
theorem dX12_holds_1 : decode cX12_holds 1 = .ok (.getfield 17, 3) := dk_180 0 17 (dk_at dksX12_holds_0 1 rfl rfl)
theorem dX12_holds_4 : decode cX12_holds 4 = .ok (.ifnull 14, 3) := dk_198 0 14 (dk_at dksX12_holds_0 4 rfl rfl)
theorem dX12_holds_7 : decode cX12_holds 7 = .ok (.aload_n 0, 1) := dk_42 (dk_at dksX12_holds_0 7 rfl rfl)
theorem dX12_holds_8 : decode cX12_holds 8 = .ok (.getfield 17, 3) := dk_180 0 17 (dk_at dksX12_holds_0 8 rfl rfl)
theorem dX12_holds_11 : decode cX12_holds 11 = .ok (.aload_n 1, 1) := dk_43 (dk_at dksX12_holds_0 11 rfl rfl)
theorem dX12_holds_12 : decode cX12_holds 12 = .ok (.invokevirtual 21, 3) := dk_182 0 21 (dk_at dksX12_holds_0 12 rfl rfl)
theorem dX12_holds_15 : decode cX12_holds 15 = .ok (.ifCond .eq 7, 3) := dk_153 0 7 (dk_at dksX12_holds_0 15 rfl rfl)
theorem dX12_holds_18 : decode cX12_holds 18 = .ok (.iconst 1, 1) := dk_4 (dk_at dksX12_holds_0 18 rfl rfl)
theorem dX12_holds_19 : decode cX12_holds 19 = .ok (.goto 4, 3) := dk_167 0 4 (dk_at dksX12_holds_0 19 rfl rfl)
theorem dX12_holds_22 : decode cX12_holds 22 = .ok (.iconst 0, 1) := dk_3 (dk_at dksX12_holds_0 22 rfl rfl)
theorem dX12_holds_23 : decode cX12_holds 23 = .ok (.ireturn, 1) := dk_172 (dk_at dksX12_holds_0 23 rfl rfl)
theorem q170 : (Jvm.Cond.initialized "TurningRoads$Told") ∈ lw_all := lw_g (lw_at lw_m1 28 rfl) rfl
theorem q660 : (Jvm.Cond.selects "TurningRoads$Told" ({ cls := "java/lang/Object", name := "getClass", desc := "()Ljava/lang/Class;" } : Jvm.MethodName) ({ cls := "java/lang/Object", name := "getClass", desc := "()Ljava/lang/Class;" } : Jvm.MethodName)) ∈ lw_all := lw_g (lw_at lw_m3 38 rfl) rfl
theorem q842 : (Jvm.Cond.instantiable "TurningRoads$Told" (3 : Nat)) ∈ lw_all := lw_g (lw_at lw_m3 220 rfl) rfl
theorem q916 : (Jvm.Cond.instanceMethod ({ cls := "TurningRoads$Told", name := "<init>", desc := "(ILTurningRoads$Value;LTurningRoads$Condition;)V" } : Jvm.MethodName)) ∈ lw_all := lw_g (lw_at lw_m4 54 rfl) rfl
theorem q917 : (Jvm.Cond.code ({ cls := "TurningRoads$Told", name := "<init>", desc := "(ILTurningRoads$Value;LTurningRoads$Condition;)V" } : Jvm.MethodName) prog_14_method_1_code (4 : Nat) (Option.none : Option Jvm.ClassFile.FieldType)) ∈ lw_all := lw_g (lw_at lw_m4 55 rfl) rfl
theorem q918 : (Jvm.Cond.methodLink "TurningRoads$Told" (1 : Nat) ({ cls := "java/lang/Record", name := "<init>", desc := "()V" } : Jvm.MethodName)) ∈ lw_all := lw_g (lw_at lw_m4 56 rfl) rfl
theorem q922 : (Jvm.Cond.fieldLink "TurningRoads$Told" (7 : Nat) "TurningRoads$Told" "kind" "I") ∈ lw_all := lw_g (lw_at lw_m4 60 rfl) rfl
theorem q923 : (Jvm.Cond.fieldLink "TurningRoads$Told" (13 : Nat) "TurningRoads$Told" "sum" "LTurningRoads$Value;") ∈ lw_all := lw_g (lw_at lw_m4 61 rfl) rfl
theorem q925 : (Jvm.Cond.fieldLink "TurningRoads$Told" (17 : Nat) "TurningRoads$Told" "when" "LTurningRoads$Condition;") ∈ lw_all := lw_g (lw_at lw_m4 63 rfl) rfl
theorem q926 : (Jvm.Cond.laysFinal "TurningRoads$Told" "TurningRoads$Told" "kind" "I") ∈ lw_all := lw_g (lw_at lw_m4 64 rfl) rfl
theorem q927 : (Jvm.Cond.soleField "TurningRoads$Told" "kind") ∈ lw_all := lw_g (lw_at lw_m4 65 rfl) rfl
theorem q928 : (Jvm.Cond.laysFinal "TurningRoads$Told" "TurningRoads$Told" "sum" "LTurningRoads$Value;") ∈ lw_all := lw_g (lw_at lw_m4 66 rfl) rfl
theorem q929 : (Jvm.Cond.soleField "TurningRoads$Told" "sum") ∈ lw_all := lw_g (lw_at lw_m4 67 rfl) rfl
theorem q930 : (Jvm.Cond.laysFinal "TurningRoads$Told" "TurningRoads$Told" "when" "LTurningRoads$Condition;") ∈ lw_all := lw_g (lw_at lw_m4 68 rfl) rfl
theorem q931 : (Jvm.Cond.soleField "TurningRoads$Told" "when") ∈ lw_all := lw_g (lw_at lw_m4 69 rfl) rfl
theorem q932 : (Jvm.Cond.superclass "TurningRoads$Told" "java/lang/Record") ∈ lw_all := lw_g (lw_at lw_m4 70 rfl) rfl
theorem q1258 : (Jvm.Cond.instanceMethod ({ cls := "TurningRoads$Told", name := "holds", desc := "([J)Z" } : Jvm.MethodName)) ∈ lw_all := lw_g (lw_at lw_m5 156 rfl) rfl
theorem q1259 : (Jvm.Cond.selects "TurningRoads$Told" ({ cls := "TurningRoads$Told", name := "holds", desc := "([J)Z" } : Jvm.MethodName) ({ cls := "TurningRoads$Told", name := "holds", desc := "([J)Z" } : Jvm.MethodName)) ∈ lw_all := lw_g (lw_at lw_m5 157 rfl) rfl
theorem q1260 : (Jvm.Cond.code ({ cls := "TurningRoads$Told", name := "holds", desc := "([J)Z" } : Jvm.MethodName) prog_14_method_2_code (2 : Nat) (Option.some Jvm.ClassFile.FieldType.boolean)) ∈ lw_all := lw_g (lw_at lw_m5 158 rfl) rfl
theorem q1261 : (Jvm.Cond.methodLink "TurningRoads$Told" (21 : Nat) ({ cls := "TurningRoads$Condition", name := "is", desc := "([J)Z" } : Jvm.MethodName)) ∈ lw_all := lw_g (lw_at lw_m5 159 rfl) rfl
theorem q1995 : (Jvm.Cond.castable "TurningRoads$Told" "java/lang/Object") ∈ lw_tbl := lw_at lw_m8 173 rfl
theorem in_X12 : ∀ w ∈ wsX120, w ∈ lw_all := lw_in wsX120 [926, 928, 930] (by decide +kernel) (by decide +kernel)

/-! TurningRoads$Not -/
def RX14 : String := "TurningRoads$Not"
def TX14 : u_T := fun k => match k with
  | _ => ("TurningRoads$Not", "of", "LTurningRoads$Condition;", true)
def tyX14 : Nat → FieldType := fun k => match k with
  | _ => .object "TurningRoads$Condition"
abbrev wsX140 : List Cond := u_ws RX14 TX14 1
theorem nmX14 : ∀ a, a < 1 → ∀ b, b < 1 → a ≠ b → (TX14 a).2.1 ≠ (TX14 b).2.1 := by decide +kernel
theorem tyX14_ok : ∀ k, k < 1 → parseFieldDescriptor (TX14 k).2.2.1 = some (tyX14 k) := by decide +kernel
abbrev cX14_init : ByteArray := prog_10_method_1_code
def yX14_init : MethodName := ⟨RX14, "<init>", "(LTurningRoads$Condition;)V"⟩
def dkwX14_init_0 : List UInt8 := [42, 183, 0, 1, 42, 43, 181, 0, 7, 177]
abbrev dktX14_init_0 : List UInt8 := dkwX14_init_0 ++ []
theorem dksX14_init_0 : cX14_init.data.toList.drop 0 = dktX14_init_0 := by decide +kernel
theorem dX14_init_0 : decode cX14_init 0 = .ok (.aload_n 0, 1) := dk_42 (dk_at dksX14_init_0 0 rfl rfl)
theorem dX14_init_1 : decode cX14_init 1 = .ok (.invokespecial 1, 3) := dk_183 0 1 (dk_at dksX14_init_0 1 rfl rfl)
theorem dX14_init_4 : decode cX14_init 4 = .ok (.aload_n 0, 1) := dk_42 (dk_at dksX14_init_0 4 rfl rfl)
theorem dX14_init_5 : decode cX14_init 5 = .ok (.aload_n 1, 1) := dk_43 (dk_at dksX14_init_0 5 rfl rfl)
theorem dX14_init_6 : decode cX14_init 6 = .ok (.putfield 7, 3) := dk_181 0 7 (dk_at dksX14_init_0 6 rfl rfl)
theorem dX14_init_9 : decode cX14_init 9 = .ok (.return_, 1) := dk_177 (dk_at dksX14_init_0 9 rfl rfl)
abbrev cX14_is : ByteArray := prog_10_method_2_code
def yX14_is : MethodName := ⟨RX14, "is", "([J)Z"⟩
def dkwX14_is_0 : List UInt8 := [42, 180, 0, 7, 43, 182, 0, 13, 154, 0, 7, 4, 167, 0, 4, 3, 172]
abbrev dktX14_is_0 : List UInt8 := dkwX14_is_0 ++ []
theorem dksX14_is_0 : cX14_is.data.toList.drop 0 = dktX14_is_0 := by decide +kernel
theorem dX14_is_0 : decode cX14_is 0 = .ok (.aload_n 0, 1) := dk_42 (dk_at dksX14_is_0 0 rfl rfl)
theorem dX14_is_1 : decode cX14_is 1 = .ok (.getfield 7, 3) := dk_180 0 7 (dk_at dksX14_is_0 1 rfl rfl)
theorem dX14_is_4 : decode cX14_is 4 = .ok (.aload_n 1, 1) := dk_43 (dk_at dksX14_is_0 4 rfl rfl)
theorem dX14_is_5 : decode cX14_is 5 = .ok (.invokevirtual 13, 3) := dk_182 0 13 (dk_at dksX14_is_0 5 rfl rfl)
theorem dX14_is_8 : decode cX14_is 8 = .ok (.ifCond .ne 7, 3) := dk_154 0 7 (dk_at dksX14_is_0 8 rfl rfl)
theorem dX14_is_11 : decode cX14_is 11 = .ok (.iconst 1, 1) := dk_4 (dk_at dksX14_is_0 11 rfl rfl)
theorem dX14_is_12 : decode cX14_is 12 = .ok (.goto 4, 3) := dk_167 0 4 (dk_at dksX14_is_0 12 rfl rfl)
theorem dX14_is_15 : decode cX14_is 15 = .ok (.iconst 0, 1) := dk_3 (dk_at dksX14_is_0 15 rfl rfl)
theorem dX14_is_16 : decode cX14_is 16 = .ok (.ireturn, 1) := dk_172 (dk_at dksX14_is_0 16 rfl rfl)
theorem q172 : (Jvm.Cond.initialized "TurningRoads$Not") ∈ lw_all := lw_g (lw_at lw_m1 30 rfl) rfl
theorem q656 : (Jvm.Cond.selects "TurningRoads$Not" ({ cls := "java/lang/Object", name := "getClass", desc := "()Ljava/lang/Class;" } : Jvm.MethodName) ({ cls := "java/lang/Object", name := "getClass", desc := "()Ljava/lang/Class;" } : Jvm.MethodName)) ∈ lw_all := lw_g (lw_at lw_m3 34 rfl) rfl
theorem q866 : (Jvm.Cond.instantiable "TurningRoads$Not" (1 : Nat)) ∈ lw_all := lw_g (lw_at lw_m4 4 rfl) rfl
theorem q868 : (Jvm.Cond.instanceMethod ({ cls := "TurningRoads$Not", name := "<init>", desc := "(LTurningRoads$Condition;)V" } : Jvm.MethodName)) ∈ lw_all := lw_g (lw_at lw_m4 6 rfl) rfl
theorem q869 : (Jvm.Cond.code ({ cls := "TurningRoads$Not", name := "<init>", desc := "(LTurningRoads$Condition;)V" } : Jvm.MethodName) prog_10_method_1_code (2 : Nat) (Option.none : Option Jvm.ClassFile.FieldType)) ∈ lw_all := lw_g (lw_at lw_m4 7 rfl) rfl
theorem q870 : (Jvm.Cond.methodLinkNest "TurningRoads$Not" (1 : Nat) ({ cls := "TurningRoads$Condition", name := "<init>", desc := "()V" } : Jvm.MethodName) "TurningRoads") ∈ lw_tbl := lw_at lw_m4 8 rfl
theorem q874 : (Jvm.Cond.fieldLink "TurningRoads$Not" (7 : Nat) "TurningRoads$Not" "of" "LTurningRoads$Condition;") ∈ lw_all := lw_g (lw_at lw_m4 12 rfl) rfl
theorem q875 : (Jvm.Cond.laysFinal "TurningRoads$Not" "TurningRoads$Not" "of" "LTurningRoads$Condition;") ∈ lw_all := lw_g (lw_at lw_m4 13 rfl) rfl
theorem q876 : (Jvm.Cond.soleField "TurningRoads$Not" "of") ∈ lw_all := lw_g (lw_at lw_m4 14 rfl) rfl
theorem q877 : (Jvm.Cond.superclass "TurningRoads$Not" "TurningRoads$Condition") ∈ lw_all := lw_g (lw_at lw_m4 15 rfl) rfl
theorem q1243 : (Jvm.Cond.instanceMethod ({ cls := "TurningRoads$Not", name := "is", desc := "([J)Z" } : Jvm.MethodName)) ∈ lw_all := lw_g (lw_at lw_m5 141 rfl) rfl
theorem q1244 : (Jvm.Cond.code ({ cls := "TurningRoads$Not", name := "is", desc := "([J)Z" } : Jvm.MethodName) prog_10_method_2_code (2 : Nat) (Option.some Jvm.ClassFile.FieldType.boolean)) ∈ lw_all := lw_g (lw_at lw_m5 142 rfl) rfl
theorem q1245 : (Jvm.Cond.methodLink "TurningRoads$Not" (13 : Nat) ({ cls := "TurningRoads$Condition", name := "is", desc := "([J)Z" } : Jvm.MethodName)) ∈ lw_all := lw_g (lw_at lw_m5 143 rfl) rfl
theorem q1247 : (Jvm.Cond.selects "TurningRoads$Not" ({ cls := "TurningRoads$Condition", name := "is", desc := "([J)Z" } : Jvm.MethodName) ({ cls := "TurningRoads$Not", name := "is", desc := "([J)Z" } : Jvm.MethodName)) ∈ lw_all := lw_g (lw_at lw_m5 145 rfl) rfl
theorem q1980 : (Jvm.Cond.castable "TurningRoads$Not" "TurningRoads$Condition") ∈ lw_tbl := lw_at lw_m8 158 rfl
theorem q1996 : (Jvm.Cond.castable "TurningRoads$Not" "java/lang/Object") ∈ lw_tbl := lw_at lw_m8 174 rfl
theorem in_X14 : ∀ w ∈ wsX140, w ∈ lw_all := lw_in wsX140 [875] (by decide +kernel) (by decide +kernel)

/-! TurningRoads$Compared -/
def RX15 : String := "TurningRoads$Compared"
def TX15 : u_T := fun k => match k with
  | 0 => ("TurningRoads$Compared", "a", "LTurningRoads$Value;", true)
  | 1 => ("TurningRoads$Compared", "b", "LTurningRoads$Value;", true)
  | 2 => ("TurningRoads$Compared", "sign", "I", true)
  | _ => ("TurningRoads$Compared", "same", "Z", true)
def tyX15 : Nat → FieldType := fun k => match k with
  | 0 => .object "TurningRoads$Value"
  | 1 => .object "TurningRoads$Value"
  | 2 => .int
  | _ => .boolean
abbrev wsX150 : List Cond := u_ws RX15 TX15 4
theorem nmX15 : ∀ a, a < 4 → ∀ b, b < 4 → a ≠ b → (TX15 a).2.1 ≠ (TX15 b).2.1 := by decide +kernel
theorem tyX15_ok : ∀ k, k < 4 → parseFieldDescriptor (TX15 k).2.2.1 = some (tyX15 k) := by decide +kernel
abbrev cX15_init : ByteArray := prog_4_method_1_code
def yX15_init : MethodName := ⟨RX15, "<init>", "(LTurningRoads$Value;LTurningRoads$Value;IZ)V"⟩
def dkwX15_init_1 : List UInt8 := [181, 0, 20, 177]
abbrev dktX15_init_1 : List UInt8 := dkwX15_init_1 ++ []
def dkwX15_init_0 : List UInt8 := [42, 183, 0, 1, 42, 43, 181, 0, 7, 42, 44, 181, 0, 13, 42, 29, 181, 0, 16, 42, 21, 4]
abbrev dktX15_init_0 : List UInt8 := dkwX15_init_0 ++ dktX15_init_1
theorem dksX15_init_0 : cX15_init.data.toList.drop 0 = dktX15_init_0 := by decide +kernel
theorem dksX15_init_1 : cX15_init.data.toList.drop 22 = dktX15_init_1 := dk_seg dksX15_init_0 22 rfl rfl
theorem dX15_init_0 : decode cX15_init 0 = .ok (.aload_n 0, 1) := dk_42 (dk_at dksX15_init_0 0 rfl rfl)
theorem dX15_init_1 : decode cX15_init 1 = .ok (.invokespecial 1, 3) := dk_183 0 1 (dk_at dksX15_init_0 1 rfl rfl)
theorem dX15_init_4 : decode cX15_init 4 = .ok (.aload_n 0, 1) := dk_42 (dk_at dksX15_init_0 4 rfl rfl)
theorem dX15_init_5 : decode cX15_init 5 = .ok (.aload_n 1, 1) := dk_43 (dk_at dksX15_init_0 5 rfl rfl)
theorem dX15_init_6 : decode cX15_init 6 = .ok (.putfield 7, 3) := dk_181 0 7 (dk_at dksX15_init_0 6 rfl rfl)
theorem dX15_init_9 : decode cX15_init 9 = .ok (.aload_n 0, 1) := dk_42 (dk_at dksX15_init_0 9 rfl rfl)
theorem dX15_init_10 : decode cX15_init 10 = .ok (.aload_n 2, 1) := dk_44 (dk_at dksX15_init_0 10 rfl rfl)
theorem dX15_init_11 : decode cX15_init 11 = .ok (.putfield 13, 3) := dk_181 0 13 (dk_at dksX15_init_0 11 rfl rfl)
theorem dX15_init_14 : decode cX15_init 14 = .ok (.aload_n 0, 1) := dk_42 (dk_at dksX15_init_0 14 rfl rfl)
theorem dX15_init_15 : decode cX15_init 15 = .ok (.iload_n 3, 1) := dk_29 (dk_at dksX15_init_0 15 rfl rfl)
theorem dX15_init_16 : decode cX15_init 16 = .ok (.putfield 16, 3) := dk_181 0 16 (dk_at dksX15_init_0 16 rfl rfl)
theorem dX15_init_19 : decode cX15_init 19 = .ok (.aload_n 0, 1) := dk_42 (dk_at dksX15_init_0 19 rfl rfl)
theorem dX15_init_20 : decode cX15_init 20 = .ok (.iload 4, 2) := dk_21 4 (dk_at dksX15_init_0 20 rfl rfl)
theorem dX15_init_22 : decode cX15_init 22 = .ok (.putfield 20, 3) := dk_181 0 20 (dk_at dksX15_init_1 0 rfl rfl)
theorem dX15_init_25 : decode cX15_init 25 = .ok (.return_, 1) := dk_177 (dk_at dksX15_init_1 3 rfl rfl)
abbrev cX15_is : ByteArray := prog_4_method_2_code
def yX15_is : MethodName := ⟨RX15, "is", "([J)Z"⟩
def dkwX15_is_3 : List UInt8 := [16, 62, 160, 0, 14, 32, 22, 4, 148, 158, 0, 7, 4, 167, 0, 4, 3, 172]
abbrev dktX15_is_3 : List UInt8 := dkwX15_is_3 ++ []
def dkwX15_is_2 : List UInt8 := [167, 0, 40, 42, 180, 0, 16, 16, 60, 160, 0, 10, 32, 22, 4, 148, 155, 0, 19, 42, 180, 0, 16]
abbrev dktX15_is_2 : List UInt8 := dkwX15_is_2 ++ dktX15_is_3
def dkwX15_is_1 : List UInt8 := [154, 0, 27, 42, 180, 0, 16, 16, 61, 159, 0, 10, 42, 180, 0, 20, 153, 0, 7, 4, 167, 0, 44, 3]
abbrev dktX15_is_1 : List UInt8 := dkwX15_is_1 ++ dktX15_is_2
def dkwX15_is_0 : List UInt8 := [42, 180, 0, 7, 43, 182, 0, 24, 65, 42, 180, 0, 13, 43, 182, 0, 24, 55, 4, 32, 22, 4, 148]
abbrev dktX15_is_0 : List UInt8 := dkwX15_is_0 ++ dktX15_is_1
theorem dksX15_is_0 : cX15_is.data.toList.drop 0 = dktX15_is_0 := by decide +kernel
theorem dksX15_is_1 : cX15_is.data.toList.drop 23 = dktX15_is_1 := dk_seg dksX15_is_0 23 rfl rfl
theorem dksX15_is_2 : cX15_is.data.toList.drop 47 = dktX15_is_2 := dk_seg dksX15_is_1 24 rfl rfl
theorem dksX15_is_3 : cX15_is.data.toList.drop 70 = dktX15_is_3 := dk_seg dksX15_is_2 23 rfl rfl
theorem dX15_is_0 : decode cX15_is 0 = .ok (.aload_n 0, 1) := dk_42 (dk_at dksX15_is_0 0 rfl rfl)
theorem dX15_is_1 : decode cX15_is 1 = .ok (.getfield 7, 3) := dk_180 0 7 (dk_at dksX15_is_0 1 rfl rfl)
theorem dX15_is_4 : decode cX15_is 4 = .ok (.aload_n 1, 1) := dk_43 (dk_at dksX15_is_0 4 rfl rfl)
theorem dX15_is_5 : decode cX15_is 5 = .ok (.invokevirtual 24, 3) := dk_182 0 24 (dk_at dksX15_is_0 5 rfl rfl)
theorem dX15_is_8 : decode cX15_is 8 = .ok (.lstore_n 2, 1) := dk_65 (dk_at dksX15_is_0 8 rfl rfl)
theorem dX15_is_9 : decode cX15_is 9 = .ok (.aload_n 0, 1) := dk_42 (dk_at dksX15_is_0 9 rfl rfl)
theorem dX15_is_10 : decode cX15_is 10 = .ok (.getfield 13, 3) := dk_180 0 13 (dk_at dksX15_is_0 10 rfl rfl)
theorem dX15_is_13 : decode cX15_is 13 = .ok (.aload_n 1, 1) := dk_43 (dk_at dksX15_is_0 13 rfl rfl)
theorem dX15_is_14 : decode cX15_is 14 = .ok (.invokevirtual 24, 3) := dk_182 0 24 (dk_at dksX15_is_0 14 rfl rfl)
theorem dX15_is_17 : decode cX15_is 17 = .ok (.lstore 4, 2) := dk_55 4 (dk_at dksX15_is_0 17 rfl rfl)
theorem dX15_is_19 : decode cX15_is 19 = .ok (.lload_n 2, 1) := dk_32 (dk_at dksX15_is_0 19 rfl rfl)
theorem dX15_is_20 : decode cX15_is 20 = .ok (.lload 4, 2) := dk_22 4 (dk_at dksX15_is_0 20 rfl rfl)
theorem dX15_is_22 : decode cX15_is 22 = .ok (.lcmp, 1) := dk_148 (dk_at dksX15_is_0 22 rfl rfl)
theorem dX15_is_23 : decode cX15_is 23 = .ok (.ifCond .ne 27, 3) := dk_154 0 27 (dk_at dksX15_is_1 0 rfl rfl)
theorem dX15_is_26 : decode cX15_is 26 = .ok (.aload_n 0, 1) := dk_42 (dk_at dksX15_is_1 3 rfl rfl)
theorem dX15_is_27 : decode cX15_is 27 = .ok (.getfield 16, 3) := dk_180 0 16 (dk_at dksX15_is_1 4 rfl rfl)
theorem dX15_is_30 : decode cX15_is 30 = .ok (.bipush 61, 2) := dk_16 61 (dk_at dksX15_is_1 7 rfl rfl)
theorem dX15_is_32 : decode cX15_is 32 = .ok (.if_icmp .eq 10, 3) := dk_159 0 10 (dk_at dksX15_is_1 9 rfl rfl)
theorem dX15_is_35 : decode cX15_is 35 = .ok (.aload_n 0, 1) := dk_42 (dk_at dksX15_is_1 12 rfl rfl)
theorem dX15_is_36 : decode cX15_is 36 = .ok (.getfield 20, 3) := dk_180 0 20 (dk_at dksX15_is_1 13 rfl rfl)
theorem dX15_is_39 : decode cX15_is 39 = .ok (.ifCond .eq 7, 3) := dk_153 0 7 (dk_at dksX15_is_1 16 rfl rfl)
theorem dX15_is_42 : decode cX15_is 42 = .ok (.iconst 1, 1) := dk_4 (dk_at dksX15_is_1 19 rfl rfl)
theorem dX15_is_43 : decode cX15_is 43 = .ok (.goto 44, 3) := dk_167 0 44 (dk_at dksX15_is_1 20 rfl rfl)
theorem dX15_is_46 : decode cX15_is 46 = .ok (.iconst 0, 1) := dk_3 (dk_at dksX15_is_1 23 rfl rfl)
theorem dX15_is_47 : decode cX15_is 47 = .ok (.goto 40, 3) := dk_167 0 40 (dk_at dksX15_is_2 0 rfl rfl)
theorem dX15_is_50 : decode cX15_is 50 = .ok (.aload_n 0, 1) := dk_42 (dk_at dksX15_is_2 3 rfl rfl)
theorem dX15_is_51 : decode cX15_is 51 = .ok (.getfield 16, 3) := dk_180 0 16 (dk_at dksX15_is_2 4 rfl rfl)
theorem dX15_is_54 : decode cX15_is 54 = .ok (.bipush 60, 2) := dk_16 60 (dk_at dksX15_is_2 7 rfl rfl)
theorem dX15_is_56 : decode cX15_is 56 = .ok (.if_icmp .ne 10, 3) := dk_160 0 10 (dk_at dksX15_is_2 9 rfl rfl)
theorem dX15_is_59 : decode cX15_is 59 = .ok (.lload_n 2, 1) := dk_32 (dk_at dksX15_is_2 12 rfl rfl)
theorem dX15_is_60 : decode cX15_is 60 = .ok (.lload 4, 2) := dk_22 4 (dk_at dksX15_is_2 13 rfl rfl)
theorem dX15_is_62 : decode cX15_is 62 = .ok (.lcmp, 1) := dk_148 (dk_at dksX15_is_2 15 rfl rfl)
theorem dX15_is_63 : decode cX15_is 63 = .ok (.ifCond .lt 19, 3) := dk_155 0 19 (dk_at dksX15_is_2 16 rfl rfl)
theorem dX15_is_66 : decode cX15_is 66 = .ok (.aload_n 0, 1) := dk_42 (dk_at dksX15_is_2 19 rfl rfl)
theorem dX15_is_67 : decode cX15_is 67 = .ok (.getfield 16, 3) := dk_180 0 16 (dk_at dksX15_is_2 20 rfl rfl)
theorem dX15_is_70 : decode cX15_is 70 = .ok (.bipush 62, 2) := dk_16 62 (dk_at dksX15_is_3 0 rfl rfl)
theorem dX15_is_72 : decode cX15_is 72 = .ok (.if_icmp .ne 14, 3) := dk_160 0 14 (dk_at dksX15_is_3 2 rfl rfl)
theorem dX15_is_75 : decode cX15_is 75 = .ok (.lload_n 2, 1) := dk_32 (dk_at dksX15_is_3 5 rfl rfl)
theorem dX15_is_76 : decode cX15_is 76 = .ok (.lload 4, 2) := dk_22 4 (dk_at dksX15_is_3 6 rfl rfl)
theorem dX15_is_78 : decode cX15_is 78 = .ok (.lcmp, 1) := dk_148 (dk_at dksX15_is_3 8 rfl rfl)
theorem dX15_is_79 : decode cX15_is 79 = .ok (.ifCond .le 7, 3) := dk_158 0 7 (dk_at dksX15_is_3 9 rfl rfl)
theorem dX15_is_82 : decode cX15_is 82 = .ok (.iconst 1, 1) := dk_4 (dk_at dksX15_is_3 12 rfl rfl)
theorem dX15_is_83 : decode cX15_is 83 = .ok (.goto 4, 3) := dk_167 0 4 (dk_at dksX15_is_3 13 rfl rfl)
theorem dX15_is_86 : decode cX15_is 86 = .ok (.iconst 0, 1) := dk_3 (dk_at dksX15_is_3 16 rfl rfl)
theorem dX15_is_87 : decode cX15_is 87 = .ok (.ireturn, 1) := dk_172 (dk_at dksX15_is_3 17 rfl rfl)
theorem q173 : (Jvm.Cond.initialized "TurningRoads$Compared") ∈ lw_all := lw_g (lw_at lw_m1 31 rfl) rfl
theorem q651 : (Jvm.Cond.selects "TurningRoads$Compared" ({ cls := "java/lang/Object", name := "getClass", desc := "()Ljava/lang/Class;" } : Jvm.MethodName) ({ cls := "java/lang/Object", name := "getClass", desc := "()Ljava/lang/Class;" } : Jvm.MethodName)) ∈ lw_all := lw_g (lw_at lw_m3 29 rfl) rfl
theorem q879 : (Jvm.Cond.instantiable "TurningRoads$Compared" (4 : Nat)) ∈ lw_all := lw_g (lw_at lw_m4 17 rfl) rfl
theorem q881 : (Jvm.Cond.instanceMethod ({ cls := "TurningRoads$Compared", name := "<init>", desc := "(LTurningRoads$Value;LTurningRoads$Value;IZ)V" } : Jvm.MethodName)) ∈ lw_all := lw_g (lw_at lw_m4 19 rfl) rfl
theorem q882 : (Jvm.Cond.code ({ cls := "TurningRoads$Compared", name := "<init>", desc := "(LTurningRoads$Value;LTurningRoads$Value;IZ)V" } : Jvm.MethodName) prog_4_method_1_code (5 : Nat) (Option.none : Option Jvm.ClassFile.FieldType)) ∈ lw_all := lw_g (lw_at lw_m4 20 rfl) rfl
theorem q883 : (Jvm.Cond.methodLinkNest "TurningRoads$Compared" (1 : Nat) ({ cls := "TurningRoads$Condition", name := "<init>", desc := "()V" } : Jvm.MethodName) "TurningRoads") ∈ lw_tbl := lw_at lw_m4 21 rfl
theorem q884 : (Jvm.Cond.fieldLink "TurningRoads$Compared" (7 : Nat) "TurningRoads$Compared" "a" "LTurningRoads$Value;") ∈ lw_all := lw_g (lw_at lw_m4 22 rfl) rfl
theorem q885 : (Jvm.Cond.fieldLink "TurningRoads$Compared" (13 : Nat) "TurningRoads$Compared" "b" "LTurningRoads$Value;") ∈ lw_all := lw_g (lw_at lw_m4 23 rfl) rfl
theorem q886 : (Jvm.Cond.fieldLink "TurningRoads$Compared" (16 : Nat) "TurningRoads$Compared" "sign" "I") ∈ lw_all := lw_g (lw_at lw_m4 24 rfl) rfl
theorem q887 : (Jvm.Cond.fieldLink "TurningRoads$Compared" (20 : Nat) "TurningRoads$Compared" "same" "Z") ∈ lw_all := lw_g (lw_at lw_m4 25 rfl) rfl
theorem q888 : (Jvm.Cond.laysFinal "TurningRoads$Compared" "TurningRoads$Compared" "a" "LTurningRoads$Value;") ∈ lw_all := lw_g (lw_at lw_m4 26 rfl) rfl
theorem q889 : (Jvm.Cond.soleField "TurningRoads$Compared" "a") ∈ lw_all := lw_g (lw_at lw_m4 27 rfl) rfl
theorem q890 : (Jvm.Cond.laysFinal "TurningRoads$Compared" "TurningRoads$Compared" "b" "LTurningRoads$Value;") ∈ lw_all := lw_g (lw_at lw_m4 28 rfl) rfl
theorem q891 : (Jvm.Cond.soleField "TurningRoads$Compared" "b") ∈ lw_all := lw_g (lw_at lw_m4 29 rfl) rfl
theorem q892 : (Jvm.Cond.laysFinal "TurningRoads$Compared" "TurningRoads$Compared" "sign" "I") ∈ lw_all := lw_g (lw_at lw_m4 30 rfl) rfl
theorem q893 : (Jvm.Cond.soleField "TurningRoads$Compared" "sign") ∈ lw_all := lw_g (lw_at lw_m4 31 rfl) rfl
theorem q894 : (Jvm.Cond.laysFinal "TurningRoads$Compared" "TurningRoads$Compared" "same" "Z") ∈ lw_all := lw_g (lw_at lw_m4 32 rfl) rfl
theorem q895 : (Jvm.Cond.soleField "TurningRoads$Compared" "same") ∈ lw_all := lw_g (lw_at lw_m4 33 rfl) rfl
theorem q896 : (Jvm.Cond.superclass "TurningRoads$Compared" "TurningRoads$Condition") ∈ lw_all := lw_g (lw_at lw_m4 34 rfl) rfl
theorem q1228 : (Jvm.Cond.instanceMethod ({ cls := "TurningRoads$Compared", name := "is", desc := "([J)Z" } : Jvm.MethodName)) ∈ lw_all := lw_g (lw_at lw_m5 126 rfl) rfl
theorem q1229 : (Jvm.Cond.code ({ cls := "TurningRoads$Compared", name := "is", desc := "([J)Z" } : Jvm.MethodName) prog_4_method_2_code (6 : Nat) (Option.some Jvm.ClassFile.FieldType.boolean)) ∈ lw_all := lw_g (lw_at lw_m5 127 rfl) rfl
theorem q1230 : (Jvm.Cond.methodLink "TurningRoads$Compared" (24 : Nat) ({ cls := "TurningRoads$Value", name := "of", desc := "([J)J" } : Jvm.MethodName)) ∈ lw_all := lw_g (lw_at lw_m5 128 rfl) rfl
theorem q1246 : (Jvm.Cond.selects "TurningRoads$Compared" ({ cls := "TurningRoads$Condition", name := "is", desc := "([J)Z" } : Jvm.MethodName) ({ cls := "TurningRoads$Compared", name := "is", desc := "([J)Z" } : Jvm.MethodName)) ∈ lw_all := lw_g (lw_at lw_m5 144 rfl) rfl
theorem q1979 : (Jvm.Cond.castable "TurningRoads$Compared" "TurningRoads$Condition") ∈ lw_tbl := lw_at lw_m8 157 rfl
theorem q1997 : (Jvm.Cond.castable "TurningRoads$Compared" "java/lang/Object") ∈ lw_tbl := lw_at lw_m8 175 rfl
theorem in_X15 : ∀ w ∈ wsX150, w ∈ lw_all := lw_in wsX150 [888, 890, 892, 894] (by decide +kernel) (by decide +kernel)

/-! TurningRoads$Both -/
def RX16 : String := "TurningRoads$Both"
def TX16 : u_T := fun k => match k with
  | 0 => ("TurningRoads$Both", "a", "LTurningRoads$Condition;", true)
  | 1 => ("TurningRoads$Both", "b", "LTurningRoads$Condition;", true)
  | _ => ("TurningRoads$Both", "or", "Z", true)
def tyX16 : Nat → FieldType := fun k => match k with
  | 0 => .object "TurningRoads$Condition"
  | 1 => .object "TurningRoads$Condition"
  | _ => .boolean
abbrev wsX160 : List Cond := u_ws RX16 TX16 3
theorem nmX16 : ∀ a, a < 3 → ∀ b, b < 3 → a ≠ b → (TX16 a).2.1 ≠ (TX16 b).2.1 := by decide +kernel
theorem tyX16_ok : ∀ k, k < 3 → parseFieldDescriptor (TX16 k).2.2.1 = some (tyX16 k) := by decide +kernel
abbrev cX16_init : ByteArray := prog_3_method_1_code
def yX16_init : MethodName := ⟨RX16, "<init>", "(LTurningRoads$Condition;LTurningRoads$Condition;Z)V"⟩
def dkwX16_init_0 : List UInt8 := [42, 183, 0, 1, 42, 43, 181, 0, 7, 42, 44, 181, 0, 13, 42, 29, 181, 0, 16, 177]
abbrev dktX16_init_0 : List UInt8 := dkwX16_init_0 ++ []
theorem dksX16_init_0 : cX16_init.data.toList.drop 0 = dktX16_init_0 := by decide +kernel
theorem dX16_init_0 : decode cX16_init 0 = .ok (.aload_n 0, 1) := dk_42 (dk_at dksX16_init_0 0 rfl rfl)
theorem dX16_init_1 : decode cX16_init 1 = .ok (.invokespecial 1, 3) := dk_183 0 1 (dk_at dksX16_init_0 1 rfl rfl)
theorem dX16_init_4 : decode cX16_init 4 = .ok (.aload_n 0, 1) := dk_42 (dk_at dksX16_init_0 4 rfl rfl)
theorem dX16_init_5 : decode cX16_init 5 = .ok (.aload_n 1, 1) := dk_43 (dk_at dksX16_init_0 5 rfl rfl)
theorem dX16_init_6 : decode cX16_init 6 = .ok (.putfield 7, 3) := dk_181 0 7 (dk_at dksX16_init_0 6 rfl rfl)
theorem dX16_init_9 : decode cX16_init 9 = .ok (.aload_n 0, 1) := dk_42 (dk_at dksX16_init_0 9 rfl rfl)
theorem dX16_init_10 : decode cX16_init 10 = .ok (.aload_n 2, 1) := dk_44 (dk_at dksX16_init_0 10 rfl rfl)
theorem dX16_init_11 : decode cX16_init 11 = .ok (.putfield 13, 3) := dk_181 0 13 (dk_at dksX16_init_0 11 rfl rfl)
theorem dX16_init_14 : decode cX16_init 14 = .ok (.aload_n 0, 1) := dk_42 (dk_at dksX16_init_0 14 rfl rfl)
theorem dX16_init_15 : decode cX16_init 15 = .ok (.iload_n 3, 1) := dk_29 (dk_at dksX16_init_0 15 rfl rfl)
theorem dX16_init_16 : decode cX16_init 16 = .ok (.putfield 16, 3) := dk_181 0 16 (dk_at dksX16_init_0 16 rfl rfl)
theorem dX16_init_19 : decode cX16_init 19 = .ok (.return_, 1) := dk_177 (dk_at dksX16_init_0 19 rfl rfl)
abbrev cX16_is : ByteArray := prog_3_method_2_code
def yX16_is : MethodName := ⟨RX16, "is", "([J)Z"⟩
def dkwX16_is_2 : List UInt8 := [153, 0, 18, 42, 180, 0, 13, 43, 182, 0, 20, 153, 0, 7, 4, 167, 0, 4, 3, 172]
abbrev dktX16_is_2 : List UInt8 := dkwX16_is_2 ++ []
def dkwX16_is_1 : List UInt8 := [182, 0, 20, 153, 0, 7, 4, 167, 0, 34, 3, 167, 0, 30, 42, 180, 0, 7, 43, 182, 0, 20]
abbrev dktX16_is_1 : List UInt8 := dkwX16_is_1 ++ dktX16_is_2
def dkwX16_is_0 : List UInt8 := [42, 180, 0, 16, 153, 0, 33, 42, 180, 0, 7, 43, 182, 0, 20, 154, 0, 14, 42, 180, 0, 13, 43]
abbrev dktX16_is_0 : List UInt8 := dkwX16_is_0 ++ dktX16_is_1
theorem dksX16_is_0 : cX16_is.data.toList.drop 0 = dktX16_is_0 := by decide +kernel
theorem dksX16_is_1 : cX16_is.data.toList.drop 23 = dktX16_is_1 := dk_seg dksX16_is_0 23 rfl rfl
theorem dksX16_is_2 : cX16_is.data.toList.drop 45 = dktX16_is_2 := dk_seg dksX16_is_1 22 rfl rfl
theorem dX16_is_0 : decode cX16_is 0 = .ok (.aload_n 0, 1) := dk_42 (dk_at dksX16_is_0 0 rfl rfl)
theorem dX16_is_1 : decode cX16_is 1 = .ok (.getfield 16, 3) := dk_180 0 16 (dk_at dksX16_is_0 1 rfl rfl)
theorem dX16_is_4 : decode cX16_is 4 = .ok (.ifCond .eq 33, 3) := dk_153 0 33 (dk_at dksX16_is_0 4 rfl rfl)
theorem dX16_is_7 : decode cX16_is 7 = .ok (.aload_n 0, 1) := dk_42 (dk_at dksX16_is_0 7 rfl rfl)
theorem dX16_is_8 : decode cX16_is 8 = .ok (.getfield 7, 3) := dk_180 0 7 (dk_at dksX16_is_0 8 rfl rfl)
theorem dX16_is_11 : decode cX16_is 11 = .ok (.aload_n 1, 1) := dk_43 (dk_at dksX16_is_0 11 rfl rfl)
theorem dX16_is_12 : decode cX16_is 12 = .ok (.invokevirtual 20, 3) := dk_182 0 20 (dk_at dksX16_is_0 12 rfl rfl)
theorem dX16_is_15 : decode cX16_is 15 = .ok (.ifCond .ne 14, 3) := dk_154 0 14 (dk_at dksX16_is_0 15 rfl rfl)
theorem dX16_is_18 : decode cX16_is 18 = .ok (.aload_n 0, 1) := dk_42 (dk_at dksX16_is_0 18 rfl rfl)
theorem dX16_is_19 : decode cX16_is 19 = .ok (.getfield 13, 3) := dk_180 0 13 (dk_at dksX16_is_0 19 rfl rfl)
theorem dX16_is_22 : decode cX16_is 22 = .ok (.aload_n 1, 1) := dk_43 (dk_at dksX16_is_0 22 rfl rfl)
theorem dX16_is_23 : decode cX16_is 23 = .ok (.invokevirtual 20, 3) := dk_182 0 20 (dk_at dksX16_is_1 0 rfl rfl)
theorem dX16_is_26 : decode cX16_is 26 = .ok (.ifCond .eq 7, 3) := dk_153 0 7 (dk_at dksX16_is_1 3 rfl rfl)
theorem dX16_is_29 : decode cX16_is 29 = .ok (.iconst 1, 1) := dk_4 (dk_at dksX16_is_1 6 rfl rfl)
theorem dX16_is_30 : decode cX16_is 30 = .ok (.goto 34, 3) := dk_167 0 34 (dk_at dksX16_is_1 7 rfl rfl)
theorem dX16_is_33 : decode cX16_is 33 = .ok (.iconst 0, 1) := dk_3 (dk_at dksX16_is_1 10 rfl rfl)
theorem dX16_is_34 : decode cX16_is 34 = .ok (.goto 30, 3) := dk_167 0 30 (dk_at dksX16_is_1 11 rfl rfl)
theorem dX16_is_37 : decode cX16_is 37 = .ok (.aload_n 0, 1) := dk_42 (dk_at dksX16_is_1 14 rfl rfl)
theorem dX16_is_38 : decode cX16_is 38 = .ok (.getfield 7, 3) := dk_180 0 7 (dk_at dksX16_is_1 15 rfl rfl)
theorem dX16_is_41 : decode cX16_is 41 = .ok (.aload_n 1, 1) := dk_43 (dk_at dksX16_is_1 18 rfl rfl)
theorem dX16_is_42 : decode cX16_is 42 = .ok (.invokevirtual 20, 3) := dk_182 0 20 (dk_at dksX16_is_1 19 rfl rfl)
theorem dX16_is_45 : decode cX16_is 45 = .ok (.ifCond .eq 18, 3) := dk_153 0 18 (dk_at dksX16_is_2 0 rfl rfl)
theorem dX16_is_48 : decode cX16_is 48 = .ok (.aload_n 0, 1) := dk_42 (dk_at dksX16_is_2 3 rfl rfl)
theorem dX16_is_49 : decode cX16_is 49 = .ok (.getfield 13, 3) := dk_180 0 13 (dk_at dksX16_is_2 4 rfl rfl)
theorem dX16_is_52 : decode cX16_is 52 = .ok (.aload_n 1, 1) := dk_43 (dk_at dksX16_is_2 7 rfl rfl)
theorem dX16_is_53 : decode cX16_is 53 = .ok (.invokevirtual 20, 3) := dk_182 0 20 (dk_at dksX16_is_2 8 rfl rfl)
theorem dX16_is_56 : decode cX16_is 56 = .ok (.ifCond .eq 7, 3) := dk_153 0 7 (dk_at dksX16_is_2 11 rfl rfl)
theorem dX16_is_59 : decode cX16_is 59 = .ok (.iconst 1, 1) := dk_4 (dk_at dksX16_is_2 14 rfl rfl)
theorem dX16_is_60 : decode cX16_is 60 = .ok (.goto 4, 3) := dk_167 0 4 (dk_at dksX16_is_2 15 rfl rfl)
theorem dX16_is_63 : decode cX16_is 63 = .ok (.iconst 0, 1) := dk_3 (dk_at dksX16_is_2 18 rfl rfl)
theorem dX16_is_64 : decode cX16_is 64 = .ok (.ireturn, 1) := dk_172 (dk_at dksX16_is_2 19 rfl rfl)
theorem q174 : (Jvm.Cond.initialized "TurningRoads$Both") ∈ lw_all := lw_g (lw_at lw_m1 32 rfl) rfl
theorem q650 : (Jvm.Cond.selects "TurningRoads$Both" ({ cls := "java/lang/Object", name := "getClass", desc := "()Ljava/lang/Class;" } : Jvm.MethodName) ({ cls := "java/lang/Object", name := "getClass", desc := "()Ljava/lang/Class;" } : Jvm.MethodName)) ∈ lw_all := lw_g (lw_at lw_m3 28 rfl) rfl
theorem q899 : (Jvm.Cond.instantiable "TurningRoads$Both" (3 : Nat)) ∈ lw_all := lw_g (lw_at lw_m4 37 rfl) rfl
theorem q901 : (Jvm.Cond.instanceMethod ({ cls := "TurningRoads$Both", name := "<init>", desc := "(LTurningRoads$Condition;LTurningRoads$Condition;Z)V" } : Jvm.MethodName)) ∈ lw_all := lw_g (lw_at lw_m4 39 rfl) rfl
theorem q902 : (Jvm.Cond.code ({ cls := "TurningRoads$Both", name := "<init>", desc := "(LTurningRoads$Condition;LTurningRoads$Condition;Z)V" } : Jvm.MethodName) prog_3_method_1_code (4 : Nat) (Option.none : Option Jvm.ClassFile.FieldType)) ∈ lw_all := lw_g (lw_at lw_m4 40 rfl) rfl
theorem q903 : (Jvm.Cond.methodLinkNest "TurningRoads$Both" (1 : Nat) ({ cls := "TurningRoads$Condition", name := "<init>", desc := "()V" } : Jvm.MethodName) "TurningRoads") ∈ lw_tbl := lw_at lw_m4 41 rfl
theorem q904 : (Jvm.Cond.fieldLink "TurningRoads$Both" (7 : Nat) "TurningRoads$Both" "a" "LTurningRoads$Condition;") ∈ lw_all := lw_g (lw_at lw_m4 42 rfl) rfl
theorem q905 : (Jvm.Cond.fieldLink "TurningRoads$Both" (13 : Nat) "TurningRoads$Both" "b" "LTurningRoads$Condition;") ∈ lw_all := lw_g (lw_at lw_m4 43 rfl) rfl
theorem q906 : (Jvm.Cond.fieldLink "TurningRoads$Both" (16 : Nat) "TurningRoads$Both" "or" "Z") ∈ lw_all := lw_g (lw_at lw_m4 44 rfl) rfl
theorem q907 : (Jvm.Cond.laysFinal "TurningRoads$Both" "TurningRoads$Both" "a" "LTurningRoads$Condition;") ∈ lw_all := lw_g (lw_at lw_m4 45 rfl) rfl
theorem q908 : (Jvm.Cond.soleField "TurningRoads$Both" "a") ∈ lw_all := lw_g (lw_at lw_m4 46 rfl) rfl
theorem q909 : (Jvm.Cond.laysFinal "TurningRoads$Both" "TurningRoads$Both" "b" "LTurningRoads$Condition;") ∈ lw_all := lw_g (lw_at lw_m4 47 rfl) rfl
theorem q910 : (Jvm.Cond.soleField "TurningRoads$Both" "b") ∈ lw_all := lw_g (lw_at lw_m4 48 rfl) rfl
theorem q911 : (Jvm.Cond.laysFinal "TurningRoads$Both" "TurningRoads$Both" "or" "Z") ∈ lw_all := lw_g (lw_at lw_m4 49 rfl) rfl
theorem q912 : (Jvm.Cond.soleField "TurningRoads$Both" "or") ∈ lw_all := lw_g (lw_at lw_m4 50 rfl) rfl
theorem q913 : (Jvm.Cond.superclass "TurningRoads$Both" "TurningRoads$Condition") ∈ lw_all := lw_g (lw_at lw_m4 51 rfl) rfl
theorem q1224 : (Jvm.Cond.selects "TurningRoads$Both" ({ cls := "TurningRoads$Condition", name := "is", desc := "([J)Z" } : Jvm.MethodName) ({ cls := "TurningRoads$Both", name := "is", desc := "([J)Z" } : Jvm.MethodName)) ∈ lw_all := lw_g (lw_at lw_m5 122 rfl) rfl
theorem q1225 : (Jvm.Cond.instanceMethod ({ cls := "TurningRoads$Both", name := "is", desc := "([J)Z" } : Jvm.MethodName)) ∈ lw_all := lw_g (lw_at lw_m5 123 rfl) rfl
theorem q1226 : (Jvm.Cond.code ({ cls := "TurningRoads$Both", name := "is", desc := "([J)Z" } : Jvm.MethodName) prog_3_method_2_code (2 : Nat) (Option.some Jvm.ClassFile.FieldType.boolean)) ∈ lw_all := lw_g (lw_at lw_m5 124 rfl) rfl
theorem q1227 : (Jvm.Cond.methodLink "TurningRoads$Both" (20 : Nat) ({ cls := "TurningRoads$Condition", name := "is", desc := "([J)Z" } : Jvm.MethodName)) ∈ lw_all := lw_g (lw_at lw_m5 125 rfl) rfl
theorem q1978 : (Jvm.Cond.castable "TurningRoads$Both" "TurningRoads$Condition") ∈ lw_tbl := lw_at lw_m8 156 rfl
theorem q1998 : (Jvm.Cond.castable "TurningRoads$Both" "java/lang/Object") ∈ lw_tbl := lw_at lw_m8 176 rfl
theorem in_X16 : ∀ w ∈ wsX160, w ∈ lw_all := lw_in wsX160 [907, 909, 911] (by decide +kernel) (by decide +kernel)

/-! TurningRoads$Image -/
def RX17 : String := "TurningRoads$Image"
def TX17 : u_T := fun k => match k with
  | 0 => ("TurningRoads$Image", "its", "LTurningRoads$Kept;", true)
  | 1 => ("TurningRoads$Image", "theRowGoer", "[I", true)
  | 2 => ("TurningRoads$Image", "theRowWay", "[I", true)
  | 3 => ("TurningRoads$Image", "theWays", "Ljava/util/ArrayList;", false)
  | 4 => ("TurningRoads$Image", "theGoers", "Ljava/util/ArrayList;", false)
  | 5 => ("TurningRoads$Image", "n", "I", false)
  | 6 => ("TurningRoads$Image", "x", "I", false)
  | _ => ("TurningRoads$Image", "this$0", "LTurningRoads;", true)
def tyX17 : Nat → FieldType := fun k => match k with
  | 0 => .object "TurningRoads$Kept"
  | 1 => .array .int
  | 2 => .array .int
  | 3 => .object "java/util/ArrayList"
  | 4 => .object "java/util/ArrayList"
  | 5 => .int
  | 6 => .int
  | _ => .object "TurningRoads"
abbrev wsX170 : List Cond := u_ws RX17 TX17 8
theorem nmX17 : ∀ a, a < 8 → ∀ b, b < 8 → a ≠ b → (TX17 a).2.1 ≠ (TX17 b).2.1 := by decide +kernel
theorem tyX17_ok : ∀ k, k < 8 → parseFieldDescriptor (TX17 k).2.2.1 = some (tyX17 k) := by decide +kernel
abbrev cX17_init : ByteArray := prog_7_method_1_code
def yX17_init : MethodName := ⟨RX17, "<init>", "(LTurningRoads;)V"⟩
def dkwX17_init_1 : List UInt8 := [42, 16, 40, 188, 10, 181, 0, 24, 42, 16, 40, 188, 10, 181, 0, 28, 177]
abbrev dktX17_init_1 : List UInt8 := dkwX17_init_1 ++ []
def dkwX17_init_0 : List UInt8 := [42, 43, 181, 0, 3, 42, 183, 0, 9, 42, 187, 0, 15, 89, 42, 180, 0, 3, 183, 0, 17, 181, 0, 20]
abbrev dktX17_init_0 : List UInt8 := dkwX17_init_0 ++ dktX17_init_1
theorem dksX17_init_0 : cX17_init.data.toList.drop 0 = dktX17_init_0 := by decide +kernel
theorem dksX17_init_1 : cX17_init.data.toList.drop 24 = dktX17_init_1 := dk_seg dksX17_init_0 24 rfl rfl
theorem dX17_init_0 : decode cX17_init 0 = .ok (.aload_n 0, 1) := dk_42 (dk_at dksX17_init_0 0 rfl rfl)
theorem dX17_init_1 : decode cX17_init 1 = .ok (.aload_n 1, 1) := dk_43 (dk_at dksX17_init_0 1 rfl rfl)
theorem dX17_init_2 : decode cX17_init 2 = .ok (.putfield 3, 3) := dk_181 0 3 (dk_at dksX17_init_0 2 rfl rfl)
theorem dX17_init_5 : decode cX17_init 5 = .ok (.aload_n 0, 1) := dk_42 (dk_at dksX17_init_0 5 rfl rfl)
theorem dX17_init_6 : decode cX17_init 6 = .ok (.invokespecial 9, 3) := dk_183 0 9 (dk_at dksX17_init_0 6 rfl rfl)
theorem dX17_init_9 : decode cX17_init 9 = .ok (.aload_n 0, 1) := dk_42 (dk_at dksX17_init_0 9 rfl rfl)
theorem dX17_init_10 : decode cX17_init 10 = .ok (.new 15, 3) := dk_187 0 15 (dk_at dksX17_init_0 10 rfl rfl)
theorem dX17_init_13 : decode cX17_init 13 = .ok (.dup, 1) := dk_89 (dk_at dksX17_init_0 13 rfl rfl)
theorem dX17_init_14 : decode cX17_init 14 = .ok (.aload_n 0, 1) := dk_42 (dk_at dksX17_init_0 14 rfl rfl)
theorem dX17_init_15 : decode cX17_init 15 = .ok (.getfield 3, 3) := dk_180 0 3 (dk_at dksX17_init_0 15 rfl rfl)
theorem dX17_init_18 : decode cX17_init 18 = .ok (.invokespecial 17, 3) := dk_183 0 17 (dk_at dksX17_init_0 18 rfl rfl)
theorem dX17_init_21 : decode cX17_init 21 = .ok (.putfield 20, 3) := dk_181 0 20 (dk_at dksX17_init_0 21 rfl rfl)
theorem dX17_init_24 : decode cX17_init 24 = .ok (.aload_n 0, 1) := dk_42 (dk_at dksX17_init_1 0 rfl rfl)
theorem dX17_init_25 : decode cX17_init 25 = .ok (.bipush 40, 2) := dk_16 40 (dk_at dksX17_init_1 1 rfl rfl)
theorem dX17_init_27 : decode cX17_init 27 = .ok (.newarray .int, 2) := dk_188_10 (dk_at dksX17_init_1 3 rfl rfl)
theorem dX17_init_29 : decode cX17_init 29 = .ok (.putfield 24, 3) := dk_181 0 24 (dk_at dksX17_init_1 5 rfl rfl)
theorem dX17_init_32 : decode cX17_init 32 = .ok (.aload_n 0, 1) := dk_42 (dk_at dksX17_init_1 8 rfl rfl)
theorem dX17_init_33 : decode cX17_init 33 = .ok (.bipush 40, 2) := dk_16 40 (dk_at dksX17_init_1 9 rfl rfl)
theorem dX17_init_35 : decode cX17_init 35 = .ok (.newarray .int, 2) := dk_188_10 (dk_at dksX17_init_1 11 rfl rfl)
theorem dX17_init_37 : decode cX17_init 37 = .ok (.putfield 28, 3) := dk_181 0 28 (dk_at dksX17_init_1 13 rfl rfl)
theorem dX17_init_40 : decode cX17_init 40 = .ok (.return_, 1) := dk_177 (dk_at dksX17_init_1 16 rfl rfl)
abbrev cX17_keep : ByteArray := prog_7_method_2_code
def yX17_keep : MethodName := ⟨RX17, "keep", "()V"⟩
def dkwX17_keep_4 : List UInt8 := [132, 1, 1, 167, 255, 215, 177]
abbrev dktX17_keep_4 : List UInt8 := dkwX17_keep_4 ++ []
def dkwX17_keep_3 : List UInt8 := [180, 0, 3, 180, 0, 60, 27, 46, 79, 42, 180, 0, 28, 27, 42, 180, 0, 3, 180, 0, 63, 27, 46, 79]
abbrev dktX17_keep_3 : List UInt8 := dkwX17_keep_3 ++ dktX17_keep_4
def dkwX17_keep_2 : List UInt8 := [180, 0, 54, 181, 0, 57, 3, 60, 27, 42, 180, 0, 51, 162, 0, 39, 42, 180, 0, 24, 27, 42]
abbrev dktX17_keep_2 : List UInt8 := dkwX17_keep_2 ++ dktX17_keep_3
def dkwX17_keep_1 : List UInt8 := [180, 0, 41, 181, 0, 44, 42, 42, 180, 0, 3, 180, 0, 47, 181, 0, 51, 42, 42, 180, 0, 3]
abbrev dktX17_keep_1 : List UInt8 := dkwX17_keep_1 ++ dktX17_keep_2
def dkwX17_keep_0 : List UInt8 := [42, 180, 0, 20, 182, 0, 31, 42, 42, 180, 0, 3, 180, 0, 34, 181, 0, 38, 42, 42, 180, 0, 3]
abbrev dktX17_keep_0 : List UInt8 := dkwX17_keep_0 ++ dktX17_keep_1
theorem dksX17_keep_0 : cX17_keep.data.toList.drop 0 = dktX17_keep_0 := by decide +kernel
theorem dksX17_keep_1 : cX17_keep.data.toList.drop 23 = dktX17_keep_1 := dk_seg dksX17_keep_0 23 rfl rfl
theorem dksX17_keep_2 : cX17_keep.data.toList.drop 45 = dktX17_keep_2 := dk_seg dksX17_keep_1 22 rfl rfl
theorem dksX17_keep_3 : cX17_keep.data.toList.drop 67 = dktX17_keep_3 := dk_seg dksX17_keep_2 22 rfl rfl
theorem dksX17_keep_4 : cX17_keep.data.toList.drop 91 = dktX17_keep_4 := dk_seg dksX17_keep_3 24 rfl rfl
theorem dX17_keep_0 : decode cX17_keep 0 = .ok (.aload_n 0, 1) := dk_42 (dk_at dksX17_keep_0 0 rfl rfl)
theorem dX17_keep_1 : decode cX17_keep 1 = .ok (.getfield 20, 3) := dk_180 0 20 (dk_at dksX17_keep_0 1 rfl rfl)
theorem dX17_keep_4 : decode cX17_keep 4 = .ok (.invokevirtual 31, 3) := dk_182 0 31 (dk_at dksX17_keep_0 4 rfl rfl)
theorem dX17_keep_7 : decode cX17_keep 7 = .ok (.aload_n 0, 1) := dk_42 (dk_at dksX17_keep_0 7 rfl rfl)
theorem dX17_keep_8 : decode cX17_keep 8 = .ok (.aload_n 0, 1) := dk_42 (dk_at dksX17_keep_0 8 rfl rfl)
theorem dX17_keep_9 : decode cX17_keep 9 = .ok (.getfield 3, 3) := dk_180 0 3 (dk_at dksX17_keep_0 9 rfl rfl)
theorem dX17_keep_12 : decode cX17_keep 12 = .ok (.getfield 34, 3) := dk_180 0 34 (dk_at dksX17_keep_0 12 rfl rfl)
theorem dX17_keep_15 : decode cX17_keep 15 = .ok (.putfield 38, 3) := dk_181 0 38 (dk_at dksX17_keep_0 15 rfl rfl)
theorem dX17_keep_18 : decode cX17_keep 18 = .ok (.aload_n 0, 1) := dk_42 (dk_at dksX17_keep_0 18 rfl rfl)
theorem dX17_keep_19 : decode cX17_keep 19 = .ok (.aload_n 0, 1) := dk_42 (dk_at dksX17_keep_0 19 rfl rfl)
theorem dX17_keep_20 : decode cX17_keep 20 = .ok (.getfield 3, 3) := dk_180 0 3 (dk_at dksX17_keep_0 20 rfl rfl)
theorem dX17_keep_23 : decode cX17_keep 23 = .ok (.getfield 41, 3) := dk_180 0 41 (dk_at dksX17_keep_1 0 rfl rfl)
theorem dX17_keep_26 : decode cX17_keep 26 = .ok (.putfield 44, 3) := dk_181 0 44 (dk_at dksX17_keep_1 3 rfl rfl)
theorem dX17_keep_29 : decode cX17_keep 29 = .ok (.aload_n 0, 1) := dk_42 (dk_at dksX17_keep_1 6 rfl rfl)
theorem dX17_keep_30 : decode cX17_keep 30 = .ok (.aload_n 0, 1) := dk_42 (dk_at dksX17_keep_1 7 rfl rfl)
theorem dX17_keep_31 : decode cX17_keep 31 = .ok (.getfield 3, 3) := dk_180 0 3 (dk_at dksX17_keep_1 8 rfl rfl)
theorem dX17_keep_34 : decode cX17_keep 34 = .ok (.getfield 47, 3) := dk_180 0 47 (dk_at dksX17_keep_1 11 rfl rfl)
theorem dX17_keep_37 : decode cX17_keep 37 = .ok (.putfield 51, 3) := dk_181 0 51 (dk_at dksX17_keep_1 14 rfl rfl)
theorem dX17_keep_40 : decode cX17_keep 40 = .ok (.aload_n 0, 1) := dk_42 (dk_at dksX17_keep_1 17 rfl rfl)
theorem dX17_keep_41 : decode cX17_keep 41 = .ok (.aload_n 0, 1) := dk_42 (dk_at dksX17_keep_1 18 rfl rfl)
theorem dX17_keep_42 : decode cX17_keep 42 = .ok (.getfield 3, 3) := dk_180 0 3 (dk_at dksX17_keep_1 19 rfl rfl)
theorem dX17_keep_45 : decode cX17_keep 45 = .ok (.getfield 54, 3) := dk_180 0 54 (dk_at dksX17_keep_2 0 rfl rfl)
theorem dX17_keep_48 : decode cX17_keep 48 = .ok (.putfield 57, 3) := dk_181 0 57 (dk_at dksX17_keep_2 3 rfl rfl)
theorem dX17_keep_51 : decode cX17_keep 51 = .ok (.iconst 0, 1) := dk_3 (dk_at dksX17_keep_2 6 rfl rfl)
theorem dX17_keep_52 : decode cX17_keep 52 = .ok (.istore_n 1, 1) := dk_60 (dk_at dksX17_keep_2 7 rfl rfl)
theorem dX17_keep_53 : decode cX17_keep 53 = .ok (.iload_n 1, 1) := dk_27 (dk_at dksX17_keep_2 8 rfl rfl)
theorem dX17_keep_54 : decode cX17_keep 54 = .ok (.aload_n 0, 1) := dk_42 (dk_at dksX17_keep_2 9 rfl rfl)
theorem dX17_keep_55 : decode cX17_keep 55 = .ok (.getfield 51, 3) := dk_180 0 51 (dk_at dksX17_keep_2 10 rfl rfl)
theorem dX17_keep_58 : decode cX17_keep 58 = .ok (.if_icmp .ge 39, 3) := dk_162 0 39 (dk_at dksX17_keep_2 13 rfl rfl)
theorem dX17_keep_61 : decode cX17_keep 61 = .ok (.aload_n 0, 1) := dk_42 (dk_at dksX17_keep_2 16 rfl rfl)
theorem dX17_keep_62 : decode cX17_keep 62 = .ok (.getfield 24, 3) := dk_180 0 24 (dk_at dksX17_keep_2 17 rfl rfl)
theorem dX17_keep_65 : decode cX17_keep 65 = .ok (.iload_n 1, 1) := dk_27 (dk_at dksX17_keep_2 20 rfl rfl)
theorem dX17_keep_66 : decode cX17_keep 66 = .ok (.aload_n 0, 1) := dk_42 (dk_at dksX17_keep_2 21 rfl rfl)
theorem dX17_keep_67 : decode cX17_keep 67 = .ok (.getfield 3, 3) := dk_180 0 3 (dk_at dksX17_keep_3 0 rfl rfl)
theorem dX17_keep_70 : decode cX17_keep 70 = .ok (.getfield 60, 3) := dk_180 0 60 (dk_at dksX17_keep_3 3 rfl rfl)
theorem dX17_keep_73 : decode cX17_keep 73 = .ok (.iload_n 1, 1) := dk_27 (dk_at dksX17_keep_3 6 rfl rfl)
theorem dX17_keep_74 : decode cX17_keep 74 = .ok (.iaload, 1) := dk_46 (dk_at dksX17_keep_3 7 rfl rfl)
theorem dX17_keep_75 : decode cX17_keep 75 = .ok (.iastore, 1) := dk_79 (dk_at dksX17_keep_3 8 rfl rfl)
theorem dX17_keep_76 : decode cX17_keep 76 = .ok (.aload_n 0, 1) := dk_42 (dk_at dksX17_keep_3 9 rfl rfl)
theorem dX17_keep_77 : decode cX17_keep 77 = .ok (.getfield 28, 3) := dk_180 0 28 (dk_at dksX17_keep_3 10 rfl rfl)
theorem dX17_keep_80 : decode cX17_keep 80 = .ok (.iload_n 1, 1) := dk_27 (dk_at dksX17_keep_3 13 rfl rfl)
theorem dX17_keep_81 : decode cX17_keep 81 = .ok (.aload_n 0, 1) := dk_42 (dk_at dksX17_keep_3 14 rfl rfl)
theorem dX17_keep_82 : decode cX17_keep 82 = .ok (.getfield 3, 3) := dk_180 0 3 (dk_at dksX17_keep_3 15 rfl rfl)
theorem dX17_keep_85 : decode cX17_keep 85 = .ok (.getfield 63, 3) := dk_180 0 63 (dk_at dksX17_keep_3 18 rfl rfl)
theorem dX17_keep_88 : decode cX17_keep 88 = .ok (.iload_n 1, 1) := dk_27 (dk_at dksX17_keep_3 21 rfl rfl)
theorem dX17_keep_89 : decode cX17_keep 89 = .ok (.iaload, 1) := dk_46 (dk_at dksX17_keep_3 22 rfl rfl)
theorem dX17_keep_90 : decode cX17_keep 90 = .ok (.iastore, 1) := dk_79 (dk_at dksX17_keep_3 23 rfl rfl)
theorem dX17_keep_91 : decode cX17_keep 91 = .ok (.iinc 1 1, 3) := dk_132 1 1 (dk_at dksX17_keep_4 0 rfl rfl)
theorem dX17_keep_94 : decode cX17_keep 94 = .ok (.goto (-41), 3) := dk_167 255 215 (dk_at dksX17_keep_4 3 rfl rfl)
theorem dX17_keep_97 : decode cX17_keep 97 = .ok (.return_, 1) := dk_177 (dk_at dksX17_keep_4 6 rfl rfl)
abbrev cX17_back : ByteArray := prog_7_method_3_code
def yX17_back : MethodName := ⟨RX17, "back", "()V"⟩
def dkwX17_back_4 : List UInt8 := [132, 1, 1, 167, 255, 215, 177]
abbrev dktX17_back_4 : List UInt8 := dkwX17_back_4 ++ []
def dkwX17_back_3 : List UInt8 := [42, 180, 0, 24, 27, 46, 79, 42, 180, 0, 3, 180, 0, 63, 27, 42, 180, 0, 28, 27, 46, 79]
abbrev dktX17_back_3 : List UInt8 := dkwX17_back_3 ++ dktX17_back_4
def dkwX17_back_2 : List UInt8 := [180, 0, 57, 181, 0, 54, 3, 60, 27, 42, 180, 0, 51, 162, 0, 39, 42, 180, 0, 3, 180, 0, 60, 27]
abbrev dktX17_back_2 : List UInt8 := dkwX17_back_2 ++ dktX17_back_3
def dkwX17_back_1 : List UInt8 := [180, 0, 20, 182, 0, 66, 42, 180, 0, 3, 42, 180, 0, 51, 181, 0, 47, 42, 180, 0, 3, 42]
abbrev dktX17_back_1 : List UInt8 := dkwX17_back_1 ++ dktX17_back_2
def dkwX17_back_0 : List UInt8 := [42, 180, 0, 3, 42, 180, 0, 38, 181, 0, 34, 42, 180, 0, 3, 42, 180, 0, 44, 181, 0, 41, 42]
abbrev dktX17_back_0 : List UInt8 := dkwX17_back_0 ++ dktX17_back_1
theorem dksX17_back_0 : cX17_back.data.toList.drop 0 = dktX17_back_0 := by decide +kernel
theorem dksX17_back_1 : cX17_back.data.toList.drop 23 = dktX17_back_1 := dk_seg dksX17_back_0 23 rfl rfl
theorem dksX17_back_2 : cX17_back.data.toList.drop 45 = dktX17_back_2 := dk_seg dksX17_back_1 22 rfl rfl
theorem dksX17_back_3 : cX17_back.data.toList.drop 69 = dktX17_back_3 := dk_seg dksX17_back_2 24 rfl rfl
theorem dksX17_back_4 : cX17_back.data.toList.drop 91 = dktX17_back_4 := dk_seg dksX17_back_3 22 rfl rfl
theorem dX17_back_0 : decode cX17_back 0 = .ok (.aload_n 0, 1) := dk_42 (dk_at dksX17_back_0 0 rfl rfl)
theorem dX17_back_1 : decode cX17_back 1 = .ok (.getfield 3, 3) := dk_180 0 3 (dk_at dksX17_back_0 1 rfl rfl)
theorem dX17_back_4 : decode cX17_back 4 = .ok (.aload_n 0, 1) := dk_42 (dk_at dksX17_back_0 4 rfl rfl)
theorem dX17_back_5 : decode cX17_back 5 = .ok (.getfield 38, 3) := dk_180 0 38 (dk_at dksX17_back_0 5 rfl rfl)
theorem dX17_back_8 : decode cX17_back 8 = .ok (.putfield 34, 3) := dk_181 0 34 (dk_at dksX17_back_0 8 rfl rfl)
theorem dX17_back_11 : decode cX17_back 11 = .ok (.aload_n 0, 1) := dk_42 (dk_at dksX17_back_0 11 rfl rfl)
theorem dX17_back_12 : decode cX17_back 12 = .ok (.getfield 3, 3) := dk_180 0 3 (dk_at dksX17_back_0 12 rfl rfl)
theorem dX17_back_15 : decode cX17_back 15 = .ok (.aload_n 0, 1) := dk_42 (dk_at dksX17_back_0 15 rfl rfl)
theorem dX17_back_16 : decode cX17_back 16 = .ok (.getfield 44, 3) := dk_180 0 44 (dk_at dksX17_back_0 16 rfl rfl)
theorem dX17_back_19 : decode cX17_back 19 = .ok (.putfield 41, 3) := dk_181 0 41 (dk_at dksX17_back_0 19 rfl rfl)
theorem dX17_back_22 : decode cX17_back 22 = .ok (.aload_n 0, 1) := dk_42 (dk_at dksX17_back_0 22 rfl rfl)
theorem dX17_back_23 : decode cX17_back 23 = .ok (.getfield 20, 3) := dk_180 0 20 (dk_at dksX17_back_1 0 rfl rfl)
theorem dX17_back_26 : decode cX17_back 26 = .ok (.invokevirtual 66, 3) := dk_182 0 66 (dk_at dksX17_back_1 3 rfl rfl)
theorem dX17_back_29 : decode cX17_back 29 = .ok (.aload_n 0, 1) := dk_42 (dk_at dksX17_back_1 6 rfl rfl)
theorem dX17_back_30 : decode cX17_back 30 = .ok (.getfield 3, 3) := dk_180 0 3 (dk_at dksX17_back_1 7 rfl rfl)
theorem dX17_back_33 : decode cX17_back 33 = .ok (.aload_n 0, 1) := dk_42 (dk_at dksX17_back_1 10 rfl rfl)
theorem dX17_back_34 : decode cX17_back 34 = .ok (.getfield 51, 3) := dk_180 0 51 (dk_at dksX17_back_1 11 rfl rfl)
theorem dX17_back_37 : decode cX17_back 37 = .ok (.putfield 47, 3) := dk_181 0 47 (dk_at dksX17_back_1 14 rfl rfl)
theorem dX17_back_40 : decode cX17_back 40 = .ok (.aload_n 0, 1) := dk_42 (dk_at dksX17_back_1 17 rfl rfl)
theorem dX17_back_41 : decode cX17_back 41 = .ok (.getfield 3, 3) := dk_180 0 3 (dk_at dksX17_back_1 18 rfl rfl)
theorem dX17_back_44 : decode cX17_back 44 = .ok (.aload_n 0, 1) := dk_42 (dk_at dksX17_back_1 21 rfl rfl)
theorem dX17_back_45 : decode cX17_back 45 = .ok (.getfield 57, 3) := dk_180 0 57 (dk_at dksX17_back_2 0 rfl rfl)
theorem dX17_back_48 : decode cX17_back 48 = .ok (.putfield 54, 3) := dk_181 0 54 (dk_at dksX17_back_2 3 rfl rfl)
theorem dX17_back_51 : decode cX17_back 51 = .ok (.iconst 0, 1) := dk_3 (dk_at dksX17_back_2 6 rfl rfl)
theorem dX17_back_52 : decode cX17_back 52 = .ok (.istore_n 1, 1) := dk_60 (dk_at dksX17_back_2 7 rfl rfl)
theorem dX17_back_53 : decode cX17_back 53 = .ok (.iload_n 1, 1) := dk_27 (dk_at dksX17_back_2 8 rfl rfl)
theorem dX17_back_54 : decode cX17_back 54 = .ok (.aload_n 0, 1) := dk_42 (dk_at dksX17_back_2 9 rfl rfl)
theorem dX17_back_55 : decode cX17_back 55 = .ok (.getfield 51, 3) := dk_180 0 51 (dk_at dksX17_back_2 10 rfl rfl)
theorem dX17_back_58 : decode cX17_back 58 = .ok (.if_icmp .ge 39, 3) := dk_162 0 39 (dk_at dksX17_back_2 13 rfl rfl)
theorem dX17_back_61 : decode cX17_back 61 = .ok (.aload_n 0, 1) := dk_42 (dk_at dksX17_back_2 16 rfl rfl)
theorem dX17_back_62 : decode cX17_back 62 = .ok (.getfield 3, 3) := dk_180 0 3 (dk_at dksX17_back_2 17 rfl rfl)
theorem dX17_back_65 : decode cX17_back 65 = .ok (.getfield 60, 3) := dk_180 0 60 (dk_at dksX17_back_2 20 rfl rfl)
theorem dX17_back_68 : decode cX17_back 68 = .ok (.iload_n 1, 1) := dk_27 (dk_at dksX17_back_2 23 rfl rfl)
theorem dX17_back_69 : decode cX17_back 69 = .ok (.aload_n 0, 1) := dk_42 (dk_at dksX17_back_3 0 rfl rfl)
theorem dX17_back_70 : decode cX17_back 70 = .ok (.getfield 24, 3) := dk_180 0 24 (dk_at dksX17_back_3 1 rfl rfl)
theorem dX17_back_73 : decode cX17_back 73 = .ok (.iload_n 1, 1) := dk_27 (dk_at dksX17_back_3 4 rfl rfl)
theorem dX17_back_74 : decode cX17_back 74 = .ok (.iaload, 1) := dk_46 (dk_at dksX17_back_3 5 rfl rfl)
theorem dX17_back_75 : decode cX17_back 75 = .ok (.iastore, 1) := dk_79 (dk_at dksX17_back_3 6 rfl rfl)
theorem dX17_back_76 : decode cX17_back 76 = .ok (.aload_n 0, 1) := dk_42 (dk_at dksX17_back_3 7 rfl rfl)
theorem dX17_back_77 : decode cX17_back 77 = .ok (.getfield 3, 3) := dk_180 0 3 (dk_at dksX17_back_3 8 rfl rfl)
theorem dX17_back_80 : decode cX17_back 80 = .ok (.getfield 63, 3) := dk_180 0 63 (dk_at dksX17_back_3 11 rfl rfl)
theorem dX17_back_83 : decode cX17_back 83 = .ok (.iload_n 1, 1) := dk_27 (dk_at dksX17_back_3 14 rfl rfl)
theorem dX17_back_84 : decode cX17_back 84 = .ok (.aload_n 0, 1) := dk_42 (dk_at dksX17_back_3 15 rfl rfl)
theorem dX17_back_85 : decode cX17_back 85 = .ok (.getfield 28, 3) := dk_180 0 28 (dk_at dksX17_back_3 16 rfl rfl)
theorem dX17_back_88 : decode cX17_back 88 = .ok (.iload_n 1, 1) := dk_27 (dk_at dksX17_back_3 19 rfl rfl)
theorem dX17_back_89 : decode cX17_back 89 = .ok (.iaload, 1) := dk_46 (dk_at dksX17_back_3 20 rfl rfl)
theorem dX17_back_90 : decode cX17_back 90 = .ok (.iastore, 1) := dk_79 (dk_at dksX17_back_3 21 rfl rfl)
theorem dX17_back_91 : decode cX17_back 91 = .ok (.iinc 1 1, 3) := dk_132 1 1 (dk_at dksX17_back_4 0 rfl rfl)
theorem dX17_back_94 : decode cX17_back 94 = .ok (.goto (-41), 3) := dk_167 255 215 (dk_at dksX17_back_4 3 rfl rfl)
theorem dX17_back_97 : decode cX17_back 97 = .ok (.return_, 1) := dk_177 (dk_at dksX17_back_4 6 rfl rfl)
theorem q176 : (Jvm.Cond.initialized "TurningRoads$Image") ∈ lw_all := lw_g (lw_at lw_m1 34 rfl) rfl
theorem q324 : (Jvm.Cond.fieldLinkNest "TurningRoads$Image" (34 : Nat) "TurningRoads" "ways" "Ljava/util/ArrayList;" "TurningRoads") ∈ lw_tbl := lw_at lw_m1 182 rfl
theorem q328 : (Jvm.Cond.fieldLinkNest "TurningRoads$Image" (41 : Nat) "TurningRoads" "goers" "Ljava/util/ArrayList;" "TurningRoads") ∈ lw_tbl := lw_at lw_m1 186 rfl
theorem q336 : (Jvm.Cond.fieldLinkNest "TurningRoads$Image" (54 : Nat) "TurningRoads" "draw" "I" "TurningRoads") ∈ lw_tbl := lw_at lw_m1 194 rfl
theorem q360 : (Jvm.Cond.fieldLinkNest "TurningRoads$Image" (60 : Nat) "TurningRoads" "rowGoer" "[I" "TurningRoads") ∈ lw_tbl := lw_at lw_m1 218 rfl
theorem q362 : (Jvm.Cond.fieldLinkNest "TurningRoads$Image" (63 : Nat) "TurningRoads" "rowWay" "[I" "TurningRoads") ∈ lw_tbl := lw_at lw_m1 220 rfl
theorem q366 : (Jvm.Cond.fieldLinkNest "TurningRoads$Image" (47 : Nat) "TurningRoads" "rowMany" "I" "TurningRoads") ∈ lw_tbl := lw_at lw_m1 224 rfl
theorem q653 : (Jvm.Cond.selects "TurningRoads$Image" ({ cls := "java/lang/Object", name := "getClass", desc := "()Ljava/lang/Class;" } : Jvm.MethodName) ({ cls := "java/lang/Object", name := "getClass", desc := "()Ljava/lang/Class;" } : Jvm.MethodName)) ∈ lw_all := lw_g (lw_at lw_m3 31 rfl) rfl
theorem q1325 : (Jvm.Cond.instantiable "TurningRoads$Image" (8 : Nat)) ∈ lw_all := lw_g (lw_at lw_m5 223 rfl) rfl
theorem q1327 : (Jvm.Cond.instanceMethod ({ cls := "TurningRoads$Image", name := "<init>", desc := "(LTurningRoads;)V" } : Jvm.MethodName)) ∈ lw_all := lw_g (lw_at lw_m5 225 rfl) rfl
theorem q1328 : (Jvm.Cond.code ({ cls := "TurningRoads$Image", name := "<init>", desc := "(LTurningRoads;)V" } : Jvm.MethodName) prog_7_method_1_code (2 : Nat) (Option.none : Option Jvm.ClassFile.FieldType)) ∈ lw_all := lw_g (lw_at lw_m5 226 rfl) rfl
theorem q1329 : (Jvm.Cond.methodLink "TurningRoads$Image" (9 : Nat) ({ cls := "java/lang/Object", name := "<init>", desc := "()V" } : Jvm.MethodName)) ∈ lw_all := lw_g (lw_at lw_m5 227 rfl) rfl
theorem q1330 : (Jvm.Cond.classLink "TurningRoads$Image" (15 : Nat) "TurningRoads$Kept") ∈ lw_all := lw_g (lw_at lw_m5 228 rfl) rfl
theorem q1331 : (Jvm.Cond.methodLinkNest "TurningRoads$Image" (17 : Nat) ({ cls := "TurningRoads$Kept", name := "<init>", desc := "(LTurningRoads;)V" } : Jvm.MethodName) "TurningRoads") ∈ lw_tbl := lw_at lw_m5 229 rfl
theorem q1332 : (Jvm.Cond.fieldLink "TurningRoads$Image" (20 : Nat) "TurningRoads$Image" "its" "LTurningRoads$Kept;") ∈ lw_all := lw_g (lw_at lw_m5 230 rfl) rfl
theorem q1333 : (Jvm.Cond.fieldLink "TurningRoads$Image" (24 : Nat) "TurningRoads$Image" "theRowGoer" "[I") ∈ lw_all := lw_g (lw_at lw_m5 231 rfl) rfl
theorem q1334 : (Jvm.Cond.fieldLink "TurningRoads$Image" (28 : Nat) "TurningRoads$Image" "theRowWay" "[I") ∈ lw_all := lw_g (lw_at lw_m5 232 rfl) rfl
theorem q1335 : (Jvm.Cond.fieldLink "TurningRoads$Image" (38 : Nat) "TurningRoads$Image" "theWays" "Ljava/util/ArrayList;") ∈ lw_all := lw_g (lw_at lw_m5 233 rfl) rfl
theorem q1336 : (Jvm.Cond.fieldLink "TurningRoads$Image" (44 : Nat) "TurningRoads$Image" "theGoers" "Ljava/util/ArrayList;") ∈ lw_all := lw_g (lw_at lw_m5 234 rfl) rfl
theorem q1337 : (Jvm.Cond.fieldLink "TurningRoads$Image" (51 : Nat) "TurningRoads$Image" "n" "I") ∈ lw_all := lw_g (lw_at lw_m5 235 rfl) rfl
theorem q1338 : (Jvm.Cond.fieldLink "TurningRoads$Image" (57 : Nat) "TurningRoads$Image" "x" "I") ∈ lw_all := lw_g (lw_at lw_m5 236 rfl) rfl
theorem q1339 : (Jvm.Cond.fieldLink "TurningRoads$Image" (3 : Nat) "TurningRoads$Image" "this$0" "LTurningRoads;") ∈ lw_all := lw_g (lw_at lw_m5 237 rfl) rfl
theorem q1340 : (Jvm.Cond.laysFinal "TurningRoads$Image" "TurningRoads$Image" "its" "LTurningRoads$Kept;") ∈ lw_all := lw_g (lw_at lw_m5 238 rfl) rfl
theorem q1341 : (Jvm.Cond.soleField "TurningRoads$Image" "its") ∈ lw_all := lw_g (lw_at lw_m5 239 rfl) rfl
theorem q1342 : (Jvm.Cond.laysFinal "TurningRoads$Image" "TurningRoads$Image" "theRowGoer" "[I") ∈ lw_all := lw_g (lw_at lw_m6 0 rfl) rfl
theorem q1343 : (Jvm.Cond.soleField "TurningRoads$Image" "theRowGoer") ∈ lw_all := lw_g (lw_at lw_m6 1 rfl) rfl
theorem q1344 : (Jvm.Cond.laysFinal "TurningRoads$Image" "TurningRoads$Image" "theRowWay" "[I") ∈ lw_all := lw_g (lw_at lw_m6 2 rfl) rfl
theorem q1345 : (Jvm.Cond.soleField "TurningRoads$Image" "theRowWay") ∈ lw_all := lw_g (lw_at lw_m6 3 rfl) rfl
theorem q1346 : (Jvm.Cond.lays "TurningRoads$Image" "TurningRoads$Image" "theWays" "Ljava/util/ArrayList;") ∈ lw_all := lw_g (lw_at lw_m6 4 rfl) rfl
theorem q1347 : (Jvm.Cond.soleField "TurningRoads$Image" "theWays") ∈ lw_all := lw_g (lw_at lw_m6 5 rfl) rfl
theorem q1348 : (Jvm.Cond.lays "TurningRoads$Image" "TurningRoads$Image" "theGoers" "Ljava/util/ArrayList;") ∈ lw_all := lw_g (lw_at lw_m6 6 rfl) rfl
theorem q1349 : (Jvm.Cond.soleField "TurningRoads$Image" "theGoers") ∈ lw_all := lw_g (lw_at lw_m6 7 rfl) rfl
theorem q1350 : (Jvm.Cond.lays "TurningRoads$Image" "TurningRoads$Image" "n" "I") ∈ lw_all := lw_g (lw_at lw_m6 8 rfl) rfl
theorem q1351 : (Jvm.Cond.soleField "TurningRoads$Image" "n") ∈ lw_all := lw_g (lw_at lw_m6 9 rfl) rfl
theorem q1352 : (Jvm.Cond.lays "TurningRoads$Image" "TurningRoads$Image" "x" "I") ∈ lw_all := lw_g (lw_at lw_m6 10 rfl) rfl
theorem q1353 : (Jvm.Cond.soleField "TurningRoads$Image" "x") ∈ lw_all := lw_g (lw_at lw_m6 11 rfl) rfl
theorem q1354 : (Jvm.Cond.laysFinal "TurningRoads$Image" "TurningRoads$Image" "this$0" "LTurningRoads;") ∈ lw_all := lw_g (lw_at lw_m6 12 rfl) rfl
theorem q1355 : (Jvm.Cond.soleField "TurningRoads$Image" "this$0") ∈ lw_all := lw_g (lw_at lw_m6 13 rfl) rfl
theorem q1356 : (Jvm.Cond.superclass "TurningRoads$Image" "java/lang/Object") ∈ lw_all := lw_g (lw_at lw_m6 14 rfl) rfl
theorem q1358 : (Jvm.Cond.instanceMethod ({ cls := "TurningRoads$Image", name := "keep", desc := "()V" } : Jvm.MethodName)) ∈ lw_all := lw_g (lw_at lw_m6 16 rfl) rfl
theorem q1359 : (Jvm.Cond.selects "TurningRoads$Image" ({ cls := "TurningRoads$Image", name := "keep", desc := "()V" } : Jvm.MethodName) ({ cls := "TurningRoads$Image", name := "keep", desc := "()V" } : Jvm.MethodName)) ∈ lw_all := lw_g (lw_at lw_m6 17 rfl) rfl
theorem q1360 : (Jvm.Cond.code ({ cls := "TurningRoads$Image", name := "keep", desc := "()V" } : Jvm.MethodName) prog_7_method_2_code (2 : Nat) (Option.none : Option Jvm.ClassFile.FieldType)) ∈ lw_all := lw_g (lw_at lw_m6 18 rfl) rfl
theorem q1361 : (Jvm.Cond.methodLink "TurningRoads$Image" (31 : Nat) ({ cls := "TurningRoads$Kept", name := "keep", desc := "()V" } : Jvm.MethodName)) ∈ lw_all := lw_g (lw_at lw_m6 19 rfl) rfl
theorem q1367 : (Jvm.Cond.instanceMethod ({ cls := "TurningRoads$Image", name := "back", desc := "()V" } : Jvm.MethodName)) ∈ lw_all := lw_g (lw_at lw_m6 25 rfl) rfl
theorem q1368 : (Jvm.Cond.selects "TurningRoads$Image" ({ cls := "TurningRoads$Image", name := "back", desc := "()V" } : Jvm.MethodName) ({ cls := "TurningRoads$Image", name := "back", desc := "()V" } : Jvm.MethodName)) ∈ lw_all := lw_g (lw_at lw_m6 26 rfl) rfl
theorem q1369 : (Jvm.Cond.code ({ cls := "TurningRoads$Image", name := "back", desc := "()V" } : Jvm.MethodName) prog_7_method_3_code (2 : Nat) (Option.none : Option Jvm.ClassFile.FieldType)) ∈ lw_all := lw_g (lw_at lw_m6 27 rfl) rfl
theorem q1370 : (Jvm.Cond.methodLink "TurningRoads$Image" (66 : Nat) ({ cls := "TurningRoads$Kept", name := "back", desc := "()V" } : Jvm.MethodName)) ∈ lw_all := lw_g (lw_at lw_m6 28 rfl) rfl
theorem q1981 : (Jvm.Cond.castable "TurningRoads$Image" "java/lang/Object") ∈ lw_tbl := lw_at lw_m8 159 rfl
theorem in_X17 : ∀ w ∈ wsX170, w ∈ lw_all := lw_in wsX170 [1340, 1342, 1344, 1346, 1348, 1350, 1352, 1354] (by decide +kernel) (by decide +kernel)

/-! java/util/ArrayList -/
def RJ2 : String := "java/util/ArrayList"
def TJ2 : u_T := fun k => match k with
  | 0 => ("java/util/AbstractList", "modCount", "I", false)
  | 1 => ("java/util/ArrayList", "elementData", "[Ljava/lang/Object;", false)
  | _ => ("java/util/ArrayList", "size", "I", false)
def tyJ2 : Nat → FieldType := fun k => match k with
  | 0 => .int
  | 1 => .array (.object "java/lang/Object")
  | _ => .int
abbrev wsJ20 : List Cond := u_ws RJ2 TJ2 3
theorem nmJ2 : ∀ a, a < 3 → ∀ b, b < 3 → a ≠ b → (TJ2 a).2.1 ≠ (TJ2 b).2.1 := by decide +kernel
theorem tyJ2_ok : ∀ k, k < 3 → parseFieldDescriptor (TJ2 k).2.2.1 = some (tyJ2 k) := by decide +kernel
abbrev cJ2_init : ByteArray := prog_34_method_1_code
def yJ2_init : MethodName := ⟨RJ2, "<init>", "(I)V"⟩
def dkwJ2_init_2 : List UInt8 := [182, 0, 25, 27, 182, 0, 29, 182, 0, 32, 183, 0, 36, 191, 177]
abbrev dktJ2_init_2 : List UInt8 := dkwJ2_init_2 ++ []
def dkwJ2_init_1 : List UInt8 := [178, 0, 15, 181, 0, 9, 167, 0, 30, 187, 0, 18, 89, 187, 0, 20, 89, 183, 0, 22, 18, 23]
abbrev dktJ2_init_1 : List UInt8 := dkwJ2_init_1 ++ dktJ2_init_2
def dkwJ2_init_0 : List UInt8 := [42, 183, 0, 1, 27, 158, 0, 14, 42, 27, 189, 0, 7, 181, 0, 9, 167, 0, 44, 27, 154, 0, 13, 42]
abbrev dktJ2_init_0 : List UInt8 := dkwJ2_init_0 ++ dktJ2_init_1
theorem dksJ2_init_0 : cJ2_init.data.toList.drop 0 = dktJ2_init_0 := by decide +kernel
theorem dksJ2_init_1 : cJ2_init.data.toList.drop 24 = dktJ2_init_1 := dk_seg dksJ2_init_0 24 rfl rfl
theorem dksJ2_init_2 : cJ2_init.data.toList.drop 46 = dktJ2_init_2 := dk_seg dksJ2_init_1 22 rfl rfl
theorem dJ2_init_0 : decode cJ2_init 0 = .ok (.aload_n 0, 1) := dk_42 (dk_at dksJ2_init_0 0 rfl rfl)
theorem dJ2_init_1 : decode cJ2_init 1 = .ok (.invokespecial 1, 3) := dk_183 0 1 (dk_at dksJ2_init_0 1 rfl rfl)
theorem dJ2_init_4 : decode cJ2_init 4 = .ok (.iload_n 1, 1) := dk_27 (dk_at dksJ2_init_0 4 rfl rfl)
theorem dJ2_init_5 : decode cJ2_init 5 = .ok (.ifCond .le 14, 3) := dk_158 0 14 (dk_at dksJ2_init_0 5 rfl rfl)
theorem dJ2_init_8 : decode cJ2_init 8 = .ok (.aload_n 0, 1) := dk_42 (dk_at dksJ2_init_0 8 rfl rfl)
theorem dJ2_init_9 : decode cJ2_init 9 = .ok (.iload_n 1, 1) := dk_27 (dk_at dksJ2_init_0 9 rfl rfl)
theorem dJ2_init_10 : decode cJ2_init 10 = .ok (.anewarray 7, 3) := dk_189 0 7 (dk_at dksJ2_init_0 10 rfl rfl)
theorem dJ2_init_13 : decode cJ2_init 13 = .ok (.putfield 9, 3) := dk_181 0 9 (dk_at dksJ2_init_0 13 rfl rfl)
theorem dJ2_init_16 : decode cJ2_init 16 = .ok (.goto 44, 3) := dk_167 0 44 (dk_at dksJ2_init_0 16 rfl rfl)
theorem dJ2_init_19 : decode cJ2_init 19 = .ok (.iload_n 1, 1) := dk_27 (dk_at dksJ2_init_0 19 rfl rfl)
theorem dJ2_init_20 : decode cJ2_init 20 = .ok (.ifCond .ne 13, 3) := dk_154 0 13 (dk_at dksJ2_init_0 20 rfl rfl)
theorem dJ2_init_23 : decode cJ2_init 23 = .ok (.aload_n 0, 1) := dk_42 (dk_at dksJ2_init_0 23 rfl rfl)
theorem dJ2_init_24 : decode cJ2_init 24 = .ok (.getstatic 15, 3) := dk_178 0 15 (dk_at dksJ2_init_1 0 rfl rfl)
theorem dJ2_init_27 : decode cJ2_init 27 = .ok (.putfield 9, 3) := dk_181 0 9 (dk_at dksJ2_init_1 3 rfl rfl)
theorem dJ2_init_30 : decode cJ2_init 30 = .ok (.goto 30, 3) := dk_167 0 30 (dk_at dksJ2_init_1 6 rfl rfl)
theorem dJ2_init_33 : decode cJ2_init 33 = .ok (.new 18, 3) := dk_187 0 18 (dk_at dksJ2_init_1 9 rfl rfl)
theorem dJ2_init_36 : decode cJ2_init 36 = .ok (.dup, 1) := dk_89 (dk_at dksJ2_init_1 12 rfl rfl)
theorem dJ2_init_37 : decode cJ2_init 37 = .ok (.new 20, 3) := dk_187 0 20 (dk_at dksJ2_init_1 13 rfl rfl)
theorem dJ2_init_40 : decode cJ2_init 40 = .ok (.dup, 1) := dk_89 (dk_at dksJ2_init_1 16 rfl rfl)
theorem dJ2_init_41 : decode cJ2_init 41 = .ok (.invokespecial 22, 3) := dk_183 0 22 (dk_at dksJ2_init_1 17 rfl rfl)
theorem dJ2_init_44 : decode cJ2_init 44 = .ok (.ldc 23, 2) := dk_18 23 (dk_at dksJ2_init_1 20 rfl rfl)
theorem dJ2_init_46 : decode cJ2_init 46 = .ok (.invokevirtual 25, 3) := dk_182 0 25 (dk_at dksJ2_init_2 0 rfl rfl)
theorem dJ2_init_49 : decode cJ2_init 49 = .ok (.iload_n 1, 1) := dk_27 (dk_at dksJ2_init_2 3 rfl rfl)
theorem dJ2_init_50 : decode cJ2_init 50 = .ok (.invokevirtual 29, 3) := dk_182 0 29 (dk_at dksJ2_init_2 4 rfl rfl)
theorem dJ2_init_53 : decode cJ2_init 53 = .ok (.invokevirtual 32, 3) := dk_182 0 32 (dk_at dksJ2_init_2 7 rfl rfl)
theorem dJ2_init_56 : decode cJ2_init 56 = .ok (.invokespecial 36, 3) := dk_183 0 36 (dk_at dksJ2_init_2 10 rfl rfl)
theorem dJ2_init_59 : decode cJ2_init 59 = .ok (.athrow, 1) := dk_191 (dk_at dksJ2_init_2 13 rfl rfl)
theorem dJ2_init_60 : decode cJ2_init 60 = .ok (.return_, 1) := dk_177 (dk_at dksJ2_init_2 14 rfl rfl)
abbrev cJ2_size : ByteArray := prog_34_method_8_code
def yJ2_size : MethodName := ⟨RJ2, "size", "()I"⟩
theorem dJ2_size_0 : decode cJ2_size 0 = .ok (.aload_n 0, 1) := by decide +kernel
theorem dJ2_size_1 : decode cJ2_size 1 = .ok (.getfield 48, 3) := by decide +kernel
theorem dJ2_size_4 : decode cJ2_size 4 = .ok (.ireturn, 1) := by decide +kernel
abbrev cJ2_add : ByteArray := prog_34_method_25_code
def yJ2_add : MethodName := ⟨RJ2, "add", "(Ljava/lang/Object;)Z"⟩
def dkwJ2_add_1 : List UInt8 := [172]
abbrev dktJ2_add_1 : List UInt8 := dkwJ2_add_1 ++ []
def dkwJ2_add_0 : List UInt8 := [42, 89, 180, 0, 63, 4, 96, 181, 0, 63, 42, 43, 42, 180, 0, 9, 42, 180, 0, 48, 182, 0, 131, 4]
abbrev dktJ2_add_0 : List UInt8 := dkwJ2_add_0 ++ dktJ2_add_1
theorem dksJ2_add_0 : cJ2_add.data.toList.drop 0 = dktJ2_add_0 := by decide +kernel
theorem dksJ2_add_1 : cJ2_add.data.toList.drop 24 = dktJ2_add_1 := dk_seg dksJ2_add_0 24 rfl rfl
theorem dJ2_add_0 : decode cJ2_add 0 = .ok (.aload_n 0, 1) := dk_42 (dk_at dksJ2_add_0 0 rfl rfl)
theorem dJ2_add_1 : decode cJ2_add 1 = .ok (.dup, 1) := dk_89 (dk_at dksJ2_add_0 1 rfl rfl)
theorem dJ2_add_2 : decode cJ2_add 2 = .ok (.getfield 63, 3) := dk_180 0 63 (dk_at dksJ2_add_0 2 rfl rfl)
theorem dJ2_add_5 : decode cJ2_add 5 = .ok (.iconst 1, 1) := dk_4 (dk_at dksJ2_add_0 5 rfl rfl)
theorem dJ2_add_6 : decode cJ2_add 6 = .ok (.iadd, 1) := dk_96 (dk_at dksJ2_add_0 6 rfl rfl)
theorem dJ2_add_7 : decode cJ2_add 7 = .ok (.putfield 63, 3) := dk_181 0 63 (dk_at dksJ2_add_0 7 rfl rfl)
theorem dJ2_add_10 : decode cJ2_add 10 = .ok (.aload_n 0, 1) := dk_42 (dk_at dksJ2_add_0 10 rfl rfl)
theorem dJ2_add_11 : decode cJ2_add 11 = .ok (.aload_n 1, 1) := dk_43 (dk_at dksJ2_add_0 11 rfl rfl)
theorem dJ2_add_12 : decode cJ2_add 12 = .ok (.aload_n 0, 1) := dk_42 (dk_at dksJ2_add_0 12 rfl rfl)
theorem dJ2_add_13 : decode cJ2_add 13 = .ok (.getfield 9, 3) := dk_180 0 9 (dk_at dksJ2_add_0 13 rfl rfl)
theorem dJ2_add_16 : decode cJ2_add 16 = .ok (.aload_n 0, 1) := dk_42 (dk_at dksJ2_add_0 16 rfl rfl)
theorem dJ2_add_17 : decode cJ2_add 17 = .ok (.getfield 48, 3) := dk_180 0 48 (dk_at dksJ2_add_0 17 rfl rfl)
theorem dJ2_add_20 : decode cJ2_add 20 = .ok (.invokevirtual 131, 3) := dk_182 0 131 (dk_at dksJ2_add_0 20 rfl rfl)
theorem dJ2_add_23 : decode cJ2_add 23 = .ok (.iconst 1, 1) := dk_4 (dk_at dksJ2_add_0 23 rfl rfl)
theorem dJ2_add_24 : decode cJ2_add 24 = .ok (.ireturn, 1) := dk_172 (dk_at dksJ2_add_1 0 rfl rfl)
abbrev cJ2_add_2 : ByteArray := prog_34_method_24_code
def yJ2_add_2 : MethodName := ⟨RJ2, "add", "(Ljava/lang/Object;[Ljava/lang/Object;I)V"⟩
def dkwJ2_add_2_0 : List UInt8 := [29, 44, 190, 160, 0, 8, 42, 182, 0, 129, 77, 44, 29, 43, 83, 42, 29, 4, 96, 181, 0, 48, 177]
abbrev dktJ2_add_2_0 : List UInt8 := dkwJ2_add_2_0 ++ []
theorem dksJ2_add_2_0 : cJ2_add_2.data.toList.drop 0 = dktJ2_add_2_0 := by decide +kernel
theorem dJ2_add_2_0 : decode cJ2_add_2 0 = .ok (.iload_n 3, 1) := dk_29 (dk_at dksJ2_add_2_0 0 rfl rfl)
theorem dJ2_add_2_1 : decode cJ2_add_2 1 = .ok (.aload_n 2, 1) := dk_44 (dk_at dksJ2_add_2_0 1 rfl rfl)
theorem dJ2_add_2_2 : decode cJ2_add_2 2 = .ok (.arraylength, 1) := dk_190 (dk_at dksJ2_add_2_0 2 rfl rfl)
theorem dJ2_add_2_3 : decode cJ2_add_2 3 = .ok (.if_icmp .ne 8, 3) := dk_160 0 8 (dk_at dksJ2_add_2_0 3 rfl rfl)
theorem dJ2_add_2_6 : decode cJ2_add_2 6 = .ok (.aload_n 0, 1) := dk_42 (dk_at dksJ2_add_2_0 6 rfl rfl)
theorem dJ2_add_2_7 : decode cJ2_add_2 7 = .ok (.invokevirtual 129, 3) := dk_182 0 129 (dk_at dksJ2_add_2_0 7 rfl rfl)
theorem dJ2_add_2_10 : decode cJ2_add_2 10 = .ok (.astore_n 2, 1) := dk_77 (dk_at dksJ2_add_2_0 10 rfl rfl)
theorem dJ2_add_2_11 : decode cJ2_add_2 11 = .ok (.aload_n 2, 1) := dk_44 (dk_at dksJ2_add_2_0 11 rfl rfl)
theorem dJ2_add_2_12 : decode cJ2_add_2 12 = .ok (.iload_n 3, 1) := dk_29 (dk_at dksJ2_add_2_0 12 rfl rfl)
theorem dJ2_add_2_13 : decode cJ2_add_2 13 = .ok (.aload_n 1, 1) := dk_43 (dk_at dksJ2_add_2_0 13 rfl rfl)
theorem dJ2_add_2_14 : decode cJ2_add_2 14 = .ok (.aastore, 1) := dk_83 (dk_at dksJ2_add_2_0 14 rfl rfl)
theorem dJ2_add_2_15 : decode cJ2_add_2 15 = .ok (.aload_n 0, 1) := dk_42 (dk_at dksJ2_add_2_0 15 rfl rfl)
theorem dJ2_add_2_16 : decode cJ2_add_2 16 = .ok (.iload_n 3, 1) := dk_29 (dk_at dksJ2_add_2_0 16 rfl rfl)
theorem dJ2_add_2_17 : decode cJ2_add_2 17 = .ok (.iconst 1, 1) := dk_4 (dk_at dksJ2_add_2_0 17 rfl rfl)
theorem dJ2_add_2_18 : decode cJ2_add_2 18 = .ok (.iadd, 1) := dk_96 (dk_at dksJ2_add_2_0 18 rfl rfl)
theorem dJ2_add_2_19 : decode cJ2_add_2 19 = .ok (.putfield 48, 3) := dk_181 0 48 (dk_at dksJ2_add_2_0 19 rfl rfl)
theorem dJ2_add_2_22 : decode cJ2_add_2 22 = .ok (.return_, 1) := dk_177 (dk_at dksJ2_add_2_0 22 rfl rfl)
abbrev cJ2_grow : ByteArray := prog_34_method_7_code
def yJ2_grow : MethodName := ⟨RJ2, "grow", "()[Ljava/lang/Object;"⟩
def dkwJ2_grow_0 : List UInt8 := [42, 42, 180, 0, 48, 4, 96, 182, 0, 69, 176]
abbrev dktJ2_grow_0 : List UInt8 := dkwJ2_grow_0 ++ []
theorem dksJ2_grow_0 : cJ2_grow.data.toList.drop 0 = dktJ2_grow_0 := by decide +kernel
theorem dJ2_grow_0 : decode cJ2_grow 0 = .ok (.aload_n 0, 1) := dk_42 (dk_at dksJ2_grow_0 0 rfl rfl)
theorem dJ2_grow_1 : decode cJ2_grow 1 = .ok (.aload_n 0, 1) := dk_42 (dk_at dksJ2_grow_0 1 rfl rfl)
theorem dJ2_grow_2 : decode cJ2_grow 2 = .ok (.getfield 48, 3) := dk_180 0 48 (dk_at dksJ2_grow_0 2 rfl rfl)
theorem dJ2_grow_5 : decode cJ2_grow 5 = .ok (.iconst 1, 1) := dk_4 (dk_at dksJ2_grow_0 5 rfl rfl)
theorem dJ2_grow_6 : decode cJ2_grow 6 = .ok (.iadd, 1) := dk_96 (dk_at dksJ2_grow_0 6 rfl rfl)
theorem dJ2_grow_7 : decode cJ2_grow 7 = .ok (.invokevirtual 69, 3) := dk_182 0 69 (dk_at dksJ2_grow_0 7 rfl rfl)
theorem dJ2_grow_10 : decode cJ2_grow 10 = .ok (.areturn, 1) := dk_176 (dk_at dksJ2_grow_0 10 rfl rfl)
abbrev cJ2_grow_2 : ByteArray := prog_34_method_6_code
def yJ2_grow_2 : MethodName := ⟨RJ2, "grow", "(I)[Ljava/lang/Object;"⟩
def dkwJ2_grow_2_2 : List UInt8 := [27, 184, 0, 79, 189, 0, 7, 90, 181, 0, 9, 176]
abbrev dktJ2_grow_2_2 : List UInt8 := dkwJ2_grow_2_2 ++ []
def dkwJ2_grow_2_1 : List UInt8 := [28, 4, 122, 184, 0, 73, 62, 42, 42, 180, 0, 9, 29, 184, 0, 66, 90, 181, 0, 9, 176, 42, 16, 10]
abbrev dktJ2_grow_2_1 : List UInt8 := dkwJ2_grow_2_1 ++ dktJ2_grow_2_2
def dkwJ2_grow_2_0 : List UInt8 := [42, 180, 0, 9, 190, 61, 28, 157, 0, 13, 42, 180, 0, 9, 178, 0, 39, 165, 0, 28, 28, 27, 28, 100]
abbrev dktJ2_grow_2_0 : List UInt8 := dkwJ2_grow_2_0 ++ dktJ2_grow_2_1
theorem dksJ2_grow_2_0 : cJ2_grow_2.data.toList.drop 0 = dktJ2_grow_2_0 := by decide +kernel
theorem dksJ2_grow_2_1 : cJ2_grow_2.data.toList.drop 24 = dktJ2_grow_2_1 := dk_seg dksJ2_grow_2_0 24 rfl rfl
theorem dksJ2_grow_2_2 : cJ2_grow_2.data.toList.drop 48 = dktJ2_grow_2_2 := dk_seg dksJ2_grow_2_1 24 rfl rfl
theorem dJ2_grow_2_0 : decode cJ2_grow_2 0 = .ok (.aload_n 0, 1) := dk_42 (dk_at dksJ2_grow_2_0 0 rfl rfl)
theorem dJ2_grow_2_1 : decode cJ2_grow_2 1 = .ok (.getfield 9, 3) := dk_180 0 9 (dk_at dksJ2_grow_2_0 1 rfl rfl)
theorem dJ2_grow_2_4 : decode cJ2_grow_2 4 = .ok (.arraylength, 1) := dk_190 (dk_at dksJ2_grow_2_0 4 rfl rfl)
theorem dJ2_grow_2_5 : decode cJ2_grow_2 5 = .ok (.istore_n 2, 1) := dk_61 (dk_at dksJ2_grow_2_0 5 rfl rfl)
theorem dJ2_grow_2_6 : decode cJ2_grow_2 6 = .ok (.iload_n 2, 1) := dk_28 (dk_at dksJ2_grow_2_0 6 rfl rfl)
theorem dJ2_grow_2_7 : decode cJ2_grow_2 7 = .ok (.ifCond .gt 13, 3) := dk_157 0 13 (dk_at dksJ2_grow_2_0 7 rfl rfl)
theorem dJ2_grow_2_10 : decode cJ2_grow_2 10 = .ok (.aload_n 0, 1) := dk_42 (dk_at dksJ2_grow_2_0 10 rfl rfl)
theorem dJ2_grow_2_11 : decode cJ2_grow_2 11 = .ok (.getfield 9, 3) := dk_180 0 9 (dk_at dksJ2_grow_2_0 11 rfl rfl)
theorem dJ2_grow_2_14 : decode cJ2_grow_2 14 = .ok (.getstatic 39, 3) := dk_178 0 39 (dk_at dksJ2_grow_2_0 14 rfl rfl)
theorem dJ2_grow_2_17 : decode cJ2_grow_2 17 = .ok (.if_acmp .eq 28, 3) := dk_165 0 28 (dk_at dksJ2_grow_2_0 17 rfl rfl)
theorem dJ2_grow_2_20 : decode cJ2_grow_2 20 = .ok (.iload_n 2, 1) := dk_28 (dk_at dksJ2_grow_2_0 20 rfl rfl)
theorem dJ2_grow_2_21 : decode cJ2_grow_2 21 = .ok (.iload_n 1, 1) := dk_27 (dk_at dksJ2_grow_2_0 21 rfl rfl)
theorem dJ2_grow_2_22 : decode cJ2_grow_2 22 = .ok (.iload_n 2, 1) := dk_28 (dk_at dksJ2_grow_2_0 22 rfl rfl)
theorem dJ2_grow_2_23 : decode cJ2_grow_2 23 = .ok (.isub, 1) := dk_100 (dk_at dksJ2_grow_2_0 23 rfl rfl)
theorem dJ2_grow_2_24 : decode cJ2_grow_2 24 = .ok (.iload_n 2, 1) := dk_28 (dk_at dksJ2_grow_2_1 0 rfl rfl)
theorem dJ2_grow_2_25 : decode cJ2_grow_2 25 = .ok (.iconst 1, 1) := dk_4 (dk_at dksJ2_grow_2_1 1 rfl rfl)
theorem dJ2_grow_2_26 : decode cJ2_grow_2 26 = .ok (.ishr, 1) := dk_122 (dk_at dksJ2_grow_2_1 2 rfl rfl)
theorem dJ2_grow_2_27 : decode cJ2_grow_2 27 = .ok (.invokestatic 73, 3) := dk_184 0 73 (dk_at dksJ2_grow_2_1 3 rfl rfl)
theorem dJ2_grow_2_30 : decode cJ2_grow_2 30 = .ok (.istore_n 3, 1) := dk_62 (dk_at dksJ2_grow_2_1 6 rfl rfl)
theorem dJ2_grow_2_31 : decode cJ2_grow_2 31 = .ok (.aload_n 0, 1) := dk_42 (dk_at dksJ2_grow_2_1 7 rfl rfl)
theorem dJ2_grow_2_32 : decode cJ2_grow_2 32 = .ok (.aload_n 0, 1) := dk_42 (dk_at dksJ2_grow_2_1 8 rfl rfl)
theorem dJ2_grow_2_33 : decode cJ2_grow_2 33 = .ok (.getfield 9, 3) := dk_180 0 9 (dk_at dksJ2_grow_2_1 9 rfl rfl)
theorem dJ2_grow_2_36 : decode cJ2_grow_2 36 = .ok (.iload_n 3, 1) := dk_29 (dk_at dksJ2_grow_2_1 12 rfl rfl)
theorem dJ2_grow_2_37 : decode cJ2_grow_2 37 = .ok (.invokestatic 66, 3) := dk_184 0 66 (dk_at dksJ2_grow_2_1 13 rfl rfl)
theorem dJ2_grow_2_40 : decode cJ2_grow_2 40 = .ok (.dup_x1, 1) := dk_90 (dk_at dksJ2_grow_2_1 16 rfl rfl)
theorem dJ2_grow_2_41 : decode cJ2_grow_2 41 = .ok (.putfield 9, 3) := dk_181 0 9 (dk_at dksJ2_grow_2_1 17 rfl rfl)
theorem dJ2_grow_2_44 : decode cJ2_grow_2 44 = .ok (.areturn, 1) := dk_176 (dk_at dksJ2_grow_2_1 20 rfl rfl)
theorem dJ2_grow_2_45 : decode cJ2_grow_2 45 = .ok (.aload_n 0, 1) := dk_42 (dk_at dksJ2_grow_2_1 21 rfl rfl)
theorem dJ2_grow_2_46 : decode cJ2_grow_2 46 = .ok (.bipush 10, 2) := dk_16 10 (dk_at dksJ2_grow_2_1 22 rfl rfl)
theorem dJ2_grow_2_48 : decode cJ2_grow_2 48 = .ok (.iload_n 1, 1) := dk_27 (dk_at dksJ2_grow_2_2 0 rfl rfl)
theorem dJ2_grow_2_49 : decode cJ2_grow_2 49 = .ok (.invokestatic 79, 3) := dk_184 0 79 (dk_at dksJ2_grow_2_2 1 rfl rfl)
theorem dJ2_grow_2_52 : decode cJ2_grow_2 52 = .ok (.anewarray 7, 3) := dk_189 0 7 (dk_at dksJ2_grow_2_2 4 rfl rfl)
theorem dJ2_grow_2_55 : decode cJ2_grow_2 55 = .ok (.dup_x1, 1) := dk_90 (dk_at dksJ2_grow_2_2 7 rfl rfl)
theorem dJ2_grow_2_56 : decode cJ2_grow_2 56 = .ok (.putfield 9, 3) := dk_181 0 9 (dk_at dksJ2_grow_2_2 8 rfl rfl)
theorem dJ2_grow_2_59 : decode cJ2_grow_2 59 = .ok (.areturn, 1) := dk_176 (dk_at dksJ2_grow_2_2 11 rfl rfl)
abbrev cJ2_get : ByteArray := prog_34_method_20_code
def yJ2_get : MethodName := ⟨RJ2, "get", "(I)Ljava/lang/Object;"⟩
def dkwJ2_get_0 : List UInt8 := [27, 42, 180, 0, 48, 184, 0, 118, 87, 42, 27, 182, 0, 123, 176]
abbrev dktJ2_get_0 : List UInt8 := dkwJ2_get_0 ++ []
theorem dksJ2_get_0 : cJ2_get.data.toList.drop 0 = dktJ2_get_0 := by decide +kernel
theorem dJ2_get_0 : decode cJ2_get 0 = .ok (.iload_n 1, 1) := dk_27 (dk_at dksJ2_get_0 0 rfl rfl)
theorem dJ2_get_1 : decode cJ2_get 1 = .ok (.aload_n 0, 1) := dk_42 (dk_at dksJ2_get_0 1 rfl rfl)
theorem dJ2_get_2 : decode cJ2_get 2 = .ok (.getfield 48, 3) := dk_180 0 48 (dk_at dksJ2_get_0 2 rfl rfl)
theorem dJ2_get_5 : decode cJ2_get 5 = .ok (.invokestatic 118, 3) := dk_184 0 118 (dk_at dksJ2_get_0 5 rfl rfl)
theorem dJ2_get_8 : decode cJ2_get 8 = .ok (.pop, 1) := dk_87 (dk_at dksJ2_get_0 8 rfl rfl)
theorem dJ2_get_9 : decode cJ2_get 9 = .ok (.aload_n 0, 1) := dk_42 (dk_at dksJ2_get_0 9 rfl rfl)
theorem dJ2_get_10 : decode cJ2_get 10 = .ok (.iload_n 1, 1) := dk_27 (dk_at dksJ2_get_0 10 rfl rfl)
theorem dJ2_get_11 : decode cJ2_get 11 = .ok (.invokevirtual 123, 3) := dk_182 0 123 (dk_at dksJ2_get_0 11 rfl rfl)
theorem dJ2_get_14 : decode cJ2_get 14 = .ok (.areturn, 1) := dk_176 (dk_at dksJ2_get_0 14 rfl rfl)
abbrev cJ2_elementData : ByteArray := prog_34_method_18_code
def yJ2_elementData : MethodName := ⟨RJ2, "elementData", "(I)Ljava/lang/Object;"⟩
def dkwJ2_elementData_0 : List UInt8 := [42, 180, 0, 9, 27, 50, 176]
abbrev dktJ2_elementData_0 : List UInt8 := dkwJ2_elementData_0 ++ []
theorem dksJ2_elementData_0 : cJ2_elementData.data.toList.drop 0 = dktJ2_elementData_0 := by decide +kernel
theorem dJ2_elementData_0 : decode cJ2_elementData 0 = .ok (.aload_n 0, 1) := dk_42 (dk_at dksJ2_elementData_0 0 rfl rfl)
theorem dJ2_elementData_1 : decode cJ2_elementData 1 = .ok (.getfield 9, 3) := dk_180 0 9 (dk_at dksJ2_elementData_0 1 rfl rfl)
theorem dJ2_elementData_4 : decode cJ2_elementData 4 = .ok (.iload_n 1, 1) := dk_27 (dk_at dksJ2_elementData_0 4 rfl rfl)
theorem dJ2_elementData_5 : decode cJ2_elementData 5 = .ok (.aaload, 1) := dk_50 (dk_at dksJ2_elementData_0 5 rfl rfl)
theorem dJ2_elementData_6 : decode cJ2_elementData 6 = .ok (.areturn, 1) := dk_176 (dk_at dksJ2_elementData_0 6 rfl rfl)
theorem q146 : (Jvm.Cond.initialized "java/util/ArrayList") ∈ lw_all := lw_g (lw_at lw_m1 4 rfl) rfl
theorem q186 : (Jvm.Cond.instantiable "java/util/ArrayList" (3 : Nat)) ∈ lw_all := lw_g (lw_at lw_m1 44 rfl) rfl
theorem q188 : (Jvm.Cond.instanceMethod ({ cls := "java/util/ArrayList", name := "<init>", desc := "(I)V" } : Jvm.MethodName)) ∈ lw_all := lw_g (lw_at lw_m1 46 rfl) rfl
theorem q189 : (Jvm.Cond.code ({ cls := "java/util/ArrayList", name := "<init>", desc := "(I)V" } : Jvm.MethodName) prog_34_method_1_code (2 : Nat) (Option.none : Option Jvm.ClassFile.FieldType)) ∈ lw_all := lw_g (lw_at lw_m1 47 rfl) rfl
theorem q190 : (Jvm.Cond.methodLink "java/util/ArrayList" (1 : Nat) ({ cls := "java/util/AbstractList", name := "<init>", desc := "()V" } : Jvm.MethodName)) ∈ lw_all := lw_g (lw_at lw_m1 48 rfl) rfl
theorem q197 : (Jvm.Cond.classLink "java/util/ArrayList" (7 : Nat) "java/lang/Object") ∈ lw_all := lw_g (lw_at lw_m1 55 rfl) rfl
theorem q199 : (Jvm.Cond.fieldLink "java/util/ArrayList" (15 : Nat) "java/util/ArrayList" "EMPTY_ELEMENTDATA" "[Ljava/lang/Object;") ∈ lw_all := lw_g (lw_at lw_m1 57 rfl) rfl
theorem q200 : (Jvm.Cond.laysStatic "java/util/ArrayList" "EMPTY_ELEMENTDATA" "[Ljava/lang/Object;") ∈ lw_tbl := lw_at lw_m1 58 rfl
theorem q201 : (Jvm.Cond.fieldLink "java/util/ArrayList" (9 : Nat) "java/util/ArrayList" "elementData" "[Ljava/lang/Object;") ∈ lw_all := lw_g (lw_at lw_m1 59 rfl) rfl
theorem q202 : (Jvm.Cond.fieldLink "java/util/ArrayList" (48 : Nat) "java/util/ArrayList" "size" "I") ∈ lw_all := lw_g (lw_at lw_m1 60 rfl) rfl
theorem q204 : (Jvm.Cond.fieldLink "java/util/ArrayList" (63 : Nat) "java/util/ArrayList" "modCount" "I") ∈ lw_all := lw_g (lw_at lw_m1 62 rfl) rfl
theorem q205 : (Jvm.Cond.sameField "java/util/ArrayList" "java/util/AbstractList" "modCount" "I") ∈ lw_all := lw_g (lw_at lw_m1 63 rfl) rfl
theorem q206 : (Jvm.Cond.lays "java/util/ArrayList" "java/util/ArrayList" "elementData" "[Ljava/lang/Object;") ∈ lw_all := lw_g (lw_at lw_m1 64 rfl) rfl
theorem q207 : (Jvm.Cond.soleField "java/util/ArrayList" "elementData") ∈ lw_all := lw_g (lw_at lw_m1 65 rfl) rfl
theorem q208 : (Jvm.Cond.lays "java/util/ArrayList" "java/util/ArrayList" "size" "I") ∈ lw_all := lw_g (lw_at lw_m1 66 rfl) rfl
theorem q209 : (Jvm.Cond.soleField "java/util/ArrayList" "size") ∈ lw_all := lw_g (lw_at lw_m1 67 rfl) rfl
theorem q210 : (Jvm.Cond.lays "java/util/ArrayList" "java/util/AbstractList" "modCount" "I") ∈ lw_all := lw_g (lw_at lw_m1 68 rfl) rfl
theorem q212 : (Jvm.Cond.superclass "java/util/ArrayList" "java/util/AbstractList") ∈ lw_all := lw_g (lw_at lw_m1 70 rfl) rfl
theorem q495 : (Jvm.Cond.instanceMethod ({ cls := "java/util/ArrayList", name := "size", desc := "()I" } : Jvm.MethodName)) ∈ lw_all := lw_g (lw_at lw_m2 113 rfl) rfl
theorem q496 : (Jvm.Cond.selects "java/util/ArrayList" ({ cls := "java/util/ArrayList", name := "size", desc := "()I" } : Jvm.MethodName) ({ cls := "java/util/ArrayList", name := "size", desc := "()I" } : Jvm.MethodName)) ∈ lw_all := lw_g (lw_at lw_m2 114 rfl) rfl
theorem q497 : (Jvm.Cond.code ({ cls := "java/util/ArrayList", name := "size", desc := "()I" } : Jvm.MethodName) prog_34_method_8_code (1 : Nat) (Option.some Jvm.ClassFile.FieldType.int)) ∈ lw_all := lw_g (lw_at lw_m2 115 rfl) rfl
theorem q615 : (Jvm.Cond.instanceMethod ({ cls := "java/util/ArrayList", name := "add", desc := "(Ljava/lang/Object;)Z" } : Jvm.MethodName)) ∈ lw_all := lw_g (lw_at lw_m2 233 rfl) rfl
theorem q616 : (Jvm.Cond.selects "java/util/ArrayList" ({ cls := "java/util/ArrayList", name := "add", desc := "(Ljava/lang/Object;)Z" } : Jvm.MethodName) ({ cls := "java/util/ArrayList", name := "add", desc := "(Ljava/lang/Object;)Z" } : Jvm.MethodName)) ∈ lw_all := lw_g (lw_at lw_m2 234 rfl) rfl
theorem q617 : (Jvm.Cond.code ({ cls := "java/util/ArrayList", name := "add", desc := "(Ljava/lang/Object;)Z" } : Jvm.MethodName) prog_34_method_25_code (2 : Nat) (Option.some Jvm.ClassFile.FieldType.boolean)) ∈ lw_all := lw_g (lw_at lw_m2 235 rfl) rfl
theorem q618 : (Jvm.Cond.methodLink "java/util/ArrayList" (131 : Nat) ({ cls := "java/util/ArrayList", name := "add", desc := "(Ljava/lang/Object;[Ljava/lang/Object;I)V" } : Jvm.MethodName)) ∈ lw_all := lw_g (lw_at lw_m2 236 rfl) rfl
theorem q619 : (Jvm.Cond.privateMethod ({ cls := "java/util/ArrayList", name := "add", desc := "(Ljava/lang/Object;[Ljava/lang/Object;I)V" } : Jvm.MethodName)) ∈ lw_tbl := lw_at lw_m2 237 rfl
theorem q620 : (Jvm.Cond.instanceMethod ({ cls := "java/util/ArrayList", name := "add", desc := "(Ljava/lang/Object;[Ljava/lang/Object;I)V" } : Jvm.MethodName)) ∈ lw_all := lw_g (lw_at lw_m2 238 rfl) rfl
theorem q621 : (Jvm.Cond.code ({ cls := "java/util/ArrayList", name := "add", desc := "(Ljava/lang/Object;[Ljava/lang/Object;I)V" } : Jvm.MethodName) prog_34_method_24_code (4 : Nat) (Option.none : Option Jvm.ClassFile.FieldType)) ∈ lw_all := lw_g (lw_at lw_m2 239 rfl) rfl
theorem q622 : (Jvm.Cond.methodLink "java/util/ArrayList" (129 : Nat) ({ cls := "java/util/ArrayList", name := "grow", desc := "()[Ljava/lang/Object;" } : Jvm.MethodName)) ∈ lw_all := lw_g (lw_at lw_m3 0 rfl) rfl
theorem q623 : (Jvm.Cond.privateMethod ({ cls := "java/util/ArrayList", name := "grow", desc := "()[Ljava/lang/Object;" } : Jvm.MethodName)) ∈ lw_tbl := lw_at lw_m3 1 rfl
theorem q624 : (Jvm.Cond.instanceMethod ({ cls := "java/util/ArrayList", name := "grow", desc := "()[Ljava/lang/Object;" } : Jvm.MethodName)) ∈ lw_all := lw_g (lw_at lw_m3 2 rfl) rfl
theorem q625 : (Jvm.Cond.code ({ cls := "java/util/ArrayList", name := "grow", desc := "()[Ljava/lang/Object;" } : Jvm.MethodName) prog_34_method_7_code (1 : Nat) (Option.some (Jvm.ClassFile.FieldType.array (Jvm.ClassFile.FieldType.object "java/lang/Object")))) ∈ lw_all := lw_g (lw_at lw_m3 3 rfl) rfl
theorem q626 : (Jvm.Cond.methodLink "java/util/ArrayList" (69 : Nat) ({ cls := "java/util/ArrayList", name := "grow", desc := "(I)[Ljava/lang/Object;" } : Jvm.MethodName)) ∈ lw_all := lw_g (lw_at lw_m3 4 rfl) rfl
theorem q627 : (Jvm.Cond.privateMethod ({ cls := "java/util/ArrayList", name := "grow", desc := "(I)[Ljava/lang/Object;" } : Jvm.MethodName)) ∈ lw_tbl := lw_at lw_m3 5 rfl
theorem q628 : (Jvm.Cond.instanceMethod ({ cls := "java/util/ArrayList", name := "grow", desc := "(I)[Ljava/lang/Object;" } : Jvm.MethodName)) ∈ lw_all := lw_g (lw_at lw_m3 6 rfl) rfl
theorem q629 : (Jvm.Cond.code ({ cls := "java/util/ArrayList", name := "grow", desc := "(I)[Ljava/lang/Object;" } : Jvm.MethodName) prog_34_method_6_code (4 : Nat) (Option.some (Jvm.ClassFile.FieldType.array (Jvm.ClassFile.FieldType.object "java/lang/Object")))) ∈ lw_all := lw_g (lw_at lw_m3 7 rfl) rfl
theorem q630 : (Jvm.Cond.fieldLink "java/util/ArrayList" (39 : Nat) "java/util/ArrayList" "DEFAULTCAPACITY_EMPTY_ELEMENTDATA" "[Ljava/lang/Object;") ∈ lw_all := lw_g (lw_at lw_m3 8 rfl) rfl
theorem q631 : (Jvm.Cond.laysStatic "java/util/ArrayList" "DEFAULTCAPACITY_EMPTY_ELEMENTDATA" "[Ljava/lang/Object;") ∈ lw_tbl := lw_at lw_m3 9 rfl
theorem q632 : (Jvm.Cond.methodLink "java/util/ArrayList" (73 : Nat) ({ cls := "jdk/internal/util/ArraysSupport", name := "newLength", desc := "(III)I" } : Jvm.MethodName)) ∈ lw_all := lw_g (lw_at lw_m3 10 rfl) rfl
theorem q642 : (Jvm.Cond.methodLink "java/util/ArrayList" (66 : Nat) ({ cls := "java/util/Arrays", name := "copyOf", desc := "([Ljava/lang/Object;I)[Ljava/lang/Object;" } : Jvm.MethodName)) ∈ lw_all := lw_g (lw_at lw_m3 20 rfl) rfl
theorem q664 : (Jvm.Cond.selects "java/util/ArrayList" ({ cls := "java/lang/Object", name := "getClass", desc := "()Ljava/lang/Class;" } : Jvm.MethodName) ({ cls := "java/lang/Object", name := "getClass", desc := "()Ljava/lang/Class;" } : Jvm.MethodName)) ∈ lw_all := lw_g (lw_at lw_m3 42 rfl) rfl
theorem q677 : (Jvm.Cond.methodLink "java/util/ArrayList" (79 : Nat) ({ cls := "java/lang/Math", name := "max", desc := "(II)I" } : Jvm.MethodName)) ∈ lw_all := lw_g (lw_at lw_m3 55 rfl) rfl
theorem q727 : (Jvm.Cond.instanceMethod ({ cls := "java/util/ArrayList", name := "get", desc := "(I)Ljava/lang/Object;" } : Jvm.MethodName)) ∈ lw_all := lw_g (lw_at lw_m3 105 rfl) rfl
theorem q728 : (Jvm.Cond.selects "java/util/ArrayList" ({ cls := "java/util/ArrayList", name := "get", desc := "(I)Ljava/lang/Object;" } : Jvm.MethodName) ({ cls := "java/util/ArrayList", name := "get", desc := "(I)Ljava/lang/Object;" } : Jvm.MethodName)) ∈ lw_all := lw_g (lw_at lw_m3 106 rfl) rfl
theorem q729 : (Jvm.Cond.code ({ cls := "java/util/ArrayList", name := "get", desc := "(I)Ljava/lang/Object;" } : Jvm.MethodName) prog_34_method_20_code (2 : Nat) (Option.some (Jvm.ClassFile.FieldType.object "java/lang/Object"))) ∈ lw_all := lw_g (lw_at lw_m3 107 rfl) rfl
theorem q730 : (Jvm.Cond.methodLink "java/util/ArrayList" (118 : Nat) ({ cls := "java/util/Objects", name := "checkIndex", desc := "(II)I" } : Jvm.MethodName)) ∈ lw_all := lw_g (lw_at lw_m3 108 rfl) rfl
theorem q734 : (Jvm.Cond.methodLink "java/util/ArrayList" (123 : Nat) ({ cls := "java/util/ArrayList", name := "elementData", desc := "(I)Ljava/lang/Object;" } : Jvm.MethodName)) ∈ lw_all := lw_g (lw_at lw_m3 112 rfl) rfl
theorem q735 : (Jvm.Cond.instanceMethod ({ cls := "java/util/ArrayList", name := "elementData", desc := "(I)Ljava/lang/Object;" } : Jvm.MethodName)) ∈ lw_all := lw_g (lw_at lw_m3 113 rfl) rfl
theorem q736 : (Jvm.Cond.selects "java/util/ArrayList" ({ cls := "java/util/ArrayList", name := "elementData", desc := "(I)Ljava/lang/Object;" } : Jvm.MethodName) ({ cls := "java/util/ArrayList", name := "elementData", desc := "(I)Ljava/lang/Object;" } : Jvm.MethodName)) ∈ lw_all := lw_g (lw_at lw_m3 114 rfl) rfl
theorem q737 : (Jvm.Cond.code ({ cls := "java/util/ArrayList", name := "elementData", desc := "(I)Ljava/lang/Object;" } : Jvm.MethodName) prog_34_method_18_code (2 : Nat) (Option.some (Jvm.ClassFile.FieldType.object "java/lang/Object"))) ∈ lw_all := lw_g (lw_at lw_m3 115 rfl) rfl
theorem q1984 : (Jvm.Cond.castable "java/util/ArrayList" "java/lang/Object") ∈ lw_tbl := lw_at lw_m8 162 rfl
theorem in_J2 : ∀ w ∈ wsJ20, w ∈ lw_all := lw_in wsJ20 [210, 206, 208] (by decide +kernel) (by decide +kernel)

/-! TurningRoads$Value -/
def RX8 : String := "TurningRoads$Value"
abbrev cX8_init : ByteArray := prog_15_method_1_code
def yX8_init : MethodName := ⟨RX8, "<init>", "()V"⟩
theorem dX8_init_0 : decode cX8_init 0 = .ok (.aload_n 0, 1) := by decide +kernel
theorem dX8_init_1 : decode cX8_init 1 = .ok (.invokespecial 1, 3) := by decide +kernel
theorem dX8_init_4 : decode cX8_init 4 = .ok (.return_, 1) := by decide +kernel
theorem q165 : (Jvm.Cond.initialized "TurningRoads$Value") ∈ lw_all := lw_g (lw_at lw_m1 23 rfl) rfl
theorem q804 : (Jvm.Cond.instanceMethod ({ cls := "TurningRoads$Value", name := "<init>", desc := "()V" } : Jvm.MethodName)) ∈ lw_all := lw_g (lw_at lw_m3 182 rfl) rfl
theorem q805 : (Jvm.Cond.code ({ cls := "TurningRoads$Value", name := "<init>", desc := "()V" } : Jvm.MethodName) prog_15_method_1_code (1 : Nat) (Option.none : Option Jvm.ClassFile.FieldType)) ∈ lw_all := lw_g (lw_at lw_m3 183 rfl) rfl
theorem q806 : (Jvm.Cond.methodLink "TurningRoads$Value" (1 : Nat) ({ cls := "java/lang/Object", name := "<init>", desc := "()V" } : Jvm.MethodName)) ∈ lw_all := lw_g (lw_at lw_m3 184 rfl) rfl
theorem q1231 : (Jvm.Cond.declares ({ cls := "TurningRoads$Value", name := "of", desc := "([J)J" } : Jvm.MethodName)) ∈ lw_tbl := lw_at lw_m5 129 rfl
theorem q1232 : (Jvm.Cond.sameMethod "TurningRoads$Value" "TurningRoads$Value" "of" "([J)J") ∈ lw_all := lw_g (lw_at lw_m5 130 rfl) rfl

/-! TurningRoads$Condition -/
def RX13 : String := "TurningRoads$Condition"
abbrev cX13_init : ByteArray := prog_5_method_1_code
def yX13_init : MethodName := ⟨RX13, "<init>", "()V"⟩
theorem dX13_init_0 : decode cX13_init 0 = .ok (.aload_n 0, 1) := by decide +kernel
theorem dX13_init_1 : decode cX13_init 1 = .ok (.invokespecial 1, 3) := by decide +kernel
theorem dX13_init_4 : decode cX13_init 4 = .ok (.return_, 1) := by decide +kernel
theorem q171 : (Jvm.Cond.initialized "TurningRoads$Condition") ∈ lw_all := lw_g (lw_at lw_m1 29 rfl) rfl
theorem q871 : (Jvm.Cond.instanceMethod ({ cls := "TurningRoads$Condition", name := "<init>", desc := "()V" } : Jvm.MethodName)) ∈ lw_all := lw_g (lw_at lw_m4 9 rfl) rfl
theorem q872 : (Jvm.Cond.code ({ cls := "TurningRoads$Condition", name := "<init>", desc := "()V" } : Jvm.MethodName) prog_5_method_1_code (1 : Nat) (Option.none : Option Jvm.ClassFile.FieldType)) ∈ lw_all := lw_g (lw_at lw_m4 10 rfl) rfl
theorem q873 : (Jvm.Cond.methodLink "TurningRoads$Condition" (1 : Nat) ({ cls := "java/lang/Object", name := "<init>", desc := "()V" } : Jvm.MethodName)) ∈ lw_all := lw_g (lw_at lw_m4 11 rfl) rfl
theorem q1222 : (Jvm.Cond.declares ({ cls := "TurningRoads$Condition", name := "is", desc := "([J)Z" } : Jvm.MethodName)) ∈ lw_tbl := lw_at lw_m5 120 rfl
theorem q1223 : (Jvm.Cond.sameMethod "TurningRoads$Condition" "TurningRoads$Condition" "is" "([J)Z") ∈ lw_all := lw_g (lw_at lw_m5 121 rfl) rfl

/-! java/util/AbstractCollection -/
def RJ0 : String := "java/util/AbstractCollection"
abbrev cJ0_init : ByteArray := prog_32_method_1_code
def yJ0_init : MethodName := ⟨RJ0, "<init>", "()V"⟩
theorem dJ0_init_0 : decode cJ0_init 0 = .ok (.aload_n 0, 1) := by decide +kernel
theorem dJ0_init_1 : decode cJ0_init 1 = .ok (.invokespecial 1, 3) := by decide +kernel
theorem dJ0_init_4 : decode cJ0_init 4 = .ok (.return_, 1) := by decide +kernel
theorem q144 : (Jvm.Cond.initialized "java/util/AbstractCollection") ∈ lw_all := lw_g (lw_at lw_m1 2 rfl) rfl
theorem q194 : (Jvm.Cond.instanceMethod ({ cls := "java/util/AbstractCollection", name := "<init>", desc := "()V" } : Jvm.MethodName)) ∈ lw_all := lw_g (lw_at lw_m1 52 rfl) rfl
theorem q195 : (Jvm.Cond.code ({ cls := "java/util/AbstractCollection", name := "<init>", desc := "()V" } : Jvm.MethodName) prog_32_method_1_code (1 : Nat) (Option.none : Option Jvm.ClassFile.FieldType)) ∈ lw_all := lw_g (lw_at lw_m1 53 rfl) rfl
theorem q196 : (Jvm.Cond.methodLink "java/util/AbstractCollection" (1 : Nat) ({ cls := "java/lang/Object", name := "<init>", desc := "()V" } : Jvm.MethodName)) ∈ lw_all := lw_g (lw_at lw_m1 54 rfl) rfl

/-! java/util/AbstractList -/
def RJ1 : String := "java/util/AbstractList"
abbrev cJ1_init : ByteArray := prog_33_method_1_code
def yJ1_init : MethodName := ⟨RJ1, "<init>", "()V"⟩
def dkwJ1_init_0 : List UInt8 := [42, 183, 0, 1, 42, 3, 181, 0, 7, 177]
abbrev dktJ1_init_0 : List UInt8 := dkwJ1_init_0 ++ []
theorem dksJ1_init_0 : cJ1_init.data.toList.drop 0 = dktJ1_init_0 := by decide +kernel
theorem dJ1_init_0 : decode cJ1_init 0 = .ok (.aload_n 0, 1) := dk_42 (dk_at dksJ1_init_0 0 rfl rfl)
theorem dJ1_init_1 : decode cJ1_init 1 = .ok (.invokespecial 1, 3) := dk_183 0 1 (dk_at dksJ1_init_0 1 rfl rfl)
theorem dJ1_init_4 : decode cJ1_init 4 = .ok (.aload_n 0, 1) := dk_42 (dk_at dksJ1_init_0 4 rfl rfl)
theorem dJ1_init_5 : decode cJ1_init 5 = .ok (.iconst 0, 1) := dk_3 (dk_at dksJ1_init_0 5 rfl rfl)
theorem dJ1_init_6 : decode cJ1_init 6 = .ok (.putfield 7, 3) := dk_181 0 7 (dk_at dksJ1_init_0 6 rfl rfl)
theorem dJ1_init_9 : decode cJ1_init 9 = .ok (.return_, 1) := dk_177 (dk_at dksJ1_init_0 9 rfl rfl)
theorem q145 : (Jvm.Cond.initialized "java/util/AbstractList") ∈ lw_all := lw_g (lw_at lw_m1 3 rfl) rfl
theorem q191 : (Jvm.Cond.instanceMethod ({ cls := "java/util/AbstractList", name := "<init>", desc := "()V" } : Jvm.MethodName)) ∈ lw_all := lw_g (lw_at lw_m1 49 rfl) rfl
theorem q192 : (Jvm.Cond.code ({ cls := "java/util/AbstractList", name := "<init>", desc := "()V" } : Jvm.MethodName) prog_33_method_1_code (1 : Nat) (Option.none : Option Jvm.ClassFile.FieldType)) ∈ lw_all := lw_g (lw_at lw_m1 50 rfl) rfl
theorem q193 : (Jvm.Cond.methodLink "java/util/AbstractList" (1 : Nat) ({ cls := "java/util/AbstractCollection", name := "<init>", desc := "()V" } : Jvm.MethodName)) ∈ lw_all := lw_g (lw_at lw_m1 51 rfl) rfl
theorem q203 : (Jvm.Cond.fieldLink "java/util/AbstractList" (7 : Nat) "java/util/AbstractList" "modCount" "I") ∈ lw_all := lw_g (lw_at lw_m1 61 rfl) rfl
theorem q211 : (Jvm.Cond.soleField "java/util/AbstractList" "modCount") ∈ lw_all := lw_g (lw_at lw_m1 69 rfl) rfl

/-! java/lang/String -/
def RJ5 : String := "java/lang/String"
abbrev cJ5_length : ByteArray := prog_27_method_54_code
def yJ5_length : MethodName := ⟨RJ5, "length", "()I"⟩
def dkwJ5_length_0 : List UInt8 := [42, 180, 0, 9, 190, 42, 182, 1, 79, 122, 172]
abbrev dktJ5_length_0 : List UInt8 := dkwJ5_length_0 ++ []
theorem dksJ5_length_0 : cJ5_length.data.toList.drop 0 = dktJ5_length_0 := by decide +kernel
theorem dJ5_length_0 : decode cJ5_length 0 = .ok (.aload_n 0, 1) := dk_42 (dk_at dksJ5_length_0 0 rfl rfl)
theorem dJ5_length_1 : decode cJ5_length 1 = .ok (.getfield 9, 3) := dk_180 0 9 (dk_at dksJ5_length_0 1 rfl rfl)
theorem dJ5_length_4 : decode cJ5_length 4 = .ok (.arraylength, 1) := dk_190 (dk_at dksJ5_length_0 4 rfl rfl)
theorem dJ5_length_5 : decode cJ5_length 5 = .ok (.aload_n 0, 1) := dk_42 (dk_at dksJ5_length_0 5 rfl rfl)
theorem dJ5_length_6 : decode cJ5_length 6 = .ok (.invokevirtual 335, 3) := dk_182 1 79 (dk_at dksJ5_length_0 6 rfl rfl)
theorem dJ5_length_9 : decode cJ5_length 9 = .ok (.ishr, 1) := dk_122 (dk_at dksJ5_length_0 9 rfl rfl)
theorem dJ5_length_10 : decode cJ5_length 10 = .ok (.ireturn, 1) := dk_172 (dk_at dksJ5_length_0 10 rfl rfl)
abbrev cJ5_coder : ByteArray := prog_27_method_152_code
def yJ5_coder : MethodName := ⟨RJ5, "coder", "()B"⟩
def dkwJ5_coder_0 : List UInt8 := [178, 0, 38, 153, 0, 10, 42, 180, 0, 15, 167, 0, 4, 4, 172]
abbrev dktJ5_coder_0 : List UInt8 := dkwJ5_coder_0 ++ []
theorem dksJ5_coder_0 : cJ5_coder.data.toList.drop 0 = dktJ5_coder_0 := by decide +kernel
theorem dJ5_coder_0 : decode cJ5_coder 0 = .ok (.getstatic 38, 3) := dk_178 0 38 (dk_at dksJ5_coder_0 0 rfl rfl)
theorem dJ5_coder_3 : decode cJ5_coder 3 = .ok (.ifCond .eq 10, 3) := dk_153 0 10 (dk_at dksJ5_coder_0 3 rfl rfl)
theorem dJ5_coder_6 : decode cJ5_coder 6 = .ok (.aload_n 0, 1) := dk_42 (dk_at dksJ5_coder_0 6 rfl rfl)
theorem dJ5_coder_7 : decode cJ5_coder 7 = .ok (.getfield 15, 3) := dk_180 0 15 (dk_at dksJ5_coder_0 7 rfl rfl)
theorem dJ5_coder_10 : decode cJ5_coder 10 = .ok (.goto 4, 3) := dk_167 0 4 (dk_at dksJ5_coder_0 10 rfl rfl)
theorem dJ5_coder_13 : decode cJ5_coder 13 = .ok (.iconst 1, 1) := dk_4 (dk_at dksJ5_coder_0 13 rfl rfl)
theorem dJ5_coder_14 : decode cJ5_coder 14 = .ok (.ireturn, 1) := dk_172 (dk_at dksJ5_coder_0 14 rfl rfl)
abbrev cJ5_charAt : ByteArray := prog_27_method_56_code
def yJ5_charAt : MethodName := ⟨RJ5, "charAt", "(I)C"⟩
def dkwJ5_charAt_1 : List UInt8 := [172]
abbrev dktJ5_charAt_1 : List UInt8 := dkwJ5_charAt_1 ++ []
def dkwJ5_charAt_0 : List UInt8 := [42, 182, 1, 236, 153, 0, 12, 42, 180, 0, 9, 27, 184, 1, 239, 172, 42, 180, 0, 9, 27, 184, 1, 242]
abbrev dktJ5_charAt_0 : List UInt8 := dkwJ5_charAt_0 ++ dktJ5_charAt_1
theorem dksJ5_charAt_0 : cJ5_charAt.data.toList.drop 0 = dktJ5_charAt_0 := by decide +kernel
theorem dksJ5_charAt_1 : cJ5_charAt.data.toList.drop 24 = dktJ5_charAt_1 := dk_seg dksJ5_charAt_0 24 rfl rfl
theorem dJ5_charAt_0 : decode cJ5_charAt 0 = .ok (.aload_n 0, 1) := dk_42 (dk_at dksJ5_charAt_0 0 rfl rfl)
theorem dJ5_charAt_1 : decode cJ5_charAt 1 = .ok (.invokevirtual 492, 3) := dk_182 1 236 (dk_at dksJ5_charAt_0 1 rfl rfl)
theorem dJ5_charAt_4 : decode cJ5_charAt 4 = .ok (.ifCond .eq 12, 3) := dk_153 0 12 (dk_at dksJ5_charAt_0 4 rfl rfl)
theorem dJ5_charAt_7 : decode cJ5_charAt 7 = .ok (.aload_n 0, 1) := dk_42 (dk_at dksJ5_charAt_0 7 rfl rfl)
theorem dJ5_charAt_8 : decode cJ5_charAt 8 = .ok (.getfield 9, 3) := dk_180 0 9 (dk_at dksJ5_charAt_0 8 rfl rfl)
theorem dJ5_charAt_11 : decode cJ5_charAt 11 = .ok (.iload_n 1, 1) := dk_27 (dk_at dksJ5_charAt_0 11 rfl rfl)
theorem dJ5_charAt_12 : decode cJ5_charAt 12 = .ok (.invokestatic 495, 3) := dk_184 1 239 (dk_at dksJ5_charAt_0 12 rfl rfl)
theorem dJ5_charAt_15 : decode cJ5_charAt 15 = .ok (.ireturn, 1) := dk_172 (dk_at dksJ5_charAt_0 15 rfl rfl)
theorem dJ5_charAt_16 : decode cJ5_charAt 16 = .ok (.aload_n 0, 1) := dk_42 (dk_at dksJ5_charAt_0 16 rfl rfl)
theorem dJ5_charAt_17 : decode cJ5_charAt 17 = .ok (.getfield 9, 3) := dk_180 0 9 (dk_at dksJ5_charAt_0 17 rfl rfl)
theorem dJ5_charAt_20 : decode cJ5_charAt 20 = .ok (.iload_n 1, 1) := dk_27 (dk_at dksJ5_charAt_0 20 rfl rfl)
theorem dJ5_charAt_21 : decode cJ5_charAt 21 = .ok (.invokestatic 498, 3) := dk_184 1 242 (dk_at dksJ5_charAt_0 21 rfl rfl)
theorem dJ5_charAt_24 : decode cJ5_charAt 24 = .ok (.ireturn, 1) := dk_172 (dk_at dksJ5_charAt_1 0 rfl rfl)
abbrev cJ5_isLatin1 : ByteArray := prog_27_method_154_code
def yJ5_isLatin1 : MethodName := ⟨RJ5, "isLatin1", "()Z"⟩
def dkwJ5_isLatin1_0 : List UInt8 := [178, 0, 38, 153, 0, 14, 42, 180, 0, 15, 154, 0, 7, 4, 167, 0, 4, 3, 172]
abbrev dktJ5_isLatin1_0 : List UInt8 := dkwJ5_isLatin1_0 ++ []
theorem dksJ5_isLatin1_0 : cJ5_isLatin1.data.toList.drop 0 = dktJ5_isLatin1_0 := by decide +kernel
theorem dJ5_isLatin1_0 : decode cJ5_isLatin1 0 = .ok (.getstatic 38, 3) := dk_178 0 38 (dk_at dksJ5_isLatin1_0 0 rfl rfl)
theorem dJ5_isLatin1_3 : decode cJ5_isLatin1 3 = .ok (.ifCond .eq 14, 3) := dk_153 0 14 (dk_at dksJ5_isLatin1_0 3 rfl rfl)
theorem dJ5_isLatin1_6 : decode cJ5_isLatin1 6 = .ok (.aload_n 0, 1) := dk_42 (dk_at dksJ5_isLatin1_0 6 rfl rfl)
theorem dJ5_isLatin1_7 : decode cJ5_isLatin1 7 = .ok (.getfield 15, 3) := dk_180 0 15 (dk_at dksJ5_isLatin1_0 7 rfl rfl)
theorem dJ5_isLatin1_10 : decode cJ5_isLatin1 10 = .ok (.ifCond .ne 7, 3) := dk_154 0 7 (dk_at dksJ5_isLatin1_0 10 rfl rfl)
theorem dJ5_isLatin1_13 : decode cJ5_isLatin1 13 = .ok (.iconst 1, 1) := dk_4 (dk_at dksJ5_isLatin1_0 13 rfl rfl)
theorem dJ5_isLatin1_14 : decode cJ5_isLatin1 14 = .ok (.goto 4, 3) := dk_167 0 4 (dk_at dksJ5_isLatin1_0 14 rfl rfl)
theorem dJ5_isLatin1_17 : decode cJ5_isLatin1 17 = .ok (.iconst 0, 1) := dk_3 (dk_at dksJ5_isLatin1_0 17 rfl rfl)
theorem dJ5_isLatin1_18 : decode cJ5_isLatin1 18 = .ok (.ireturn, 1) := dk_172 (dk_at dksJ5_isLatin1_0 18 rfl rfl)
abbrev cJ5_checkIndex : ByteArray := prog_27_method_155_code
def yJ5_checkIndex : MethodName := ⟨RJ5, "checkIndex", "(II)V"⟩
def dkwJ5_checkIndex_0 : List UInt8 := [26, 27, 178, 4, 29, 184, 4, 35, 87, 177]
abbrev dktJ5_checkIndex_0 : List UInt8 := dkwJ5_checkIndex_0 ++ []
theorem dksJ5_checkIndex_0 : cJ5_checkIndex.data.toList.drop 0 = dktJ5_checkIndex_0 := by decide +kernel
theorem dJ5_checkIndex_0 : decode cJ5_checkIndex 0 = .ok (.iload_n 0, 1) := dk_26 (dk_at dksJ5_checkIndex_0 0 rfl rfl)
theorem dJ5_checkIndex_1 : decode cJ5_checkIndex 1 = .ok (.iload_n 1, 1) := dk_27 (dk_at dksJ5_checkIndex_0 1 rfl rfl)
theorem dJ5_checkIndex_2 : decode cJ5_checkIndex 2 = .ok (.getstatic 1053, 3) := dk_178 4 29 (dk_at dksJ5_checkIndex_0 2 rfl rfl)
theorem dJ5_checkIndex_5 : decode cJ5_checkIndex 5 = .ok (.invokestatic 1059, 3) := dk_184 4 35 (dk_at dksJ5_checkIndex_0 5 rfl rfl)
theorem dJ5_checkIndex_8 : decode cJ5_checkIndex 8 = .ok (.pop, 1) := dk_87 (dk_at dksJ5_checkIndex_0 8 rfl rfl)
theorem dJ5_checkIndex_9 : decode cJ5_checkIndex 9 = .ok (.return_, 1) := dk_177 (dk_at dksJ5_checkIndex_0 9 rfl rfl)
theorem q153 : (Jvm.Cond.initialized "java/lang/String") ∈ lw_all := lw_g (lw_at lw_m1 11 rfl) rfl
theorem q520 : (Jvm.Cond.instanceMethod ({ cls := "java/lang/String", name := "length", desc := "()I" } : Jvm.MethodName)) ∈ lw_all := lw_g (lw_at lw_m2 138 rfl) rfl
theorem q521 : (Jvm.Cond.selects "java/lang/String" ({ cls := "java/lang/String", name := "length", desc := "()I" } : Jvm.MethodName) ({ cls := "java/lang/String", name := "length", desc := "()I" } : Jvm.MethodName)) ∈ lw_all := lw_g (lw_at lw_m2 139 rfl) rfl
theorem q522 : (Jvm.Cond.code ({ cls := "java/lang/String", name := "length", desc := "()I" } : Jvm.MethodName) prog_27_method_54_code (1 : Nat) (Option.some Jvm.ClassFile.FieldType.int)) ∈ lw_all := lw_g (lw_at lw_m2 140 rfl) rfl
theorem q523 : (Jvm.Cond.methodLink "java/lang/String" (335 : Nat) ({ cls := "java/lang/String", name := "coder", desc := "()B" } : Jvm.MethodName)) ∈ lw_all := lw_g (lw_at lw_m2 141 rfl) rfl
theorem q524 : (Jvm.Cond.instanceMethod ({ cls := "java/lang/String", name := "coder", desc := "()B" } : Jvm.MethodName)) ∈ lw_all := lw_g (lw_at lw_m2 142 rfl) rfl
theorem q525 : (Jvm.Cond.selects "java/lang/String" ({ cls := "java/lang/String", name := "coder", desc := "()B" } : Jvm.MethodName) ({ cls := "java/lang/String", name := "coder", desc := "()B" } : Jvm.MethodName)) ∈ lw_all := lw_g (lw_at lw_m2 143 rfl) rfl
theorem q526 : (Jvm.Cond.code ({ cls := "java/lang/String", name := "coder", desc := "()B" } : Jvm.MethodName) prog_27_method_152_code (1 : Nat) (Option.some Jvm.ClassFile.FieldType.byte)) ∈ lw_all := lw_g (lw_at lw_m2 144 rfl) rfl
theorem q527 : (Jvm.Cond.fieldLink "java/lang/String" (38 : Nat) "java/lang/String" "COMPACT_STRINGS" "Z") ∈ lw_all := lw_g (lw_at lw_m2 145 rfl) rfl
theorem q528 : (Jvm.Cond.laysStatic "java/lang/String" "COMPACT_STRINGS" "Z") ∈ lw_tbl := lw_at lw_m2 146 rfl
theorem q530 : (Jvm.Cond.instanceMethod ({ cls := "java/lang/String", name := "charAt", desc := "(I)C" } : Jvm.MethodName)) ∈ lw_all := lw_g (lw_at lw_m2 148 rfl) rfl
theorem q531 : (Jvm.Cond.selects "java/lang/String" ({ cls := "java/lang/String", name := "charAt", desc := "(I)C" } : Jvm.MethodName) ({ cls := "java/lang/String", name := "charAt", desc := "(I)C" } : Jvm.MethodName)) ∈ lw_all := lw_g (lw_at lw_m2 149 rfl) rfl
theorem q532 : (Jvm.Cond.code ({ cls := "java/lang/String", name := "charAt", desc := "(I)C" } : Jvm.MethodName) prog_27_method_56_code (2 : Nat) (Option.some Jvm.ClassFile.FieldType.char)) ∈ lw_all := lw_g (lw_at lw_m2 150 rfl) rfl
theorem q533 : (Jvm.Cond.methodLink "java/lang/String" (492 : Nat) ({ cls := "java/lang/String", name := "isLatin1", desc := "()Z" } : Jvm.MethodName)) ∈ lw_all := lw_g (lw_at lw_m2 151 rfl) rfl
theorem q534 : (Jvm.Cond.instanceMethod ({ cls := "java/lang/String", name := "isLatin1", desc := "()Z" } : Jvm.MethodName)) ∈ lw_all := lw_g (lw_at lw_m2 152 rfl) rfl
theorem q535 : (Jvm.Cond.selects "java/lang/String" ({ cls := "java/lang/String", name := "isLatin1", desc := "()Z" } : Jvm.MethodName) ({ cls := "java/lang/String", name := "isLatin1", desc := "()Z" } : Jvm.MethodName)) ∈ lw_all := lw_g (lw_at lw_m2 153 rfl) rfl
theorem q536 : (Jvm.Cond.code ({ cls := "java/lang/String", name := "isLatin1", desc := "()Z" } : Jvm.MethodName) prog_27_method_154_code (1 : Nat) (Option.some Jvm.ClassFile.FieldType.boolean)) ∈ lw_all := lw_g (lw_at lw_m2 154 rfl) rfl
theorem q537 : (Jvm.Cond.methodLink "java/lang/String" (495 : Nat) ({ cls := "java/lang/StringLatin1", name := "charAt", desc := "([BI)C" } : Jvm.MethodName)) ∈ lw_all := lw_g (lw_at lw_m2 155 rfl) rfl
theorem q541 : (Jvm.Cond.static ({ cls := "java/lang/String", name := "checkIndex", desc := "(II)V" } : Jvm.MethodName)) ∈ lw_all := lw_g (lw_at lw_m2 159 rfl) rfl
theorem q542 : (Jvm.Cond.code ({ cls := "java/lang/String", name := "checkIndex", desc := "(II)V" } : Jvm.MethodName) prog_27_method_155_code (2 : Nat) (Option.none : Option Jvm.ClassFile.FieldType)) ∈ lw_all := lw_g (lw_at lw_m2 160 rfl) rfl
theorem q543 : (Jvm.Cond.fieldLink "java/lang/String" (1053 : Nat) "jdk/internal/util/Preconditions" "SIOOBE_FORMATTER" "Ljava/util/function/BiFunction;") ∈ lw_all := lw_g (lw_at lw_m2 161 rfl) rfl
theorem q545 : (Jvm.Cond.methodLink "java/lang/String" (1059 : Nat) ({ cls := "jdk/internal/util/Preconditions", name := "checkIndex", desc := "(IILjava/util/function/BiFunction;)I" } : Jvm.MethodName)) ∈ lw_all := lw_g (lw_at lw_m2 163 rfl) rfl
theorem q548 : (Jvm.Cond.methodLink "java/lang/String" (498 : Nat) ({ cls := "java/lang/StringUTF16", name := "charAt", desc := "([BI)C" } : Jvm.MethodName)) ∈ lw_all := lw_g (lw_at lw_m2 166 rfl) rfl
theorem q1982 : (Jvm.Cond.castable "java/lang/String" "java/lang/Object") ∈ lw_tbl := lw_at lw_m8 160 rfl
theorem q2010 : (Jvm.Cond.fieldLink "java/lang/String" (9 : Nat) "java/lang/String" "value" "[B") ∈ lw_all := lw_g (lw_at lw_m8 188 rfl) rfl
theorem q2011 : (Jvm.Cond.fieldLink "java/lang/String" (15 : Nat) "java/lang/String" "coder" "B") ∈ lw_all := lw_g (lw_at lw_m8 189 rfl) rfl

/-! java/lang/StringLatin1 -/
def RJ6 : String := "java/lang/StringLatin1"
abbrev cJ6_charAt : ByteArray := prog_28_method_2_code
def yJ6_charAt : MethodName := ⟨RJ6, "charAt", "([BI)C"⟩
def dkwJ6_charAt_0 : List UInt8 := [27, 42, 190, 184, 0, 9, 42, 27, 51, 17, 0, 255, 126, 146, 172]
abbrev dktJ6_charAt_0 : List UInt8 := dkwJ6_charAt_0 ++ []
theorem dksJ6_charAt_0 : cJ6_charAt.data.toList.drop 0 = dktJ6_charAt_0 := by decide +kernel
theorem dJ6_charAt_0 : decode cJ6_charAt 0 = .ok (.iload_n 1, 1) := dk_27 (dk_at dksJ6_charAt_0 0 rfl rfl)
theorem dJ6_charAt_1 : decode cJ6_charAt 1 = .ok (.aload_n 0, 1) := dk_42 (dk_at dksJ6_charAt_0 1 rfl rfl)
theorem dJ6_charAt_2 : decode cJ6_charAt 2 = .ok (.arraylength, 1) := dk_190 (dk_at dksJ6_charAt_0 2 rfl rfl)
theorem dJ6_charAt_3 : decode cJ6_charAt 3 = .ok (.invokestatic 9, 3) := dk_184 0 9 (dk_at dksJ6_charAt_0 3 rfl rfl)
theorem dJ6_charAt_6 : decode cJ6_charAt 6 = .ok (.aload_n 0, 1) := dk_42 (dk_at dksJ6_charAt_0 6 rfl rfl)
theorem dJ6_charAt_7 : decode cJ6_charAt 7 = .ok (.iload_n 1, 1) := dk_27 (dk_at dksJ6_charAt_0 7 rfl rfl)
theorem dJ6_charAt_8 : decode cJ6_charAt 8 = .ok (.baload, 1) := dk_51 (dk_at dksJ6_charAt_0 8 rfl rfl)
theorem dJ6_charAt_9 : decode cJ6_charAt 9 = .ok (.sipush 255, 3) := dk_17 0 255 (dk_at dksJ6_charAt_0 9 rfl rfl)
theorem dJ6_charAt_12 : decode cJ6_charAt 12 = .ok (.iand, 1) := dk_126 (dk_at dksJ6_charAt_0 12 rfl rfl)
theorem dJ6_charAt_13 : decode cJ6_charAt 13 = .ok (.i2c, 1) := dk_146 (dk_at dksJ6_charAt_0 13 rfl rfl)
theorem dJ6_charAt_14 : decode cJ6_charAt 14 = .ok (.ireturn, 1) := dk_172 (dk_at dksJ6_charAt_0 14 rfl rfl)
theorem q154 : (Jvm.Cond.initialized "java/lang/StringLatin1") ∈ lw_all := lw_g (lw_at lw_m1 12 rfl) rfl
theorem q538 : (Jvm.Cond.static ({ cls := "java/lang/StringLatin1", name := "charAt", desc := "([BI)C" } : Jvm.MethodName)) ∈ lw_all := lw_g (lw_at lw_m2 156 rfl) rfl
theorem q539 : (Jvm.Cond.code ({ cls := "java/lang/StringLatin1", name := "charAt", desc := "([BI)C" } : Jvm.MethodName) prog_28_method_2_code (2 : Nat) (Option.some Jvm.ClassFile.FieldType.char)) ∈ lw_all := lw_g (lw_at lw_m2 157 rfl) rfl
theorem q540 : (Jvm.Cond.methodLink "java/lang/StringLatin1" (9 : Nat) ({ cls := "java/lang/String", name := "checkIndex", desc := "(II)V" } : Jvm.MethodName)) ∈ lw_all := lw_g (lw_at lw_m2 158 rfl) rfl

/-! jdk/internal/util/Preconditions -/
def RJ7 : String := "jdk/internal/util/Preconditions"
abbrev cJ7_checkIndex : ByteArray := prog_42_method_11_code
def yJ7_checkIndex : MethodName := ⟨RJ7, "checkIndex", "(IILjava/util/function/BiFunction;)I"⟩
def dkwJ7_checkIndex_0 : List UInt8 := [26, 155, 0, 8, 26, 27, 161, 0, 10, 44, 26, 27, 184, 0, 95, 191, 26, 172]
abbrev dktJ7_checkIndex_0 : List UInt8 := dkwJ7_checkIndex_0 ++ []
theorem dksJ7_checkIndex_0 : cJ7_checkIndex.data.toList.drop 0 = dktJ7_checkIndex_0 := by decide +kernel
theorem dJ7_checkIndex_0 : decode cJ7_checkIndex 0 = .ok (.iload_n 0, 1) := dk_26 (dk_at dksJ7_checkIndex_0 0 rfl rfl)
theorem dJ7_checkIndex_1 : decode cJ7_checkIndex 1 = .ok (.ifCond .lt 8, 3) := dk_155 0 8 (dk_at dksJ7_checkIndex_0 1 rfl rfl)
theorem dJ7_checkIndex_4 : decode cJ7_checkIndex 4 = .ok (.iload_n 0, 1) := dk_26 (dk_at dksJ7_checkIndex_0 4 rfl rfl)
theorem dJ7_checkIndex_5 : decode cJ7_checkIndex 5 = .ok (.iload_n 1, 1) := dk_27 (dk_at dksJ7_checkIndex_0 5 rfl rfl)
theorem dJ7_checkIndex_6 : decode cJ7_checkIndex 6 = .ok (.if_icmp .lt 10, 3) := dk_161 0 10 (dk_at dksJ7_checkIndex_0 6 rfl rfl)
theorem dJ7_checkIndex_9 : decode cJ7_checkIndex 9 = .ok (.aload_n 2, 1) := dk_44 (dk_at dksJ7_checkIndex_0 9 rfl rfl)
theorem dJ7_checkIndex_10 : decode cJ7_checkIndex 10 = .ok (.iload_n 0, 1) := dk_26 (dk_at dksJ7_checkIndex_0 10 rfl rfl)
theorem dJ7_checkIndex_11 : decode cJ7_checkIndex 11 = .ok (.iload_n 1, 1) := dk_27 (dk_at dksJ7_checkIndex_0 11 rfl rfl)
theorem dJ7_checkIndex_12 : decode cJ7_checkIndex 12 = .ok (.invokestatic 95, 3) := dk_184 0 95 (dk_at dksJ7_checkIndex_0 12 rfl rfl)
theorem dJ7_checkIndex_15 : decode cJ7_checkIndex 15 = .ok (.athrow, 1) := dk_191 (dk_at dksJ7_checkIndex_0 15 rfl rfl)
theorem dJ7_checkIndex_16 : decode cJ7_checkIndex 16 = .ok (.iload_n 0, 1) := dk_26 (dk_at dksJ7_checkIndex_0 16 rfl rfl)
theorem dJ7_checkIndex_17 : decode cJ7_checkIndex 17 = .ok (.ireturn, 1) := dk_172 (dk_at dksJ7_checkIndex_0 17 rfl rfl)
theorem q155 : (Jvm.Cond.initialized "jdk/internal/util/Preconditions") ∈ lw_all := lw_g (lw_at lw_m1 13 rfl) rfl
theorem q544 : (Jvm.Cond.laysStatic "jdk/internal/util/Preconditions" "SIOOBE_FORMATTER" "Ljava/util/function/BiFunction;") ∈ lw_tbl := lw_at lw_m2 162 rfl
theorem q546 : (Jvm.Cond.static ({ cls := "jdk/internal/util/Preconditions", name := "checkIndex", desc := "(IILjava/util/function/BiFunction;)I" } : Jvm.MethodName)) ∈ lw_all := lw_g (lw_at lw_m2 164 rfl) rfl
theorem q547 : (Jvm.Cond.code ({ cls := "jdk/internal/util/Preconditions", name := "checkIndex", desc := "(IILjava/util/function/BiFunction;)I" } : Jvm.MethodName) prog_42_method_11_code (3 : Nat) (Option.some Jvm.ClassFile.FieldType.int)) ∈ lw_all := lw_g (lw_at lw_m2 165 rfl) rfl

/-! java/util/Objects -/
def RJ12 : String := "java/util/Objects"
abbrev cJ12_checkIndex : ByteArray := prog_38_method_17_code
def yJ12_checkIndex : MethodName := ⟨RJ12, "checkIndex", "(II)I"⟩
def dkwJ12_checkIndex_0 : List UInt8 := [26, 27, 1, 184, 0, 105, 172]
abbrev dktJ12_checkIndex_0 : List UInt8 := dkwJ12_checkIndex_0 ++ []
theorem dksJ12_checkIndex_0 : cJ12_checkIndex.data.toList.drop 0 = dktJ12_checkIndex_0 := by decide +kernel
theorem dJ12_checkIndex_0 : decode cJ12_checkIndex 0 = .ok (.iload_n 0, 1) := dk_26 (dk_at dksJ12_checkIndex_0 0 rfl rfl)
theorem dJ12_checkIndex_1 : decode cJ12_checkIndex 1 = .ok (.iload_n 1, 1) := dk_27 (dk_at dksJ12_checkIndex_0 1 rfl rfl)
theorem dJ12_checkIndex_2 : decode cJ12_checkIndex 2 = .ok (.aconst_null, 1) := dk_1 (dk_at dksJ12_checkIndex_0 2 rfl rfl)
theorem dJ12_checkIndex_3 : decode cJ12_checkIndex 3 = .ok (.invokestatic 105, 3) := dk_184 0 105 (dk_at dksJ12_checkIndex_0 3 rfl rfl)
theorem dJ12_checkIndex_6 : decode cJ12_checkIndex 6 = .ok (.ireturn, 1) := dk_172 (dk_at dksJ12_checkIndex_0 6 rfl rfl)
theorem q163 : (Jvm.Cond.initialized "java/util/Objects") ∈ lw_all := lw_g (lw_at lw_m1 21 rfl) rfl
theorem q731 : (Jvm.Cond.static ({ cls := "java/util/Objects", name := "checkIndex", desc := "(II)I" } : Jvm.MethodName)) ∈ lw_all := lw_g (lw_at lw_m3 109 rfl) rfl
theorem q732 : (Jvm.Cond.code ({ cls := "java/util/Objects", name := "checkIndex", desc := "(II)I" } : Jvm.MethodName) prog_38_method_17_code (2 : Nat) (Option.some Jvm.ClassFile.FieldType.int)) ∈ lw_all := lw_g (lw_at lw_m3 110 rfl) rfl
theorem q733 : (Jvm.Cond.methodLink "java/util/Objects" (105 : Nat) ({ cls := "jdk/internal/util/Preconditions", name := "checkIndex", desc := "(IILjava/util/function/BiFunction;)I" } : Jvm.MethodName)) ∈ lw_all := lw_g (lw_at lw_m3 111 rfl) rfl

/-! java/lang/Record -/
def RJ13 : String := "java/lang/Record"
abbrev cJ13_init : ByteArray := prog_26_method_1_code
def yJ13_init : MethodName := ⟨RJ13, "<init>", "()V"⟩
theorem dJ13_init_0 : decode cJ13_init 0 = .ok (.aload_n 0, 1) := by decide +kernel
theorem dJ13_init_1 : decode cJ13_init 1 = .ok (.invokespecial 1, 3) := by decide +kernel
theorem dJ13_init_4 : decode cJ13_init 4 = .ok (.return_, 1) := by decide +kernel
theorem q169 : (Jvm.Cond.initialized "java/lang/Record") ∈ lw_all := lw_g (lw_at lw_m1 27 rfl) rfl
theorem q919 : (Jvm.Cond.instanceMethod ({ cls := "java/lang/Record", name := "<init>", desc := "()V" } : Jvm.MethodName)) ∈ lw_all := lw_g (lw_at lw_m4 57 rfl) rfl
theorem q920 : (Jvm.Cond.code ({ cls := "java/lang/Record", name := "<init>", desc := "()V" } : Jvm.MethodName) prog_26_method_1_code (1 : Nat) (Option.none : Option Jvm.ClassFile.FieldType)) ∈ lw_all := lw_g (lw_at lw_m4 58 rfl) rfl
theorem q921 : (Jvm.Cond.methodLink "java/lang/Record" (1 : Nat) ({ cls := "java/lang/Object", name := "<init>", desc := "()V" } : Jvm.MethodName)) ∈ lw_all := lw_g (lw_at lw_m4 59 rfl) rfl

/-! java/lang/Integer -/
def RJ14 : String := "java/lang/Integer"
abbrev cJ14_bitCount : ByteArray := prog_23_method_49_code
def yJ14_bitCount : MethodName := ⟨RJ14, "bitCount", "(I)I"⟩
def dkwJ14_bitCount_2 : List UInt8 := [26, 16, 63, 126, 172]
abbrev dktJ14_bitCount_2 : List UInt8 := dkwJ14_bitCount_2 ++ []
def dkwJ14_bitCount_1 : List UInt8 := [26, 26, 7, 124, 96, 19, 1, 11, 126, 59, 26, 26, 16, 8, 124, 96, 59, 26, 26, 16, 16, 124, 96, 59]
abbrev dktJ14_bitCount_1 : List UInt8 := dkwJ14_bitCount_1 ++ dktJ14_bitCount_2
def dkwJ14_bitCount_0 : List UInt8 := [26, 26, 4, 124, 19, 1, 9, 126, 100, 59, 26, 19, 1, 10, 126, 26, 5, 124, 19, 1, 10, 126, 96, 59]
abbrev dktJ14_bitCount_0 : List UInt8 := dkwJ14_bitCount_0 ++ dktJ14_bitCount_1
theorem dksJ14_bitCount_0 : cJ14_bitCount.data.toList.drop 0 = dktJ14_bitCount_0 := by decide +kernel
theorem dksJ14_bitCount_1 : cJ14_bitCount.data.toList.drop 24 = dktJ14_bitCount_1 := dk_seg dksJ14_bitCount_0 24 rfl rfl
theorem dksJ14_bitCount_2 : cJ14_bitCount.data.toList.drop 48 = dktJ14_bitCount_2 := dk_seg dksJ14_bitCount_1 24 rfl rfl
theorem dJ14_bitCount_0 : decode cJ14_bitCount 0 = .ok (.iload_n 0, 1) := dk_26 (dk_at dksJ14_bitCount_0 0 rfl rfl)
theorem dJ14_bitCount_1 : decode cJ14_bitCount 1 = .ok (.iload_n 0, 1) := dk_26 (dk_at dksJ14_bitCount_0 1 rfl rfl)
theorem dJ14_bitCount_2 : decode cJ14_bitCount 2 = .ok (.iconst 1, 1) := dk_4 (dk_at dksJ14_bitCount_0 2 rfl rfl)
theorem dJ14_bitCount_3 : decode cJ14_bitCount 3 = .ok (.iushr, 1) := dk_124 (dk_at dksJ14_bitCount_0 3 rfl rfl)
theorem dJ14_bitCount_4 : decode cJ14_bitCount 4 = .ok (.ldc_w 265, 3) := dk_19 1 9 (dk_at dksJ14_bitCount_0 4 rfl rfl)
theorem dJ14_bitCount_7 : decode cJ14_bitCount 7 = .ok (.iand, 1) := dk_126 (dk_at dksJ14_bitCount_0 7 rfl rfl)
theorem dJ14_bitCount_8 : decode cJ14_bitCount 8 = .ok (.isub, 1) := dk_100 (dk_at dksJ14_bitCount_0 8 rfl rfl)
theorem dJ14_bitCount_9 : decode cJ14_bitCount 9 = .ok (.istore_n 0, 1) := dk_59 (dk_at dksJ14_bitCount_0 9 rfl rfl)
theorem dJ14_bitCount_10 : decode cJ14_bitCount 10 = .ok (.iload_n 0, 1) := dk_26 (dk_at dksJ14_bitCount_0 10 rfl rfl)
theorem dJ14_bitCount_11 : decode cJ14_bitCount 11 = .ok (.ldc_w 266, 3) := dk_19 1 10 (dk_at dksJ14_bitCount_0 11 rfl rfl)
theorem dJ14_bitCount_14 : decode cJ14_bitCount 14 = .ok (.iand, 1) := dk_126 (dk_at dksJ14_bitCount_0 14 rfl rfl)
theorem dJ14_bitCount_15 : decode cJ14_bitCount 15 = .ok (.iload_n 0, 1) := dk_26 (dk_at dksJ14_bitCount_0 15 rfl rfl)
theorem dJ14_bitCount_16 : decode cJ14_bitCount 16 = .ok (.iconst 2, 1) := dk_5 (dk_at dksJ14_bitCount_0 16 rfl rfl)
theorem dJ14_bitCount_17 : decode cJ14_bitCount 17 = .ok (.iushr, 1) := dk_124 (dk_at dksJ14_bitCount_0 17 rfl rfl)
theorem dJ14_bitCount_18 : decode cJ14_bitCount 18 = .ok (.ldc_w 266, 3) := dk_19 1 10 (dk_at dksJ14_bitCount_0 18 rfl rfl)
theorem dJ14_bitCount_21 : decode cJ14_bitCount 21 = .ok (.iand, 1) := dk_126 (dk_at dksJ14_bitCount_0 21 rfl rfl)
theorem dJ14_bitCount_22 : decode cJ14_bitCount 22 = .ok (.iadd, 1) := dk_96 (dk_at dksJ14_bitCount_0 22 rfl rfl)
theorem dJ14_bitCount_23 : decode cJ14_bitCount 23 = .ok (.istore_n 0, 1) := dk_59 (dk_at dksJ14_bitCount_0 23 rfl rfl)
theorem dJ14_bitCount_24 : decode cJ14_bitCount 24 = .ok (.iload_n 0, 1) := dk_26 (dk_at dksJ14_bitCount_1 0 rfl rfl)
theorem dJ14_bitCount_25 : decode cJ14_bitCount 25 = .ok (.iload_n 0, 1) := dk_26 (dk_at dksJ14_bitCount_1 1 rfl rfl)
theorem dJ14_bitCount_26 : decode cJ14_bitCount 26 = .ok (.iconst 4, 1) := dk_7 (dk_at dksJ14_bitCount_1 2 rfl rfl)
theorem dJ14_bitCount_27 : decode cJ14_bitCount 27 = .ok (.iushr, 1) := dk_124 (dk_at dksJ14_bitCount_1 3 rfl rfl)
theorem dJ14_bitCount_28 : decode cJ14_bitCount 28 = .ok (.iadd, 1) := dk_96 (dk_at dksJ14_bitCount_1 4 rfl rfl)
theorem dJ14_bitCount_29 : decode cJ14_bitCount 29 = .ok (.ldc_w 267, 3) := dk_19 1 11 (dk_at dksJ14_bitCount_1 5 rfl rfl)
theorem dJ14_bitCount_32 : decode cJ14_bitCount 32 = .ok (.iand, 1) := dk_126 (dk_at dksJ14_bitCount_1 8 rfl rfl)
theorem dJ14_bitCount_33 : decode cJ14_bitCount 33 = .ok (.istore_n 0, 1) := dk_59 (dk_at dksJ14_bitCount_1 9 rfl rfl)
theorem dJ14_bitCount_34 : decode cJ14_bitCount 34 = .ok (.iload_n 0, 1) := dk_26 (dk_at dksJ14_bitCount_1 10 rfl rfl)
theorem dJ14_bitCount_35 : decode cJ14_bitCount 35 = .ok (.iload_n 0, 1) := dk_26 (dk_at dksJ14_bitCount_1 11 rfl rfl)
theorem dJ14_bitCount_36 : decode cJ14_bitCount 36 = .ok (.bipush 8, 2) := dk_16 8 (dk_at dksJ14_bitCount_1 12 rfl rfl)
theorem dJ14_bitCount_38 : decode cJ14_bitCount 38 = .ok (.iushr, 1) := dk_124 (dk_at dksJ14_bitCount_1 14 rfl rfl)
theorem dJ14_bitCount_39 : decode cJ14_bitCount 39 = .ok (.iadd, 1) := dk_96 (dk_at dksJ14_bitCount_1 15 rfl rfl)
theorem dJ14_bitCount_40 : decode cJ14_bitCount 40 = .ok (.istore_n 0, 1) := dk_59 (dk_at dksJ14_bitCount_1 16 rfl rfl)
theorem dJ14_bitCount_41 : decode cJ14_bitCount 41 = .ok (.iload_n 0, 1) := dk_26 (dk_at dksJ14_bitCount_1 17 rfl rfl)
theorem dJ14_bitCount_42 : decode cJ14_bitCount 42 = .ok (.iload_n 0, 1) := dk_26 (dk_at dksJ14_bitCount_1 18 rfl rfl)
theorem dJ14_bitCount_43 : decode cJ14_bitCount 43 = .ok (.bipush 16, 2) := dk_16 16 (dk_at dksJ14_bitCount_1 19 rfl rfl)
theorem dJ14_bitCount_45 : decode cJ14_bitCount 45 = .ok (.iushr, 1) := dk_124 (dk_at dksJ14_bitCount_1 21 rfl rfl)
theorem dJ14_bitCount_46 : decode cJ14_bitCount 46 = .ok (.iadd, 1) := dk_96 (dk_at dksJ14_bitCount_1 22 rfl rfl)
theorem dJ14_bitCount_47 : decode cJ14_bitCount 47 = .ok (.istore_n 0, 1) := dk_59 (dk_at dksJ14_bitCount_1 23 rfl rfl)
theorem dJ14_bitCount_48 : decode cJ14_bitCount 48 = .ok (.iload_n 0, 1) := dk_26 (dk_at dksJ14_bitCount_2 0 rfl rfl)
theorem dJ14_bitCount_49 : decode cJ14_bitCount 49 = .ok (.bipush 63, 2) := dk_16 63 (dk_at dksJ14_bitCount_2 1 rfl rfl)
theorem dJ14_bitCount_51 : decode cJ14_bitCount 51 = .ok (.iand, 1) := dk_126 (dk_at dksJ14_bitCount_2 3 rfl rfl)
theorem dJ14_bitCount_52 : decode cJ14_bitCount 52 = .ok (.ireturn, 1) := dk_172 (dk_at dksJ14_bitCount_2 4 rfl rfl)
theorem q175 : (Jvm.Cond.initialized "java/lang/Integer") ∈ lw_all := lw_g (lw_at lw_m1 33 rfl) rfl
theorem q1119 : (Jvm.Cond.static ({ cls := "java/lang/Integer", name := "bitCount", desc := "(I)I" } : Jvm.MethodName)) ∈ lw_all := lw_g (lw_at lw_m5 17 rfl) rfl
theorem q1120 : (Jvm.Cond.code ({ cls := "java/lang/Integer", name := "bitCount", desc := "(I)I" } : Jvm.MethodName) prog_23_method_49_code (1 : Nat) (Option.some Jvm.ClassFile.FieldType.int)) ∈ lw_all := lw_g (lw_at lw_m5 18 rfl) rfl
theorem q1121 : (Jvm.Cond.constant "java/lang/Integer" (265 : Nat) (1431655765 : Int32)) ∈ lw_all := lw_g (lw_at lw_m5 19 rfl) rfl
theorem q1122 : (Jvm.Cond.constant "java/lang/Integer" (266 : Nat) (858993459 : Int32)) ∈ lw_all := lw_g (lw_at lw_m5 20 rfl) rfl
theorem q1123 : (Jvm.Cond.constant "java/lang/Integer" (267 : Nat) (252645135 : Int32)) ∈ lw_all := lw_g (lw_at lw_m5 21 rfl) rfl

/-! java/lang/Object -/
def RJ15 : String := "java/lang/Object"
abbrev cJ15_init : ByteArray := object_method_1_code
def yJ15_init : MethodName := ⟨RJ15, "<init>", "()V"⟩
theorem dJ15_init_0 : decode cJ15_init 0 = .ok (.return_, 1) := by decide +kernel
theorem q183 : (Jvm.Cond.instanceMethod ({ cls := "java/lang/Object", name := "<init>", desc := "()V" } : Jvm.MethodName)) ∈ lw_all := lw_g (lw_at lw_m1 41 rfl) rfl
theorem q184 : (Jvm.Cond.code ({ cls := "java/lang/Object", name := "<init>", desc := "()V" } : Jvm.MethodName) object_method_1_code (1 : Nat) (Option.none : Option Jvm.ClassFile.FieldType)) ∈ lw_all := lw_g (lw_at lw_m1 42 rfl) rfl
theorem q646 : (Jvm.Cond.instanceMethod ({ cls := "java/lang/Object", name := "getClass", desc := "()Ljava/lang/Class;" } : Jvm.MethodName)) ∈ lw_all := lw_g (lw_at lw_m3 24 rfl) rfl
theorem q647 : (Jvm.Cond.sameMethod "java/lang/Object" "java/lang/Object" "getClass" "()Ljava/lang/Class;") ∈ lw_all := lw_g (lw_at lw_m3 25 rfl) rfl
theorem q665 : (Jvm.Cond.native ({ cls := "java/lang/Object", name := "getClass", desc := "()Ljava/lang/Class;" } : Jvm.MethodName)) ∈ lw_all := lw_g (lw_at lw_m3 43 rfl) rfl
theorem q2002 : (Jvm.Cond.declares ({ cls := "java/lang/Object", name := "getClass", desc := "()Ljava/lang/Class;" } : Jvm.MethodName)) ∈ lw_tbl := lw_at lw_m8 180 rfl

/-! jdk/internal/util/ArraysSupport -/
def RJ9 : String := "jdk/internal/util/ArraysSupport"
abbrev cJ9_newLength : ByteArray := prog_41_method_27_code
def yJ9_newLength : MethodName := ⟨RJ9, "newLength", "(III)I"⟩
def dkwJ9_newLength_1 : List UInt8 := [184, 0, 201, 172]
abbrev dktJ9_newLength_1 : List UInt8 := dkwJ9_newLength_1 ++ []
def dkwJ9_newLength_0 : List UInt8 := [26, 27, 28, 184, 0, 194, 96, 62, 3, 29, 162, 0, 11, 29, 18, 200, 163, 0, 5, 29, 172, 26, 27]
abbrev dktJ9_newLength_0 : List UInt8 := dkwJ9_newLength_0 ++ dktJ9_newLength_1
theorem dksJ9_newLength_0 : cJ9_newLength.data.toList.drop 0 = dktJ9_newLength_0 := by decide +kernel
theorem dksJ9_newLength_1 : cJ9_newLength.data.toList.drop 23 = dktJ9_newLength_1 := dk_seg dksJ9_newLength_0 23 rfl rfl
theorem dJ9_newLength_0 : decode cJ9_newLength 0 = .ok (.iload_n 0, 1) := dk_26 (dk_at dksJ9_newLength_0 0 rfl rfl)
theorem dJ9_newLength_1 : decode cJ9_newLength 1 = .ok (.iload_n 1, 1) := dk_27 (dk_at dksJ9_newLength_0 1 rfl rfl)
theorem dJ9_newLength_2 : decode cJ9_newLength 2 = .ok (.iload_n 2, 1) := dk_28 (dk_at dksJ9_newLength_0 2 rfl rfl)
theorem dJ9_newLength_3 : decode cJ9_newLength 3 = .ok (.invokestatic 194, 3) := dk_184 0 194 (dk_at dksJ9_newLength_0 3 rfl rfl)
theorem dJ9_newLength_6 : decode cJ9_newLength 6 = .ok (.iadd, 1) := dk_96 (dk_at dksJ9_newLength_0 6 rfl rfl)
theorem dJ9_newLength_7 : decode cJ9_newLength 7 = .ok (.istore_n 3, 1) := dk_62 (dk_at dksJ9_newLength_0 7 rfl rfl)
theorem dJ9_newLength_8 : decode cJ9_newLength 8 = .ok (.iconst 0, 1) := dk_3 (dk_at dksJ9_newLength_0 8 rfl rfl)
theorem dJ9_newLength_9 : decode cJ9_newLength 9 = .ok (.iload_n 3, 1) := dk_29 (dk_at dksJ9_newLength_0 9 rfl rfl)
theorem dJ9_newLength_10 : decode cJ9_newLength 10 = .ok (.if_icmp .ge 11, 3) := dk_162 0 11 (dk_at dksJ9_newLength_0 10 rfl rfl)
theorem dJ9_newLength_13 : decode cJ9_newLength 13 = .ok (.iload_n 3, 1) := dk_29 (dk_at dksJ9_newLength_0 13 rfl rfl)
theorem dJ9_newLength_14 : decode cJ9_newLength 14 = .ok (.ldc 200, 2) := dk_18 200 (dk_at dksJ9_newLength_0 14 rfl rfl)
theorem dJ9_newLength_16 : decode cJ9_newLength 16 = .ok (.if_icmp .gt 5, 3) := dk_163 0 5 (dk_at dksJ9_newLength_0 16 rfl rfl)
theorem dJ9_newLength_19 : decode cJ9_newLength 19 = .ok (.iload_n 3, 1) := dk_29 (dk_at dksJ9_newLength_0 19 rfl rfl)
theorem dJ9_newLength_20 : decode cJ9_newLength 20 = .ok (.ireturn, 1) := dk_172 (dk_at dksJ9_newLength_0 20 rfl rfl)
theorem dJ9_newLength_21 : decode cJ9_newLength 21 = .ok (.iload_n 0, 1) := dk_26 (dk_at dksJ9_newLength_0 21 rfl rfl)
theorem dJ9_newLength_22 : decode cJ9_newLength 22 = .ok (.iload_n 1, 1) := dk_27 (dk_at dksJ9_newLength_0 22 rfl rfl)
theorem dJ9_newLength_23 : decode cJ9_newLength 23 = .ok (.invokestatic 201, 3) := dk_184 0 201 (dk_at dksJ9_newLength_1 0 rfl rfl)
theorem dJ9_newLength_26 : decode cJ9_newLength 26 = .ok (.ireturn, 1) := dk_172 (dk_at dksJ9_newLength_1 3 rfl rfl)
abbrev cJ9_hugeLength : ByteArray := prog_41_method_28_code
def yJ9_hugeLength : MethodName := ⟨RJ9, "hugeLength", "(II)I"⟩
def dkwJ9_hugeLength_2 : List UInt8 := [191, 28, 18, 200, 163, 0, 6, 18, 200, 172, 28, 172]
abbrev dktJ9_hugeLength_2 : List UInt8 := dkwJ9_hugeLength_2 ++ []
def dkwJ9_hugeLength_1 : List UInt8 := [26, 182, 0, 98, 18, 208, 182, 0, 94, 27, 182, 0, 98, 18, 210, 182, 0, 94, 182, 0, 101, 183, 0, 212]
abbrev dktJ9_hugeLength_1 : List UInt8 := dkwJ9_hugeLength_1 ++ dktJ9_hugeLength_2
def dkwJ9_hugeLength_0 : List UInt8 := [26, 27, 96, 61, 28, 156, 0, 44, 187, 0, 204, 89, 187, 0, 89, 89, 183, 0, 91, 18, 206, 182, 0, 94]
abbrev dktJ9_hugeLength_0 : List UInt8 := dkwJ9_hugeLength_0 ++ dktJ9_hugeLength_1
theorem dksJ9_hugeLength_0 : cJ9_hugeLength.data.toList.drop 0 = dktJ9_hugeLength_0 := by decide +kernel
theorem dksJ9_hugeLength_1 : cJ9_hugeLength.data.toList.drop 24 = dktJ9_hugeLength_1 := dk_seg dksJ9_hugeLength_0 24 rfl rfl
theorem dksJ9_hugeLength_2 : cJ9_hugeLength.data.toList.drop 48 = dktJ9_hugeLength_2 := dk_seg dksJ9_hugeLength_1 24 rfl rfl
theorem dJ9_hugeLength_0 : decode cJ9_hugeLength 0 = .ok (.iload_n 0, 1) := dk_26 (dk_at dksJ9_hugeLength_0 0 rfl rfl)
theorem dJ9_hugeLength_1 : decode cJ9_hugeLength 1 = .ok (.iload_n 1, 1) := dk_27 (dk_at dksJ9_hugeLength_0 1 rfl rfl)
theorem dJ9_hugeLength_2 : decode cJ9_hugeLength 2 = .ok (.iadd, 1) := dk_96 (dk_at dksJ9_hugeLength_0 2 rfl rfl)
theorem dJ9_hugeLength_3 : decode cJ9_hugeLength 3 = .ok (.istore_n 2, 1) := dk_61 (dk_at dksJ9_hugeLength_0 3 rfl rfl)
theorem dJ9_hugeLength_4 : decode cJ9_hugeLength 4 = .ok (.iload_n 2, 1) := dk_28 (dk_at dksJ9_hugeLength_0 4 rfl rfl)
theorem dJ9_hugeLength_5 : decode cJ9_hugeLength 5 = .ok (.ifCond .ge 44, 3) := dk_156 0 44 (dk_at dksJ9_hugeLength_0 5 rfl rfl)
theorem dJ9_hugeLength_8 : decode cJ9_hugeLength 8 = .ok (.new 204, 3) := dk_187 0 204 (dk_at dksJ9_hugeLength_0 8 rfl rfl)
theorem dJ9_hugeLength_11 : decode cJ9_hugeLength 11 = .ok (.dup, 1) := dk_89 (dk_at dksJ9_hugeLength_0 11 rfl rfl)
theorem dJ9_hugeLength_12 : decode cJ9_hugeLength 12 = .ok (.new 89, 3) := dk_187 0 89 (dk_at dksJ9_hugeLength_0 12 rfl rfl)
theorem dJ9_hugeLength_15 : decode cJ9_hugeLength 15 = .ok (.dup, 1) := dk_89 (dk_at dksJ9_hugeLength_0 15 rfl rfl)
theorem dJ9_hugeLength_16 : decode cJ9_hugeLength 16 = .ok (.invokespecial 91, 3) := dk_183 0 91 (dk_at dksJ9_hugeLength_0 16 rfl rfl)
theorem dJ9_hugeLength_19 : decode cJ9_hugeLength 19 = .ok (.ldc 206, 2) := dk_18 206 (dk_at dksJ9_hugeLength_0 19 rfl rfl)
theorem dJ9_hugeLength_21 : decode cJ9_hugeLength 21 = .ok (.invokevirtual 94, 3) := dk_182 0 94 (dk_at dksJ9_hugeLength_0 21 rfl rfl)
theorem dJ9_hugeLength_24 : decode cJ9_hugeLength 24 = .ok (.iload_n 0, 1) := dk_26 (dk_at dksJ9_hugeLength_1 0 rfl rfl)
theorem dJ9_hugeLength_25 : decode cJ9_hugeLength 25 = .ok (.invokevirtual 98, 3) := dk_182 0 98 (dk_at dksJ9_hugeLength_1 1 rfl rfl)
theorem dJ9_hugeLength_28 : decode cJ9_hugeLength 28 = .ok (.ldc 208, 2) := dk_18 208 (dk_at dksJ9_hugeLength_1 4 rfl rfl)
theorem dJ9_hugeLength_30 : decode cJ9_hugeLength 30 = .ok (.invokevirtual 94, 3) := dk_182 0 94 (dk_at dksJ9_hugeLength_1 6 rfl rfl)
theorem dJ9_hugeLength_33 : decode cJ9_hugeLength 33 = .ok (.iload_n 1, 1) := dk_27 (dk_at dksJ9_hugeLength_1 9 rfl rfl)
theorem dJ9_hugeLength_34 : decode cJ9_hugeLength 34 = .ok (.invokevirtual 98, 3) := dk_182 0 98 (dk_at dksJ9_hugeLength_1 10 rfl rfl)
theorem dJ9_hugeLength_37 : decode cJ9_hugeLength 37 = .ok (.ldc 210, 2) := dk_18 210 (dk_at dksJ9_hugeLength_1 13 rfl rfl)
theorem dJ9_hugeLength_39 : decode cJ9_hugeLength 39 = .ok (.invokevirtual 94, 3) := dk_182 0 94 (dk_at dksJ9_hugeLength_1 15 rfl rfl)
theorem dJ9_hugeLength_42 : decode cJ9_hugeLength 42 = .ok (.invokevirtual 101, 3) := dk_182 0 101 (dk_at dksJ9_hugeLength_1 18 rfl rfl)
theorem dJ9_hugeLength_45 : decode cJ9_hugeLength 45 = .ok (.invokespecial 212, 3) := dk_183 0 212 (dk_at dksJ9_hugeLength_1 21 rfl rfl)
theorem dJ9_hugeLength_48 : decode cJ9_hugeLength 48 = .ok (.athrow, 1) := dk_191 (dk_at dksJ9_hugeLength_2 0 rfl rfl)
theorem dJ9_hugeLength_49 : decode cJ9_hugeLength 49 = .ok (.iload_n 2, 1) := dk_28 (dk_at dksJ9_hugeLength_2 1 rfl rfl)
theorem dJ9_hugeLength_50 : decode cJ9_hugeLength 50 = .ok (.ldc 200, 2) := dk_18 200 (dk_at dksJ9_hugeLength_2 2 rfl rfl)
theorem dJ9_hugeLength_52 : decode cJ9_hugeLength 52 = .ok (.if_icmp .gt 6, 3) := dk_163 0 6 (dk_at dksJ9_hugeLength_2 4 rfl rfl)
theorem dJ9_hugeLength_55 : decode cJ9_hugeLength 55 = .ok (.ldc 200, 2) := dk_18 200 (dk_at dksJ9_hugeLength_2 7 rfl rfl)
theorem dJ9_hugeLength_57 : decode cJ9_hugeLength 57 = .ok (.ireturn, 1) := dk_172 (dk_at dksJ9_hugeLength_2 9 rfl rfl)
theorem dJ9_hugeLength_58 : decode cJ9_hugeLength 58 = .ok (.iload_n 2, 1) := dk_28 (dk_at dksJ9_hugeLength_2 10 rfl rfl)
theorem dJ9_hugeLength_59 : decode cJ9_hugeLength 59 = .ok (.ireturn, 1) := dk_172 (dk_at dksJ9_hugeLength_2 11 rfl rfl)
theorem q158 : (Jvm.Cond.initialized "jdk/internal/util/ArraysSupport") ∈ lw_all := lw_g (lw_at lw_m1 16 rfl) rfl
theorem q633 : (Jvm.Cond.static ({ cls := "jdk/internal/util/ArraysSupport", name := "newLength", desc := "(III)I" } : Jvm.MethodName)) ∈ lw_all := lw_g (lw_at lw_m3 11 rfl) rfl
theorem q634 : (Jvm.Cond.code ({ cls := "jdk/internal/util/ArraysSupport", name := "newLength", desc := "(III)I" } : Jvm.MethodName) prog_41_method_27_code (4 : Nat) (Option.some Jvm.ClassFile.FieldType.int)) ∈ lw_all := lw_g (lw_at lw_m3 12 rfl) rfl
theorem q635 : (Jvm.Cond.methodLink "jdk/internal/util/ArraysSupport" (194 : Nat) ({ cls := "java/lang/Math", name := "max", desc := "(II)I" } : Jvm.MethodName)) ∈ lw_all := lw_g (lw_at lw_m3 13 rfl) rfl
theorem q638 : (Jvm.Cond.constant "jdk/internal/util/ArraysSupport" (200 : Nat) (2147483639 : Int32)) ∈ lw_all := lw_g (lw_at lw_m3 16 rfl) rfl
theorem q639 : (Jvm.Cond.methodLink "jdk/internal/util/ArraysSupport" (201 : Nat) ({ cls := "jdk/internal/util/ArraysSupport", name := "hugeLength", desc := "(II)I" } : Jvm.MethodName)) ∈ lw_all := lw_g (lw_at lw_m3 17 rfl) rfl
theorem q640 : (Jvm.Cond.static ({ cls := "jdk/internal/util/ArraysSupport", name := "hugeLength", desc := "(II)I" } : Jvm.MethodName)) ∈ lw_all := lw_g (lw_at lw_m3 18 rfl) rfl
theorem q641 : (Jvm.Cond.code ({ cls := "jdk/internal/util/ArraysSupport", name := "hugeLength", desc := "(II)I" } : Jvm.MethodName) prog_41_method_28_code (3 : Nat) (Option.some Jvm.ClassFile.FieldType.int)) ∈ lw_all := lw_g (lw_at lw_m3 19 rfl) rfl

/-! java/util/Arrays -/
def RJ11 : String := "java/util/Arrays"
abbrev cJ11_copyOf : ByteArray := prog_35_method_119_code
def yJ11_copyOf : MethodName := ⟨RJ11, "copyOf", "([Ljava/lang/Object;I)[Ljava/lang/Object;"⟩
def dkwJ11_copyOf_0 : List UInt8 := [42, 27, 42, 182, 0, 86, 184, 1, 44, 176]
abbrev dktJ11_copyOf_0 : List UInt8 := dkwJ11_copyOf_0 ++ []
theorem dksJ11_copyOf_0 : cJ11_copyOf.data.toList.drop 0 = dktJ11_copyOf_0 := by decide +kernel
theorem dJ11_copyOf_0 : decode cJ11_copyOf 0 = .ok (.aload_n 0, 1) := dk_42 (dk_at dksJ11_copyOf_0 0 rfl rfl)
theorem dJ11_copyOf_1 : decode cJ11_copyOf 1 = .ok (.iload_n 1, 1) := dk_27 (dk_at dksJ11_copyOf_0 1 rfl rfl)
theorem dJ11_copyOf_2 : decode cJ11_copyOf 2 = .ok (.aload_n 0, 1) := dk_42 (dk_at dksJ11_copyOf_0 2 rfl rfl)
theorem dJ11_copyOf_3 : decode cJ11_copyOf 3 = .ok (.invokevirtual 86, 3) := dk_182 0 86 (dk_at dksJ11_copyOf_0 3 rfl rfl)
theorem dJ11_copyOf_6 : decode cJ11_copyOf 6 = .ok (.invokestatic 300, 3) := dk_184 1 44 (dk_at dksJ11_copyOf_0 6 rfl rfl)
theorem dJ11_copyOf_9 : decode cJ11_copyOf 9 = .ok (.areturn, 1) := dk_176 (dk_at dksJ11_copyOf_0 9 rfl rfl)
abbrev cJ11_copyOf_2 : ByteArray := prog_35_method_120_code
def yJ11_copyOf_2 : MethodName := ⟨RJ11, "copyOf", "([Ljava/lang/Object;ILjava/lang/Class;)[Ljava/lang/Object;"⟩
def dkwJ11_copyOf_2_1 : List UInt8 := [78, 42, 3, 45, 3, 42, 190, 27, 184, 1, 48, 184, 0, 150, 45, 176]
abbrev dktJ11_copyOf_2_1 : List UInt8 := dkwJ11_copyOf_2_1 ++ []
def dkwJ11_copyOf_2_0 : List UInt8 := [44, 18, 110, 166, 0, 10, 27, 189, 0, 2, 167, 0, 14, 44, 182, 0, 90, 27, 184, 0, 95, 192, 0, 110]
abbrev dktJ11_copyOf_2_0 : List UInt8 := dkwJ11_copyOf_2_0 ++ dktJ11_copyOf_2_1
theorem dksJ11_copyOf_2_0 : cJ11_copyOf_2.data.toList.drop 0 = dktJ11_copyOf_2_0 := by decide +kernel
theorem dksJ11_copyOf_2_1 : cJ11_copyOf_2.data.toList.drop 24 = dktJ11_copyOf_2_1 := dk_seg dksJ11_copyOf_2_0 24 rfl rfl
theorem dJ11_copyOf_2_0 : decode cJ11_copyOf_2 0 = .ok (.aload_n 2, 1) := dk_44 (dk_at dksJ11_copyOf_2_0 0 rfl rfl)
theorem dJ11_copyOf_2_1 : decode cJ11_copyOf_2 1 = .ok (.ldc 110, 2) := dk_18 110 (dk_at dksJ11_copyOf_2_0 1 rfl rfl)
theorem dJ11_copyOf_2_3 : decode cJ11_copyOf_2 3 = .ok (.if_acmp .ne 10, 3) := dk_166 0 10 (dk_at dksJ11_copyOf_2_0 3 rfl rfl)
theorem dJ11_copyOf_2_6 : decode cJ11_copyOf_2 6 = .ok (.iload_n 1, 1) := dk_27 (dk_at dksJ11_copyOf_2_0 6 rfl rfl)
theorem dJ11_copyOf_2_7 : decode cJ11_copyOf_2 7 = .ok (.anewarray 2, 3) := dk_189 0 2 (dk_at dksJ11_copyOf_2_0 7 rfl rfl)
theorem dJ11_copyOf_2_10 : decode cJ11_copyOf_2 10 = .ok (.goto 14, 3) := dk_167 0 14 (dk_at dksJ11_copyOf_2_0 10 rfl rfl)
theorem dJ11_copyOf_2_13 : decode cJ11_copyOf_2 13 = .ok (.aload_n 2, 1) := dk_44 (dk_at dksJ11_copyOf_2_0 13 rfl rfl)
theorem dJ11_copyOf_2_14 : decode cJ11_copyOf_2 14 = .ok (.invokevirtual 90, 3) := dk_182 0 90 (dk_at dksJ11_copyOf_2_0 14 rfl rfl)
theorem dJ11_copyOf_2_17 : decode cJ11_copyOf_2 17 = .ok (.iload_n 1, 1) := dk_27 (dk_at dksJ11_copyOf_2_0 17 rfl rfl)
theorem dJ11_copyOf_2_18 : decode cJ11_copyOf_2 18 = .ok (.invokestatic 95, 3) := dk_184 0 95 (dk_at dksJ11_copyOf_2_0 18 rfl rfl)
theorem dJ11_copyOf_2_21 : decode cJ11_copyOf_2 21 = .ok (.checkcast 110, 3) := dk_192 0 110 (dk_at dksJ11_copyOf_2_0 21 rfl rfl)
theorem dJ11_copyOf_2_24 : decode cJ11_copyOf_2 24 = .ok (.astore_n 3, 1) := dk_78 (dk_at dksJ11_copyOf_2_1 0 rfl rfl)
theorem dJ11_copyOf_2_25 : decode cJ11_copyOf_2 25 = .ok (.aload_n 0, 1) := dk_42 (dk_at dksJ11_copyOf_2_1 1 rfl rfl)
theorem dJ11_copyOf_2_26 : decode cJ11_copyOf_2 26 = .ok (.iconst 0, 1) := dk_3 (dk_at dksJ11_copyOf_2_1 2 rfl rfl)
theorem dJ11_copyOf_2_27 : decode cJ11_copyOf_2 27 = .ok (.aload_n 3, 1) := dk_45 (dk_at dksJ11_copyOf_2_1 3 rfl rfl)
theorem dJ11_copyOf_2_28 : decode cJ11_copyOf_2 28 = .ok (.iconst 0, 1) := dk_3 (dk_at dksJ11_copyOf_2_1 4 rfl rfl)
theorem dJ11_copyOf_2_29 : decode cJ11_copyOf_2 29 = .ok (.aload_n 0, 1) := dk_42 (dk_at dksJ11_copyOf_2_1 5 rfl rfl)
theorem dJ11_copyOf_2_30 : decode cJ11_copyOf_2 30 = .ok (.arraylength, 1) := dk_190 (dk_at dksJ11_copyOf_2_1 6 rfl rfl)
theorem dJ11_copyOf_2_31 : decode cJ11_copyOf_2 31 = .ok (.iload_n 1, 1) := dk_27 (dk_at dksJ11_copyOf_2_1 7 rfl rfl)
theorem dJ11_copyOf_2_32 : decode cJ11_copyOf_2 32 = .ok (.invokestatic 304, 3) := dk_184 1 48 (dk_at dksJ11_copyOf_2_1 8 rfl rfl)
theorem dJ11_copyOf_2_35 : decode cJ11_copyOf_2 35 = .ok (.invokestatic 150, 3) := dk_184 0 150 (dk_at dksJ11_copyOf_2_1 11 rfl rfl)
theorem dJ11_copyOf_2_38 : decode cJ11_copyOf_2 38 = .ok (.aload_n 3, 1) := dk_45 (dk_at dksJ11_copyOf_2_1 14 rfl rfl)
theorem dJ11_copyOf_2_39 : decode cJ11_copyOf_2 39 = .ok (.areturn, 1) := dk_176 (dk_at dksJ11_copyOf_2_1 15 rfl rfl)
theorem q160 : (Jvm.Cond.initialized "java/util/Arrays") ∈ lw_all := lw_g (lw_at lw_m1 18 rfl) rfl
theorem q643 : (Jvm.Cond.static ({ cls := "java/util/Arrays", name := "copyOf", desc := "([Ljava/lang/Object;I)[Ljava/lang/Object;" } : Jvm.MethodName)) ∈ lw_all := lw_g (lw_at lw_m3 21 rfl) rfl
theorem q644 : (Jvm.Cond.code ({ cls := "java/util/Arrays", name := "copyOf", desc := "([Ljava/lang/Object;I)[Ljava/lang/Object;" } : Jvm.MethodName) prog_35_method_119_code (2 : Nat) (Option.some (Jvm.ClassFile.FieldType.array (Jvm.ClassFile.FieldType.object "java/lang/Object")))) ∈ lw_all := lw_g (lw_at lw_m3 22 rfl) rfl
theorem q645 : (Jvm.Cond.methodLink "java/util/Arrays" (86 : Nat) ({ cls := "java/lang/Object", name := "getClass", desc := "()Ljava/lang/Class;" } : Jvm.MethodName)) ∈ lw_all := lw_g (lw_at lw_m3 23 rfl) rfl
theorem q666 : (Jvm.Cond.methodLink "java/util/Arrays" (300 : Nat) ({ cls := "java/util/Arrays", name := "copyOf", desc := "([Ljava/lang/Object;ILjava/lang/Class;)[Ljava/lang/Object;" } : Jvm.MethodName)) ∈ lw_all := lw_g (lw_at lw_m3 44 rfl) rfl
theorem q667 : (Jvm.Cond.static ({ cls := "java/util/Arrays", name := "copyOf", desc := "([Ljava/lang/Object;ILjava/lang/Class;)[Ljava/lang/Object;" } : Jvm.MethodName)) ∈ lw_all := lw_g (lw_at lw_m3 45 rfl) rfl
theorem q668 : (Jvm.Cond.code ({ cls := "java/util/Arrays", name := "copyOf", desc := "([Ljava/lang/Object;ILjava/lang/Class;)[Ljava/lang/Object;" } : Jvm.MethodName) prog_35_method_120_code (4 : Nat) (Option.some (Jvm.ClassFile.FieldType.array (Jvm.ClassFile.FieldType.object "java/lang/Object")))) ∈ lw_all := lw_g (lw_at lw_m3 46 rfl) rfl
theorem q669 : (Jvm.Cond.classLink "java/util/Arrays" (110 : Nat) "[Ljava/lang/Object;") ∈ lw_all := lw_g (lw_at lw_m3 47 rfl) rfl
theorem q670 : (Jvm.Cond.classLink "java/util/Arrays" (2 : Nat) "java/lang/Object") ∈ lw_all := lw_g (lw_at lw_m3 48 rfl) rfl
theorem q671 : (Jvm.Cond.methodLink "java/util/Arrays" (304 : Nat) ({ cls := "java/lang/Math", name := "min", desc := "(II)I" } : Jvm.MethodName)) ∈ lw_all := lw_g (lw_at lw_m3 49 rfl) rfl
theorem q674 : (Jvm.Cond.methodLink "java/util/Arrays" (150 : Nat) ({ cls := "java/lang/System", name := "arraycopy", desc := "(Ljava/lang/Object;ILjava/lang/Object;II)V" } : Jvm.MethodName)) ∈ lw_all := lw_g (lw_at lw_m3 52 rfl) rfl

theorem q198 : (Jvm.Cond.arrayOver (Jvm.ClassFile.FieldType.object "java/lang/Object")) ∈ lw_tbl := lw_at lw_m1 56 rfl
set_option maxRecDepth 100000
theorem q319 : (Jvm.Cond.arrayClass Jvm.ClassFile.FieldType.byte) ∈ lw_all := lw_g (lw_at lw_m1 177 rfl) rfl
theorem q320 : (Jvm.Cond.arrayClass Jvm.ClassFile.FieldType.int) ∈ lw_all := lw_g (lw_at lw_m1 178 rfl) rfl
theorem q321 : (Jvm.Cond.arrayClass Jvm.ClassFile.FieldType.long) ∈ lw_all := lw_g (lw_at lw_m1 179 rfl) rfl
theorem q323 : (Jvm.Cond.arrayOver (Jvm.ClassFile.FieldType.object "TurningRoads$Image")) ∈ lw_tbl := lw_at lw_m1 181 rfl
theorem q1508 : (Jvm.Cond.arrayClass Jvm.ClassFile.FieldType.boolean) ∈ lw_all := lw_g (lw_at lw_m6 166 rfl) rfl
theorem q2024 : (Jvm.Cond.arrayOver (Jvm.ClassFile.FieldType.object "java/lang/String")) ∈ lw_tbl := lw_at lw_m8 202 rfl
