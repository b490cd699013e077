/-! further names, as given -/
set_option maxRecDepth 100000
/-! java/lang/Math -/
def RJ10 : String := "java/lang/Math"
abbrev cJ10_max : ByteArray := prog_25_method_65_code
def yJ10_max : MethodName := ⟨RJ10, "max", "(II)I"⟩
def dkwJ10_max_0 : List UInt8 := [26, 27, 161, 0, 7, 26, 167, 0, 4, 27, 172]
abbrev dktJ10_max_0 : List UInt8 := dkwJ10_max_0 ++ []
theorem dksJ10_max_0 : cJ10_max.data.toList.drop 0 = dktJ10_max_0 := by decide +kernel
theorem dJ10_max_0 : decode cJ10_max 0 = .ok (.iload_n 0, 1) := dk_26 (dk_at dksJ10_max_0 0 rfl rfl)
theorem dJ10_max_1 : decode cJ10_max 1 = .ok (.iload_n 1, 1) := dk_27 (dk_at dksJ10_max_0 1 rfl rfl)
theorem dJ10_max_2 : decode cJ10_max 2 = .ok (.if_icmp .lt 7, 3) := dk_161 0 7 (dk_at dksJ10_max_0 2 rfl rfl)
theorem dJ10_max_5 : decode cJ10_max 5 = .ok (.iload_n 0, 1) := dk_26 (dk_at dksJ10_max_0 5 rfl rfl)
theorem dJ10_max_6 : decode cJ10_max 6 = .ok (.goto 4, 3) := dk_167 0 4 (dk_at dksJ10_max_0 6 rfl rfl)
theorem dJ10_max_9 : decode cJ10_max 9 = .ok (.iload_n 1, 1) := dk_27 (dk_at dksJ10_max_0 9 rfl rfl)
theorem dJ10_max_10 : decode cJ10_max 10 = .ok (.ireturn, 1) := dk_172 (dk_at dksJ10_max_0 10 rfl rfl)
abbrev cJ10_min : ByteArray := prog_25_method_69_code
def yJ10_min : MethodName := ⟨RJ10, "min", "(II)I"⟩
def dkwJ10_min_0 : List UInt8 := [26, 27, 163, 0, 7, 26, 167, 0, 4, 27, 172]
abbrev dktJ10_min_0 : List UInt8 := dkwJ10_min_0 ++ []
theorem dksJ10_min_0 : cJ10_min.data.toList.drop 0 = dktJ10_min_0 := by decide +kernel
theorem dJ10_min_0 : decode cJ10_min 0 = .ok (.iload_n 0, 1) := dk_26 (dk_at dksJ10_min_0 0 rfl rfl)
theorem dJ10_min_1 : decode cJ10_min 1 = .ok (.iload_n 1, 1) := dk_27 (dk_at dksJ10_min_0 1 rfl rfl)
theorem dJ10_min_2 : decode cJ10_min 2 = .ok (.if_icmp .gt 7, 3) := dk_163 0 7 (dk_at dksJ10_min_0 2 rfl rfl)
theorem dJ10_min_5 : decode cJ10_min 5 = .ok (.iload_n 0, 1) := dk_26 (dk_at dksJ10_min_0 5 rfl rfl)
theorem dJ10_min_6 : decode cJ10_min 6 = .ok (.goto 4, 3) := dk_167 0 4 (dk_at dksJ10_min_0 6 rfl rfl)
theorem dJ10_min_9 : decode cJ10_min 9 = .ok (.iload_n 1, 1) := dk_27 (dk_at dksJ10_min_0 9 rfl rfl)
theorem dJ10_min_10 : decode cJ10_min 10 = .ok (.ireturn, 1) := dk_172 (dk_at dksJ10_min_0 10 rfl rfl)
theorem q159 : (Jvm.Cond.initialized "java/lang/Math") ∈ lw_all := lw_g (lw_at lw_m1 17 rfl) rfl
theorem q636 : (Jvm.Cond.static ({ cls := "java/lang/Math", name := "max", desc := "(II)I" } : Jvm.MethodName)) ∈ lw_all := lw_g (lw_at lw_m3 14 rfl) rfl
theorem q637 : (Jvm.Cond.code ({ cls := "java/lang/Math", name := "max", desc := "(II)I" } : Jvm.MethodName) prog_25_method_65_code (2 : Nat) (Option.some Jvm.ClassFile.FieldType.int)) ∈ lw_all := lw_g (lw_at lw_m3 15 rfl) rfl
theorem q672 : (Jvm.Cond.static ({ cls := "java/lang/Math", name := "min", desc := "(II)I" } : Jvm.MethodName)) ∈ lw_all := lw_g (lw_at lw_m3 50 rfl) rfl
theorem q673 : (Jvm.Cond.code ({ cls := "java/lang/Math", name := "min", desc := "(II)I" } : Jvm.MethodName) prog_25_method_69_code (2 : Nat) (Option.some Jvm.ClassFile.FieldType.int)) ∈ lw_all := lw_g (lw_at lw_m3 51 rfl) rfl

theorem q161 : (Jvm.Cond.initialized "java/lang/System") ∈ lw_all := lw_g (lw_at lw_m1 19 rfl) rfl
theorem q675 : (Jvm.Cond.static ({ cls := "java/lang/System", name := "arraycopy", desc := "(Ljava/lang/Object;ILjava/lang/Object;II)V" } : Jvm.MethodName)) ∈ lw_all := lw_g (lw_at lw_m3 53 rfl) rfl
theorem q676 : (Jvm.Cond.native ({ cls := "java/lang/System", name := "arraycopy", desc := "(Ljava/lang/Object;ILjava/lang/Object;II)V" } : Jvm.MethodName)) ∈ lw_all := lw_g (lw_at lw_m3 54 rfl) rfl

theorem q2000 : (Jvm.Cond.sameMethod "[Ljava/lang/Object;" "java/lang/Object" "getClass" "()Ljava/lang/Class;") ∈ lw_all := lw_g (lw_at lw_m8 178 rfl) rfl
theorem q2001 : (Jvm.Cond.selects "[Ljava/lang/Object;" ({ cls := "java/lang/Object", name := "getClass", desc := "()Ljava/lang/Class;" } : Jvm.MethodName) ({ cls := "java/lang/Object", name := "getClass", desc := "()Ljava/lang/Class;" } : Jvm.MethodName)) ∈ lw_all := lw_g (lw_at lw_m8 179 rfl) rfl
theorem q2003 : (Jvm.Cond.castable "[Ljava/lang/Object;" "java/lang/Object") ∈ lw_tbl := lw_at lw_m8 181 rfl

