/-! java/lang/Math -/
set_option maxRecDepth 100000
def RJ0 : String := "java/lang/Math"
abbrev cJ0_min : ByteArray := prog_23_method_69_code
def yJ0_min : MethodName := ⟨RJ0, "min", "(II)I"⟩
def dkwJ0_min_0 : List UInt8 := [26, 27, 163, 0, 7, 26, 167, 0, 4, 27, 172]
abbrev dktJ0_min_0 : List UInt8 := dkwJ0_min_0 ++ []
theorem dksJ0_min_0 : cJ0_min.data.toList.drop 0 = dktJ0_min_0 := by decide +kernel
theorem dJ0_min_0 : decode cJ0_min 0 = .ok (.iload_n 0, 1) := dk_26 (dk_at dksJ0_min_0 0 rfl rfl)
theorem dJ0_min_1 : decode cJ0_min 1 = .ok (.iload_n 1, 1) := dk_27 (dk_at dksJ0_min_0 1 rfl rfl)
theorem dJ0_min_2 : decode cJ0_min 2 = .ok (.if_icmp .gt 7, 3) := dk_163 0 7 (dk_at dksJ0_min_0 2 rfl rfl)
theorem dJ0_min_5 : decode cJ0_min 5 = .ok (.iload_n 0, 1) := dk_26 (dk_at dksJ0_min_0 5 rfl rfl)
theorem dJ0_min_6 : decode cJ0_min 6 = .ok (.goto 4, 3) := dk_167 0 4 (dk_at dksJ0_min_0 6 rfl rfl)
theorem dJ0_min_9 : decode cJ0_min 9 = .ok (.iload_n 1, 1) := dk_27 (dk_at dksJ0_min_0 9 rfl rfl)
theorem dJ0_min_10 : decode cJ0_min 10 = .ok (.ireturn, 1) := dk_172 (dk_at dksJ0_min_0 10 rfl rfl)
abbrev cJ0_max : ByteArray := prog_23_method_65_code
def yJ0_max : MethodName := ⟨RJ0, "max", "(II)I"⟩
def dkwJ0_max_0 : List UInt8 := [26, 27, 161, 0, 7, 26, 167, 0, 4, 27, 172]
abbrev dktJ0_max_0 : List UInt8 := dkwJ0_max_0 ++ []
theorem dksJ0_max_0 : cJ0_max.data.toList.drop 0 = dktJ0_max_0 := by decide +kernel
theorem dJ0_max_0 : decode cJ0_max 0 = .ok (.iload_n 0, 1) := dk_26 (dk_at dksJ0_max_0 0 rfl rfl)
theorem dJ0_max_1 : decode cJ0_max 1 = .ok (.iload_n 1, 1) := dk_27 (dk_at dksJ0_max_0 1 rfl rfl)
theorem dJ0_max_2 : decode cJ0_max 2 = .ok (.if_icmp .lt 7, 3) := dk_161 0 7 (dk_at dksJ0_max_0 2 rfl rfl)
theorem dJ0_max_5 : decode cJ0_max 5 = .ok (.iload_n 0, 1) := dk_26 (dk_at dksJ0_max_0 5 rfl rfl)
theorem dJ0_max_6 : decode cJ0_max 6 = .ok (.goto 4, 3) := dk_167 0 4 (dk_at dksJ0_max_0 6 rfl rfl)
theorem dJ0_max_9 : decode cJ0_max 9 = .ok (.iload_n 1, 1) := dk_27 (dk_at dksJ0_max_0 9 rfl rfl)
theorem dJ0_max_10 : decode cJ0_max 10 = .ok (.ireturn, 1) := dk_172 (dk_at dksJ0_max_0 10 rfl rfl)
abbrev cJ0_abs : ByteArray := prog_23_method_59_code
def yJ0_abs : MethodName := ⟨RJ0, "abs", "(I)I"⟩
def dkwJ0_abs_0 : List UInt8 := [26, 156, 0, 8, 26, 116, 167, 0, 4, 26, 172]
abbrev dktJ0_abs_0 : List UInt8 := dkwJ0_abs_0 ++ []
theorem dksJ0_abs_0 : cJ0_abs.data.toList.drop 0 = dktJ0_abs_0 := by decide +kernel
theorem dJ0_abs_0 : decode cJ0_abs 0 = .ok (.iload_n 0, 1) := dk_26 (dk_at dksJ0_abs_0 0 rfl rfl)
theorem dJ0_abs_1 : decode cJ0_abs 1 = .ok (.ifCond .ge 8, 3) := dk_156 0 8 (dk_at dksJ0_abs_0 1 rfl rfl)
theorem dJ0_abs_4 : decode cJ0_abs 4 = .ok (.iload_n 0, 1) := dk_26 (dk_at dksJ0_abs_0 4 rfl rfl)
theorem dJ0_abs_5 : decode cJ0_abs 5 = .ok (.ineg, 1) := dk_116 (dk_at dksJ0_abs_0 5 rfl rfl)
theorem dJ0_abs_6 : decode cJ0_abs 6 = .ok (.goto 4, 3) := dk_167 0 4 (dk_at dksJ0_abs_0 6 rfl rfl)
theorem dJ0_abs_9 : decode cJ0_abs 9 = .ok (.iload_n 0, 1) := dk_26 (dk_at dksJ0_abs_0 9 rfl rfl)
theorem dJ0_abs_10 : decode cJ0_abs 10 = .ok (.ireturn, 1) := dk_172 (dk_at dksJ0_abs_0 10 rfl rfl)
theorem q86 : (Jvm.Cond.initialized "java/lang/Math") ∈ lw_all := lw_g (lw_at lw_m1 8 rfl) rfl
theorem q344 : (Jvm.Cond.static ({ cls := "java/lang/Math", name := "min", desc := "(II)I" } : Jvm.MethodName)) ∈ lw_all := lw_g (lw_at lw_m2 26 rfl) rfl
theorem q345 : (Jvm.Cond.code ({ cls := "java/lang/Math", name := "min", desc := "(II)I" } : Jvm.MethodName) prog_23_method_69_code (2 : Nat) (Option.some Jvm.ClassFile.FieldType.int)) ∈ lw_all := lw_g (lw_at lw_m2 27 rfl) rfl
theorem q511 : (Jvm.Cond.static ({ cls := "java/lang/Math", name := "max", desc := "(II)I" } : Jvm.MethodName)) ∈ lw_all := lw_g (lw_at lw_m2 193 rfl) rfl
theorem q512 : (Jvm.Cond.code ({ cls := "java/lang/Math", name := "max", desc := "(II)I" } : Jvm.MethodName) prog_23_method_65_code (2 : Nat) (Option.some Jvm.ClassFile.FieldType.int)) ∈ lw_all := lw_g (lw_at lw_m2 194 rfl) rfl
theorem q802 : (Jvm.Cond.static ({ cls := "java/lang/Math", name := "abs", desc := "(I)I" } : Jvm.MethodName)) ∈ lw_all := lw_g (lw_at lw_m4 4 rfl) rfl
theorem q803 : (Jvm.Cond.code ({ cls := "java/lang/Math", name := "abs", desc := "(I)I" } : Jvm.MethodName) prog_23_method_59_code (1 : Nat) (Option.some Jvm.ClassFile.FieldType.int)) ∈ lw_all := lw_g (lw_at lw_m4 5 rfl) rfl
/-! java/lang/Throwable -/
set_option maxRecDepth 100000
def RJ1 : String := "java/lang/Throwable"
def TJ1 : u_T := fun k => match k with
  | 0 => ("java/lang/Throwable", "cause", "Ljava/lang/Throwable;", false)
  | 1 => ("java/lang/Throwable", "stackTrace", "[Ljava/lang/StackTraceElement;", false)
  | 2 => ("java/lang/Throwable", "suppressedExceptions", "Ljava/util/List;", false)
  | 3 => ("java/lang/Throwable", "detailMessage", "Ljava/lang/String;", false)
  | _ => ("java/lang/Throwable", "backtrace", "Ljava/lang/Object;", false)
def tyJ1 : Nat → FieldType := fun k => match k with
  | 0 => .object "java/lang/Throwable"
  | 1 => .array (.object "java/lang/StackTraceElement")
  | 2 => .object "java/util/List"
  | 3 => .object "java/lang/String"
  | _ => .object "java/lang/Object"
abbrev wsJ10 : List Cond := u_ws RJ1 TJ1 5
theorem nmJ1 : ∀ a, a < 5 → ∀ b, b < 5 → a ≠ b → (TJ1 a).2.1 ≠ (TJ1 b).2.1 := by decide +kernel
theorem tyJ1_ok : ∀ k, k < 5 → parseFieldDescriptor (TJ1 k).2.2.1 = some (tyJ1 k) := by decide +kernel
abbrev cJ1_init : ByteArray := prog_30_method_1_code
def yJ1_init : MethodName := ⟨RJ1, "<init>", "()V"⟩
def dkwJ1_init_1 : List UInt8 := [182, 0, 27, 87, 177]
abbrev dktJ1_init_1 : List UInt8 := dkwJ1_init_1 ++ []
def dkwJ1_init_0 : List UInt8 := [42, 183, 0, 1, 42, 42, 181, 0, 7, 42, 178, 0, 13, 181, 0, 17, 42, 178, 0, 20, 181, 0, 24, 42]
abbrev dktJ1_init_0 : List UInt8 := dkwJ1_init_0 ++ dktJ1_init_1
theorem dksJ1_init_0 : cJ1_init.data.toList.drop 0 = dktJ1_init_0 := by decide +kernel
theorem dksJ1_init_1 : cJ1_init.data.toList.drop 24 = dktJ1_init_1 := dk_seg dksJ1_init_0 24 rfl rfl
theorem dJ1_init_0 : decode cJ1_init 0 = .ok (.aload_n 0, 1) := dk_42 (dk_at dksJ1_init_0 0 rfl rfl)
theorem dJ1_init_1 : decode cJ1_init 1 = .ok (.invokespecial 1, 3) := dk_183 0 1 (dk_at dksJ1_init_0 1 rfl rfl)
theorem dJ1_init_4 : decode cJ1_init 4 = .ok (.aload_n 0, 1) := dk_42 (dk_at dksJ1_init_0 4 rfl rfl)
theorem dJ1_init_5 : decode cJ1_init 5 = .ok (.aload_n 0, 1) := dk_42 (dk_at dksJ1_init_0 5 rfl rfl)
theorem dJ1_init_6 : decode cJ1_init 6 = .ok (.putfield 7, 3) := dk_181 0 7 (dk_at dksJ1_init_0 6 rfl rfl)
theorem dJ1_init_9 : decode cJ1_init 9 = .ok (.aload_n 0, 1) := dk_42 (dk_at dksJ1_init_0 9 rfl rfl)
theorem dJ1_init_10 : decode cJ1_init 10 = .ok (.getstatic 13, 3) := dk_178 0 13 (dk_at dksJ1_init_0 10 rfl rfl)
theorem dJ1_init_13 : decode cJ1_init 13 = .ok (.putfield 17, 3) := dk_181 0 17 (dk_at dksJ1_init_0 13 rfl rfl)
theorem dJ1_init_16 : decode cJ1_init 16 = .ok (.aload_n 0, 1) := dk_42 (dk_at dksJ1_init_0 16 rfl rfl)
theorem dJ1_init_17 : decode cJ1_init 17 = .ok (.getstatic 20, 3) := dk_178 0 20 (dk_at dksJ1_init_0 17 rfl rfl)
theorem dJ1_init_20 : decode cJ1_init 20 = .ok (.putfield 24, 3) := dk_181 0 24 (dk_at dksJ1_init_0 20 rfl rfl)
theorem dJ1_init_23 : decode cJ1_init 23 = .ok (.aload_n 0, 1) := dk_42 (dk_at dksJ1_init_0 23 rfl rfl)
theorem dJ1_init_24 : decode cJ1_init 24 = .ok (.invokevirtual 27, 3) := dk_182 0 27 (dk_at dksJ1_init_1 0 rfl rfl)
theorem dJ1_init_27 : decode cJ1_init 27 = .ok (.pop, 1) := dk_87 (dk_at dksJ1_init_1 3 rfl rfl)
theorem dJ1_init_28 : decode cJ1_init 28 = .ok (.return_, 1) := dk_177 (dk_at dksJ1_init_1 4 rfl rfl)
abbrev cJ1_init_2 : ByteArray := prog_30_method_2_code
def yJ1_init_2 : MethodName := ⟨RJ1, "<init>", "(Ljava/lang/String;)V"⟩
def dkwJ1_init_2_1 : List UInt8 := [182, 0, 27, 87, 42, 43, 181, 0, 31, 177]
abbrev dktJ1_init_2_1 : List UInt8 := dkwJ1_init_2_1 ++ []
def dkwJ1_init_2_0 : List UInt8 := [42, 183, 0, 1, 42, 42, 181, 0, 7, 42, 178, 0, 13, 181, 0, 17, 42, 178, 0, 20, 181, 0, 24, 42]
abbrev dktJ1_init_2_0 : List UInt8 := dkwJ1_init_2_0 ++ dktJ1_init_2_1
theorem dksJ1_init_2_0 : cJ1_init_2.data.toList.drop 0 = dktJ1_init_2_0 := by decide +kernel
theorem dksJ1_init_2_1 : cJ1_init_2.data.toList.drop 24 = dktJ1_init_2_1 := dk_seg dksJ1_init_2_0 24 rfl rfl
theorem dJ1_init_2_0 : decode cJ1_init_2 0 = .ok (.aload_n 0, 1) := dk_42 (dk_at dksJ1_init_2_0 0 rfl rfl)
theorem dJ1_init_2_1 : decode cJ1_init_2 1 = .ok (.invokespecial 1, 3) := dk_183 0 1 (dk_at dksJ1_init_2_0 1 rfl rfl)
theorem dJ1_init_2_4 : decode cJ1_init_2 4 = .ok (.aload_n 0, 1) := dk_42 (dk_at dksJ1_init_2_0 4 rfl rfl)
theorem dJ1_init_2_5 : decode cJ1_init_2 5 = .ok (.aload_n 0, 1) := dk_42 (dk_at dksJ1_init_2_0 5 rfl rfl)
theorem dJ1_init_2_6 : decode cJ1_init_2 6 = .ok (.putfield 7, 3) := dk_181 0 7 (dk_at dksJ1_init_2_0 6 rfl rfl)
theorem dJ1_init_2_9 : decode cJ1_init_2 9 = .ok (.aload_n 0, 1) := dk_42 (dk_at dksJ1_init_2_0 9 rfl rfl)
theorem dJ1_init_2_10 : decode cJ1_init_2 10 = .ok (.getstatic 13, 3) := dk_178 0 13 (dk_at dksJ1_init_2_0 10 rfl rfl)
theorem dJ1_init_2_13 : decode cJ1_init_2 13 = .ok (.putfield 17, 3) := dk_181 0 17 (dk_at dksJ1_init_2_0 13 rfl rfl)
theorem dJ1_init_2_16 : decode cJ1_init_2 16 = .ok (.aload_n 0, 1) := dk_42 (dk_at dksJ1_init_2_0 16 rfl rfl)
theorem dJ1_init_2_17 : decode cJ1_init_2 17 = .ok (.getstatic 20, 3) := dk_178 0 20 (dk_at dksJ1_init_2_0 17 rfl rfl)
theorem dJ1_init_2_20 : decode cJ1_init_2 20 = .ok (.putfield 24, 3) := dk_181 0 24 (dk_at dksJ1_init_2_0 20 rfl rfl)
theorem dJ1_init_2_23 : decode cJ1_init_2 23 = .ok (.aload_n 0, 1) := dk_42 (dk_at dksJ1_init_2_0 23 rfl rfl)
theorem dJ1_init_2_24 : decode cJ1_init_2 24 = .ok (.invokevirtual 27, 3) := dk_182 0 27 (dk_at dksJ1_init_2_1 0 rfl rfl)
theorem dJ1_init_2_27 : decode cJ1_init_2 27 = .ok (.pop, 1) := dk_87 (dk_at dksJ1_init_2_1 3 rfl rfl)
theorem dJ1_init_2_28 : decode cJ1_init_2 28 = .ok (.aload_n 0, 1) := dk_42 (dk_at dksJ1_init_2_1 4 rfl rfl)
theorem dJ1_init_2_29 : decode cJ1_init_2 29 = .ok (.aload_n 1, 1) := dk_43 (dk_at dksJ1_init_2_1 5 rfl rfl)
theorem dJ1_init_2_30 : decode cJ1_init_2 30 = .ok (.putfield 31, 3) := dk_181 0 31 (dk_at dksJ1_init_2_1 6 rfl rfl)
theorem dJ1_init_2_33 : decode cJ1_init_2 33 = .ok (.return_, 1) := dk_177 (dk_at dksJ1_init_2_1 9 rfl rfl)
theorem q87 : (Jvm.Cond.initialized "java/lang/Throwable") ∈ lw_all := lw_g (lw_at lw_m1 9 rfl) rfl
theorem q394 : (Jvm.Cond.declares ({ cls := "java/lang/Throwable", name := "<init>", desc := "()V" } : Jvm.MethodName)) ∈ lw_tbl := lw_at lw_m2 76 rfl
theorem q395 : (Jvm.Cond.declares ({ cls := "java/lang/Throwable", name := "<init>", desc := "(Ljava/lang/String;)V" } : Jvm.MethodName)) ∈ lw_tbl := lw_at lw_m2 77 rfl
theorem q399 : (Jvm.Cond.lays "java/lang/Throwable" "java/lang/Throwable" "cause" "Ljava/lang/Throwable;") ∈ lw_all := lw_g (lw_at lw_m2 81 rfl) rfl
theorem q401 : (Jvm.Cond.lays "java/lang/Throwable" "java/lang/Throwable" "stackTrace" "[Ljava/lang/StackTraceElement;") ∈ lw_all := lw_g (lw_at lw_m2 83 rfl) rfl
theorem q403 : (Jvm.Cond.lays "java/lang/Throwable" "java/lang/Throwable" "suppressedExceptions" "Ljava/util/List;") ∈ lw_all := lw_g (lw_at lw_m2 85 rfl) rfl
theorem q405 : (Jvm.Cond.lays "java/lang/Throwable" "java/lang/Throwable" "detailMessage" "Ljava/lang/String;") ∈ lw_all := lw_g (lw_at lw_m2 87 rfl) rfl
theorem q407 : (Jvm.Cond.lays "java/lang/Throwable" "java/lang/Throwable" "backtrace" "Ljava/lang/Object;") ∈ lw_all := lw_g (lw_at lw_m2 89 rfl) rfl
theorem q408 : (Jvm.Cond.fieldLink "java/lang/Throwable" (198 : Nat) "java/lang/Throwable" "backtrace" "Ljava/lang/Object;") ∈ lw_all := lw_g (lw_at lw_m2 90 rfl) rfl
theorem q409 : (Jvm.Cond.superclass "java/lang/Throwable" "java/lang/Object") ∈ lw_all := lw_g (lw_at lw_m2 91 rfl) rfl
theorem q410 : (Jvm.Cond.instanceMethod ({ cls := "java/lang/Throwable", name := "<init>", desc := "()V" } : Jvm.MethodName)) ∈ lw_all := lw_g (lw_at lw_m2 92 rfl) rfl
theorem q411 : (Jvm.Cond.code ({ cls := "java/lang/Throwable", name := "<init>", desc := "()V" } : Jvm.MethodName) prog_30_method_1_code (1 : Nat) (Option.none : Option Jvm.ClassFile.FieldType)) ∈ lw_all := lw_g (lw_at lw_m2 93 rfl) rfl
theorem q412 : (Jvm.Cond.methodLink "java/lang/Throwable" (1 : Nat) ({ cls := "java/lang/Object", name := "<init>", desc := "()V" } : Jvm.MethodName)) ∈ lw_all := lw_g (lw_at lw_m2 94 rfl) rfl
theorem q413 : (Jvm.Cond.fieldLink "java/lang/Throwable" (13 : Nat) "java/lang/Throwable" "UNASSIGNED_STACK" "[Ljava/lang/StackTraceElement;") ∈ lw_all := lw_g (lw_at lw_m2 95 rfl) rfl
theorem q414 : (Jvm.Cond.laysStatic "java/lang/Throwable" "UNASSIGNED_STACK" "[Ljava/lang/StackTraceElement;") ∈ lw_tbl := lw_at lw_m2 96 rfl
theorem q415 : (Jvm.Cond.fieldLink "java/lang/Throwable" (20 : Nat) "java/lang/Throwable" "SUPPRESSED_SENTINEL" "Ljava/util/List;") ∈ lw_all := lw_g (lw_at lw_m2 97 rfl) rfl
theorem q416 : (Jvm.Cond.laysStatic "java/lang/Throwable" "SUPPRESSED_SENTINEL" "Ljava/util/List;") ∈ lw_tbl := lw_at lw_m2 98 rfl
theorem q417 : (Jvm.Cond.methodLink "java/lang/Throwable" (27 : Nat) ({ cls := "java/lang/Throwable", name := "fillInStackTrace", desc := "()Ljava/lang/Throwable;" } : Jvm.MethodName)) ∈ lw_all := lw_g (lw_at lw_m2 99 rfl) rfl
theorem q418 : (Jvm.Cond.instanceMethod ({ cls := "java/lang/Throwable", name := "fillInStackTrace", desc := "()Ljava/lang/Throwable;" } : Jvm.MethodName)) ∈ lw_all := lw_g (lw_at lw_m2 100 rfl) rfl
theorem q419 : (Jvm.Cond.sameMethod "java/lang/Throwable" "java/lang/Throwable" "fillInStackTrace" "()Ljava/lang/Throwable;") ∈ lw_all := lw_g (lw_at lw_m2 101 rfl) rfl
theorem q422 : (Jvm.Cond.codeSync ({ cls := "java/lang/Throwable", name := "fillInStackTrace", desc := "()Ljava/lang/Throwable;" } : Jvm.MethodName) prog_30_method_18_code (1 : Nat) (Option.some (Jvm.ClassFile.FieldType.object "java/lang/Throwable"))) ∈ lw_all := lw_g (lw_at lw_m2 104 rfl) rfl
theorem q423 : (Jvm.Cond.methodLink "java/lang/Throwable" (202 : Nat) ({ cls := "java/lang/Throwable", name := "fillInStackTrace", desc := "(I)Ljava/lang/Throwable;" } : Jvm.MethodName)) ∈ lw_all := lw_g (lw_at lw_m2 105 rfl) rfl
theorem q424 : (Jvm.Cond.privateMethod ({ cls := "java/lang/Throwable", name := "fillInStackTrace", desc := "(I)Ljava/lang/Throwable;" } : Jvm.MethodName)) ∈ lw_tbl := lw_at lw_m2 106 rfl
theorem q425 : (Jvm.Cond.instanceMethod ({ cls := "java/lang/Throwable", name := "fillInStackTrace", desc := "(I)Ljava/lang/Throwable;" } : Jvm.MethodName)) ∈ lw_all := lw_g (lw_at lw_m2 107 rfl) rfl
theorem q426 : (Jvm.Cond.instantiable "java/lang/Throwable" (6 : Nat)) ∈ lw_all := lw_g (lw_at lw_m2 108 rfl) rfl
theorem q427 : (Jvm.Cond.native ({ cls := "java/lang/Throwable", name := "fillInStackTrace", desc := "(I)Ljava/lang/Throwable;" } : Jvm.MethodName)) ∈ lw_all := lw_g (lw_at lw_m2 109 rfl) rfl
theorem q437 : (Jvm.Cond.fieldLink "java/lang/Throwable" (198 : Nat) "java/lang/Throwable" "backtrace" "Ljava/lang/Object;") ∈ lw_all := lw_g (lw_at lw_m2 119 rfl) rfl
theorem q438 : (Jvm.Cond.fieldLink "java/lang/Throwable" (31 : Nat) "java/lang/Throwable" "detailMessage" "Ljava/lang/String;") ∈ lw_all := lw_g (lw_at lw_m2 120 rfl) rfl
theorem q439 : (Jvm.Cond.fieldLink "java/lang/Throwable" (7 : Nat) "java/lang/Throwable" "cause" "Ljava/lang/Throwable;") ∈ lw_all := lw_g (lw_at lw_m2 121 rfl) rfl
theorem q440 : (Jvm.Cond.fieldLink "java/lang/Throwable" (17 : Nat) "java/lang/Throwable" "stackTrace" "[Ljava/lang/StackTraceElement;") ∈ lw_all := lw_g (lw_at lw_m2 122 rfl) rfl
theorem q441 : (Jvm.Cond.fieldLink "java/lang/Throwable" (24 : Nat) "java/lang/Throwable" "suppressedExceptions" "Ljava/util/List;") ∈ lw_all := lw_g (lw_at lw_m2 123 rfl) rfl
theorem q444 : (Jvm.Cond.soleField "java/lang/Throwable" "backtrace") ∈ lw_all := lw_g (lw_at lw_m2 126 rfl) rfl
theorem q445 : (Jvm.Cond.soleField "java/lang/Throwable" "detailMessage") ∈ lw_all := lw_g (lw_at lw_m2 127 rfl) rfl
theorem q446 : (Jvm.Cond.soleField "java/lang/Throwable" "cause") ∈ lw_all := lw_g (lw_at lw_m2 128 rfl) rfl
theorem q447 : (Jvm.Cond.soleField "java/lang/Throwable" "stackTrace") ∈ lw_all := lw_g (lw_at lw_m2 129 rfl) rfl
theorem q449 : (Jvm.Cond.soleField "java/lang/Throwable" "depth") ∈ lw_all := lw_g (lw_at lw_m2 131 rfl) rfl
theorem q450 : (Jvm.Cond.soleField "java/lang/Throwable" "suppressedExceptions") ∈ lw_all := lw_g (lw_at lw_m2 132 rfl) rfl
theorem q708 : (Jvm.Cond.instanceMethod ({ cls := "java/lang/Throwable", name := "<init>", desc := "(Ljava/lang/String;)V" } : Jvm.MethodName)) ∈ lw_all := lw_g (lw_at lw_m3 150 rfl) rfl
theorem q709 : (Jvm.Cond.code ({ cls := "java/lang/Throwable", name := "<init>", desc := "(Ljava/lang/String;)V" } : Jvm.MethodName) prog_30_method_2_code (2 : Nat) (Option.none : Option Jvm.ClassFile.FieldType)) ∈ lw_all := lw_g (lw_at lw_m3 151 rfl) rfl
theorem q1960 : (Jvm.Cond.sameMethod "java/lang/Throwable" "java/lang/Throwable" "fillInStackTrace" "(I)Ljava/lang/Throwable;") ∈ lw_all := lw_g (lw_at lw_m8 202 rfl) rfl
theorem q1979 : (Jvm.Cond.castable "java/lang/Throwable" "java/lang/Object") ∈ lw_tbl := lw_at lw_m8 221 rfl
theorem in_J1 : ∀ w ∈ wsJ10, w ∈ lw_all := lw_in wsJ10 [399, 401, 403, 405, 407] (by decide +kernel) (by decide +kernel)
/-! java/lang/Exception -/
set_option maxRecDepth 100000
def RJ2 : String := "java/lang/Exception"
abbrev cJ2_init : ByteArray := prog_21_method_1_code
def yJ2_init : MethodName := ⟨RJ2, "<init>", "()V"⟩
theorem dJ2_init_0 : decode cJ2_init 0 = .ok (.aload_n 0, 1) := by decide +kernel
theorem dJ2_init_1 : decode cJ2_init 1 = .ok (.invokespecial 1, 3) := by decide +kernel
theorem dJ2_init_4 : decode cJ2_init 4 = .ok (.return_, 1) := by decide +kernel
abbrev cJ2_init_2 : ByteArray := prog_21_method_2_code
def yJ2_init_2 : MethodName := ⟨RJ2, "<init>", "(Ljava/lang/String;)V"⟩
def dkwJ2_init_2_0 : List UInt8 := [42, 43, 183, 0, 7, 177]
abbrev dktJ2_init_2_0 : List UInt8 := dkwJ2_init_2_0 ++ []
theorem dksJ2_init_2_0 : cJ2_init_2.data.toList.drop 0 = dktJ2_init_2_0 := by decide +kernel
theorem dJ2_init_2_0 : decode cJ2_init_2 0 = .ok (.aload_n 0, 1) := dk_42 (dk_at dksJ2_init_2_0 0 rfl rfl)
theorem dJ2_init_2_1 : decode cJ2_init_2 1 = .ok (.aload_n 1, 1) := dk_43 (dk_at dksJ2_init_2_0 1 rfl rfl)
theorem dJ2_init_2_2 : decode cJ2_init_2 2 = .ok (.invokespecial 7, 3) := dk_183 0 7 (dk_at dksJ2_init_2_0 2 rfl rfl)
theorem dJ2_init_2_5 : decode cJ2_init_2 5 = .ok (.return_, 1) := dk_177 (dk_at dksJ2_init_2_0 5 rfl rfl)
theorem q88 : (Jvm.Cond.initialized "java/lang/Exception") ∈ lw_all := lw_g (lw_at lw_m1 10 rfl) rfl
theorem q392 : (Jvm.Cond.declares ({ cls := "java/lang/Exception", name := "<init>", desc := "()V" } : Jvm.MethodName)) ∈ lw_tbl := lw_at lw_m2 74 rfl
theorem q393 : (Jvm.Cond.declares ({ cls := "java/lang/Exception", name := "<init>", desc := "(Ljava/lang/String;)V" } : Jvm.MethodName)) ∈ lw_tbl := lw_at lw_m2 75 rfl
theorem q432 : (Jvm.Cond.instanceMethod ({ cls := "java/lang/Exception", name := "<init>", desc := "()V" } : Jvm.MethodName)) ∈ lw_all := lw_g (lw_at lw_m2 114 rfl) rfl
theorem q433 : (Jvm.Cond.code ({ cls := "java/lang/Exception", name := "<init>", desc := "()V" } : Jvm.MethodName) prog_21_method_1_code (1 : Nat) (Option.none : Option Jvm.ClassFile.FieldType)) ∈ lw_all := lw_g (lw_at lw_m2 115 rfl) rfl
theorem q434 : (Jvm.Cond.methodLink "java/lang/Exception" (1 : Nat) ({ cls := "java/lang/Throwable", name := "<init>", desc := "()V" } : Jvm.MethodName)) ∈ lw_all := lw_g (lw_at lw_m2 116 rfl) rfl
theorem q705 : (Jvm.Cond.instanceMethod ({ cls := "java/lang/Exception", name := "<init>", desc := "(Ljava/lang/String;)V" } : Jvm.MethodName)) ∈ lw_all := lw_g (lw_at lw_m3 147 rfl) rfl
theorem q706 : (Jvm.Cond.code ({ cls := "java/lang/Exception", name := "<init>", desc := "(Ljava/lang/String;)V" } : Jvm.MethodName) prog_21_method_2_code (2 : Nat) (Option.none : Option Jvm.ClassFile.FieldType)) ∈ lw_all := lw_g (lw_at lw_m3 148 rfl) rfl
theorem q707 : (Jvm.Cond.methodLink "java/lang/Exception" (7 : Nat) ({ cls := "java/lang/Throwable", name := "<init>", desc := "(Ljava/lang/String;)V" } : Jvm.MethodName)) ∈ lw_all := lw_g (lw_at lw_m3 149 rfl) rfl
/-! java/util/Arrays -/
set_option maxRecDepth 100000
def RJ3 : String := "java/util/Arrays"
abbrev cJ3_fill : ByteArray := prog_33_method_117_code
def yJ3_fill : MethodName := ⟨RJ3, "fill", "([Ljava/lang/Object;Ljava/lang/Object;)V"⟩
def dkwJ3_fill_0 : List UInt8 := [3, 61, 42, 190, 62, 28, 29, 162, 0, 13, 42, 28, 43, 83, 132, 2, 1, 167, 255, 244, 177]
abbrev dktJ3_fill_0 : List UInt8 := dkwJ3_fill_0 ++ []
theorem dksJ3_fill_0 : cJ3_fill.data.toList.drop 0 = dktJ3_fill_0 := by decide +kernel
theorem dJ3_fill_0 : decode cJ3_fill 0 = .ok (.iconst 0, 1) := dk_3 (dk_at dksJ3_fill_0 0 rfl rfl)
theorem dJ3_fill_1 : decode cJ3_fill 1 = .ok (.istore_n 2, 1) := dk_61 (dk_at dksJ3_fill_0 1 rfl rfl)
theorem dJ3_fill_2 : decode cJ3_fill 2 = .ok (.aload_n 0, 1) := dk_42 (dk_at dksJ3_fill_0 2 rfl rfl)
theorem dJ3_fill_3 : decode cJ3_fill 3 = .ok (.arraylength, 1) := dk_190 (dk_at dksJ3_fill_0 3 rfl rfl)
theorem dJ3_fill_4 : decode cJ3_fill 4 = .ok (.istore_n 3, 1) := dk_62 (dk_at dksJ3_fill_0 4 rfl rfl)
theorem dJ3_fill_5 : decode cJ3_fill 5 = .ok (.iload_n 2, 1) := dk_28 (dk_at dksJ3_fill_0 5 rfl rfl)
theorem dJ3_fill_6 : decode cJ3_fill 6 = .ok (.iload_n 3, 1) := dk_29 (dk_at dksJ3_fill_0 6 rfl rfl)
theorem dJ3_fill_7 : decode cJ3_fill 7 = .ok (.if_icmp .ge 13, 3) := dk_162 0 13 (dk_at dksJ3_fill_0 7 rfl rfl)
theorem dJ3_fill_10 : decode cJ3_fill 10 = .ok (.aload_n 0, 1) := dk_42 (dk_at dksJ3_fill_0 10 rfl rfl)
theorem dJ3_fill_11 : decode cJ3_fill 11 = .ok (.iload_n 2, 1) := dk_28 (dk_at dksJ3_fill_0 11 rfl rfl)
theorem dJ3_fill_12 : decode cJ3_fill 12 = .ok (.aload_n 1, 1) := dk_43 (dk_at dksJ3_fill_0 12 rfl rfl)
theorem dJ3_fill_13 : decode cJ3_fill 13 = .ok (.aastore, 1) := dk_83 (dk_at dksJ3_fill_0 13 rfl rfl)
theorem dJ3_fill_14 : decode cJ3_fill 14 = .ok (.iinc 2 1, 3) := dk_132 2 1 (dk_at dksJ3_fill_0 14 rfl rfl)
theorem dJ3_fill_17 : decode cJ3_fill 17 = .ok (.goto (-12), 3) := dk_167 255 244 (dk_at dksJ3_fill_0 17 rfl rfl)
theorem dJ3_fill_20 : decode cJ3_fill 20 = .ok (.return_, 1) := dk_177 (dk_at dksJ3_fill_0 20 rfl rfl)
abbrev cJ3_fill_2 : ByteArray := prog_33_method_103_code
def yJ3_fill_2 : MethodName := ⟨RJ3, "fill", "([II)V"⟩
def dkwJ3_fill_2_0 : List UInt8 := [3, 61, 42, 190, 62, 28, 29, 162, 0, 13, 42, 28, 27, 79, 132, 2, 1, 167, 255, 244, 177]
abbrev dktJ3_fill_2_0 : List UInt8 := dkwJ3_fill_2_0 ++ []
theorem dksJ3_fill_2_0 : cJ3_fill_2.data.toList.drop 0 = dktJ3_fill_2_0 := by decide +kernel
theorem dJ3_fill_2_0 : decode cJ3_fill_2 0 = .ok (.iconst 0, 1) := dk_3 (dk_at dksJ3_fill_2_0 0 rfl rfl)
theorem dJ3_fill_2_1 : decode cJ3_fill_2 1 = .ok (.istore_n 2, 1) := dk_61 (dk_at dksJ3_fill_2_0 1 rfl rfl)
theorem dJ3_fill_2_2 : decode cJ3_fill_2 2 = .ok (.aload_n 0, 1) := dk_42 (dk_at dksJ3_fill_2_0 2 rfl rfl)
theorem dJ3_fill_2_3 : decode cJ3_fill_2 3 = .ok (.arraylength, 1) := dk_190 (dk_at dksJ3_fill_2_0 3 rfl rfl)
theorem dJ3_fill_2_4 : decode cJ3_fill_2 4 = .ok (.istore_n 3, 1) := dk_62 (dk_at dksJ3_fill_2_0 4 rfl rfl)
theorem dJ3_fill_2_5 : decode cJ3_fill_2 5 = .ok (.iload_n 2, 1) := dk_28 (dk_at dksJ3_fill_2_0 5 rfl rfl)
theorem dJ3_fill_2_6 : decode cJ3_fill_2 6 = .ok (.iload_n 3, 1) := dk_29 (dk_at dksJ3_fill_2_0 6 rfl rfl)
theorem dJ3_fill_2_7 : decode cJ3_fill_2 7 = .ok (.if_icmp .ge 13, 3) := dk_162 0 13 (dk_at dksJ3_fill_2_0 7 rfl rfl)
theorem dJ3_fill_2_10 : decode cJ3_fill_2 10 = .ok (.aload_n 0, 1) := dk_42 (dk_at dksJ3_fill_2_0 10 rfl rfl)
theorem dJ3_fill_2_11 : decode cJ3_fill_2 11 = .ok (.iload_n 2, 1) := dk_28 (dk_at dksJ3_fill_2_0 11 rfl rfl)
theorem dJ3_fill_2_12 : decode cJ3_fill_2 12 = .ok (.iload_n 1, 1) := dk_27 (dk_at dksJ3_fill_2_0 12 rfl rfl)
theorem dJ3_fill_2_13 : decode cJ3_fill_2 13 = .ok (.iastore, 1) := dk_79 (dk_at dksJ3_fill_2_0 13 rfl rfl)
theorem dJ3_fill_2_14 : decode cJ3_fill_2 14 = .ok (.iinc 2 1, 3) := dk_132 2 1 (dk_at dksJ3_fill_2_0 14 rfl rfl)
theorem dJ3_fill_2_17 : decode cJ3_fill_2 17 = .ok (.goto (-12), 3) := dk_167 255 244 (dk_at dksJ3_fill_2_0 17 rfl rfl)
theorem dJ3_fill_2_20 : decode cJ3_fill_2 20 = .ok (.return_, 1) := dk_177 (dk_at dksJ3_fill_2_0 20 rfl rfl)
abbrev cJ3_copyOfRange : ByteArray := prog_33_method_132_code
def yJ3_copyOfRange : MethodName := ⟨RJ3, "copyOfRange", "([BII)[B"⟩
def dkwJ3_copyOfRange_1 : List UInt8 := [176]
abbrev dktJ3_copyOfRange_1 : List UInt8 := dkwJ3_copyOfRange_1 ++ []
def dkwJ3_copyOfRange_0 : List UInt8 := [27, 154, 0, 9, 28, 42, 190, 159, 0, 10, 42, 27, 28, 184, 1, 83, 176, 42, 182, 1, 54, 192, 1, 55]
abbrev dktJ3_copyOfRange_0 : List UInt8 := dkwJ3_copyOfRange_0 ++ dktJ3_copyOfRange_1
theorem dksJ3_copyOfRange_0 : cJ3_copyOfRange.data.toList.drop 0 = dktJ3_copyOfRange_0 := by decide +kernel
theorem dksJ3_copyOfRange_1 : cJ3_copyOfRange.data.toList.drop 24 = dktJ3_copyOfRange_1 := dk_seg dksJ3_copyOfRange_0 24 rfl rfl
theorem dJ3_copyOfRange_0 : decode cJ3_copyOfRange 0 = .ok (.iload_n 1, 1) := dk_27 (dk_at dksJ3_copyOfRange_0 0 rfl rfl)
theorem dJ3_copyOfRange_1 : decode cJ3_copyOfRange 1 = .ok (.ifCond .ne 9, 3) := dk_154 0 9 (dk_at dksJ3_copyOfRange_0 1 rfl rfl)
theorem dJ3_copyOfRange_4 : decode cJ3_copyOfRange 4 = .ok (.iload_n 2, 1) := dk_28 (dk_at dksJ3_copyOfRange_0 4 rfl rfl)
theorem dJ3_copyOfRange_5 : decode cJ3_copyOfRange 5 = .ok (.aload_n 0, 1) := dk_42 (dk_at dksJ3_copyOfRange_0 5 rfl rfl)
theorem dJ3_copyOfRange_6 : decode cJ3_copyOfRange 6 = .ok (.arraylength, 1) := dk_190 (dk_at dksJ3_copyOfRange_0 6 rfl rfl)
theorem dJ3_copyOfRange_7 : decode cJ3_copyOfRange 7 = .ok (.if_icmp .eq 10, 3) := dk_159 0 10 (dk_at dksJ3_copyOfRange_0 7 rfl rfl)
theorem dJ3_copyOfRange_10 : decode cJ3_copyOfRange 10 = .ok (.aload_n 0, 1) := dk_42 (dk_at dksJ3_copyOfRange_0 10 rfl rfl)
theorem dJ3_copyOfRange_11 : decode cJ3_copyOfRange 11 = .ok (.iload_n 1, 1) := dk_27 (dk_at dksJ3_copyOfRange_0 11 rfl rfl)
theorem dJ3_copyOfRange_12 : decode cJ3_copyOfRange 12 = .ok (.iload_n 2, 1) := dk_28 (dk_at dksJ3_copyOfRange_0 12 rfl rfl)
theorem dJ3_copyOfRange_13 : decode cJ3_copyOfRange 13 = .ok (.invokestatic 339, 3) := dk_184 1 83 (dk_at dksJ3_copyOfRange_0 13 rfl rfl)
theorem dJ3_copyOfRange_16 : decode cJ3_copyOfRange 16 = .ok (.areturn, 1) := dk_176 (dk_at dksJ3_copyOfRange_0 16 rfl rfl)
theorem dJ3_copyOfRange_17 : decode cJ3_copyOfRange 17 = .ok (.aload_n 0, 1) := dk_42 (dk_at dksJ3_copyOfRange_0 17 rfl rfl)
theorem dJ3_copyOfRange_18 : decode cJ3_copyOfRange 18 = .ok (.invokevirtual 310, 3) := dk_182 1 54 (dk_at dksJ3_copyOfRange_0 18 rfl rfl)
theorem dJ3_copyOfRange_21 : decode cJ3_copyOfRange 21 = .ok (.checkcast 311, 3) := dk_192 1 55 (dk_at dksJ3_copyOfRange_0 21 rfl rfl)
theorem dJ3_copyOfRange_24 : decode cJ3_copyOfRange 24 = .ok (.areturn, 1) := dk_176 (dk_at dksJ3_copyOfRange_1 0 rfl rfl)
abbrev cJ3_copyOfRangeByte : ByteArray := prog_33_method_133_code
def yJ3_copyOfRangeByte : MethodName := ⟨RJ3, "copyOfRangeByte", "([BII)[B"⟩
def dkwJ3_copyOfRangeByte_1 : List UInt8 := [184, 1, 48, 184, 0, 150, 25, 4, 176]
abbrev dktJ3_copyOfRangeByte_1 : List UInt8 := dkwJ3_copyOfRangeByte_1 ++ []
def dkwJ3_copyOfRangeByte_0 : List UInt8 := [27, 28, 184, 1, 87, 28, 27, 100, 62, 29, 188, 8, 58, 4, 42, 27, 25, 4, 3, 42, 190, 27, 100, 29]
abbrev dktJ3_copyOfRangeByte_0 : List UInt8 := dkwJ3_copyOfRangeByte_0 ++ dktJ3_copyOfRangeByte_1
theorem dksJ3_copyOfRangeByte_0 : cJ3_copyOfRangeByte.data.toList.drop 0 = dktJ3_copyOfRangeByte_0 := by decide +kernel
theorem dksJ3_copyOfRangeByte_1 : cJ3_copyOfRangeByte.data.toList.drop 24 = dktJ3_copyOfRangeByte_1 := dk_seg dksJ3_copyOfRangeByte_0 24 rfl rfl
theorem dJ3_copyOfRangeByte_0 : decode cJ3_copyOfRangeByte 0 = .ok (.iload_n 1, 1) := dk_27 (dk_at dksJ3_copyOfRangeByte_0 0 rfl rfl)
theorem dJ3_copyOfRangeByte_1 : decode cJ3_copyOfRangeByte 1 = .ok (.iload_n 2, 1) := dk_28 (dk_at dksJ3_copyOfRangeByte_0 1 rfl rfl)
theorem dJ3_copyOfRangeByte_2 : decode cJ3_copyOfRangeByte 2 = .ok (.invokestatic 343, 3) := dk_184 1 87 (dk_at dksJ3_copyOfRangeByte_0 2 rfl rfl)
theorem dJ3_copyOfRangeByte_5 : decode cJ3_copyOfRangeByte 5 = .ok (.iload_n 2, 1) := dk_28 (dk_at dksJ3_copyOfRangeByte_0 5 rfl rfl)
theorem dJ3_copyOfRangeByte_6 : decode cJ3_copyOfRangeByte 6 = .ok (.iload_n 1, 1) := dk_27 (dk_at dksJ3_copyOfRangeByte_0 6 rfl rfl)
theorem dJ3_copyOfRangeByte_7 : decode cJ3_copyOfRangeByte 7 = .ok (.isub, 1) := dk_100 (dk_at dksJ3_copyOfRangeByte_0 7 rfl rfl)
theorem dJ3_copyOfRangeByte_8 : decode cJ3_copyOfRangeByte 8 = .ok (.istore_n 3, 1) := dk_62 (dk_at dksJ3_copyOfRangeByte_0 8 rfl rfl)
theorem dJ3_copyOfRangeByte_9 : decode cJ3_copyOfRangeByte 9 = .ok (.iload_n 3, 1) := dk_29 (dk_at dksJ3_copyOfRangeByte_0 9 rfl rfl)
theorem dJ3_copyOfRangeByte_10 : decode cJ3_copyOfRangeByte 10 = .ok (.newarray .byte, 2) := dk_188_8 (dk_at dksJ3_copyOfRangeByte_0 10 rfl rfl)
theorem dJ3_copyOfRangeByte_12 : decode cJ3_copyOfRangeByte 12 = .ok (.astore 4, 2) := dk_58 4 (dk_at dksJ3_copyOfRangeByte_0 12 rfl rfl)
theorem dJ3_copyOfRangeByte_14 : decode cJ3_copyOfRangeByte 14 = .ok (.aload_n 0, 1) := dk_42 (dk_at dksJ3_copyOfRangeByte_0 14 rfl rfl)
theorem dJ3_copyOfRangeByte_15 : decode cJ3_copyOfRangeByte 15 = .ok (.iload_n 1, 1) := dk_27 (dk_at dksJ3_copyOfRangeByte_0 15 rfl rfl)
theorem dJ3_copyOfRangeByte_16 : decode cJ3_copyOfRangeByte 16 = .ok (.aload 4, 2) := dk_25 4 (dk_at dksJ3_copyOfRangeByte_0 16 rfl rfl)
theorem dJ3_copyOfRangeByte_18 : decode cJ3_copyOfRangeByte 18 = .ok (.iconst 0, 1) := dk_3 (dk_at dksJ3_copyOfRangeByte_0 18 rfl rfl)
theorem dJ3_copyOfRangeByte_19 : decode cJ3_copyOfRangeByte 19 = .ok (.aload_n 0, 1) := dk_42 (dk_at dksJ3_copyOfRangeByte_0 19 rfl rfl)
theorem dJ3_copyOfRangeByte_20 : decode cJ3_copyOfRangeByte 20 = .ok (.arraylength, 1) := dk_190 (dk_at dksJ3_copyOfRangeByte_0 20 rfl rfl)
theorem dJ3_copyOfRangeByte_21 : decode cJ3_copyOfRangeByte 21 = .ok (.iload_n 1, 1) := dk_27 (dk_at dksJ3_copyOfRangeByte_0 21 rfl rfl)
theorem dJ3_copyOfRangeByte_22 : decode cJ3_copyOfRangeByte 22 = .ok (.isub, 1) := dk_100 (dk_at dksJ3_copyOfRangeByte_0 22 rfl rfl)
theorem dJ3_copyOfRangeByte_23 : decode cJ3_copyOfRangeByte 23 = .ok (.iload_n 3, 1) := dk_29 (dk_at dksJ3_copyOfRangeByte_0 23 rfl rfl)
theorem dJ3_copyOfRangeByte_24 : decode cJ3_copyOfRangeByte 24 = .ok (.invokestatic 304, 3) := dk_184 1 48 (dk_at dksJ3_copyOfRangeByte_1 0 rfl rfl)
theorem dJ3_copyOfRangeByte_27 : decode cJ3_copyOfRangeByte 27 = .ok (.invokestatic 150, 3) := dk_184 0 150 (dk_at dksJ3_copyOfRangeByte_1 3 rfl rfl)
theorem dJ3_copyOfRangeByte_30 : decode cJ3_copyOfRangeByte 30 = .ok (.aload 4, 2) := dk_25 4 (dk_at dksJ3_copyOfRangeByte_1 6 rfl rfl)
theorem dJ3_copyOfRangeByte_32 : decode cJ3_copyOfRangeByte 32 = .ok (.areturn, 1) := dk_176 (dk_at dksJ3_copyOfRangeByte_1 8 rfl rfl)
abbrev cJ3_checkLength : ByteArray := prog_33_method_131_code
def yJ3_checkLength : MethodName := ⟨RJ3, "checkLength", "(II)V"⟩
def dkwJ3_checkLength_1 : List UInt8 := [182, 0, 50, 27, 182, 0, 54, 182, 0, 61, 183, 0, 65, 191, 177]
abbrev dktJ3_checkLength_1 : List UInt8 := dkwJ3_checkLength_1 ++ []
def dkwJ3_checkLength_0 : List UInt8 := [27, 26, 162, 0, 35, 187, 0, 43, 89, 187, 0, 45, 89, 183, 0, 47, 26, 182, 0, 54, 19, 1, 81]
abbrev dktJ3_checkLength_0 : List UInt8 := dkwJ3_checkLength_0 ++ dktJ3_checkLength_1
theorem dksJ3_checkLength_0 : cJ3_checkLength.data.toList.drop 0 = dktJ3_checkLength_0 := by decide +kernel
theorem dksJ3_checkLength_1 : cJ3_checkLength.data.toList.drop 23 = dktJ3_checkLength_1 := dk_seg dksJ3_checkLength_0 23 rfl rfl
theorem dJ3_checkLength_0 : decode cJ3_checkLength 0 = .ok (.iload_n 1, 1) := dk_27 (dk_at dksJ3_checkLength_0 0 rfl rfl)
theorem dJ3_checkLength_1 : decode cJ3_checkLength 1 = .ok (.iload_n 0, 1) := dk_26 (dk_at dksJ3_checkLength_0 1 rfl rfl)
theorem dJ3_checkLength_2 : decode cJ3_checkLength 2 = .ok (.if_icmp .ge 35, 3) := dk_162 0 35 (dk_at dksJ3_checkLength_0 2 rfl rfl)
theorem dJ3_checkLength_5 : decode cJ3_checkLength 5 = .ok (.new 43, 3) := dk_187 0 43 (dk_at dksJ3_checkLength_0 5 rfl rfl)
theorem dJ3_checkLength_8 : decode cJ3_checkLength 8 = .ok (.dup, 1) := dk_89 (dk_at dksJ3_checkLength_0 8 rfl rfl)
theorem dJ3_checkLength_9 : decode cJ3_checkLength 9 = .ok (.new 45, 3) := dk_187 0 45 (dk_at dksJ3_checkLength_0 9 rfl rfl)
theorem dJ3_checkLength_12 : decode cJ3_checkLength 12 = .ok (.dup, 1) := dk_89 (dk_at dksJ3_checkLength_0 12 rfl rfl)
theorem dJ3_checkLength_13 : decode cJ3_checkLength 13 = .ok (.invokespecial 47, 3) := dk_183 0 47 (dk_at dksJ3_checkLength_0 13 rfl rfl)
theorem dJ3_checkLength_16 : decode cJ3_checkLength 16 = .ok (.iload_n 0, 1) := dk_26 (dk_at dksJ3_checkLength_0 16 rfl rfl)
theorem dJ3_checkLength_17 : decode cJ3_checkLength 17 = .ok (.invokevirtual 54, 3) := dk_182 0 54 (dk_at dksJ3_checkLength_0 17 rfl rfl)
theorem dJ3_checkLength_20 : decode cJ3_checkLength 20 = .ok (.ldc_w 337, 3) := dk_19 1 81 (dk_at dksJ3_checkLength_0 20 rfl rfl)
theorem dJ3_checkLength_23 : decode cJ3_checkLength 23 = .ok (.invokevirtual 50, 3) := dk_182 0 50 (dk_at dksJ3_checkLength_1 0 rfl rfl)
theorem dJ3_checkLength_26 : decode cJ3_checkLength 26 = .ok (.iload_n 1, 1) := dk_27 (dk_at dksJ3_checkLength_1 3 rfl rfl)
theorem dJ3_checkLength_27 : decode cJ3_checkLength 27 = .ok (.invokevirtual 54, 3) := dk_182 0 54 (dk_at dksJ3_checkLength_1 4 rfl rfl)
theorem dJ3_checkLength_30 : decode cJ3_checkLength 30 = .ok (.invokevirtual 61, 3) := dk_182 0 61 (dk_at dksJ3_checkLength_1 7 rfl rfl)
theorem dJ3_checkLength_33 : decode cJ3_checkLength 33 = .ok (.invokespecial 65, 3) := dk_183 0 65 (dk_at dksJ3_checkLength_1 10 rfl rfl)
theorem dJ3_checkLength_36 : decode cJ3_checkLength 36 = .ok (.athrow, 1) := dk_191 (dk_at dksJ3_checkLength_1 13 rfl rfl)
theorem dJ3_checkLength_37 : decode cJ3_checkLength 37 = .ok (.return_, 1) := dk_177 (dk_at dksJ3_checkLength_1 14 rfl rfl)
theorem q91 : (Jvm.Cond.initialized "java/util/Arrays") ∈ lw_all := lw_g (lw_at lw_m1 13 rfl) rfl
theorem q464 : (Jvm.Cond.static ({ cls := "java/util/Arrays", name := "fill", desc := "([Ljava/lang/Object;Ljava/lang/Object;)V" } : Jvm.MethodName)) ∈ lw_all := lw_g (lw_at lw_m2 146 rfl) rfl
theorem q465 : (Jvm.Cond.code ({ cls := "java/util/Arrays", name := "fill", desc := "([Ljava/lang/Object;Ljava/lang/Object;)V" } : Jvm.MethodName) prog_33_method_117_code (4 : Nat) (Option.none : Option Jvm.ClassFile.FieldType)) ∈ lw_all := lw_g (lw_at lw_m2 147 rfl) rfl
theorem q751 : (Jvm.Cond.static ({ cls := "java/util/Arrays", name := "fill", desc := "([II)V" } : Jvm.MethodName)) ∈ lw_all := lw_g (lw_at lw_m3 193 rfl) rfl
theorem q752 : (Jvm.Cond.code ({ cls := "java/util/Arrays", name := "fill", desc := "([II)V" } : Jvm.MethodName) prog_33_method_103_code (4 : Nat) (Option.none : Option Jvm.ClassFile.FieldType)) ∈ lw_all := lw_g (lw_at lw_m3 194 rfl) rfl
theorem q1551 : (Jvm.Cond.static ({ cls := "java/util/Arrays", name := "copyOfRange", desc := "([BII)[B" } : Jvm.MethodName)) ∈ lw_all := lw_g (lw_at lw_m7 33 rfl) rfl
theorem q1552 : (Jvm.Cond.code ({ cls := "java/util/Arrays", name := "copyOfRange", desc := "([BII)[B" } : Jvm.MethodName) prog_33_method_132_code (3 : Nat) (Option.some (Jvm.ClassFile.FieldType.array Jvm.ClassFile.FieldType.byte))) ∈ lw_all := lw_g (lw_at lw_m7 34 rfl) rfl
theorem q1553 : (Jvm.Cond.methodLink "java/util/Arrays" (339 : Nat) ({ cls := "java/util/Arrays", name := "copyOfRangeByte", desc := "([BII)[B" } : Jvm.MethodName)) ∈ lw_all := lw_g (lw_at lw_m7 35 rfl) rfl
theorem q1554 : (Jvm.Cond.static ({ cls := "java/util/Arrays", name := "copyOfRangeByte", desc := "([BII)[B" } : Jvm.MethodName)) ∈ lw_all := lw_g (lw_at lw_m7 36 rfl) rfl
theorem q1555 : (Jvm.Cond.code ({ cls := "java/util/Arrays", name := "copyOfRangeByte", desc := "([BII)[B" } : Jvm.MethodName) prog_33_method_133_code (5 : Nat) (Option.some (Jvm.ClassFile.FieldType.array Jvm.ClassFile.FieldType.byte))) ∈ lw_all := lw_g (lw_at lw_m7 37 rfl) rfl
theorem q1556 : (Jvm.Cond.methodLink "java/util/Arrays" (343 : Nat) ({ cls := "java/util/Arrays", name := "checkLength", desc := "(II)V" } : Jvm.MethodName)) ∈ lw_all := lw_g (lw_at lw_m7 38 rfl) rfl
theorem q1557 : (Jvm.Cond.static ({ cls := "java/util/Arrays", name := "checkLength", desc := "(II)V" } : Jvm.MethodName)) ∈ lw_all := lw_g (lw_at lw_m7 39 rfl) rfl
theorem q1558 : (Jvm.Cond.code ({ cls := "java/util/Arrays", name := "checkLength", desc := "(II)V" } : Jvm.MethodName) prog_33_method_131_code (2 : Nat) (Option.none : Option Jvm.ClassFile.FieldType)) ∈ lw_all := lw_g (lw_at lw_m7 40 rfl) rfl
theorem q1559 : (Jvm.Cond.methodLink "java/util/Arrays" (304 : Nat) ({ cls := "java/lang/Math", name := "min", desc := "(II)I" } : Jvm.MethodName)) ∈ lw_all := lw_g (lw_at lw_m7 41 rfl) rfl
theorem q1560 : (Jvm.Cond.methodLink "java/util/Arrays" (150 : Nat) ({ cls := "java/lang/System", name := "arraycopy", desc := "(Ljava/lang/Object;ILjava/lang/Object;II)V" } : Jvm.MethodName)) ∈ lw_all := lw_g (lw_at lw_m7 42 rfl) rfl
theorem q1561 : (Jvm.Cond.methodLink "java/util/Arrays" (310 : Nat) ({ cls := "[B", name := "clone", desc := "()Ljava/lang/Object;" } : Jvm.MethodName)) ∈ lw_all := lw_g (lw_at lw_m7 43 rfl) rfl
theorem q1562 : (Jvm.Cond.classLink "java/util/Arrays" (311 : Nat) "[B") ∈ lw_all := lw_g (lw_at lw_m7 44 rfl) rfl
/-! java/lang/String -/
set_option maxRecDepth 100000
def RJ4 : String := "java/lang/String"
def TJ4 : u_T := fun k => match k with
  | 0 => ("java/lang/String", "value", "[B", true)
  | 1 => ("java/lang/String", "coder", "B", true)
  | 2 => ("java/lang/String", "hash", "I", false)
  | _ => ("java/lang/String", "hashIsZero", "Z", false)
def tyJ4 : Nat → FieldType := fun k => match k with
  | 0 => .array .byte
  | 1 => .byte
  | 2 => .int
  | _ => .boolean
abbrev wsJ40 : List Cond := u_ws RJ4 TJ4 4
theorem nmJ4 : ∀ a, a < 4 → ∀ b, b < 4 → a ≠ b → (TJ4 a).2.1 ≠ (TJ4 b).2.1 := by decide +kernel
theorem tyJ4_ok : ∀ k, k < 4 → parseFieldDescriptor (TJ4 k).2.2.1 = some (tyJ4 k) := by decide +kernel
abbrev cJ4_indexOf : ByteArray := prog_26_method_79_code
def yJ4_indexOf : MethodName := ⟨RJ4, "indexOf", "(I)I"⟩
def dkwJ4_indexOf_0 : List UInt8 := [42, 27, 3, 182, 2, 121, 172]
abbrev dktJ4_indexOf_0 : List UInt8 := dkwJ4_indexOf_0 ++ []
theorem dksJ4_indexOf_0 : cJ4_indexOf.data.toList.drop 0 = dktJ4_indexOf_0 := by decide +kernel
theorem dJ4_indexOf_0 : decode cJ4_indexOf 0 = .ok (.aload_n 0, 1) := dk_42 (dk_at dksJ4_indexOf_0 0 rfl rfl)
theorem dJ4_indexOf_1 : decode cJ4_indexOf 1 = .ok (.iload_n 1, 1) := dk_27 (dk_at dksJ4_indexOf_0 1 rfl rfl)
theorem dJ4_indexOf_2 : decode cJ4_indexOf 2 = .ok (.iconst 0, 1) := dk_3 (dk_at dksJ4_indexOf_0 2 rfl rfl)
theorem dJ4_indexOf_3 : decode cJ4_indexOf 3 = .ok (.invokevirtual 633, 3) := dk_182 2 121 (dk_at dksJ4_indexOf_0 3 rfl rfl)
theorem dJ4_indexOf_6 : decode cJ4_indexOf 6 = .ok (.ireturn, 1) := dk_172 (dk_at dksJ4_indexOf_0 6 rfl rfl)
abbrev cJ4_indexOf_2 : ByteArray := prog_26_method_80_code
def yJ4_indexOf_2 : MethodName := ⟨RJ4, "indexOf", "(II)I"⟩
def dkwJ4_indexOf_2_1 : List UInt8 := [180, 0, 9, 27, 28, 42, 182, 1, 249, 184, 2, 128, 172]
abbrev dktJ4_indexOf_2_1 : List UInt8 := dkwJ4_indexOf_2_1 ++ []
def dkwJ4_indexOf_2_0 : List UInt8 := [42, 182, 1, 236, 153, 0, 19, 42, 180, 0, 9, 27, 28, 42, 182, 1, 249, 184, 2, 125, 167, 0, 16, 42]
abbrev dktJ4_indexOf_2_0 : List UInt8 := dkwJ4_indexOf_2_0 ++ dktJ4_indexOf_2_1
theorem dksJ4_indexOf_2_0 : cJ4_indexOf_2.data.toList.drop 0 = dktJ4_indexOf_2_0 := by decide +kernel
theorem dksJ4_indexOf_2_1 : cJ4_indexOf_2.data.toList.drop 24 = dktJ4_indexOf_2_1 := dk_seg dksJ4_indexOf_2_0 24 rfl rfl
theorem dJ4_indexOf_2_0 : decode cJ4_indexOf_2 0 = .ok (.aload_n 0, 1) := dk_42 (dk_at dksJ4_indexOf_2_0 0 rfl rfl)
theorem dJ4_indexOf_2_1 : decode cJ4_indexOf_2 1 = .ok (.invokevirtual 492, 3) := dk_182 1 236 (dk_at dksJ4_indexOf_2_0 1 rfl rfl)
theorem dJ4_indexOf_2_4 : decode cJ4_indexOf_2 4 = .ok (.ifCond .eq 19, 3) := dk_153 0 19 (dk_at dksJ4_indexOf_2_0 4 rfl rfl)
theorem dJ4_indexOf_2_7 : decode cJ4_indexOf_2 7 = .ok (.aload_n 0, 1) := dk_42 (dk_at dksJ4_indexOf_2_0 7 rfl rfl)
theorem dJ4_indexOf_2_8 : decode cJ4_indexOf_2 8 = .ok (.getfield 9, 3) := dk_180 0 9 (dk_at dksJ4_indexOf_2_0 8 rfl rfl)
theorem dJ4_indexOf_2_11 : decode cJ4_indexOf_2 11 = .ok (.iload_n 1, 1) := dk_27 (dk_at dksJ4_indexOf_2_0 11 rfl rfl)
theorem dJ4_indexOf_2_12 : decode cJ4_indexOf_2 12 = .ok (.iload_n 2, 1) := dk_28 (dk_at dksJ4_indexOf_2_0 12 rfl rfl)
theorem dJ4_indexOf_2_13 : decode cJ4_indexOf_2 13 = .ok (.aload_n 0, 1) := dk_42 (dk_at dksJ4_indexOf_2_0 13 rfl rfl)
theorem dJ4_indexOf_2_14 : decode cJ4_indexOf_2 14 = .ok (.invokevirtual 505, 3) := dk_182 1 249 (dk_at dksJ4_indexOf_2_0 14 rfl rfl)
theorem dJ4_indexOf_2_17 : decode cJ4_indexOf_2 17 = .ok (.invokestatic 637, 3) := dk_184 2 125 (dk_at dksJ4_indexOf_2_0 17 rfl rfl)
theorem dJ4_indexOf_2_20 : decode cJ4_indexOf_2 20 = .ok (.goto 16, 3) := dk_167 0 16 (dk_at dksJ4_indexOf_2_0 20 rfl rfl)
theorem dJ4_indexOf_2_23 : decode cJ4_indexOf_2 23 = .ok (.aload_n 0, 1) := dk_42 (dk_at dksJ4_indexOf_2_0 23 rfl rfl)
theorem dJ4_indexOf_2_24 : decode cJ4_indexOf_2 24 = .ok (.getfield 9, 3) := dk_180 0 9 (dk_at dksJ4_indexOf_2_1 0 rfl rfl)
theorem dJ4_indexOf_2_27 : decode cJ4_indexOf_2 27 = .ok (.iload_n 1, 1) := dk_27 (dk_at dksJ4_indexOf_2_1 3 rfl rfl)
theorem dJ4_indexOf_2_28 : decode cJ4_indexOf_2 28 = .ok (.iload_n 2, 1) := dk_28 (dk_at dksJ4_indexOf_2_1 4 rfl rfl)
theorem dJ4_indexOf_2_29 : decode cJ4_indexOf_2 29 = .ok (.aload_n 0, 1) := dk_42 (dk_at dksJ4_indexOf_2_1 5 rfl rfl)
theorem dJ4_indexOf_2_30 : decode cJ4_indexOf_2 30 = .ok (.invokevirtual 505, 3) := dk_182 1 249 (dk_at dksJ4_indexOf_2_1 6 rfl rfl)
theorem dJ4_indexOf_2_33 : decode cJ4_indexOf_2 33 = .ok (.invokestatic 640, 3) := dk_184 2 128 (dk_at dksJ4_indexOf_2_1 9 rfl rfl)
theorem dJ4_indexOf_2_36 : decode cJ4_indexOf_2 36 = .ok (.ireturn, 1) := dk_172 (dk_at dksJ4_indexOf_2_1 12 rfl rfl)
abbrev cJ4_isLatin1 : ByteArray := prog_26_method_154_code
def yJ4_isLatin1 : MethodName := ⟨RJ4, "isLatin1", "()Z"⟩
def dkwJ4_isLatin1_0 : List UInt8 := [178, 0, 38, 153, 0, 14, 42, 180, 0, 15, 154, 0, 7, 4, 167, 0, 4, 3, 172]
abbrev dktJ4_isLatin1_0 : List UInt8 := dkwJ4_isLatin1_0 ++ []
theorem dksJ4_isLatin1_0 : cJ4_isLatin1.data.toList.drop 0 = dktJ4_isLatin1_0 := by decide +kernel
theorem dJ4_isLatin1_0 : decode cJ4_isLatin1 0 = .ok (.getstatic 38, 3) := dk_178 0 38 (dk_at dksJ4_isLatin1_0 0 rfl rfl)
theorem dJ4_isLatin1_3 : decode cJ4_isLatin1 3 = .ok (.ifCond .eq 14, 3) := dk_153 0 14 (dk_at dksJ4_isLatin1_0 3 rfl rfl)
theorem dJ4_isLatin1_6 : decode cJ4_isLatin1 6 = .ok (.aload_n 0, 1) := dk_42 (dk_at dksJ4_isLatin1_0 6 rfl rfl)
theorem dJ4_isLatin1_7 : decode cJ4_isLatin1 7 = .ok (.getfield 15, 3) := dk_180 0 15 (dk_at dksJ4_isLatin1_0 7 rfl rfl)
theorem dJ4_isLatin1_10 : decode cJ4_isLatin1 10 = .ok (.ifCond .ne 7, 3) := dk_154 0 7 (dk_at dksJ4_isLatin1_0 10 rfl rfl)
theorem dJ4_isLatin1_13 : decode cJ4_isLatin1 13 = .ok (.iconst 1, 1) := dk_4 (dk_at dksJ4_isLatin1_0 13 rfl rfl)
theorem dJ4_isLatin1_14 : decode cJ4_isLatin1 14 = .ok (.goto 4, 3) := dk_167 0 4 (dk_at dksJ4_isLatin1_0 14 rfl rfl)
theorem dJ4_isLatin1_17 : decode cJ4_isLatin1 17 = .ok (.iconst 0, 1) := dk_3 (dk_at dksJ4_isLatin1_0 17 rfl rfl)
theorem dJ4_isLatin1_18 : decode cJ4_isLatin1 18 = .ok (.ireturn, 1) := dk_172 (dk_at dksJ4_isLatin1_0 18 rfl rfl)
abbrev cJ4_length : ByteArray := prog_26_method_54_code
def yJ4_length : MethodName := ⟨RJ4, "length", "()I"⟩
def dkwJ4_length_0 : List UInt8 := [42, 180, 0, 9, 190, 42, 182, 1, 79, 122, 172]
abbrev dktJ4_length_0 : List UInt8 := dkwJ4_length_0 ++ []
theorem dksJ4_length_0 : cJ4_length.data.toList.drop 0 = dktJ4_length_0 := by decide +kernel
theorem dJ4_length_0 : decode cJ4_length 0 = .ok (.aload_n 0, 1) := dk_42 (dk_at dksJ4_length_0 0 rfl rfl)
theorem dJ4_length_1 : decode cJ4_length 1 = .ok (.getfield 9, 3) := dk_180 0 9 (dk_at dksJ4_length_0 1 rfl rfl)
theorem dJ4_length_4 : decode cJ4_length 4 = .ok (.arraylength, 1) := dk_190 (dk_at dksJ4_length_0 4 rfl rfl)
theorem dJ4_length_5 : decode cJ4_length 5 = .ok (.aload_n 0, 1) := dk_42 (dk_at dksJ4_length_0 5 rfl rfl)
theorem dJ4_length_6 : decode cJ4_length 6 = .ok (.invokevirtual 335, 3) := dk_182 1 79 (dk_at dksJ4_length_0 6 rfl rfl)
theorem dJ4_length_9 : decode cJ4_length 9 = .ok (.ishr, 1) := dk_122 (dk_at dksJ4_length_0 9 rfl rfl)
theorem dJ4_length_10 : decode cJ4_length 10 = .ok (.ireturn, 1) := dk_172 (dk_at dksJ4_length_0 10 rfl rfl)
abbrev cJ4_coder : ByteArray := prog_26_method_152_code
def yJ4_coder : MethodName := ⟨RJ4, "coder", "()B"⟩
def dkwJ4_coder_0 : List UInt8 := [178, 0, 38, 153, 0, 10, 42, 180, 0, 15, 167, 0, 4, 4, 172]
abbrev dktJ4_coder_0 : List UInt8 := dkwJ4_coder_0 ++ []
theorem dksJ4_coder_0 : cJ4_coder.data.toList.drop 0 = dktJ4_coder_0 := by decide +kernel
theorem dJ4_coder_0 : decode cJ4_coder 0 = .ok (.getstatic 38, 3) := dk_178 0 38 (dk_at dksJ4_coder_0 0 rfl rfl)
theorem dJ4_coder_3 : decode cJ4_coder 3 = .ok (.ifCond .eq 10, 3) := dk_153 0 10 (dk_at dksJ4_coder_0 3 rfl rfl)
theorem dJ4_coder_6 : decode cJ4_coder 6 = .ok (.aload_n 0, 1) := dk_42 (dk_at dksJ4_coder_0 6 rfl rfl)
theorem dJ4_coder_7 : decode cJ4_coder 7 = .ok (.getfield 15, 3) := dk_180 0 15 (dk_at dksJ4_coder_0 7 rfl rfl)
theorem dJ4_coder_10 : decode cJ4_coder 10 = .ok (.goto 4, 3) := dk_167 0 4 (dk_at dksJ4_coder_0 10 rfl rfl)
theorem dJ4_coder_13 : decode cJ4_coder 13 = .ok (.iconst 1, 1) := dk_4 (dk_at dksJ4_coder_0 13 rfl rfl)
theorem dJ4_coder_14 : decode cJ4_coder 14 = .ok (.ireturn, 1) := dk_172 (dk_at dksJ4_coder_0 14 rfl rfl)
abbrev cJ4_checkBoundsBeginEnd : ByteArray := prog_26_method_158_code
def yJ4_checkBoundsBeginEnd : MethodName := ⟨RJ4, "checkBoundsBeginEnd", "(III)V"⟩
def dkwJ4_checkBoundsBeginEnd_0 : List UInt8 := [26, 27, 28, 178, 4, 29, 184, 4, 38, 87, 177]
abbrev dktJ4_checkBoundsBeginEnd_0 : List UInt8 := dkwJ4_checkBoundsBeginEnd_0 ++ []
theorem dksJ4_checkBoundsBeginEnd_0 : cJ4_checkBoundsBeginEnd.data.toList.drop 0 = dktJ4_checkBoundsBeginEnd_0 := by decide +kernel
theorem dJ4_checkBoundsBeginEnd_0 : decode cJ4_checkBoundsBeginEnd 0 = .ok (.iload_n 0, 1) := dk_26 (dk_at dksJ4_checkBoundsBeginEnd_0 0 rfl rfl)
theorem dJ4_checkBoundsBeginEnd_1 : decode cJ4_checkBoundsBeginEnd 1 = .ok (.iload_n 1, 1) := dk_27 (dk_at dksJ4_checkBoundsBeginEnd_0 1 rfl rfl)
theorem dJ4_checkBoundsBeginEnd_2 : decode cJ4_checkBoundsBeginEnd 2 = .ok (.iload_n 2, 1) := dk_28 (dk_at dksJ4_checkBoundsBeginEnd_0 2 rfl rfl)
theorem dJ4_checkBoundsBeginEnd_3 : decode cJ4_checkBoundsBeginEnd 3 = .ok (.getstatic 1053, 3) := dk_178 4 29 (dk_at dksJ4_checkBoundsBeginEnd_0 3 rfl rfl)
theorem dJ4_checkBoundsBeginEnd_6 : decode cJ4_checkBoundsBeginEnd 6 = .ok (.invokestatic 1062, 3) := dk_184 4 38 (dk_at dksJ4_checkBoundsBeginEnd_0 6 rfl rfl)
theorem dJ4_checkBoundsBeginEnd_9 : decode cJ4_checkBoundsBeginEnd 9 = .ok (.pop, 1) := dk_87 (dk_at dksJ4_checkBoundsBeginEnd_0 9 rfl rfl)
theorem dJ4_checkBoundsBeginEnd_10 : decode cJ4_checkBoundsBeginEnd 10 = .ok (.return_, 1) := dk_177 (dk_at dksJ4_checkBoundsBeginEnd_0 10 rfl rfl)
abbrev cJ4_charAt : ByteArray := prog_26_method_56_code
def yJ4_charAt : MethodName := ⟨RJ4, "charAt", "(I)C"⟩
def dkwJ4_charAt_1 : List UInt8 := [172]
abbrev dktJ4_charAt_1 : List UInt8 := dkwJ4_charAt_1 ++ []
def dkwJ4_charAt_0 : List UInt8 := [42, 182, 1, 236, 153, 0, 12, 42, 180, 0, 9, 27, 184, 1, 239, 172, 42, 180, 0, 9, 27, 184, 1, 242]
abbrev dktJ4_charAt_0 : List UInt8 := dkwJ4_charAt_0 ++ dktJ4_charAt_1
theorem dksJ4_charAt_0 : cJ4_charAt.data.toList.drop 0 = dktJ4_charAt_0 := by decide +kernel
theorem dksJ4_charAt_1 : cJ4_charAt.data.toList.drop 24 = dktJ4_charAt_1 := dk_seg dksJ4_charAt_0 24 rfl rfl
theorem dJ4_charAt_0 : decode cJ4_charAt 0 = .ok (.aload_n 0, 1) := dk_42 (dk_at dksJ4_charAt_0 0 rfl rfl)
theorem dJ4_charAt_1 : decode cJ4_charAt 1 = .ok (.invokevirtual 492, 3) := dk_182 1 236 (dk_at dksJ4_charAt_0 1 rfl rfl)
theorem dJ4_charAt_4 : decode cJ4_charAt 4 = .ok (.ifCond .eq 12, 3) := dk_153 0 12 (dk_at dksJ4_charAt_0 4 rfl rfl)
theorem dJ4_charAt_7 : decode cJ4_charAt 7 = .ok (.aload_n 0, 1) := dk_42 (dk_at dksJ4_charAt_0 7 rfl rfl)
theorem dJ4_charAt_8 : decode cJ4_charAt 8 = .ok (.getfield 9, 3) := dk_180 0 9 (dk_at dksJ4_charAt_0 8 rfl rfl)
theorem dJ4_charAt_11 : decode cJ4_charAt 11 = .ok (.iload_n 1, 1) := dk_27 (dk_at dksJ4_charAt_0 11 rfl rfl)
theorem dJ4_charAt_12 : decode cJ4_charAt 12 = .ok (.invokestatic 495, 3) := dk_184 1 239 (dk_at dksJ4_charAt_0 12 rfl rfl)
theorem dJ4_charAt_15 : decode cJ4_charAt 15 = .ok (.ireturn, 1) := dk_172 (dk_at dksJ4_charAt_0 15 rfl rfl)
theorem dJ4_charAt_16 : decode cJ4_charAt 16 = .ok (.aload_n 0, 1) := dk_42 (dk_at dksJ4_charAt_0 16 rfl rfl)
theorem dJ4_charAt_17 : decode cJ4_charAt 17 = .ok (.getfield 9, 3) := dk_180 0 9 (dk_at dksJ4_charAt_0 17 rfl rfl)
theorem dJ4_charAt_20 : decode cJ4_charAt 20 = .ok (.iload_n 1, 1) := dk_27 (dk_at dksJ4_charAt_0 20 rfl rfl)
theorem dJ4_charAt_21 : decode cJ4_charAt 21 = .ok (.invokestatic 498, 3) := dk_184 1 242 (dk_at dksJ4_charAt_0 21 rfl rfl)
theorem dJ4_charAt_24 : decode cJ4_charAt 24 = .ok (.ireturn, 1) := dk_172 (dk_at dksJ4_charAt_1 0 rfl rfl)
abbrev cJ4_checkIndex : ByteArray := prog_26_method_155_code
def yJ4_checkIndex : MethodName := ⟨RJ4, "checkIndex", "(II)V"⟩
def dkwJ4_checkIndex_0 : List UInt8 := [26, 27, 178, 4, 29, 184, 4, 35, 87, 177]
abbrev dktJ4_checkIndex_0 : List UInt8 := dkwJ4_checkIndex_0 ++ []
theorem dksJ4_checkIndex_0 : cJ4_checkIndex.data.toList.drop 0 = dktJ4_checkIndex_0 := by decide +kernel
theorem dJ4_checkIndex_0 : decode cJ4_checkIndex 0 = .ok (.iload_n 0, 1) := dk_26 (dk_at dksJ4_checkIndex_0 0 rfl rfl)
theorem dJ4_checkIndex_1 : decode cJ4_checkIndex 1 = .ok (.iload_n 1, 1) := dk_27 (dk_at dksJ4_checkIndex_0 1 rfl rfl)
theorem dJ4_checkIndex_2 : decode cJ4_checkIndex 2 = .ok (.getstatic 1053, 3) := dk_178 4 29 (dk_at dksJ4_checkIndex_0 2 rfl rfl)
theorem dJ4_checkIndex_5 : decode cJ4_checkIndex 5 = .ok (.invokestatic 1059, 3) := dk_184 4 35 (dk_at dksJ4_checkIndex_0 5 rfl rfl)
theorem dJ4_checkIndex_8 : decode cJ4_checkIndex 8 = .ok (.pop, 1) := dk_87 (dk_at dksJ4_checkIndex_0 8 rfl rfl)
theorem dJ4_checkIndex_9 : decode cJ4_checkIndex 9 = .ok (.return_, 1) := dk_177 (dk_at dksJ4_checkIndex_0 9 rfl rfl)
abbrev cJ4_substring : ByteArray := prog_26_method_92_code
def yJ4_substring : MethodName := ⟨RJ4, "substring", "(II)Ljava/lang/String;"⟩
def dkwJ4_substring_2 : List UInt8 := [180, 0, 9, 27, 21, 4, 184, 2, 177, 176]
abbrev dktJ4_substring_2 : List UInt8 := dkwJ4_substring_2 ++ []
def dkwJ4_substring_1 : List UInt8 := [100, 54, 4, 42, 182, 1, 236, 153, 0, 16, 42, 180, 0, 9, 27, 21, 4, 184, 2, 173, 167, 0, 13, 42]
abbrev dktJ4_substring_1 : List UInt8 := dkwJ4_substring_1 ++ dktJ4_substring_2
def dkwJ4_substring_0 : List UInt8 := [42, 182, 1, 249, 62, 27, 28, 29, 184, 2, 9, 27, 154, 0, 10, 28, 29, 160, 0, 5, 42, 176, 28, 27]
abbrev dktJ4_substring_0 : List UInt8 := dkwJ4_substring_0 ++ dktJ4_substring_1
theorem dksJ4_substring_0 : cJ4_substring.data.toList.drop 0 = dktJ4_substring_0 := by decide +kernel
theorem dksJ4_substring_1 : cJ4_substring.data.toList.drop 24 = dktJ4_substring_1 := dk_seg dksJ4_substring_0 24 rfl rfl
theorem dksJ4_substring_2 : cJ4_substring.data.toList.drop 48 = dktJ4_substring_2 := dk_seg dksJ4_substring_1 24 rfl rfl
theorem dJ4_substring_0 : decode cJ4_substring 0 = .ok (.aload_n 0, 1) := dk_42 (dk_at dksJ4_substring_0 0 rfl rfl)
theorem dJ4_substring_1 : decode cJ4_substring 1 = .ok (.invokevirtual 505, 3) := dk_182 1 249 (dk_at dksJ4_substring_0 1 rfl rfl)
theorem dJ4_substring_4 : decode cJ4_substring 4 = .ok (.istore_n 3, 1) := dk_62 (dk_at dksJ4_substring_0 4 rfl rfl)
theorem dJ4_substring_5 : decode cJ4_substring 5 = .ok (.iload_n 1, 1) := dk_27 (dk_at dksJ4_substring_0 5 rfl rfl)
theorem dJ4_substring_6 : decode cJ4_substring 6 = .ok (.iload_n 2, 1) := dk_28 (dk_at dksJ4_substring_0 6 rfl rfl)
theorem dJ4_substring_7 : decode cJ4_substring 7 = .ok (.iload_n 3, 1) := dk_29 (dk_at dksJ4_substring_0 7 rfl rfl)
theorem dJ4_substring_8 : decode cJ4_substring 8 = .ok (.invokestatic 521, 3) := dk_184 2 9 (dk_at dksJ4_substring_0 8 rfl rfl)
theorem dJ4_substring_11 : decode cJ4_substring 11 = .ok (.iload_n 1, 1) := dk_27 (dk_at dksJ4_substring_0 11 rfl rfl)
theorem dJ4_substring_12 : decode cJ4_substring 12 = .ok (.ifCond .ne 10, 3) := dk_154 0 10 (dk_at dksJ4_substring_0 12 rfl rfl)
theorem dJ4_substring_15 : decode cJ4_substring 15 = .ok (.iload_n 2, 1) := dk_28 (dk_at dksJ4_substring_0 15 rfl rfl)
theorem dJ4_substring_16 : decode cJ4_substring 16 = .ok (.iload_n 3, 1) := dk_29 (dk_at dksJ4_substring_0 16 rfl rfl)
theorem dJ4_substring_17 : decode cJ4_substring 17 = .ok (.if_icmp .ne 5, 3) := dk_160 0 5 (dk_at dksJ4_substring_0 17 rfl rfl)
theorem dJ4_substring_20 : decode cJ4_substring 20 = .ok (.aload_n 0, 1) := dk_42 (dk_at dksJ4_substring_0 20 rfl rfl)
theorem dJ4_substring_21 : decode cJ4_substring 21 = .ok (.areturn, 1) := dk_176 (dk_at dksJ4_substring_0 21 rfl rfl)
theorem dJ4_substring_22 : decode cJ4_substring 22 = .ok (.iload_n 2, 1) := dk_28 (dk_at dksJ4_substring_0 22 rfl rfl)
theorem dJ4_substring_23 : decode cJ4_substring 23 = .ok (.iload_n 1, 1) := dk_27 (dk_at dksJ4_substring_0 23 rfl rfl)
theorem dJ4_substring_24 : decode cJ4_substring 24 = .ok (.isub, 1) := dk_100 (dk_at dksJ4_substring_1 0 rfl rfl)
theorem dJ4_substring_25 : decode cJ4_substring 25 = .ok (.istore 4, 2) := dk_54 4 (dk_at dksJ4_substring_1 1 rfl rfl)
theorem dJ4_substring_27 : decode cJ4_substring 27 = .ok (.aload_n 0, 1) := dk_42 (dk_at dksJ4_substring_1 3 rfl rfl)
theorem dJ4_substring_28 : decode cJ4_substring 28 = .ok (.invokevirtual 492, 3) := dk_182 1 236 (dk_at dksJ4_substring_1 4 rfl rfl)
theorem dJ4_substring_31 : decode cJ4_substring 31 = .ok (.ifCond .eq 16, 3) := dk_153 0 16 (dk_at dksJ4_substring_1 7 rfl rfl)
theorem dJ4_substring_34 : decode cJ4_substring 34 = .ok (.aload_n 0, 1) := dk_42 (dk_at dksJ4_substring_1 10 rfl rfl)
theorem dJ4_substring_35 : decode cJ4_substring 35 = .ok (.getfield 9, 3) := dk_180 0 9 (dk_at dksJ4_substring_1 11 rfl rfl)
theorem dJ4_substring_38 : decode cJ4_substring 38 = .ok (.iload_n 1, 1) := dk_27 (dk_at dksJ4_substring_1 14 rfl rfl)
theorem dJ4_substring_39 : decode cJ4_substring 39 = .ok (.iload 4, 2) := dk_21 4 (dk_at dksJ4_substring_1 15 rfl rfl)
theorem dJ4_substring_41 : decode cJ4_substring 41 = .ok (.invokestatic 685, 3) := dk_184 2 173 (dk_at dksJ4_substring_1 17 rfl rfl)
theorem dJ4_substring_44 : decode cJ4_substring 44 = .ok (.goto 13, 3) := dk_167 0 13 (dk_at dksJ4_substring_1 20 rfl rfl)
theorem dJ4_substring_47 : decode cJ4_substring 47 = .ok (.aload_n 0, 1) := dk_42 (dk_at dksJ4_substring_1 23 rfl rfl)
theorem dJ4_substring_48 : decode cJ4_substring 48 = .ok (.getfield 9, 3) := dk_180 0 9 (dk_at dksJ4_substring_2 0 rfl rfl)
theorem dJ4_substring_51 : decode cJ4_substring 51 = .ok (.iload_n 1, 1) := dk_27 (dk_at dksJ4_substring_2 3 rfl rfl)
theorem dJ4_substring_52 : decode cJ4_substring 52 = .ok (.iload 4, 2) := dk_21 4 (dk_at dksJ4_substring_2 4 rfl rfl)
theorem dJ4_substring_54 : decode cJ4_substring 54 = .ok (.invokestatic 689, 3) := dk_184 2 177 (dk_at dksJ4_substring_2 6 rfl rfl)
theorem dJ4_substring_57 : decode cJ4_substring 57 = .ok (.areturn, 1) := dk_176 (dk_at dksJ4_substring_2 9 rfl rfl)
abbrev cJ4_init : ByteArray := prog_26_method_151_code
def yJ4_init : MethodName := ⟨RJ4, "<init>", "([BB)V"⟩
def dkwJ4_init_0 : List UInt8 := [42, 183, 0, 1, 42, 43, 181, 0, 9, 42, 28, 181, 0, 15, 177]
abbrev dktJ4_init_0 : List UInt8 := dkwJ4_init_0 ++ []
theorem dksJ4_init_0 : cJ4_init.data.toList.drop 0 = dktJ4_init_0 := by decide +kernel
theorem dJ4_init_0 : decode cJ4_init 0 = .ok (.aload_n 0, 1) := dk_42 (dk_at dksJ4_init_0 0 rfl rfl)
theorem dJ4_init_1 : decode cJ4_init 1 = .ok (.invokespecial 1, 3) := dk_183 0 1 (dk_at dksJ4_init_0 1 rfl rfl)
theorem dJ4_init_4 : decode cJ4_init 4 = .ok (.aload_n 0, 1) := dk_42 (dk_at dksJ4_init_0 4 rfl rfl)
theorem dJ4_init_5 : decode cJ4_init 5 = .ok (.aload_n 1, 1) := dk_43 (dk_at dksJ4_init_0 5 rfl rfl)
theorem dJ4_init_6 : decode cJ4_init 6 = .ok (.putfield 9, 3) := dk_181 0 9 (dk_at dksJ4_init_0 6 rfl rfl)
theorem dJ4_init_9 : decode cJ4_init 9 = .ok (.aload_n 0, 1) := dk_42 (dk_at dksJ4_init_0 9 rfl rfl)
theorem dJ4_init_10 : decode cJ4_init 10 = .ok (.iload_n 2, 1) := dk_28 (dk_at dksJ4_init_0 10 rfl rfl)
theorem dJ4_init_11 : decode cJ4_init 11 = .ok (.putfield 15, 3) := dk_181 0 15 (dk_at dksJ4_init_0 11 rfl rfl)
theorem dJ4_init_14 : decode cJ4_init 14 = .ok (.return_, 1) := dk_177 (dk_at dksJ4_init_0 14 rfl rfl)
abbrev cJ4_checkBoundsOffCount : ByteArray := prog_26_method_157_code
def yJ4_checkBoundsOffCount : MethodName := ⟨RJ4, "checkBoundsOffCount", "(III)I"⟩
def dkwJ4_checkBoundsOffCount_0 : List UInt8 := [26, 27, 28, 178, 4, 29, 184, 4, 41, 172]
abbrev dktJ4_checkBoundsOffCount_0 : List UInt8 := dkwJ4_checkBoundsOffCount_0 ++ []
theorem dksJ4_checkBoundsOffCount_0 : cJ4_checkBoundsOffCount.data.toList.drop 0 = dktJ4_checkBoundsOffCount_0 := by decide +kernel
theorem dJ4_checkBoundsOffCount_0 : decode cJ4_checkBoundsOffCount 0 = .ok (.iload_n 0, 1) := dk_26 (dk_at dksJ4_checkBoundsOffCount_0 0 rfl rfl)
theorem dJ4_checkBoundsOffCount_1 : decode cJ4_checkBoundsOffCount 1 = .ok (.iload_n 1, 1) := dk_27 (dk_at dksJ4_checkBoundsOffCount_0 1 rfl rfl)
theorem dJ4_checkBoundsOffCount_2 : decode cJ4_checkBoundsOffCount 2 = .ok (.iload_n 2, 1) := dk_28 (dk_at dksJ4_checkBoundsOffCount_0 2 rfl rfl)
theorem dJ4_checkBoundsOffCount_3 : decode cJ4_checkBoundsOffCount 3 = .ok (.getstatic 1053, 3) := dk_178 4 29 (dk_at dksJ4_checkBoundsOffCount_0 3 rfl rfl)
theorem dJ4_checkBoundsOffCount_6 : decode cJ4_checkBoundsOffCount 6 = .ok (.invokestatic 1065, 3) := dk_184 4 41 (dk_at dksJ4_checkBoundsOffCount_0 6 rfl rfl)
theorem dJ4_checkBoundsOffCount_9 : decode cJ4_checkBoundsOffCount 9 = .ok (.ireturn, 1) := dk_172 (dk_at dksJ4_checkBoundsOffCount_0 9 rfl rfl)
theorem q92 : (Jvm.Cond.initialized "java/lang/String") ∈ lw_all := lw_g (lw_at lw_m1 14 rfl) rfl
theorem q585 : (Jvm.Cond.instanceMethod ({ cls := "java/lang/String", name := "indexOf", desc := "(I)I" } : Jvm.MethodName)) ∈ lw_all := lw_g (lw_at lw_m3 27 rfl) rfl
theorem q586 : (Jvm.Cond.selects "java/lang/String" ({ cls := "java/lang/String", name := "indexOf", desc := "(I)I" } : Jvm.MethodName) ({ cls := "java/lang/String", name := "indexOf", desc := "(I)I" } : Jvm.MethodName)) ∈ lw_all := lw_g (lw_at lw_m3 28 rfl) rfl
theorem q587 : (Jvm.Cond.code ({ cls := "java/lang/String", name := "indexOf", desc := "(I)I" } : Jvm.MethodName) prog_26_method_79_code (2 : Nat) (Option.some Jvm.ClassFile.FieldType.int)) ∈ lw_all := lw_g (lw_at lw_m3 29 rfl) rfl
theorem q588 : (Jvm.Cond.methodLink "java/lang/String" (633 : Nat) ({ cls := "java/lang/String", name := "indexOf", desc := "(II)I" } : Jvm.MethodName)) ∈ lw_all := lw_g (lw_at lw_m3 30 rfl) rfl
theorem q589 : (Jvm.Cond.instanceMethod ({ cls := "java/lang/String", name := "indexOf", desc := "(II)I" } : Jvm.MethodName)) ∈ lw_all := lw_g (lw_at lw_m3 31 rfl) rfl
theorem q590 : (Jvm.Cond.selects "java/lang/String" ({ cls := "java/lang/String", name := "indexOf", desc := "(II)I" } : Jvm.MethodName) ({ cls := "java/lang/String", name := "indexOf", desc := "(II)I" } : Jvm.MethodName)) ∈ lw_all := lw_g (lw_at lw_m3 32 rfl) rfl
theorem q591 : (Jvm.Cond.code ({ cls := "java/lang/String", name := "indexOf", desc := "(II)I" } : Jvm.MethodName) prog_26_method_80_code (3 : Nat) (Option.some Jvm.ClassFile.FieldType.int)) ∈ lw_all := lw_g (lw_at lw_m3 33 rfl) rfl
theorem q592 : (Jvm.Cond.methodLink "java/lang/String" (492 : Nat) ({ cls := "java/lang/String", name := "isLatin1", desc := "()Z" } : Jvm.MethodName)) ∈ lw_all := lw_g (lw_at lw_m3 34 rfl) rfl
theorem q593 : (Jvm.Cond.instanceMethod ({ cls := "java/lang/String", name := "isLatin1", desc := "()Z" } : Jvm.MethodName)) ∈ lw_all := lw_g (lw_at lw_m3 35 rfl) rfl
theorem q594 : (Jvm.Cond.selects "java/lang/String" ({ cls := "java/lang/String", name := "isLatin1", desc := "()Z" } : Jvm.MethodName) ({ cls := "java/lang/String", name := "isLatin1", desc := "()Z" } : Jvm.MethodName)) ∈ lw_all := lw_g (lw_at lw_m3 36 rfl) rfl
theorem q595 : (Jvm.Cond.code ({ cls := "java/lang/String", name := "isLatin1", desc := "()Z" } : Jvm.MethodName) prog_26_method_154_code (1 : Nat) (Option.some Jvm.ClassFile.FieldType.boolean)) ∈ lw_all := lw_g (lw_at lw_m3 37 rfl) rfl
theorem q596 : (Jvm.Cond.fieldLink "java/lang/String" (38 : Nat) "java/lang/String" "COMPACT_STRINGS" "Z") ∈ lw_all := lw_g (lw_at lw_m3 38 rfl) rfl
theorem q597 : (Jvm.Cond.laysStatic "java/lang/String" "COMPACT_STRINGS" "Z") ∈ lw_tbl := lw_at lw_m3 39 rfl
theorem q598 : (Jvm.Cond.methodLink "java/lang/String" (505 : Nat) ({ cls := "java/lang/String", name := "length", desc := "()I" } : Jvm.MethodName)) ∈ lw_all := lw_g (lw_at lw_m3 40 rfl) rfl
theorem q599 : (Jvm.Cond.instanceMethod ({ cls := "java/lang/String", name := "length", desc := "()I" } : Jvm.MethodName)) ∈ lw_all := lw_g (lw_at lw_m3 41 rfl) rfl
theorem q600 : (Jvm.Cond.selects "java/lang/String" ({ cls := "java/lang/String", name := "length", desc := "()I" } : Jvm.MethodName) ({ cls := "java/lang/String", name := "length", desc := "()I" } : Jvm.MethodName)) ∈ lw_all := lw_g (lw_at lw_m3 42 rfl) rfl
theorem q601 : (Jvm.Cond.code ({ cls := "java/lang/String", name := "length", desc := "()I" } : Jvm.MethodName) prog_26_method_54_code (1 : Nat) (Option.some Jvm.ClassFile.FieldType.int)) ∈ lw_all := lw_g (lw_at lw_m3 43 rfl) rfl
theorem q602 : (Jvm.Cond.methodLink "java/lang/String" (335 : Nat) ({ cls := "java/lang/String", name := "coder", desc := "()B" } : Jvm.MethodName)) ∈ lw_all := lw_g (lw_at lw_m3 44 rfl) rfl
theorem q603 : (Jvm.Cond.instanceMethod ({ cls := "java/lang/String", name := "coder", desc := "()B" } : Jvm.MethodName)) ∈ lw_all := lw_g (lw_at lw_m3 45 rfl) rfl
theorem q604 : (Jvm.Cond.selects "java/lang/String" ({ cls := "java/lang/String", name := "coder", desc := "()B" } : Jvm.MethodName) ({ cls := "java/lang/String", name := "coder", desc := "()B" } : Jvm.MethodName)) ∈ lw_all := lw_g (lw_at lw_m3 46 rfl) rfl
theorem q605 : (Jvm.Cond.code ({ cls := "java/lang/String", name := "coder", desc := "()B" } : Jvm.MethodName) prog_26_method_152_code (1 : Nat) (Option.some Jvm.ClassFile.FieldType.byte)) ∈ lw_all := lw_g (lw_at lw_m3 47 rfl) rfl
theorem q606 : (Jvm.Cond.methodLink "java/lang/String" (637 : Nat) ({ cls := "java/lang/StringLatin1", name := "indexOf", desc := "([BIII)I" } : Jvm.MethodName)) ∈ lw_all := lw_g (lw_at lw_m3 48 rfl) rfl
theorem q617 : (Jvm.Cond.methodLink "java/lang/String" (640 : Nat) ({ cls := "java/lang/StringUTF16", name := "indexOf", desc := "([BIII)I" } : Jvm.MethodName)) ∈ lw_all := lw_g (lw_at lw_m3 59 rfl) rfl
theorem q633 : (Jvm.Cond.static ({ cls := "java/lang/String", name := "checkBoundsBeginEnd", desc := "(III)V" } : Jvm.MethodName)) ∈ lw_all := lw_g (lw_at lw_m3 75 rfl) rfl
theorem q634 : (Jvm.Cond.code ({ cls := "java/lang/String", name := "checkBoundsBeginEnd", desc := "(III)V" } : Jvm.MethodName) prog_26_method_158_code (3 : Nat) (Option.none : Option Jvm.ClassFile.FieldType)) ∈ lw_all := lw_g (lw_at lw_m3 76 rfl) rfl
theorem q635 : (Jvm.Cond.fieldLink "java/lang/String" (1053 : Nat) "jdk/internal/util/Preconditions" "SIOOBE_FORMATTER" "Ljava/util/function/BiFunction;") ∈ lw_all := lw_g (lw_at lw_m3 77 rfl) rfl
theorem q637 : (Jvm.Cond.methodLink "java/lang/String" (1062 : Nat) ({ cls := "jdk/internal/util/Preconditions", name := "checkFromToIndex", desc := "(IIILjava/util/function/BiFunction;)I" } : Jvm.MethodName)) ∈ lw_all := lw_g (lw_at lw_m3 79 rfl) rfl
theorem q721 : (Jvm.Cond.instantiable "java/lang/String" (4 : Nat)) ∈ lw_all := lw_g (lw_at lw_m3 163 rfl) rfl
theorem q722 : (Jvm.Cond.laysFinal "java/lang/String" "java/lang/String" "value" "[B") ∈ lw_all := lw_g (lw_at lw_m3 164 rfl) rfl
theorem q723 : (Jvm.Cond.soleField "java/lang/String" "value") ∈ lw_all := lw_g (lw_at lw_m3 165 rfl) rfl
theorem q724 : (Jvm.Cond.laysFinal "java/lang/String" "java/lang/String" "coder" "B") ∈ lw_all := lw_g (lw_at lw_m3 166 rfl) rfl
theorem q725 : (Jvm.Cond.soleField "java/lang/String" "coder") ∈ lw_all := lw_g (lw_at lw_m3 167 rfl) rfl
theorem q1467 : (Jvm.Cond.instanceMethod ({ cls := "java/lang/String", name := "charAt", desc := "(I)C" } : Jvm.MethodName)) ∈ lw_all := lw_g (lw_at lw_m6 189 rfl) rfl
theorem q1468 : (Jvm.Cond.selects "java/lang/String" ({ cls := "java/lang/String", name := "charAt", desc := "(I)C" } : Jvm.MethodName) ({ cls := "java/lang/String", name := "charAt", desc := "(I)C" } : Jvm.MethodName)) ∈ lw_all := lw_g (lw_at lw_m6 190 rfl) rfl
theorem q1469 : (Jvm.Cond.code ({ cls := "java/lang/String", name := "charAt", desc := "(I)C" } : Jvm.MethodName) prog_26_method_56_code (2 : Nat) (Option.some Jvm.ClassFile.FieldType.char)) ∈ lw_all := lw_g (lw_at lw_m6 191 rfl) rfl
theorem q1470 : (Jvm.Cond.methodLink "java/lang/String" (495 : Nat) ({ cls := "java/lang/StringLatin1", name := "charAt", desc := "([BI)C" } : Jvm.MethodName)) ∈ lw_all := lw_g (lw_at lw_m6 192 rfl) rfl
theorem q1474 : (Jvm.Cond.static ({ cls := "java/lang/String", name := "checkIndex", desc := "(II)V" } : Jvm.MethodName)) ∈ lw_all := lw_g (lw_at lw_m6 196 rfl) rfl
theorem q1475 : (Jvm.Cond.code ({ cls := "java/lang/String", name := "checkIndex", desc := "(II)V" } : Jvm.MethodName) prog_26_method_155_code (2 : Nat) (Option.none : Option Jvm.ClassFile.FieldType)) ∈ lw_all := lw_g (lw_at lw_m6 197 rfl) rfl
theorem q1476 : (Jvm.Cond.methodLink "java/lang/String" (1059 : Nat) ({ cls := "jdk/internal/util/Preconditions", name := "checkIndex", desc := "(IILjava/util/function/BiFunction;)I" } : Jvm.MethodName)) ∈ lw_all := lw_g (lw_at lw_m6 198 rfl) rfl
theorem q1479 : (Jvm.Cond.methodLink "java/lang/String" (498 : Nat) ({ cls := "java/lang/StringUTF16", name := "charAt", desc := "([BI)C" } : Jvm.MethodName)) ∈ lw_all := lw_g (lw_at lw_m6 201 rfl) rfl
theorem q1541 : (Jvm.Cond.instanceMethod ({ cls := "java/lang/String", name := "substring", desc := "(II)Ljava/lang/String;" } : Jvm.MethodName)) ∈ lw_all := lw_g (lw_at lw_m7 23 rfl) rfl
theorem q1542 : (Jvm.Cond.selects "java/lang/String" ({ cls := "java/lang/String", name := "substring", desc := "(II)Ljava/lang/String;" } : Jvm.MethodName) ({ cls := "java/lang/String", name := "substring", desc := "(II)Ljava/lang/String;" } : Jvm.MethodName)) ∈ lw_all := lw_g (lw_at lw_m7 24 rfl) rfl
theorem q1543 : (Jvm.Cond.code ({ cls := "java/lang/String", name := "substring", desc := "(II)Ljava/lang/String;" } : Jvm.MethodName) prog_26_method_92_code (5 : Nat) (Option.some (Jvm.ClassFile.FieldType.object "java/lang/String"))) ∈ lw_all := lw_g (lw_at lw_m7 25 rfl) rfl
theorem q1544 : (Jvm.Cond.methodLink "java/lang/String" (521 : Nat) ({ cls := "java/lang/String", name := "checkBoundsBeginEnd", desc := "(III)V" } : Jvm.MethodName)) ∈ lw_all := lw_g (lw_at lw_m7 26 rfl) rfl
theorem q1545 : (Jvm.Cond.methodLink "java/lang/String" (685 : Nat) ({ cls := "java/lang/StringLatin1", name := "newString", desc := "([BII)Ljava/lang/String;" } : Jvm.MethodName)) ∈ lw_all := lw_g (lw_at lw_m7 27 rfl) rfl
theorem q1564 : (Jvm.Cond.instanceMethod ({ cls := "java/lang/String", name := "<init>", desc := "([BB)V" } : Jvm.MethodName)) ∈ lw_all := lw_g (lw_at lw_m7 46 rfl) rfl
theorem q1565 : (Jvm.Cond.code ({ cls := "java/lang/String", name := "<init>", desc := "([BB)V" } : Jvm.MethodName) prog_26_method_151_code (3 : Nat) (Option.none : Option Jvm.ClassFile.FieldType)) ∈ lw_all := lw_g (lw_at lw_m7 47 rfl) rfl
theorem q1566 : (Jvm.Cond.methodLink "java/lang/String" (1 : Nat) ({ cls := "java/lang/Object", name := "<init>", desc := "()V" } : Jvm.MethodName)) ∈ lw_all := lw_g (lw_at lw_m7 48 rfl) rfl
theorem q1567 : (Jvm.Cond.fieldLink "java/lang/String" (9 : Nat) "java/lang/String" "value" "[B") ∈ lw_all := lw_g (lw_at lw_m7 49 rfl) rfl
theorem q1568 : (Jvm.Cond.fieldLink "java/lang/String" (15 : Nat) "java/lang/String" "coder" "B") ∈ lw_all := lw_g (lw_at lw_m7 50 rfl) rfl
theorem q1569 : (Jvm.Cond.lays "java/lang/String" "java/lang/String" "hash" "I") ∈ lw_all := lw_g (lw_at lw_m7 51 rfl) rfl
theorem q1570 : (Jvm.Cond.soleField "java/lang/String" "hash") ∈ lw_all := lw_g (lw_at lw_m7 52 rfl) rfl
theorem q1571 : (Jvm.Cond.lays "java/lang/String" "java/lang/String" "hashIsZero" "Z") ∈ lw_all := lw_g (lw_at lw_m7 53 rfl) rfl
theorem q1572 : (Jvm.Cond.soleField "java/lang/String" "hashIsZero") ∈ lw_all := lw_g (lw_at lw_m7 54 rfl) rfl
theorem q1573 : (Jvm.Cond.superclass "java/lang/String" "java/lang/Object") ∈ lw_all := lw_g (lw_at lw_m7 55 rfl) rfl
theorem q1574 : (Jvm.Cond.methodLink "java/lang/String" (689 : Nat) ({ cls := "java/lang/StringUTF16", name := "newString", desc := "([BII)Ljava/lang/String;" } : Jvm.MethodName)) ∈ lw_all := lw_g (lw_at lw_m7 56 rfl) rfl
theorem q1589 : (Jvm.Cond.static ({ cls := "java/lang/String", name := "checkBoundsOffCount", desc := "(III)I" } : Jvm.MethodName)) ∈ lw_all := lw_g (lw_at lw_m7 71 rfl) rfl
theorem q1590 : (Jvm.Cond.code ({ cls := "java/lang/String", name := "checkBoundsOffCount", desc := "(III)I" } : Jvm.MethodName) prog_26_method_157_code (3 : Nat) (Option.some Jvm.ClassFile.FieldType.int)) ∈ lw_all := lw_g (lw_at lw_m7 72 rfl) rfl
theorem q1591 : (Jvm.Cond.methodLink "java/lang/String" (1065 : Nat) ({ cls := "jdk/internal/util/Preconditions", name := "checkFromIndexSize", desc := "(IIILjava/util/function/BiFunction;)I" } : Jvm.MethodName)) ∈ lw_all := lw_g (lw_at lw_m7 73 rfl) rfl
theorem q1970 : (Jvm.Cond.castable "java/lang/String" "java/lang/Object") ∈ lw_tbl := lw_at lw_m8 212 rfl
theorem in_J4 : ∀ w ∈ wsJ40, w ∈ lw_all := lw_in wsJ40 [722, 724, 1569, 1571] (by decide +kernel) (by decide +kernel)
/-! java/lang/StringLatin1 -/
set_option maxRecDepth 100000
def RJ5 : String := "java/lang/StringLatin1"
abbrev cJ5_indexOf : ByteArray := prog_27_method_22_code
def yJ5_indexOf : MethodName := ⟨RJ5, "indexOf", "([BIII)I"⟩
def dkwJ5_indexOf_1 : List UInt8 := [161, 0, 5, 2, 172, 42, 27, 28, 29, 184, 0, 95, 172]
abbrev dktJ5_indexOf_1 : List UInt8 := dkwJ5_indexOf_1 ++ []
def dkwJ5_indexOf_0 : List UInt8 := [27, 184, 0, 88, 154, 0, 5, 2, 172, 28, 3, 184, 0, 92, 61, 29, 42, 190, 184, 0, 38, 62, 28, 29]
abbrev dktJ5_indexOf_0 : List UInt8 := dkwJ5_indexOf_0 ++ dktJ5_indexOf_1
theorem dksJ5_indexOf_0 : cJ5_indexOf.data.toList.drop 0 = dktJ5_indexOf_0 := by decide +kernel
theorem dksJ5_indexOf_1 : cJ5_indexOf.data.toList.drop 24 = dktJ5_indexOf_1 := dk_seg dksJ5_indexOf_0 24 rfl rfl
theorem dJ5_indexOf_0 : decode cJ5_indexOf 0 = .ok (.iload_n 1, 1) := dk_27 (dk_at dksJ5_indexOf_0 0 rfl rfl)
theorem dJ5_indexOf_1 : decode cJ5_indexOf 1 = .ok (.invokestatic 88, 3) := dk_184 0 88 (dk_at dksJ5_indexOf_0 1 rfl rfl)
theorem dJ5_indexOf_4 : decode cJ5_indexOf 4 = .ok (.ifCond .ne 5, 3) := dk_154 0 5 (dk_at dksJ5_indexOf_0 4 rfl rfl)
theorem dJ5_indexOf_7 : decode cJ5_indexOf 7 = .ok (.iconst (-1), 1) := dk_2 (dk_at dksJ5_indexOf_0 7 rfl rfl)
theorem dJ5_indexOf_8 : decode cJ5_indexOf 8 = .ok (.ireturn, 1) := dk_172 (dk_at dksJ5_indexOf_0 8 rfl rfl)
theorem dJ5_indexOf_9 : decode cJ5_indexOf 9 = .ok (.iload_n 2, 1) := dk_28 (dk_at dksJ5_indexOf_0 9 rfl rfl)
theorem dJ5_indexOf_10 : decode cJ5_indexOf 10 = .ok (.iconst 0, 1) := dk_3 (dk_at dksJ5_indexOf_0 10 rfl rfl)
theorem dJ5_indexOf_11 : decode cJ5_indexOf 11 = .ok (.invokestatic 92, 3) := dk_184 0 92 (dk_at dksJ5_indexOf_0 11 rfl rfl)
theorem dJ5_indexOf_14 : decode cJ5_indexOf 14 = .ok (.istore_n 2, 1) := dk_61 (dk_at dksJ5_indexOf_0 14 rfl rfl)
theorem dJ5_indexOf_15 : decode cJ5_indexOf 15 = .ok (.iload_n 3, 1) := dk_29 (dk_at dksJ5_indexOf_0 15 rfl rfl)
theorem dJ5_indexOf_16 : decode cJ5_indexOf 16 = .ok (.aload_n 0, 1) := dk_42 (dk_at dksJ5_indexOf_0 16 rfl rfl)
theorem dJ5_indexOf_17 : decode cJ5_indexOf 17 = .ok (.arraylength, 1) := dk_190 (dk_at dksJ5_indexOf_0 17 rfl rfl)
theorem dJ5_indexOf_18 : decode cJ5_indexOf 18 = .ok (.invokestatic 38, 3) := dk_184 0 38 (dk_at dksJ5_indexOf_0 18 rfl rfl)
theorem dJ5_indexOf_21 : decode cJ5_indexOf 21 = .ok (.istore_n 3, 1) := dk_62 (dk_at dksJ5_indexOf_0 21 rfl rfl)
theorem dJ5_indexOf_22 : decode cJ5_indexOf 22 = .ok (.iload_n 2, 1) := dk_28 (dk_at dksJ5_indexOf_0 22 rfl rfl)
theorem dJ5_indexOf_23 : decode cJ5_indexOf 23 = .ok (.iload_n 3, 1) := dk_29 (dk_at dksJ5_indexOf_0 23 rfl rfl)
theorem dJ5_indexOf_24 : decode cJ5_indexOf 24 = .ok (.if_icmp .lt 5, 3) := dk_161 0 5 (dk_at dksJ5_indexOf_1 0 rfl rfl)
theorem dJ5_indexOf_27 : decode cJ5_indexOf 27 = .ok (.iconst (-1), 1) := dk_2 (dk_at dksJ5_indexOf_1 3 rfl rfl)
theorem dJ5_indexOf_28 : decode cJ5_indexOf 28 = .ok (.ireturn, 1) := dk_172 (dk_at dksJ5_indexOf_1 4 rfl rfl)
theorem dJ5_indexOf_29 : decode cJ5_indexOf 29 = .ok (.aload_n 0, 1) := dk_42 (dk_at dksJ5_indexOf_1 5 rfl rfl)
theorem dJ5_indexOf_30 : decode cJ5_indexOf 30 = .ok (.iload_n 1, 1) := dk_27 (dk_at dksJ5_indexOf_1 6 rfl rfl)
theorem dJ5_indexOf_31 : decode cJ5_indexOf 31 = .ok (.iload_n 2, 1) := dk_28 (dk_at dksJ5_indexOf_1 7 rfl rfl)
theorem dJ5_indexOf_32 : decode cJ5_indexOf 32 = .ok (.iload_n 3, 1) := dk_29 (dk_at dksJ5_indexOf_1 8 rfl rfl)
theorem dJ5_indexOf_33 : decode cJ5_indexOf 33 = .ok (.invokestatic 95, 3) := dk_184 0 95 (dk_at dksJ5_indexOf_1 9 rfl rfl)
theorem dJ5_indexOf_36 : decode cJ5_indexOf 36 = .ok (.ireturn, 1) := dk_172 (dk_at dksJ5_indexOf_1 12 rfl rfl)
abbrev cJ5_canEncode : ByteArray := prog_27_method_4_code
def yJ5_canEncode : MethodName := ⟨RJ5, "canEncode", "(I)Z"⟩
def dkwJ5_canEncode_0 : List UInt8 := [26, 155, 0, 14, 26, 17, 0, 255, 163, 0, 7, 4, 167, 0, 4, 3, 172]
abbrev dktJ5_canEncode_0 : List UInt8 := dkwJ5_canEncode_0 ++ []
theorem dksJ5_canEncode_0 : cJ5_canEncode.data.toList.drop 0 = dktJ5_canEncode_0 := by decide +kernel
theorem dJ5_canEncode_0 : decode cJ5_canEncode 0 = .ok (.iload_n 0, 1) := dk_26 (dk_at dksJ5_canEncode_0 0 rfl rfl)
theorem dJ5_canEncode_1 : decode cJ5_canEncode 1 = .ok (.ifCond .lt 14, 3) := dk_155 0 14 (dk_at dksJ5_canEncode_0 1 rfl rfl)
theorem dJ5_canEncode_4 : decode cJ5_canEncode 4 = .ok (.iload_n 0, 1) := dk_26 (dk_at dksJ5_canEncode_0 4 rfl rfl)
theorem dJ5_canEncode_5 : decode cJ5_canEncode 5 = .ok (.sipush 255, 3) := dk_17 0 255 (dk_at dksJ5_canEncode_0 5 rfl rfl)
theorem dJ5_canEncode_8 : decode cJ5_canEncode 8 = .ok (.if_icmp .gt 7, 3) := dk_163 0 7 (dk_at dksJ5_canEncode_0 8 rfl rfl)
theorem dJ5_canEncode_11 : decode cJ5_canEncode 11 = .ok (.iconst 1, 1) := dk_4 (dk_at dksJ5_canEncode_0 11 rfl rfl)
theorem dJ5_canEncode_12 : decode cJ5_canEncode 12 = .ok (.goto 4, 3) := dk_167 0 4 (dk_at dksJ5_canEncode_0 12 rfl rfl)
theorem dJ5_canEncode_15 : decode cJ5_canEncode 15 = .ok (.iconst 0, 1) := dk_3 (dk_at dksJ5_canEncode_0 15 rfl rfl)
theorem dJ5_canEncode_16 : decode cJ5_canEncode 16 = .ok (.ireturn, 1) := dk_172 (dk_at dksJ5_canEncode_0 16 rfl rfl)
abbrev cJ5_indexOfChar : ByteArray := prog_27_method_23_code
def yJ5_indexOfChar : MethodName := ⟨RJ5, "indexOfChar", "([BIII)I"⟩
def dkwJ5_indexOfChar_1 : List UInt8 := [172, 132, 5, 1, 167, 255, 235, 2, 172]
abbrev dktJ5_indexOfChar_1 : List UInt8 := dkwJ5_indexOfChar_1 ++ []
def dkwJ5_indexOfChar_0 : List UInt8 := [27, 145, 54, 4, 28, 54, 5, 21, 5, 29, 162, 0, 21, 42, 21, 5, 51, 21, 4, 160, 0, 6, 21, 5]
abbrev dktJ5_indexOfChar_0 : List UInt8 := dkwJ5_indexOfChar_0 ++ dktJ5_indexOfChar_1
theorem dksJ5_indexOfChar_0 : cJ5_indexOfChar.data.toList.drop 0 = dktJ5_indexOfChar_0 := by decide +kernel
theorem dksJ5_indexOfChar_1 : cJ5_indexOfChar.data.toList.drop 24 = dktJ5_indexOfChar_1 := dk_seg dksJ5_indexOfChar_0 24 rfl rfl
theorem dJ5_indexOfChar_0 : decode cJ5_indexOfChar 0 = .ok (.iload_n 1, 1) := dk_27 (dk_at dksJ5_indexOfChar_0 0 rfl rfl)
theorem dJ5_indexOfChar_1 : decode cJ5_indexOfChar 1 = .ok (.i2b, 1) := dk_145 (dk_at dksJ5_indexOfChar_0 1 rfl rfl)
theorem dJ5_indexOfChar_2 : decode cJ5_indexOfChar 2 = .ok (.istore 4, 2) := dk_54 4 (dk_at dksJ5_indexOfChar_0 2 rfl rfl)
theorem dJ5_indexOfChar_4 : decode cJ5_indexOfChar 4 = .ok (.iload_n 2, 1) := dk_28 (dk_at dksJ5_indexOfChar_0 4 rfl rfl)
theorem dJ5_indexOfChar_5 : decode cJ5_indexOfChar 5 = .ok (.istore 5, 2) := dk_54 5 (dk_at dksJ5_indexOfChar_0 5 rfl rfl)
theorem dJ5_indexOfChar_7 : decode cJ5_indexOfChar 7 = .ok (.iload 5, 2) := dk_21 5 (dk_at dksJ5_indexOfChar_0 7 rfl rfl)
theorem dJ5_indexOfChar_9 : decode cJ5_indexOfChar 9 = .ok (.iload_n 3, 1) := dk_29 (dk_at dksJ5_indexOfChar_0 9 rfl rfl)
theorem dJ5_indexOfChar_10 : decode cJ5_indexOfChar 10 = .ok (.if_icmp .ge 21, 3) := dk_162 0 21 (dk_at dksJ5_indexOfChar_0 10 rfl rfl)
theorem dJ5_indexOfChar_13 : decode cJ5_indexOfChar 13 = .ok (.aload_n 0, 1) := dk_42 (dk_at dksJ5_indexOfChar_0 13 rfl rfl)
theorem dJ5_indexOfChar_14 : decode cJ5_indexOfChar 14 = .ok (.iload 5, 2) := dk_21 5 (dk_at dksJ5_indexOfChar_0 14 rfl rfl)
theorem dJ5_indexOfChar_16 : decode cJ5_indexOfChar 16 = .ok (.baload, 1) := dk_51 (dk_at dksJ5_indexOfChar_0 16 rfl rfl)
theorem dJ5_indexOfChar_17 : decode cJ5_indexOfChar 17 = .ok (.iload 4, 2) := dk_21 4 (dk_at dksJ5_indexOfChar_0 17 rfl rfl)
theorem dJ5_indexOfChar_19 : decode cJ5_indexOfChar 19 = .ok (.if_icmp .ne 6, 3) := dk_160 0 6 (dk_at dksJ5_indexOfChar_0 19 rfl rfl)
theorem dJ5_indexOfChar_22 : decode cJ5_indexOfChar 22 = .ok (.iload 5, 2) := dk_21 5 (dk_at dksJ5_indexOfChar_0 22 rfl rfl)
theorem dJ5_indexOfChar_24 : decode cJ5_indexOfChar 24 = .ok (.ireturn, 1) := dk_172 (dk_at dksJ5_indexOfChar_1 0 rfl rfl)
theorem dJ5_indexOfChar_25 : decode cJ5_indexOfChar 25 = .ok (.iinc 5 1, 3) := dk_132 5 1 (dk_at dksJ5_indexOfChar_1 1 rfl rfl)
theorem dJ5_indexOfChar_28 : decode cJ5_indexOfChar 28 = .ok (.goto (-21), 3) := dk_167 255 235 (dk_at dksJ5_indexOfChar_1 4 rfl rfl)
theorem dJ5_indexOfChar_31 : decode cJ5_indexOfChar 31 = .ok (.iconst (-1), 1) := dk_2 (dk_at dksJ5_indexOfChar_1 7 rfl rfl)
theorem dJ5_indexOfChar_32 : decode cJ5_indexOfChar 32 = .ok (.ireturn, 1) := dk_172 (dk_at dksJ5_indexOfChar_1 8 rfl rfl)
abbrev cJ5_charAt : ByteArray := prog_27_method_2_code
def yJ5_charAt : MethodName := ⟨RJ5, "charAt", "([BI)C"⟩
def dkwJ5_charAt_0 : List UInt8 := [27, 42, 190, 184, 0, 9, 42, 27, 51, 17, 0, 255, 126, 146, 172]
abbrev dktJ5_charAt_0 : List UInt8 := dkwJ5_charAt_0 ++ []
theorem dksJ5_charAt_0 : cJ5_charAt.data.toList.drop 0 = dktJ5_charAt_0 := by decide +kernel
theorem dJ5_charAt_0 : decode cJ5_charAt 0 = .ok (.iload_n 1, 1) := dk_27 (dk_at dksJ5_charAt_0 0 rfl rfl)
theorem dJ5_charAt_1 : decode cJ5_charAt 1 = .ok (.aload_n 0, 1) := dk_42 (dk_at dksJ5_charAt_0 1 rfl rfl)
theorem dJ5_charAt_2 : decode cJ5_charAt 2 = .ok (.arraylength, 1) := dk_190 (dk_at dksJ5_charAt_0 2 rfl rfl)
theorem dJ5_charAt_3 : decode cJ5_charAt 3 = .ok (.invokestatic 9, 3) := dk_184 0 9 (dk_at dksJ5_charAt_0 3 rfl rfl)
theorem dJ5_charAt_6 : decode cJ5_charAt 6 = .ok (.aload_n 0, 1) := dk_42 (dk_at dksJ5_charAt_0 6 rfl rfl)
theorem dJ5_charAt_7 : decode cJ5_charAt 7 = .ok (.iload_n 1, 1) := dk_27 (dk_at dksJ5_charAt_0 7 rfl rfl)
theorem dJ5_charAt_8 : decode cJ5_charAt 8 = .ok (.baload, 1) := dk_51 (dk_at dksJ5_charAt_0 8 rfl rfl)
theorem dJ5_charAt_9 : decode cJ5_charAt 9 = .ok (.sipush 255, 3) := dk_17 0 255 (dk_at dksJ5_charAt_0 9 rfl rfl)
theorem dJ5_charAt_12 : decode cJ5_charAt 12 = .ok (.iand, 1) := dk_126 (dk_at dksJ5_charAt_0 12 rfl rfl)
theorem dJ5_charAt_13 : decode cJ5_charAt 13 = .ok (.i2c, 1) := dk_146 (dk_at dksJ5_charAt_0 13 rfl rfl)
theorem dJ5_charAt_14 : decode cJ5_charAt 14 = .ok (.ireturn, 1) := dk_172 (dk_at dksJ5_charAt_0 14 rfl rfl)
abbrev cJ5_newString : ByteArray := prog_27_method_47_code
def yJ5_newString : MethodName := ⟨RJ5, "newString", "([BII)Ljava/lang/String;"⟩
def dkwJ5_newString_0 : List UInt8 := [28, 154, 0, 6, 18, 151, 176, 187, 0, 1, 89, 42, 27, 27, 28, 96, 184, 0, 232, 3, 183, 0, 112, 176]
abbrev dktJ5_newString_0 : List UInt8 := dkwJ5_newString_0 ++ []
theorem dksJ5_newString_0 : cJ5_newString.data.toList.drop 0 = dktJ5_newString_0 := by decide +kernel
theorem dJ5_newString_0 : decode cJ5_newString 0 = .ok (.iload_n 2, 1) := dk_28 (dk_at dksJ5_newString_0 0 rfl rfl)
theorem dJ5_newString_1 : decode cJ5_newString 1 = .ok (.ifCond .ne 6, 3) := dk_154 0 6 (dk_at dksJ5_newString_0 1 rfl rfl)
theorem dJ5_newString_4 : decode cJ5_newString 4 = .ok (.ldc 151, 2) := dk_18 151 (dk_at dksJ5_newString_0 4 rfl rfl)
theorem dJ5_newString_6 : decode cJ5_newString 6 = .ok (.areturn, 1) := dk_176 (dk_at dksJ5_newString_0 6 rfl rfl)
theorem dJ5_newString_7 : decode cJ5_newString 7 = .ok (.new 1, 3) := dk_187 0 1 (dk_at dksJ5_newString_0 7 rfl rfl)
theorem dJ5_newString_10 : decode cJ5_newString 10 = .ok (.dup, 1) := dk_89 (dk_at dksJ5_newString_0 10 rfl rfl)
theorem dJ5_newString_11 : decode cJ5_newString 11 = .ok (.aload_n 0, 1) := dk_42 (dk_at dksJ5_newString_0 11 rfl rfl)
theorem dJ5_newString_12 : decode cJ5_newString 12 = .ok (.iload_n 1, 1) := dk_27 (dk_at dksJ5_newString_0 12 rfl rfl)
theorem dJ5_newString_13 : decode cJ5_newString 13 = .ok (.iload_n 1, 1) := dk_27 (dk_at dksJ5_newString_0 13 rfl rfl)
theorem dJ5_newString_14 : decode cJ5_newString 14 = .ok (.iload_n 2, 1) := dk_28 (dk_at dksJ5_newString_0 14 rfl rfl)
theorem dJ5_newString_15 : decode cJ5_newString 15 = .ok (.iadd, 1) := dk_96 (dk_at dksJ5_newString_0 15 rfl rfl)
theorem dJ5_newString_16 : decode cJ5_newString 16 = .ok (.invokestatic 232, 3) := dk_184 0 232 (dk_at dksJ5_newString_0 16 rfl rfl)
theorem dJ5_newString_19 : decode cJ5_newString 19 = .ok (.iconst 0, 1) := dk_3 (dk_at dksJ5_newString_0 19 rfl rfl)
theorem dJ5_newString_20 : decode cJ5_newString 20 = .ok (.invokespecial 112, 3) := dk_183 0 112 (dk_at dksJ5_newString_0 20 rfl rfl)
theorem dJ5_newString_23 : decode cJ5_newString 23 = .ok (.areturn, 1) := dk_176 (dk_at dksJ5_newString_0 23 rfl rfl)
theorem q93 : (Jvm.Cond.initialized "java/lang/StringLatin1") ∈ lw_all := lw_g (lw_at lw_m1 15 rfl) rfl
theorem q607 : (Jvm.Cond.static ({ cls := "java/lang/StringLatin1", name := "indexOf", desc := "([BIII)I" } : Jvm.MethodName)) ∈ lw_all := lw_g (lw_at lw_m3 49 rfl) rfl
theorem q608 : (Jvm.Cond.code ({ cls := "java/lang/StringLatin1", name := "indexOf", desc := "([BIII)I" } : Jvm.MethodName) prog_27_method_22_code (4 : Nat) (Option.some Jvm.ClassFile.FieldType.int)) ∈ lw_all := lw_g (lw_at lw_m3 50 rfl) rfl
theorem q609 : (Jvm.Cond.methodLink "java/lang/StringLatin1" (88 : Nat) ({ cls := "java/lang/StringLatin1", name := "canEncode", desc := "(I)Z" } : Jvm.MethodName)) ∈ lw_all := lw_g (lw_at lw_m3 51 rfl) rfl
theorem q610 : (Jvm.Cond.static ({ cls := "java/lang/StringLatin1", name := "canEncode", desc := "(I)Z" } : Jvm.MethodName)) ∈ lw_all := lw_g (lw_at lw_m3 52 rfl) rfl
theorem q611 : (Jvm.Cond.code ({ cls := "java/lang/StringLatin1", name := "canEncode", desc := "(I)Z" } : Jvm.MethodName) prog_27_method_4_code (1 : Nat) (Option.some Jvm.ClassFile.FieldType.boolean)) ∈ lw_all := lw_g (lw_at lw_m3 53 rfl) rfl
theorem q612 : (Jvm.Cond.methodLink "java/lang/StringLatin1" (92 : Nat) ({ cls := "java/lang/Math", name := "max", desc := "(II)I" } : Jvm.MethodName)) ∈ lw_all := lw_g (lw_at lw_m3 54 rfl) rfl
theorem q613 : (Jvm.Cond.methodLink "java/lang/StringLatin1" (38 : Nat) ({ cls := "java/lang/Math", name := "min", desc := "(II)I" } : Jvm.MethodName)) ∈ lw_all := lw_g (lw_at lw_m3 55 rfl) rfl
theorem q614 : (Jvm.Cond.methodLink "java/lang/StringLatin1" (95 : Nat) ({ cls := "java/lang/StringLatin1", name := "indexOfChar", desc := "([BIII)I" } : Jvm.MethodName)) ∈ lw_all := lw_g (lw_at lw_m3 56 rfl) rfl
theorem q615 : (Jvm.Cond.static ({ cls := "java/lang/StringLatin1", name := "indexOfChar", desc := "([BIII)I" } : Jvm.MethodName)) ∈ lw_all := lw_g (lw_at lw_m3 57 rfl) rfl
theorem q616 : (Jvm.Cond.code ({ cls := "java/lang/StringLatin1", name := "indexOfChar", desc := "([BIII)I" } : Jvm.MethodName) prog_27_method_23_code (6 : Nat) (Option.some Jvm.ClassFile.FieldType.int)) ∈ lw_all := lw_g (lw_at lw_m3 58 rfl) rfl
theorem q1471 : (Jvm.Cond.static ({ cls := "java/lang/StringLatin1", name := "charAt", desc := "([BI)C" } : Jvm.MethodName)) ∈ lw_all := lw_g (lw_at lw_m6 193 rfl) rfl
theorem q1472 : (Jvm.Cond.code ({ cls := "java/lang/StringLatin1", name := "charAt", desc := "([BI)C" } : Jvm.MethodName) prog_27_method_2_code (2 : Nat) (Option.some Jvm.ClassFile.FieldType.char)) ∈ lw_all := lw_g (lw_at lw_m6 194 rfl) rfl
theorem q1473 : (Jvm.Cond.methodLink "java/lang/StringLatin1" (9 : Nat) ({ cls := "java/lang/String", name := "checkIndex", desc := "(II)V" } : Jvm.MethodName)) ∈ lw_all := lw_g (lw_at lw_m6 195 rfl) rfl
theorem q1546 : (Jvm.Cond.static ({ cls := "java/lang/StringLatin1", name := "newString", desc := "([BII)Ljava/lang/String;" } : Jvm.MethodName)) ∈ lw_all := lw_g (lw_at lw_m7 28 rfl) rfl
theorem q1547 : (Jvm.Cond.code ({ cls := "java/lang/StringLatin1", name := "newString", desc := "([BII)Ljava/lang/String;" } : Jvm.MethodName) prog_27_method_47_code (3 : Nat) (Option.some (Jvm.ClassFile.FieldType.object "java/lang/String"))) ∈ lw_all := lw_g (lw_at lw_m7 29 rfl) rfl
theorem q1548 : (Jvm.Cond.stringRef "java/lang/StringLatin1" (151 : Nat) "") ∈ lw_tbl := lw_at lw_m7 30 rfl
theorem q1549 : (Jvm.Cond.classLink "java/lang/StringLatin1" (1 : Nat) "java/lang/String") ∈ lw_all := lw_g (lw_at lw_m7 31 rfl) rfl
theorem q1550 : (Jvm.Cond.methodLink "java/lang/StringLatin1" (232 : Nat) ({ cls := "java/util/Arrays", name := "copyOfRange", desc := "([BII)[B" } : Jvm.MethodName)) ∈ lw_all := lw_g (lw_at lw_m7 32 rfl) rfl
theorem q1563 : (Jvm.Cond.methodLink "java/lang/StringLatin1" (112 : Nat) ({ cls := "java/lang/String", name := "<init>", desc := "([BB)V" } : Jvm.MethodName)) ∈ lw_all := lw_g (lw_at lw_m7 45 rfl) rfl
/-! jdk/internal/util/Preconditions -/
set_option maxRecDepth 100000
def RJ6 : String := "jdk/internal/util/Preconditions"
abbrev cJ6_checkFromToIndex : ByteArray := prog_35_method_12_code
def yJ6_checkFromToIndex : MethodName := ⟨RJ6, "checkFromToIndex", "(IIILjava/util/function/BiFunction;)I"⟩
def dkwJ6_checkFromToIndex_0 : List UInt8 := [26, 155, 0, 13, 26, 27, 163, 0, 8, 27, 28, 164, 0, 11, 45, 26, 27, 28, 184, 0, 99, 191, 26, 172]
abbrev dktJ6_checkFromToIndex_0 : List UInt8 := dkwJ6_checkFromToIndex_0 ++ []
theorem dksJ6_checkFromToIndex_0 : cJ6_checkFromToIndex.data.toList.drop 0 = dktJ6_checkFromToIndex_0 := by decide +kernel
theorem dJ6_checkFromToIndex_0 : decode cJ6_checkFromToIndex 0 = .ok (.iload_n 0, 1) := dk_26 (dk_at dksJ6_checkFromToIndex_0 0 rfl rfl)
theorem dJ6_checkFromToIndex_1 : decode cJ6_checkFromToIndex 1 = .ok (.ifCond .lt 13, 3) := dk_155 0 13 (dk_at dksJ6_checkFromToIndex_0 1 rfl rfl)
theorem dJ6_checkFromToIndex_4 : decode cJ6_checkFromToIndex 4 = .ok (.iload_n 0, 1) := dk_26 (dk_at dksJ6_checkFromToIndex_0 4 rfl rfl)
theorem dJ6_checkFromToIndex_5 : decode cJ6_checkFromToIndex 5 = .ok (.iload_n 1, 1) := dk_27 (dk_at dksJ6_checkFromToIndex_0 5 rfl rfl)
theorem dJ6_checkFromToIndex_6 : decode cJ6_checkFromToIndex 6 = .ok (.if_icmp .gt 8, 3) := dk_163 0 8 (dk_at dksJ6_checkFromToIndex_0 6 rfl rfl)
theorem dJ6_checkFromToIndex_9 : decode cJ6_checkFromToIndex 9 = .ok (.iload_n 1, 1) := dk_27 (dk_at dksJ6_checkFromToIndex_0 9 rfl rfl)
theorem dJ6_checkFromToIndex_10 : decode cJ6_checkFromToIndex 10 = .ok (.iload_n 2, 1) := dk_28 (dk_at dksJ6_checkFromToIndex_0 10 rfl rfl)
theorem dJ6_checkFromToIndex_11 : decode cJ6_checkFromToIndex 11 = .ok (.if_icmp .le 11, 3) := dk_164 0 11 (dk_at dksJ6_checkFromToIndex_0 11 rfl rfl)
theorem dJ6_checkFromToIndex_14 : decode cJ6_checkFromToIndex 14 = .ok (.aload_n 3, 1) := dk_45 (dk_at dksJ6_checkFromToIndex_0 14 rfl rfl)
theorem dJ6_checkFromToIndex_15 : decode cJ6_checkFromToIndex 15 = .ok (.iload_n 0, 1) := dk_26 (dk_at dksJ6_checkFromToIndex_0 15 rfl rfl)
theorem dJ6_checkFromToIndex_16 : decode cJ6_checkFromToIndex 16 = .ok (.iload_n 1, 1) := dk_27 (dk_at dksJ6_checkFromToIndex_0 16 rfl rfl)
theorem dJ6_checkFromToIndex_17 : decode cJ6_checkFromToIndex 17 = .ok (.iload_n 2, 1) := dk_28 (dk_at dksJ6_checkFromToIndex_0 17 rfl rfl)
theorem dJ6_checkFromToIndex_18 : decode cJ6_checkFromToIndex 18 = .ok (.invokestatic 99, 3) := dk_184 0 99 (dk_at dksJ6_checkFromToIndex_0 18 rfl rfl)
theorem dJ6_checkFromToIndex_21 : decode cJ6_checkFromToIndex 21 = .ok (.athrow, 1) := dk_191 (dk_at dksJ6_checkFromToIndex_0 21 rfl rfl)
theorem dJ6_checkFromToIndex_22 : decode cJ6_checkFromToIndex 22 = .ok (.iload_n 0, 1) := dk_26 (dk_at dksJ6_checkFromToIndex_0 22 rfl rfl)
theorem dJ6_checkFromToIndex_23 : decode cJ6_checkFromToIndex 23 = .ok (.ireturn, 1) := dk_172 (dk_at dksJ6_checkFromToIndex_0 23 rfl rfl)
abbrev cJ6_checkIndex : ByteArray := prog_35_method_11_code
def yJ6_checkIndex : MethodName := ⟨RJ6, "checkIndex", "(IILjava/util/function/BiFunction;)I"⟩
def dkwJ6_checkIndex_0 : List UInt8 := [26, 155, 0, 8, 26, 27, 161, 0, 10, 44, 26, 27, 184, 0, 95, 191, 26, 172]
abbrev dktJ6_checkIndex_0 : List UInt8 := dkwJ6_checkIndex_0 ++ []
theorem dksJ6_checkIndex_0 : cJ6_checkIndex.data.toList.drop 0 = dktJ6_checkIndex_0 := by decide +kernel
theorem dJ6_checkIndex_0 : decode cJ6_checkIndex 0 = .ok (.iload_n 0, 1) := dk_26 (dk_at dksJ6_checkIndex_0 0 rfl rfl)
theorem dJ6_checkIndex_1 : decode cJ6_checkIndex 1 = .ok (.ifCond .lt 8, 3) := dk_155 0 8 (dk_at dksJ6_checkIndex_0 1 rfl rfl)
theorem dJ6_checkIndex_4 : decode cJ6_checkIndex 4 = .ok (.iload_n 0, 1) := dk_26 (dk_at dksJ6_checkIndex_0 4 rfl rfl)
theorem dJ6_checkIndex_5 : decode cJ6_checkIndex 5 = .ok (.iload_n 1, 1) := dk_27 (dk_at dksJ6_checkIndex_0 5 rfl rfl)
theorem dJ6_checkIndex_6 : decode cJ6_checkIndex 6 = .ok (.if_icmp .lt 10, 3) := dk_161 0 10 (dk_at dksJ6_checkIndex_0 6 rfl rfl)
theorem dJ6_checkIndex_9 : decode cJ6_checkIndex 9 = .ok (.aload_n 2, 1) := dk_44 (dk_at dksJ6_checkIndex_0 9 rfl rfl)
theorem dJ6_checkIndex_10 : decode cJ6_checkIndex 10 = .ok (.iload_n 0, 1) := dk_26 (dk_at dksJ6_checkIndex_0 10 rfl rfl)
theorem dJ6_checkIndex_11 : decode cJ6_checkIndex 11 = .ok (.iload_n 1, 1) := dk_27 (dk_at dksJ6_checkIndex_0 11 rfl rfl)
theorem dJ6_checkIndex_12 : decode cJ6_checkIndex 12 = .ok (.invokestatic 95, 3) := dk_184 0 95 (dk_at dksJ6_checkIndex_0 12 rfl rfl)
theorem dJ6_checkIndex_15 : decode cJ6_checkIndex 15 = .ok (.athrow, 1) := dk_191 (dk_at dksJ6_checkIndex_0 15 rfl rfl)
theorem dJ6_checkIndex_16 : decode cJ6_checkIndex 16 = .ok (.iload_n 0, 1) := dk_26 (dk_at dksJ6_checkIndex_0 16 rfl rfl)
theorem dJ6_checkIndex_17 : decode cJ6_checkIndex 17 = .ok (.ireturn, 1) := dk_172 (dk_at dksJ6_checkIndex_0 17 rfl rfl)
abbrev cJ6_checkFromIndexSize : ByteArray := prog_35_method_13_code
def yJ6_checkFromIndexSize : MethodName := ⟨RJ6, "checkFromIndexSize", "(IIILjava/util/function/BiFunction;)I"⟩
def dkwJ6_checkFromIndexSize_1 : List UInt8 := [172]
abbrev dktJ6_checkFromIndexSize_1 : List UInt8 := dkwJ6_checkFromIndexSize_1 ++ []
def dkwJ6_checkFromIndexSize_0 : List UInt8 := [28, 26, 128, 27, 128, 155, 0, 10, 27, 28, 26, 100, 164, 0, 11, 45, 26, 27, 28, 184, 0, 103, 191, 26]
abbrev dktJ6_checkFromIndexSize_0 : List UInt8 := dkwJ6_checkFromIndexSize_0 ++ dktJ6_checkFromIndexSize_1
theorem dksJ6_checkFromIndexSize_0 : cJ6_checkFromIndexSize.data.toList.drop 0 = dktJ6_checkFromIndexSize_0 := by decide +kernel
theorem dksJ6_checkFromIndexSize_1 : cJ6_checkFromIndexSize.data.toList.drop 24 = dktJ6_checkFromIndexSize_1 := dk_seg dksJ6_checkFromIndexSize_0 24 rfl rfl
theorem dJ6_checkFromIndexSize_0 : decode cJ6_checkFromIndexSize 0 = .ok (.iload_n 2, 1) := dk_28 (dk_at dksJ6_checkFromIndexSize_0 0 rfl rfl)
theorem dJ6_checkFromIndexSize_1 : decode cJ6_checkFromIndexSize 1 = .ok (.iload_n 0, 1) := dk_26 (dk_at dksJ6_checkFromIndexSize_0 1 rfl rfl)
theorem dJ6_checkFromIndexSize_2 : decode cJ6_checkFromIndexSize 2 = .ok (.ior, 1) := dk_128 (dk_at dksJ6_checkFromIndexSize_0 2 rfl rfl)
theorem dJ6_checkFromIndexSize_3 : decode cJ6_checkFromIndexSize 3 = .ok (.iload_n 1, 1) := dk_27 (dk_at dksJ6_checkFromIndexSize_0 3 rfl rfl)
theorem dJ6_checkFromIndexSize_4 : decode cJ6_checkFromIndexSize 4 = .ok (.ior, 1) := dk_128 (dk_at dksJ6_checkFromIndexSize_0 4 rfl rfl)
theorem dJ6_checkFromIndexSize_5 : decode cJ6_checkFromIndexSize 5 = .ok (.ifCond .lt 10, 3) := dk_155 0 10 (dk_at dksJ6_checkFromIndexSize_0 5 rfl rfl)
theorem dJ6_checkFromIndexSize_8 : decode cJ6_checkFromIndexSize 8 = .ok (.iload_n 1, 1) := dk_27 (dk_at dksJ6_checkFromIndexSize_0 8 rfl rfl)
theorem dJ6_checkFromIndexSize_9 : decode cJ6_checkFromIndexSize 9 = .ok (.iload_n 2, 1) := dk_28 (dk_at dksJ6_checkFromIndexSize_0 9 rfl rfl)
theorem dJ6_checkFromIndexSize_10 : decode cJ6_checkFromIndexSize 10 = .ok (.iload_n 0, 1) := dk_26 (dk_at dksJ6_checkFromIndexSize_0 10 rfl rfl)
theorem dJ6_checkFromIndexSize_11 : decode cJ6_checkFromIndexSize 11 = .ok (.isub, 1) := dk_100 (dk_at dksJ6_checkFromIndexSize_0 11 rfl rfl)
theorem dJ6_checkFromIndexSize_12 : decode cJ6_checkFromIndexSize 12 = .ok (.if_icmp .le 11, 3) := dk_164 0 11 (dk_at dksJ6_checkFromIndexSize_0 12 rfl rfl)
theorem dJ6_checkFromIndexSize_15 : decode cJ6_checkFromIndexSize 15 = .ok (.aload_n 3, 1) := dk_45 (dk_at dksJ6_checkFromIndexSize_0 15 rfl rfl)
theorem dJ6_checkFromIndexSize_16 : decode cJ6_checkFromIndexSize 16 = .ok (.iload_n 0, 1) := dk_26 (dk_at dksJ6_checkFromIndexSize_0 16 rfl rfl)
theorem dJ6_checkFromIndexSize_17 : decode cJ6_checkFromIndexSize 17 = .ok (.iload_n 1, 1) := dk_27 (dk_at dksJ6_checkFromIndexSize_0 17 rfl rfl)
theorem dJ6_checkFromIndexSize_18 : decode cJ6_checkFromIndexSize 18 = .ok (.iload_n 2, 1) := dk_28 (dk_at dksJ6_checkFromIndexSize_0 18 rfl rfl)
theorem dJ6_checkFromIndexSize_19 : decode cJ6_checkFromIndexSize 19 = .ok (.invokestatic 103, 3) := dk_184 0 103 (dk_at dksJ6_checkFromIndexSize_0 19 rfl rfl)
theorem dJ6_checkFromIndexSize_22 : decode cJ6_checkFromIndexSize 22 = .ok (.athrow, 1) := dk_191 (dk_at dksJ6_checkFromIndexSize_0 22 rfl rfl)
theorem dJ6_checkFromIndexSize_23 : decode cJ6_checkFromIndexSize 23 = .ok (.iload_n 0, 1) := dk_26 (dk_at dksJ6_checkFromIndexSize_0 23 rfl rfl)
theorem dJ6_checkFromIndexSize_24 : decode cJ6_checkFromIndexSize 24 = .ok (.ireturn, 1) := dk_172 (dk_at dksJ6_checkFromIndexSize_1 0 rfl rfl)
theorem q94 : (Jvm.Cond.initialized "jdk/internal/util/Preconditions") ∈ lw_all := lw_g (lw_at lw_m1 16 rfl) rfl
theorem q636 : (Jvm.Cond.laysStatic "jdk/internal/util/Preconditions" "SIOOBE_FORMATTER" "Ljava/util/function/BiFunction;") ∈ lw_tbl := lw_at lw_m3 78 rfl
theorem q638 : (Jvm.Cond.static ({ cls := "jdk/internal/util/Preconditions", name := "checkFromToIndex", desc := "(IIILjava/util/function/BiFunction;)I" } : Jvm.MethodName)) ∈ lw_all := lw_g (lw_at lw_m3 80 rfl) rfl
theorem q639 : (Jvm.Cond.code ({ cls := "jdk/internal/util/Preconditions", name := "checkFromToIndex", desc := "(IIILjava/util/function/BiFunction;)I" } : Jvm.MethodName) prog_35_method_12_code (4 : Nat) (Option.some Jvm.ClassFile.FieldType.int)) ∈ lw_all := lw_g (lw_at lw_m3 81 rfl) rfl
theorem q1477 : (Jvm.Cond.static ({ cls := "jdk/internal/util/Preconditions", name := "checkIndex", desc := "(IILjava/util/function/BiFunction;)I" } : Jvm.MethodName)) ∈ lw_all := lw_g (lw_at lw_m6 199 rfl) rfl
theorem q1478 : (Jvm.Cond.code ({ cls := "jdk/internal/util/Preconditions", name := "checkIndex", desc := "(IILjava/util/function/BiFunction;)I" } : Jvm.MethodName) prog_35_method_11_code (3 : Nat) (Option.some Jvm.ClassFile.FieldType.int)) ∈ lw_all := lw_g (lw_at lw_m6 200 rfl) rfl
theorem q1592 : (Jvm.Cond.static ({ cls := "jdk/internal/util/Preconditions", name := "checkFromIndexSize", desc := "(IIILjava/util/function/BiFunction;)I" } : Jvm.MethodName)) ∈ lw_all := lw_g (lw_at lw_m7 74 rfl) rfl
theorem q1593 : (Jvm.Cond.code ({ cls := "jdk/internal/util/Preconditions", name := "checkFromIndexSize", desc := "(IIILjava/util/function/BiFunction;)I" } : Jvm.MethodName) prog_35_method_13_code (4 : Nat) (Option.some Jvm.ClassFile.FieldType.int)) ∈ lw_all := lw_g (lw_at lw_m7 75 rfl) rfl
/-! java/lang/StringUTF16 -/
set_option maxRecDepth 100000
def RJ7 : String := "java/lang/StringUTF16"
abbrev cJ7_indexOf : ByteArray := prog_28_method_40_code
def yJ7_indexOf : MethodName := ⟨RJ7, "indexOf", "([BIII)I"⟩
def dkwJ7_indexOf_1 : List UInt8 := [18, 227, 162, 0, 11, 42, 27, 28, 29, 184, 0, 228, 172, 42, 27, 28, 29, 184, 0, 232, 172]
abbrev dktJ7_indexOf_1 : List UInt8 := dkwJ7_indexOf_1 ++ []
def dkwJ7_indexOf_0 : List UInt8 := [28, 3, 184, 0, 224, 61, 29, 42, 190, 4, 122, 184, 0, 183, 62, 28, 29, 161, 0, 5, 2, 172, 27]
abbrev dktJ7_indexOf_0 : List UInt8 := dkwJ7_indexOf_0 ++ dktJ7_indexOf_1
theorem dksJ7_indexOf_0 : cJ7_indexOf.data.toList.drop 0 = dktJ7_indexOf_0 := by decide +kernel
theorem dksJ7_indexOf_1 : cJ7_indexOf.data.toList.drop 23 = dktJ7_indexOf_1 := dk_seg dksJ7_indexOf_0 23 rfl rfl
theorem dJ7_indexOf_0 : decode cJ7_indexOf 0 = .ok (.iload_n 2, 1) := dk_28 (dk_at dksJ7_indexOf_0 0 rfl rfl)
theorem dJ7_indexOf_1 : decode cJ7_indexOf 1 = .ok (.iconst 0, 1) := dk_3 (dk_at dksJ7_indexOf_0 1 rfl rfl)
theorem dJ7_indexOf_2 : decode cJ7_indexOf 2 = .ok (.invokestatic 224, 3) := dk_184 0 224 (dk_at dksJ7_indexOf_0 2 rfl rfl)
theorem dJ7_indexOf_5 : decode cJ7_indexOf 5 = .ok (.istore_n 2, 1) := dk_61 (dk_at dksJ7_indexOf_0 5 rfl rfl)
theorem dJ7_indexOf_6 : decode cJ7_indexOf 6 = .ok (.iload_n 3, 1) := dk_29 (dk_at dksJ7_indexOf_0 6 rfl rfl)
theorem dJ7_indexOf_7 : decode cJ7_indexOf 7 = .ok (.aload_n 0, 1) := dk_42 (dk_at dksJ7_indexOf_0 7 rfl rfl)
theorem dJ7_indexOf_8 : decode cJ7_indexOf 8 = .ok (.arraylength, 1) := dk_190 (dk_at dksJ7_indexOf_0 8 rfl rfl)
theorem dJ7_indexOf_9 : decode cJ7_indexOf 9 = .ok (.iconst 1, 1) := dk_4 (dk_at dksJ7_indexOf_0 9 rfl rfl)
theorem dJ7_indexOf_10 : decode cJ7_indexOf 10 = .ok (.ishr, 1) := dk_122 (dk_at dksJ7_indexOf_0 10 rfl rfl)
theorem dJ7_indexOf_11 : decode cJ7_indexOf 11 = .ok (.invokestatic 183, 3) := dk_184 0 183 (dk_at dksJ7_indexOf_0 11 rfl rfl)
theorem dJ7_indexOf_14 : decode cJ7_indexOf 14 = .ok (.istore_n 3, 1) := dk_62 (dk_at dksJ7_indexOf_0 14 rfl rfl)
theorem dJ7_indexOf_15 : decode cJ7_indexOf 15 = .ok (.iload_n 2, 1) := dk_28 (dk_at dksJ7_indexOf_0 15 rfl rfl)
theorem dJ7_indexOf_16 : decode cJ7_indexOf 16 = .ok (.iload_n 3, 1) := dk_29 (dk_at dksJ7_indexOf_0 16 rfl rfl)
theorem dJ7_indexOf_17 : decode cJ7_indexOf 17 = .ok (.if_icmp .lt 5, 3) := dk_161 0 5 (dk_at dksJ7_indexOf_0 17 rfl rfl)
theorem dJ7_indexOf_20 : decode cJ7_indexOf 20 = .ok (.iconst (-1), 1) := dk_2 (dk_at dksJ7_indexOf_0 20 rfl rfl)
theorem dJ7_indexOf_21 : decode cJ7_indexOf 21 = .ok (.ireturn, 1) := dk_172 (dk_at dksJ7_indexOf_0 21 rfl rfl)
theorem dJ7_indexOf_22 : decode cJ7_indexOf 22 = .ok (.iload_n 1, 1) := dk_27 (dk_at dksJ7_indexOf_0 22 rfl rfl)
theorem dJ7_indexOf_23 : decode cJ7_indexOf 23 = .ok (.ldc 227, 2) := dk_18 227 (dk_at dksJ7_indexOf_1 0 rfl rfl)
theorem dJ7_indexOf_25 : decode cJ7_indexOf 25 = .ok (.if_icmp .ge 11, 3) := dk_162 0 11 (dk_at dksJ7_indexOf_1 2 rfl rfl)
theorem dJ7_indexOf_28 : decode cJ7_indexOf 28 = .ok (.aload_n 0, 1) := dk_42 (dk_at dksJ7_indexOf_1 5 rfl rfl)
theorem dJ7_indexOf_29 : decode cJ7_indexOf 29 = .ok (.iload_n 1, 1) := dk_27 (dk_at dksJ7_indexOf_1 6 rfl rfl)
theorem dJ7_indexOf_30 : decode cJ7_indexOf 30 = .ok (.iload_n 2, 1) := dk_28 (dk_at dksJ7_indexOf_1 7 rfl rfl)
theorem dJ7_indexOf_31 : decode cJ7_indexOf 31 = .ok (.iload_n 3, 1) := dk_29 (dk_at dksJ7_indexOf_1 8 rfl rfl)
theorem dJ7_indexOf_32 : decode cJ7_indexOf 32 = .ok (.invokestatic 228, 3) := dk_184 0 228 (dk_at dksJ7_indexOf_1 9 rfl rfl)
theorem dJ7_indexOf_35 : decode cJ7_indexOf 35 = .ok (.ireturn, 1) := dk_172 (dk_at dksJ7_indexOf_1 12 rfl rfl)
theorem dJ7_indexOf_36 : decode cJ7_indexOf 36 = .ok (.aload_n 0, 1) := dk_42 (dk_at dksJ7_indexOf_1 13 rfl rfl)
theorem dJ7_indexOf_37 : decode cJ7_indexOf 37 = .ok (.iload_n 1, 1) := dk_27 (dk_at dksJ7_indexOf_1 14 rfl rfl)
theorem dJ7_indexOf_38 : decode cJ7_indexOf 38 = .ok (.iload_n 2, 1) := dk_28 (dk_at dksJ7_indexOf_1 15 rfl rfl)
theorem dJ7_indexOf_39 : decode cJ7_indexOf 39 = .ok (.iload_n 3, 1) := dk_29 (dk_at dksJ7_indexOf_1 16 rfl rfl)
theorem dJ7_indexOf_40 : decode cJ7_indexOf 40 = .ok (.invokestatic 232, 3) := dk_184 0 232 (dk_at dksJ7_indexOf_1 17 rfl rfl)
theorem dJ7_indexOf_43 : decode cJ7_indexOf 43 = .ok (.ireturn, 1) := dk_172 (dk_at dksJ7_indexOf_1 20 rfl rfl)
abbrev cJ7_indexOfChar : ByteArray := prog_28_method_47_code
def yJ7_indexOfChar : MethodName := ⟨RJ7, "indexOfChar", "([BIII)I"⟩
def dkwJ7_indexOfChar_0 : List UInt8 := [28, 29, 42, 184, 0, 96, 42, 27, 28, 29, 184, 0, 244, 172]
abbrev dktJ7_indexOfChar_0 : List UInt8 := dkwJ7_indexOfChar_0 ++ []
theorem dksJ7_indexOfChar_0 : cJ7_indexOfChar.data.toList.drop 0 = dktJ7_indexOfChar_0 := by decide +kernel
theorem dJ7_indexOfChar_0 : decode cJ7_indexOfChar 0 = .ok (.iload_n 2, 1) := dk_28 (dk_at dksJ7_indexOfChar_0 0 rfl rfl)
theorem dJ7_indexOfChar_1 : decode cJ7_indexOfChar 1 = .ok (.iload_n 3, 1) := dk_29 (dk_at dksJ7_indexOfChar_0 1 rfl rfl)
theorem dJ7_indexOfChar_2 : decode cJ7_indexOfChar 2 = .ok (.aload_n 0, 1) := dk_42 (dk_at dksJ7_indexOfChar_0 2 rfl rfl)
theorem dJ7_indexOfChar_3 : decode cJ7_indexOfChar 3 = .ok (.invokestatic 96, 3) := dk_184 0 96 (dk_at dksJ7_indexOfChar_0 3 rfl rfl)
theorem dJ7_indexOfChar_6 : decode cJ7_indexOfChar 6 = .ok (.aload_n 0, 1) := dk_42 (dk_at dksJ7_indexOfChar_0 6 rfl rfl)
theorem dJ7_indexOfChar_7 : decode cJ7_indexOfChar 7 = .ok (.iload_n 1, 1) := dk_27 (dk_at dksJ7_indexOfChar_0 7 rfl rfl)
theorem dJ7_indexOfChar_8 : decode cJ7_indexOfChar 8 = .ok (.iload_n 2, 1) := dk_28 (dk_at dksJ7_indexOfChar_0 8 rfl rfl)
theorem dJ7_indexOfChar_9 : decode cJ7_indexOfChar 9 = .ok (.iload_n 3, 1) := dk_29 (dk_at dksJ7_indexOfChar_0 9 rfl rfl)
theorem dJ7_indexOfChar_10 : decode cJ7_indexOfChar 10 = .ok (.invokestatic 244, 3) := dk_184 0 244 (dk_at dksJ7_indexOfChar_0 10 rfl rfl)
theorem dJ7_indexOfChar_13 : decode cJ7_indexOfChar 13 = .ok (.ireturn, 1) := dk_172 (dk_at dksJ7_indexOfChar_0 13 rfl rfl)
abbrev cJ7_checkBoundsBeginEnd : ByteArray := prog_28_method_93_code
def yJ7_checkBoundsBeginEnd : MethodName := ⟨RJ7, "checkBoundsBeginEnd", "(II[B)V"⟩
def dkwJ7_checkBoundsBeginEnd_0 : List UInt8 := [26, 27, 44, 184, 0, 48, 184, 0, 241, 177]
abbrev dktJ7_checkBoundsBeginEnd_0 : List UInt8 := dkwJ7_checkBoundsBeginEnd_0 ++ []
theorem dksJ7_checkBoundsBeginEnd_0 : cJ7_checkBoundsBeginEnd.data.toList.drop 0 = dktJ7_checkBoundsBeginEnd_0 := by decide +kernel
theorem dJ7_checkBoundsBeginEnd_0 : decode cJ7_checkBoundsBeginEnd 0 = .ok (.iload_n 0, 1) := dk_26 (dk_at dksJ7_checkBoundsBeginEnd_0 0 rfl rfl)
theorem dJ7_checkBoundsBeginEnd_1 : decode cJ7_checkBoundsBeginEnd 1 = .ok (.iload_n 1, 1) := dk_27 (dk_at dksJ7_checkBoundsBeginEnd_0 1 rfl rfl)
theorem dJ7_checkBoundsBeginEnd_2 : decode cJ7_checkBoundsBeginEnd 2 = .ok (.aload_n 2, 1) := dk_44 (dk_at dksJ7_checkBoundsBeginEnd_0 2 rfl rfl)
theorem dJ7_checkBoundsBeginEnd_3 : decode cJ7_checkBoundsBeginEnd 3 = .ok (.invokestatic 48, 3) := dk_184 0 48 (dk_at dksJ7_checkBoundsBeginEnd_0 3 rfl rfl)
theorem dJ7_checkBoundsBeginEnd_6 : decode cJ7_checkBoundsBeginEnd 6 = .ok (.invokestatic 241, 3) := dk_184 0 241 (dk_at dksJ7_checkBoundsBeginEnd_0 6 rfl rfl)
theorem dJ7_checkBoundsBeginEnd_9 : decode cJ7_checkBoundsBeginEnd 9 = .ok (.return_, 1) := dk_177 (dk_at dksJ7_checkBoundsBeginEnd_0 9 rfl rfl)
abbrev cJ7_length : ByteArray := prog_28_method_6_code
def yJ7_length : MethodName := ⟨RJ7, "length", "([B)I"⟩
def dkwJ7_length_0 : List UInt8 := [42, 190, 4, 122, 172]
abbrev dktJ7_length_0 : List UInt8 := dkwJ7_length_0 ++ []
theorem dksJ7_length_0 : cJ7_length.data.toList.drop 0 = dktJ7_length_0 := by decide +kernel
theorem dJ7_length_0 : decode cJ7_length 0 = .ok (.aload_n 0, 1) := dk_42 (dk_at dksJ7_length_0 0 rfl rfl)
theorem dJ7_length_1 : decode cJ7_length 1 = .ok (.arraylength, 1) := dk_190 (dk_at dksJ7_length_0 1 rfl rfl)
theorem dJ7_length_2 : decode cJ7_length 2 = .ok (.iconst 1, 1) := dk_4 (dk_at dksJ7_length_0 2 rfl rfl)
theorem dJ7_length_3 : decode cJ7_length 3 = .ok (.ishr, 1) := dk_122 (dk_at dksJ7_length_0 3 rfl rfl)
theorem dJ7_length_4 : decode cJ7_length 4 = .ok (.ireturn, 1) := dk_172 (dk_at dksJ7_length_0 4 rfl rfl)
abbrev cJ7_indexOfCharUnsafe : ByteArray := prog_28_method_48_code
def yJ7_indexOfCharUnsafe : MethodName := ⟨RJ7, "indexOfCharUnsafe", "([BIII)I"⟩
def dkwJ7_indexOfCharUnsafe_1 : List UInt8 := [132, 4, 1, 167, 255, 234, 2, 172]
abbrev dktJ7_indexOfCharUnsafe_1 : List UInt8 := dkwJ7_indexOfCharUnsafe_1 ++ []
def dkwJ7_indexOfCharUnsafe_0 : List UInt8 := [28, 54, 4, 21, 4, 29, 162, 0, 22, 42, 21, 4, 184, 0, 71, 27, 160, 0, 6, 21, 4, 172]
abbrev dktJ7_indexOfCharUnsafe_0 : List UInt8 := dkwJ7_indexOfCharUnsafe_0 ++ dktJ7_indexOfCharUnsafe_1
theorem dksJ7_indexOfCharUnsafe_0 : cJ7_indexOfCharUnsafe.data.toList.drop 0 = dktJ7_indexOfCharUnsafe_0 := by decide +kernel
theorem dksJ7_indexOfCharUnsafe_1 : cJ7_indexOfCharUnsafe.data.toList.drop 22 = dktJ7_indexOfCharUnsafe_1 := dk_seg dksJ7_indexOfCharUnsafe_0 22 rfl rfl
theorem dJ7_indexOfCharUnsafe_0 : decode cJ7_indexOfCharUnsafe 0 = .ok (.iload_n 2, 1) := dk_28 (dk_at dksJ7_indexOfCharUnsafe_0 0 rfl rfl)
theorem dJ7_indexOfCharUnsafe_1 : decode cJ7_indexOfCharUnsafe 1 = .ok (.istore 4, 2) := dk_54 4 (dk_at dksJ7_indexOfCharUnsafe_0 1 rfl rfl)
theorem dJ7_indexOfCharUnsafe_3 : decode cJ7_indexOfCharUnsafe 3 = .ok (.iload 4, 2) := dk_21 4 (dk_at dksJ7_indexOfCharUnsafe_0 3 rfl rfl)
theorem dJ7_indexOfCharUnsafe_5 : decode cJ7_indexOfCharUnsafe 5 = .ok (.iload_n 3, 1) := dk_29 (dk_at dksJ7_indexOfCharUnsafe_0 5 rfl rfl)
theorem dJ7_indexOfCharUnsafe_6 : decode cJ7_indexOfCharUnsafe 6 = .ok (.if_icmp .ge 22, 3) := dk_162 0 22 (dk_at dksJ7_indexOfCharUnsafe_0 6 rfl rfl)
theorem dJ7_indexOfCharUnsafe_9 : decode cJ7_indexOfCharUnsafe 9 = .ok (.aload_n 0, 1) := dk_42 (dk_at dksJ7_indexOfCharUnsafe_0 9 rfl rfl)
theorem dJ7_indexOfCharUnsafe_10 : decode cJ7_indexOfCharUnsafe 10 = .ok (.iload 4, 2) := dk_21 4 (dk_at dksJ7_indexOfCharUnsafe_0 10 rfl rfl)
theorem dJ7_indexOfCharUnsafe_12 : decode cJ7_indexOfCharUnsafe 12 = .ok (.invokestatic 71, 3) := dk_184 0 71 (dk_at dksJ7_indexOfCharUnsafe_0 12 rfl rfl)
theorem dJ7_indexOfCharUnsafe_15 : decode cJ7_indexOfCharUnsafe 15 = .ok (.iload_n 1, 1) := dk_27 (dk_at dksJ7_indexOfCharUnsafe_0 15 rfl rfl)
theorem dJ7_indexOfCharUnsafe_16 : decode cJ7_indexOfCharUnsafe 16 = .ok (.if_icmp .ne 6, 3) := dk_160 0 6 (dk_at dksJ7_indexOfCharUnsafe_0 16 rfl rfl)
theorem dJ7_indexOfCharUnsafe_19 : decode cJ7_indexOfCharUnsafe 19 = .ok (.iload 4, 2) := dk_21 4 (dk_at dksJ7_indexOfCharUnsafe_0 19 rfl rfl)
theorem dJ7_indexOfCharUnsafe_21 : decode cJ7_indexOfCharUnsafe 21 = .ok (.ireturn, 1) := dk_172 (dk_at dksJ7_indexOfCharUnsafe_0 21 rfl rfl)
theorem dJ7_indexOfCharUnsafe_22 : decode cJ7_indexOfCharUnsafe 22 = .ok (.iinc 4 1, 3) := dk_132 4 1 (dk_at dksJ7_indexOfCharUnsafe_1 0 rfl rfl)
theorem dJ7_indexOfCharUnsafe_25 : decode cJ7_indexOfCharUnsafe 25 = .ok (.goto (-22), 3) := dk_167 255 234 (dk_at dksJ7_indexOfCharUnsafe_1 3 rfl rfl)
theorem dJ7_indexOfCharUnsafe_28 : decode cJ7_indexOfCharUnsafe 28 = .ok (.iconst (-1), 1) := dk_2 (dk_at dksJ7_indexOfCharUnsafe_1 6 rfl rfl)
theorem dJ7_indexOfCharUnsafe_29 : decode cJ7_indexOfCharUnsafe 29 = .ok (.ireturn, 1) := dk_172 (dk_at dksJ7_indexOfCharUnsafe_1 7 rfl rfl)
abbrev cJ7_getChar : ByteArray := prog_28_method_5_code
def yJ7_getChar : MethodName := ⟨RJ7, "getChar", "([BI)C"⟩
def dkwJ7_getChar_2 : List UInt8 := [51, 17, 0, 255, 126, 178, 0, 63, 120, 128, 146, 172]
abbrev dktJ7_getChar_2 : List UInt8 := dkwJ7_getChar_2 ++ []
def dkwJ7_getChar_1 : List UInt8 := [183, 0, 56, 191, 27, 4, 120, 60, 42, 27, 132, 1, 1, 51, 17, 0, 255, 126, 178, 0, 59, 120, 42, 27]
abbrev dktJ7_getChar_1 : List UInt8 := dkwJ7_getChar_1 ++ dktJ7_getChar_2
def dkwJ7_getChar_0 : List UInt8 := [178, 0, 44, 154, 0, 25, 27, 155, 0, 11, 27, 42, 184, 0, 48, 161, 0, 13, 187, 0, 52, 89, 18, 54]
abbrev dktJ7_getChar_0 : List UInt8 := dkwJ7_getChar_0 ++ dktJ7_getChar_1
theorem dksJ7_getChar_0 : cJ7_getChar.data.toList.drop 0 = dktJ7_getChar_0 := by decide +kernel
theorem dksJ7_getChar_1 : cJ7_getChar.data.toList.drop 24 = dktJ7_getChar_1 := dk_seg dksJ7_getChar_0 24 rfl rfl
theorem dksJ7_getChar_2 : cJ7_getChar.data.toList.drop 48 = dktJ7_getChar_2 := dk_seg dksJ7_getChar_1 24 rfl rfl
theorem dJ7_getChar_0 : decode cJ7_getChar 0 = .ok (.getstatic 44, 3) := dk_178 0 44 (dk_at dksJ7_getChar_0 0 rfl rfl)
theorem dJ7_getChar_3 : decode cJ7_getChar 3 = .ok (.ifCond .ne 25, 3) := dk_154 0 25 (dk_at dksJ7_getChar_0 3 rfl rfl)
theorem dJ7_getChar_6 : decode cJ7_getChar 6 = .ok (.iload_n 1, 1) := dk_27 (dk_at dksJ7_getChar_0 6 rfl rfl)
theorem dJ7_getChar_7 : decode cJ7_getChar 7 = .ok (.ifCond .lt 11, 3) := dk_155 0 11 (dk_at dksJ7_getChar_0 7 rfl rfl)
theorem dJ7_getChar_10 : decode cJ7_getChar 10 = .ok (.iload_n 1, 1) := dk_27 (dk_at dksJ7_getChar_0 10 rfl rfl)
theorem dJ7_getChar_11 : decode cJ7_getChar 11 = .ok (.aload_n 0, 1) := dk_42 (dk_at dksJ7_getChar_0 11 rfl rfl)
theorem dJ7_getChar_12 : decode cJ7_getChar 12 = .ok (.invokestatic 48, 3) := dk_184 0 48 (dk_at dksJ7_getChar_0 12 rfl rfl)
theorem dJ7_getChar_15 : decode cJ7_getChar 15 = .ok (.if_icmp .lt 13, 3) := dk_161 0 13 (dk_at dksJ7_getChar_0 15 rfl rfl)
theorem dJ7_getChar_18 : decode cJ7_getChar 18 = .ok (.new 52, 3) := dk_187 0 52 (dk_at dksJ7_getChar_0 18 rfl rfl)
theorem dJ7_getChar_21 : decode cJ7_getChar 21 = .ok (.dup, 1) := dk_89 (dk_at dksJ7_getChar_0 21 rfl rfl)
theorem dJ7_getChar_22 : decode cJ7_getChar 22 = .ok (.ldc 54, 2) := dk_18 54 (dk_at dksJ7_getChar_0 22 rfl rfl)
theorem dJ7_getChar_24 : decode cJ7_getChar 24 = .ok (.invokespecial 56, 3) := dk_183 0 56 (dk_at dksJ7_getChar_1 0 rfl rfl)
theorem dJ7_getChar_27 : decode cJ7_getChar 27 = .ok (.athrow, 1) := dk_191 (dk_at dksJ7_getChar_1 3 rfl rfl)
theorem dJ7_getChar_28 : decode cJ7_getChar 28 = .ok (.iload_n 1, 1) := dk_27 (dk_at dksJ7_getChar_1 4 rfl rfl)
theorem dJ7_getChar_29 : decode cJ7_getChar 29 = .ok (.iconst 1, 1) := dk_4 (dk_at dksJ7_getChar_1 5 rfl rfl)
theorem dJ7_getChar_30 : decode cJ7_getChar 30 = .ok (.ishl, 1) := dk_120 (dk_at dksJ7_getChar_1 6 rfl rfl)
theorem dJ7_getChar_31 : decode cJ7_getChar 31 = .ok (.istore_n 1, 1) := dk_60 (dk_at dksJ7_getChar_1 7 rfl rfl)
theorem dJ7_getChar_32 : decode cJ7_getChar 32 = .ok (.aload_n 0, 1) := dk_42 (dk_at dksJ7_getChar_1 8 rfl rfl)
theorem dJ7_getChar_33 : decode cJ7_getChar 33 = .ok (.iload_n 1, 1) := dk_27 (dk_at dksJ7_getChar_1 9 rfl rfl)
theorem dJ7_getChar_34 : decode cJ7_getChar 34 = .ok (.iinc 1 1, 3) := dk_132 1 1 (dk_at dksJ7_getChar_1 10 rfl rfl)
theorem dJ7_getChar_37 : decode cJ7_getChar 37 = .ok (.baload, 1) := dk_51 (dk_at dksJ7_getChar_1 13 rfl rfl)
theorem dJ7_getChar_38 : decode cJ7_getChar 38 = .ok (.sipush 255, 3) := dk_17 0 255 (dk_at dksJ7_getChar_1 14 rfl rfl)
theorem dJ7_getChar_41 : decode cJ7_getChar 41 = .ok (.iand, 1) := dk_126 (dk_at dksJ7_getChar_1 17 rfl rfl)
theorem dJ7_getChar_42 : decode cJ7_getChar 42 = .ok (.getstatic 59, 3) := dk_178 0 59 (dk_at dksJ7_getChar_1 18 rfl rfl)
theorem dJ7_getChar_45 : decode cJ7_getChar 45 = .ok (.ishl, 1) := dk_120 (dk_at dksJ7_getChar_1 21 rfl rfl)
theorem dJ7_getChar_46 : decode cJ7_getChar 46 = .ok (.aload_n 0, 1) := dk_42 (dk_at dksJ7_getChar_1 22 rfl rfl)
theorem dJ7_getChar_47 : decode cJ7_getChar 47 = .ok (.iload_n 1, 1) := dk_27 (dk_at dksJ7_getChar_1 23 rfl rfl)
theorem dJ7_getChar_48 : decode cJ7_getChar 48 = .ok (.baload, 1) := dk_51 (dk_at dksJ7_getChar_2 0 rfl rfl)
theorem dJ7_getChar_49 : decode cJ7_getChar 49 = .ok (.sipush 255, 3) := dk_17 0 255 (dk_at dksJ7_getChar_2 1 rfl rfl)
theorem dJ7_getChar_52 : decode cJ7_getChar 52 = .ok (.iand, 1) := dk_126 (dk_at dksJ7_getChar_2 4 rfl rfl)
theorem dJ7_getChar_53 : decode cJ7_getChar 53 = .ok (.getstatic 63, 3) := dk_178 0 63 (dk_at dksJ7_getChar_2 5 rfl rfl)
theorem dJ7_getChar_56 : decode cJ7_getChar 56 = .ok (.ishl, 1) := dk_120 (dk_at dksJ7_getChar_2 8 rfl rfl)
theorem dJ7_getChar_57 : decode cJ7_getChar 57 = .ok (.ior, 1) := dk_128 (dk_at dksJ7_getChar_2 9 rfl rfl)
theorem dJ7_getChar_58 : decode cJ7_getChar 58 = .ok (.i2c, 1) := dk_146 (dk_at dksJ7_getChar_2 10 rfl rfl)
theorem dJ7_getChar_59 : decode cJ7_getChar 59 = .ok (.ireturn, 1) := dk_172 (dk_at dksJ7_getChar_2 11 rfl rfl)
abbrev cJ7_indexOfSupplementary : ByteArray := prog_28_method_49_code
def yJ7_indexOfSupplementary : MethodName := ⟨RJ7, "indexOfSupplementary", "([BIII)I"⟩
def dkwJ7_indexOfSupplementary_3 : List UInt8 := [167, 255, 218, 2, 172]
abbrev dktJ7_indexOfSupplementary_3 : List UInt8 := dkwJ7_indexOfSupplementary_3 ++ []
def dkwJ7_indexOfSupplementary_2 : List UInt8 := [160, 0, 19, 42, 21, 6, 4, 96, 184, 0, 71, 21, 5, 160, 0, 6, 21, 6, 172, 132, 6, 1]
abbrev dktJ7_indexOfSupplementary_2 : List UInt8 := dkwJ7_indexOfSupplementary_2 ++ dktJ7_indexOfSupplementary_3
def dkwJ7_indexOfSupplementary_1 : List UInt8 := [184, 0, 96, 28, 54, 6, 21, 6, 29, 4, 100, 162, 0, 36, 42, 21, 6, 184, 0, 71, 21, 4]
abbrev dktJ7_indexOfSupplementary_1 : List UInt8 := dkwJ7_indexOfSupplementary_1 ++ dktJ7_indexOfSupplementary_2
def dkwJ7_indexOfSupplementary_0 : List UInt8 := [27, 184, 0, 164, 153, 0, 65, 27, 184, 0, 157, 54, 4, 27, 184, 0, 161, 54, 5, 28, 29, 42]
abbrev dktJ7_indexOfSupplementary_0 : List UInt8 := dkwJ7_indexOfSupplementary_0 ++ dktJ7_indexOfSupplementary_1
theorem dksJ7_indexOfSupplementary_0 : cJ7_indexOfSupplementary.data.toList.drop 0 = dktJ7_indexOfSupplementary_0 := by decide +kernel
theorem dksJ7_indexOfSupplementary_1 : cJ7_indexOfSupplementary.data.toList.drop 22 = dktJ7_indexOfSupplementary_1 := dk_seg dksJ7_indexOfSupplementary_0 22 rfl rfl
theorem dksJ7_indexOfSupplementary_2 : cJ7_indexOfSupplementary.data.toList.drop 44 = dktJ7_indexOfSupplementary_2 := dk_seg dksJ7_indexOfSupplementary_1 22 rfl rfl
theorem dksJ7_indexOfSupplementary_3 : cJ7_indexOfSupplementary.data.toList.drop 66 = dktJ7_indexOfSupplementary_3 := dk_seg dksJ7_indexOfSupplementary_2 22 rfl rfl
theorem dJ7_indexOfSupplementary_0 : decode cJ7_indexOfSupplementary 0 = .ok (.iload_n 1, 1) := dk_27 (dk_at dksJ7_indexOfSupplementary_0 0 rfl rfl)
theorem dJ7_indexOfSupplementary_1 : decode cJ7_indexOfSupplementary 1 = .ok (.invokestatic 164, 3) := dk_184 0 164 (dk_at dksJ7_indexOfSupplementary_0 1 rfl rfl)
theorem dJ7_indexOfSupplementary_4 : decode cJ7_indexOfSupplementary 4 = .ok (.ifCond .eq 65, 3) := dk_153 0 65 (dk_at dksJ7_indexOfSupplementary_0 4 rfl rfl)
theorem dJ7_indexOfSupplementary_7 : decode cJ7_indexOfSupplementary 7 = .ok (.iload_n 1, 1) := dk_27 (dk_at dksJ7_indexOfSupplementary_0 7 rfl rfl)
theorem dJ7_indexOfSupplementary_8 : decode cJ7_indexOfSupplementary 8 = .ok (.invokestatic 157, 3) := dk_184 0 157 (dk_at dksJ7_indexOfSupplementary_0 8 rfl rfl)
theorem dJ7_indexOfSupplementary_11 : decode cJ7_indexOfSupplementary 11 = .ok (.istore 4, 2) := dk_54 4 (dk_at dksJ7_indexOfSupplementary_0 11 rfl rfl)
theorem dJ7_indexOfSupplementary_13 : decode cJ7_indexOfSupplementary 13 = .ok (.iload_n 1, 1) := dk_27 (dk_at dksJ7_indexOfSupplementary_0 13 rfl rfl)
theorem dJ7_indexOfSupplementary_14 : decode cJ7_indexOfSupplementary 14 = .ok (.invokestatic 161, 3) := dk_184 0 161 (dk_at dksJ7_indexOfSupplementary_0 14 rfl rfl)
theorem dJ7_indexOfSupplementary_17 : decode cJ7_indexOfSupplementary 17 = .ok (.istore 5, 2) := dk_54 5 (dk_at dksJ7_indexOfSupplementary_0 17 rfl rfl)
theorem dJ7_indexOfSupplementary_19 : decode cJ7_indexOfSupplementary 19 = .ok (.iload_n 2, 1) := dk_28 (dk_at dksJ7_indexOfSupplementary_0 19 rfl rfl)
theorem dJ7_indexOfSupplementary_20 : decode cJ7_indexOfSupplementary 20 = .ok (.iload_n 3, 1) := dk_29 (dk_at dksJ7_indexOfSupplementary_0 20 rfl rfl)
theorem dJ7_indexOfSupplementary_21 : decode cJ7_indexOfSupplementary 21 = .ok (.aload_n 0, 1) := dk_42 (dk_at dksJ7_indexOfSupplementary_0 21 rfl rfl)
theorem dJ7_indexOfSupplementary_22 : decode cJ7_indexOfSupplementary 22 = .ok (.invokestatic 96, 3) := dk_184 0 96 (dk_at dksJ7_indexOfSupplementary_1 0 rfl rfl)
theorem dJ7_indexOfSupplementary_25 : decode cJ7_indexOfSupplementary 25 = .ok (.iload_n 2, 1) := dk_28 (dk_at dksJ7_indexOfSupplementary_1 3 rfl rfl)
theorem dJ7_indexOfSupplementary_26 : decode cJ7_indexOfSupplementary 26 = .ok (.istore 6, 2) := dk_54 6 (dk_at dksJ7_indexOfSupplementary_1 4 rfl rfl)
theorem dJ7_indexOfSupplementary_28 : decode cJ7_indexOfSupplementary 28 = .ok (.iload 6, 2) := dk_21 6 (dk_at dksJ7_indexOfSupplementary_1 6 rfl rfl)
theorem dJ7_indexOfSupplementary_30 : decode cJ7_indexOfSupplementary 30 = .ok (.iload_n 3, 1) := dk_29 (dk_at dksJ7_indexOfSupplementary_1 8 rfl rfl)
theorem dJ7_indexOfSupplementary_31 : decode cJ7_indexOfSupplementary 31 = .ok (.iconst 1, 1) := dk_4 (dk_at dksJ7_indexOfSupplementary_1 9 rfl rfl)
theorem dJ7_indexOfSupplementary_32 : decode cJ7_indexOfSupplementary 32 = .ok (.isub, 1) := dk_100 (dk_at dksJ7_indexOfSupplementary_1 10 rfl rfl)
theorem dJ7_indexOfSupplementary_33 : decode cJ7_indexOfSupplementary 33 = .ok (.if_icmp .ge 36, 3) := dk_162 0 36 (dk_at dksJ7_indexOfSupplementary_1 11 rfl rfl)
theorem dJ7_indexOfSupplementary_36 : decode cJ7_indexOfSupplementary 36 = .ok (.aload_n 0, 1) := dk_42 (dk_at dksJ7_indexOfSupplementary_1 14 rfl rfl)
theorem dJ7_indexOfSupplementary_37 : decode cJ7_indexOfSupplementary 37 = .ok (.iload 6, 2) := dk_21 6 (dk_at dksJ7_indexOfSupplementary_1 15 rfl rfl)
theorem dJ7_indexOfSupplementary_39 : decode cJ7_indexOfSupplementary 39 = .ok (.invokestatic 71, 3) := dk_184 0 71 (dk_at dksJ7_indexOfSupplementary_1 17 rfl rfl)
theorem dJ7_indexOfSupplementary_42 : decode cJ7_indexOfSupplementary 42 = .ok (.iload 4, 2) := dk_21 4 (dk_at dksJ7_indexOfSupplementary_1 20 rfl rfl)
theorem dJ7_indexOfSupplementary_44 : decode cJ7_indexOfSupplementary 44 = .ok (.if_icmp .ne 19, 3) := dk_160 0 19 (dk_at dksJ7_indexOfSupplementary_2 0 rfl rfl)
theorem dJ7_indexOfSupplementary_47 : decode cJ7_indexOfSupplementary 47 = .ok (.aload_n 0, 1) := dk_42 (dk_at dksJ7_indexOfSupplementary_2 3 rfl rfl)
theorem dJ7_indexOfSupplementary_48 : decode cJ7_indexOfSupplementary 48 = .ok (.iload 6, 2) := dk_21 6 (dk_at dksJ7_indexOfSupplementary_2 4 rfl rfl)
theorem dJ7_indexOfSupplementary_50 : decode cJ7_indexOfSupplementary 50 = .ok (.iconst 1, 1) := dk_4 (dk_at dksJ7_indexOfSupplementary_2 6 rfl rfl)
theorem dJ7_indexOfSupplementary_51 : decode cJ7_indexOfSupplementary 51 = .ok (.iadd, 1) := dk_96 (dk_at dksJ7_indexOfSupplementary_2 7 rfl rfl)
theorem dJ7_indexOfSupplementary_52 : decode cJ7_indexOfSupplementary 52 = .ok (.invokestatic 71, 3) := dk_184 0 71 (dk_at dksJ7_indexOfSupplementary_2 8 rfl rfl)
theorem dJ7_indexOfSupplementary_55 : decode cJ7_indexOfSupplementary 55 = .ok (.iload 5, 2) := dk_21 5 (dk_at dksJ7_indexOfSupplementary_2 11 rfl rfl)
theorem dJ7_indexOfSupplementary_57 : decode cJ7_indexOfSupplementary 57 = .ok (.if_icmp .ne 6, 3) := dk_160 0 6 (dk_at dksJ7_indexOfSupplementary_2 13 rfl rfl)
theorem dJ7_indexOfSupplementary_60 : decode cJ7_indexOfSupplementary 60 = .ok (.iload 6, 2) := dk_21 6 (dk_at dksJ7_indexOfSupplementary_2 16 rfl rfl)
theorem dJ7_indexOfSupplementary_62 : decode cJ7_indexOfSupplementary 62 = .ok (.ireturn, 1) := dk_172 (dk_at dksJ7_indexOfSupplementary_2 18 rfl rfl)
theorem dJ7_indexOfSupplementary_63 : decode cJ7_indexOfSupplementary 63 = .ok (.iinc 6 1, 3) := dk_132 6 1 (dk_at dksJ7_indexOfSupplementary_2 19 rfl rfl)
theorem dJ7_indexOfSupplementary_66 : decode cJ7_indexOfSupplementary 66 = .ok (.goto (-38), 3) := dk_167 255 218 (dk_at dksJ7_indexOfSupplementary_3 0 rfl rfl)
theorem dJ7_indexOfSupplementary_69 : decode cJ7_indexOfSupplementary 69 = .ok (.iconst (-1), 1) := dk_2 (dk_at dksJ7_indexOfSupplementary_3 3 rfl rfl)
theorem dJ7_indexOfSupplementary_70 : decode cJ7_indexOfSupplementary 70 = .ok (.ireturn, 1) := dk_172 (dk_at dksJ7_indexOfSupplementary_3 4 rfl rfl)
abbrev cJ7_charAt : ByteArray := prog_28_method_83_code
def yJ7_charAt : MethodName := ⟨RJ7, "charAt", "([BI)C"⟩
def dkwJ7_charAt_0 : List UInt8 := [27, 42, 184, 0, 67, 42, 27, 184, 0, 71, 172]
abbrev dktJ7_charAt_0 : List UInt8 := dkwJ7_charAt_0 ++ []
theorem dksJ7_charAt_0 : cJ7_charAt.data.toList.drop 0 = dktJ7_charAt_0 := by decide +kernel
theorem dJ7_charAt_0 : decode cJ7_charAt 0 = .ok (.iload_n 1, 1) := dk_27 (dk_at dksJ7_charAt_0 0 rfl rfl)
theorem dJ7_charAt_1 : decode cJ7_charAt 1 = .ok (.aload_n 0, 1) := dk_42 (dk_at dksJ7_charAt_0 1 rfl rfl)
theorem dJ7_charAt_2 : decode cJ7_charAt 2 = .ok (.invokestatic 67, 3) := dk_184 0 67 (dk_at dksJ7_charAt_0 2 rfl rfl)
theorem dJ7_charAt_5 : decode cJ7_charAt 5 = .ok (.aload_n 0, 1) := dk_42 (dk_at dksJ7_charAt_0 5 rfl rfl)
theorem dJ7_charAt_6 : decode cJ7_charAt 6 = .ok (.iload_n 1, 1) := dk_27 (dk_at dksJ7_charAt_0 6 rfl rfl)
theorem dJ7_charAt_7 : decode cJ7_charAt 7 = .ok (.invokestatic 71, 3) := dk_184 0 71 (dk_at dksJ7_charAt_0 7 rfl rfl)
theorem dJ7_charAt_10 : decode cJ7_charAt 10 = .ok (.ireturn, 1) := dk_172 (dk_at dksJ7_charAt_0 10 rfl rfl)
abbrev cJ7_checkIndex : ByteArray := prog_28_method_91_code
def yJ7_checkIndex : MethodName := ⟨RJ7, "checkIndex", "(I[B)V"⟩
def dkwJ7_checkIndex_0 : List UInt8 := [26, 43, 184, 0, 48, 184, 1, 158, 177]
abbrev dktJ7_checkIndex_0 : List UInt8 := dkwJ7_checkIndex_0 ++ []
theorem dksJ7_checkIndex_0 : cJ7_checkIndex.data.toList.drop 0 = dktJ7_checkIndex_0 := by decide +kernel
theorem dJ7_checkIndex_0 : decode cJ7_checkIndex 0 = .ok (.iload_n 0, 1) := dk_26 (dk_at dksJ7_checkIndex_0 0 rfl rfl)
theorem dJ7_checkIndex_1 : decode cJ7_checkIndex 1 = .ok (.aload_n 1, 1) := dk_43 (dk_at dksJ7_checkIndex_0 1 rfl rfl)
theorem dJ7_checkIndex_2 : decode cJ7_checkIndex 2 = .ok (.invokestatic 48, 3) := dk_184 0 48 (dk_at dksJ7_checkIndex_0 2 rfl rfl)
theorem dJ7_checkIndex_5 : decode cJ7_checkIndex 5 = .ok (.invokestatic 414, 3) := dk_184 1 158 (dk_at dksJ7_checkIndex_0 5 rfl rfl)
theorem dJ7_checkIndex_8 : decode cJ7_checkIndex 8 = .ok (.return_, 1) := dk_177 (dk_at dksJ7_checkIndex_0 8 rfl rfl)
abbrev cJ7_newString : ByteArray := prog_28_method_69_code
def yJ7_newString : MethodName := ⟨RJ7, "newString", "([BII)Ljava/lang/String;"⟩
def dkwJ7_newString_2 : List UInt8 := [42, 27, 4, 120, 29, 4, 120, 184, 0, 126, 4, 183, 1, 7, 176]
abbrev dktJ7_newString_2 : List UInt8 := dkwJ7_newString_2 ++ []
def dkwJ7_newString_1 : List UInt8 := [184, 1, 3, 54, 4, 187, 0, 3, 89, 45, 21, 4, 183, 1, 7, 176, 27, 28, 96, 62, 187, 0, 3, 89]
abbrev dktJ7_newString_1 : List UInt8 := dkwJ7_newString_1 ++ dktJ7_newString_2
def dkwJ7_newString_0 : List UInt8 := [28, 154, 0, 7, 19, 1, 39, 176, 178, 0, 251, 153, 0, 28, 42, 27, 28, 184, 1, 1, 78, 45, 28]
abbrev dktJ7_newString_0 : List UInt8 := dkwJ7_newString_0 ++ dktJ7_newString_1
theorem dksJ7_newString_0 : cJ7_newString.data.toList.drop 0 = dktJ7_newString_0 := by decide +kernel
theorem dksJ7_newString_1 : cJ7_newString.data.toList.drop 23 = dktJ7_newString_1 := dk_seg dksJ7_newString_0 23 rfl rfl
theorem dksJ7_newString_2 : cJ7_newString.data.toList.drop 47 = dktJ7_newString_2 := dk_seg dksJ7_newString_1 24 rfl rfl
theorem dJ7_newString_0 : decode cJ7_newString 0 = .ok (.iload_n 2, 1) := dk_28 (dk_at dksJ7_newString_0 0 rfl rfl)
theorem dJ7_newString_1 : decode cJ7_newString 1 = .ok (.ifCond .ne 7, 3) := dk_154 0 7 (dk_at dksJ7_newString_0 1 rfl rfl)
theorem dJ7_newString_4 : decode cJ7_newString 4 = .ok (.ldc_w 295, 3) := dk_19 1 39 (dk_at dksJ7_newString_0 4 rfl rfl)
theorem dJ7_newString_7 : decode cJ7_newString 7 = .ok (.areturn, 1) := dk_176 (dk_at dksJ7_newString_0 7 rfl rfl)
theorem dJ7_newString_8 : decode cJ7_newString 8 = .ok (.getstatic 251, 3) := dk_178 0 251 (dk_at dksJ7_newString_0 8 rfl rfl)
theorem dJ7_newString_11 : decode cJ7_newString 11 = .ok (.ifCond .eq 28, 3) := dk_153 0 28 (dk_at dksJ7_newString_0 11 rfl rfl)
theorem dJ7_newString_14 : decode cJ7_newString 14 = .ok (.aload_n 0, 1) := dk_42 (dk_at dksJ7_newString_0 14 rfl rfl)
theorem dJ7_newString_15 : decode cJ7_newString 15 = .ok (.iload_n 1, 1) := dk_27 (dk_at dksJ7_newString_0 15 rfl rfl)
theorem dJ7_newString_16 : decode cJ7_newString 16 = .ok (.iload_n 2, 1) := dk_28 (dk_at dksJ7_newString_0 16 rfl rfl)
theorem dJ7_newString_17 : decode cJ7_newString 17 = .ok (.invokestatic 257, 3) := dk_184 1 1 (dk_at dksJ7_newString_0 17 rfl rfl)
theorem dJ7_newString_20 : decode cJ7_newString 20 = .ok (.astore_n 3, 1) := dk_78 (dk_at dksJ7_newString_0 20 rfl rfl)
theorem dJ7_newString_21 : decode cJ7_newString 21 = .ok (.aload_n 3, 1) := dk_45 (dk_at dksJ7_newString_0 21 rfl rfl)
theorem dJ7_newString_22 : decode cJ7_newString 22 = .ok (.iload_n 2, 1) := dk_28 (dk_at dksJ7_newString_0 22 rfl rfl)
theorem dJ7_newString_23 : decode cJ7_newString 23 = .ok (.invokestatic 259, 3) := dk_184 1 3 (dk_at dksJ7_newString_1 0 rfl rfl)
theorem dJ7_newString_26 : decode cJ7_newString 26 = .ok (.istore 4, 2) := dk_54 4 (dk_at dksJ7_newString_1 3 rfl rfl)
theorem dJ7_newString_28 : decode cJ7_newString 28 = .ok (.new 3, 3) := dk_187 0 3 (dk_at dksJ7_newString_1 5 rfl rfl)
theorem dJ7_newString_31 : decode cJ7_newString 31 = .ok (.dup, 1) := dk_89 (dk_at dksJ7_newString_1 8 rfl rfl)
theorem dJ7_newString_32 : decode cJ7_newString 32 = .ok (.aload_n 3, 1) := dk_45 (dk_at dksJ7_newString_1 9 rfl rfl)
theorem dJ7_newString_33 : decode cJ7_newString 33 = .ok (.iload 4, 2) := dk_21 4 (dk_at dksJ7_newString_1 10 rfl rfl)
theorem dJ7_newString_35 : decode cJ7_newString 35 = .ok (.invokespecial 263, 3) := dk_183 1 7 (dk_at dksJ7_newString_1 12 rfl rfl)
theorem dJ7_newString_38 : decode cJ7_newString 38 = .ok (.areturn, 1) := dk_176 (dk_at dksJ7_newString_1 15 rfl rfl)
theorem dJ7_newString_39 : decode cJ7_newString 39 = .ok (.iload_n 1, 1) := dk_27 (dk_at dksJ7_newString_1 16 rfl rfl)
theorem dJ7_newString_40 : decode cJ7_newString 40 = .ok (.iload_n 2, 1) := dk_28 (dk_at dksJ7_newString_1 17 rfl rfl)
theorem dJ7_newString_41 : decode cJ7_newString 41 = .ok (.iadd, 1) := dk_96 (dk_at dksJ7_newString_1 18 rfl rfl)
theorem dJ7_newString_42 : decode cJ7_newString 42 = .ok (.istore_n 3, 1) := dk_62 (dk_at dksJ7_newString_1 19 rfl rfl)
theorem dJ7_newString_43 : decode cJ7_newString 43 = .ok (.new 3, 3) := dk_187 0 3 (dk_at dksJ7_newString_1 20 rfl rfl)
theorem dJ7_newString_46 : decode cJ7_newString 46 = .ok (.dup, 1) := dk_89 (dk_at dksJ7_newString_1 23 rfl rfl)
theorem dJ7_newString_47 : decode cJ7_newString 47 = .ok (.aload_n 0, 1) := dk_42 (dk_at dksJ7_newString_2 0 rfl rfl)
theorem dJ7_newString_48 : decode cJ7_newString 48 = .ok (.iload_n 1, 1) := dk_27 (dk_at dksJ7_newString_2 1 rfl rfl)
theorem dJ7_newString_49 : decode cJ7_newString 49 = .ok (.iconst 1, 1) := dk_4 (dk_at dksJ7_newString_2 2 rfl rfl)
theorem dJ7_newString_50 : decode cJ7_newString 50 = .ok (.ishl, 1) := dk_120 (dk_at dksJ7_newString_2 3 rfl rfl)
theorem dJ7_newString_51 : decode cJ7_newString 51 = .ok (.iload_n 3, 1) := dk_29 (dk_at dksJ7_newString_2 4 rfl rfl)
theorem dJ7_newString_52 : decode cJ7_newString 52 = .ok (.iconst 1, 1) := dk_4 (dk_at dksJ7_newString_2 5 rfl rfl)
theorem dJ7_newString_53 : decode cJ7_newString 53 = .ok (.ishl, 1) := dk_120 (dk_at dksJ7_newString_2 6 rfl rfl)
theorem dJ7_newString_54 : decode cJ7_newString 54 = .ok (.invokestatic 126, 3) := dk_184 0 126 (dk_at dksJ7_newString_2 7 rfl rfl)
theorem dJ7_newString_57 : decode cJ7_newString 57 = .ok (.iconst 1, 1) := dk_4 (dk_at dksJ7_newString_2 10 rfl rfl)
theorem dJ7_newString_58 : decode cJ7_newString 58 = .ok (.invokespecial 263, 3) := dk_183 1 7 (dk_at dksJ7_newString_2 11 rfl rfl)
theorem dJ7_newString_61 : decode cJ7_newString 61 = .ok (.areturn, 1) := dk_176 (dk_at dksJ7_newString_2 14 rfl rfl)
abbrev cJ7_compress : ByteArray := prog_28_method_17_code
def yJ7_compress : MethodName := ⟨RJ7, "compress", "([BII)[B"⟩
def dkwJ7_compress_2 : List UInt8 := [25, 5, 3, 45, 3, 28, 184, 0, 123, 28, 159, 0, 6, 25, 5, 176, 45, 176]
abbrev dktJ7_compress_2 : List UInt8 := dkwJ7_compress_2 ++ []
def dkwJ7_compress_1 : List UInt8 := [27, 28, 96, 184, 0, 11, 184, 0, 126, 58, 5, 25, 5, 21, 4, 184, 0, 71, 17, 0, 255, 163, 0, 16]
abbrev dktJ7_compress_1 : List UInt8 := dkwJ7_compress_1 ++ dktJ7_compress_2
def dkwJ7_compress_0 : List UInt8 := [28, 188, 8, 78, 42, 27, 45, 3, 28, 184, 0, 123, 54, 4, 21, 4, 28, 159, 0, 47, 42, 27, 4, 120]
abbrev dktJ7_compress_0 : List UInt8 := dkwJ7_compress_0 ++ dktJ7_compress_1
theorem dksJ7_compress_0 : cJ7_compress.data.toList.drop 0 = dktJ7_compress_0 := by decide +kernel
theorem dksJ7_compress_1 : cJ7_compress.data.toList.drop 24 = dktJ7_compress_1 := dk_seg dksJ7_compress_0 24 rfl rfl
theorem dksJ7_compress_2 : cJ7_compress.data.toList.drop 48 = dktJ7_compress_2 := dk_seg dksJ7_compress_1 24 rfl rfl
theorem dJ7_compress_0 : decode cJ7_compress 0 = .ok (.iload_n 2, 1) := dk_28 (dk_at dksJ7_compress_0 0 rfl rfl)
theorem dJ7_compress_1 : decode cJ7_compress 1 = .ok (.newarray .byte, 2) := dk_188_8 (dk_at dksJ7_compress_0 1 rfl rfl)
theorem dJ7_compress_3 : decode cJ7_compress 3 = .ok (.astore_n 3, 1) := dk_78 (dk_at dksJ7_compress_0 3 rfl rfl)
theorem dJ7_compress_4 : decode cJ7_compress 4 = .ok (.aload_n 0, 1) := dk_42 (dk_at dksJ7_compress_0 4 rfl rfl)
theorem dJ7_compress_5 : decode cJ7_compress 5 = .ok (.iload_n 1, 1) := dk_27 (dk_at dksJ7_compress_0 5 rfl rfl)
theorem dJ7_compress_6 : decode cJ7_compress 6 = .ok (.aload_n 3, 1) := dk_45 (dk_at dksJ7_compress_0 6 rfl rfl)
theorem dJ7_compress_7 : decode cJ7_compress 7 = .ok (.iconst 0, 1) := dk_3 (dk_at dksJ7_compress_0 7 rfl rfl)
theorem dJ7_compress_8 : decode cJ7_compress 8 = .ok (.iload_n 2, 1) := dk_28 (dk_at dksJ7_compress_0 8 rfl rfl)
theorem dJ7_compress_9 : decode cJ7_compress 9 = .ok (.invokestatic 123, 3) := dk_184 0 123 (dk_at dksJ7_compress_0 9 rfl rfl)
theorem dJ7_compress_12 : decode cJ7_compress 12 = .ok (.istore 4, 2) := dk_54 4 (dk_at dksJ7_compress_0 12 rfl rfl)
theorem dJ7_compress_14 : decode cJ7_compress 14 = .ok (.iload 4, 2) := dk_21 4 (dk_at dksJ7_compress_0 14 rfl rfl)
theorem dJ7_compress_16 : decode cJ7_compress 16 = .ok (.iload_n 2, 1) := dk_28 (dk_at dksJ7_compress_0 16 rfl rfl)
theorem dJ7_compress_17 : decode cJ7_compress 17 = .ok (.if_icmp .eq 47, 3) := dk_159 0 47 (dk_at dksJ7_compress_0 17 rfl rfl)
theorem dJ7_compress_20 : decode cJ7_compress 20 = .ok (.aload_n 0, 1) := dk_42 (dk_at dksJ7_compress_0 20 rfl rfl)
theorem dJ7_compress_21 : decode cJ7_compress 21 = .ok (.iload_n 1, 1) := dk_27 (dk_at dksJ7_compress_0 21 rfl rfl)
theorem dJ7_compress_22 : decode cJ7_compress 22 = .ok (.iconst 1, 1) := dk_4 (dk_at dksJ7_compress_0 22 rfl rfl)
theorem dJ7_compress_23 : decode cJ7_compress 23 = .ok (.ishl, 1) := dk_120 (dk_at dksJ7_compress_0 23 rfl rfl)
theorem dJ7_compress_24 : decode cJ7_compress 24 = .ok (.iload_n 1, 1) := dk_27 (dk_at dksJ7_compress_1 0 rfl rfl)
theorem dJ7_compress_25 : decode cJ7_compress 25 = .ok (.iload_n 2, 1) := dk_28 (dk_at dksJ7_compress_1 1 rfl rfl)
theorem dJ7_compress_26 : decode cJ7_compress 26 = .ok (.iadd, 1) := dk_96 (dk_at dksJ7_compress_1 2 rfl rfl)
theorem dJ7_compress_27 : decode cJ7_compress 27 = .ok (.invokestatic 11, 3) := dk_184 0 11 (dk_at dksJ7_compress_1 3 rfl rfl)
theorem dJ7_compress_30 : decode cJ7_compress 30 = .ok (.invokestatic 126, 3) := dk_184 0 126 (dk_at dksJ7_compress_1 6 rfl rfl)
theorem dJ7_compress_33 : decode cJ7_compress 33 = .ok (.astore 5, 2) := dk_58 5 (dk_at dksJ7_compress_1 9 rfl rfl)
theorem dJ7_compress_35 : decode cJ7_compress 35 = .ok (.aload 5, 2) := dk_25 5 (dk_at dksJ7_compress_1 11 rfl rfl)
theorem dJ7_compress_37 : decode cJ7_compress 37 = .ok (.iload 4, 2) := dk_21 4 (dk_at dksJ7_compress_1 13 rfl rfl)
theorem dJ7_compress_39 : decode cJ7_compress 39 = .ok (.invokestatic 71, 3) := dk_184 0 71 (dk_at dksJ7_compress_1 15 rfl rfl)
theorem dJ7_compress_42 : decode cJ7_compress 42 = .ok (.sipush 255, 3) := dk_17 0 255 (dk_at dksJ7_compress_1 18 rfl rfl)
theorem dJ7_compress_45 : decode cJ7_compress 45 = .ok (.if_icmp .gt 16, 3) := dk_163 0 16 (dk_at dksJ7_compress_1 21 rfl rfl)
theorem dJ7_compress_48 : decode cJ7_compress 48 = .ok (.aload 5, 2) := dk_25 5 (dk_at dksJ7_compress_2 0 rfl rfl)
theorem dJ7_compress_50 : decode cJ7_compress 50 = .ok (.iconst 0, 1) := dk_3 (dk_at dksJ7_compress_2 2 rfl rfl)
theorem dJ7_compress_51 : decode cJ7_compress 51 = .ok (.aload_n 3, 1) := dk_45 (dk_at dksJ7_compress_2 3 rfl rfl)
theorem dJ7_compress_52 : decode cJ7_compress 52 = .ok (.iconst 0, 1) := dk_3 (dk_at dksJ7_compress_2 4 rfl rfl)
theorem dJ7_compress_53 : decode cJ7_compress 53 = .ok (.iload_n 2, 1) := dk_28 (dk_at dksJ7_compress_2 5 rfl rfl)
theorem dJ7_compress_54 : decode cJ7_compress 54 = .ok (.invokestatic 123, 3) := dk_184 0 123 (dk_at dksJ7_compress_2 6 rfl rfl)
theorem dJ7_compress_57 : decode cJ7_compress 57 = .ok (.iload_n 2, 1) := dk_28 (dk_at dksJ7_compress_2 9 rfl rfl)
theorem dJ7_compress_58 : decode cJ7_compress 58 = .ok (.if_icmp .eq 6, 3) := dk_159 0 6 (dk_at dksJ7_compress_2 10 rfl rfl)
theorem dJ7_compress_61 : decode cJ7_compress 61 = .ok (.aload 5, 2) := dk_25 5 (dk_at dksJ7_compress_2 13 rfl rfl)
theorem dJ7_compress_63 : decode cJ7_compress 63 = .ok (.areturn, 1) := dk_176 (dk_at dksJ7_compress_2 15 rfl rfl)
theorem dJ7_compress_64 : decode cJ7_compress 64 = .ok (.aload_n 3, 1) := dk_45 (dk_at dksJ7_compress_2 16 rfl rfl)
theorem dJ7_compress_65 : decode cJ7_compress 65 = .ok (.areturn, 1) := dk_176 (dk_at dksJ7_compress_2 17 rfl rfl)
abbrev cJ7_compress_2 : ByteArray := prog_28_method_22_code
def yJ7_compress_2 : MethodName := ⟨RJ7, "compress", "([BI[BII)I"⟩
def dkwJ7_compress_2_2 : List UInt8 := [132, 5, 1, 167, 255, 216, 21, 4, 172]
abbrev dktJ7_compress_2_2 : List UInt8 := dkwJ7_compress_2_2 ++ []
def dkwJ7_compress_2_1 : List UInt8 := [21, 6, 17, 0, 255, 164, 0, 6, 21, 5, 172, 44, 29, 21, 6, 145, 84, 132, 1, 1, 132, 3, 1]
abbrev dktJ7_compress_2_1 : List UInt8 := dkwJ7_compress_2_1 ++ dktJ7_compress_2_2
def dkwJ7_compress_2_0 : List UInt8 := [27, 21, 4, 42, 184, 0, 173, 3, 54, 5, 21, 5, 21, 4, 162, 0, 39, 42, 27, 184, 0, 71, 54, 6]
abbrev dktJ7_compress_2_0 : List UInt8 := dkwJ7_compress_2_0 ++ dktJ7_compress_2_1
theorem dksJ7_compress_2_0 : cJ7_compress_2.data.toList.drop 0 = dktJ7_compress_2_0 := by decide +kernel
theorem dksJ7_compress_2_1 : cJ7_compress_2.data.toList.drop 24 = dktJ7_compress_2_1 := dk_seg dksJ7_compress_2_0 24 rfl rfl
theorem dksJ7_compress_2_2 : cJ7_compress_2.data.toList.drop 47 = dktJ7_compress_2_2 := dk_seg dksJ7_compress_2_1 23 rfl rfl
theorem dJ7_compress_2_0 : decode cJ7_compress_2 0 = .ok (.iload_n 1, 1) := dk_27 (dk_at dksJ7_compress_2_0 0 rfl rfl)
theorem dJ7_compress_2_1 : decode cJ7_compress_2 1 = .ok (.iload 4, 2) := dk_21 4 (dk_at dksJ7_compress_2_0 1 rfl rfl)
theorem dJ7_compress_2_3 : decode cJ7_compress_2 3 = .ok (.aload_n 0, 1) := dk_42 (dk_at dksJ7_compress_2_0 3 rfl rfl)
theorem dJ7_compress_2_4 : decode cJ7_compress_2 4 = .ok (.invokestatic 173, 3) := dk_184 0 173 (dk_at dksJ7_compress_2_0 4 rfl rfl)
theorem dJ7_compress_2_7 : decode cJ7_compress_2 7 = .ok (.iconst 0, 1) := dk_3 (dk_at dksJ7_compress_2_0 7 rfl rfl)
theorem dJ7_compress_2_8 : decode cJ7_compress_2 8 = .ok (.istore 5, 2) := dk_54 5 (dk_at dksJ7_compress_2_0 8 rfl rfl)
theorem dJ7_compress_2_10 : decode cJ7_compress_2 10 = .ok (.iload 5, 2) := dk_21 5 (dk_at dksJ7_compress_2_0 10 rfl rfl)
theorem dJ7_compress_2_12 : decode cJ7_compress_2 12 = .ok (.iload 4, 2) := dk_21 4 (dk_at dksJ7_compress_2_0 12 rfl rfl)
theorem dJ7_compress_2_14 : decode cJ7_compress_2 14 = .ok (.if_icmp .ge 39, 3) := dk_162 0 39 (dk_at dksJ7_compress_2_0 14 rfl rfl)
theorem dJ7_compress_2_17 : decode cJ7_compress_2 17 = .ok (.aload_n 0, 1) := dk_42 (dk_at dksJ7_compress_2_0 17 rfl rfl)
theorem dJ7_compress_2_18 : decode cJ7_compress_2 18 = .ok (.iload_n 1, 1) := dk_27 (dk_at dksJ7_compress_2_0 18 rfl rfl)
theorem dJ7_compress_2_19 : decode cJ7_compress_2 19 = .ok (.invokestatic 71, 3) := dk_184 0 71 (dk_at dksJ7_compress_2_0 19 rfl rfl)
theorem dJ7_compress_2_22 : decode cJ7_compress_2 22 = .ok (.istore 6, 2) := dk_54 6 (dk_at dksJ7_compress_2_0 22 rfl rfl)
theorem dJ7_compress_2_24 : decode cJ7_compress_2 24 = .ok (.iload 6, 2) := dk_21 6 (dk_at dksJ7_compress_2_1 0 rfl rfl)
theorem dJ7_compress_2_26 : decode cJ7_compress_2 26 = .ok (.sipush 255, 3) := dk_17 0 255 (dk_at dksJ7_compress_2_1 2 rfl rfl)
theorem dJ7_compress_2_29 : decode cJ7_compress_2 29 = .ok (.if_icmp .le 6, 3) := dk_164 0 6 (dk_at dksJ7_compress_2_1 5 rfl rfl)
theorem dJ7_compress_2_32 : decode cJ7_compress_2 32 = .ok (.iload 5, 2) := dk_21 5 (dk_at dksJ7_compress_2_1 8 rfl rfl)
theorem dJ7_compress_2_34 : decode cJ7_compress_2 34 = .ok (.ireturn, 1) := dk_172 (dk_at dksJ7_compress_2_1 10 rfl rfl)
theorem dJ7_compress_2_35 : decode cJ7_compress_2 35 = .ok (.aload_n 2, 1) := dk_44 (dk_at dksJ7_compress_2_1 11 rfl rfl)
theorem dJ7_compress_2_36 : decode cJ7_compress_2 36 = .ok (.iload_n 3, 1) := dk_29 (dk_at dksJ7_compress_2_1 12 rfl rfl)
theorem dJ7_compress_2_37 : decode cJ7_compress_2 37 = .ok (.iload 6, 2) := dk_21 6 (dk_at dksJ7_compress_2_1 13 rfl rfl)
theorem dJ7_compress_2_39 : decode cJ7_compress_2 39 = .ok (.i2b, 1) := dk_145 (dk_at dksJ7_compress_2_1 15 rfl rfl)
theorem dJ7_compress_2_40 : decode cJ7_compress_2 40 = .ok (.bastore, 1) := dk_84 (dk_at dksJ7_compress_2_1 16 rfl rfl)
theorem dJ7_compress_2_41 : decode cJ7_compress_2 41 = .ok (.iinc 1 1, 3) := dk_132 1 1 (dk_at dksJ7_compress_2_1 17 rfl rfl)
theorem dJ7_compress_2_44 : decode cJ7_compress_2 44 = .ok (.iinc 3 1, 3) := dk_132 3 1 (dk_at dksJ7_compress_2_1 20 rfl rfl)
theorem dJ7_compress_2_47 : decode cJ7_compress_2 47 = .ok (.iinc 5 1, 3) := dk_132 5 1 (dk_at dksJ7_compress_2_2 0 rfl rfl)
theorem dJ7_compress_2_50 : decode cJ7_compress_2 50 = .ok (.goto (-40), 3) := dk_167 255 216 (dk_at dksJ7_compress_2_2 3 rfl rfl)
theorem dJ7_compress_2_53 : decode cJ7_compress_2 53 = .ok (.iload 4, 2) := dk_21 4 (dk_at dksJ7_compress_2_2 6 rfl rfl)
theorem dJ7_compress_2_55 : decode cJ7_compress_2 55 = .ok (.ireturn, 1) := dk_172 (dk_at dksJ7_compress_2_2 8 rfl rfl)
abbrev cJ7_checkBoundsOffCount : ByteArray := prog_28_method_94_code
def yJ7_checkBoundsOffCount : MethodName := ⟨RJ7, "checkBoundsOffCount", "(II[B)V"⟩
def dkwJ7_checkBoundsOffCount_0 : List UInt8 := [26, 27, 44, 184, 0, 48, 184, 1, 163, 87, 177]
abbrev dktJ7_checkBoundsOffCount_0 : List UInt8 := dkwJ7_checkBoundsOffCount_0 ++ []
theorem dksJ7_checkBoundsOffCount_0 : cJ7_checkBoundsOffCount.data.toList.drop 0 = dktJ7_checkBoundsOffCount_0 := by decide +kernel
theorem dJ7_checkBoundsOffCount_0 : decode cJ7_checkBoundsOffCount 0 = .ok (.iload_n 0, 1) := dk_26 (dk_at dksJ7_checkBoundsOffCount_0 0 rfl rfl)
theorem dJ7_checkBoundsOffCount_1 : decode cJ7_checkBoundsOffCount 1 = .ok (.iload_n 1, 1) := dk_27 (dk_at dksJ7_checkBoundsOffCount_0 1 rfl rfl)
theorem dJ7_checkBoundsOffCount_2 : decode cJ7_checkBoundsOffCount 2 = .ok (.aload_n 2, 1) := dk_44 (dk_at dksJ7_checkBoundsOffCount_0 2 rfl rfl)
theorem dJ7_checkBoundsOffCount_3 : decode cJ7_checkBoundsOffCount 3 = .ok (.invokestatic 48, 3) := dk_184 0 48 (dk_at dksJ7_checkBoundsOffCount_0 3 rfl rfl)
theorem dJ7_checkBoundsOffCount_6 : decode cJ7_checkBoundsOffCount 6 = .ok (.invokestatic 419, 3) := dk_184 1 163 (dk_at dksJ7_checkBoundsOffCount_0 6 rfl rfl)
theorem dJ7_checkBoundsOffCount_9 : decode cJ7_checkBoundsOffCount 9 = .ok (.pop, 1) := dk_87 (dk_at dksJ7_checkBoundsOffCount_0 9 rfl rfl)
theorem dJ7_checkBoundsOffCount_10 : decode cJ7_checkBoundsOffCount 10 = .ok (.return_, 1) := dk_177 (dk_at dksJ7_checkBoundsOffCount_0 10 rfl rfl)
abbrev cJ7_newBytesLength : ByteArray := prog_28_method_3_code
def yJ7_newBytesLength : MethodName := ⟨RJ7, "newBytesLength", "(I)I"⟩
def dkwJ7_newBytesLength_2 : List UInt8 := [182, 0, 32, 182, 0, 37, 183, 0, 41, 191, 26, 4, 120, 172]
abbrev dktJ7_newBytesLength_2 : List UInt8 := dkwJ7_newBytesLength_2 ++ []
def dkwJ7_newBytesLength_1 : List UInt8 := [187, 0, 23, 89, 183, 0, 25, 18, 26, 182, 0, 28, 26, 182, 0, 32, 18, 35, 182, 0, 28, 18, 20]
abbrev dktJ7_newBytesLength_1 : List UInt8 := dkwJ7_newBytesLength_1 ++ dktJ7_newBytesLength_2
def dkwJ7_newBytesLength_0 : List UInt8 := [26, 156, 0, 11, 187, 0, 17, 89, 183, 0, 19, 191, 26, 18, 20, 161, 0, 40, 187, 0, 21, 89]
abbrev dktJ7_newBytesLength_0 : List UInt8 := dkwJ7_newBytesLength_0 ++ dktJ7_newBytesLength_1
theorem dksJ7_newBytesLength_0 : cJ7_newBytesLength.data.toList.drop 0 = dktJ7_newBytesLength_0 := by decide +kernel
theorem dksJ7_newBytesLength_1 : cJ7_newBytesLength.data.toList.drop 22 = dktJ7_newBytesLength_1 := dk_seg dksJ7_newBytesLength_0 22 rfl rfl
theorem dksJ7_newBytesLength_2 : cJ7_newBytesLength.data.toList.drop 45 = dktJ7_newBytesLength_2 := dk_seg dksJ7_newBytesLength_1 23 rfl rfl
theorem dJ7_newBytesLength_0 : decode cJ7_newBytesLength 0 = .ok (.iload_n 0, 1) := dk_26 (dk_at dksJ7_newBytesLength_0 0 rfl rfl)
theorem dJ7_newBytesLength_1 : decode cJ7_newBytesLength 1 = .ok (.ifCond .ge 11, 3) := dk_156 0 11 (dk_at dksJ7_newBytesLength_0 1 rfl rfl)
theorem dJ7_newBytesLength_4 : decode cJ7_newBytesLength 4 = .ok (.new 17, 3) := dk_187 0 17 (dk_at dksJ7_newBytesLength_0 4 rfl rfl)
theorem dJ7_newBytesLength_7 : decode cJ7_newBytesLength 7 = .ok (.dup, 1) := dk_89 (dk_at dksJ7_newBytesLength_0 7 rfl rfl)
theorem dJ7_newBytesLength_8 : decode cJ7_newBytesLength 8 = .ok (.invokespecial 19, 3) := dk_183 0 19 (dk_at dksJ7_newBytesLength_0 8 rfl rfl)
theorem dJ7_newBytesLength_11 : decode cJ7_newBytesLength 11 = .ok (.athrow, 1) := dk_191 (dk_at dksJ7_newBytesLength_0 11 rfl rfl)
theorem dJ7_newBytesLength_12 : decode cJ7_newBytesLength 12 = .ok (.iload_n 0, 1) := dk_26 (dk_at dksJ7_newBytesLength_0 12 rfl rfl)
theorem dJ7_newBytesLength_13 : decode cJ7_newBytesLength 13 = .ok (.ldc 20, 2) := dk_18 20 (dk_at dksJ7_newBytesLength_0 13 rfl rfl)
theorem dJ7_newBytesLength_15 : decode cJ7_newBytesLength 15 = .ok (.if_icmp .lt 40, 3) := dk_161 0 40 (dk_at dksJ7_newBytesLength_0 15 rfl rfl)
theorem dJ7_newBytesLength_18 : decode cJ7_newBytesLength 18 = .ok (.new 21, 3) := dk_187 0 21 (dk_at dksJ7_newBytesLength_0 18 rfl rfl)
theorem dJ7_newBytesLength_21 : decode cJ7_newBytesLength 21 = .ok (.dup, 1) := dk_89 (dk_at dksJ7_newBytesLength_0 21 rfl rfl)
theorem dJ7_newBytesLength_22 : decode cJ7_newBytesLength 22 = .ok (.new 23, 3) := dk_187 0 23 (dk_at dksJ7_newBytesLength_1 0 rfl rfl)
theorem dJ7_newBytesLength_25 : decode cJ7_newBytesLength 25 = .ok (.dup, 1) := dk_89 (dk_at dksJ7_newBytesLength_1 3 rfl rfl)
theorem dJ7_newBytesLength_26 : decode cJ7_newBytesLength 26 = .ok (.invokespecial 25, 3) := dk_183 0 25 (dk_at dksJ7_newBytesLength_1 4 rfl rfl)
theorem dJ7_newBytesLength_29 : decode cJ7_newBytesLength 29 = .ok (.ldc 26, 2) := dk_18 26 (dk_at dksJ7_newBytesLength_1 7 rfl rfl)
theorem dJ7_newBytesLength_31 : decode cJ7_newBytesLength 31 = .ok (.invokevirtual 28, 3) := dk_182 0 28 (dk_at dksJ7_newBytesLength_1 9 rfl rfl)
theorem dJ7_newBytesLength_34 : decode cJ7_newBytesLength 34 = .ok (.iload_n 0, 1) := dk_26 (dk_at dksJ7_newBytesLength_1 12 rfl rfl)
theorem dJ7_newBytesLength_35 : decode cJ7_newBytesLength 35 = .ok (.invokevirtual 32, 3) := dk_182 0 32 (dk_at dksJ7_newBytesLength_1 13 rfl rfl)
theorem dJ7_newBytesLength_38 : decode cJ7_newBytesLength 38 = .ok (.ldc 35, 2) := dk_18 35 (dk_at dksJ7_newBytesLength_1 16 rfl rfl)
theorem dJ7_newBytesLength_40 : decode cJ7_newBytesLength 40 = .ok (.invokevirtual 28, 3) := dk_182 0 28 (dk_at dksJ7_newBytesLength_1 18 rfl rfl)
theorem dJ7_newBytesLength_43 : decode cJ7_newBytesLength 43 = .ok (.ldc 20, 2) := dk_18 20 (dk_at dksJ7_newBytesLength_1 21 rfl rfl)
theorem dJ7_newBytesLength_45 : decode cJ7_newBytesLength 45 = .ok (.invokevirtual 32, 3) := dk_182 0 32 (dk_at dksJ7_newBytesLength_2 0 rfl rfl)
theorem dJ7_newBytesLength_48 : decode cJ7_newBytesLength 48 = .ok (.invokevirtual 37, 3) := dk_182 0 37 (dk_at dksJ7_newBytesLength_2 3 rfl rfl)
theorem dJ7_newBytesLength_51 : decode cJ7_newBytesLength 51 = .ok (.invokespecial 41, 3) := dk_183 0 41 (dk_at dksJ7_newBytesLength_2 6 rfl rfl)
theorem dJ7_newBytesLength_54 : decode cJ7_newBytesLength 54 = .ok (.athrow, 1) := dk_191 (dk_at dksJ7_newBytesLength_2 9 rfl rfl)
theorem dJ7_newBytesLength_55 : decode cJ7_newBytesLength 55 = .ok (.iload_n 0, 1) := dk_26 (dk_at dksJ7_newBytesLength_2 10 rfl rfl)
theorem dJ7_newBytesLength_56 : decode cJ7_newBytesLength 56 = .ok (.iconst 1, 1) := dk_4 (dk_at dksJ7_newBytesLength_2 11 rfl rfl)
theorem dJ7_newBytesLength_57 : decode cJ7_newBytesLength 57 = .ok (.ishl, 1) := dk_120 (dk_at dksJ7_newBytesLength_2 12 rfl rfl)
theorem dJ7_newBytesLength_58 : decode cJ7_newBytesLength 58 = .ok (.ireturn, 1) := dk_172 (dk_at dksJ7_newBytesLength_2 13 rfl rfl)
abbrev cJ7_coderFromArrayLen : ByteArray := prog_28_method_15_code
def yJ7_coderFromArrayLen : MethodName := ⟨RJ7, "coderFromArrayLen", "([BI)B"⟩
def dkwJ7_coderFromArrayLen_0 : List UInt8 := [27, 42, 190, 100, 16, 31, 124, 145, 172]
abbrev dktJ7_coderFromArrayLen_0 : List UInt8 := dkwJ7_coderFromArrayLen_0 ++ []
theorem dksJ7_coderFromArrayLen_0 : cJ7_coderFromArrayLen.data.toList.drop 0 = dktJ7_coderFromArrayLen_0 := by decide +kernel
theorem dJ7_coderFromArrayLen_0 : decode cJ7_coderFromArrayLen 0 = .ok (.iload_n 1, 1) := dk_27 (dk_at dksJ7_coderFromArrayLen_0 0 rfl rfl)
theorem dJ7_coderFromArrayLen_1 : decode cJ7_coderFromArrayLen 1 = .ok (.aload_n 0, 1) := dk_42 (dk_at dksJ7_coderFromArrayLen_0 1 rfl rfl)
theorem dJ7_coderFromArrayLen_2 : decode cJ7_coderFromArrayLen 2 = .ok (.arraylength, 1) := dk_190 (dk_at dksJ7_coderFromArrayLen_0 2 rfl rfl)
theorem dJ7_coderFromArrayLen_3 : decode cJ7_coderFromArrayLen 3 = .ok (.isub, 1) := dk_100 (dk_at dksJ7_coderFromArrayLen_0 3 rfl rfl)
theorem dJ7_coderFromArrayLen_4 : decode cJ7_coderFromArrayLen 4 = .ok (.bipush 31, 2) := dk_16 31 (dk_at dksJ7_coderFromArrayLen_0 4 rfl rfl)
theorem dJ7_coderFromArrayLen_6 : decode cJ7_coderFromArrayLen 6 = .ok (.iushr, 1) := dk_124 (dk_at dksJ7_coderFromArrayLen_0 6 rfl rfl)
theorem dJ7_coderFromArrayLen_7 : decode cJ7_coderFromArrayLen 7 = .ok (.i2b, 1) := dk_145 (dk_at dksJ7_coderFromArrayLen_0 7 rfl rfl)
theorem dJ7_coderFromArrayLen_8 : decode cJ7_coderFromArrayLen 8 = .ok (.ireturn, 1) := dk_172 (dk_at dksJ7_coderFromArrayLen_0 8 rfl rfl)
theorem q95 : (Jvm.Cond.initialized "java/lang/StringUTF16") ∈ lw_all := lw_g (lw_at lw_m1 17 rfl) rfl
theorem q618 : (Jvm.Cond.static ({ cls := "java/lang/StringUTF16", name := "indexOf", desc := "([BIII)I" } : Jvm.MethodName)) ∈ lw_all := lw_g (lw_at lw_m3 60 rfl) rfl
theorem q619 : (Jvm.Cond.code ({ cls := "java/lang/StringUTF16", name := "indexOf", desc := "([BIII)I" } : Jvm.MethodName) prog_28_method_40_code (4 : Nat) (Option.some Jvm.ClassFile.FieldType.int)) ∈ lw_all := lw_g (lw_at lw_m3 61 rfl) rfl
theorem q620 : (Jvm.Cond.methodLink "java/lang/StringUTF16" (224 : Nat) ({ cls := "java/lang/Math", name := "max", desc := "(II)I" } : Jvm.MethodName)) ∈ lw_all := lw_g (lw_at lw_m3 62 rfl) rfl
theorem q621 : (Jvm.Cond.methodLink "java/lang/StringUTF16" (183 : Nat) ({ cls := "java/lang/Math", name := "min", desc := "(II)I" } : Jvm.MethodName)) ∈ lw_all := lw_g (lw_at lw_m3 63 rfl) rfl
theorem q622 : (Jvm.Cond.constant "java/lang/StringUTF16" (227 : Nat) (65536 : Int32)) ∈ lw_all := lw_g (lw_at lw_m3 64 rfl) rfl
theorem q623 : (Jvm.Cond.methodLink "java/lang/StringUTF16" (228 : Nat) ({ cls := "java/lang/StringUTF16", name := "indexOfChar", desc := "([BIII)I" } : Jvm.MethodName)) ∈ lw_all := lw_g (lw_at lw_m3 65 rfl) rfl
theorem q624 : (Jvm.Cond.static ({ cls := "java/lang/StringUTF16", name := "indexOfChar", desc := "([BIII)I" } : Jvm.MethodName)) ∈ lw_all := lw_g (lw_at lw_m3 66 rfl) rfl
theorem q625 : (Jvm.Cond.code ({ cls := "java/lang/StringUTF16", name := "indexOfChar", desc := "([BIII)I" } : Jvm.MethodName) prog_28_method_47_code (4 : Nat) (Option.some Jvm.ClassFile.FieldType.int)) ∈ lw_all := lw_g (lw_at lw_m3 67 rfl) rfl
theorem q626 : (Jvm.Cond.methodLink "java/lang/StringUTF16" (96 : Nat) ({ cls := "java/lang/StringUTF16", name := "checkBoundsBeginEnd", desc := "(II[B)V" } : Jvm.MethodName)) ∈ lw_all := lw_g (lw_at lw_m3 68 rfl) rfl
theorem q627 : (Jvm.Cond.static ({ cls := "java/lang/StringUTF16", name := "checkBoundsBeginEnd", desc := "(II[B)V" } : Jvm.MethodName)) ∈ lw_all := lw_g (lw_at lw_m3 69 rfl) rfl
theorem q628 : (Jvm.Cond.code ({ cls := "java/lang/StringUTF16", name := "checkBoundsBeginEnd", desc := "(II[B)V" } : Jvm.MethodName) prog_28_method_93_code (3 : Nat) (Option.none : Option Jvm.ClassFile.FieldType)) ∈ lw_all := lw_g (lw_at lw_m3 70 rfl) rfl
theorem q629 : (Jvm.Cond.methodLink "java/lang/StringUTF16" (48 : Nat) ({ cls := "java/lang/StringUTF16", name := "length", desc := "([B)I" } : Jvm.MethodName)) ∈ lw_all := lw_g (lw_at lw_m3 71 rfl) rfl
theorem q630 : (Jvm.Cond.static ({ cls := "java/lang/StringUTF16", name := "length", desc := "([B)I" } : Jvm.MethodName)) ∈ lw_all := lw_g (lw_at lw_m3 72 rfl) rfl
theorem q631 : (Jvm.Cond.code ({ cls := "java/lang/StringUTF16", name := "length", desc := "([B)I" } : Jvm.MethodName) prog_28_method_6_code (1 : Nat) (Option.some Jvm.ClassFile.FieldType.int)) ∈ lw_all := lw_g (lw_at lw_m3 73 rfl) rfl
theorem q632 : (Jvm.Cond.methodLink "java/lang/StringUTF16" (241 : Nat) ({ cls := "java/lang/String", name := "checkBoundsBeginEnd", desc := "(III)V" } : Jvm.MethodName)) ∈ lw_all := lw_g (lw_at lw_m3 74 rfl) rfl
theorem q640 : (Jvm.Cond.methodLink "java/lang/StringUTF16" (244 : Nat) ({ cls := "java/lang/StringUTF16", name := "indexOfCharUnsafe", desc := "([BIII)I" } : Jvm.MethodName)) ∈ lw_all := lw_g (lw_at lw_m3 82 rfl) rfl
theorem q641 : (Jvm.Cond.static ({ cls := "java/lang/StringUTF16", name := "indexOfCharUnsafe", desc := "([BIII)I" } : Jvm.MethodName)) ∈ lw_all := lw_g (lw_at lw_m3 83 rfl) rfl
theorem q642 : (Jvm.Cond.code ({ cls := "java/lang/StringUTF16", name := "indexOfCharUnsafe", desc := "([BIII)I" } : Jvm.MethodName) prog_28_method_48_code (5 : Nat) (Option.some Jvm.ClassFile.FieldType.int)) ∈ lw_all := lw_g (lw_at lw_m3 84 rfl) rfl
theorem q643 : (Jvm.Cond.methodLink "java/lang/StringUTF16" (71 : Nat) ({ cls := "java/lang/StringUTF16", name := "getChar", desc := "([BI)C" } : Jvm.MethodName)) ∈ lw_all := lw_g (lw_at lw_m3 85 rfl) rfl
theorem q644 : (Jvm.Cond.static ({ cls := "java/lang/StringUTF16", name := "getChar", desc := "([BI)C" } : Jvm.MethodName)) ∈ lw_all := lw_g (lw_at lw_m3 86 rfl) rfl
theorem q645 : (Jvm.Cond.code ({ cls := "java/lang/StringUTF16", name := "getChar", desc := "([BI)C" } : Jvm.MethodName) prog_28_method_5_code (2 : Nat) (Option.some Jvm.ClassFile.FieldType.char)) ∈ lw_all := lw_g (lw_at lw_m3 87 rfl) rfl
theorem q646 : (Jvm.Cond.fieldLink "java/lang/StringUTF16" (44 : Nat) "java/lang/StringUTF16" "$assertionsDisabled" "Z") ∈ lw_all := lw_g (lw_at lw_m3 88 rfl) rfl
theorem q647 : (Jvm.Cond.laysStatic "java/lang/StringUTF16" "$assertionsDisabled" "Z") ∈ lw_tbl := lw_at lw_m3 89 rfl
theorem q648 : (Jvm.Cond.fieldLink "java/lang/StringUTF16" (59 : Nat) "java/lang/StringUTF16" "HI_BYTE_SHIFT" "I") ∈ lw_all := lw_g (lw_at lw_m3 90 rfl) rfl
theorem q649 : (Jvm.Cond.laysStatic "java/lang/StringUTF16" "HI_BYTE_SHIFT" "I") ∈ lw_tbl := lw_at lw_m3 91 rfl
theorem q650 : (Jvm.Cond.fieldLink "java/lang/StringUTF16" (63 : Nat) "java/lang/StringUTF16" "LO_BYTE_SHIFT" "I") ∈ lw_all := lw_g (lw_at lw_m3 92 rfl) rfl
theorem q651 : (Jvm.Cond.laysStatic "java/lang/StringUTF16" "LO_BYTE_SHIFT" "I") ∈ lw_tbl := lw_at lw_m3 93 rfl
theorem q652 : (Jvm.Cond.methodLink "java/lang/StringUTF16" (232 : Nat) ({ cls := "java/lang/StringUTF16", name := "indexOfSupplementary", desc := "([BIII)I" } : Jvm.MethodName)) ∈ lw_all := lw_g (lw_at lw_m3 94 rfl) rfl
theorem q653 : (Jvm.Cond.static ({ cls := "java/lang/StringUTF16", name := "indexOfSupplementary", desc := "([BIII)I" } : Jvm.MethodName)) ∈ lw_all := lw_g (lw_at lw_m3 95 rfl) rfl
theorem q654 : (Jvm.Cond.code ({ cls := "java/lang/StringUTF16", name := "indexOfSupplementary", desc := "([BIII)I" } : Jvm.MethodName) prog_28_method_49_code (7 : Nat) (Option.some Jvm.ClassFile.FieldType.int)) ∈ lw_all := lw_g (lw_at lw_m3 96 rfl) rfl
theorem q655 : (Jvm.Cond.methodLink "java/lang/StringUTF16" (164 : Nat) ({ cls := "java/lang/Character", name := "isValidCodePoint", desc := "(I)Z" } : Jvm.MethodName)) ∈ lw_all := lw_g (lw_at lw_m3 97 rfl) rfl
theorem q658 : (Jvm.Cond.methodLink "java/lang/StringUTF16" (157 : Nat) ({ cls := "java/lang/Character", name := "highSurrogate", desc := "(I)C" } : Jvm.MethodName)) ∈ lw_all := lw_g (lw_at lw_m3 100 rfl) rfl
theorem q662 : (Jvm.Cond.methodLink "java/lang/StringUTF16" (161 : Nat) ({ cls := "java/lang/Character", name := "lowSurrogate", desc := "(I)C" } : Jvm.MethodName)) ∈ lw_all := lw_g (lw_at lw_m3 104 rfl) rfl
theorem q1480 : (Jvm.Cond.static ({ cls := "java/lang/StringUTF16", name := "charAt", desc := "([BI)C" } : Jvm.MethodName)) ∈ lw_all := lw_g (lw_at lw_m6 202 rfl) rfl
theorem q1481 : (Jvm.Cond.code ({ cls := "java/lang/StringUTF16", name := "charAt", desc := "([BI)C" } : Jvm.MethodName) prog_28_method_83_code (2 : Nat) (Option.some Jvm.ClassFile.FieldType.char)) ∈ lw_all := lw_g (lw_at lw_m6 203 rfl) rfl
theorem q1482 : (Jvm.Cond.methodLink "java/lang/StringUTF16" (67 : Nat) ({ cls := "java/lang/StringUTF16", name := "checkIndex", desc := "(I[B)V" } : Jvm.MethodName)) ∈ lw_all := lw_g (lw_at lw_m6 204 rfl) rfl
theorem q1483 : (Jvm.Cond.static ({ cls := "java/lang/StringUTF16", name := "checkIndex", desc := "(I[B)V" } : Jvm.MethodName)) ∈ lw_all := lw_g (lw_at lw_m6 205 rfl) rfl
theorem q1484 : (Jvm.Cond.code ({ cls := "java/lang/StringUTF16", name := "checkIndex", desc := "(I[B)V" } : Jvm.MethodName) prog_28_method_91_code (2 : Nat) (Option.none : Option Jvm.ClassFile.FieldType)) ∈ lw_all := lw_g (lw_at lw_m6 206 rfl) rfl
theorem q1485 : (Jvm.Cond.methodLink "java/lang/StringUTF16" (414 : Nat) ({ cls := "java/lang/String", name := "checkIndex", desc := "(II)V" } : Jvm.MethodName)) ∈ lw_all := lw_g (lw_at lw_m6 207 rfl) rfl
theorem q1575 : (Jvm.Cond.static ({ cls := "java/lang/StringUTF16", name := "newString", desc := "([BII)Ljava/lang/String;" } : Jvm.MethodName)) ∈ lw_all := lw_g (lw_at lw_m7 57 rfl) rfl
theorem q1576 : (Jvm.Cond.code ({ cls := "java/lang/StringUTF16", name := "newString", desc := "([BII)Ljava/lang/String;" } : Jvm.MethodName) prog_28_method_69_code (5 : Nat) (Option.some (Jvm.ClassFile.FieldType.object "java/lang/String"))) ∈ lw_all := lw_g (lw_at lw_m7 58 rfl) rfl
theorem q1577 : (Jvm.Cond.stringRef "java/lang/StringUTF16" (295 : Nat) "") ∈ lw_tbl := lw_at lw_m7 59 rfl
theorem q1578 : (Jvm.Cond.fieldLink "java/lang/StringUTF16" (251 : Nat) "java/lang/String" "COMPACT_STRINGS" "Z") ∈ lw_all := lw_g (lw_at lw_m7 60 rfl) rfl
theorem q1579 : (Jvm.Cond.methodLink "java/lang/StringUTF16" (257 : Nat) ({ cls := "java/lang/StringUTF16", name := "compress", desc := "([BII)[B" } : Jvm.MethodName)) ∈ lw_all := lw_g (lw_at lw_m7 61 rfl) rfl
theorem q1580 : (Jvm.Cond.static ({ cls := "java/lang/StringUTF16", name := "compress", desc := "([BII)[B" } : Jvm.MethodName)) ∈ lw_all := lw_g (lw_at lw_m7 62 rfl) rfl
theorem q1581 : (Jvm.Cond.code ({ cls := "java/lang/StringUTF16", name := "compress", desc := "([BII)[B" } : Jvm.MethodName) prog_28_method_17_code (6 : Nat) (Option.some (Jvm.ClassFile.FieldType.array Jvm.ClassFile.FieldType.byte))) ∈ lw_all := lw_g (lw_at lw_m7 63 rfl) rfl
theorem q1582 : (Jvm.Cond.methodLink "java/lang/StringUTF16" (123 : Nat) ({ cls := "java/lang/StringUTF16", name := "compress", desc := "([BI[BII)I" } : Jvm.MethodName)) ∈ lw_all := lw_g (lw_at lw_m7 64 rfl) rfl
theorem q1583 : (Jvm.Cond.static ({ cls := "java/lang/StringUTF16", name := "compress", desc := "([BI[BII)I" } : Jvm.MethodName)) ∈ lw_all := lw_g (lw_at lw_m7 65 rfl) rfl
theorem q1584 : (Jvm.Cond.code ({ cls := "java/lang/StringUTF16", name := "compress", desc := "([BI[BII)I" } : Jvm.MethodName) prog_28_method_22_code (7 : Nat) (Option.some Jvm.ClassFile.FieldType.int)) ∈ lw_all := lw_g (lw_at lw_m7 66 rfl) rfl
theorem q1585 : (Jvm.Cond.methodLink "java/lang/StringUTF16" (173 : Nat) ({ cls := "java/lang/StringUTF16", name := "checkBoundsOffCount", desc := "(II[B)V" } : Jvm.MethodName)) ∈ lw_all := lw_g (lw_at lw_m7 67 rfl) rfl
theorem q1586 : (Jvm.Cond.static ({ cls := "java/lang/StringUTF16", name := "checkBoundsOffCount", desc := "(II[B)V" } : Jvm.MethodName)) ∈ lw_all := lw_g (lw_at lw_m7 68 rfl) rfl
theorem q1587 : (Jvm.Cond.code ({ cls := "java/lang/StringUTF16", name := "checkBoundsOffCount", desc := "(II[B)V" } : Jvm.MethodName) prog_28_method_94_code (3 : Nat) (Option.none : Option Jvm.ClassFile.FieldType)) ∈ lw_all := lw_g (lw_at lw_m7 69 rfl) rfl
theorem q1588 : (Jvm.Cond.methodLink "java/lang/StringUTF16" (419 : Nat) ({ cls := "java/lang/String", name := "checkBoundsOffCount", desc := "(III)I" } : Jvm.MethodName)) ∈ lw_all := lw_g (lw_at lw_m7 70 rfl) rfl
theorem q1594 : (Jvm.Cond.methodLink "java/lang/StringUTF16" (11 : Nat) ({ cls := "java/lang/StringUTF16", name := "newBytesLength", desc := "(I)I" } : Jvm.MethodName)) ∈ lw_all := lw_g (lw_at lw_m7 76 rfl) rfl
theorem q1595 : (Jvm.Cond.static ({ cls := "java/lang/StringUTF16", name := "newBytesLength", desc := "(I)I" } : Jvm.MethodName)) ∈ lw_all := lw_g (lw_at lw_m7 77 rfl) rfl
theorem q1596 : (Jvm.Cond.code ({ cls := "java/lang/StringUTF16", name := "newBytesLength", desc := "(I)I" } : Jvm.MethodName) prog_28_method_3_code (1 : Nat) (Option.some Jvm.ClassFile.FieldType.int)) ∈ lw_all := lw_g (lw_at lw_m7 78 rfl) rfl
theorem q1597 : (Jvm.Cond.classLink "java/lang/StringUTF16" (17 : Nat) "java/lang/NegativeArraySizeException") ∈ lw_all := lw_g (lw_at lw_m7 79 rfl) rfl
theorem q1598 : (Jvm.Cond.methodLink "java/lang/StringUTF16" (19 : Nat) ({ cls := "java/lang/NegativeArraySizeException", name := "<init>", desc := "()V" } : Jvm.MethodName)) ∈ lw_all := lw_g (lw_at lw_m7 80 rfl) rfl
theorem q1602 : (Jvm.Cond.constant "java/lang/StringUTF16" (20 : Nat) (1073741823 : Int32)) ∈ lw_all := lw_g (lw_at lw_m7 84 rfl) rfl
theorem q1603 : (Jvm.Cond.methodLink "java/lang/StringUTF16" (126 : Nat) ({ cls := "java/util/Arrays", name := "copyOfRange", desc := "([BII)[B" } : Jvm.MethodName)) ∈ lw_all := lw_g (lw_at lw_m7 85 rfl) rfl
theorem q1604 : (Jvm.Cond.methodLink "java/lang/StringUTF16" (259 : Nat) ({ cls := "java/lang/StringUTF16", name := "coderFromArrayLen", desc := "([BI)B" } : Jvm.MethodName)) ∈ lw_all := lw_g (lw_at lw_m7 86 rfl) rfl
theorem q1605 : (Jvm.Cond.static ({ cls := "java/lang/StringUTF16", name := "coderFromArrayLen", desc := "([BI)B" } : Jvm.MethodName)) ∈ lw_all := lw_g (lw_at lw_m7 87 rfl) rfl
theorem q1606 : (Jvm.Cond.code ({ cls := "java/lang/StringUTF16", name := "coderFromArrayLen", desc := "([BI)B" } : Jvm.MethodName) prog_28_method_15_code (2 : Nat) (Option.some Jvm.ClassFile.FieldType.byte)) ∈ lw_all := lw_g (lw_at lw_m7 88 rfl) rfl
theorem q1607 : (Jvm.Cond.classLink "java/lang/StringUTF16" (3 : Nat) "java/lang/String") ∈ lw_all := lw_g (lw_at lw_m7 89 rfl) rfl
theorem q1608 : (Jvm.Cond.methodLink "java/lang/StringUTF16" (263 : Nat) ({ cls := "java/lang/String", name := "<init>", desc := "([BB)V" } : Jvm.MethodName)) ∈ lw_all := lw_g (lw_at lw_m7 90 rfl) rfl
/-! java/lang/RuntimeException -/
set_option maxRecDepth 100000
def RJ8 : String := "java/lang/RuntimeException"
abbrev cJ8_init : ByteArray := prog_25_method_2_code
def yJ8_init : MethodName := ⟨RJ8, "<init>", "(Ljava/lang/String;)V"⟩
def dkwJ8_init_0 : List UInt8 := [42, 43, 183, 0, 7, 177]
abbrev dktJ8_init_0 : List UInt8 := dkwJ8_init_0 ++ []
theorem dksJ8_init_0 : cJ8_init.data.toList.drop 0 = dktJ8_init_0 := by decide +kernel
theorem dJ8_init_0 : decode cJ8_init 0 = .ok (.aload_n 0, 1) := dk_42 (dk_at dksJ8_init_0 0 rfl rfl)
theorem dJ8_init_1 : decode cJ8_init 1 = .ok (.aload_n 1, 1) := dk_43 (dk_at dksJ8_init_0 1 rfl rfl)
theorem dJ8_init_2 : decode cJ8_init 2 = .ok (.invokespecial 7, 3) := dk_183 0 7 (dk_at dksJ8_init_0 2 rfl rfl)
theorem dJ8_init_5 : decode cJ8_init 5 = .ok (.return_, 1) := dk_177 (dk_at dksJ8_init_0 5 rfl rfl)
abbrev cJ8_init_2 : ByteArray := prog_25_method_1_code
def yJ8_init_2 : MethodName := ⟨RJ8, "<init>", "()V"⟩
theorem dJ8_init_2_0 : decode cJ8_init_2 0 = .ok (.aload_n 0, 1) := by decide +kernel
theorem dJ8_init_2_1 : decode cJ8_init_2 1 = .ok (.invokespecial 1, 3) := by decide +kernel
theorem dJ8_init_2_4 : decode cJ8_init_2 4 = .ok (.return_, 1) := by decide +kernel
theorem q96 : (Jvm.Cond.initialized "java/lang/RuntimeException") ∈ lw_all := lw_g (lw_at lw_m1 18 rfl) rfl
theorem q702 : (Jvm.Cond.instanceMethod ({ cls := "java/lang/RuntimeException", name := "<init>", desc := "(Ljava/lang/String;)V" } : Jvm.MethodName)) ∈ lw_all := lw_g (lw_at lw_m3 144 rfl) rfl
theorem q703 : (Jvm.Cond.code ({ cls := "java/lang/RuntimeException", name := "<init>", desc := "(Ljava/lang/String;)V" } : Jvm.MethodName) prog_25_method_2_code (2 : Nat) (Option.none : Option Jvm.ClassFile.FieldType)) ∈ lw_all := lw_g (lw_at lw_m3 145 rfl) rfl
theorem q704 : (Jvm.Cond.methodLink "java/lang/RuntimeException" (7 : Nat) ({ cls := "java/lang/Exception", name := "<init>", desc := "(Ljava/lang/String;)V" } : Jvm.MethodName)) ∈ lw_all := lw_g (lw_at lw_m3 146 rfl) rfl
theorem q718 : (Jvm.Cond.declares ({ cls := "java/lang/RuntimeException", name := "<init>", desc := "()V" } : Jvm.MethodName)) ∈ lw_tbl := lw_at lw_m3 160 rfl
theorem q719 : (Jvm.Cond.declares ({ cls := "java/lang/RuntimeException", name := "<init>", desc := "(Ljava/lang/String;)V" } : Jvm.MethodName)) ∈ lw_tbl := lw_at lw_m3 161 rfl
theorem q1249 : (Jvm.Cond.instanceMethod ({ cls := "java/lang/RuntimeException", name := "<init>", desc := "()V" } : Jvm.MethodName)) ∈ lw_all := lw_g (lw_at lw_m5 211 rfl) rfl
theorem q1250 : (Jvm.Cond.code ({ cls := "java/lang/RuntimeException", name := "<init>", desc := "()V" } : Jvm.MethodName) prog_25_method_1_code (1 : Nat) (Option.none : Option Jvm.ClassFile.FieldType)) ∈ lw_all := lw_g (lw_at lw_m5 212 rfl) rfl
theorem q1251 : (Jvm.Cond.methodLink "java/lang/RuntimeException" (1 : Nat) ({ cls := "java/lang/Exception", name := "<init>", desc := "()V" } : Jvm.MethodName)) ∈ lw_all := lw_g (lw_at lw_m5 213 rfl) rfl
/-! java/lang/NegativeArraySizeException -/
set_option maxRecDepth 100000
def RJ9 : String := "java/lang/NegativeArraySizeException"
def TJ9 : u_T := fun k => match k with
  | 0 => ("java/lang/Throwable", "backtrace", "Ljava/lang/Object;", false)
  | 1 => ("java/lang/Throwable", "detailMessage", "Ljava/lang/String;", false)
  | 2 => ("java/lang/Throwable", "cause", "Ljava/lang/Throwable;", false)
  | 3 => ("java/lang/Throwable", "stackTrace", "[Ljava/lang/StackTraceElement;", false)
  | 4 => ("java/lang/Throwable", "depth", "I", false)
  | _ => ("java/lang/Throwable", "suppressedExceptions", "Ljava/util/List;", false)
def tyJ9 : Nat → FieldType := fun k => match k with
  | 0 => .object "java/lang/Object"
  | 1 => .object "java/lang/String"
  | 2 => .object "java/lang/Throwable"
  | 3 => .array (.object "java/lang/StackTraceElement")
  | 4 => .int
  | _ => .object "java/util/List"
abbrev wsJ90 : List Cond := u_ws RJ9 TJ9 6
theorem nmJ9 : ∀ a, a < 6 → ∀ b, b < 6 → a ≠ b → (TJ9 a).2.1 ≠ (TJ9 b).2.1 := by decide +kernel
theorem tyJ9_ok : ∀ k, k < 6 → parseFieldDescriptor (TJ9 k).2.2.1 = some (tyJ9 k) := by decide +kernel
abbrev cJ9_init : ByteArray := prog_24_method_2_code
def yJ9_init : MethodName := ⟨RJ9, "<init>", "(Ljava/lang/String;)V"⟩
def dkwJ9_init_0 : List UInt8 := [42, 43, 183, 0, 7, 177]
abbrev dktJ9_init_0 : List UInt8 := dkwJ9_init_0 ++ []
theorem dksJ9_init_0 : cJ9_init.data.toList.drop 0 = dktJ9_init_0 := by decide +kernel
theorem dJ9_init_0 : decode cJ9_init 0 = .ok (.aload_n 0, 1) := dk_42 (dk_at dksJ9_init_0 0 rfl rfl)
theorem dJ9_init_1 : decode cJ9_init 1 = .ok (.aload_n 1, 1) := dk_43 (dk_at dksJ9_init_0 1 rfl rfl)
theorem dJ9_init_2 : decode cJ9_init 2 = .ok (.invokespecial 7, 3) := dk_183 0 7 (dk_at dksJ9_init_0 2 rfl rfl)
theorem dJ9_init_5 : decode cJ9_init 5 = .ok (.return_, 1) := dk_177 (dk_at dksJ9_init_0 5 rfl rfl)
abbrev cJ9_init_2 : ByteArray := prog_24_method_1_code
def yJ9_init_2 : MethodName := ⟨RJ9, "<init>", "()V"⟩
theorem dJ9_init_2_0 : decode cJ9_init_2 0 = .ok (.aload_n 0, 1) := by decide +kernel
theorem dJ9_init_2_1 : decode cJ9_init_2 1 = .ok (.invokespecial 1, 3) := by decide +kernel
theorem dJ9_init_2_4 : decode cJ9_init_2 4 = .ok (.return_, 1) := by decide +kernel
theorem q97 : (Jvm.Cond.initialized "java/lang/NegativeArraySizeException") ∈ lw_all := lw_g (lw_at lw_m1 19 rfl) rfl
theorem q420 : (Jvm.Cond.selects "java/lang/NegativeArraySizeException" ({ cls := "java/lang/Throwable", name := "fillInStackTrace", desc := "()Ljava/lang/Throwable;" } : Jvm.MethodName) ({ cls := "java/lang/Throwable", name := "fillInStackTrace", desc := "()Ljava/lang/Throwable;" } : Jvm.MethodName)) ∈ lw_all := lw_g (lw_at lw_m2 102 rfl) rfl
theorem q698 : (Jvm.Cond.instantiable "java/lang/NegativeArraySizeException" (6 : Nat)) ∈ lw_all := lw_g (lw_at lw_m3 140 rfl) rfl
theorem q699 : (Jvm.Cond.instanceMethod ({ cls := "java/lang/NegativeArraySizeException", name := "<init>", desc := "(Ljava/lang/String;)V" } : Jvm.MethodName)) ∈ lw_all := lw_g (lw_at lw_m3 141 rfl) rfl
theorem q700 : (Jvm.Cond.code ({ cls := "java/lang/NegativeArraySizeException", name := "<init>", desc := "(Ljava/lang/String;)V" } : Jvm.MethodName) prog_24_method_2_code (2 : Nat) (Option.none : Option Jvm.ClassFile.FieldType)) ∈ lw_all := lw_g (lw_at lw_m3 142 rfl) rfl
theorem q701 : (Jvm.Cond.methodLink "java/lang/NegativeArraySizeException" (7 : Nat) ({ cls := "java/lang/RuntimeException", name := "<init>", desc := "(Ljava/lang/String;)V" } : Jvm.MethodName)) ∈ lw_all := lw_g (lw_at lw_m3 143 rfl) rfl
theorem q710 : (Jvm.Cond.lays "java/lang/NegativeArraySizeException" "java/lang/Throwable" "backtrace" "Ljava/lang/Object;") ∈ lw_all := lw_g (lw_at lw_m3 152 rfl) rfl
theorem q711 : (Jvm.Cond.lays "java/lang/NegativeArraySizeException" "java/lang/Throwable" "detailMessage" "Ljava/lang/String;") ∈ lw_all := lw_g (lw_at lw_m3 153 rfl) rfl
theorem q712 : (Jvm.Cond.lays "java/lang/NegativeArraySizeException" "java/lang/Throwable" "cause" "Ljava/lang/Throwable;") ∈ lw_all := lw_g (lw_at lw_m3 154 rfl) rfl
theorem q713 : (Jvm.Cond.lays "java/lang/NegativeArraySizeException" "java/lang/Throwable" "stackTrace" "[Ljava/lang/StackTraceElement;") ∈ lw_all := lw_g (lw_at lw_m3 155 rfl) rfl
theorem q714 : (Jvm.Cond.lays "java/lang/NegativeArraySizeException" "java/lang/Throwable" "depth" "I") ∈ lw_all := lw_g (lw_at lw_m3 156 rfl) rfl
theorem q715 : (Jvm.Cond.lays "java/lang/NegativeArraySizeException" "java/lang/Throwable" "suppressedExceptions" "Ljava/util/List;") ∈ lw_all := lw_g (lw_at lw_m3 157 rfl) rfl
theorem q716 : (Jvm.Cond.superclass "java/lang/NegativeArraySizeException" "java/lang/RuntimeException") ∈ lw_all := lw_g (lw_at lw_m3 158 rfl) rfl
theorem q717 : (Jvm.Cond.castable "java/lang/NegativeArraySizeException" "java/lang/NegativeArraySizeException") ∈ lw_tbl := lw_at lw_m3 159 rfl
theorem q720 : (Jvm.Cond.selects "java/lang/NegativeArraySizeException" ({ cls := "java/lang/Throwable", name := "fillInStackTrace", desc := "(I)Ljava/lang/Throwable;" } : Jvm.MethodName) ({ cls := "java/lang/Throwable", name := "fillInStackTrace", desc := "(I)Ljava/lang/Throwable;" } : Jvm.MethodName)) ∈ lw_all := lw_g (lw_at lw_m3 162 rfl) rfl
theorem q1599 : (Jvm.Cond.instanceMethod ({ cls := "java/lang/NegativeArraySizeException", name := "<init>", desc := "()V" } : Jvm.MethodName)) ∈ lw_all := lw_g (lw_at lw_m7 81 rfl) rfl
theorem q1600 : (Jvm.Cond.code ({ cls := "java/lang/NegativeArraySizeException", name := "<init>", desc := "()V" } : Jvm.MethodName) prog_24_method_1_code (1 : Nat) (Option.none : Option Jvm.ClassFile.FieldType)) ∈ lw_all := lw_g (lw_at lw_m7 82 rfl) rfl
theorem q1601 : (Jvm.Cond.methodLink "java/lang/NegativeArraySizeException" (1 : Nat) ({ cls := "java/lang/RuntimeException", name := "<init>", desc := "()V" } : Jvm.MethodName)) ∈ lw_all := lw_g (lw_at lw_m7 83 rfl) rfl
theorem q1971 : (Jvm.Cond.castable "java/lang/NegativeArraySizeException" "java/lang/Object") ∈ lw_tbl := lw_at lw_m8 213 rfl
theorem in_J9 : ∀ w ∈ wsJ90, w ∈ lw_all := lw_in wsJ90 [710, 711, 712, 713, 714, 715] (by decide +kernel) (by decide +kernel)
/-! java/lang/Character -/
set_option maxRecDepth 100000
def RJ10 : String := "java/lang/Character"
abbrev cJ10_isValidCodePoint : ByteArray := prog_18_method_11_code
def yJ10_isValidCodePoint : MethodName := ⟨RJ10, "isValidCodePoint", "(I)Z"⟩
def dkwJ10_isValidCodePoint_0 : List UInt8 := [26, 16, 16, 124, 60, 27, 16, 17, 162, 0, 7, 4, 167, 0, 4, 3, 172]
abbrev dktJ10_isValidCodePoint_0 : List UInt8 := dkwJ10_isValidCodePoint_0 ++ []
theorem dksJ10_isValidCodePoint_0 : cJ10_isValidCodePoint.data.toList.drop 0 = dktJ10_isValidCodePoint_0 := by decide +kernel
theorem dJ10_isValidCodePoint_0 : decode cJ10_isValidCodePoint 0 = .ok (.iload_n 0, 1) := dk_26 (dk_at dksJ10_isValidCodePoint_0 0 rfl rfl)
theorem dJ10_isValidCodePoint_1 : decode cJ10_isValidCodePoint 1 = .ok (.bipush 16, 2) := dk_16 16 (dk_at dksJ10_isValidCodePoint_0 1 rfl rfl)
theorem dJ10_isValidCodePoint_3 : decode cJ10_isValidCodePoint 3 = .ok (.iushr, 1) := dk_124 (dk_at dksJ10_isValidCodePoint_0 3 rfl rfl)
theorem dJ10_isValidCodePoint_4 : decode cJ10_isValidCodePoint 4 = .ok (.istore_n 1, 1) := dk_60 (dk_at dksJ10_isValidCodePoint_0 4 rfl rfl)
theorem dJ10_isValidCodePoint_5 : decode cJ10_isValidCodePoint 5 = .ok (.iload_n 1, 1) := dk_27 (dk_at dksJ10_isValidCodePoint_0 5 rfl rfl)
theorem dJ10_isValidCodePoint_6 : decode cJ10_isValidCodePoint 6 = .ok (.bipush 17, 2) := dk_16 17 (dk_at dksJ10_isValidCodePoint_0 6 rfl rfl)
theorem dJ10_isValidCodePoint_8 : decode cJ10_isValidCodePoint 8 = .ok (.if_icmp .ge 7, 3) := dk_162 0 7 (dk_at dksJ10_isValidCodePoint_0 8 rfl rfl)
theorem dJ10_isValidCodePoint_11 : decode cJ10_isValidCodePoint 11 = .ok (.iconst 1, 1) := dk_4 (dk_at dksJ10_isValidCodePoint_0 11 rfl rfl)
theorem dJ10_isValidCodePoint_12 : decode cJ10_isValidCodePoint 12 = .ok (.goto 4, 3) := dk_167 0 4 (dk_at dksJ10_isValidCodePoint_0 12 rfl rfl)
theorem dJ10_isValidCodePoint_15 : decode cJ10_isValidCodePoint 15 = .ok (.iconst 0, 1) := dk_3 (dk_at dksJ10_isValidCodePoint_0 15 rfl rfl)
theorem dJ10_isValidCodePoint_16 : decode cJ10_isValidCodePoint 16 = .ok (.ireturn, 1) := dk_172 (dk_at dksJ10_isValidCodePoint_0 16 rfl rfl)
abbrev cJ10_highSurrogate : ByteArray := prog_18_method_28_code
def yJ10_highSurrogate : MethodName := ⟨RJ10, "highSurrogate", "(I)C"⟩
def dkwJ10_highSurrogate_0 : List UInt8 := [26, 16, 10, 124, 18, 110, 96, 146, 172]
abbrev dktJ10_highSurrogate_0 : List UInt8 := dkwJ10_highSurrogate_0 ++ []
theorem dksJ10_highSurrogate_0 : cJ10_highSurrogate.data.toList.drop 0 = dktJ10_highSurrogate_0 := by decide +kernel
theorem dJ10_highSurrogate_0 : decode cJ10_highSurrogate 0 = .ok (.iload_n 0, 1) := dk_26 (dk_at dksJ10_highSurrogate_0 0 rfl rfl)
theorem dJ10_highSurrogate_1 : decode cJ10_highSurrogate 1 = .ok (.bipush 10, 2) := dk_16 10 (dk_at dksJ10_highSurrogate_0 1 rfl rfl)
theorem dJ10_highSurrogate_3 : decode cJ10_highSurrogate 3 = .ok (.iushr, 1) := dk_124 (dk_at dksJ10_highSurrogate_0 3 rfl rfl)
theorem dJ10_highSurrogate_4 : decode cJ10_highSurrogate 4 = .ok (.ldc 110, 2) := dk_18 110 (dk_at dksJ10_highSurrogate_0 4 rfl rfl)
theorem dJ10_highSurrogate_6 : decode cJ10_highSurrogate 6 = .ok (.iadd, 1) := dk_96 (dk_at dksJ10_highSurrogate_0 6 rfl rfl)
theorem dJ10_highSurrogate_7 : decode cJ10_highSurrogate 7 = .ok (.i2c, 1) := dk_146 (dk_at dksJ10_highSurrogate_0 7 rfl rfl)
theorem dJ10_highSurrogate_8 : decode cJ10_highSurrogate 8 = .ok (.ireturn, 1) := dk_172 (dk_at dksJ10_highSurrogate_0 8 rfl rfl)
abbrev cJ10_lowSurrogate : ByteArray := prog_18_method_29_code
def yJ10_lowSurrogate : MethodName := ⟨RJ10, "lowSurrogate", "(I)C"⟩
def dkwJ10_lowSurrogate_0 : List UInt8 := [26, 17, 3, 255, 126, 18, 76, 96, 146, 172]
abbrev dktJ10_lowSurrogate_0 : List UInt8 := dkwJ10_lowSurrogate_0 ++ []
theorem dksJ10_lowSurrogate_0 : cJ10_lowSurrogate.data.toList.drop 0 = dktJ10_lowSurrogate_0 := by decide +kernel
theorem dJ10_lowSurrogate_0 : decode cJ10_lowSurrogate 0 = .ok (.iload_n 0, 1) := dk_26 (dk_at dksJ10_lowSurrogate_0 0 rfl rfl)
theorem dJ10_lowSurrogate_1 : decode cJ10_lowSurrogate 1 = .ok (.sipush 1023, 3) := dk_17 3 255 (dk_at dksJ10_lowSurrogate_0 1 rfl rfl)
theorem dJ10_lowSurrogate_4 : decode cJ10_lowSurrogate 4 = .ok (.iand, 1) := dk_126 (dk_at dksJ10_lowSurrogate_0 4 rfl rfl)
theorem dJ10_lowSurrogate_5 : decode cJ10_lowSurrogate 5 = .ok (.ldc 76, 2) := dk_18 76 (dk_at dksJ10_lowSurrogate_0 5 rfl rfl)
theorem dJ10_lowSurrogate_7 : decode cJ10_lowSurrogate 7 = .ok (.iadd, 1) := dk_96 (dk_at dksJ10_lowSurrogate_0 7 rfl rfl)
theorem dJ10_lowSurrogate_8 : decode cJ10_lowSurrogate 8 = .ok (.i2c, 1) := dk_146 (dk_at dksJ10_lowSurrogate_0 8 rfl rfl)
theorem dJ10_lowSurrogate_9 : decode cJ10_lowSurrogate 9 = .ok (.ireturn, 1) := dk_172 (dk_at dksJ10_lowSurrogate_0 9 rfl rfl)
theorem q99 : (Jvm.Cond.initialized "java/lang/Character") ∈ lw_all := lw_g (lw_at lw_m1 21 rfl) rfl
theorem q656 : (Jvm.Cond.static ({ cls := "java/lang/Character", name := "isValidCodePoint", desc := "(I)Z" } : Jvm.MethodName)) ∈ lw_all := lw_g (lw_at lw_m3 98 rfl) rfl
theorem q657 : (Jvm.Cond.code ({ cls := "java/lang/Character", name := "isValidCodePoint", desc := "(I)Z" } : Jvm.MethodName) prog_18_method_11_code (2 : Nat) (Option.some Jvm.ClassFile.FieldType.boolean)) ∈ lw_all := lw_g (lw_at lw_m3 99 rfl) rfl
theorem q659 : (Jvm.Cond.static ({ cls := "java/lang/Character", name := "highSurrogate", desc := "(I)C" } : Jvm.MethodName)) ∈ lw_all := lw_g (lw_at lw_m3 101 rfl) rfl
theorem q660 : (Jvm.Cond.code ({ cls := "java/lang/Character", name := "highSurrogate", desc := "(I)C" } : Jvm.MethodName) prog_18_method_28_code (1 : Nat) (Option.some Jvm.ClassFile.FieldType.char)) ∈ lw_all := lw_g (lw_at lw_m3 102 rfl) rfl
theorem q661 : (Jvm.Cond.constant "java/lang/Character" (110 : Nat) (55232 : Int32)) ∈ lw_all := lw_g (lw_at lw_m3 103 rfl) rfl
theorem q663 : (Jvm.Cond.static ({ cls := "java/lang/Character", name := "lowSurrogate", desc := "(I)C" } : Jvm.MethodName)) ∈ lw_all := lw_g (lw_at lw_m3 105 rfl) rfl
theorem q664 : (Jvm.Cond.code ({ cls := "java/lang/Character", name := "lowSurrogate", desc := "(I)C" } : Jvm.MethodName) prog_18_method_29_code (1 : Nat) (Option.some Jvm.ClassFile.FieldType.char)) ∈ lw_all := lw_g (lw_at lw_m3 106 rfl) rfl
theorem q665 : (Jvm.Cond.constant "java/lang/Character" (76 : Nat) (56320 : Int32)) ∈ lw_all := lw_g (lw_at lw_m3 107 rfl) rfl
/-! java/lang/Integer -/
set_option maxRecDepth 100000
def RJ11 : String := "java/lang/Integer"
abbrev cJ11_bitCount : ByteArray := prog_22_method_49_code
def yJ11_bitCount : MethodName := ⟨RJ11, "bitCount", "(I)I"⟩
def dkwJ11_bitCount_2 : List UInt8 := [26, 16, 63, 126, 172]
abbrev dktJ11_bitCount_2 : List UInt8 := dkwJ11_bitCount_2 ++ []
def dkwJ11_bitCount_1 : List UInt8 := [26, 26, 7, 124, 96, 19, 1, 11, 126, 59, 26, 26, 16, 8, 124, 96, 59, 26, 26, 16, 16, 124, 96, 59]
abbrev dktJ11_bitCount_1 : List UInt8 := dkwJ11_bitCount_1 ++ dktJ11_bitCount_2
def dkwJ11_bitCount_0 : List UInt8 := [26, 26, 4, 124, 19, 1, 9, 126, 100, 59, 26, 19, 1, 10, 126, 26, 5, 124, 19, 1, 10, 126, 96, 59]
abbrev dktJ11_bitCount_0 : List UInt8 := dkwJ11_bitCount_0 ++ dktJ11_bitCount_1
theorem dksJ11_bitCount_0 : cJ11_bitCount.data.toList.drop 0 = dktJ11_bitCount_0 := by decide +kernel
theorem dksJ11_bitCount_1 : cJ11_bitCount.data.toList.drop 24 = dktJ11_bitCount_1 := dk_seg dksJ11_bitCount_0 24 rfl rfl
theorem dksJ11_bitCount_2 : cJ11_bitCount.data.toList.drop 48 = dktJ11_bitCount_2 := dk_seg dksJ11_bitCount_1 24 rfl rfl
theorem dJ11_bitCount_0 : decode cJ11_bitCount 0 = .ok (.iload_n 0, 1) := dk_26 (dk_at dksJ11_bitCount_0 0 rfl rfl)
theorem dJ11_bitCount_1 : decode cJ11_bitCount 1 = .ok (.iload_n 0, 1) := dk_26 (dk_at dksJ11_bitCount_0 1 rfl rfl)
theorem dJ11_bitCount_2 : decode cJ11_bitCount 2 = .ok (.iconst 1, 1) := dk_4 (dk_at dksJ11_bitCount_0 2 rfl rfl)
theorem dJ11_bitCount_3 : decode cJ11_bitCount 3 = .ok (.iushr, 1) := dk_124 (dk_at dksJ11_bitCount_0 3 rfl rfl)
theorem dJ11_bitCount_4 : decode cJ11_bitCount 4 = .ok (.ldc_w 265, 3) := dk_19 1 9 (dk_at dksJ11_bitCount_0 4 rfl rfl)
theorem dJ11_bitCount_7 : decode cJ11_bitCount 7 = .ok (.iand, 1) := dk_126 (dk_at dksJ11_bitCount_0 7 rfl rfl)
theorem dJ11_bitCount_8 : decode cJ11_bitCount 8 = .ok (.isub, 1) := dk_100 (dk_at dksJ11_bitCount_0 8 rfl rfl)
theorem dJ11_bitCount_9 : decode cJ11_bitCount 9 = .ok (.istore_n 0, 1) := dk_59 (dk_at dksJ11_bitCount_0 9 rfl rfl)
theorem dJ11_bitCount_10 : decode cJ11_bitCount 10 = .ok (.iload_n 0, 1) := dk_26 (dk_at dksJ11_bitCount_0 10 rfl rfl)
theorem dJ11_bitCount_11 : decode cJ11_bitCount 11 = .ok (.ldc_w 266, 3) := dk_19 1 10 (dk_at dksJ11_bitCount_0 11 rfl rfl)
theorem dJ11_bitCount_14 : decode cJ11_bitCount 14 = .ok (.iand, 1) := dk_126 (dk_at dksJ11_bitCount_0 14 rfl rfl)
theorem dJ11_bitCount_15 : decode cJ11_bitCount 15 = .ok (.iload_n 0, 1) := dk_26 (dk_at dksJ11_bitCount_0 15 rfl rfl)
theorem dJ11_bitCount_16 : decode cJ11_bitCount 16 = .ok (.iconst 2, 1) := dk_5 (dk_at dksJ11_bitCount_0 16 rfl rfl)
theorem dJ11_bitCount_17 : decode cJ11_bitCount 17 = .ok (.iushr, 1) := dk_124 (dk_at dksJ11_bitCount_0 17 rfl rfl)
theorem dJ11_bitCount_18 : decode cJ11_bitCount 18 = .ok (.ldc_w 266, 3) := dk_19 1 10 (dk_at dksJ11_bitCount_0 18 rfl rfl)
theorem dJ11_bitCount_21 : decode cJ11_bitCount 21 = .ok (.iand, 1) := dk_126 (dk_at dksJ11_bitCount_0 21 rfl rfl)
theorem dJ11_bitCount_22 : decode cJ11_bitCount 22 = .ok (.iadd, 1) := dk_96 (dk_at dksJ11_bitCount_0 22 rfl rfl)
theorem dJ11_bitCount_23 : decode cJ11_bitCount 23 = .ok (.istore_n 0, 1) := dk_59 (dk_at dksJ11_bitCount_0 23 rfl rfl)
theorem dJ11_bitCount_24 : decode cJ11_bitCount 24 = .ok (.iload_n 0, 1) := dk_26 (dk_at dksJ11_bitCount_1 0 rfl rfl)
theorem dJ11_bitCount_25 : decode cJ11_bitCount 25 = .ok (.iload_n 0, 1) := dk_26 (dk_at dksJ11_bitCount_1 1 rfl rfl)
theorem dJ11_bitCount_26 : decode cJ11_bitCount 26 = .ok (.iconst 4, 1) := dk_7 (dk_at dksJ11_bitCount_1 2 rfl rfl)
theorem dJ11_bitCount_27 : decode cJ11_bitCount 27 = .ok (.iushr, 1) := dk_124 (dk_at dksJ11_bitCount_1 3 rfl rfl)
theorem dJ11_bitCount_28 : decode cJ11_bitCount 28 = .ok (.iadd, 1) := dk_96 (dk_at dksJ11_bitCount_1 4 rfl rfl)
theorem dJ11_bitCount_29 : decode cJ11_bitCount 29 = .ok (.ldc_w 267, 3) := dk_19 1 11 (dk_at dksJ11_bitCount_1 5 rfl rfl)
theorem dJ11_bitCount_32 : decode cJ11_bitCount 32 = .ok (.iand, 1) := dk_126 (dk_at dksJ11_bitCount_1 8 rfl rfl)
theorem dJ11_bitCount_33 : decode cJ11_bitCount 33 = .ok (.istore_n 0, 1) := dk_59 (dk_at dksJ11_bitCount_1 9 rfl rfl)
theorem dJ11_bitCount_34 : decode cJ11_bitCount 34 = .ok (.iload_n 0, 1) := dk_26 (dk_at dksJ11_bitCount_1 10 rfl rfl)
theorem dJ11_bitCount_35 : decode cJ11_bitCount 35 = .ok (.iload_n 0, 1) := dk_26 (dk_at dksJ11_bitCount_1 11 rfl rfl)
theorem dJ11_bitCount_36 : decode cJ11_bitCount 36 = .ok (.bipush 8, 2) := dk_16 8 (dk_at dksJ11_bitCount_1 12 rfl rfl)
theorem dJ11_bitCount_38 : decode cJ11_bitCount 38 = .ok (.iushr, 1) := dk_124 (dk_at dksJ11_bitCount_1 14 rfl rfl)
theorem dJ11_bitCount_39 : decode cJ11_bitCount 39 = .ok (.iadd, 1) := dk_96 (dk_at dksJ11_bitCount_1 15 rfl rfl)
theorem dJ11_bitCount_40 : decode cJ11_bitCount 40 = .ok (.istore_n 0, 1) := dk_59 (dk_at dksJ11_bitCount_1 16 rfl rfl)
theorem dJ11_bitCount_41 : decode cJ11_bitCount 41 = .ok (.iload_n 0, 1) := dk_26 (dk_at dksJ11_bitCount_1 17 rfl rfl)
theorem dJ11_bitCount_42 : decode cJ11_bitCount 42 = .ok (.iload_n 0, 1) := dk_26 (dk_at dksJ11_bitCount_1 18 rfl rfl)
theorem dJ11_bitCount_43 : decode cJ11_bitCount 43 = .ok (.bipush 16, 2) := dk_16 16 (dk_at dksJ11_bitCount_1 19 rfl rfl)
theorem dJ11_bitCount_45 : decode cJ11_bitCount 45 = .ok (.iushr, 1) := dk_124 (dk_at dksJ11_bitCount_1 21 rfl rfl)
theorem dJ11_bitCount_46 : decode cJ11_bitCount 46 = .ok (.iadd, 1) := dk_96 (dk_at dksJ11_bitCount_1 22 rfl rfl)
theorem dJ11_bitCount_47 : decode cJ11_bitCount 47 = .ok (.istore_n 0, 1) := dk_59 (dk_at dksJ11_bitCount_1 23 rfl rfl)
theorem dJ11_bitCount_48 : decode cJ11_bitCount 48 = .ok (.iload_n 0, 1) := dk_26 (dk_at dksJ11_bitCount_2 0 rfl rfl)
theorem dJ11_bitCount_49 : decode cJ11_bitCount 49 = .ok (.bipush 63, 2) := dk_16 63 (dk_at dksJ11_bitCount_2 1 rfl rfl)
theorem dJ11_bitCount_51 : decode cJ11_bitCount 51 = .ok (.iand, 1) := dk_126 (dk_at dksJ11_bitCount_2 3 rfl rfl)
theorem dJ11_bitCount_52 : decode cJ11_bitCount 52 = .ok (.ireturn, 1) := dk_172 (dk_at dksJ11_bitCount_2 4 rfl rfl)
theorem q100 : (Jvm.Cond.initialized "java/lang/Integer") ∈ lw_all := lw_g (lw_at lw_m1 22 rfl) rfl
theorem q684 : (Jvm.Cond.static ({ cls := "java/lang/Integer", name := "bitCount", desc := "(I)I" } : Jvm.MethodName)) ∈ lw_all := lw_g (lw_at lw_m3 126 rfl) rfl
theorem q685 : (Jvm.Cond.code ({ cls := "java/lang/Integer", name := "bitCount", desc := "(I)I" } : Jvm.MethodName) prog_22_method_49_code (1 : Nat) (Option.some Jvm.ClassFile.FieldType.int)) ∈ lw_all := lw_g (lw_at lw_m3 127 rfl) rfl
theorem q686 : (Jvm.Cond.constant "java/lang/Integer" (265 : Nat) (1431655765 : Int32)) ∈ lw_all := lw_g (lw_at lw_m3 128 rfl) rfl
theorem q687 : (Jvm.Cond.constant "java/lang/Integer" (266 : Nat) (858993459 : Int32)) ∈ lw_all := lw_g (lw_at lw_m3 129 rfl) rfl
theorem q688 : (Jvm.Cond.constant "java/lang/Integer" (267 : Nat) (252645135 : Int32)) ∈ lw_all := lw_g (lw_at lw_m3 130 rfl) rfl
/-! java/util/NoSuchElementException -/
set_option maxRecDepth 100000
def RJ12 : String := "java/util/NoSuchElementException"
def TJ12 : u_T := fun k => match k with
  | 0 => ("java/lang/Throwable", "cause", "Ljava/lang/Throwable;", false)
  | 1 => ("java/lang/Throwable", "stackTrace", "[Ljava/lang/StackTraceElement;", false)
  | 2 => ("java/lang/Throwable", "suppressedExceptions", "Ljava/util/List;", false)
  | 3 => ("java/lang/Throwable", "detailMessage", "Ljava/lang/String;", false)
  | 4 => ("java/lang/Throwable", "backtrace", "Ljava/lang/Object;", false)
  | _ => ("java/lang/Throwable", "depth", "I", false)
def tyJ12 : Nat → FieldType := fun k => match k with
  | 0 => .object "java/lang/Throwable"
  | 1 => .array (.object "java/lang/StackTraceElement")
  | 2 => .object "java/util/List"
  | 3 => .object "java/lang/String"
  | 4 => .object "java/lang/Object"
  | _ => .int
abbrev wsJ120 : List Cond := u_ws RJ12 TJ12 6
theorem nmJ12 : ∀ a, a < 6 → ∀ b, b < 6 → a ≠ b → (TJ12 a).2.1 ≠ (TJ12 b).2.1 := by decide +kernel
theorem tyJ12_ok : ∀ k, k < 6 → parseFieldDescriptor (TJ12 k).2.2.1 = some (tyJ12 k) := by decide +kernel
abbrev cJ12_init : ByteArray := prog_34_method_1_code
def yJ12_init : MethodName := ⟨RJ12, "<init>", "()V"⟩
theorem dJ12_init_0 : decode cJ12_init 0 = .ok (.aload_n 0, 1) := by decide +kernel
theorem dJ12_init_1 : decode cJ12_init 1 = .ok (.invokespecial 1, 3) := by decide +kernel
theorem dJ12_init_4 : decode cJ12_init 4 = .ok (.return_, 1) := by decide +kernel
theorem q101 : (Jvm.Cond.initialized "java/util/NoSuchElementException") ∈ lw_all := lw_g (lw_at lw_m1 23 rfl) rfl
theorem q421 : (Jvm.Cond.selects "java/util/NoSuchElementException" ({ cls := "java/lang/Throwable", name := "fillInStackTrace", desc := "()Ljava/lang/Throwable;" } : Jvm.MethodName) ({ cls := "java/lang/Throwable", name := "fillInStackTrace", desc := "()Ljava/lang/Throwable;" } : Jvm.MethodName)) ∈ lw_all := lw_g (lw_at lw_m2 103 rfl) rfl
theorem q1237 : (Jvm.Cond.instantiable "java/util/NoSuchElementException" (6 : Nat)) ∈ lw_all := lw_g (lw_at lw_m5 199 rfl) rfl
theorem q1238 : (Jvm.Cond.castable "java/util/NoSuchElementException" "java/util/NoSuchElementException") ∈ lw_tbl := lw_at lw_m5 200 rfl
theorem q1239 : (Jvm.Cond.selects "java/util/NoSuchElementException" ({ cls := "java/lang/Throwable", name := "fillInStackTrace", desc := "(I)Ljava/lang/Throwable;" } : Jvm.MethodName) ({ cls := "java/lang/Throwable", name := "fillInStackTrace", desc := "(I)Ljava/lang/Throwable;" } : Jvm.MethodName)) ∈ lw_all := lw_g (lw_at lw_m5 201 rfl) rfl
theorem q1240 : (Jvm.Cond.lays "java/util/NoSuchElementException" "java/lang/Throwable" "cause" "Ljava/lang/Throwable;") ∈ lw_all := lw_g (lw_at lw_m5 202 rfl) rfl
theorem q1241 : (Jvm.Cond.lays "java/util/NoSuchElementException" "java/lang/Throwable" "stackTrace" "[Ljava/lang/StackTraceElement;") ∈ lw_all := lw_g (lw_at lw_m5 203 rfl) rfl
theorem q1242 : (Jvm.Cond.lays "java/util/NoSuchElementException" "java/lang/Throwable" "suppressedExceptions" "Ljava/util/List;") ∈ lw_all := lw_g (lw_at lw_m5 204 rfl) rfl
theorem q1243 : (Jvm.Cond.lays "java/util/NoSuchElementException" "java/lang/Throwable" "detailMessage" "Ljava/lang/String;") ∈ lw_all := lw_g (lw_at lw_m5 205 rfl) rfl
theorem q1244 : (Jvm.Cond.lays "java/util/NoSuchElementException" "java/lang/Throwable" "backtrace" "Ljava/lang/Object;") ∈ lw_all := lw_g (lw_at lw_m5 206 rfl) rfl
theorem q1246 : (Jvm.Cond.instanceMethod ({ cls := "java/util/NoSuchElementException", name := "<init>", desc := "()V" } : Jvm.MethodName)) ∈ lw_all := lw_g (lw_at lw_m5 208 rfl) rfl
theorem q1247 : (Jvm.Cond.code ({ cls := "java/util/NoSuchElementException", name := "<init>", desc := "()V" } : Jvm.MethodName) prog_34_method_1_code (1 : Nat) (Option.none : Option Jvm.ClassFile.FieldType)) ∈ lw_all := lw_g (lw_at lw_m5 209 rfl) rfl
theorem q1248 : (Jvm.Cond.methodLink "java/util/NoSuchElementException" (1 : Nat) ({ cls := "java/lang/RuntimeException", name := "<init>", desc := "()V" } : Jvm.MethodName)) ∈ lw_all := lw_g (lw_at lw_m5 210 rfl) rfl
theorem q1252 : (Jvm.Cond.lays "java/util/NoSuchElementException" "java/lang/Throwable" "depth" "I") ∈ lw_all := lw_g (lw_at lw_m5 214 rfl) rfl
theorem q1253 : (Jvm.Cond.superclass "java/util/NoSuchElementException" "java/lang/RuntimeException") ∈ lw_all := lw_g (lw_at lw_m5 215 rfl) rfl
theorem q1973 : (Jvm.Cond.castable "java/util/NoSuchElementException" "java/lang/Object") ∈ lw_tbl := lw_at lw_m8 215 rfl
theorem in_J12 : ∀ w ∈ wsJ120, w ∈ lw_all := lw_in wsJ120 [1240, 1241, 1242, 1243, 1244, 1252] (by decide +kernel) (by decide +kernel)
/-! java/lang/Object -/
set_option maxRecDepth 100000
def RJ13 : String := "java/lang/Object"
abbrev cJ13_init : ByteArray := object_method_1_code
def yJ13_init : MethodName := ⟨RJ13, "<init>", "()V"⟩
theorem dJ13_init_0 : decode cJ13_init 0 = .ok (.return_, 1) := by decide +kernel
theorem q113 : (Jvm.Cond.instanceMethod ({ cls := "java/lang/Object", name := "<init>", desc := "()V" } : Jvm.MethodName)) ∈ lw_all := lw_g (lw_at lw_m1 35 rfl) rfl
theorem q114 : (Jvm.Cond.code ({ cls := "java/lang/Object", name := "<init>", desc := "()V" } : Jvm.MethodName) object_method_1_code (1 : Nat) (Option.none : Option Jvm.ClassFile.FieldType)) ∈ lw_all := lw_g (lw_at lw_m1 36 rfl) rfl
theorem q519 : (Jvm.Cond.native ({ cls := "java/lang/Object", name := "clone", desc := "()Ljava/lang/Object;" } : Jvm.MethodName)) ∈ lw_all := lw_g (lw_at lw_m2 201 rfl) rfl
theorem q520 : (Jvm.Cond.instanceMethod ({ cls := "java/lang/Object", name := "clone", desc := "()Ljava/lang/Object;" } : Jvm.MethodName)) ∈ lw_all := lw_g (lw_at lw_m2 202 rfl) rfl
theorem q1962 : (Jvm.Cond.initialized "java/lang/Object") ∈ lw_all := lw_g (lw_at lw_m8 204 rfl) rfl
