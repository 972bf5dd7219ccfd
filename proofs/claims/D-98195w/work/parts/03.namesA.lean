/-! java/lang/Throwable -/
set_option maxRecDepth 100000
def RJ0 : String := "java/lang/Throwable"
def TJ0 : u_T := fun k => match k with
  | 0 => ("java/lang/Throwable", "cause", "Ljava/lang/Throwable;", false)
  | 1 => ("java/lang/Throwable", "stackTrace", "[Ljava/lang/StackTraceElement;", false)
  | 2 => ("java/lang/Throwable", "suppressedExceptions", "Ljava/util/List;", false)
  | 3 => ("java/lang/Throwable", "detailMessage", "Ljava/lang/String;", false)
  | _ => ("java/lang/Throwable", "backtrace", "Ljava/lang/Object;", false)
def tyJ0 : Nat → FieldType := fun k => match k with
  | 0 => .object "java/lang/Throwable"
  | 1 => .array (.object "java/lang/StackTraceElement")
  | 2 => .object "java/util/List"
  | 3 => .object "java/lang/String"
  | _ => .object "java/lang/Object"
abbrev wsJ00 : List Cond := u_ws RJ0 TJ0 5
theorem nmJ0 : ∀ a, a < 5 → ∀ b, b < 5 → a ≠ b → (TJ0 a).2.1 ≠ (TJ0 b).2.1 := by decide +kernel
theorem tyJ0_ok : ∀ k, k < 5 → parseFieldDescriptor (TJ0 k).2.2.1 = some (tyJ0 k) := by decide +kernel
abbrev cJ0_init : ByteArray := prog_33_method_1_code
def yJ0_init : MethodName := ⟨RJ0, "<init>", "()V"⟩
def dkwJ0_init_1 : List UInt8 := [182, 0, 27, 87, 177]
abbrev dktJ0_init_1 : List UInt8 := dkwJ0_init_1 ++ []
def dkwJ0_init_0 : List UInt8 := [42, 183, 0, 1, 42, 42, 181, 0, 7, 42, 178, 0, 13, 181, 0, 17, 42, 178, 0, 20, 181, 0, 24, 42]
abbrev dktJ0_init_0 : List UInt8 := dkwJ0_init_0 ++ dktJ0_init_1
theorem dksJ0_init_0 : cJ0_init.data.toList.drop 0 = dktJ0_init_0 := by decide +kernel
theorem dksJ0_init_1 : cJ0_init.data.toList.drop 24 = dktJ0_init_1 := dk_seg dksJ0_init_0 24 rfl rfl
theorem dJ0_init_0 : decode cJ0_init 0 = .ok (.aload_n 0, 1) := dk_42 (dk_at dksJ0_init_0 0 rfl rfl)
theorem dJ0_init_1 : decode cJ0_init 1 = .ok (.invokespecial 1, 3) := dk_183 0 1 (dk_at dksJ0_init_0 1 rfl rfl)
theorem dJ0_init_4 : decode cJ0_init 4 = .ok (.aload_n 0, 1) := dk_42 (dk_at dksJ0_init_0 4 rfl rfl)
theorem dJ0_init_5 : decode cJ0_init 5 = .ok (.aload_n 0, 1) := dk_42 (dk_at dksJ0_init_0 5 rfl rfl)
theorem dJ0_init_6 : decode cJ0_init 6 = .ok (.putfield 7, 3) := dk_181 0 7 (dk_at dksJ0_init_0 6 rfl rfl)
theorem dJ0_init_9 : decode cJ0_init 9 = .ok (.aload_n 0, 1) := dk_42 (dk_at dksJ0_init_0 9 rfl rfl)
theorem dJ0_init_10 : decode cJ0_init 10 = .ok (.getstatic 13, 3) := dk_178 0 13 (dk_at dksJ0_init_0 10 rfl rfl)
theorem dJ0_init_13 : decode cJ0_init 13 = .ok (.putfield 17, 3) := dk_181 0 17 (dk_at dksJ0_init_0 13 rfl rfl)
theorem dJ0_init_16 : decode cJ0_init 16 = .ok (.aload_n 0, 1) := dk_42 (dk_at dksJ0_init_0 16 rfl rfl)
theorem dJ0_init_17 : decode cJ0_init 17 = .ok (.getstatic 20, 3) := dk_178 0 20 (dk_at dksJ0_init_0 17 rfl rfl)
theorem dJ0_init_20 : decode cJ0_init 20 = .ok (.putfield 24, 3) := dk_181 0 24 (dk_at dksJ0_init_0 20 rfl rfl)
theorem dJ0_init_23 : decode cJ0_init 23 = .ok (.aload_n 0, 1) := dk_42 (dk_at dksJ0_init_0 23 rfl rfl)
theorem dJ0_init_24 : decode cJ0_init 24 = .ok (.invokevirtual 27, 3) := dk_182 0 27 (dk_at dksJ0_init_1 0 rfl rfl)
theorem dJ0_init_27 : decode cJ0_init 27 = .ok (.pop, 1) := dk_87 (dk_at dksJ0_init_1 3 rfl rfl)
theorem dJ0_init_28 : decode cJ0_init 28 = .ok (.return_, 1) := dk_177 (dk_at dksJ0_init_1 4 rfl rfl)
abbrev cJ0_init_2 : ByteArray := prog_33_method_5_code
def yJ0_init_2 : MethodName := ⟨RJ0, "<init>", "(Ljava/lang/String;Ljava/lang/Throwable;ZZ)V"⟩
def dkwJ0_init_2_2 : List UInt8 := [44, 181, 0, 7, 29, 154, 0, 8, 42, 1, 181, 0, 24, 177]
abbrev dktJ0_init_2_2 : List UInt8 := dkwJ0_init_2_2 ++ []
def dkwJ0_init_2_1 : List UInt8 := [21, 4, 153, 0, 11, 42, 182, 0, 27, 87, 167, 0, 8, 42, 1, 181, 0, 17, 42, 43, 181, 0, 31, 42]
abbrev dktJ0_init_2_1 : List UInt8 := dkwJ0_init_2_1 ++ dktJ0_init_2_2
def dkwJ0_init_2_0 : List UInt8 := [42, 183, 0, 1, 42, 42, 181, 0, 7, 42, 178, 0, 13, 181, 0, 17, 42, 178, 0, 20, 181, 0, 24]
abbrev dktJ0_init_2_0 : List UInt8 := dkwJ0_init_2_0 ++ dktJ0_init_2_1
theorem dksJ0_init_2_0 : cJ0_init_2.data.toList.drop 0 = dktJ0_init_2_0 := by decide +kernel
theorem dksJ0_init_2_1 : cJ0_init_2.data.toList.drop 23 = dktJ0_init_2_1 := dk_seg dksJ0_init_2_0 23 rfl rfl
theorem dksJ0_init_2_2 : cJ0_init_2.data.toList.drop 47 = dktJ0_init_2_2 := dk_seg dksJ0_init_2_1 24 rfl rfl
theorem dJ0_init_2_0 : decode cJ0_init_2 0 = .ok (.aload_n 0, 1) := dk_42 (dk_at dksJ0_init_2_0 0 rfl rfl)
theorem dJ0_init_2_1 : decode cJ0_init_2 1 = .ok (.invokespecial 1, 3) := dk_183 0 1 (dk_at dksJ0_init_2_0 1 rfl rfl)
theorem dJ0_init_2_4 : decode cJ0_init_2 4 = .ok (.aload_n 0, 1) := dk_42 (dk_at dksJ0_init_2_0 4 rfl rfl)
theorem dJ0_init_2_5 : decode cJ0_init_2 5 = .ok (.aload_n 0, 1) := dk_42 (dk_at dksJ0_init_2_0 5 rfl rfl)
theorem dJ0_init_2_6 : decode cJ0_init_2 6 = .ok (.putfield 7, 3) := dk_181 0 7 (dk_at dksJ0_init_2_0 6 rfl rfl)
theorem dJ0_init_2_9 : decode cJ0_init_2 9 = .ok (.aload_n 0, 1) := dk_42 (dk_at dksJ0_init_2_0 9 rfl rfl)
theorem dJ0_init_2_10 : decode cJ0_init_2 10 = .ok (.getstatic 13, 3) := dk_178 0 13 (dk_at dksJ0_init_2_0 10 rfl rfl)
theorem dJ0_init_2_13 : decode cJ0_init_2 13 = .ok (.putfield 17, 3) := dk_181 0 17 (dk_at dksJ0_init_2_0 13 rfl rfl)
theorem dJ0_init_2_16 : decode cJ0_init_2 16 = .ok (.aload_n 0, 1) := dk_42 (dk_at dksJ0_init_2_0 16 rfl rfl)
theorem dJ0_init_2_17 : decode cJ0_init_2 17 = .ok (.getstatic 20, 3) := dk_178 0 20 (dk_at dksJ0_init_2_0 17 rfl rfl)
theorem dJ0_init_2_20 : decode cJ0_init_2 20 = .ok (.putfield 24, 3) := dk_181 0 24 (dk_at dksJ0_init_2_0 20 rfl rfl)
theorem dJ0_init_2_23 : decode cJ0_init_2 23 = .ok (.iload 4, 2) := dk_21 4 (dk_at dksJ0_init_2_1 0 rfl rfl)
theorem dJ0_init_2_25 : decode cJ0_init_2 25 = .ok (.ifCond .eq 11, 3) := dk_153 0 11 (dk_at dksJ0_init_2_1 2 rfl rfl)
theorem dJ0_init_2_28 : decode cJ0_init_2 28 = .ok (.aload_n 0, 1) := dk_42 (dk_at dksJ0_init_2_1 5 rfl rfl)
theorem dJ0_init_2_29 : decode cJ0_init_2 29 = .ok (.invokevirtual 27, 3) := dk_182 0 27 (dk_at dksJ0_init_2_1 6 rfl rfl)
theorem dJ0_init_2_32 : decode cJ0_init_2 32 = .ok (.pop, 1) := dk_87 (dk_at dksJ0_init_2_1 9 rfl rfl)
theorem dJ0_init_2_33 : decode cJ0_init_2 33 = .ok (.goto 8, 3) := dk_167 0 8 (dk_at dksJ0_init_2_1 10 rfl rfl)
theorem dJ0_init_2_36 : decode cJ0_init_2 36 = .ok (.aload_n 0, 1) := dk_42 (dk_at dksJ0_init_2_1 13 rfl rfl)
theorem dJ0_init_2_37 : decode cJ0_init_2 37 = .ok (.aconst_null, 1) := dk_1 (dk_at dksJ0_init_2_1 14 rfl rfl)
theorem dJ0_init_2_38 : decode cJ0_init_2 38 = .ok (.putfield 17, 3) := dk_181 0 17 (dk_at dksJ0_init_2_1 15 rfl rfl)
theorem dJ0_init_2_41 : decode cJ0_init_2 41 = .ok (.aload_n 0, 1) := dk_42 (dk_at dksJ0_init_2_1 18 rfl rfl)
theorem dJ0_init_2_42 : decode cJ0_init_2 42 = .ok (.aload_n 1, 1) := dk_43 (dk_at dksJ0_init_2_1 19 rfl rfl)
theorem dJ0_init_2_43 : decode cJ0_init_2 43 = .ok (.putfield 31, 3) := dk_181 0 31 (dk_at dksJ0_init_2_1 20 rfl rfl)
theorem dJ0_init_2_46 : decode cJ0_init_2 46 = .ok (.aload_n 0, 1) := dk_42 (dk_at dksJ0_init_2_1 23 rfl rfl)
theorem dJ0_init_2_47 : decode cJ0_init_2 47 = .ok (.aload_n 2, 1) := dk_44 (dk_at dksJ0_init_2_2 0 rfl rfl)
theorem dJ0_init_2_48 : decode cJ0_init_2 48 = .ok (.putfield 7, 3) := dk_181 0 7 (dk_at dksJ0_init_2_2 1 rfl rfl)
theorem dJ0_init_2_51 : decode cJ0_init_2 51 = .ok (.iload_n 3, 1) := dk_29 (dk_at dksJ0_init_2_2 4 rfl rfl)
theorem dJ0_init_2_52 : decode cJ0_init_2 52 = .ok (.ifCond .ne 8, 3) := dk_154 0 8 (dk_at dksJ0_init_2_2 5 rfl rfl)
theorem dJ0_init_2_55 : decode cJ0_init_2 55 = .ok (.aload_n 0, 1) := dk_42 (dk_at dksJ0_init_2_2 8 rfl rfl)
theorem dJ0_init_2_56 : decode cJ0_init_2 56 = .ok (.aconst_null, 1) := dk_1 (dk_at dksJ0_init_2_2 9 rfl rfl)
theorem dJ0_init_2_57 : decode cJ0_init_2 57 = .ok (.putfield 24, 3) := dk_181 0 24 (dk_at dksJ0_init_2_2 10 rfl rfl)
theorem dJ0_init_2_60 : decode cJ0_init_2 60 = .ok (.return_, 1) := dk_177 (dk_at dksJ0_init_2_2 13 rfl rfl)
abbrev cJ0_init_3 : ByteArray := prog_33_method_2_code
def yJ0_init_3 : MethodName := ⟨RJ0, "<init>", "(Ljava/lang/String;)V"⟩
def dkwJ0_init_3_1 : List UInt8 := [182, 0, 27, 87, 42, 43, 181, 0, 31, 177]
abbrev dktJ0_init_3_1 : List UInt8 := dkwJ0_init_3_1 ++ []
def dkwJ0_init_3_0 : List UInt8 := [42, 183, 0, 1, 42, 42, 181, 0, 7, 42, 178, 0, 13, 181, 0, 17, 42, 178, 0, 20, 181, 0, 24, 42]
abbrev dktJ0_init_3_0 : List UInt8 := dkwJ0_init_3_0 ++ dktJ0_init_3_1
theorem dksJ0_init_3_0 : cJ0_init_3.data.toList.drop 0 = dktJ0_init_3_0 := by decide +kernel
theorem dksJ0_init_3_1 : cJ0_init_3.data.toList.drop 24 = dktJ0_init_3_1 := dk_seg dksJ0_init_3_0 24 rfl rfl
theorem dJ0_init_3_0 : decode cJ0_init_3 0 = .ok (.aload_n 0, 1) := dk_42 (dk_at dksJ0_init_3_0 0 rfl rfl)
theorem dJ0_init_3_1 : decode cJ0_init_3 1 = .ok (.invokespecial 1, 3) := dk_183 0 1 (dk_at dksJ0_init_3_0 1 rfl rfl)
theorem dJ0_init_3_4 : decode cJ0_init_3 4 = .ok (.aload_n 0, 1) := dk_42 (dk_at dksJ0_init_3_0 4 rfl rfl)
theorem dJ0_init_3_5 : decode cJ0_init_3 5 = .ok (.aload_n 0, 1) := dk_42 (dk_at dksJ0_init_3_0 5 rfl rfl)
theorem dJ0_init_3_6 : decode cJ0_init_3 6 = .ok (.putfield 7, 3) := dk_181 0 7 (dk_at dksJ0_init_3_0 6 rfl rfl)
theorem dJ0_init_3_9 : decode cJ0_init_3 9 = .ok (.aload_n 0, 1) := dk_42 (dk_at dksJ0_init_3_0 9 rfl rfl)
theorem dJ0_init_3_10 : decode cJ0_init_3 10 = .ok (.getstatic 13, 3) := dk_178 0 13 (dk_at dksJ0_init_3_0 10 rfl rfl)
theorem dJ0_init_3_13 : decode cJ0_init_3 13 = .ok (.putfield 17, 3) := dk_181 0 17 (dk_at dksJ0_init_3_0 13 rfl rfl)
theorem dJ0_init_3_16 : decode cJ0_init_3 16 = .ok (.aload_n 0, 1) := dk_42 (dk_at dksJ0_init_3_0 16 rfl rfl)
theorem dJ0_init_3_17 : decode cJ0_init_3 17 = .ok (.getstatic 20, 3) := dk_178 0 20 (dk_at dksJ0_init_3_0 17 rfl rfl)
theorem dJ0_init_3_20 : decode cJ0_init_3 20 = .ok (.putfield 24, 3) := dk_181 0 24 (dk_at dksJ0_init_3_0 20 rfl rfl)
theorem dJ0_init_3_23 : decode cJ0_init_3 23 = .ok (.aload_n 0, 1) := dk_42 (dk_at dksJ0_init_3_0 23 rfl rfl)
theorem dJ0_init_3_24 : decode cJ0_init_3 24 = .ok (.invokevirtual 27, 3) := dk_182 0 27 (dk_at dksJ0_init_3_1 0 rfl rfl)
theorem dJ0_init_3_27 : decode cJ0_init_3 27 = .ok (.pop, 1) := dk_87 (dk_at dksJ0_init_3_1 3 rfl rfl)
theorem dJ0_init_3_28 : decode cJ0_init_3 28 = .ok (.aload_n 0, 1) := dk_42 (dk_at dksJ0_init_3_1 4 rfl rfl)
theorem dJ0_init_3_29 : decode cJ0_init_3 29 = .ok (.aload_n 1, 1) := dk_43 (dk_at dksJ0_init_3_1 5 rfl rfl)
theorem dJ0_init_3_30 : decode cJ0_init_3 30 = .ok (.putfield 31, 3) := dk_181 0 31 (dk_at dksJ0_init_3_1 6 rfl rfl)
theorem dJ0_init_3_33 : decode cJ0_init_3 33 = .ok (.return_, 1) := dk_177 (dk_at dksJ0_init_3_1 9 rfl rfl)
theorem q142 : (Jvm.Cond.initialized "java/lang/Throwable") ∈ lw_all := lw_g (lw_at lw_m1 8 rfl) rfl
theorem q440 : (Jvm.Cond.declares ({ cls := "java/lang/Throwable", name := "<init>", desc := "()V" } : Jvm.MethodName)) ∈ lw_tbl := lw_at lw_m2 66 rfl
theorem q441 : (Jvm.Cond.declares ({ cls := "java/lang/Throwable", name := "<init>", desc := "(Ljava/lang/String;)V" } : Jvm.MethodName)) ∈ lw_tbl := lw_at lw_m2 67 rfl
theorem q445 : (Jvm.Cond.lays "java/lang/Throwable" "java/lang/Throwable" "cause" "Ljava/lang/Throwable;") ∈ lw_all := lw_g (lw_at lw_m2 71 rfl) rfl
theorem q447 : (Jvm.Cond.lays "java/lang/Throwable" "java/lang/Throwable" "stackTrace" "[Ljava/lang/StackTraceElement;") ∈ lw_all := lw_g (lw_at lw_m2 73 rfl) rfl
theorem q449 : (Jvm.Cond.lays "java/lang/Throwable" "java/lang/Throwable" "suppressedExceptions" "Ljava/util/List;") ∈ lw_all := lw_g (lw_at lw_m2 75 rfl) rfl
theorem q451 : (Jvm.Cond.lays "java/lang/Throwable" "java/lang/Throwable" "detailMessage" "Ljava/lang/String;") ∈ lw_all := lw_g (lw_at lw_m2 77 rfl) rfl
theorem q453 : (Jvm.Cond.lays "java/lang/Throwable" "java/lang/Throwable" "backtrace" "Ljava/lang/Object;") ∈ lw_all := lw_g (lw_at lw_m2 79 rfl) rfl
theorem q454 : (Jvm.Cond.fieldLink "java/lang/Throwable" (198 : Nat) "java/lang/Throwable" "backtrace" "Ljava/lang/Object;") ∈ lw_all := lw_g (lw_at lw_m2 80 rfl) rfl
theorem q455 : (Jvm.Cond.superclass "java/lang/Throwable" "java/lang/Object") ∈ lw_all := lw_g (lw_at lw_m2 81 rfl) rfl
theorem q456 : (Jvm.Cond.instanceMethod ({ cls := "java/lang/Throwable", name := "<init>", desc := "()V" } : Jvm.MethodName)) ∈ lw_all := lw_g (lw_at lw_m2 82 rfl) rfl
theorem q457 : (Jvm.Cond.code ({ cls := "java/lang/Throwable", name := "<init>", desc := "()V" } : Jvm.MethodName) prog_33_method_1_code (1 : Nat) (Option.none : Option Jvm.ClassFile.FieldType)) ∈ lw_all := lw_g (lw_at lw_m2 83 rfl) rfl
theorem q458 : (Jvm.Cond.methodLink "java/lang/Throwable" (1 : Nat) ({ cls := "java/lang/Object", name := "<init>", desc := "()V" } : Jvm.MethodName)) ∈ lw_all := lw_g (lw_at lw_m2 84 rfl) rfl
theorem q459 : (Jvm.Cond.fieldLink "java/lang/Throwable" (13 : Nat) "java/lang/Throwable" "UNASSIGNED_STACK" "[Ljava/lang/StackTraceElement;") ∈ lw_all := lw_g (lw_at lw_m2 85 rfl) rfl
theorem q460 : (Jvm.Cond.laysStatic "java/lang/Throwable" "UNASSIGNED_STACK" "[Ljava/lang/StackTraceElement;") ∈ lw_tbl := lw_at lw_m2 86 rfl
theorem q461 : (Jvm.Cond.fieldLink "java/lang/Throwable" (20 : Nat) "java/lang/Throwable" "SUPPRESSED_SENTINEL" "Ljava/util/List;") ∈ lw_all := lw_g (lw_at lw_m2 87 rfl) rfl
theorem q462 : (Jvm.Cond.laysStatic "java/lang/Throwable" "SUPPRESSED_SENTINEL" "Ljava/util/List;") ∈ lw_tbl := lw_at lw_m2 88 rfl
theorem q463 : (Jvm.Cond.methodLink "java/lang/Throwable" (27 : Nat) ({ cls := "java/lang/Throwable", name := "fillInStackTrace", desc := "()Ljava/lang/Throwable;" } : Jvm.MethodName)) ∈ lw_all := lw_g (lw_at lw_m2 89 rfl) rfl
theorem q464 : (Jvm.Cond.instanceMethod ({ cls := "java/lang/Throwable", name := "fillInStackTrace", desc := "()Ljava/lang/Throwable;" } : Jvm.MethodName)) ∈ lw_all := lw_g (lw_at lw_m2 90 rfl) rfl
theorem q465 : (Jvm.Cond.sameMethod "java/lang/Throwable" "java/lang/Throwable" "fillInStackTrace" "()Ljava/lang/Throwable;") ∈ lw_all := lw_g (lw_at lw_m2 91 rfl) rfl
theorem q472 : (Jvm.Cond.codeSync ({ cls := "java/lang/Throwable", name := "fillInStackTrace", desc := "()Ljava/lang/Throwable;" } : Jvm.MethodName) prog_33_method_18_code (1 : Nat) (Option.some (Jvm.ClassFile.FieldType.object "java/lang/Throwable"))) ∈ lw_all := lw_g (lw_at lw_m2 98 rfl) rfl
theorem q473 : (Jvm.Cond.methodLink "java/lang/Throwable" (202 : Nat) ({ cls := "java/lang/Throwable", name := "fillInStackTrace", desc := "(I)Ljava/lang/Throwable;" } : Jvm.MethodName)) ∈ lw_all := lw_g (lw_at lw_m2 99 rfl) rfl
theorem q474 : (Jvm.Cond.privateMethod ({ cls := "java/lang/Throwable", name := "fillInStackTrace", desc := "(I)Ljava/lang/Throwable;" } : Jvm.MethodName)) ∈ lw_tbl := lw_at lw_m2 100 rfl
theorem q475 : (Jvm.Cond.instanceMethod ({ cls := "java/lang/Throwable", name := "fillInStackTrace", desc := "(I)Ljava/lang/Throwable;" } : Jvm.MethodName)) ∈ lw_all := lw_g (lw_at lw_m2 101 rfl) rfl
theorem q476 : (Jvm.Cond.instantiable "java/lang/Throwable" (6 : Nat)) ∈ lw_all := lw_g (lw_at lw_m2 102 rfl) rfl
theorem q477 : (Jvm.Cond.native ({ cls := "java/lang/Throwable", name := "fillInStackTrace", desc := "(I)Ljava/lang/Throwable;" } : Jvm.MethodName)) ∈ lw_all := lw_g (lw_at lw_m2 103 rfl) rfl
theorem q488 : (Jvm.Cond.instanceMethod ({ cls := "java/lang/Throwable", name := "<init>", desc := "(Ljava/lang/String;Ljava/lang/Throwable;ZZ)V" } : Jvm.MethodName)) ∈ lw_all := lw_g (lw_at lw_m2 114 rfl) rfl
theorem q489 : (Jvm.Cond.code ({ cls := "java/lang/Throwable", name := "<init>", desc := "(Ljava/lang/String;Ljava/lang/Throwable;ZZ)V" } : Jvm.MethodName) prog_33_method_5_code (5 : Nat) (Option.none : Option Jvm.ClassFile.FieldType)) ∈ lw_all := lw_g (lw_at lw_m2 115 rfl) rfl
theorem q492 : (Jvm.Cond.fieldLink "java/lang/Throwable" (198 : Nat) "java/lang/Throwable" "backtrace" "Ljava/lang/Object;") ∈ lw_all := lw_g (lw_at lw_m2 118 rfl) rfl
theorem q493 : (Jvm.Cond.fieldLink "java/lang/Throwable" (31 : Nat) "java/lang/Throwable" "detailMessage" "Ljava/lang/String;") ∈ lw_all := lw_g (lw_at lw_m2 119 rfl) rfl
theorem q494 : (Jvm.Cond.fieldLink "java/lang/Throwable" (7 : Nat) "java/lang/Throwable" "cause" "Ljava/lang/Throwable;") ∈ lw_all := lw_g (lw_at lw_m2 120 rfl) rfl
theorem q495 : (Jvm.Cond.fieldLink "java/lang/Throwable" (17 : Nat) "java/lang/Throwable" "stackTrace" "[Ljava/lang/StackTraceElement;") ∈ lw_all := lw_g (lw_at lw_m2 121 rfl) rfl
theorem q496 : (Jvm.Cond.fieldLink "java/lang/Throwable" (24 : Nat) "java/lang/Throwable" "suppressedExceptions" "Ljava/util/List;") ∈ lw_all := lw_g (lw_at lw_m2 122 rfl) rfl
theorem q499 : (Jvm.Cond.soleField "java/lang/Throwable" "backtrace") ∈ lw_all := lw_g (lw_at lw_m2 125 rfl) rfl
theorem q500 : (Jvm.Cond.soleField "java/lang/Throwable" "detailMessage") ∈ lw_all := lw_g (lw_at lw_m2 126 rfl) rfl
theorem q501 : (Jvm.Cond.soleField "java/lang/Throwable" "cause") ∈ lw_all := lw_g (lw_at lw_m2 127 rfl) rfl
theorem q502 : (Jvm.Cond.soleField "java/lang/Throwable" "stackTrace") ∈ lw_all := lw_g (lw_at lw_m2 128 rfl) rfl
theorem q504 : (Jvm.Cond.soleField "java/lang/Throwable" "depth") ∈ lw_all := lw_g (lw_at lw_m2 130 rfl) rfl
theorem q505 : (Jvm.Cond.soleField "java/lang/Throwable" "suppressedExceptions") ∈ lw_all := lw_g (lw_at lw_m2 131 rfl) rfl
theorem q1167 : (Jvm.Cond.instanceMethod ({ cls := "java/lang/Throwable", name := "<init>", desc := "(Ljava/lang/String;)V" } : Jvm.MethodName)) ∈ lw_all := lw_g (lw_at lw_m5 73 rfl) rfl
theorem q1168 : (Jvm.Cond.code ({ cls := "java/lang/Throwable", name := "<init>", desc := "(Ljava/lang/String;)V" } : Jvm.MethodName) prog_33_method_2_code (2 : Nat) (Option.none : Option Jvm.ClassFile.FieldType)) ∈ lw_all := lw_g (lw_at lw_m5 74 rfl) rfl
theorem q2277 : (Jvm.Cond.sameMethod "java/lang/Throwable" "java/lang/Throwable" "fillInStackTrace" "(I)Ljava/lang/Throwable;") ∈ lw_all := lw_g (lw_at lw_m9 223 rfl) rfl
theorem q2302 : (Jvm.Cond.castable "java/lang/Throwable" "java/lang/Object") ∈ lw_tbl := lw_at lw_m10 8 rfl
theorem in_J0 : ∀ w ∈ wsJ00, w ∈ lw_all := lw_in wsJ00 [445, 447, 449, 451, 453] (by decide +kernel) (by decide +kernel)
/-! java/lang/Exception -/
set_option maxRecDepth 100000
def RJ1 : String := "java/lang/Exception"
abbrev cJ1_init : ByteArray := prog_22_method_5_code
def yJ1_init : MethodName := ⟨RJ1, "<init>", "(Ljava/lang/String;Ljava/lang/Throwable;ZZ)V"⟩
def dkwJ1_init_0 : List UInt8 := [42, 43, 44, 29, 21, 4, 183, 0, 16, 177]
abbrev dktJ1_init_0 : List UInt8 := dkwJ1_init_0 ++ []
theorem dksJ1_init_0 : cJ1_init.data.toList.drop 0 = dktJ1_init_0 := by decide +kernel
theorem dJ1_init_0 : decode cJ1_init 0 = .ok (.aload_n 0, 1) := dk_42 (dk_at dksJ1_init_0 0 rfl rfl)
theorem dJ1_init_1 : decode cJ1_init 1 = .ok (.aload_n 1, 1) := dk_43 (dk_at dksJ1_init_0 1 rfl rfl)
theorem dJ1_init_2 : decode cJ1_init 2 = .ok (.aload_n 2, 1) := dk_44 (dk_at dksJ1_init_0 2 rfl rfl)
theorem dJ1_init_3 : decode cJ1_init 3 = .ok (.iload_n 3, 1) := dk_29 (dk_at dksJ1_init_0 3 rfl rfl)
theorem dJ1_init_4 : decode cJ1_init 4 = .ok (.iload 4, 2) := dk_21 4 (dk_at dksJ1_init_0 4 rfl rfl)
theorem dJ1_init_6 : decode cJ1_init 6 = .ok (.invokespecial 16, 3) := dk_183 0 16 (dk_at dksJ1_init_0 6 rfl rfl)
theorem dJ1_init_9 : decode cJ1_init 9 = .ok (.return_, 1) := dk_177 (dk_at dksJ1_init_0 9 rfl rfl)
abbrev cJ1_init_2 : ByteArray := prog_22_method_1_code
def yJ1_init_2 : MethodName := ⟨RJ1, "<init>", "()V"⟩
theorem dJ1_init_2_0 : decode cJ1_init_2 0 = .ok (.aload_n 0, 1) := by decide +kernel
theorem dJ1_init_2_1 : decode cJ1_init_2 1 = .ok (.invokespecial 1, 3) := by decide +kernel
theorem dJ1_init_2_4 : decode cJ1_init_2 4 = .ok (.return_, 1) := by decide +kernel
abbrev cJ1_init_3 : ByteArray := prog_22_method_2_code
def yJ1_init_3 : MethodName := ⟨RJ1, "<init>", "(Ljava/lang/String;)V"⟩
def dkwJ1_init_3_0 : List UInt8 := [42, 43, 183, 0, 7, 177]
abbrev dktJ1_init_3_0 : List UInt8 := dkwJ1_init_3_0 ++ []
theorem dksJ1_init_3_0 : cJ1_init_3.data.toList.drop 0 = dktJ1_init_3_0 := by decide +kernel
theorem dJ1_init_3_0 : decode cJ1_init_3 0 = .ok (.aload_n 0, 1) := dk_42 (dk_at dksJ1_init_3_0 0 rfl rfl)
theorem dJ1_init_3_1 : decode cJ1_init_3 1 = .ok (.aload_n 1, 1) := dk_43 (dk_at dksJ1_init_3_0 1 rfl rfl)
theorem dJ1_init_3_2 : decode cJ1_init_3 2 = .ok (.invokespecial 7, 3) := dk_183 0 7 (dk_at dksJ1_init_3_0 2 rfl rfl)
theorem dJ1_init_3_5 : decode cJ1_init_3 5 = .ok (.return_, 1) := dk_177 (dk_at dksJ1_init_3_0 5 rfl rfl)
theorem q143 : (Jvm.Cond.initialized "java/lang/Exception") ∈ lw_all := lw_g (lw_at lw_m1 9 rfl) rfl
theorem q438 : (Jvm.Cond.declares ({ cls := "java/lang/Exception", name := "<init>", desc := "()V" } : Jvm.MethodName)) ∈ lw_tbl := lw_at lw_m2 64 rfl
theorem q439 : (Jvm.Cond.declares ({ cls := "java/lang/Exception", name := "<init>", desc := "(Ljava/lang/String;)V" } : Jvm.MethodName)) ∈ lw_tbl := lw_at lw_m2 65 rfl
theorem q485 : (Jvm.Cond.instanceMethod ({ cls := "java/lang/Exception", name := "<init>", desc := "(Ljava/lang/String;Ljava/lang/Throwable;ZZ)V" } : Jvm.MethodName)) ∈ lw_all := lw_g (lw_at lw_m2 111 rfl) rfl
theorem q486 : (Jvm.Cond.code ({ cls := "java/lang/Exception", name := "<init>", desc := "(Ljava/lang/String;Ljava/lang/Throwable;ZZ)V" } : Jvm.MethodName) prog_22_method_5_code (5 : Nat) (Option.none : Option Jvm.ClassFile.FieldType)) ∈ lw_all := lw_g (lw_at lw_m2 112 rfl) rfl
theorem q487 : (Jvm.Cond.methodLink "java/lang/Exception" (16 : Nat) ({ cls := "java/lang/Throwable", name := "<init>", desc := "(Ljava/lang/String;Ljava/lang/Throwable;ZZ)V" } : Jvm.MethodName)) ∈ lw_all := lw_g (lw_at lw_m2 113 rfl) rfl
theorem q982 : (Jvm.Cond.instanceMethod ({ cls := "java/lang/Exception", name := "<init>", desc := "()V" } : Jvm.MethodName)) ∈ lw_all := lw_g (lw_at lw_m4 128 rfl) rfl
theorem q983 : (Jvm.Cond.code ({ cls := "java/lang/Exception", name := "<init>", desc := "()V" } : Jvm.MethodName) prog_22_method_1_code (1 : Nat) (Option.none : Option Jvm.ClassFile.FieldType)) ∈ lw_all := lw_g (lw_at lw_m4 129 rfl) rfl
theorem q984 : (Jvm.Cond.methodLink "java/lang/Exception" (1 : Nat) ({ cls := "java/lang/Throwable", name := "<init>", desc := "()V" } : Jvm.MethodName)) ∈ lw_all := lw_g (lw_at lw_m4 130 rfl) rfl
theorem q1164 : (Jvm.Cond.instanceMethod ({ cls := "java/lang/Exception", name := "<init>", desc := "(Ljava/lang/String;)V" } : Jvm.MethodName)) ∈ lw_all := lw_g (lw_at lw_m5 70 rfl) rfl
theorem q1165 : (Jvm.Cond.code ({ cls := "java/lang/Exception", name := "<init>", desc := "(Ljava/lang/String;)V" } : Jvm.MethodName) prog_22_method_2_code (2 : Nat) (Option.none : Option Jvm.ClassFile.FieldType)) ∈ lw_all := lw_g (lw_at lw_m5 71 rfl) rfl
theorem q1166 : (Jvm.Cond.methodLink "java/lang/Exception" (7 : Nat) ({ cls := "java/lang/Throwable", name := "<init>", desc := "(Ljava/lang/String;)V" } : Jvm.MethodName)) ∈ lw_all := lw_g (lw_at lw_m5 72 rfl) rfl
/-! java/lang/ArrayIndexOutOfBoundsException -/
set_option maxRecDepth 100000
def RJ10 : String := "java/lang/ArrayIndexOutOfBoundsException"
def TJ10 : u_T := fun k => match k with
  | 0 => ("java/lang/Throwable", "backtrace", "Ljava/lang/Object;", false)
  | 1 => ("java/lang/Throwable", "detailMessage", "Ljava/lang/String;", false)
  | 2 => ("java/lang/Throwable", "cause", "Ljava/lang/Throwable;", false)
  | 3 => ("java/lang/Throwable", "stackTrace", "[Ljava/lang/StackTraceElement;", false)
  | 4 => ("java/lang/Throwable", "depth", "I", false)
  | _ => ("java/lang/Throwable", "suppressedExceptions", "Ljava/util/List;", false)
def tyJ10 : Nat → FieldType := fun k => match k with
  | 0 => .object "java/lang/Object"
  | 1 => .object "java/lang/String"
  | 2 => .object "java/lang/Throwable"
  | 3 => .array (.object "java/lang/StackTraceElement")
  | 4 => .int
  | _ => .object "java/util/List"
abbrev wsJ100 : List Cond := u_ws RJ10 TJ10 6
theorem nmJ10 : ∀ a, a < 6 → ∀ b, b < 6 → a ≠ b → (TJ10 a).2.1 ≠ (TJ10 b).2.1 := by decide +kernel
theorem tyJ10_ok : ∀ k, k < 6 → parseFieldDescriptor (TJ10 k).2.2.1 = some (tyJ10 k) := by decide +kernel
abbrev cJ10_init : ByteArray := prog_21_method_2_code
def yJ10_init : MethodName := ⟨RJ10, "<init>", "(Ljava/lang/String;)V"⟩
def dkwJ10_init_0 : List UInt8 := [42, 43, 183, 0, 7, 177]
abbrev dktJ10_init_0 : List UInt8 := dkwJ10_init_0 ++ []
theorem dksJ10_init_0 : cJ10_init.data.toList.drop 0 = dktJ10_init_0 := by decide +kernel
theorem dJ10_init_0 : decode cJ10_init 0 = .ok (.aload_n 0, 1) := dk_42 (dk_at dksJ10_init_0 0 rfl rfl)
theorem dJ10_init_1 : decode cJ10_init 1 = .ok (.aload_n 1, 1) := dk_43 (dk_at dksJ10_init_0 1 rfl rfl)
theorem dJ10_init_2 : decode cJ10_init 2 = .ok (.invokespecial 7, 3) := dk_183 0 7 (dk_at dksJ10_init_0 2 rfl rfl)
theorem dJ10_init_5 : decode cJ10_init 5 = .ok (.return_, 1) := dk_177 (dk_at dksJ10_init_0 5 rfl rfl)
theorem q164 : (Jvm.Cond.initialized "java/lang/ArrayIndexOutOfBoundsException") ∈ lw_all := lw_g (lw_at lw_m1 30 rfl) rfl
theorem q466 : (Jvm.Cond.selects "java/lang/ArrayIndexOutOfBoundsException" ({ cls := "java/lang/Throwable", name := "fillInStackTrace", desc := "()Ljava/lang/Throwable;" } : Jvm.MethodName) ({ cls := "java/lang/Throwable", name := "fillInStackTrace", desc := "()Ljava/lang/Throwable;" } : Jvm.MethodName)) ∈ lw_all := lw_g (lw_at lw_m2 92 rfl) rfl
theorem q1154 : (Jvm.Cond.instantiable "java/lang/ArrayIndexOutOfBoundsException" (6 : Nat)) ∈ lw_all := lw_g (lw_at lw_m5 60 rfl) rfl
theorem q1155 : (Jvm.Cond.instanceMethod ({ cls := "java/lang/ArrayIndexOutOfBoundsException", name := "<init>", desc := "(Ljava/lang/String;)V" } : Jvm.MethodName)) ∈ lw_all := lw_g (lw_at lw_m5 61 rfl) rfl
theorem q1156 : (Jvm.Cond.code ({ cls := "java/lang/ArrayIndexOutOfBoundsException", name := "<init>", desc := "(Ljava/lang/String;)V" } : Jvm.MethodName) prog_21_method_2_code (2 : Nat) (Option.none : Option Jvm.ClassFile.FieldType)) ∈ lw_all := lw_g (lw_at lw_m5 62 rfl) rfl
theorem q1157 : (Jvm.Cond.methodLink "java/lang/ArrayIndexOutOfBoundsException" (7 : Nat) ({ cls := "java/lang/IndexOutOfBoundsException", name := "<init>", desc := "(Ljava/lang/String;)V" } : Jvm.MethodName)) ∈ lw_all := lw_g (lw_at lw_m5 63 rfl) rfl
theorem q1169 : (Jvm.Cond.lays "java/lang/ArrayIndexOutOfBoundsException" "java/lang/Throwable" "backtrace" "Ljava/lang/Object;") ∈ lw_all := lw_g (lw_at lw_m5 75 rfl) rfl
theorem q1170 : (Jvm.Cond.lays "java/lang/ArrayIndexOutOfBoundsException" "java/lang/Throwable" "detailMessage" "Ljava/lang/String;") ∈ lw_all := lw_g (lw_at lw_m5 76 rfl) rfl
theorem q1171 : (Jvm.Cond.lays "java/lang/ArrayIndexOutOfBoundsException" "java/lang/Throwable" "cause" "Ljava/lang/Throwable;") ∈ lw_all := lw_g (lw_at lw_m5 77 rfl) rfl
theorem q1172 : (Jvm.Cond.lays "java/lang/ArrayIndexOutOfBoundsException" "java/lang/Throwable" "stackTrace" "[Ljava/lang/StackTraceElement;") ∈ lw_all := lw_g (lw_at lw_m5 78 rfl) rfl
theorem q1173 : (Jvm.Cond.lays "java/lang/ArrayIndexOutOfBoundsException" "java/lang/Throwable" "depth" "I") ∈ lw_all := lw_g (lw_at lw_m5 79 rfl) rfl
theorem q1174 : (Jvm.Cond.lays "java/lang/ArrayIndexOutOfBoundsException" "java/lang/Throwable" "suppressedExceptions" "Ljava/util/List;") ∈ lw_all := lw_g (lw_at lw_m5 80 rfl) rfl
theorem q1175 : (Jvm.Cond.superclass "java/lang/ArrayIndexOutOfBoundsException" "java/lang/IndexOutOfBoundsException") ∈ lw_all := lw_g (lw_at lw_m5 81 rfl) rfl
theorem q1176 : (Jvm.Cond.castable "java/lang/ArrayIndexOutOfBoundsException" "java/lang/ArrayIndexOutOfBoundsException") ∈ lw_tbl := lw_at lw_m5 82 rfl
theorem q1179 : (Jvm.Cond.selects "java/lang/ArrayIndexOutOfBoundsException" ({ cls := "java/lang/Throwable", name := "fillInStackTrace", desc := "(I)Ljava/lang/Throwable;" } : Jvm.MethodName) ({ cls := "java/lang/Throwable", name := "fillInStackTrace", desc := "(I)Ljava/lang/Throwable;" } : Jvm.MethodName)) ∈ lw_all := lw_g (lw_at lw_m5 85 rfl) rfl
theorem q2278 : (Jvm.Cond.castable "java/lang/ArrayIndexOutOfBoundsException" "java/lang/IndexOutOfBoundsException") ∈ lw_tbl := lw_at lw_m9 224 rfl
theorem q2298 : (Jvm.Cond.castable "java/lang/ArrayIndexOutOfBoundsException" "java/lang/Object") ∈ lw_tbl := lw_at lw_m10 4 rfl
theorem in_J10 : ∀ w ∈ wsJ100, w ∈ lw_all := lw_in wsJ100 [1169, 1170, 1171, 1172, 1173, 1174] (by decide +kernel) (by decide +kernel)
/-! java/lang/Math -/
set_option maxRecDepth 100000
def RJ11 : String := "java/lang/Math"
abbrev cJ11_min : ByteArray := prog_27_method_69_code
def yJ11_min : MethodName := ⟨RJ11, "min", "(II)I"⟩
def dkwJ11_min_0 : List UInt8 := [26, 27, 163, 0, 7, 26, 167, 0, 4, 27, 172]
abbrev dktJ11_min_0 : List UInt8 := dkwJ11_min_0 ++ []
theorem dksJ11_min_0 : cJ11_min.data.toList.drop 0 = dktJ11_min_0 := by decide +kernel
theorem dJ11_min_0 : decode cJ11_min 0 = .ok (.iload_n 0, 1) := dk_26 (dk_at dksJ11_min_0 0 rfl rfl)
theorem dJ11_min_1 : decode cJ11_min 1 = .ok (.iload_n 1, 1) := dk_27 (dk_at dksJ11_min_0 1 rfl rfl)
theorem dJ11_min_2 : decode cJ11_min 2 = .ok (.if_icmp .gt 7, 3) := dk_163 0 7 (dk_at dksJ11_min_0 2 rfl rfl)
theorem dJ11_min_5 : decode cJ11_min 5 = .ok (.iload_n 0, 1) := dk_26 (dk_at dksJ11_min_0 5 rfl rfl)
theorem dJ11_min_6 : decode cJ11_min 6 = .ok (.goto 4, 3) := dk_167 0 4 (dk_at dksJ11_min_0 6 rfl rfl)
theorem dJ11_min_9 : decode cJ11_min 9 = .ok (.iload_n 1, 1) := dk_27 (dk_at dksJ11_min_0 9 rfl rfl)
theorem dJ11_min_10 : decode cJ11_min 10 = .ok (.ireturn, 1) := dk_172 (dk_at dksJ11_min_0 10 rfl rfl)
abbrev cJ11_max : ByteArray := prog_27_method_65_code
def yJ11_max : MethodName := ⟨RJ11, "max", "(II)I"⟩
def dkwJ11_max_0 : List UInt8 := [26, 27, 161, 0, 7, 26, 167, 0, 4, 27, 172]
abbrev dktJ11_max_0 : List UInt8 := dkwJ11_max_0 ++ []
theorem dksJ11_max_0 : cJ11_max.data.toList.drop 0 = dktJ11_max_0 := by decide +kernel
theorem dJ11_max_0 : decode cJ11_max 0 = .ok (.iload_n 0, 1) := dk_26 (dk_at dksJ11_max_0 0 rfl rfl)
theorem dJ11_max_1 : decode cJ11_max 1 = .ok (.iload_n 1, 1) := dk_27 (dk_at dksJ11_max_0 1 rfl rfl)
theorem dJ11_max_2 : decode cJ11_max 2 = .ok (.if_icmp .lt 7, 3) := dk_161 0 7 (dk_at dksJ11_max_0 2 rfl rfl)
theorem dJ11_max_5 : decode cJ11_max 5 = .ok (.iload_n 0, 1) := dk_26 (dk_at dksJ11_max_0 5 rfl rfl)
theorem dJ11_max_6 : decode cJ11_max 6 = .ok (.goto 4, 3) := dk_167 0 4 (dk_at dksJ11_max_0 6 rfl rfl)
theorem dJ11_max_9 : decode cJ11_max 9 = .ok (.iload_n 1, 1) := dk_27 (dk_at dksJ11_max_0 9 rfl rfl)
theorem dJ11_max_10 : decode cJ11_max 10 = .ok (.ireturn, 1) := dk_172 (dk_at dksJ11_max_0 10 rfl rfl)
theorem q165 : (Jvm.Cond.initialized "java/lang/Math") ∈ lw_all := lw_g (lw_at lw_m1 31 rfl) rfl
theorem q729 : (Jvm.Cond.static ({ cls := "java/lang/Math", name := "min", desc := "(II)I" } : Jvm.MethodName)) ∈ lw_all := lw_g (lw_at lw_m3 115 rfl) rfl
theorem q730 : (Jvm.Cond.code ({ cls := "java/lang/Math", name := "min", desc := "(II)I" } : Jvm.MethodName) prog_27_method_69_code (2 : Nat) (Option.some Jvm.ClassFile.FieldType.int)) ∈ lw_all := lw_g (lw_at lw_m3 116 rfl) rfl
theorem q732 : (Jvm.Cond.static ({ cls := "java/lang/Math", name := "max", desc := "(II)I" } : Jvm.MethodName)) ∈ lw_all := lw_g (lw_at lw_m3 118 rfl) rfl
theorem q733 : (Jvm.Cond.code ({ cls := "java/lang/Math", name := "max", desc := "(II)I" } : Jvm.MethodName) prog_27_method_65_code (2 : Nat) (Option.some Jvm.ClassFile.FieldType.int)) ∈ lw_all := lw_g (lw_at lw_m3 119 rfl) rfl
/-! java/util/NoSuchElementException -/
set_option maxRecDepth 100000
def RJ12 : String := "java/util/NoSuchElementException"
def TJ12 : u_T := fun k => match k with
  | 0 => ("java/lang/Throwable", "cause", "Ljava/lang/Throwable;", false)
  | 1 => ("java/lang/Throwable", "stackTrace", "[Ljava/lang/StackTraceElement;", false)
  | 2 => ("java/lang/Throwable", "suppressedExceptions", "Ljava/util/List;", false)
  | 3 => ("java/lang/Throwable", "detailMessage", "Ljava/lang/String;", false)
  | 4 => ("java/lang/Throwable", "backtrace", "Ljava/lang/Object;", false)
  | _ => ("java/lang/Throwable", "depth", "I", false)
def tyJ12 : Nat → FieldType := fun k => match k with
  | 0 => .object "java/lang/Throwable"
  | 1 => .array (.object "java/lang/StackTraceElement")
  | 2 => .object "java/util/List"
  | 3 => .object "java/lang/String"
  | 4 => .object "java/lang/Object"
  | _ => .int
abbrev wsJ120 : List Cond := u_ws RJ12 TJ12 6
theorem nmJ12 : ∀ a, a < 6 → ∀ b, b < 6 → a ≠ b → (TJ12 a).2.1 ≠ (TJ12 b).2.1 := by decide +kernel
theorem tyJ12_ok : ∀ k, k < 6 → parseFieldDescriptor (TJ12 k).2.2.1 = some (tyJ12 k) := by decide +kernel
abbrev cJ12_init : ByteArray := prog_35_method_1_code
def yJ12_init : MethodName := ⟨RJ12, "<init>", "()V"⟩
theorem dJ12_init_0 : decode cJ12_init 0 = .ok (.aload_n 0, 1) := by decide +kernel
theorem dJ12_init_1 : decode cJ12_init 1 = .ok (.invokespecial 1, 3) := by decide +kernel
theorem dJ12_init_4 : decode cJ12_init 4 = .ok (.return_, 1) := by decide +kernel
theorem q166 : (Jvm.Cond.initialized "java/util/NoSuchElementException") ∈ lw_all := lw_g (lw_at lw_m1 32 rfl) rfl
theorem q471 : (Jvm.Cond.selects "java/util/NoSuchElementException" ({ cls := "java/lang/Throwable", name := "fillInStackTrace", desc := "()Ljava/lang/Throwable;" } : Jvm.MethodName) ({ cls := "java/lang/Throwable", name := "fillInStackTrace", desc := "()Ljava/lang/Throwable;" } : Jvm.MethodName)) ∈ lw_all := lw_g (lw_at lw_m2 97 rfl) rfl
theorem q1240 : (Jvm.Cond.instantiable "java/util/NoSuchElementException" (6 : Nat)) ∈ lw_all := lw_g (lw_at lw_m5 146 rfl) rfl
theorem q1241 : (Jvm.Cond.castable "java/util/NoSuchElementException" "java/util/NoSuchElementException") ∈ lw_tbl := lw_at lw_m5 147 rfl
theorem q1242 : (Jvm.Cond.selects "java/util/NoSuchElementException" ({ cls := "java/lang/Throwable", name := "fillInStackTrace", desc := "(I)Ljava/lang/Throwable;" } : Jvm.MethodName) ({ cls := "java/lang/Throwable", name := "fillInStackTrace", desc := "(I)Ljava/lang/Throwable;" } : Jvm.MethodName)) ∈ lw_all := lw_g (lw_at lw_m5 148 rfl) rfl
theorem q1243 : (Jvm.Cond.lays "java/util/NoSuchElementException" "java/lang/Throwable" "cause" "Ljava/lang/Throwable;") ∈ lw_all := lw_g (lw_at lw_m5 149 rfl) rfl
theorem q1244 : (Jvm.Cond.lays "java/util/NoSuchElementException" "java/lang/Throwable" "stackTrace" "[Ljava/lang/StackTraceElement;") ∈ lw_all := lw_g (lw_at lw_m5 150 rfl) rfl
theorem q1245 : (Jvm.Cond.lays "java/util/NoSuchElementException" "java/lang/Throwable" "suppressedExceptions" "Ljava/util/List;") ∈ lw_all := lw_g (lw_at lw_m5 151 rfl) rfl
theorem q1246 : (Jvm.Cond.lays "java/util/NoSuchElementException" "java/lang/Throwable" "detailMessage" "Ljava/lang/String;") ∈ lw_all := lw_g (lw_at lw_m5 152 rfl) rfl
theorem q1247 : (Jvm.Cond.lays "java/util/NoSuchElementException" "java/lang/Throwable" "backtrace" "Ljava/lang/Object;") ∈ lw_all := lw_g (lw_at lw_m5 153 rfl) rfl
theorem q1249 : (Jvm.Cond.instanceMethod ({ cls := "java/util/NoSuchElementException", name := "<init>", desc := "()V" } : Jvm.MethodName)) ∈ lw_all := lw_g (lw_at lw_m5 155 rfl) rfl
theorem q1250 : (Jvm.Cond.code ({ cls := "java/util/NoSuchElementException", name := "<init>", desc := "()V" } : Jvm.MethodName) prog_35_method_1_code (1 : Nat) (Option.none : Option Jvm.ClassFile.FieldType)) ∈ lw_all := lw_g (lw_at lw_m5 156 rfl) rfl
theorem q1251 : (Jvm.Cond.methodLink "java/util/NoSuchElementException" (1 : Nat) ({ cls := "java/lang/RuntimeException", name := "<init>", desc := "()V" } : Jvm.MethodName)) ∈ lw_all := lw_g (lw_at lw_m5 157 rfl) rfl
theorem q1252 : (Jvm.Cond.lays "java/util/NoSuchElementException" "java/lang/Throwable" "depth" "I") ∈ lw_all := lw_g (lw_at lw_m5 158 rfl) rfl
theorem q1253 : (Jvm.Cond.superclass "java/util/NoSuchElementException" "java/lang/RuntimeException") ∈ lw_all := lw_g (lw_at lw_m5 159 rfl) rfl
theorem q2300 : (Jvm.Cond.castable "java/util/NoSuchElementException" "java/lang/Object") ∈ lw_tbl := lw_at lw_m10 6 rfl
theorem in_J12 : ∀ w ∈ wsJ120, w ∈ lw_all := lw_in wsJ120 [1243, 1244, 1245, 1246, 1247, 1252] (by decide +kernel) (by decide +kernel)
/-! java/lang/IllegalStateException -/
set_option maxRecDepth 100000
def RJ13 : String := "java/lang/IllegalStateException"
def TJ13 : u_T := fun k => match k with
  | 0 => ("java/lang/Throwable", "cause", "Ljava/lang/Throwable;", false)
  | 1 => ("java/lang/Throwable", "stackTrace", "[Ljava/lang/StackTraceElement;", false)
  | 2 => ("java/lang/Throwable", "suppressedExceptions", "Ljava/util/List;", false)
  | 3 => ("java/lang/Throwable", "detailMessage", "Ljava/lang/String;", false)
  | 4 => ("java/lang/Throwable", "backtrace", "Ljava/lang/Object;", false)
  | _ => ("java/lang/Throwable", "depth", "I", false)
def tyJ13 : Nat → FieldType := fun k => match k with
  | 0 => .object "java/lang/Throwable"
  | 1 => .array (.object "java/lang/StackTraceElement")
  | 2 => .object "java/util/List"
  | 3 => .object "java/lang/String"
  | 4 => .object "java/lang/Object"
  | _ => .int
abbrev wsJ130 : List Cond := u_ws RJ13 TJ13 6
theorem nmJ13 : ∀ a, a < 6 → ∀ b, b < 6 → a ≠ b → (TJ13 a).2.1 ≠ (TJ13 b).2.1 := by decide +kernel
theorem tyJ13_ok : ∀ k, k < 6 → parseFieldDescriptor (TJ13 k).2.2.1 = some (tyJ13 k) := by decide +kernel
abbrev cJ13_init : ByteArray := prog_24_method_1_code
def yJ13_init : MethodName := ⟨RJ13, "<init>", "()V"⟩
theorem dJ13_init_0 : decode cJ13_init 0 = .ok (.aload_n 0, 1) := by decide +kernel
theorem dJ13_init_1 : decode cJ13_init 1 = .ok (.invokespecial 1, 3) := by decide +kernel
theorem dJ13_init_4 : decode cJ13_init 4 = .ok (.return_, 1) := by decide +kernel
theorem q167 : (Jvm.Cond.initialized "java/lang/IllegalStateException") ∈ lw_all := lw_g (lw_at lw_m1 33 rfl) rfl
theorem q468 : (Jvm.Cond.selects "java/lang/IllegalStateException" ({ cls := "java/lang/Throwable", name := "fillInStackTrace", desc := "()Ljava/lang/Throwable;" } : Jvm.MethodName) ({ cls := "java/lang/Throwable", name := "fillInStackTrace", desc := "()Ljava/lang/Throwable;" } : Jvm.MethodName)) ∈ lw_all := lw_g (lw_at lw_m2 94 rfl) rfl
theorem q1325 : (Jvm.Cond.instantiable "java/lang/IllegalStateException" (6 : Nat)) ∈ lw_all := lw_g (lw_at lw_m5 231 rfl) rfl
theorem q1326 : (Jvm.Cond.castable "java/lang/IllegalStateException" "java/lang/IllegalStateException") ∈ lw_tbl := lw_at lw_m5 232 rfl
theorem q1327 : (Jvm.Cond.selects "java/lang/IllegalStateException" ({ cls := "java/lang/Throwable", name := "fillInStackTrace", desc := "(I)Ljava/lang/Throwable;" } : Jvm.MethodName) ({ cls := "java/lang/Throwable", name := "fillInStackTrace", desc := "(I)Ljava/lang/Throwable;" } : Jvm.MethodName)) ∈ lw_all := lw_g (lw_at lw_m5 233 rfl) rfl
theorem q1328 : (Jvm.Cond.lays "java/lang/IllegalStateException" "java/lang/Throwable" "cause" "Ljava/lang/Throwable;") ∈ lw_all := lw_g (lw_at lw_m5 234 rfl) rfl
theorem q1329 : (Jvm.Cond.lays "java/lang/IllegalStateException" "java/lang/Throwable" "stackTrace" "[Ljava/lang/StackTraceElement;") ∈ lw_all := lw_g (lw_at lw_m5 235 rfl) rfl
theorem q1330 : (Jvm.Cond.lays "java/lang/IllegalStateException" "java/lang/Throwable" "suppressedExceptions" "Ljava/util/List;") ∈ lw_all := lw_g (lw_at lw_m5 236 rfl) rfl
theorem q1331 : (Jvm.Cond.lays "java/lang/IllegalStateException" "java/lang/Throwable" "detailMessage" "Ljava/lang/String;") ∈ lw_all := lw_g (lw_at lw_m5 237 rfl) rfl
theorem q1332 : (Jvm.Cond.lays "java/lang/IllegalStateException" "java/lang/Throwable" "backtrace" "Ljava/lang/Object;") ∈ lw_all := lw_g (lw_at lw_m5 238 rfl) rfl
theorem q1334 : (Jvm.Cond.instanceMethod ({ cls := "java/lang/IllegalStateException", name := "<init>", desc := "()V" } : Jvm.MethodName)) ∈ lw_all := lw_g (lw_at lw_m6 0 rfl) rfl
theorem q1335 : (Jvm.Cond.code ({ cls := "java/lang/IllegalStateException", name := "<init>", desc := "()V" } : Jvm.MethodName) prog_24_method_1_code (1 : Nat) (Option.none : Option Jvm.ClassFile.FieldType)) ∈ lw_all := lw_g (lw_at lw_m6 1 rfl) rfl
theorem q1336 : (Jvm.Cond.methodLink "java/lang/IllegalStateException" (1 : Nat) ({ cls := "java/lang/RuntimeException", name := "<init>", desc := "()V" } : Jvm.MethodName)) ∈ lw_all := lw_g (lw_at lw_m6 2 rfl) rfl
theorem q1337 : (Jvm.Cond.lays "java/lang/IllegalStateException" "java/lang/Throwable" "depth" "I") ∈ lw_all := lw_g (lw_at lw_m6 3 rfl) rfl
theorem q1338 : (Jvm.Cond.superclass "java/lang/IllegalStateException" "java/lang/RuntimeException") ∈ lw_all := lw_g (lw_at lw_m6 4 rfl) rfl
theorem q2301 : (Jvm.Cond.castable "java/lang/IllegalStateException" "java/lang/Object") ∈ lw_tbl := lw_at lw_m10 7 rfl
theorem in_J13 : ∀ w ∈ wsJ130, w ∈ lw_all := lw_in wsJ130 [1328, 1329, 1330, 1331, 1332, 1337] (by decide +kernel) (by decide +kernel)
/-! java/lang/Integer -/
set_option maxRecDepth 100000
def RJ14 : String := "java/lang/Integer"
abbrev cJ14_bitCount : ByteArray := prog_26_method_49_code
def yJ14_bitCount : MethodName := ⟨RJ14, "bitCount", "(I)I"⟩
def dkwJ14_bitCount_2 : List UInt8 := [26, 16, 63, 126, 172]
abbrev dktJ14_bitCount_2 : List UInt8 := dkwJ14_bitCount_2 ++ []
def dkwJ14_bitCount_1 : List UInt8 := [26, 26, 7, 124, 96, 19, 1, 11, 126, 59, 26, 26, 16, 8, 124, 96, 59, 26, 26, 16, 16, 124, 96, 59]
abbrev dktJ14_bitCount_1 : List UInt8 := dkwJ14_bitCount_1 ++ dktJ14_bitCount_2
def dkwJ14_bitCount_0 : List UInt8 := [26, 26, 4, 124, 19, 1, 9, 126, 100, 59, 26, 19, 1, 10, 126, 26, 5, 124, 19, 1, 10, 126, 96, 59]
abbrev dktJ14_bitCount_0 : List UInt8 := dkwJ14_bitCount_0 ++ dktJ14_bitCount_1
theorem dksJ14_bitCount_0 : cJ14_bitCount.data.toList.drop 0 = dktJ14_bitCount_0 := by decide +kernel
theorem dksJ14_bitCount_1 : cJ14_bitCount.data.toList.drop 24 = dktJ14_bitCount_1 := dk_seg dksJ14_bitCount_0 24 rfl rfl
theorem dksJ14_bitCount_2 : cJ14_bitCount.data.toList.drop 48 = dktJ14_bitCount_2 := dk_seg dksJ14_bitCount_1 24 rfl rfl
theorem dJ14_bitCount_0 : decode cJ14_bitCount 0 = .ok (.iload_n 0, 1) := dk_26 (dk_at dksJ14_bitCount_0 0 rfl rfl)
theorem dJ14_bitCount_1 : decode cJ14_bitCount 1 = .ok (.iload_n 0, 1) := dk_26 (dk_at dksJ14_bitCount_0 1 rfl rfl)
theorem dJ14_bitCount_2 : decode cJ14_bitCount 2 = .ok (.iconst 1, 1) := dk_4 (dk_at dksJ14_bitCount_0 2 rfl rfl)
theorem dJ14_bitCount_3 : decode cJ14_bitCount 3 = .ok (.iushr, 1) := dk_124 (dk_at dksJ14_bitCount_0 3 rfl rfl)
theorem dJ14_bitCount_4 : decode cJ14_bitCount 4 = .ok (.ldc_w 265, 3) := dk_19 1 9 (dk_at dksJ14_bitCount_0 4 rfl rfl)
theorem dJ14_bitCount_7 : decode cJ14_bitCount 7 = .ok (.iand, 1) := dk_126 (dk_at dksJ14_bitCount_0 7 rfl rfl)
theorem dJ14_bitCount_8 : decode cJ14_bitCount 8 = .ok (.isub, 1) := dk_100 (dk_at dksJ14_bitCount_0 8 rfl rfl)
theorem dJ14_bitCount_9 : decode cJ14_bitCount 9 = .ok (.istore_n 0, 1) := dk_59 (dk_at dksJ14_bitCount_0 9 rfl rfl)
theorem dJ14_bitCount_10 : decode cJ14_bitCount 10 = .ok (.iload_n 0, 1) := dk_26 (dk_at dksJ14_bitCount_0 10 rfl rfl)
theorem dJ14_bitCount_11 : decode cJ14_bitCount 11 = .ok (.ldc_w 266, 3) := dk_19 1 10 (dk_at dksJ14_bitCount_0 11 rfl rfl)
theorem dJ14_bitCount_14 : decode cJ14_bitCount 14 = .ok (.iand, 1) := dk_126 (dk_at dksJ14_bitCount_0 14 rfl rfl)
theorem dJ14_bitCount_15 : decode cJ14_bitCount 15 = .ok (.iload_n 0, 1) := dk_26 (dk_at dksJ14_bitCount_0 15 rfl rfl)
theorem dJ14_bitCount_16 : decode cJ14_bitCount 16 = .ok (.iconst 2, 1) := dk_5 (dk_at dksJ14_bitCount_0 16 rfl rfl)
theorem dJ14_bitCount_17 : decode cJ14_bitCount 17 = .ok (.iushr, 1) := dk_124 (dk_at dksJ14_bitCount_0 17 rfl rfl)
theorem dJ14_bitCount_18 : decode cJ14_bitCount 18 = .ok (.ldc_w 266, 3) := dk_19 1 10 (dk_at dksJ14_bitCount_0 18 rfl rfl)
theorem dJ14_bitCount_21 : decode cJ14_bitCount 21 = .ok (.iand, 1) := dk_126 (dk_at dksJ14_bitCount_0 21 rfl rfl)
theorem dJ14_bitCount_22 : decode cJ14_bitCount 22 = .ok (.iadd, 1) := dk_96 (dk_at dksJ14_bitCount_0 22 rfl rfl)
theorem dJ14_bitCount_23 : decode cJ14_bitCount 23 = .ok (.istore_n 0, 1) := dk_59 (dk_at dksJ14_bitCount_0 23 rfl rfl)
theorem dJ14_bitCount_24 : decode cJ14_bitCount 24 = .ok (.iload_n 0, 1) := dk_26 (dk_at dksJ14_bitCount_1 0 rfl rfl)
theorem dJ14_bitCount_25 : decode cJ14_bitCount 25 = .ok (.iload_n 0, 1) := dk_26 (dk_at dksJ14_bitCount_1 1 rfl rfl)
theorem dJ14_bitCount_26 : decode cJ14_bitCount 26 = .ok (.iconst 4, 1) := dk_7 (dk_at dksJ14_bitCount_1 2 rfl rfl)
theorem dJ14_bitCount_27 : decode cJ14_bitCount 27 = .ok (.iushr, 1) := dk_124 (dk_at dksJ14_bitCount_1 3 rfl rfl)
theorem dJ14_bitCount_28 : decode cJ14_bitCount 28 = .ok (.iadd, 1) := dk_96 (dk_at dksJ14_bitCount_1 4 rfl rfl)
theorem dJ14_bitCount_29 : decode cJ14_bitCount 29 = .ok (.ldc_w 267, 3) := dk_19 1 11 (dk_at dksJ14_bitCount_1 5 rfl rfl)
theorem dJ14_bitCount_32 : decode cJ14_bitCount 32 = .ok (.iand, 1) := dk_126 (dk_at dksJ14_bitCount_1 8 rfl rfl)
theorem dJ14_bitCount_33 : decode cJ14_bitCount 33 = .ok (.istore_n 0, 1) := dk_59 (dk_at dksJ14_bitCount_1 9 rfl rfl)
theorem dJ14_bitCount_34 : decode cJ14_bitCount 34 = .ok (.iload_n 0, 1) := dk_26 (dk_at dksJ14_bitCount_1 10 rfl rfl)
theorem dJ14_bitCount_35 : decode cJ14_bitCount 35 = .ok (.iload_n 0, 1) := dk_26 (dk_at dksJ14_bitCount_1 11 rfl rfl)
theorem dJ14_bitCount_36 : decode cJ14_bitCount 36 = .ok (.bipush 8, 2) := dk_16 8 (dk_at dksJ14_bitCount_1 12 rfl rfl)
theorem dJ14_bitCount_38 : decode cJ14_bitCount 38 = .ok (.iushr, 1) := dk_124 (dk_at dksJ14_bitCount_1 14 rfl rfl)
theorem dJ14_bitCount_39 : decode cJ14_bitCount 39 = .ok (.iadd, 1) := dk_96 (dk_at dksJ14_bitCount_1 15 rfl rfl)
theorem dJ14_bitCount_40 : decode cJ14_bitCount 40 = .ok (.istore_n 0, 1) := dk_59 (dk_at dksJ14_bitCount_1 16 rfl rfl)
theorem dJ14_bitCount_41 : decode cJ14_bitCount 41 = .ok (.iload_n 0, 1) := dk_26 (dk_at dksJ14_bitCount_1 17 rfl rfl)
theorem dJ14_bitCount_42 : decode cJ14_bitCount 42 = .ok (.iload_n 0, 1) := dk_26 (dk_at dksJ14_bitCount_1 18 rfl rfl)
theorem dJ14_bitCount_43 : decode cJ14_bitCount 43 = .ok (.bipush 16, 2) := dk_16 16 (dk_at dksJ14_bitCount_1 19 rfl rfl)
theorem dJ14_bitCount_45 : decode cJ14_bitCount 45 = .ok (.iushr, 1) := dk_124 (dk_at dksJ14_bitCount_1 21 rfl rfl)
theorem dJ14_bitCount_46 : decode cJ14_bitCount 46 = .ok (.iadd, 1) := dk_96 (dk_at dksJ14_bitCount_1 22 rfl rfl)
theorem dJ14_bitCount_47 : decode cJ14_bitCount 47 = .ok (.istore_n 0, 1) := dk_59 (dk_at dksJ14_bitCount_1 23 rfl rfl)
theorem dJ14_bitCount_48 : decode cJ14_bitCount 48 = .ok (.iload_n 0, 1) := dk_26 (dk_at dksJ14_bitCount_2 0 rfl rfl)
theorem dJ14_bitCount_49 : decode cJ14_bitCount 49 = .ok (.bipush 63, 2) := dk_16 63 (dk_at dksJ14_bitCount_2 1 rfl rfl)
theorem dJ14_bitCount_51 : decode cJ14_bitCount 51 = .ok (.iand, 1) := dk_126 (dk_at dksJ14_bitCount_2 3 rfl rfl)
theorem dJ14_bitCount_52 : decode cJ14_bitCount 52 = .ok (.ireturn, 1) := dk_172 (dk_at dksJ14_bitCount_2 4 rfl rfl)
theorem q168 : (Jvm.Cond.initialized "java/lang/Integer") ∈ lw_all := lw_g (lw_at lw_m1 34 rfl) rfl
theorem q754 : (Jvm.Cond.static ({ cls := "java/lang/Integer", name := "bitCount", desc := "(I)I" } : Jvm.MethodName)) ∈ lw_all := lw_g (lw_at lw_m3 140 rfl) rfl
theorem q755 : (Jvm.Cond.code ({ cls := "java/lang/Integer", name := "bitCount", desc := "(I)I" } : Jvm.MethodName) prog_26_method_49_code (1 : Nat) (Option.some Jvm.ClassFile.FieldType.int)) ∈ lw_all := lw_g (lw_at lw_m3 141 rfl) rfl
theorem q756 : (Jvm.Cond.constant "java/lang/Integer" (265 : Nat) (1431655765 : Int32)) ∈ lw_all := lw_g (lw_at lw_m3 142 rfl) rfl
theorem q757 : (Jvm.Cond.constant "java/lang/Integer" (266 : Nat) (858993459 : Int32)) ∈ lw_all := lw_g (lw_at lw_m3 143 rfl) rfl
theorem q758 : (Jvm.Cond.constant "java/lang/Integer" (267 : Nat) (252645135 : Int32)) ∈ lw_all := lw_g (lw_at lw_m3 144 rfl) rfl
/-! java/lang/Object -/
set_option maxRecDepth 100000
def RJ15 : String := "java/lang/Object"
abbrev cJ15_init : ByteArray := object_method_1_code
def yJ15_init : MethodName := ⟨RJ15, "<init>", "()V"⟩
theorem dJ15_init_0 : decode cJ15_init 0 = .ok (.return_, 1) := by decide +kernel
theorem q175 : (Jvm.Cond.instanceMethod ({ cls := "java/lang/Object", name := "<init>", desc := "()V" } : Jvm.MethodName)) ∈ lw_all := lw_g (lw_at lw_m1 41 rfl) rfl
theorem q176 : (Jvm.Cond.code ({ cls := "java/lang/Object", name := "<init>", desc := "()V" } : Jvm.MethodName) object_method_1_code (1 : Nat) (Option.none : Option Jvm.ClassFile.FieldType)) ∈ lw_all := lw_g (lw_at lw_m1 42 rfl) rfl
/-! java/lang/RuntimeException -/
set_option maxRecDepth 100000
def RJ2 : String := "java/lang/RuntimeException"
abbrev cJ2_init : ByteArray := prog_28_method_5_code
def yJ2_init : MethodName := ⟨RJ2, "<init>", "(Ljava/lang/String;Ljava/lang/Throwable;ZZ)V"⟩
def dkwJ2_init_0 : List UInt8 := [42, 43, 44, 29, 21, 4, 183, 0, 16, 177]
abbrev dktJ2_init_0 : List UInt8 := dkwJ2_init_0 ++ []
theorem dksJ2_init_0 : cJ2_init.data.toList.drop 0 = dktJ2_init_0 := by decide +kernel
theorem dJ2_init_0 : decode cJ2_init 0 = .ok (.aload_n 0, 1) := dk_42 (dk_at dksJ2_init_0 0 rfl rfl)
theorem dJ2_init_1 : decode cJ2_init 1 = .ok (.aload_n 1, 1) := dk_43 (dk_at dksJ2_init_0 1 rfl rfl)
theorem dJ2_init_2 : decode cJ2_init 2 = .ok (.aload_n 2, 1) := dk_44 (dk_at dksJ2_init_0 2 rfl rfl)
theorem dJ2_init_3 : decode cJ2_init 3 = .ok (.iload_n 3, 1) := dk_29 (dk_at dksJ2_init_0 3 rfl rfl)
theorem dJ2_init_4 : decode cJ2_init 4 = .ok (.iload 4, 2) := dk_21 4 (dk_at dksJ2_init_0 4 rfl rfl)
theorem dJ2_init_6 : decode cJ2_init 6 = .ok (.invokespecial 16, 3) := dk_183 0 16 (dk_at dksJ2_init_0 6 rfl rfl)
theorem dJ2_init_9 : decode cJ2_init 9 = .ok (.return_, 1) := dk_177 (dk_at dksJ2_init_0 9 rfl rfl)
abbrev cJ2_init_2 : ByteArray := prog_28_method_1_code
def yJ2_init_2 : MethodName := ⟨RJ2, "<init>", "()V"⟩
theorem dJ2_init_2_0 : decode cJ2_init_2 0 = .ok (.aload_n 0, 1) := by decide +kernel
theorem dJ2_init_2_1 : decode cJ2_init_2 1 = .ok (.invokespecial 1, 3) := by decide +kernel
theorem dJ2_init_2_4 : decode cJ2_init_2 4 = .ok (.return_, 1) := by decide +kernel
abbrev cJ2_init_3 : ByteArray := prog_28_method_2_code
def yJ2_init_3 : MethodName := ⟨RJ2, "<init>", "(Ljava/lang/String;)V"⟩
def dkwJ2_init_3_0 : List UInt8 := [42, 43, 183, 0, 7, 177]
abbrev dktJ2_init_3_0 : List UInt8 := dkwJ2_init_3_0 ++ []
theorem dksJ2_init_3_0 : cJ2_init_3.data.toList.drop 0 = dktJ2_init_3_0 := by decide +kernel
theorem dJ2_init_3_0 : decode cJ2_init_3 0 = .ok (.aload_n 0, 1) := dk_42 (dk_at dksJ2_init_3_0 0 rfl rfl)
theorem dJ2_init_3_1 : decode cJ2_init_3 1 = .ok (.aload_n 1, 1) := dk_43 (dk_at dksJ2_init_3_0 1 rfl rfl)
theorem dJ2_init_3_2 : decode cJ2_init_3 2 = .ok (.invokespecial 7, 3) := dk_183 0 7 (dk_at dksJ2_init_3_0 2 rfl rfl)
theorem dJ2_init_3_5 : decode cJ2_init_3 5 = .ok (.return_, 1) := dk_177 (dk_at dksJ2_init_3_0 5 rfl rfl)
theorem q144 : (Jvm.Cond.initialized "java/lang/RuntimeException") ∈ lw_all := lw_g (lw_at lw_m1 10 rfl) rfl
theorem q436 : (Jvm.Cond.declares ({ cls := "java/lang/RuntimeException", name := "<init>", desc := "()V" } : Jvm.MethodName)) ∈ lw_tbl := lw_at lw_m2 62 rfl
theorem q437 : (Jvm.Cond.declares ({ cls := "java/lang/RuntimeException", name := "<init>", desc := "(Ljava/lang/String;)V" } : Jvm.MethodName)) ∈ lw_tbl := lw_at lw_m2 63 rfl
theorem q482 : (Jvm.Cond.instanceMethod ({ cls := "java/lang/RuntimeException", name := "<init>", desc := "(Ljava/lang/String;Ljava/lang/Throwable;ZZ)V" } : Jvm.MethodName)) ∈ lw_all := lw_g (lw_at lw_m2 108 rfl) rfl
theorem q483 : (Jvm.Cond.code ({ cls := "java/lang/RuntimeException", name := "<init>", desc := "(Ljava/lang/String;Ljava/lang/Throwable;ZZ)V" } : Jvm.MethodName) prog_28_method_5_code (5 : Nat) (Option.none : Option Jvm.ClassFile.FieldType)) ∈ lw_all := lw_g (lw_at lw_m2 109 rfl) rfl
theorem q484 : (Jvm.Cond.methodLink "java/lang/RuntimeException" (16 : Nat) ({ cls := "java/lang/Exception", name := "<init>", desc := "(Ljava/lang/String;Ljava/lang/Throwable;ZZ)V" } : Jvm.MethodName)) ∈ lw_all := lw_g (lw_at lw_m2 110 rfl) rfl
theorem q979 : (Jvm.Cond.instanceMethod ({ cls := "java/lang/RuntimeException", name := "<init>", desc := "()V" } : Jvm.MethodName)) ∈ lw_all := lw_g (lw_at lw_m4 125 rfl) rfl
theorem q980 : (Jvm.Cond.code ({ cls := "java/lang/RuntimeException", name := "<init>", desc := "()V" } : Jvm.MethodName) prog_28_method_1_code (1 : Nat) (Option.none : Option Jvm.ClassFile.FieldType)) ∈ lw_all := lw_g (lw_at lw_m4 126 rfl) rfl
theorem q981 : (Jvm.Cond.methodLink "java/lang/RuntimeException" (1 : Nat) ({ cls := "java/lang/Exception", name := "<init>", desc := "()V" } : Jvm.MethodName)) ∈ lw_all := lw_g (lw_at lw_m4 127 rfl) rfl
theorem q1161 : (Jvm.Cond.instanceMethod ({ cls := "java/lang/RuntimeException", name := "<init>", desc := "(Ljava/lang/String;)V" } : Jvm.MethodName)) ∈ lw_all := lw_g (lw_at lw_m5 67 rfl) rfl
theorem q1162 : (Jvm.Cond.code ({ cls := "java/lang/RuntimeException", name := "<init>", desc := "(Ljava/lang/String;)V" } : Jvm.MethodName) prog_28_method_2_code (2 : Nat) (Option.none : Option Jvm.ClassFile.FieldType)) ∈ lw_all := lw_g (lw_at lw_m5 68 rfl) rfl
theorem q1163 : (Jvm.Cond.methodLink "java/lang/RuntimeException" (7 : Nat) ({ cls := "java/lang/Exception", name := "<init>", desc := "(Ljava/lang/String;)V" } : Jvm.MethodName)) ∈ lw_all := lw_g (lw_at lw_m5 69 rfl) rfl
/-! java/lang/String -/
set_option maxRecDepth 100000
def RJ3 : String := "java/lang/String"
def TJ3 : u_T := fun k => match k with
  | 0 => ("java/lang/String", "value", "[B", true)
  | _ => ("java/lang/String", "coder", "B", true)
def tyJ3 : Nat → FieldType := fun k => match k with
  | 0 => .array .byte
  | _ => .byte
abbrev wsJ30 : List Cond := u_ws RJ3 TJ3 2
theorem nmJ3 : ∀ a, a < 2 → ∀ b, b < 2 → a ≠ b → (TJ3 a).2.1 ≠ (TJ3 b).2.1 := by decide +kernel
theorem tyJ3_ok : ∀ k, k < 2 → parseFieldDescriptor (TJ3 k).2.2.1 = some (tyJ3 k) := by decide +kernel
abbrev cJ3_length : ByteArray := prog_29_method_54_code
def yJ3_length : MethodName := ⟨RJ3, "length", "()I"⟩
def dkwJ3_length_0 : List UInt8 := [42, 180, 0, 9, 190, 42, 182, 1, 79, 122, 172]
abbrev dktJ3_length_0 : List UInt8 := dkwJ3_length_0 ++ []
theorem dksJ3_length_0 : cJ3_length.data.toList.drop 0 = dktJ3_length_0 := by decide +kernel
theorem dJ3_length_0 : decode cJ3_length 0 = .ok (.aload_n 0, 1) := dk_42 (dk_at dksJ3_length_0 0 rfl rfl)
theorem dJ3_length_1 : decode cJ3_length 1 = .ok (.getfield 9, 3) := dk_180 0 9 (dk_at dksJ3_length_0 1 rfl rfl)
theorem dJ3_length_4 : decode cJ3_length 4 = .ok (.arraylength, 1) := dk_190 (dk_at dksJ3_length_0 4 rfl rfl)
theorem dJ3_length_5 : decode cJ3_length 5 = .ok (.aload_n 0, 1) := dk_42 (dk_at dksJ3_length_0 5 rfl rfl)
theorem dJ3_length_6 : decode cJ3_length 6 = .ok (.invokevirtual 335, 3) := dk_182 1 79 (dk_at dksJ3_length_0 6 rfl rfl)
theorem dJ3_length_9 : decode cJ3_length 9 = .ok (.ishr, 1) := dk_122 (dk_at dksJ3_length_0 9 rfl rfl)
theorem dJ3_length_10 : decode cJ3_length 10 = .ok (.ireturn, 1) := dk_172 (dk_at dksJ3_length_0 10 rfl rfl)
abbrev cJ3_coder : ByteArray := prog_29_method_152_code
def yJ3_coder : MethodName := ⟨RJ3, "coder", "()B"⟩
def dkwJ3_coder_0 : List UInt8 := [178, 0, 38, 153, 0, 10, 42, 180, 0, 15, 167, 0, 4, 4, 172]
abbrev dktJ3_coder_0 : List UInt8 := dkwJ3_coder_0 ++ []
theorem dksJ3_coder_0 : cJ3_coder.data.toList.drop 0 = dktJ3_coder_0 := by decide +kernel
theorem dJ3_coder_0 : decode cJ3_coder 0 = .ok (.getstatic 38, 3) := dk_178 0 38 (dk_at dksJ3_coder_0 0 rfl rfl)
theorem dJ3_coder_3 : decode cJ3_coder 3 = .ok (.ifCond .eq 10, 3) := dk_153 0 10 (dk_at dksJ3_coder_0 3 rfl rfl)
theorem dJ3_coder_6 : decode cJ3_coder 6 = .ok (.aload_n 0, 1) := dk_42 (dk_at dksJ3_coder_0 6 rfl rfl)
theorem dJ3_coder_7 : decode cJ3_coder 7 = .ok (.getfield 15, 3) := dk_180 0 15 (dk_at dksJ3_coder_0 7 rfl rfl)
theorem dJ3_coder_10 : decode cJ3_coder 10 = .ok (.goto 4, 3) := dk_167 0 4 (dk_at dksJ3_coder_0 10 rfl rfl)
theorem dJ3_coder_13 : decode cJ3_coder 13 = .ok (.iconst 1, 1) := dk_4 (dk_at dksJ3_coder_0 13 rfl rfl)
theorem dJ3_coder_14 : decode cJ3_coder 14 = .ok (.ireturn, 1) := dk_172 (dk_at dksJ3_coder_0 14 rfl rfl)
abbrev cJ3_charAt : ByteArray := prog_29_method_56_code
def yJ3_charAt : MethodName := ⟨RJ3, "charAt", "(I)C"⟩
def dkwJ3_charAt_1 : List UInt8 := [172]
abbrev dktJ3_charAt_1 : List UInt8 := dkwJ3_charAt_1 ++ []
def dkwJ3_charAt_0 : List UInt8 := [42, 182, 1, 236, 153, 0, 12, 42, 180, 0, 9, 27, 184, 1, 239, 172, 42, 180, 0, 9, 27, 184, 1, 242]
abbrev dktJ3_charAt_0 : List UInt8 := dkwJ3_charAt_0 ++ dktJ3_charAt_1
theorem dksJ3_charAt_0 : cJ3_charAt.data.toList.drop 0 = dktJ3_charAt_0 := by decide +kernel
theorem dksJ3_charAt_1 : cJ3_charAt.data.toList.drop 24 = dktJ3_charAt_1 := dk_seg dksJ3_charAt_0 24 rfl rfl
theorem dJ3_charAt_0 : decode cJ3_charAt 0 = .ok (.aload_n 0, 1) := dk_42 (dk_at dksJ3_charAt_0 0 rfl rfl)
theorem dJ3_charAt_1 : decode cJ3_charAt 1 = .ok (.invokevirtual 492, 3) := dk_182 1 236 (dk_at dksJ3_charAt_0 1 rfl rfl)
theorem dJ3_charAt_4 : decode cJ3_charAt 4 = .ok (.ifCond .eq 12, 3) := dk_153 0 12 (dk_at dksJ3_charAt_0 4 rfl rfl)
theorem dJ3_charAt_7 : decode cJ3_charAt 7 = .ok (.aload_n 0, 1) := dk_42 (dk_at dksJ3_charAt_0 7 rfl rfl)
theorem dJ3_charAt_8 : decode cJ3_charAt 8 = .ok (.getfield 9, 3) := dk_180 0 9 (dk_at dksJ3_charAt_0 8 rfl rfl)
theorem dJ3_charAt_11 : decode cJ3_charAt 11 = .ok (.iload_n 1, 1) := dk_27 (dk_at dksJ3_charAt_0 11 rfl rfl)
theorem dJ3_charAt_12 : decode cJ3_charAt 12 = .ok (.invokestatic 495, 3) := dk_184 1 239 (dk_at dksJ3_charAt_0 12 rfl rfl)
theorem dJ3_charAt_15 : decode cJ3_charAt 15 = .ok (.ireturn, 1) := dk_172 (dk_at dksJ3_charAt_0 15 rfl rfl)
theorem dJ3_charAt_16 : decode cJ3_charAt 16 = .ok (.aload_n 0, 1) := dk_42 (dk_at dksJ3_charAt_0 16 rfl rfl)
theorem dJ3_charAt_17 : decode cJ3_charAt 17 = .ok (.getfield 9, 3) := dk_180 0 9 (dk_at dksJ3_charAt_0 17 rfl rfl)
theorem dJ3_charAt_20 : decode cJ3_charAt 20 = .ok (.iload_n 1, 1) := dk_27 (dk_at dksJ3_charAt_0 20 rfl rfl)
theorem dJ3_charAt_21 : decode cJ3_charAt 21 = .ok (.invokestatic 498, 3) := dk_184 1 242 (dk_at dksJ3_charAt_0 21 rfl rfl)
theorem dJ3_charAt_24 : decode cJ3_charAt 24 = .ok (.ireturn, 1) := dk_172 (dk_at dksJ3_charAt_1 0 rfl rfl)
abbrev cJ3_isLatin1 : ByteArray := prog_29_method_154_code
def yJ3_isLatin1 : MethodName := ⟨RJ3, "isLatin1", "()Z"⟩
def dkwJ3_isLatin1_0 : List UInt8 := [178, 0, 38, 153, 0, 14, 42, 180, 0, 15, 154, 0, 7, 4, 167, 0, 4, 3, 172]
abbrev dktJ3_isLatin1_0 : List UInt8 := dkwJ3_isLatin1_0 ++ []
theorem dksJ3_isLatin1_0 : cJ3_isLatin1.data.toList.drop 0 = dktJ3_isLatin1_0 := by decide +kernel
theorem dJ3_isLatin1_0 : decode cJ3_isLatin1 0 = .ok (.getstatic 38, 3) := dk_178 0 38 (dk_at dksJ3_isLatin1_0 0 rfl rfl)
theorem dJ3_isLatin1_3 : decode cJ3_isLatin1 3 = .ok (.ifCond .eq 14, 3) := dk_153 0 14 (dk_at dksJ3_isLatin1_0 3 rfl rfl)
theorem dJ3_isLatin1_6 : decode cJ3_isLatin1 6 = .ok (.aload_n 0, 1) := dk_42 (dk_at dksJ3_isLatin1_0 6 rfl rfl)
theorem dJ3_isLatin1_7 : decode cJ3_isLatin1 7 = .ok (.getfield 15, 3) := dk_180 0 15 (dk_at dksJ3_isLatin1_0 7 rfl rfl)
theorem dJ3_isLatin1_10 : decode cJ3_isLatin1 10 = .ok (.ifCond .ne 7, 3) := dk_154 0 7 (dk_at dksJ3_isLatin1_0 10 rfl rfl)
theorem dJ3_isLatin1_13 : decode cJ3_isLatin1 13 = .ok (.iconst 1, 1) := dk_4 (dk_at dksJ3_isLatin1_0 13 rfl rfl)
theorem dJ3_isLatin1_14 : decode cJ3_isLatin1 14 = .ok (.goto 4, 3) := dk_167 0 4 (dk_at dksJ3_isLatin1_0 14 rfl rfl)
theorem dJ3_isLatin1_17 : decode cJ3_isLatin1 17 = .ok (.iconst 0, 1) := dk_3 (dk_at dksJ3_isLatin1_0 17 rfl rfl)
theorem dJ3_isLatin1_18 : decode cJ3_isLatin1 18 = .ok (.ireturn, 1) := dk_172 (dk_at dksJ3_isLatin1_0 18 rfl rfl)
abbrev cJ3_checkIndex : ByteArray := prog_29_method_155_code
def yJ3_checkIndex : MethodName := ⟨RJ3, "checkIndex", "(II)V"⟩
def dkwJ3_checkIndex_0 : List UInt8 := [26, 27, 178, 4, 29, 184, 4, 35, 87, 177]
abbrev dktJ3_checkIndex_0 : List UInt8 := dkwJ3_checkIndex_0 ++ []
theorem dksJ3_checkIndex_0 : cJ3_checkIndex.data.toList.drop 0 = dktJ3_checkIndex_0 := by decide +kernel
theorem dJ3_checkIndex_0 : decode cJ3_checkIndex 0 = .ok (.iload_n 0, 1) := dk_26 (dk_at dksJ3_checkIndex_0 0 rfl rfl)
theorem dJ3_checkIndex_1 : decode cJ3_checkIndex 1 = .ok (.iload_n 1, 1) := dk_27 (dk_at dksJ3_checkIndex_0 1 rfl rfl)
theorem dJ3_checkIndex_2 : decode cJ3_checkIndex 2 = .ok (.getstatic 1053, 3) := dk_178 4 29 (dk_at dksJ3_checkIndex_0 2 rfl rfl)
theorem dJ3_checkIndex_5 : decode cJ3_checkIndex 5 = .ok (.invokestatic 1059, 3) := dk_184 4 35 (dk_at dksJ3_checkIndex_0 5 rfl rfl)
theorem dJ3_checkIndex_8 : decode cJ3_checkIndex 8 = .ok (.pop, 1) := dk_87 (dk_at dksJ3_checkIndex_0 8 rfl rfl)
theorem dJ3_checkIndex_9 : decode cJ3_checkIndex 9 = .ok (.return_, 1) := dk_177 (dk_at dksJ3_checkIndex_0 9 rfl rfl)
theorem q149 : (Jvm.Cond.initialized "java/lang/String") ∈ lw_all := lw_g (lw_at lw_m1 15 rfl) rfl
theorem q864 : (Jvm.Cond.instanceMethod ({ cls := "java/lang/String", name := "length", desc := "()I" } : Jvm.MethodName)) ∈ lw_all := lw_g (lw_at lw_m4 10 rfl) rfl
theorem q865 : (Jvm.Cond.selects "java/lang/String" ({ cls := "java/lang/String", name := "length", desc := "()I" } : Jvm.MethodName) ({ cls := "java/lang/String", name := "length", desc := "()I" } : Jvm.MethodName)) ∈ lw_all := lw_g (lw_at lw_m4 11 rfl) rfl
theorem q866 : (Jvm.Cond.code ({ cls := "java/lang/String", name := "length", desc := "()I" } : Jvm.MethodName) prog_29_method_54_code (1 : Nat) (Option.some Jvm.ClassFile.FieldType.int)) ∈ lw_all := lw_g (lw_at lw_m4 12 rfl) rfl
theorem q867 : (Jvm.Cond.methodLink "java/lang/String" (335 : Nat) ({ cls := "java/lang/String", name := "coder", desc := "()B" } : Jvm.MethodName)) ∈ lw_all := lw_g (lw_at lw_m4 13 rfl) rfl
theorem q868 : (Jvm.Cond.instanceMethod ({ cls := "java/lang/String", name := "coder", desc := "()B" } : Jvm.MethodName)) ∈ lw_all := lw_g (lw_at lw_m4 14 rfl) rfl
theorem q869 : (Jvm.Cond.selects "java/lang/String" ({ cls := "java/lang/String", name := "coder", desc := "()B" } : Jvm.MethodName) ({ cls := "java/lang/String", name := "coder", desc := "()B" } : Jvm.MethodName)) ∈ lw_all := lw_g (lw_at lw_m4 15 rfl) rfl
theorem q870 : (Jvm.Cond.code ({ cls := "java/lang/String", name := "coder", desc := "()B" } : Jvm.MethodName) prog_29_method_152_code (1 : Nat) (Option.some Jvm.ClassFile.FieldType.byte)) ∈ lw_all := lw_g (lw_at lw_m4 16 rfl) rfl
theorem q871 : (Jvm.Cond.fieldLink "java/lang/String" (38 : Nat) "java/lang/String" "COMPACT_STRINGS" "Z") ∈ lw_all := lw_g (lw_at lw_m4 17 rfl) rfl
theorem q872 : (Jvm.Cond.laysStatic "java/lang/String" "COMPACT_STRINGS" "Z") ∈ lw_tbl := lw_at lw_m4 18 rfl
theorem q874 : (Jvm.Cond.instanceMethod ({ cls := "java/lang/String", name := "charAt", desc := "(I)C" } : Jvm.MethodName)) ∈ lw_all := lw_g (lw_at lw_m4 20 rfl) rfl
theorem q875 : (Jvm.Cond.selects "java/lang/String" ({ cls := "java/lang/String", name := "charAt", desc := "(I)C" } : Jvm.MethodName) ({ cls := "java/lang/String", name := "charAt", desc := "(I)C" } : Jvm.MethodName)) ∈ lw_all := lw_g (lw_at lw_m4 21 rfl) rfl
theorem q876 : (Jvm.Cond.code ({ cls := "java/lang/String", name := "charAt", desc := "(I)C" } : Jvm.MethodName) prog_29_method_56_code (2 : Nat) (Option.some Jvm.ClassFile.FieldType.char)) ∈ lw_all := lw_g (lw_at lw_m4 22 rfl) rfl
theorem q877 : (Jvm.Cond.methodLink "java/lang/String" (492 : Nat) ({ cls := "java/lang/String", name := "isLatin1", desc := "()Z" } : Jvm.MethodName)) ∈ lw_all := lw_g (lw_at lw_m4 23 rfl) rfl
theorem q878 : (Jvm.Cond.instanceMethod ({ cls := "java/lang/String", name := "isLatin1", desc := "()Z" } : Jvm.MethodName)) ∈ lw_all := lw_g (lw_at lw_m4 24 rfl) rfl
theorem q879 : (Jvm.Cond.selects "java/lang/String" ({ cls := "java/lang/String", name := "isLatin1", desc := "()Z" } : Jvm.MethodName) ({ cls := "java/lang/String", name := "isLatin1", desc := "()Z" } : Jvm.MethodName)) ∈ lw_all := lw_g (lw_at lw_m4 25 rfl) rfl
theorem q880 : (Jvm.Cond.code ({ cls := "java/lang/String", name := "isLatin1", desc := "()Z" } : Jvm.MethodName) prog_29_method_154_code (1 : Nat) (Option.some Jvm.ClassFile.FieldType.boolean)) ∈ lw_all := lw_g (lw_at lw_m4 26 rfl) rfl
theorem q881 : (Jvm.Cond.methodLink "java/lang/String" (495 : Nat) ({ cls := "java/lang/StringLatin1", name := "charAt", desc := "([BI)C" } : Jvm.MethodName)) ∈ lw_all := lw_g (lw_at lw_m4 27 rfl) rfl
theorem q885 : (Jvm.Cond.static ({ cls := "java/lang/String", name := "checkIndex", desc := "(II)V" } : Jvm.MethodName)) ∈ lw_all := lw_g (lw_at lw_m4 31 rfl) rfl
theorem q886 : (Jvm.Cond.code ({ cls := "java/lang/String", name := "checkIndex", desc := "(II)V" } : Jvm.MethodName) prog_29_method_155_code (2 : Nat) (Option.none : Option Jvm.ClassFile.FieldType)) ∈ lw_all := lw_g (lw_at lw_m4 32 rfl) rfl
theorem q887 : (Jvm.Cond.fieldLink "java/lang/String" (1053 : Nat) "jdk/internal/util/Preconditions" "SIOOBE_FORMATTER" "Ljava/util/function/BiFunction;") ∈ lw_all := lw_g (lw_at lw_m4 33 rfl) rfl
theorem q889 : (Jvm.Cond.methodLink "java/lang/String" (1059 : Nat) ({ cls := "jdk/internal/util/Preconditions", name := "checkIndex", desc := "(IILjava/util/function/BiFunction;)I" } : Jvm.MethodName)) ∈ lw_all := lw_g (lw_at lw_m4 35 rfl) rfl
theorem q892 : (Jvm.Cond.methodLink "java/lang/String" (498 : Nat) ({ cls := "java/lang/StringUTF16", name := "charAt", desc := "([BI)C" } : Jvm.MethodName)) ∈ lw_all := lw_g (lw_at lw_m4 38 rfl) rfl
theorem q1180 : (Jvm.Cond.instantiable "java/lang/String" (4 : Nat)) ∈ lw_all := lw_g (lw_at lw_m5 86 rfl) rfl
theorem q1181 : (Jvm.Cond.laysFinal "java/lang/String" "java/lang/String" "value" "[B") ∈ lw_all := lw_g (lw_at lw_m5 87 rfl) rfl
theorem q1182 : (Jvm.Cond.soleField "java/lang/String" "value") ∈ lw_all := lw_g (lw_at lw_m5 88 rfl) rfl
theorem q1183 : (Jvm.Cond.laysFinal "java/lang/String" "java/lang/String" "coder" "B") ∈ lw_all := lw_g (lw_at lw_m5 89 rfl) rfl
theorem q1184 : (Jvm.Cond.soleField "java/lang/String" "coder") ∈ lw_all := lw_g (lw_at lw_m5 90 rfl) rfl
theorem q2303 : (Jvm.Cond.castable "java/lang/String" "java/lang/Object") ∈ lw_tbl := lw_at lw_m10 9 rfl
theorem q2306 : (Jvm.Cond.fieldLink "java/lang/String" (9 : Nat) "java/lang/String" "value" "[B") ∈ lw_all := lw_g (lw_at lw_m10 12 rfl) rfl
theorem q2307 : (Jvm.Cond.fieldLink "java/lang/String" (15 : Nat) "java/lang/String" "coder" "B") ∈ lw_all := lw_g (lw_at lw_m10 13 rfl) rfl
theorem in_J3 : ∀ w ∈ wsJ30, w ∈ lw_all := lw_in wsJ30 [1181, 1183] (by decide +kernel) (by decide +kernel)
/-! java/lang/StringLatin1 -/
set_option maxRecDepth 100000
def RJ4 : String := "java/lang/StringLatin1"
abbrev cJ4_charAt : ByteArray := prog_30_method_2_code
def yJ4_charAt : MethodName := ⟨RJ4, "charAt", "([BI)C"⟩
def dkwJ4_charAt_0 : List UInt8 := [27, 42, 190, 184, 0, 9, 42, 27, 51, 17, 0, 255, 126, 146, 172]
abbrev dktJ4_charAt_0 : List UInt8 := dkwJ4_charAt_0 ++ []
theorem dksJ4_charAt_0 : cJ4_charAt.data.toList.drop 0 = dktJ4_charAt_0 := by decide +kernel
theorem dJ4_charAt_0 : decode cJ4_charAt 0 = .ok (.iload_n 1, 1) := dk_27 (dk_at dksJ4_charAt_0 0 rfl rfl)
theorem dJ4_charAt_1 : decode cJ4_charAt 1 = .ok (.aload_n 0, 1) := dk_42 (dk_at dksJ4_charAt_0 1 rfl rfl)
theorem dJ4_charAt_2 : decode cJ4_charAt 2 = .ok (.arraylength, 1) := dk_190 (dk_at dksJ4_charAt_0 2 rfl rfl)
theorem dJ4_charAt_3 : decode cJ4_charAt 3 = .ok (.invokestatic 9, 3) := dk_184 0 9 (dk_at dksJ4_charAt_0 3 rfl rfl)
theorem dJ4_charAt_6 : decode cJ4_charAt 6 = .ok (.aload_n 0, 1) := dk_42 (dk_at dksJ4_charAt_0 6 rfl rfl)
theorem dJ4_charAt_7 : decode cJ4_charAt 7 = .ok (.iload_n 1, 1) := dk_27 (dk_at dksJ4_charAt_0 7 rfl rfl)
theorem dJ4_charAt_8 : decode cJ4_charAt 8 = .ok (.baload, 1) := dk_51 (dk_at dksJ4_charAt_0 8 rfl rfl)
theorem dJ4_charAt_9 : decode cJ4_charAt 9 = .ok (.sipush 255, 3) := dk_17 0 255 (dk_at dksJ4_charAt_0 9 rfl rfl)
theorem dJ4_charAt_12 : decode cJ4_charAt 12 = .ok (.iand, 1) := dk_126 (dk_at dksJ4_charAt_0 12 rfl rfl)
theorem dJ4_charAt_13 : decode cJ4_charAt 13 = .ok (.i2c, 1) := dk_146 (dk_at dksJ4_charAt_0 13 rfl rfl)
theorem dJ4_charAt_14 : decode cJ4_charAt 14 = .ok (.ireturn, 1) := dk_172 (dk_at dksJ4_charAt_0 14 rfl rfl)
theorem q150 : (Jvm.Cond.initialized "java/lang/StringLatin1") ∈ lw_all := lw_g (lw_at lw_m1 16 rfl) rfl
theorem q882 : (Jvm.Cond.static ({ cls := "java/lang/StringLatin1", name := "charAt", desc := "([BI)C" } : Jvm.MethodName)) ∈ lw_all := lw_g (lw_at lw_m4 28 rfl) rfl
theorem q883 : (Jvm.Cond.code ({ cls := "java/lang/StringLatin1", name := "charAt", desc := "([BI)C" } : Jvm.MethodName) prog_30_method_2_code (2 : Nat) (Option.some Jvm.ClassFile.FieldType.char)) ∈ lw_all := lw_g (lw_at lw_m4 29 rfl) rfl
theorem q884 : (Jvm.Cond.methodLink "java/lang/StringLatin1" (9 : Nat) ({ cls := "java/lang/String", name := "checkIndex", desc := "(II)V" } : Jvm.MethodName)) ∈ lw_all := lw_g (lw_at lw_m4 30 rfl) rfl
/-! jdk/internal/util/Preconditions -/
set_option maxRecDepth 100000
def RJ5 : String := "jdk/internal/util/Preconditions"
abbrev cJ5_checkIndex : ByteArray := prog_36_method_11_code
def yJ5_checkIndex : MethodName := ⟨RJ5, "checkIndex", "(IILjava/util/function/BiFunction;)I"⟩
def dkwJ5_checkIndex_0 : List UInt8 := [26, 155, 0, 8, 26, 27, 161, 0, 10, 44, 26, 27, 184, 0, 95, 191, 26, 172]
abbrev dktJ5_checkIndex_0 : List UInt8 := dkwJ5_checkIndex_0 ++ []
theorem dksJ5_checkIndex_0 : cJ5_checkIndex.data.toList.drop 0 = dktJ5_checkIndex_0 := by decide +kernel
theorem dJ5_checkIndex_0 : decode cJ5_checkIndex 0 = .ok (.iload_n 0, 1) := dk_26 (dk_at dksJ5_checkIndex_0 0 rfl rfl)
theorem dJ5_checkIndex_1 : decode cJ5_checkIndex 1 = .ok (.ifCond .lt 8, 3) := dk_155 0 8 (dk_at dksJ5_checkIndex_0 1 rfl rfl)
theorem dJ5_checkIndex_4 : decode cJ5_checkIndex 4 = .ok (.iload_n 0, 1) := dk_26 (dk_at dksJ5_checkIndex_0 4 rfl rfl)
theorem dJ5_checkIndex_5 : decode cJ5_checkIndex 5 = .ok (.iload_n 1, 1) := dk_27 (dk_at dksJ5_checkIndex_0 5 rfl rfl)
theorem dJ5_checkIndex_6 : decode cJ5_checkIndex 6 = .ok (.if_icmp .lt 10, 3) := dk_161 0 10 (dk_at dksJ5_checkIndex_0 6 rfl rfl)
theorem dJ5_checkIndex_9 : decode cJ5_checkIndex 9 = .ok (.aload_n 2, 1) := dk_44 (dk_at dksJ5_checkIndex_0 9 rfl rfl)
theorem dJ5_checkIndex_10 : decode cJ5_checkIndex 10 = .ok (.iload_n 0, 1) := dk_26 (dk_at dksJ5_checkIndex_0 10 rfl rfl)
theorem dJ5_checkIndex_11 : decode cJ5_checkIndex 11 = .ok (.iload_n 1, 1) := dk_27 (dk_at dksJ5_checkIndex_0 11 rfl rfl)
theorem dJ5_checkIndex_12 : decode cJ5_checkIndex 12 = .ok (.invokestatic 95, 3) := dk_184 0 95 (dk_at dksJ5_checkIndex_0 12 rfl rfl)
theorem dJ5_checkIndex_15 : decode cJ5_checkIndex 15 = .ok (.athrow, 1) := dk_191 (dk_at dksJ5_checkIndex_0 15 rfl rfl)
theorem dJ5_checkIndex_16 : decode cJ5_checkIndex 16 = .ok (.iload_n 0, 1) := dk_26 (dk_at dksJ5_checkIndex_0 16 rfl rfl)
theorem dJ5_checkIndex_17 : decode cJ5_checkIndex 17 = .ok (.ireturn, 1) := dk_172 (dk_at dksJ5_checkIndex_0 17 rfl rfl)
theorem q151 : (Jvm.Cond.initialized "jdk/internal/util/Preconditions") ∈ lw_all := lw_g (lw_at lw_m1 17 rfl) rfl
theorem q888 : (Jvm.Cond.laysStatic "jdk/internal/util/Preconditions" "SIOOBE_FORMATTER" "Ljava/util/function/BiFunction;") ∈ lw_tbl := lw_at lw_m4 34 rfl
theorem q890 : (Jvm.Cond.static ({ cls := "jdk/internal/util/Preconditions", name := "checkIndex", desc := "(IILjava/util/function/BiFunction;)I" } : Jvm.MethodName)) ∈ lw_all := lw_g (lw_at lw_m4 36 rfl) rfl
theorem q891 : (Jvm.Cond.code ({ cls := "jdk/internal/util/Preconditions", name := "checkIndex", desc := "(IILjava/util/function/BiFunction;)I" } : Jvm.MethodName) prog_36_method_11_code (3 : Nat) (Option.some Jvm.ClassFile.FieldType.int)) ∈ lw_all := lw_g (lw_at lw_m4 37 rfl) rfl
/-! java/lang/StringUTF16 -/
set_option maxRecDepth 100000
def RJ6 : String := "java/lang/StringUTF16"
abbrev cJ6_charAt : ByteArray := prog_31_method_83_code
def yJ6_charAt : MethodName := ⟨RJ6, "charAt", "([BI)C"⟩
def dkwJ6_charAt_0 : List UInt8 := [27, 42, 184, 0, 67, 42, 27, 184, 0, 71, 172]
abbrev dktJ6_charAt_0 : List UInt8 := dkwJ6_charAt_0 ++ []
theorem dksJ6_charAt_0 : cJ6_charAt.data.toList.drop 0 = dktJ6_charAt_0 := by decide +kernel
theorem dJ6_charAt_0 : decode cJ6_charAt 0 = .ok (.iload_n 1, 1) := dk_27 (dk_at dksJ6_charAt_0 0 rfl rfl)
theorem dJ6_charAt_1 : decode cJ6_charAt 1 = .ok (.aload_n 0, 1) := dk_42 (dk_at dksJ6_charAt_0 1 rfl rfl)
theorem dJ6_charAt_2 : decode cJ6_charAt 2 = .ok (.invokestatic 67, 3) := dk_184 0 67 (dk_at dksJ6_charAt_0 2 rfl rfl)
theorem dJ6_charAt_5 : decode cJ6_charAt 5 = .ok (.aload_n 0, 1) := dk_42 (dk_at dksJ6_charAt_0 5 rfl rfl)
theorem dJ6_charAt_6 : decode cJ6_charAt 6 = .ok (.iload_n 1, 1) := dk_27 (dk_at dksJ6_charAt_0 6 rfl rfl)
theorem dJ6_charAt_7 : decode cJ6_charAt 7 = .ok (.invokestatic 71, 3) := dk_184 0 71 (dk_at dksJ6_charAt_0 7 rfl rfl)
theorem dJ6_charAt_10 : decode cJ6_charAt 10 = .ok (.ireturn, 1) := dk_172 (dk_at dksJ6_charAt_0 10 rfl rfl)
abbrev cJ6_checkIndex : ByteArray := prog_31_method_91_code
def yJ6_checkIndex : MethodName := ⟨RJ6, "checkIndex", "(I[B)V"⟩
def dkwJ6_checkIndex_0 : List UInt8 := [26, 43, 184, 0, 48, 184, 1, 158, 177]
abbrev dktJ6_checkIndex_0 : List UInt8 := dkwJ6_checkIndex_0 ++ []
theorem dksJ6_checkIndex_0 : cJ6_checkIndex.data.toList.drop 0 = dktJ6_checkIndex_0 := by decide +kernel
theorem dJ6_checkIndex_0 : decode cJ6_checkIndex 0 = .ok (.iload_n 0, 1) := dk_26 (dk_at dksJ6_checkIndex_0 0 rfl rfl)
theorem dJ6_checkIndex_1 : decode cJ6_checkIndex 1 = .ok (.aload_n 1, 1) := dk_43 (dk_at dksJ6_checkIndex_0 1 rfl rfl)
theorem dJ6_checkIndex_2 : decode cJ6_checkIndex 2 = .ok (.invokestatic 48, 3) := dk_184 0 48 (dk_at dksJ6_checkIndex_0 2 rfl rfl)
theorem dJ6_checkIndex_5 : decode cJ6_checkIndex 5 = .ok (.invokestatic 414, 3) := dk_184 1 158 (dk_at dksJ6_checkIndex_0 5 rfl rfl)
theorem dJ6_checkIndex_8 : decode cJ6_checkIndex 8 = .ok (.return_, 1) := dk_177 (dk_at dksJ6_checkIndex_0 8 rfl rfl)
abbrev cJ6_length : ByteArray := prog_31_method_6_code
def yJ6_length : MethodName := ⟨RJ6, "length", "([B)I"⟩
def dkwJ6_length_0 : List UInt8 := [42, 190, 4, 122, 172]
abbrev dktJ6_length_0 : List UInt8 := dkwJ6_length_0 ++ []
theorem dksJ6_length_0 : cJ6_length.data.toList.drop 0 = dktJ6_length_0 := by decide +kernel
theorem dJ6_length_0 : decode cJ6_length 0 = .ok (.aload_n 0, 1) := dk_42 (dk_at dksJ6_length_0 0 rfl rfl)
theorem dJ6_length_1 : decode cJ6_length 1 = .ok (.arraylength, 1) := dk_190 (dk_at dksJ6_length_0 1 rfl rfl)
theorem dJ6_length_2 : decode cJ6_length 2 = .ok (.iconst 1, 1) := dk_4 (dk_at dksJ6_length_0 2 rfl rfl)
theorem dJ6_length_3 : decode cJ6_length 3 = .ok (.ishr, 1) := dk_122 (dk_at dksJ6_length_0 3 rfl rfl)
theorem dJ6_length_4 : decode cJ6_length 4 = .ok (.ireturn, 1) := dk_172 (dk_at dksJ6_length_0 4 rfl rfl)
abbrev cJ6_getChar : ByteArray := prog_31_method_5_code
def yJ6_getChar : MethodName := ⟨RJ6, "getChar", "([BI)C"⟩
def dkwJ6_getChar_2 : List UInt8 := [51, 17, 0, 255, 126, 178, 0, 63, 120, 128, 146, 172]
abbrev dktJ6_getChar_2 : List UInt8 := dkwJ6_getChar_2 ++ []
def dkwJ6_getChar_1 : List UInt8 := [183, 0, 56, 191, 27, 4, 120, 60, 42, 27, 132, 1, 1, 51, 17, 0, 255, 126, 178, 0, 59, 120, 42, 27]
abbrev dktJ6_getChar_1 : List UInt8 := dkwJ6_getChar_1 ++ dktJ6_getChar_2
def dkwJ6_getChar_0 : List UInt8 := [178, 0, 44, 154, 0, 25, 27, 155, 0, 11, 27, 42, 184, 0, 48, 161, 0, 13, 187, 0, 52, 89, 18, 54]
abbrev dktJ6_getChar_0 : List UInt8 := dkwJ6_getChar_0 ++ dktJ6_getChar_1
theorem dksJ6_getChar_0 : cJ6_getChar.data.toList.drop 0 = dktJ6_getChar_0 := by decide +kernel
theorem dksJ6_getChar_1 : cJ6_getChar.data.toList.drop 24 = dktJ6_getChar_1 := dk_seg dksJ6_getChar_0 24 rfl rfl
theorem dksJ6_getChar_2 : cJ6_getChar.data.toList.drop 48 = dktJ6_getChar_2 := dk_seg dksJ6_getChar_1 24 rfl rfl
theorem dJ6_getChar_0 : decode cJ6_getChar 0 = .ok (.getstatic 44, 3) := dk_178 0 44 (dk_at dksJ6_getChar_0 0 rfl rfl)
theorem dJ6_getChar_3 : decode cJ6_getChar 3 = .ok (.ifCond .ne 25, 3) := dk_154 0 25 (dk_at dksJ6_getChar_0 3 rfl rfl)
theorem dJ6_getChar_6 : decode cJ6_getChar 6 = .ok (.iload_n 1, 1) := dk_27 (dk_at dksJ6_getChar_0 6 rfl rfl)
theorem dJ6_getChar_7 : decode cJ6_getChar 7 = .ok (.ifCond .lt 11, 3) := dk_155 0 11 (dk_at dksJ6_getChar_0 7 rfl rfl)
theorem dJ6_getChar_10 : decode cJ6_getChar 10 = .ok (.iload_n 1, 1) := dk_27 (dk_at dksJ6_getChar_0 10 rfl rfl)
theorem dJ6_getChar_11 : decode cJ6_getChar 11 = .ok (.aload_n 0, 1) := dk_42 (dk_at dksJ6_getChar_0 11 rfl rfl)
theorem dJ6_getChar_12 : decode cJ6_getChar 12 = .ok (.invokestatic 48, 3) := dk_184 0 48 (dk_at dksJ6_getChar_0 12 rfl rfl)
theorem dJ6_getChar_15 : decode cJ6_getChar 15 = .ok (.if_icmp .lt 13, 3) := dk_161 0 13 (dk_at dksJ6_getChar_0 15 rfl rfl)
theorem dJ6_getChar_18 : decode cJ6_getChar 18 = .ok (.new 52, 3) := dk_187 0 52 (dk_at dksJ6_getChar_0 18 rfl rfl)
theorem dJ6_getChar_21 : decode cJ6_getChar 21 = .ok (.dup, 1) := dk_89 (dk_at dksJ6_getChar_0 21 rfl rfl)
theorem dJ6_getChar_22 : decode cJ6_getChar 22 = .ok (.ldc 54, 2) := dk_18 54 (dk_at dksJ6_getChar_0 22 rfl rfl)
theorem dJ6_getChar_24 : decode cJ6_getChar 24 = .ok (.invokespecial 56, 3) := dk_183 0 56 (dk_at dksJ6_getChar_1 0 rfl rfl)
theorem dJ6_getChar_27 : decode cJ6_getChar 27 = .ok (.athrow, 1) := dk_191 (dk_at dksJ6_getChar_1 3 rfl rfl)
theorem dJ6_getChar_28 : decode cJ6_getChar 28 = .ok (.iload_n 1, 1) := dk_27 (dk_at dksJ6_getChar_1 4 rfl rfl)
theorem dJ6_getChar_29 : decode cJ6_getChar 29 = .ok (.iconst 1, 1) := dk_4 (dk_at dksJ6_getChar_1 5 rfl rfl)
theorem dJ6_getChar_30 : decode cJ6_getChar 30 = .ok (.ishl, 1) := dk_120 (dk_at dksJ6_getChar_1 6 rfl rfl)
theorem dJ6_getChar_31 : decode cJ6_getChar 31 = .ok (.istore_n 1, 1) := dk_60 (dk_at dksJ6_getChar_1 7 rfl rfl)
theorem dJ6_getChar_32 : decode cJ6_getChar 32 = .ok (.aload_n 0, 1) := dk_42 (dk_at dksJ6_getChar_1 8 rfl rfl)
theorem dJ6_getChar_33 : decode cJ6_getChar 33 = .ok (.iload_n 1, 1) := dk_27 (dk_at dksJ6_getChar_1 9 rfl rfl)
theorem dJ6_getChar_34 : decode cJ6_getChar 34 = .ok (.iinc 1 1, 3) := dk_132 1 1 (dk_at dksJ6_getChar_1 10 rfl rfl)
theorem dJ6_getChar_37 : decode cJ6_getChar 37 = .ok (.baload, 1) := dk_51 (dk_at dksJ6_getChar_1 13 rfl rfl)
theorem dJ6_getChar_38 : decode cJ6_getChar 38 = .ok (.sipush 255, 3) := dk_17 0 255 (dk_at dksJ6_getChar_1 14 rfl rfl)
theorem dJ6_getChar_41 : decode cJ6_getChar 41 = .ok (.iand, 1) := dk_126 (dk_at dksJ6_getChar_1 17 rfl rfl)
theorem dJ6_getChar_42 : decode cJ6_getChar 42 = .ok (.getstatic 59, 3) := dk_178 0 59 (dk_at dksJ6_getChar_1 18 rfl rfl)
theorem dJ6_getChar_45 : decode cJ6_getChar 45 = .ok (.ishl, 1) := dk_120 (dk_at dksJ6_getChar_1 21 rfl rfl)
theorem dJ6_getChar_46 : decode cJ6_getChar 46 = .ok (.aload_n 0, 1) := dk_42 (dk_at dksJ6_getChar_1 22 rfl rfl)
theorem dJ6_getChar_47 : decode cJ6_getChar 47 = .ok (.iload_n 1, 1) := dk_27 (dk_at dksJ6_getChar_1 23 rfl rfl)
theorem dJ6_getChar_48 : decode cJ6_getChar 48 = .ok (.baload, 1) := dk_51 (dk_at dksJ6_getChar_2 0 rfl rfl)
theorem dJ6_getChar_49 : decode cJ6_getChar 49 = .ok (.sipush 255, 3) := dk_17 0 255 (dk_at dksJ6_getChar_2 1 rfl rfl)
theorem dJ6_getChar_52 : decode cJ6_getChar 52 = .ok (.iand, 1) := dk_126 (dk_at dksJ6_getChar_2 4 rfl rfl)
theorem dJ6_getChar_53 : decode cJ6_getChar 53 = .ok (.getstatic 63, 3) := dk_178 0 63 (dk_at dksJ6_getChar_2 5 rfl rfl)
theorem dJ6_getChar_56 : decode cJ6_getChar 56 = .ok (.ishl, 1) := dk_120 (dk_at dksJ6_getChar_2 8 rfl rfl)
theorem dJ6_getChar_57 : decode cJ6_getChar 57 = .ok (.ior, 1) := dk_128 (dk_at dksJ6_getChar_2 9 rfl rfl)
theorem dJ6_getChar_58 : decode cJ6_getChar 58 = .ok (.i2c, 1) := dk_146 (dk_at dksJ6_getChar_2 10 rfl rfl)
theorem dJ6_getChar_59 : decode cJ6_getChar 59 = .ok (.ireturn, 1) := dk_172 (dk_at dksJ6_getChar_2 11 rfl rfl)
theorem q152 : (Jvm.Cond.initialized "java/lang/StringUTF16") ∈ lw_all := lw_g (lw_at lw_m1 18 rfl) rfl
theorem q893 : (Jvm.Cond.static ({ cls := "java/lang/StringUTF16", name := "charAt", desc := "([BI)C" } : Jvm.MethodName)) ∈ lw_all := lw_g (lw_at lw_m4 39 rfl) rfl
theorem q894 : (Jvm.Cond.code ({ cls := "java/lang/StringUTF16", name := "charAt", desc := "([BI)C" } : Jvm.MethodName) prog_31_method_83_code (2 : Nat) (Option.some Jvm.ClassFile.FieldType.char)) ∈ lw_all := lw_g (lw_at lw_m4 40 rfl) rfl
theorem q895 : (Jvm.Cond.methodLink "java/lang/StringUTF16" (67 : Nat) ({ cls := "java/lang/StringUTF16", name := "checkIndex", desc := "(I[B)V" } : Jvm.MethodName)) ∈ lw_all := lw_g (lw_at lw_m4 41 rfl) rfl
theorem q896 : (Jvm.Cond.static ({ cls := "java/lang/StringUTF16", name := "checkIndex", desc := "(I[B)V" } : Jvm.MethodName)) ∈ lw_all := lw_g (lw_at lw_m4 42 rfl) rfl
theorem q897 : (Jvm.Cond.code ({ cls := "java/lang/StringUTF16", name := "checkIndex", desc := "(I[B)V" } : Jvm.MethodName) prog_31_method_91_code (2 : Nat) (Option.none : Option Jvm.ClassFile.FieldType)) ∈ lw_all := lw_g (lw_at lw_m4 43 rfl) rfl
theorem q898 : (Jvm.Cond.methodLink "java/lang/StringUTF16" (48 : Nat) ({ cls := "java/lang/StringUTF16", name := "length", desc := "([B)I" } : Jvm.MethodName)) ∈ lw_all := lw_g (lw_at lw_m4 44 rfl) rfl
theorem q899 : (Jvm.Cond.static ({ cls := "java/lang/StringUTF16", name := "length", desc := "([B)I" } : Jvm.MethodName)) ∈ lw_all := lw_g (lw_at lw_m4 45 rfl) rfl
theorem q900 : (Jvm.Cond.code ({ cls := "java/lang/StringUTF16", name := "length", desc := "([B)I" } : Jvm.MethodName) prog_31_method_6_code (1 : Nat) (Option.some Jvm.ClassFile.FieldType.int)) ∈ lw_all := lw_g (lw_at lw_m4 46 rfl) rfl
theorem q901 : (Jvm.Cond.methodLink "java/lang/StringUTF16" (414 : Nat) ({ cls := "java/lang/String", name := "checkIndex", desc := "(II)V" } : Jvm.MethodName)) ∈ lw_all := lw_g (lw_at lw_m4 47 rfl) rfl
theorem q902 : (Jvm.Cond.methodLink "java/lang/StringUTF16" (71 : Nat) ({ cls := "java/lang/StringUTF16", name := "getChar", desc := "([BI)C" } : Jvm.MethodName)) ∈ lw_all := lw_g (lw_at lw_m4 48 rfl) rfl
theorem q903 : (Jvm.Cond.static ({ cls := "java/lang/StringUTF16", name := "getChar", desc := "([BI)C" } : Jvm.MethodName)) ∈ lw_all := lw_g (lw_at lw_m4 49 rfl) rfl
theorem q904 : (Jvm.Cond.code ({ cls := "java/lang/StringUTF16", name := "getChar", desc := "([BI)C" } : Jvm.MethodName) prog_31_method_5_code (2 : Nat) (Option.some Jvm.ClassFile.FieldType.char)) ∈ lw_all := lw_g (lw_at lw_m4 50 rfl) rfl
theorem q905 : (Jvm.Cond.fieldLink "java/lang/StringUTF16" (44 : Nat) "java/lang/StringUTF16" "$assertionsDisabled" "Z") ∈ lw_all := lw_g (lw_at lw_m4 51 rfl) rfl
theorem q906 : (Jvm.Cond.laysStatic "java/lang/StringUTF16" "$assertionsDisabled" "Z") ∈ lw_tbl := lw_at lw_m4 52 rfl
theorem q907 : (Jvm.Cond.fieldLink "java/lang/StringUTF16" (59 : Nat) "java/lang/StringUTF16" "HI_BYTE_SHIFT" "I") ∈ lw_all := lw_g (lw_at lw_m4 53 rfl) rfl
theorem q908 : (Jvm.Cond.laysStatic "java/lang/StringUTF16" "HI_BYTE_SHIFT" "I") ∈ lw_tbl := lw_at lw_m4 54 rfl
theorem q909 : (Jvm.Cond.fieldLink "java/lang/StringUTF16" (63 : Nat) "java/lang/StringUTF16" "LO_BYTE_SHIFT" "I") ∈ lw_all := lw_g (lw_at lw_m4 55 rfl) rfl
theorem q910 : (Jvm.Cond.laysStatic "java/lang/StringUTF16" "LO_BYTE_SHIFT" "I") ∈ lw_tbl := lw_at lw_m4 56 rfl
/-! java/lang/IllegalArgumentException -/
set_option maxRecDepth 100000
def RJ7 : String := "java/lang/IllegalArgumentException"
def TJ7 : u_T := fun k => match k with
  | 0 => ("java/lang/Throwable", "cause", "Ljava/lang/Throwable;", false)
  | 1 => ("java/lang/Throwable", "stackTrace", "[Ljava/lang/StackTraceElement;", false)
  | 2 => ("java/lang/Throwable", "suppressedExceptions", "Ljava/util/List;", false)
  | 3 => ("java/lang/Throwable", "detailMessage", "Ljava/lang/String;", false)
  | 4 => ("java/lang/Throwable", "backtrace", "Ljava/lang/Object;", false)
  | _ => ("java/lang/Throwable", "depth", "I", false)
def tyJ7 : Nat → FieldType := fun k => match k with
  | 0 => .object "java/lang/Throwable"
  | 1 => .array (.object "java/lang/StackTraceElement")
  | 2 => .object "java/util/List"
  | 3 => .object "java/lang/String"
  | 4 => .object "java/lang/Object"
  | _ => .int
abbrev wsJ70 : List Cond := u_ws RJ7 TJ7 6
theorem nmJ7 : ∀ a, a < 6 → ∀ b, b < 6 → a ≠ b → (TJ7 a).2.1 ≠ (TJ7 b).2.1 := by decide +kernel
theorem tyJ7_ok : ∀ k, k < 6 → parseFieldDescriptor (TJ7 k).2.2.1 = some (tyJ7 k) := by decide +kernel
abbrev cJ7_init : ByteArray := prog_23_method_1_code
def yJ7_init : MethodName := ⟨RJ7, "<init>", "()V"⟩
theorem dJ7_init_0 : decode cJ7_init 0 = .ok (.aload_n 0, 1) := by decide +kernel
theorem dJ7_init_1 : decode cJ7_init 1 = .ok (.invokespecial 1, 3) := by decide +kernel
theorem dJ7_init_4 : decode cJ7_init 4 = .ok (.return_, 1) := by decide +kernel
theorem q153 : (Jvm.Cond.initialized "java/lang/IllegalArgumentException") ∈ lw_all := lw_g (lw_at lw_m1 19 rfl) rfl
theorem q467 : (Jvm.Cond.selects "java/lang/IllegalArgumentException" ({ cls := "java/lang/Throwable", name := "fillInStackTrace", desc := "()Ljava/lang/Throwable;" } : Jvm.MethodName) ({ cls := "java/lang/Throwable", name := "fillInStackTrace", desc := "()Ljava/lang/Throwable;" } : Jvm.MethodName)) ∈ lw_all := lw_g (lw_at lw_m2 93 rfl) rfl
theorem q967 : (Jvm.Cond.instantiable "java/lang/IllegalArgumentException" (6 : Nat)) ∈ lw_all := lw_g (lw_at lw_m4 113 rfl) rfl
theorem q968 : (Jvm.Cond.castable "java/lang/IllegalArgumentException" "java/lang/IllegalArgumentException") ∈ lw_tbl := lw_at lw_m4 114 rfl
theorem q969 : (Jvm.Cond.selects "java/lang/IllegalArgumentException" ({ cls := "java/lang/Throwable", name := "fillInStackTrace", desc := "(I)Ljava/lang/Throwable;" } : Jvm.MethodName) ({ cls := "java/lang/Throwable", name := "fillInStackTrace", desc := "(I)Ljava/lang/Throwable;" } : Jvm.MethodName)) ∈ lw_all := lw_g (lw_at lw_m4 115 rfl) rfl
theorem q970 : (Jvm.Cond.lays "java/lang/IllegalArgumentException" "java/lang/Throwable" "cause" "Ljava/lang/Throwable;") ∈ lw_all := lw_g (lw_at lw_m4 116 rfl) rfl
theorem q971 : (Jvm.Cond.lays "java/lang/IllegalArgumentException" "java/lang/Throwable" "stackTrace" "[Ljava/lang/StackTraceElement;") ∈ lw_all := lw_g (lw_at lw_m4 117 rfl) rfl
theorem q972 : (Jvm.Cond.lays "java/lang/IllegalArgumentException" "java/lang/Throwable" "suppressedExceptions" "Ljava/util/List;") ∈ lw_all := lw_g (lw_at lw_m4 118 rfl) rfl
theorem q973 : (Jvm.Cond.lays "java/lang/IllegalArgumentException" "java/lang/Throwable" "detailMessage" "Ljava/lang/String;") ∈ lw_all := lw_g (lw_at lw_m4 119 rfl) rfl
theorem q974 : (Jvm.Cond.lays "java/lang/IllegalArgumentException" "java/lang/Throwable" "backtrace" "Ljava/lang/Object;") ∈ lw_all := lw_g (lw_at lw_m4 120 rfl) rfl
theorem q976 : (Jvm.Cond.instanceMethod ({ cls := "java/lang/IllegalArgumentException", name := "<init>", desc := "()V" } : Jvm.MethodName)) ∈ lw_all := lw_g (lw_at lw_m4 122 rfl) rfl
theorem q977 : (Jvm.Cond.code ({ cls := "java/lang/IllegalArgumentException", name := "<init>", desc := "()V" } : Jvm.MethodName) prog_23_method_1_code (1 : Nat) (Option.none : Option Jvm.ClassFile.FieldType)) ∈ lw_all := lw_g (lw_at lw_m4 123 rfl) rfl
theorem q978 : (Jvm.Cond.methodLink "java/lang/IllegalArgumentException" (1 : Nat) ({ cls := "java/lang/RuntimeException", name := "<init>", desc := "()V" } : Jvm.MethodName)) ∈ lw_all := lw_g (lw_at lw_m4 124 rfl) rfl
theorem q985 : (Jvm.Cond.lays "java/lang/IllegalArgumentException" "java/lang/Throwable" "depth" "I") ∈ lw_all := lw_g (lw_at lw_m4 131 rfl) rfl
theorem q986 : (Jvm.Cond.superclass "java/lang/IllegalArgumentException" "java/lang/RuntimeException") ∈ lw_all := lw_g (lw_at lw_m4 132 rfl) rfl
theorem q2289 : (Jvm.Cond.castable "java/lang/IllegalArgumentException" "java/lang/Object") ∈ lw_tbl := lw_at lw_m9 235 rfl
theorem in_J7 : ∀ w ∈ wsJ70, w ∈ lw_all := lw_in wsJ70 [970, 971, 972, 973, 974, 985] (by decide +kernel) (by decide +kernel)
/-! java/lang/UnsupportedOperationException -/
set_option maxRecDepth 100000
def RJ8 : String := "java/lang/UnsupportedOperationException"
def TJ8 : u_T := fun k => match k with
  | 0 => ("java/lang/Throwable", "cause", "Ljava/lang/Throwable;", false)
  | 1 => ("java/lang/Throwable", "stackTrace", "[Ljava/lang/StackTraceElement;", false)
  | 2 => ("java/lang/Throwable", "suppressedExceptions", "Ljava/util/List;", false)
  | 3 => ("java/lang/Throwable", "detailMessage", "Ljava/lang/String;", false)
  | 4 => ("java/lang/Throwable", "backtrace", "Ljava/lang/Object;", false)
  | _ => ("java/lang/Throwable", "depth", "I", false)
def tyJ8 : Nat → FieldType := fun k => match k with
  | 0 => .object "java/lang/Throwable"
  | 1 => .array (.object "java/lang/StackTraceElement")
  | 2 => .object "java/util/List"
  | 3 => .object "java/lang/String"
  | 4 => .object "java/lang/Object"
  | _ => .int
abbrev wsJ80 : List Cond := u_ws RJ8 TJ8 6
theorem nmJ8 : ∀ a, a < 6 → ∀ b, b < 6 → a ≠ b → (TJ8 a).2.1 ≠ (TJ8 b).2.1 := by decide +kernel
theorem tyJ8_ok : ∀ k, k < 6 → parseFieldDescriptor (TJ8 k).2.2.1 = some (tyJ8 k) := by decide +kernel
abbrev cJ8_init : ByteArray := prog_34_method_1_code
def yJ8_init : MethodName := ⟨RJ8, "<init>", "()V"⟩
theorem dJ8_init_0 : decode cJ8_init 0 = .ok (.aload_n 0, 1) := by decide +kernel
theorem dJ8_init_1 : decode cJ8_init 1 = .ok (.invokespecial 1, 3) := by decide +kernel
theorem dJ8_init_4 : decode cJ8_init 4 = .ok (.return_, 1) := by decide +kernel
theorem q154 : (Jvm.Cond.initialized "java/lang/UnsupportedOperationException") ∈ lw_all := lw_g (lw_at lw_m1 20 rfl) rfl
theorem q470 : (Jvm.Cond.selects "java/lang/UnsupportedOperationException" ({ cls := "java/lang/Throwable", name := "fillInStackTrace", desc := "()Ljava/lang/Throwable;" } : Jvm.MethodName) ({ cls := "java/lang/Throwable", name := "fillInStackTrace", desc := "()Ljava/lang/Throwable;" } : Jvm.MethodName)) ∈ lw_all := lw_g (lw_at lw_m2 96 rfl) rfl
theorem q991 : (Jvm.Cond.instantiable "java/lang/UnsupportedOperationException" (6 : Nat)) ∈ lw_all := lw_g (lw_at lw_m4 137 rfl) rfl
theorem q992 : (Jvm.Cond.castable "java/lang/UnsupportedOperationException" "java/lang/UnsupportedOperationException") ∈ lw_tbl := lw_at lw_m4 138 rfl
theorem q993 : (Jvm.Cond.selects "java/lang/UnsupportedOperationException" ({ cls := "java/lang/Throwable", name := "fillInStackTrace", desc := "(I)Ljava/lang/Throwable;" } : Jvm.MethodName) ({ cls := "java/lang/Throwable", name := "fillInStackTrace", desc := "(I)Ljava/lang/Throwable;" } : Jvm.MethodName)) ∈ lw_all := lw_g (lw_at lw_m4 139 rfl) rfl
theorem q994 : (Jvm.Cond.lays "java/lang/UnsupportedOperationException" "java/lang/Throwable" "cause" "Ljava/lang/Throwable;") ∈ lw_all := lw_g (lw_at lw_m4 140 rfl) rfl
theorem q995 : (Jvm.Cond.lays "java/lang/UnsupportedOperationException" "java/lang/Throwable" "stackTrace" "[Ljava/lang/StackTraceElement;") ∈ lw_all := lw_g (lw_at lw_m4 141 rfl) rfl
theorem q996 : (Jvm.Cond.lays "java/lang/UnsupportedOperationException" "java/lang/Throwable" "suppressedExceptions" "Ljava/util/List;") ∈ lw_all := lw_g (lw_at lw_m4 142 rfl) rfl
theorem q997 : (Jvm.Cond.lays "java/lang/UnsupportedOperationException" "java/lang/Throwable" "detailMessage" "Ljava/lang/String;") ∈ lw_all := lw_g (lw_at lw_m4 143 rfl) rfl
theorem q998 : (Jvm.Cond.lays "java/lang/UnsupportedOperationException" "java/lang/Throwable" "backtrace" "Ljava/lang/Object;") ∈ lw_all := lw_g (lw_at lw_m4 144 rfl) rfl
theorem q1000 : (Jvm.Cond.instanceMethod ({ cls := "java/lang/UnsupportedOperationException", name := "<init>", desc := "()V" } : Jvm.MethodName)) ∈ lw_all := lw_g (lw_at lw_m4 146 rfl) rfl
theorem q1001 : (Jvm.Cond.code ({ cls := "java/lang/UnsupportedOperationException", name := "<init>", desc := "()V" } : Jvm.MethodName) prog_34_method_1_code (1 : Nat) (Option.none : Option Jvm.ClassFile.FieldType)) ∈ lw_all := lw_g (lw_at lw_m4 147 rfl) rfl
theorem q1002 : (Jvm.Cond.methodLink "java/lang/UnsupportedOperationException" (1 : Nat) ({ cls := "java/lang/RuntimeException", name := "<init>", desc := "()V" } : Jvm.MethodName)) ∈ lw_all := lw_g (lw_at lw_m4 148 rfl) rfl
theorem q1003 : (Jvm.Cond.lays "java/lang/UnsupportedOperationException" "java/lang/Throwable" "depth" "I") ∈ lw_all := lw_g (lw_at lw_m4 149 rfl) rfl
theorem q1004 : (Jvm.Cond.superclass "java/lang/UnsupportedOperationException" "java/lang/RuntimeException") ∈ lw_all := lw_g (lw_at lw_m4 150 rfl) rfl
theorem q2290 : (Jvm.Cond.castable "java/lang/UnsupportedOperationException" "java/lang/Object") ∈ lw_tbl := lw_at lw_m9 236 rfl
theorem in_J8 : ∀ w ∈ wsJ80, w ∈ lw_all := lw_in wsJ80 [994, 995, 996, 997, 998, 1003] (by decide +kernel) (by decide +kernel)
/-! java/lang/IndexOutOfBoundsException -/
set_option maxRecDepth 100000
def RJ9 : String := "java/lang/IndexOutOfBoundsException"
def TJ9 : u_T := fun k => match k with
  | 0 => ("java/lang/Throwable", "cause", "Ljava/lang/Throwable;", false)
  | 1 => ("java/lang/Throwable", "stackTrace", "[Ljava/lang/StackTraceElement;", false)
  | 2 => ("java/lang/Throwable", "suppressedExceptions", "Ljava/util/List;", false)
  | 3 => ("java/lang/Throwable", "detailMessage", "Ljava/lang/String;", false)
  | 4 => ("java/lang/Throwable", "backtrace", "Ljava/lang/Object;", false)
  | _ => ("java/lang/Throwable", "depth", "I", false)
def tyJ9 : Nat → FieldType := fun k => match k with
  | 0 => .object "java/lang/Throwable"
  | 1 => .array (.object "java/lang/StackTraceElement")
  | 2 => .object "java/util/List"
  | 3 => .object "java/lang/String"
  | 4 => .object "java/lang/Object"
  | _ => .int
abbrev wsJ90 : List Cond := u_ws RJ9 TJ9 6
theorem nmJ9 : ∀ a, a < 6 → ∀ b, b < 6 → a ≠ b → (TJ9 a).2.1 ≠ (TJ9 b).2.1 := by decide +kernel
theorem tyJ9_ok : ∀ k, k < 6 → parseFieldDescriptor (TJ9 k).2.2.1 = some (tyJ9 k) := by decide +kernel
abbrev cJ9_init : ByteArray := prog_25_method_2_code
def yJ9_init : MethodName := ⟨RJ9, "<init>", "(Ljava/lang/String;)V"⟩
def dkwJ9_init_0 : List UInt8 := [42, 43, 183, 0, 7, 177]
abbrev dktJ9_init_0 : List UInt8 := dkwJ9_init_0 ++ []
theorem dksJ9_init_0 : cJ9_init.data.toList.drop 0 = dktJ9_init_0 := by decide +kernel
theorem dJ9_init_0 : decode cJ9_init 0 = .ok (.aload_n 0, 1) := dk_42 (dk_at dksJ9_init_0 0 rfl rfl)
theorem dJ9_init_1 : decode cJ9_init 1 = .ok (.aload_n 1, 1) := dk_43 (dk_at dksJ9_init_0 1 rfl rfl)
theorem dJ9_init_2 : decode cJ9_init 2 = .ok (.invokespecial 7, 3) := dk_183 0 7 (dk_at dksJ9_init_0 2 rfl rfl)
theorem dJ9_init_5 : decode cJ9_init 5 = .ok (.return_, 1) := dk_177 (dk_at dksJ9_init_0 5 rfl rfl)
abbrev cJ9_init_2 : ByteArray := prog_25_method_1_code
def yJ9_init_2 : MethodName := ⟨RJ9, "<init>", "()V"⟩
theorem dJ9_init_2_0 : decode cJ9_init_2 0 = .ok (.aload_n 0, 1) := by decide +kernel
theorem dJ9_init_2_1 : decode cJ9_init_2 1 = .ok (.invokespecial 1, 3) := by decide +kernel
theorem dJ9_init_2_4 : decode cJ9_init_2 4 = .ok (.return_, 1) := by decide +kernel
theorem q163 : (Jvm.Cond.initialized "java/lang/IndexOutOfBoundsException") ∈ lw_all := lw_g (lw_at lw_m1 29 rfl) rfl
theorem q469 : (Jvm.Cond.selects "java/lang/IndexOutOfBoundsException" ({ cls := "java/lang/Throwable", name := "fillInStackTrace", desc := "()Ljava/lang/Throwable;" } : Jvm.MethodName) ({ cls := "java/lang/Throwable", name := "fillInStackTrace", desc := "()Ljava/lang/Throwable;" } : Jvm.MethodName)) ∈ lw_all := lw_g (lw_at lw_m2 95 rfl) rfl
theorem q1158 : (Jvm.Cond.instanceMethod ({ cls := "java/lang/IndexOutOfBoundsException", name := "<init>", desc := "(Ljava/lang/String;)V" } : Jvm.MethodName)) ∈ lw_all := lw_g (lw_at lw_m5 64 rfl) rfl
theorem q1159 : (Jvm.Cond.code ({ cls := "java/lang/IndexOutOfBoundsException", name := "<init>", desc := "(Ljava/lang/String;)V" } : Jvm.MethodName) prog_25_method_2_code (2 : Nat) (Option.none : Option Jvm.ClassFile.FieldType)) ∈ lw_all := lw_g (lw_at lw_m5 65 rfl) rfl
theorem q1160 : (Jvm.Cond.methodLink "java/lang/IndexOutOfBoundsException" (7 : Nat) ({ cls := "java/lang/RuntimeException", name := "<init>", desc := "(Ljava/lang/String;)V" } : Jvm.MethodName)) ∈ lw_all := lw_g (lw_at lw_m5 66 rfl) rfl
theorem q1177 : (Jvm.Cond.declares ({ cls := "java/lang/IndexOutOfBoundsException", name := "<init>", desc := "()V" } : Jvm.MethodName)) ∈ lw_tbl := lw_at lw_m5 83 rfl
theorem q1178 : (Jvm.Cond.declares ({ cls := "java/lang/IndexOutOfBoundsException", name := "<init>", desc := "(Ljava/lang/String;)V" } : Jvm.MethodName)) ∈ lw_tbl := lw_at lw_m5 84 rfl
theorem q1197 : (Jvm.Cond.instantiable "java/lang/IndexOutOfBoundsException" (6 : Nat)) ∈ lw_all := lw_g (lw_at lw_m5 103 rfl) rfl
theorem q1198 : (Jvm.Cond.castable "java/lang/IndexOutOfBoundsException" "java/lang/IndexOutOfBoundsException") ∈ lw_tbl := lw_at lw_m5 104 rfl
theorem q1199 : (Jvm.Cond.selects "java/lang/IndexOutOfBoundsException" ({ cls := "java/lang/Throwable", name := "fillInStackTrace", desc := "(I)Ljava/lang/Throwable;" } : Jvm.MethodName) ({ cls := "java/lang/Throwable", name := "fillInStackTrace", desc := "(I)Ljava/lang/Throwable;" } : Jvm.MethodName)) ∈ lw_all := lw_g (lw_at lw_m5 105 rfl) rfl
theorem q1200 : (Jvm.Cond.lays "java/lang/IndexOutOfBoundsException" "java/lang/Throwable" "cause" "Ljava/lang/Throwable;") ∈ lw_all := lw_g (lw_at lw_m5 106 rfl) rfl
theorem q1201 : (Jvm.Cond.lays "java/lang/IndexOutOfBoundsException" "java/lang/Throwable" "stackTrace" "[Ljava/lang/StackTraceElement;") ∈ lw_all := lw_g (lw_at lw_m5 107 rfl) rfl
theorem q1202 : (Jvm.Cond.lays "java/lang/IndexOutOfBoundsException" "java/lang/Throwable" "suppressedExceptions" "Ljava/util/List;") ∈ lw_all := lw_g (lw_at lw_m5 108 rfl) rfl
theorem q1203 : (Jvm.Cond.lays "java/lang/IndexOutOfBoundsException" "java/lang/Throwable" "detailMessage" "Ljava/lang/String;") ∈ lw_all := lw_g (lw_at lw_m5 109 rfl) rfl
theorem q1204 : (Jvm.Cond.lays "java/lang/IndexOutOfBoundsException" "java/lang/Throwable" "backtrace" "Ljava/lang/Object;") ∈ lw_all := lw_g (lw_at lw_m5 110 rfl) rfl
theorem q1206 : (Jvm.Cond.instanceMethod ({ cls := "java/lang/IndexOutOfBoundsException", name := "<init>", desc := "()V" } : Jvm.MethodName)) ∈ lw_all := lw_g (lw_at lw_m5 112 rfl) rfl
theorem q1207 : (Jvm.Cond.code ({ cls := "java/lang/IndexOutOfBoundsException", name := "<init>", desc := "()V" } : Jvm.MethodName) prog_25_method_1_code (1 : Nat) (Option.none : Option Jvm.ClassFile.FieldType)) ∈ lw_all := lw_g (lw_at lw_m5 113 rfl) rfl
theorem q1208 : (Jvm.Cond.methodLink "java/lang/IndexOutOfBoundsException" (1 : Nat) ({ cls := "java/lang/RuntimeException", name := "<init>", desc := "()V" } : Jvm.MethodName)) ∈ lw_all := lw_g (lw_at lw_m5 114 rfl) rfl
theorem q1209 : (Jvm.Cond.lays "java/lang/IndexOutOfBoundsException" "java/lang/Throwable" "depth" "I") ∈ lw_all := lw_g (lw_at lw_m5 115 rfl) rfl
theorem q1210 : (Jvm.Cond.superclass "java/lang/IndexOutOfBoundsException" "java/lang/RuntimeException") ∈ lw_all := lw_g (lw_at lw_m5 116 rfl) rfl
theorem q2299 : (Jvm.Cond.castable "java/lang/IndexOutOfBoundsException" "java/lang/Object") ∈ lw_tbl := lw_at lw_m10 5 rfl
theorem in_J9 : ∀ w ∈ wsJ90, w ∈ lw_all := lw_in wsJ90 [1200, 1201, 1202, 1203, 1204, 1209] (by decide +kernel) (by decide +kernel)
/-! GlacierMail$Reader -/
set_option maxRecDepth 100000
def RX2 : String := "GlacierMail$Reader"
def TX2 : u_T := fun k => match k with
  | 0 => ("GlacierMail$Reader", "tape", "[B", true)
  | 1 => ("GlacierMail$Reader", "words", "[Ljava/lang/String;", true)
  | 2 => ("GlacierMail$Reader", "tags", "[Ljava/lang/String;", true)
  | 3 => ("GlacierMail$Reader", "row", "[LGlacierMail$Line;", true)
  | 4 => ("GlacierMail$Reader", "draft", "LGlacierMail$State;", true)
  | 5 => ("GlacierMail$Reader", "wrong", "LGlacierMail$Wrong;", true)
  | 6 => ("GlacierMail$Reader", "size", "I", false)
  | 7 => ("GlacierMail$Reader", "end", "I", false)
  | 8 => ("GlacierMail$Reader", "at", "I", false)
  | 9 => ("GlacierMail$Reader", "deep", "I", false)
  | _ => ("GlacierMail$Reader", "digits", "I", false)
def tyX2 : Nat → FieldType := fun k => match k with
  | 0 => .array .byte
  | 1 => .array (.object "java/lang/String")
  | 2 => .array (.object "java/lang/String")
  | 3 => .array (.object "GlacierMail$Line")
  | 4 => .object "GlacierMail$State"
  | 5 => .object "GlacierMail$Wrong"
  | 6 => .int
  | 7 => .int
  | 8 => .int
  | 9 => .int
  | _ => .int
abbrev wsX20 : List Cond := u_ws RX2 TX2 11
theorem nmX2 : ∀ a, a < 11 → ∀ b, b < 11 → a ≠ b → (TX2 a).2.1 ≠ (TX2 b).2.1 := by decide +kernel
theorem tyX2_ok : ∀ k, k < 11 → parseFieldDescriptor (TX2 k).2.2.1 = some (tyX2 k) := by decide +kernel
abbrev cX2_init : ByteArray := prog_12_method_1_code
def yX2_init : MethodName := ⟨RX2, "<init>", "()V"⟩
def dkwX2_init_4 : List UInt8 := [89, 183, 0, 51, 181, 0, 52, 42, 187, 0, 56, 89, 183, 0, 58, 181, 0, 59, 177]
abbrev dktX2_init_4 : List UInt8 := dkwX2_init_4 ++ []
def dkwX2_init_3 : List UInt8 := [18, 37, 83, 89, 4, 18, 39, 83, 181, 0, 41, 42, 16, 12, 189, 0, 44, 181, 0, 46, 42, 187, 0, 49]
abbrev dktX2_init_3 : List UInt8 := dkwX2_init_3 ++ dktX2_init_4
def dkwX2_init_2 : List UInt8 := [83, 89, 16, 6, 18, 29, 83, 89, 16, 7, 18, 31, 83, 181, 0, 33, 42, 5, 189, 0, 15, 89, 3]
abbrev dktX2_init_2 : List UInt8 := dkwX2_init_2 ++ dktX2_init_3
def dkwX2_init_1 : List UInt8 := [89, 4, 18, 19, 83, 89, 5, 18, 21, 83, 89, 6, 18, 23, 83, 89, 7, 18, 25, 83, 89, 8, 18, 27]
abbrev dktX2_init_1 : List UInt8 := dkwX2_init_1 ++ dktX2_init_2
def dkwX2_init_0 : List UInt8 := [42, 183, 0, 3, 42, 17, 1, 144, 188, 8, 181, 0, 9, 42, 16, 8, 189, 0, 15, 89, 3, 18, 17, 83]
abbrev dktX2_init_0 : List UInt8 := dkwX2_init_0 ++ dktX2_init_1
theorem dksX2_init_0 : cX2_init.data.toList.drop 0 = dktX2_init_0 := by decide +kernel
theorem dksX2_init_1 : cX2_init.data.toList.drop 24 = dktX2_init_1 := dk_seg dksX2_init_0 24 rfl rfl
theorem dksX2_init_2 : cX2_init.data.toList.drop 48 = dktX2_init_2 := dk_seg dksX2_init_1 24 rfl rfl
theorem dksX2_init_3 : cX2_init.data.toList.drop 71 = dktX2_init_3 := dk_seg dksX2_init_2 23 rfl rfl
theorem dksX2_init_4 : cX2_init.data.toList.drop 95 = dktX2_init_4 := dk_seg dksX2_init_3 24 rfl rfl
theorem dX2_init_0 : decode cX2_init 0 = .ok (.aload_n 0, 1) := dk_42 (dk_at dksX2_init_0 0 rfl rfl)
theorem dX2_init_1 : decode cX2_init 1 = .ok (.invokespecial 3, 3) := dk_183 0 3 (dk_at dksX2_init_0 1 rfl rfl)
theorem dX2_init_4 : decode cX2_init 4 = .ok (.aload_n 0, 1) := dk_42 (dk_at dksX2_init_0 4 rfl rfl)
theorem dX2_init_5 : decode cX2_init 5 = .ok (.sipush 400, 3) := dk_17 1 144 (dk_at dksX2_init_0 5 rfl rfl)
theorem dX2_init_8 : decode cX2_init 8 = .ok (.newarray .byte, 2) := dk_188_8 (dk_at dksX2_init_0 8 rfl rfl)
theorem dX2_init_10 : decode cX2_init 10 = .ok (.putfield 9, 3) := dk_181 0 9 (dk_at dksX2_init_0 10 rfl rfl)
theorem dX2_init_13 : decode cX2_init 13 = .ok (.aload_n 0, 1) := dk_42 (dk_at dksX2_init_0 13 rfl rfl)
theorem dX2_init_14 : decode cX2_init 14 = .ok (.bipush 8, 2) := dk_16 8 (dk_at dksX2_init_0 14 rfl rfl)
theorem dX2_init_16 : decode cX2_init 16 = .ok (.anewarray 15, 3) := dk_189 0 15 (dk_at dksX2_init_0 16 rfl rfl)
theorem dX2_init_19 : decode cX2_init 19 = .ok (.dup, 1) := dk_89 (dk_at dksX2_init_0 19 rfl rfl)
theorem dX2_init_20 : decode cX2_init 20 = .ok (.iconst 0, 1) := dk_3 (dk_at dksX2_init_0 20 rfl rfl)
theorem dX2_init_21 : decode cX2_init 21 = .ok (.ldc 17, 2) := dk_18 17 (dk_at dksX2_init_0 21 rfl rfl)
theorem dX2_init_23 : decode cX2_init 23 = .ok (.aastore, 1) := dk_83 (dk_at dksX2_init_0 23 rfl rfl)
theorem dX2_init_24 : decode cX2_init 24 = .ok (.dup, 1) := dk_89 (dk_at dksX2_init_1 0 rfl rfl)
theorem dX2_init_25 : decode cX2_init 25 = .ok (.iconst 1, 1) := dk_4 (dk_at dksX2_init_1 1 rfl rfl)
theorem dX2_init_26 : decode cX2_init 26 = .ok (.ldc 19, 2) := dk_18 19 (dk_at dksX2_init_1 2 rfl rfl)
theorem dX2_init_28 : decode cX2_init 28 = .ok (.aastore, 1) := dk_83 (dk_at dksX2_init_1 4 rfl rfl)
theorem dX2_init_29 : decode cX2_init 29 = .ok (.dup, 1) := dk_89 (dk_at dksX2_init_1 5 rfl rfl)
theorem dX2_init_30 : decode cX2_init 30 = .ok (.iconst 2, 1) := dk_5 (dk_at dksX2_init_1 6 rfl rfl)
theorem dX2_init_31 : decode cX2_init 31 = .ok (.ldc 21, 2) := dk_18 21 (dk_at dksX2_init_1 7 rfl rfl)
theorem dX2_init_33 : decode cX2_init 33 = .ok (.aastore, 1) := dk_83 (dk_at dksX2_init_1 9 rfl rfl)
theorem dX2_init_34 : decode cX2_init 34 = .ok (.dup, 1) := dk_89 (dk_at dksX2_init_1 10 rfl rfl)
theorem dX2_init_35 : decode cX2_init 35 = .ok (.iconst 3, 1) := dk_6 (dk_at dksX2_init_1 11 rfl rfl)
theorem dX2_init_36 : decode cX2_init 36 = .ok (.ldc 23, 2) := dk_18 23 (dk_at dksX2_init_1 12 rfl rfl)
theorem dX2_init_38 : decode cX2_init 38 = .ok (.aastore, 1) := dk_83 (dk_at dksX2_init_1 14 rfl rfl)
theorem dX2_init_39 : decode cX2_init 39 = .ok (.dup, 1) := dk_89 (dk_at dksX2_init_1 15 rfl rfl)
theorem dX2_init_40 : decode cX2_init 40 = .ok (.iconst 4, 1) := dk_7 (dk_at dksX2_init_1 16 rfl rfl)
theorem dX2_init_41 : decode cX2_init 41 = .ok (.ldc 25, 2) := dk_18 25 (dk_at dksX2_init_1 17 rfl rfl)
theorem dX2_init_43 : decode cX2_init 43 = .ok (.aastore, 1) := dk_83 (dk_at dksX2_init_1 19 rfl rfl)
theorem dX2_init_44 : decode cX2_init 44 = .ok (.dup, 1) := dk_89 (dk_at dksX2_init_1 20 rfl rfl)
theorem dX2_init_45 : decode cX2_init 45 = .ok (.iconst 5, 1) := dk_8 (dk_at dksX2_init_1 21 rfl rfl)
theorem dX2_init_46 : decode cX2_init 46 = .ok (.ldc 27, 2) := dk_18 27 (dk_at dksX2_init_1 22 rfl rfl)
theorem dX2_init_48 : decode cX2_init 48 = .ok (.aastore, 1) := dk_83 (dk_at dksX2_init_2 0 rfl rfl)
theorem dX2_init_49 : decode cX2_init 49 = .ok (.dup, 1) := dk_89 (dk_at dksX2_init_2 1 rfl rfl)
theorem dX2_init_50 : decode cX2_init 50 = .ok (.bipush 6, 2) := dk_16 6 (dk_at dksX2_init_2 2 rfl rfl)
theorem dX2_init_52 : decode cX2_init 52 = .ok (.ldc 29, 2) := dk_18 29 (dk_at dksX2_init_2 4 rfl rfl)
theorem dX2_init_54 : decode cX2_init 54 = .ok (.aastore, 1) := dk_83 (dk_at dksX2_init_2 6 rfl rfl)
theorem dX2_init_55 : decode cX2_init 55 = .ok (.dup, 1) := dk_89 (dk_at dksX2_init_2 7 rfl rfl)
theorem dX2_init_56 : decode cX2_init 56 = .ok (.bipush 7, 2) := dk_16 7 (dk_at dksX2_init_2 8 rfl rfl)
theorem dX2_init_58 : decode cX2_init 58 = .ok (.ldc 31, 2) := dk_18 31 (dk_at dksX2_init_2 10 rfl rfl)
theorem dX2_init_60 : decode cX2_init 60 = .ok (.aastore, 1) := dk_83 (dk_at dksX2_init_2 12 rfl rfl)
theorem dX2_init_61 : decode cX2_init 61 = .ok (.putfield 33, 3) := dk_181 0 33 (dk_at dksX2_init_2 13 rfl rfl)
theorem dX2_init_64 : decode cX2_init 64 = .ok (.aload_n 0, 1) := dk_42 (dk_at dksX2_init_2 16 rfl rfl)
theorem dX2_init_65 : decode cX2_init 65 = .ok (.iconst 2, 1) := dk_5 (dk_at dksX2_init_2 17 rfl rfl)
theorem dX2_init_66 : decode cX2_init 66 = .ok (.anewarray 15, 3) := dk_189 0 15 (dk_at dksX2_init_2 18 rfl rfl)
theorem dX2_init_69 : decode cX2_init 69 = .ok (.dup, 1) := dk_89 (dk_at dksX2_init_2 21 rfl rfl)
theorem dX2_init_70 : decode cX2_init 70 = .ok (.iconst 0, 1) := dk_3 (dk_at dksX2_init_2 22 rfl rfl)
theorem dX2_init_71 : decode cX2_init 71 = .ok (.ldc 37, 2) := dk_18 37 (dk_at dksX2_init_3 0 rfl rfl)
theorem dX2_init_73 : decode cX2_init 73 = .ok (.aastore, 1) := dk_83 (dk_at dksX2_init_3 2 rfl rfl)
theorem dX2_init_74 : decode cX2_init 74 = .ok (.dup, 1) := dk_89 (dk_at dksX2_init_3 3 rfl rfl)
theorem dX2_init_75 : decode cX2_init 75 = .ok (.iconst 1, 1) := dk_4 (dk_at dksX2_init_3 4 rfl rfl)
theorem dX2_init_76 : decode cX2_init 76 = .ok (.ldc 39, 2) := dk_18 39 (dk_at dksX2_init_3 5 rfl rfl)
theorem dX2_init_78 : decode cX2_init 78 = .ok (.aastore, 1) := dk_83 (dk_at dksX2_init_3 7 rfl rfl)
theorem dX2_init_79 : decode cX2_init 79 = .ok (.putfield 41, 3) := dk_181 0 41 (dk_at dksX2_init_3 8 rfl rfl)
theorem dX2_init_82 : decode cX2_init 82 = .ok (.aload_n 0, 1) := dk_42 (dk_at dksX2_init_3 11 rfl rfl)
theorem dX2_init_83 : decode cX2_init 83 = .ok (.bipush 12, 2) := dk_16 12 (dk_at dksX2_init_3 12 rfl rfl)
theorem dX2_init_85 : decode cX2_init 85 = .ok (.anewarray 44, 3) := dk_189 0 44 (dk_at dksX2_init_3 14 rfl rfl)
theorem dX2_init_88 : decode cX2_init 88 = .ok (.putfield 46, 3) := dk_181 0 46 (dk_at dksX2_init_3 17 rfl rfl)
theorem dX2_init_91 : decode cX2_init 91 = .ok (.aload_n 0, 1) := dk_42 (dk_at dksX2_init_3 20 rfl rfl)
theorem dX2_init_92 : decode cX2_init 92 = .ok (.new 49, 3) := dk_187 0 49 (dk_at dksX2_init_3 21 rfl rfl)
theorem dX2_init_95 : decode cX2_init 95 = .ok (.dup, 1) := dk_89 (dk_at dksX2_init_4 0 rfl rfl)
theorem dX2_init_96 : decode cX2_init 96 = .ok (.invokespecial 51, 3) := dk_183 0 51 (dk_at dksX2_init_4 1 rfl rfl)
theorem dX2_init_99 : decode cX2_init 99 = .ok (.putfield 52, 3) := dk_181 0 52 (dk_at dksX2_init_4 4 rfl rfl)
theorem dX2_init_102 : decode cX2_init 102 = .ok (.aload_n 0, 1) := dk_42 (dk_at dksX2_init_4 7 rfl rfl)
theorem dX2_init_103 : decode cX2_init 103 = .ok (.new 56, 3) := dk_187 0 56 (dk_at dksX2_init_4 8 rfl rfl)
theorem dX2_init_106 : decode cX2_init 106 = .ok (.dup, 1) := dk_89 (dk_at dksX2_init_4 11 rfl rfl)
theorem dX2_init_107 : decode cX2_init 107 = .ok (.invokespecial 58, 3) := dk_183 0 58 (dk_at dksX2_init_4 12 rfl rfl)
theorem dX2_init_110 : decode cX2_init 110 = .ok (.putfield 59, 3) := dk_181 0 59 (dk_at dksX2_init_4 15 rfl rfl)
theorem dX2_init_113 : decode cX2_init 113 = .ok (.return_, 1) := dk_177 (dk_at dksX2_init_4 18 rfl rfl)
abbrev cX2_valley : ByteArray := prog_12_method_10_code
def yX2_valley : MethodName := ⟨RX2, "valley", "(ILGlacierMail$State;)LGlacierMail$State;"⟩
def dkwX2_valley_2 : List UInt8 := [176]
abbrev dktX2_valley_2 : List UInt8 := dkwX2_valley_2 ++ []
def dkwX2_valley_1 : List UInt8 := [153, 0, 13, 42, 182, 0, 109, 132, 3, 1, 167, 255, 239, 42, 180, 0, 52, 182, 0, 112, 42, 180, 0, 52]
abbrev dktX2_valley_1 : List UInt8 := dkwX2_valley_1 ++ dktX2_valley_2
def dkwX2_valley_0 : List UInt8 := [42, 27, 7, 182, 0, 97, 42, 180, 0, 52, 44, 182, 0, 101, 3, 62, 42, 29, 16, 14, 182, 0, 105]
abbrev dktX2_valley_0 : List UInt8 := dkwX2_valley_0 ++ dktX2_valley_1
theorem dksX2_valley_0 : cX2_valley.data.toList.drop 0 = dktX2_valley_0 := by decide +kernel
theorem dksX2_valley_1 : cX2_valley.data.toList.drop 23 = dktX2_valley_1 := dk_seg dksX2_valley_0 23 rfl rfl
theorem dksX2_valley_2 : cX2_valley.data.toList.drop 47 = dktX2_valley_2 := dk_seg dksX2_valley_1 24 rfl rfl
theorem dX2_valley_0 : decode cX2_valley 0 = .ok (.aload_n 0, 1) := dk_42 (dk_at dksX2_valley_0 0 rfl rfl)
theorem dX2_valley_1 : decode cX2_valley 1 = .ok (.iload_n 1, 1) := dk_27 (dk_at dksX2_valley_0 1 rfl rfl)
theorem dX2_valley_2 : decode cX2_valley 2 = .ok (.iconst 4, 1) := dk_7 (dk_at dksX2_valley_0 2 rfl rfl)
theorem dX2_valley_3 : decode cX2_valley 3 = .ok (.invokevirtual 97, 3) := dk_182 0 97 (dk_at dksX2_valley_0 3 rfl rfl)
theorem dX2_valley_6 : decode cX2_valley 6 = .ok (.aload_n 0, 1) := dk_42 (dk_at dksX2_valley_0 6 rfl rfl)
theorem dX2_valley_7 : decode cX2_valley 7 = .ok (.getfield 52, 3) := dk_180 0 52 (dk_at dksX2_valley_0 7 rfl rfl)
theorem dX2_valley_10 : decode cX2_valley 10 = .ok (.aload_n 2, 1) := dk_44 (dk_at dksX2_valley_0 10 rfl rfl)
theorem dX2_valley_11 : decode cX2_valley 11 = .ok (.invokevirtual 101, 3) := dk_182 0 101 (dk_at dksX2_valley_0 11 rfl rfl)
theorem dX2_valley_14 : decode cX2_valley 14 = .ok (.iconst 0, 1) := dk_3 (dk_at dksX2_valley_0 14 rfl rfl)
theorem dX2_valley_15 : decode cX2_valley 15 = .ok (.istore_n 3, 1) := dk_62 (dk_at dksX2_valley_0 15 rfl rfl)
theorem dX2_valley_16 : decode cX2_valley 16 = .ok (.aload_n 0, 1) := dk_42 (dk_at dksX2_valley_0 16 rfl rfl)
theorem dX2_valley_17 : decode cX2_valley 17 = .ok (.iload_n 3, 1) := dk_29 (dk_at dksX2_valley_0 17 rfl rfl)
theorem dX2_valley_18 : decode cX2_valley 18 = .ok (.bipush 14, 2) := dk_16 14 (dk_at dksX2_valley_0 18 rfl rfl)
theorem dX2_valley_20 : decode cX2_valley 20 = .ok (.invokevirtual 105, 3) := dk_182 0 105 (dk_at dksX2_valley_0 20 rfl rfl)
theorem dX2_valley_23 : decode cX2_valley 23 = .ok (.ifCond .eq 13, 3) := dk_153 0 13 (dk_at dksX2_valley_1 0 rfl rfl)
theorem dX2_valley_26 : decode cX2_valley 26 = .ok (.aload_n 0, 1) := dk_42 (dk_at dksX2_valley_1 3 rfl rfl)
theorem dX2_valley_27 : decode cX2_valley 27 = .ok (.invokevirtual 109, 3) := dk_182 0 109 (dk_at dksX2_valley_1 4 rfl rfl)
theorem dX2_valley_30 : decode cX2_valley 30 = .ok (.iinc 3 1, 3) := dk_132 3 1 (dk_at dksX2_valley_1 7 rfl rfl)
theorem dX2_valley_33 : decode cX2_valley 33 = .ok (.goto (-17), 3) := dk_167 255 239 (dk_at dksX2_valley_1 10 rfl rfl)
theorem dX2_valley_36 : decode cX2_valley 36 = .ok (.aload_n 0, 1) := dk_42 (dk_at dksX2_valley_1 13 rfl rfl)
theorem dX2_valley_37 : decode cX2_valley 37 = .ok (.getfield 52, 3) := dk_180 0 52 (dk_at dksX2_valley_1 14 rfl rfl)
theorem dX2_valley_40 : decode cX2_valley 40 = .ok (.invokevirtual 112, 3) := dk_182 0 112 (dk_at dksX2_valley_1 17 rfl rfl)
theorem dX2_valley_43 : decode cX2_valley 43 = .ok (.aload_n 0, 1) := dk_42 (dk_at dksX2_valley_1 20 rfl rfl)
theorem dX2_valley_44 : decode cX2_valley 44 = .ok (.getfield 52, 3) := dk_180 0 52 (dk_at dksX2_valley_1 21 rfl rfl)
theorem dX2_valley_47 : decode cX2_valley 47 = .ok (.areturn, 1) := dk_176 (dk_at dksX2_valley_2 0 rfl rfl)
abbrev cX2_begins : ByteArray := prog_12_method_8_code
def yX2_begins : MethodName := ⟨RX2, "begins", "(II)V"⟩
def dkwX2_begins_0 : List UInt8 := [42, 27, 181, 0, 70, 42, 3, 181, 0, 67, 42, 3, 181, 0, 95, 42, 28, 181, 0, 92, 177]
abbrev dktX2_begins_0 : List UInt8 := dkwX2_begins_0 ++ []
theorem dksX2_begins_0 : cX2_begins.data.toList.drop 0 = dktX2_begins_0 := by decide +kernel
theorem dX2_begins_0 : decode cX2_begins 0 = .ok (.aload_n 0, 1) := dk_42 (dk_at dksX2_begins_0 0 rfl rfl)
theorem dX2_begins_1 : decode cX2_begins 1 = .ok (.iload_n 1, 1) := dk_27 (dk_at dksX2_begins_0 1 rfl rfl)
theorem dX2_begins_2 : decode cX2_begins 2 = .ok (.putfield 70, 3) := dk_181 0 70 (dk_at dksX2_begins_0 2 rfl rfl)
theorem dX2_begins_5 : decode cX2_begins 5 = .ok (.aload_n 0, 1) := dk_42 (dk_at dksX2_begins_0 5 rfl rfl)
theorem dX2_begins_6 : decode cX2_begins 6 = .ok (.iconst 0, 1) := dk_3 (dk_at dksX2_begins_0 6 rfl rfl)
theorem dX2_begins_7 : decode cX2_begins 7 = .ok (.putfield 67, 3) := dk_181 0 67 (dk_at dksX2_begins_0 7 rfl rfl)
theorem dX2_begins_10 : decode cX2_begins 10 = .ok (.aload_n 0, 1) := dk_42 (dk_at dksX2_begins_0 10 rfl rfl)
theorem dX2_begins_11 : decode cX2_begins 11 = .ok (.iconst 0, 1) := dk_3 (dk_at dksX2_begins_0 11 rfl rfl)
theorem dX2_begins_12 : decode cX2_begins 12 = .ok (.putfield 95, 3) := dk_181 0 95 (dk_at dksX2_begins_0 12 rfl rfl)
theorem dX2_begins_15 : decode cX2_begins 15 = .ok (.aload_n 0, 1) := dk_42 (dk_at dksX2_begins_0 15 rfl rfl)
theorem dX2_begins_16 : decode cX2_begins 16 = .ok (.iload_n 2, 1) := dk_28 (dk_at dksX2_begins_0 16 rfl rfl)
theorem dX2_begins_17 : decode cX2_begins 17 = .ok (.putfield 92, 3) := dk_181 0 92 (dk_at dksX2_begins_0 17 rfl rfl)
theorem dX2_begins_20 : decode cX2_begins 20 = .ok (.return_, 1) := dk_177 (dk_at dksX2_begins_0 20 rfl rfl)
abbrev cX2_more : ByteArray := prog_12_method_9_code
def yX2_more : MethodName := ⟨RX2, "more", "(II)Z"⟩
def dkwX2_more_4 : List UInt8 := [172]
abbrev dktX2_more_4 : List UInt8 := dkwX2_more_4 ++ []
def dkwX2_more_3 : List UInt8 := [167, 0, 4, 2, 54, 4, 29, 153, 0, 16, 27, 28, 160, 0, 11, 42, 42, 180, 0, 67, 182, 0, 88, 29]
abbrev dktX2_more_3 : List UInt8 := dkwX2_more_3 ++ dktX2_more_4
def dkwX2_more_2 : List UInt8 := [27, 158, 0, 13, 42, 89, 180, 0, 67, 4, 96, 181, 0, 67, 29, 153, 0, 10, 42, 182, 0, 73]
abbrev dktX2_more_2 : List UInt8 := dkwX2_more_2 ++ dktX2_more_3
def dkwX2_more_1 : List UInt8 := [180, 0, 67, 182, 0, 88, 42, 182, 0, 73, 2, 159, 0, 7, 4, 167, 0, 4, 3, 62, 29, 153, 0, 17]
abbrev dktX2_more_1 : List UInt8 := dkwX2_more_1 ++ dktX2_more_2
def dkwX2_more_0 : List UInt8 := [27, 158, 0, 28, 42, 182, 0, 73, 2, 159, 0, 20, 42, 182, 0, 73, 16, 59, 159, 0, 11, 42, 42]
abbrev dktX2_more_0 : List UInt8 := dkwX2_more_0 ++ dktX2_more_1
theorem dksX2_more_0 : cX2_more.data.toList.drop 0 = dktX2_more_0 := by decide +kernel
theorem dksX2_more_1 : cX2_more.data.toList.drop 23 = dktX2_more_1 := dk_seg dksX2_more_0 23 rfl rfl
theorem dksX2_more_2 : cX2_more.data.toList.drop 47 = dktX2_more_2 := dk_seg dksX2_more_1 24 rfl rfl
theorem dksX2_more_3 : cX2_more.data.toList.drop 69 = dktX2_more_3 := dk_seg dksX2_more_2 22 rfl rfl
theorem dksX2_more_4 : cX2_more.data.toList.drop 93 = dktX2_more_4 := dk_seg dksX2_more_3 24 rfl rfl
theorem dX2_more_0 : decode cX2_more 0 = .ok (.iload_n 1, 1) := dk_27 (dk_at dksX2_more_0 0 rfl rfl)
theorem dX2_more_1 : decode cX2_more 1 = .ok (.ifCond .le 28, 3) := dk_158 0 28 (dk_at dksX2_more_0 1 rfl rfl)
theorem dX2_more_4 : decode cX2_more 4 = .ok (.aload_n 0, 1) := dk_42 (dk_at dksX2_more_0 4 rfl rfl)
theorem dX2_more_5 : decode cX2_more 5 = .ok (.invokevirtual 73, 3) := dk_182 0 73 (dk_at dksX2_more_0 5 rfl rfl)
theorem dX2_more_8 : decode cX2_more 8 = .ok (.iconst (-1), 1) := dk_2 (dk_at dksX2_more_0 8 rfl rfl)
theorem dX2_more_9 : decode cX2_more 9 = .ok (.if_icmp .eq 20, 3) := dk_159 0 20 (dk_at dksX2_more_0 9 rfl rfl)
theorem dX2_more_12 : decode cX2_more 12 = .ok (.aload_n 0, 1) := dk_42 (dk_at dksX2_more_0 12 rfl rfl)
theorem dX2_more_13 : decode cX2_more 13 = .ok (.invokevirtual 73, 3) := dk_182 0 73 (dk_at dksX2_more_0 13 rfl rfl)
theorem dX2_more_16 : decode cX2_more 16 = .ok (.bipush 59, 2) := dk_16 59 (dk_at dksX2_more_0 16 rfl rfl)
theorem dX2_more_18 : decode cX2_more 18 = .ok (.if_icmp .eq 11, 3) := dk_159 0 11 (dk_at dksX2_more_0 18 rfl rfl)
theorem dX2_more_21 : decode cX2_more 21 = .ok (.aload_n 0, 1) := dk_42 (dk_at dksX2_more_0 21 rfl rfl)
theorem dX2_more_22 : decode cX2_more 22 = .ok (.aload_n 0, 1) := dk_42 (dk_at dksX2_more_0 22 rfl rfl)
theorem dX2_more_23 : decode cX2_more 23 = .ok (.getfield 67, 3) := dk_180 0 67 (dk_at dksX2_more_1 0 rfl rfl)
theorem dX2_more_26 : decode cX2_more 26 = .ok (.invokevirtual 88, 3) := dk_182 0 88 (dk_at dksX2_more_1 3 rfl rfl)
theorem dX2_more_29 : decode cX2_more 29 = .ok (.aload_n 0, 1) := dk_42 (dk_at dksX2_more_1 6 rfl rfl)
theorem dX2_more_30 : decode cX2_more 30 = .ok (.invokevirtual 73, 3) := dk_182 0 73 (dk_at dksX2_more_1 7 rfl rfl)
theorem dX2_more_33 : decode cX2_more 33 = .ok (.iconst (-1), 1) := dk_2 (dk_at dksX2_more_1 10 rfl rfl)
theorem dX2_more_34 : decode cX2_more 34 = .ok (.if_icmp .eq 7, 3) := dk_159 0 7 (dk_at dksX2_more_1 11 rfl rfl)
theorem dX2_more_37 : decode cX2_more 37 = .ok (.iconst 1, 1) := dk_4 (dk_at dksX2_more_1 14 rfl rfl)
theorem dX2_more_38 : decode cX2_more 38 = .ok (.goto 4, 3) := dk_167 0 4 (dk_at dksX2_more_1 15 rfl rfl)
theorem dX2_more_41 : decode cX2_more 41 = .ok (.iconst 0, 1) := dk_3 (dk_at dksX2_more_1 18 rfl rfl)
theorem dX2_more_42 : decode cX2_more 42 = .ok (.istore_n 3, 1) := dk_62 (dk_at dksX2_more_1 19 rfl rfl)
theorem dX2_more_43 : decode cX2_more 43 = .ok (.iload_n 3, 1) := dk_29 (dk_at dksX2_more_1 20 rfl rfl)
theorem dX2_more_44 : decode cX2_more 44 = .ok (.ifCond .eq 17, 3) := dk_153 0 17 (dk_at dksX2_more_1 21 rfl rfl)
theorem dX2_more_47 : decode cX2_more 47 = .ok (.iload_n 1, 1) := dk_27 (dk_at dksX2_more_2 0 rfl rfl)
theorem dX2_more_48 : decode cX2_more 48 = .ok (.ifCond .le 13, 3) := dk_158 0 13 (dk_at dksX2_more_2 1 rfl rfl)
theorem dX2_more_51 : decode cX2_more 51 = .ok (.aload_n 0, 1) := dk_42 (dk_at dksX2_more_2 4 rfl rfl)
theorem dX2_more_52 : decode cX2_more 52 = .ok (.dup, 1) := dk_89 (dk_at dksX2_more_2 5 rfl rfl)
theorem dX2_more_53 : decode cX2_more 53 = .ok (.getfield 67, 3) := dk_180 0 67 (dk_at dksX2_more_2 6 rfl rfl)
theorem dX2_more_56 : decode cX2_more 56 = .ok (.iconst 1, 1) := dk_4 (dk_at dksX2_more_2 9 rfl rfl)
theorem dX2_more_57 : decode cX2_more 57 = .ok (.iadd, 1) := dk_96 (dk_at dksX2_more_2 10 rfl rfl)
theorem dX2_more_58 : decode cX2_more 58 = .ok (.putfield 67, 3) := dk_181 0 67 (dk_at dksX2_more_2 11 rfl rfl)
theorem dX2_more_61 : decode cX2_more 61 = .ok (.iload_n 3, 1) := dk_29 (dk_at dksX2_more_2 14 rfl rfl)
theorem dX2_more_62 : decode cX2_more 62 = .ok (.ifCond .eq 10, 3) := dk_153 0 10 (dk_at dksX2_more_2 15 rfl rfl)
theorem dX2_more_65 : decode cX2_more 65 = .ok (.aload_n 0, 1) := dk_42 (dk_at dksX2_more_2 18 rfl rfl)
theorem dX2_more_66 : decode cX2_more 66 = .ok (.invokevirtual 73, 3) := dk_182 0 73 (dk_at dksX2_more_2 19 rfl rfl)
theorem dX2_more_69 : decode cX2_more 69 = .ok (.goto 4, 3) := dk_167 0 4 (dk_at dksX2_more_3 0 rfl rfl)
theorem dX2_more_72 : decode cX2_more 72 = .ok (.iconst (-1), 1) := dk_2 (dk_at dksX2_more_3 3 rfl rfl)
theorem dX2_more_73 : decode cX2_more 73 = .ok (.istore 4, 2) := dk_54 4 (dk_at dksX2_more_3 4 rfl rfl)
theorem dX2_more_75 : decode cX2_more 75 = .ok (.iload_n 3, 1) := dk_29 (dk_at dksX2_more_3 6 rfl rfl)
theorem dX2_more_76 : decode cX2_more 76 = .ok (.ifCond .eq 16, 3) := dk_153 0 16 (dk_at dksX2_more_3 7 rfl rfl)
theorem dX2_more_79 : decode cX2_more 79 = .ok (.iload_n 1, 1) := dk_27 (dk_at dksX2_more_3 10 rfl rfl)
theorem dX2_more_80 : decode cX2_more 80 = .ok (.iload_n 2, 1) := dk_28 (dk_at dksX2_more_3 11 rfl rfl)
theorem dX2_more_81 : decode cX2_more 81 = .ok (.if_icmp .ne 11, 3) := dk_160 0 11 (dk_at dksX2_more_3 12 rfl rfl)
theorem dX2_more_84 : decode cX2_more 84 = .ok (.aload_n 0, 1) := dk_42 (dk_at dksX2_more_3 15 rfl rfl)
theorem dX2_more_85 : decode cX2_more 85 = .ok (.aload_n 0, 1) := dk_42 (dk_at dksX2_more_3 16 rfl rfl)
theorem dX2_more_86 : decode cX2_more 86 = .ok (.getfield 67, 3) := dk_180 0 67 (dk_at dksX2_more_3 17 rfl rfl)
theorem dX2_more_89 : decode cX2_more 89 = .ok (.invokevirtual 88, 3) := dk_182 0 88 (dk_at dksX2_more_3 20 rfl rfl)
theorem dX2_more_92 : decode cX2_more 92 = .ok (.iload_n 3, 1) := dk_29 (dk_at dksX2_more_3 23 rfl rfl)
theorem dX2_more_93 : decode cX2_more 93 = .ok (.ireturn, 1) := dk_172 (dk_at dksX2_more_4 0 rfl rfl)
abbrev cX2_sign : ByteArray := prog_12_method_3_code
def yX2_sign : MethodName := ⟨RX2, "sign", "()I"⟩
def dkwX2_sign_2 : List UInt8 := [162, 0, 19, 42, 180, 0, 9, 42, 180, 0, 67, 51, 17, 0, 255, 126, 167, 0, 4, 2, 172]
abbrev dktX2_sign_2 : List UInt8 := dkwX2_sign_2 ++ []
def dkwX2_sign_1 : List UInt8 := [160, 0, 16, 42, 89, 180, 0, 67, 4, 96, 181, 0, 67, 167, 255, 221, 42, 180, 0, 67, 42, 180, 0, 70]
abbrev dktX2_sign_1 : List UInt8 := dkwX2_sign_1 ++ dktX2_sign_2
def dkwX2_sign_0 : List UInt8 := [42, 180, 0, 67, 42, 180, 0, 70, 162, 0, 30, 42, 180, 0, 9, 42, 180, 0, 67, 51, 16, 32]
abbrev dktX2_sign_0 : List UInt8 := dkwX2_sign_0 ++ dktX2_sign_1
theorem dksX2_sign_0 : cX2_sign.data.toList.drop 0 = dktX2_sign_0 := by decide +kernel
theorem dksX2_sign_1 : cX2_sign.data.toList.drop 22 = dktX2_sign_1 := dk_seg dksX2_sign_0 22 rfl rfl
theorem dksX2_sign_2 : cX2_sign.data.toList.drop 46 = dktX2_sign_2 := dk_seg dksX2_sign_1 24 rfl rfl
theorem dX2_sign_0 : decode cX2_sign 0 = .ok (.aload_n 0, 1) := dk_42 (dk_at dksX2_sign_0 0 rfl rfl)
theorem dX2_sign_1 : decode cX2_sign 1 = .ok (.getfield 67, 3) := dk_180 0 67 (dk_at dksX2_sign_0 1 rfl rfl)
theorem dX2_sign_4 : decode cX2_sign 4 = .ok (.aload_n 0, 1) := dk_42 (dk_at dksX2_sign_0 4 rfl rfl)
theorem dX2_sign_5 : decode cX2_sign 5 = .ok (.getfield 70, 3) := dk_180 0 70 (dk_at dksX2_sign_0 5 rfl rfl)
theorem dX2_sign_8 : decode cX2_sign 8 = .ok (.if_icmp .ge 30, 3) := dk_162 0 30 (dk_at dksX2_sign_0 8 rfl rfl)
theorem dX2_sign_11 : decode cX2_sign 11 = .ok (.aload_n 0, 1) := dk_42 (dk_at dksX2_sign_0 11 rfl rfl)
theorem dX2_sign_12 : decode cX2_sign 12 = .ok (.getfield 9, 3) := dk_180 0 9 (dk_at dksX2_sign_0 12 rfl rfl)
theorem dX2_sign_15 : decode cX2_sign 15 = .ok (.aload_n 0, 1) := dk_42 (dk_at dksX2_sign_0 15 rfl rfl)
theorem dX2_sign_16 : decode cX2_sign 16 = .ok (.getfield 67, 3) := dk_180 0 67 (dk_at dksX2_sign_0 16 rfl rfl)
theorem dX2_sign_19 : decode cX2_sign 19 = .ok (.baload, 1) := dk_51 (dk_at dksX2_sign_0 19 rfl rfl)
theorem dX2_sign_20 : decode cX2_sign 20 = .ok (.bipush 32, 2) := dk_16 32 (dk_at dksX2_sign_0 20 rfl rfl)
theorem dX2_sign_22 : decode cX2_sign 22 = .ok (.if_icmp .ne 16, 3) := dk_160 0 16 (dk_at dksX2_sign_1 0 rfl rfl)
theorem dX2_sign_25 : decode cX2_sign 25 = .ok (.aload_n 0, 1) := dk_42 (dk_at dksX2_sign_1 3 rfl rfl)
theorem dX2_sign_26 : decode cX2_sign 26 = .ok (.dup, 1) := dk_89 (dk_at dksX2_sign_1 4 rfl rfl)
theorem dX2_sign_27 : decode cX2_sign 27 = .ok (.getfield 67, 3) := dk_180 0 67 (dk_at dksX2_sign_1 5 rfl rfl)
theorem dX2_sign_30 : decode cX2_sign 30 = .ok (.iconst 1, 1) := dk_4 (dk_at dksX2_sign_1 8 rfl rfl)
theorem dX2_sign_31 : decode cX2_sign 31 = .ok (.iadd, 1) := dk_96 (dk_at dksX2_sign_1 9 rfl rfl)
theorem dX2_sign_32 : decode cX2_sign 32 = .ok (.putfield 67, 3) := dk_181 0 67 (dk_at dksX2_sign_1 10 rfl rfl)
theorem dX2_sign_35 : decode cX2_sign 35 = .ok (.goto (-35), 3) := dk_167 255 221 (dk_at dksX2_sign_1 13 rfl rfl)
theorem dX2_sign_38 : decode cX2_sign 38 = .ok (.aload_n 0, 1) := dk_42 (dk_at dksX2_sign_1 16 rfl rfl)
theorem dX2_sign_39 : decode cX2_sign 39 = .ok (.getfield 67, 3) := dk_180 0 67 (dk_at dksX2_sign_1 17 rfl rfl)
theorem dX2_sign_42 : decode cX2_sign 42 = .ok (.aload_n 0, 1) := dk_42 (dk_at dksX2_sign_1 20 rfl rfl)
theorem dX2_sign_43 : decode cX2_sign 43 = .ok (.getfield 70, 3) := dk_180 0 70 (dk_at dksX2_sign_1 21 rfl rfl)
theorem dX2_sign_46 : decode cX2_sign 46 = .ok (.if_icmp .ge 19, 3) := dk_162 0 19 (dk_at dksX2_sign_2 0 rfl rfl)
theorem dX2_sign_49 : decode cX2_sign 49 = .ok (.aload_n 0, 1) := dk_42 (dk_at dksX2_sign_2 3 rfl rfl)
theorem dX2_sign_50 : decode cX2_sign 50 = .ok (.getfield 9, 3) := dk_180 0 9 (dk_at dksX2_sign_2 4 rfl rfl)
theorem dX2_sign_53 : decode cX2_sign 53 = .ok (.aload_n 0, 1) := dk_42 (dk_at dksX2_sign_2 7 rfl rfl)
theorem dX2_sign_54 : decode cX2_sign 54 = .ok (.getfield 67, 3) := dk_180 0 67 (dk_at dksX2_sign_2 8 rfl rfl)
theorem dX2_sign_57 : decode cX2_sign 57 = .ok (.baload, 1) := dk_51 (dk_at dksX2_sign_2 11 rfl rfl)
theorem dX2_sign_58 : decode cX2_sign 58 = .ok (.sipush 255, 3) := dk_17 0 255 (dk_at dksX2_sign_2 12 rfl rfl)
theorem dX2_sign_61 : decode cX2_sign 61 = .ok (.iand, 1) := dk_126 (dk_at dksX2_sign_2 15 rfl rfl)
theorem dX2_sign_62 : decode cX2_sign 62 = .ok (.goto 4, 3) := dk_167 0 4 (dk_at dksX2_sign_2 16 rfl rfl)
theorem dX2_sign_65 : decode cX2_sign 65 = .ok (.iconst (-1), 1) := dk_2 (dk_at dksX2_sign_2 19 rfl rfl)
theorem dX2_sign_66 : decode cX2_sign 66 = .ok (.ireturn, 1) := dk_172 (dk_at dksX2_sign_2 20 rfl rfl)
abbrev cX2_fail : ByteArray := prog_12_method_2_code
def yX2_fail : MethodName := ⟨RX2, "fail", "(I)V"⟩
def dkwX2_fail_0 : List UInt8 := [42, 180, 0, 59, 27, 181, 0, 63, 42, 180, 0, 59, 191]
abbrev dktX2_fail_0 : List UInt8 := dkwX2_fail_0 ++ []
theorem dksX2_fail_0 : cX2_fail.data.toList.drop 0 = dktX2_fail_0 := by decide +kernel
theorem dX2_fail_0 : decode cX2_fail 0 = .ok (.aload_n 0, 1) := dk_42 (dk_at dksX2_fail_0 0 rfl rfl)
theorem dX2_fail_1 : decode cX2_fail 1 = .ok (.getfield 59, 3) := dk_180 0 59 (dk_at dksX2_fail_0 1 rfl rfl)
theorem dX2_fail_4 : decode cX2_fail 4 = .ok (.iload_n 1, 1) := dk_27 (dk_at dksX2_fail_0 4 rfl rfl)
theorem dX2_fail_5 : decode cX2_fail 5 = .ok (.putfield 63, 3) := dk_181 0 63 (dk_at dksX2_fail_0 5 rfl rfl)
theorem dX2_fail_8 : decode cX2_fail 8 = .ok (.aload_n 0, 1) := dk_42 (dk_at dksX2_fail_0 8 rfl rfl)
theorem dX2_fail_9 : decode cX2_fail 9 = .ok (.getfield 59, 3) := dk_180 0 59 (dk_at dksX2_fail_0 9 rfl rfl)
theorem dX2_fail_12 : decode cX2_fail 12 = .ok (.athrow, 1) := dk_191 (dk_at dksX2_fail_0 12 rfl rfl)
abbrev cX2_line : ByteArray := prog_12_method_13_code
def yX2_line : MethodName := ⟨RX2, "line", "()V"⟩
def dkwX2_line_17 : List UInt8 := [177]
abbrev dktX2_line_17 : List UInt8 := dkwX2_line_17 ++ []
def dkwX2_line_16 : List UInt8 := [42, 180, 0, 52, 180, 0, 188, 50, 182, 0, 195, 42, 180, 0, 52, 89, 180, 0, 188, 4, 96, 181, 0, 188]
abbrev dktX2_line_16 : List UInt8 := dkwX2_line_16 ++ dktX2_line_17
def dkwX2_line_15 : List UInt8 := [180, 0, 52, 180, 0, 188, 16, 6, 160, 0, 8, 42, 27, 182, 0, 88, 42, 42, 180, 0, 52, 180, 0, 191]
abbrev dktX2_line_15 : List UInt8 := dkwX2_line_15 ++ dktX2_line_16
def dkwX2_line_14 : List UInt8 := [180, 0, 52, 89, 180, 0, 168, 4, 96, 181, 0, 168, 167, 0, 58, 42, 18, 186, 182, 0, 147, 42]
abbrev dktX2_line_14 : List UInt8 := dkwX2_line_14 ++ dktX2_line_15
def dkwX2_line_13 : List UInt8 := [180, 0, 168, 50, 2, 2, 28, 42, 182, 0, 143, 42, 180, 0, 52, 180, 0, 177, 182, 0, 180, 78, 42]
abbrev dktX2_line_13 : List UInt8 := dkwX2_line_13 ++ dktX2_line_14
def dkwX2_line_12 : List UInt8 := [160, 0, 8, 42, 27, 182, 0, 88, 42, 182, 0, 171, 61, 42, 180, 0, 52, 180, 0, 173, 42, 180, 0, 52]
abbrev dktX2_line_12 : List UInt8 := dkwX2_line_12 ++ dktX2_line_13
def dkwX2_line_11 : List UInt8 := [182, 0, 163, 167, 0, 138, 42, 18, 166, 182, 0, 84, 153, 0, 74, 42, 180, 0, 52, 180, 0, 168, 16, 24]
abbrev dktX2_line_11 : List UInt8 := dkwX2_line_11 ++ dktX2_line_12
def dkwX2_line_10 : List UInt8 := [153, 0, 11, 42, 27, 182, 0, 160, 167, 0, 155, 42, 18, 27, 182, 0, 84, 153, 0, 11, 42, 27]
abbrev dktX2_line_10 : List UInt8 := dkwX2_line_10 ++ dktX2_line_11
def dkwX2_line_9 : List UInt8 := [42, 180, 0, 52, 42, 3, 17, 39, 15, 182, 0, 118, 181, 0, 156, 167, 0, 172, 42, 18, 158, 182, 0, 84]
abbrev dktX2_line_9 : List UInt8 := dkwX2_line_9 ++ dktX2_line_10
def dkwX2_line_8 : List UInt8 := [180, 0, 52, 180, 0, 115, 182, 0, 118, 181, 0, 130, 167, 0, 199, 42, 18, 154, 182, 0, 84, 153, 0, 21]
abbrev dktX2_line_8 : List UInt8 := dkwX2_line_8 ++ dktX2_line_9
def dkwX2_line_7 : List UInt8 := [181, 0, 151, 167, 0, 230, 42, 18, 153, 182, 0, 84, 153, 0, 25, 42, 180, 0, 52, 42, 3, 42]
abbrev dktX2_line_7 : List UInt8 := dkwX2_line_7 ++ dktX2_line_8
def dkwX2_line_6 : List UInt8 := [42, 182, 0, 143, 181, 0, 134, 42, 18, 145, 182, 0, 147, 42, 180, 0, 52, 42, 3, 16, 9, 182, 0, 118]
abbrev dktX2_line_6 : List UInt8 := dkwX2_line_6 ++ dktX2_line_7
def dkwX2_line_5 : List UInt8 := [153, 0, 11, 42, 27, 182, 0, 139, 167, 1, 17, 42, 18, 142, 182, 0, 84, 153, 0, 37, 42, 180, 0, 52]
abbrev dktX2_line_5 : List UInt8 := dkwX2_line_5 ++ dktX2_line_6
def dkwX2_line_4 : List UInt8 := [182, 0, 118, 181, 0, 122, 42, 180, 0, 52, 16, 10, 181, 0, 134, 167, 1, 34, 42, 18, 137, 182, 0, 84]
abbrev dktX2_line_4 : List UInt8 := dkwX2_line_4 ++ dktX2_line_5
def dkwX2_line_3 : List UInt8 := [180, 0, 52, 182, 0, 126, 153, 0, 8, 42, 27, 182, 0, 88, 42, 180, 0, 52, 42, 16, 10, 16, 99]
abbrev dktX2_line_3 : List UInt8 := dkwX2_line_3 ++ dktX2_line_4
def dkwX2_line_2 : List UInt8 := [180, 0, 52, 180, 0, 115, 181, 0, 130, 167, 1, 85, 42, 18, 133, 182, 0, 84, 153, 0, 45, 42]
abbrev dktX2_line_2 : List UInt8 := dkwX2_line_2 ++ dktX2_line_3
def dkwX2_line_1 : List UInt8 := [42, 27, 182, 0, 88, 42, 180, 0, 52, 42, 4, 16, 6, 182, 0, 118, 181, 0, 115, 42, 180, 0, 52, 42]
abbrev dktX2_line_1 : List UInt8 := dkwX2_line_1 ++ dktX2_line_2
def dkwX2_line_0 : List UInt8 := [42, 180, 0, 67, 60, 42, 18, 125, 182, 0, 84, 153, 0, 49, 42, 180, 0, 52, 182, 0, 126, 153, 0, 8]
abbrev dktX2_line_0 : List UInt8 := dkwX2_line_0 ++ dktX2_line_1
theorem dksX2_line_0 : cX2_line.data.toList.drop 0 = dktX2_line_0 := by decide +kernel
theorem dksX2_line_1 : cX2_line.data.toList.drop 24 = dktX2_line_1 := dk_seg dksX2_line_0 24 rfl rfl
theorem dksX2_line_2 : cX2_line.data.toList.drop 48 = dktX2_line_2 := dk_seg dksX2_line_1 24 rfl rfl
theorem dksX2_line_3 : cX2_line.data.toList.drop 70 = dktX2_line_3 := dk_seg dksX2_line_2 22 rfl rfl
theorem dksX2_line_4 : cX2_line.data.toList.drop 93 = dktX2_line_4 := dk_seg dksX2_line_3 23 rfl rfl
theorem dksX2_line_5 : cX2_line.data.toList.drop 117 = dktX2_line_5 := dk_seg dksX2_line_4 24 rfl rfl
theorem dksX2_line_6 : cX2_line.data.toList.drop 141 = dktX2_line_6 := dk_seg dksX2_line_5 24 rfl rfl
theorem dksX2_line_7 : cX2_line.data.toList.drop 165 = dktX2_line_7 := dk_seg dksX2_line_6 24 rfl rfl
theorem dksX2_line_8 : cX2_line.data.toList.drop 187 = dktX2_line_8 := dk_seg dksX2_line_7 22 rfl rfl
theorem dksX2_line_9 : cX2_line.data.toList.drop 211 = dktX2_line_9 := dk_seg dksX2_line_8 24 rfl rfl
theorem dksX2_line_10 : cX2_line.data.toList.drop 235 = dktX2_line_10 := dk_seg dksX2_line_9 24 rfl rfl
theorem dksX2_line_11 : cX2_line.data.toList.drop 257 = dktX2_line_11 := dk_seg dksX2_line_10 22 rfl rfl
theorem dksX2_line_12 : cX2_line.data.toList.drop 281 = dktX2_line_12 := dk_seg dksX2_line_11 24 rfl rfl
theorem dksX2_line_13 : cX2_line.data.toList.drop 305 = dktX2_line_13 := dk_seg dksX2_line_12 24 rfl rfl
theorem dksX2_line_14 : cX2_line.data.toList.drop 328 = dktX2_line_14 := dk_seg dksX2_line_13 23 rfl rfl
theorem dksX2_line_15 : cX2_line.data.toList.drop 350 = dktX2_line_15 := dk_seg dksX2_line_14 22 rfl rfl
theorem dksX2_line_16 : cX2_line.data.toList.drop 374 = dktX2_line_16 := dk_seg dksX2_line_15 24 rfl rfl
theorem dksX2_line_17 : cX2_line.data.toList.drop 398 = dktX2_line_17 := dk_seg dksX2_line_16 24 rfl rfl
theorem dX2_line_0 : decode cX2_line 0 = .ok (.aload_n 0, 1) := dk_42 (dk_at dksX2_line_0 0 rfl rfl)
theorem dX2_line_1 : decode cX2_line 1 = .ok (.getfield 67, 3) := dk_180 0 67 (dk_at dksX2_line_0 1 rfl rfl)
theorem dX2_line_4 : decode cX2_line 4 = .ok (.istore_n 1, 1) := dk_60 (dk_at dksX2_line_0 4 rfl rfl)
theorem dX2_line_5 : decode cX2_line 5 = .ok (.aload_n 0, 1) := dk_42 (dk_at dksX2_line_0 5 rfl rfl)
theorem dX2_line_6 : decode cX2_line 6 = .ok (.ldc 125, 2) := dk_18 125 (dk_at dksX2_line_0 6 rfl rfl)
theorem dX2_line_8 : decode cX2_line 8 = .ok (.invokevirtual 84, 3) := dk_182 0 84 (dk_at dksX2_line_0 8 rfl rfl)
theorem dX2_line_11 : decode cX2_line 11 = .ok (.ifCond .eq 49, 3) := dk_153 0 49 (dk_at dksX2_line_0 11 rfl rfl)
theorem dX2_line_14 : decode cX2_line 14 = .ok (.aload_n 0, 1) := dk_42 (dk_at dksX2_line_0 14 rfl rfl)
theorem dX2_line_15 : decode cX2_line 15 = .ok (.getfield 52, 3) := dk_180 0 52 (dk_at dksX2_line_0 15 rfl rfl)
theorem dX2_line_18 : decode cX2_line 18 = .ok (.invokevirtual 126, 3) := dk_182 0 126 (dk_at dksX2_line_0 18 rfl rfl)
theorem dX2_line_21 : decode cX2_line 21 = .ok (.ifCond .eq 8, 3) := dk_153 0 8 (dk_at dksX2_line_0 21 rfl rfl)
theorem dX2_line_24 : decode cX2_line 24 = .ok (.aload_n 0, 1) := dk_42 (dk_at dksX2_line_1 0 rfl rfl)
theorem dX2_line_25 : decode cX2_line 25 = .ok (.iload_n 1, 1) := dk_27 (dk_at dksX2_line_1 1 rfl rfl)
theorem dX2_line_26 : decode cX2_line 26 = .ok (.invokevirtual 88, 3) := dk_182 0 88 (dk_at dksX2_line_1 2 rfl rfl)
theorem dX2_line_29 : decode cX2_line 29 = .ok (.aload_n 0, 1) := dk_42 (dk_at dksX2_line_1 5 rfl rfl)
theorem dX2_line_30 : decode cX2_line 30 = .ok (.getfield 52, 3) := dk_180 0 52 (dk_at dksX2_line_1 6 rfl rfl)
theorem dX2_line_33 : decode cX2_line 33 = .ok (.aload_n 0, 1) := dk_42 (dk_at dksX2_line_1 9 rfl rfl)
theorem dX2_line_34 : decode cX2_line 34 = .ok (.iconst 1, 1) := dk_4 (dk_at dksX2_line_1 10 rfl rfl)
theorem dX2_line_35 : decode cX2_line 35 = .ok (.bipush 6, 2) := dk_16 6 (dk_at dksX2_line_1 11 rfl rfl)
theorem dX2_line_37 : decode cX2_line 37 = .ok (.invokevirtual 118, 3) := dk_182 0 118 (dk_at dksX2_line_1 13 rfl rfl)
theorem dX2_line_40 : decode cX2_line 40 = .ok (.putfield 115, 3) := dk_181 0 115 (dk_at dksX2_line_1 16 rfl rfl)
theorem dX2_line_43 : decode cX2_line 43 = .ok (.aload_n 0, 1) := dk_42 (dk_at dksX2_line_1 19 rfl rfl)
theorem dX2_line_44 : decode cX2_line 44 = .ok (.getfield 52, 3) := dk_180 0 52 (dk_at dksX2_line_1 20 rfl rfl)
theorem dX2_line_47 : decode cX2_line 47 = .ok (.aload_n 0, 1) := dk_42 (dk_at dksX2_line_1 23 rfl rfl)
theorem dX2_line_48 : decode cX2_line 48 = .ok (.getfield 52, 3) := dk_180 0 52 (dk_at dksX2_line_2 0 rfl rfl)
theorem dX2_line_51 : decode cX2_line 51 = .ok (.getfield 115, 3) := dk_180 0 115 (dk_at dksX2_line_2 3 rfl rfl)
theorem dX2_line_54 : decode cX2_line 54 = .ok (.putfield 130, 3) := dk_181 0 130 (dk_at dksX2_line_2 6 rfl rfl)
theorem dX2_line_57 : decode cX2_line 57 = .ok (.goto 341, 3) := dk_167 1 85 (dk_at dksX2_line_2 9 rfl rfl)
theorem dX2_line_60 : decode cX2_line 60 = .ok (.aload_n 0, 1) := dk_42 (dk_at dksX2_line_2 12 rfl rfl)
theorem dX2_line_61 : decode cX2_line 61 = .ok (.ldc 133, 2) := dk_18 133 (dk_at dksX2_line_2 13 rfl rfl)
theorem dX2_line_63 : decode cX2_line 63 = .ok (.invokevirtual 84, 3) := dk_182 0 84 (dk_at dksX2_line_2 15 rfl rfl)
theorem dX2_line_66 : decode cX2_line 66 = .ok (.ifCond .eq 45, 3) := dk_153 0 45 (dk_at dksX2_line_2 18 rfl rfl)
theorem dX2_line_69 : decode cX2_line 69 = .ok (.aload_n 0, 1) := dk_42 (dk_at dksX2_line_2 21 rfl rfl)
theorem dX2_line_70 : decode cX2_line 70 = .ok (.getfield 52, 3) := dk_180 0 52 (dk_at dksX2_line_3 0 rfl rfl)
theorem dX2_line_73 : decode cX2_line 73 = .ok (.invokevirtual 126, 3) := dk_182 0 126 (dk_at dksX2_line_3 3 rfl rfl)
theorem dX2_line_76 : decode cX2_line 76 = .ok (.ifCond .eq 8, 3) := dk_153 0 8 (dk_at dksX2_line_3 6 rfl rfl)
theorem dX2_line_79 : decode cX2_line 79 = .ok (.aload_n 0, 1) := dk_42 (dk_at dksX2_line_3 9 rfl rfl)
theorem dX2_line_80 : decode cX2_line 80 = .ok (.iload_n 1, 1) := dk_27 (dk_at dksX2_line_3 10 rfl rfl)
theorem dX2_line_81 : decode cX2_line 81 = .ok (.invokevirtual 88, 3) := dk_182 0 88 (dk_at dksX2_line_3 11 rfl rfl)
theorem dX2_line_84 : decode cX2_line 84 = .ok (.aload_n 0, 1) := dk_42 (dk_at dksX2_line_3 14 rfl rfl)
theorem dX2_line_85 : decode cX2_line 85 = .ok (.getfield 52, 3) := dk_180 0 52 (dk_at dksX2_line_3 15 rfl rfl)
theorem dX2_line_88 : decode cX2_line 88 = .ok (.aload_n 0, 1) := dk_42 (dk_at dksX2_line_3 18 rfl rfl)
theorem dX2_line_89 : decode cX2_line 89 = .ok (.bipush 10, 2) := dk_16 10 (dk_at dksX2_line_3 19 rfl rfl)
theorem dX2_line_91 : decode cX2_line 91 = .ok (.bipush 99, 2) := dk_16 99 (dk_at dksX2_line_3 21 rfl rfl)
theorem dX2_line_93 : decode cX2_line 93 = .ok (.invokevirtual 118, 3) := dk_182 0 118 (dk_at dksX2_line_4 0 rfl rfl)
theorem dX2_line_96 : decode cX2_line 96 = .ok (.putfield 122, 3) := dk_181 0 122 (dk_at dksX2_line_4 3 rfl rfl)
theorem dX2_line_99 : decode cX2_line 99 = .ok (.aload_n 0, 1) := dk_42 (dk_at dksX2_line_4 6 rfl rfl)
theorem dX2_line_100 : decode cX2_line 100 = .ok (.getfield 52, 3) := dk_180 0 52 (dk_at dksX2_line_4 7 rfl rfl)
theorem dX2_line_103 : decode cX2_line 103 = .ok (.bipush 10, 2) := dk_16 10 (dk_at dksX2_line_4 10 rfl rfl)
theorem dX2_line_105 : decode cX2_line 105 = .ok (.putfield 134, 3) := dk_181 0 134 (dk_at dksX2_line_4 12 rfl rfl)
theorem dX2_line_108 : decode cX2_line 108 = .ok (.goto 290, 3) := dk_167 1 34 (dk_at dksX2_line_4 15 rfl rfl)
theorem dX2_line_111 : decode cX2_line 111 = .ok (.aload_n 0, 1) := dk_42 (dk_at dksX2_line_4 18 rfl rfl)
theorem dX2_line_112 : decode cX2_line 112 = .ok (.ldc 137, 2) := dk_18 137 (dk_at dksX2_line_4 19 rfl rfl)
theorem dX2_line_114 : decode cX2_line 114 = .ok (.invokevirtual 84, 3) := dk_182 0 84 (dk_at dksX2_line_4 21 rfl rfl)
theorem dX2_line_117 : decode cX2_line 117 = .ok (.ifCond .eq 11, 3) := dk_153 0 11 (dk_at dksX2_line_5 0 rfl rfl)
theorem dX2_line_120 : decode cX2_line 120 = .ok (.aload_n 0, 1) := dk_42 (dk_at dksX2_line_5 3 rfl rfl)
theorem dX2_line_121 : decode cX2_line 121 = .ok (.iload_n 1, 1) := dk_27 (dk_at dksX2_line_5 4 rfl rfl)
theorem dX2_line_122 : decode cX2_line 122 = .ok (.invokevirtual 139, 3) := dk_182 0 139 (dk_at dksX2_line_5 5 rfl rfl)
theorem dX2_line_125 : decode cX2_line 125 = .ok (.goto 273, 3) := dk_167 1 17 (dk_at dksX2_line_5 8 rfl rfl)
theorem dX2_line_128 : decode cX2_line 128 = .ok (.aload_n 0, 1) := dk_42 (dk_at dksX2_line_5 11 rfl rfl)
theorem dX2_line_129 : decode cX2_line 129 = .ok (.ldc 142, 2) := dk_18 142 (dk_at dksX2_line_5 12 rfl rfl)
theorem dX2_line_131 : decode cX2_line 131 = .ok (.invokevirtual 84, 3) := dk_182 0 84 (dk_at dksX2_line_5 14 rfl rfl)
theorem dX2_line_134 : decode cX2_line 134 = .ok (.ifCond .eq 37, 3) := dk_153 0 37 (dk_at dksX2_line_5 17 rfl rfl)
theorem dX2_line_137 : decode cX2_line 137 = .ok (.aload_n 0, 1) := dk_42 (dk_at dksX2_line_5 20 rfl rfl)
theorem dX2_line_138 : decode cX2_line 138 = .ok (.getfield 52, 3) := dk_180 0 52 (dk_at dksX2_line_5 21 rfl rfl)
theorem dX2_line_141 : decode cX2_line 141 = .ok (.aload_n 0, 1) := dk_42 (dk_at dksX2_line_6 0 rfl rfl)
theorem dX2_line_142 : decode cX2_line 142 = .ok (.invokevirtual 143, 3) := dk_182 0 143 (dk_at dksX2_line_6 1 rfl rfl)
theorem dX2_line_145 : decode cX2_line 145 = .ok (.putfield 134, 3) := dk_181 0 134 (dk_at dksX2_line_6 4 rfl rfl)
theorem dX2_line_148 : decode cX2_line 148 = .ok (.aload_n 0, 1) := dk_42 (dk_at dksX2_line_6 7 rfl rfl)
theorem dX2_line_149 : decode cX2_line 149 = .ok (.ldc 145, 2) := dk_18 145 (dk_at dksX2_line_6 8 rfl rfl)
theorem dX2_line_151 : decode cX2_line 151 = .ok (.invokevirtual 147, 3) := dk_182 0 147 (dk_at dksX2_line_6 10 rfl rfl)
theorem dX2_line_154 : decode cX2_line 154 = .ok (.aload_n 0, 1) := dk_42 (dk_at dksX2_line_6 13 rfl rfl)
theorem dX2_line_155 : decode cX2_line 155 = .ok (.getfield 52, 3) := dk_180 0 52 (dk_at dksX2_line_6 14 rfl rfl)
theorem dX2_line_158 : decode cX2_line 158 = .ok (.aload_n 0, 1) := dk_42 (dk_at dksX2_line_6 17 rfl rfl)
theorem dX2_line_159 : decode cX2_line 159 = .ok (.iconst 0, 1) := dk_3 (dk_at dksX2_line_6 18 rfl rfl)
theorem dX2_line_160 : decode cX2_line 160 = .ok (.bipush 9, 2) := dk_16 9 (dk_at dksX2_line_6 19 rfl rfl)
theorem dX2_line_162 : decode cX2_line 162 = .ok (.invokevirtual 118, 3) := dk_182 0 118 (dk_at dksX2_line_6 21 rfl rfl)
theorem dX2_line_165 : decode cX2_line 165 = .ok (.putfield 151, 3) := dk_181 0 151 (dk_at dksX2_line_7 0 rfl rfl)
theorem dX2_line_168 : decode cX2_line 168 = .ok (.goto 230, 3) := dk_167 0 230 (dk_at dksX2_line_7 3 rfl rfl)
theorem dX2_line_171 : decode cX2_line 171 = .ok (.aload_n 0, 1) := dk_42 (dk_at dksX2_line_7 6 rfl rfl)
theorem dX2_line_172 : decode cX2_line 172 = .ok (.ldc 153, 2) := dk_18 153 (dk_at dksX2_line_7 7 rfl rfl)
theorem dX2_line_174 : decode cX2_line 174 = .ok (.invokevirtual 84, 3) := dk_182 0 84 (dk_at dksX2_line_7 9 rfl rfl)
theorem dX2_line_177 : decode cX2_line 177 = .ok (.ifCond .eq 25, 3) := dk_153 0 25 (dk_at dksX2_line_7 12 rfl rfl)
theorem dX2_line_180 : decode cX2_line 180 = .ok (.aload_n 0, 1) := dk_42 (dk_at dksX2_line_7 15 rfl rfl)
theorem dX2_line_181 : decode cX2_line 181 = .ok (.getfield 52, 3) := dk_180 0 52 (dk_at dksX2_line_7 16 rfl rfl)
theorem dX2_line_184 : decode cX2_line 184 = .ok (.aload_n 0, 1) := dk_42 (dk_at dksX2_line_7 19 rfl rfl)
theorem dX2_line_185 : decode cX2_line 185 = .ok (.iconst 0, 1) := dk_3 (dk_at dksX2_line_7 20 rfl rfl)
theorem dX2_line_186 : decode cX2_line 186 = .ok (.aload_n 0, 1) := dk_42 (dk_at dksX2_line_7 21 rfl rfl)
theorem dX2_line_187 : decode cX2_line 187 = .ok (.getfield 52, 3) := dk_180 0 52 (dk_at dksX2_line_8 0 rfl rfl)
theorem dX2_line_190 : decode cX2_line 190 = .ok (.getfield 115, 3) := dk_180 0 115 (dk_at dksX2_line_8 3 rfl rfl)
theorem dX2_line_193 : decode cX2_line 193 = .ok (.invokevirtual 118, 3) := dk_182 0 118 (dk_at dksX2_line_8 6 rfl rfl)
theorem dX2_line_196 : decode cX2_line 196 = .ok (.putfield 130, 3) := dk_181 0 130 (dk_at dksX2_line_8 9 rfl rfl)
theorem dX2_line_199 : decode cX2_line 199 = .ok (.goto 199, 3) := dk_167 0 199 (dk_at dksX2_line_8 12 rfl rfl)
theorem dX2_line_202 : decode cX2_line 202 = .ok (.aload_n 0, 1) := dk_42 (dk_at dksX2_line_8 15 rfl rfl)
theorem dX2_line_203 : decode cX2_line 203 = .ok (.ldc 154, 2) := dk_18 154 (dk_at dksX2_line_8 16 rfl rfl)
theorem dX2_line_205 : decode cX2_line 205 = .ok (.invokevirtual 84, 3) := dk_182 0 84 (dk_at dksX2_line_8 18 rfl rfl)
theorem dX2_line_208 : decode cX2_line 208 = .ok (.ifCond .eq 21, 3) := dk_153 0 21 (dk_at dksX2_line_8 21 rfl rfl)
theorem dX2_line_211 : decode cX2_line 211 = .ok (.aload_n 0, 1) := dk_42 (dk_at dksX2_line_9 0 rfl rfl)
theorem dX2_line_212 : decode cX2_line 212 = .ok (.getfield 52, 3) := dk_180 0 52 (dk_at dksX2_line_9 1 rfl rfl)
theorem dX2_line_215 : decode cX2_line 215 = .ok (.aload_n 0, 1) := dk_42 (dk_at dksX2_line_9 4 rfl rfl)
theorem dX2_line_216 : decode cX2_line 216 = .ok (.iconst 0, 1) := dk_3 (dk_at dksX2_line_9 5 rfl rfl)
theorem dX2_line_217 : decode cX2_line 217 = .ok (.sipush 9999, 3) := dk_17 39 15 (dk_at dksX2_line_9 6 rfl rfl)
theorem dX2_line_220 : decode cX2_line 220 = .ok (.invokevirtual 118, 3) := dk_182 0 118 (dk_at dksX2_line_9 9 rfl rfl)
theorem dX2_line_223 : decode cX2_line 223 = .ok (.putfield 156, 3) := dk_181 0 156 (dk_at dksX2_line_9 12 rfl rfl)
theorem dX2_line_226 : decode cX2_line 226 = .ok (.goto 172, 3) := dk_167 0 172 (dk_at dksX2_line_9 15 rfl rfl)
theorem dX2_line_229 : decode cX2_line 229 = .ok (.aload_n 0, 1) := dk_42 (dk_at dksX2_line_9 18 rfl rfl)
theorem dX2_line_230 : decode cX2_line 230 = .ok (.ldc 158, 2) := dk_18 158 (dk_at dksX2_line_9 19 rfl rfl)
theorem dX2_line_232 : decode cX2_line 232 = .ok (.invokevirtual 84, 3) := dk_182 0 84 (dk_at dksX2_line_9 21 rfl rfl)
theorem dX2_line_235 : decode cX2_line 235 = .ok (.ifCond .eq 11, 3) := dk_153 0 11 (dk_at dksX2_line_10 0 rfl rfl)
theorem dX2_line_238 : decode cX2_line 238 = .ok (.aload_n 0, 1) := dk_42 (dk_at dksX2_line_10 3 rfl rfl)
theorem dX2_line_239 : decode cX2_line 239 = .ok (.iload_n 1, 1) := dk_27 (dk_at dksX2_line_10 4 rfl rfl)
theorem dX2_line_240 : decode cX2_line 240 = .ok (.invokevirtual 160, 3) := dk_182 0 160 (dk_at dksX2_line_10 5 rfl rfl)
theorem dX2_line_243 : decode cX2_line 243 = .ok (.goto 155, 3) := dk_167 0 155 (dk_at dksX2_line_10 8 rfl rfl)
theorem dX2_line_246 : decode cX2_line 246 = .ok (.aload_n 0, 1) := dk_42 (dk_at dksX2_line_10 11 rfl rfl)
theorem dX2_line_247 : decode cX2_line 247 = .ok (.ldc 27, 2) := dk_18 27 (dk_at dksX2_line_10 12 rfl rfl)
theorem dX2_line_249 : decode cX2_line 249 = .ok (.invokevirtual 84, 3) := dk_182 0 84 (dk_at dksX2_line_10 14 rfl rfl)
theorem dX2_line_252 : decode cX2_line 252 = .ok (.ifCond .eq 11, 3) := dk_153 0 11 (dk_at dksX2_line_10 17 rfl rfl)
theorem dX2_line_255 : decode cX2_line 255 = .ok (.aload_n 0, 1) := dk_42 (dk_at dksX2_line_10 20 rfl rfl)
theorem dX2_line_256 : decode cX2_line 256 = .ok (.iload_n 1, 1) := dk_27 (dk_at dksX2_line_10 21 rfl rfl)
theorem dX2_line_257 : decode cX2_line 257 = .ok (.invokevirtual 163, 3) := dk_182 0 163 (dk_at dksX2_line_11 0 rfl rfl)
theorem dX2_line_260 : decode cX2_line 260 = .ok (.goto 138, 3) := dk_167 0 138 (dk_at dksX2_line_11 3 rfl rfl)
theorem dX2_line_263 : decode cX2_line 263 = .ok (.aload_n 0, 1) := dk_42 (dk_at dksX2_line_11 6 rfl rfl)
theorem dX2_line_264 : decode cX2_line 264 = .ok (.ldc 166, 2) := dk_18 166 (dk_at dksX2_line_11 7 rfl rfl)
theorem dX2_line_266 : decode cX2_line 266 = .ok (.invokevirtual 84, 3) := dk_182 0 84 (dk_at dksX2_line_11 9 rfl rfl)
theorem dX2_line_269 : decode cX2_line 269 = .ok (.ifCond .eq 74, 3) := dk_153 0 74 (dk_at dksX2_line_11 12 rfl rfl)
theorem dX2_line_272 : decode cX2_line 272 = .ok (.aload_n 0, 1) := dk_42 (dk_at dksX2_line_11 15 rfl rfl)
theorem dX2_line_273 : decode cX2_line 273 = .ok (.getfield 52, 3) := dk_180 0 52 (dk_at dksX2_line_11 16 rfl rfl)
theorem dX2_line_276 : decode cX2_line 276 = .ok (.getfield 168, 3) := dk_180 0 168 (dk_at dksX2_line_11 19 rfl rfl)
theorem dX2_line_279 : decode cX2_line 279 = .ok (.bipush 24, 2) := dk_16 24 (dk_at dksX2_line_11 22 rfl rfl)
theorem dX2_line_281 : decode cX2_line 281 = .ok (.if_icmp .ne 8, 3) := dk_160 0 8 (dk_at dksX2_line_12 0 rfl rfl)
theorem dX2_line_284 : decode cX2_line 284 = .ok (.aload_n 0, 1) := dk_42 (dk_at dksX2_line_12 3 rfl rfl)
theorem dX2_line_285 : decode cX2_line 285 = .ok (.iload_n 1, 1) := dk_27 (dk_at dksX2_line_12 4 rfl rfl)
theorem dX2_line_286 : decode cX2_line 286 = .ok (.invokevirtual 88, 3) := dk_182 0 88 (dk_at dksX2_line_12 5 rfl rfl)
theorem dX2_line_289 : decode cX2_line 289 = .ok (.aload_n 0, 1) := dk_42 (dk_at dksX2_line_12 8 rfl rfl)
theorem dX2_line_290 : decode cX2_line 290 = .ok (.invokevirtual 171, 3) := dk_182 0 171 (dk_at dksX2_line_12 9 rfl rfl)
theorem dX2_line_293 : decode cX2_line 293 = .ok (.istore_n 2, 1) := dk_61 (dk_at dksX2_line_12 12 rfl rfl)
theorem dX2_line_294 : decode cX2_line 294 = .ok (.aload_n 0, 1) := dk_42 (dk_at dksX2_line_12 13 rfl rfl)
theorem dX2_line_295 : decode cX2_line 295 = .ok (.getfield 52, 3) := dk_180 0 52 (dk_at dksX2_line_12 14 rfl rfl)
theorem dX2_line_298 : decode cX2_line 298 = .ok (.getfield 173, 3) := dk_180 0 173 (dk_at dksX2_line_12 17 rfl rfl)
theorem dX2_line_301 : decode cX2_line 301 = .ok (.aload_n 0, 1) := dk_42 (dk_at dksX2_line_12 20 rfl rfl)
theorem dX2_line_302 : decode cX2_line 302 = .ok (.getfield 52, 3) := dk_180 0 52 (dk_at dksX2_line_12 21 rfl rfl)
theorem dX2_line_305 : decode cX2_line 305 = .ok (.getfield 168, 3) := dk_180 0 168 (dk_at dksX2_line_13 0 rfl rfl)
theorem dX2_line_308 : decode cX2_line 308 = .ok (.aaload, 1) := dk_50 (dk_at dksX2_line_13 3 rfl rfl)
theorem dX2_line_309 : decode cX2_line 309 = .ok (.iconst (-1), 1) := dk_2 (dk_at dksX2_line_13 4 rfl rfl)
theorem dX2_line_310 : decode cX2_line 310 = .ok (.iconst (-1), 1) := dk_2 (dk_at dksX2_line_13 5 rfl rfl)
theorem dX2_line_311 : decode cX2_line 311 = .ok (.iload_n 2, 1) := dk_28 (dk_at dksX2_line_13 6 rfl rfl)
theorem dX2_line_312 : decode cX2_line 312 = .ok (.aload_n 0, 1) := dk_42 (dk_at dksX2_line_13 7 rfl rfl)
theorem dX2_line_313 : decode cX2_line 313 = .ok (.invokevirtual 143, 3) := dk_182 0 143 (dk_at dksX2_line_13 8 rfl rfl)
theorem dX2_line_316 : decode cX2_line 316 = .ok (.aload_n 0, 1) := dk_42 (dk_at dksX2_line_13 11 rfl rfl)
theorem dX2_line_317 : decode cX2_line 317 = .ok (.getfield 52, 3) := dk_180 0 52 (dk_at dksX2_line_13 12 rfl rfl)
theorem dX2_line_320 : decode cX2_line 320 = .ok (.getfield 177, 3) := dk_180 0 177 (dk_at dksX2_line_13 15 rfl rfl)
theorem dX2_line_323 : decode cX2_line 323 = .ok (.invokevirtual 180, 3) := dk_182 0 180 (dk_at dksX2_line_13 18 rfl rfl)
theorem dX2_line_326 : decode cX2_line 326 = .ok (.astore_n 3, 1) := dk_78 (dk_at dksX2_line_13 21 rfl rfl)
theorem dX2_line_327 : decode cX2_line 327 = .ok (.aload_n 0, 1) := dk_42 (dk_at dksX2_line_13 22 rfl rfl)
theorem dX2_line_328 : decode cX2_line 328 = .ok (.getfield 52, 3) := dk_180 0 52 (dk_at dksX2_line_14 0 rfl rfl)
theorem dX2_line_331 : decode cX2_line 331 = .ok (.dup, 1) := dk_89 (dk_at dksX2_line_14 3 rfl rfl)
theorem dX2_line_332 : decode cX2_line 332 = .ok (.getfield 168, 3) := dk_180 0 168 (dk_at dksX2_line_14 4 rfl rfl)
theorem dX2_line_335 : decode cX2_line 335 = .ok (.iconst 1, 1) := dk_4 (dk_at dksX2_line_14 7 rfl rfl)
theorem dX2_line_336 : decode cX2_line 336 = .ok (.iadd, 1) := dk_96 (dk_at dksX2_line_14 8 rfl rfl)
theorem dX2_line_337 : decode cX2_line 337 = .ok (.putfield 168, 3) := dk_181 0 168 (dk_at dksX2_line_14 9 rfl rfl)
theorem dX2_line_340 : decode cX2_line 340 = .ok (.goto 58, 3) := dk_167 0 58 (dk_at dksX2_line_14 12 rfl rfl)
theorem dX2_line_343 : decode cX2_line 343 = .ok (.aload_n 0, 1) := dk_42 (dk_at dksX2_line_14 15 rfl rfl)
theorem dX2_line_344 : decode cX2_line 344 = .ok (.ldc 186, 2) := dk_18 186 (dk_at dksX2_line_14 16 rfl rfl)
theorem dX2_line_346 : decode cX2_line 346 = .ok (.invokevirtual 147, 3) := dk_182 0 147 (dk_at dksX2_line_14 18 rfl rfl)
theorem dX2_line_349 : decode cX2_line 349 = .ok (.aload_n 0, 1) := dk_42 (dk_at dksX2_line_14 21 rfl rfl)
theorem dX2_line_350 : decode cX2_line 350 = .ok (.getfield 52, 3) := dk_180 0 52 (dk_at dksX2_line_15 0 rfl rfl)
theorem dX2_line_353 : decode cX2_line 353 = .ok (.getfield 188, 3) := dk_180 0 188 (dk_at dksX2_line_15 3 rfl rfl)
theorem dX2_line_356 : decode cX2_line 356 = .ok (.bipush 6, 2) := dk_16 6 (dk_at dksX2_line_15 6 rfl rfl)
theorem dX2_line_358 : decode cX2_line 358 = .ok (.if_icmp .ne 8, 3) := dk_160 0 8 (dk_at dksX2_line_15 8 rfl rfl)
theorem dX2_line_361 : decode cX2_line 361 = .ok (.aload_n 0, 1) := dk_42 (dk_at dksX2_line_15 11 rfl rfl)
theorem dX2_line_362 : decode cX2_line 362 = .ok (.iload_n 1, 1) := dk_27 (dk_at dksX2_line_15 12 rfl rfl)
theorem dX2_line_363 : decode cX2_line 363 = .ok (.invokevirtual 88, 3) := dk_182 0 88 (dk_at dksX2_line_15 13 rfl rfl)
theorem dX2_line_366 : decode cX2_line 366 = .ok (.aload_n 0, 1) := dk_42 (dk_at dksX2_line_15 16 rfl rfl)
theorem dX2_line_367 : decode cX2_line 367 = .ok (.aload_n 0, 1) := dk_42 (dk_at dksX2_line_15 17 rfl rfl)
theorem dX2_line_368 : decode cX2_line 368 = .ok (.getfield 52, 3) := dk_180 0 52 (dk_at dksX2_line_15 18 rfl rfl)
theorem dX2_line_371 : decode cX2_line 371 = .ok (.getfield 191, 3) := dk_180 0 191 (dk_at dksX2_line_15 21 rfl rfl)
theorem dX2_line_374 : decode cX2_line 374 = .ok (.aload_n 0, 1) := dk_42 (dk_at dksX2_line_16 0 rfl rfl)
theorem dX2_line_375 : decode cX2_line 375 = .ok (.getfield 52, 3) := dk_180 0 52 (dk_at dksX2_line_16 1 rfl rfl)
theorem dX2_line_378 : decode cX2_line 378 = .ok (.getfield 188, 3) := dk_180 0 188 (dk_at dksX2_line_16 4 rfl rfl)
theorem dX2_line_381 : decode cX2_line 381 = .ok (.aaload, 1) := dk_50 (dk_at dksX2_line_16 7 rfl rfl)
theorem dX2_line_382 : decode cX2_line 382 = .ok (.invokevirtual 195, 3) := dk_182 0 195 (dk_at dksX2_line_16 8 rfl rfl)
theorem dX2_line_385 : decode cX2_line 385 = .ok (.aload_n 0, 1) := dk_42 (dk_at dksX2_line_16 11 rfl rfl)
theorem dX2_line_386 : decode cX2_line 386 = .ok (.getfield 52, 3) := dk_180 0 52 (dk_at dksX2_line_16 12 rfl rfl)
theorem dX2_line_389 : decode cX2_line 389 = .ok (.dup, 1) := dk_89 (dk_at dksX2_line_16 15 rfl rfl)
theorem dX2_line_390 : decode cX2_line 390 = .ok (.getfield 188, 3) := dk_180 0 188 (dk_at dksX2_line_16 16 rfl rfl)
theorem dX2_line_393 : decode cX2_line 393 = .ok (.iconst 1, 1) := dk_4 (dk_at dksX2_line_16 19 rfl rfl)
theorem dX2_line_394 : decode cX2_line 394 = .ok (.iadd, 1) := dk_96 (dk_at dksX2_line_16 20 rfl rfl)
theorem dX2_line_395 : decode cX2_line 395 = .ok (.putfield 188, 3) := dk_181 0 188 (dk_at dksX2_line_16 21 rfl rfl)
theorem dX2_line_398 : decode cX2_line 398 = .ok (.return_, 1) := dk_177 (dk_at dksX2_line_17 0 rfl rfl)
abbrev cX2_takes : ByteArray := prog_12_method_5_code
def yX2_takes : MethodName := ⟨RX2, "takes", "(Ljava/lang/String;)Z"⟩
def dkwX2_takes_5 : List UInt8 := [153, 0, 8, 42, 29, 181, 0, 67, 21, 4, 172]
abbrev dktX2_takes_5 : List UInt8 := dkwX2_takes_5 ++ []
def dkwX2_takes_4 : List UInt8 := [21, 5, 182, 0, 80, 160, 0, 7, 4, 167, 0, 4, 3, 54, 4, 132, 5, 1, 167, 255, 211, 21, 4]
abbrev dktX2_takes_4 : List UInt8 := dkwX2_takes_4 ++ dktX2_takes_5
def dkwX2_takes_3 : List UInt8 := [182, 0, 77, 162, 0, 42, 21, 4, 153, 0, 37, 42, 180, 0, 9, 42, 180, 0, 67, 21, 5, 96, 51, 43]
abbrev dktX2_takes_3 : List UInt8 := dkwX2_takes_3 ++ dktX2_takes_4
def dkwX2_takes_2 : List UInt8 := [180, 0, 67, 100, 43, 182, 0, 77, 160, 0, 7, 4, 167, 0, 4, 3, 54, 4, 3, 54, 5, 21, 5, 43]
abbrev dktX2_takes_2 : List UInt8 := dkwX2_takes_2 ++ dktX2_takes_3
def dkwX2_takes_1 : List UInt8 := [16, 97, 161, 0, 20, 42, 180, 0, 9, 29, 51, 16, 122, 163, 0, 9, 132, 3, 1, 167, 255, 223, 29, 42]
abbrev dktX2_takes_1 : List UInt8 := dkwX2_takes_1 ++ dktX2_takes_2
def dkwX2_takes_0 : List UInt8 := [42, 182, 0, 73, 61, 42, 180, 0, 67, 62, 29, 42, 180, 0, 70, 162, 0, 31, 42, 180, 0, 9, 29, 51]
abbrev dktX2_takes_0 : List UInt8 := dkwX2_takes_0 ++ dktX2_takes_1
theorem dksX2_takes_0 : cX2_takes.data.toList.drop 0 = dktX2_takes_0 := by decide +kernel
theorem dksX2_takes_1 : cX2_takes.data.toList.drop 24 = dktX2_takes_1 := dk_seg dksX2_takes_0 24 rfl rfl
theorem dksX2_takes_2 : cX2_takes.data.toList.drop 48 = dktX2_takes_2 := dk_seg dksX2_takes_1 24 rfl rfl
theorem dksX2_takes_3 : cX2_takes.data.toList.drop 72 = dktX2_takes_3 := dk_seg dksX2_takes_2 24 rfl rfl
theorem dksX2_takes_4 : cX2_takes.data.toList.drop 96 = dktX2_takes_4 := dk_seg dksX2_takes_3 24 rfl rfl
theorem dksX2_takes_5 : cX2_takes.data.toList.drop 119 = dktX2_takes_5 := dk_seg dksX2_takes_4 23 rfl rfl
theorem dX2_takes_0 : decode cX2_takes 0 = .ok (.aload_n 0, 1) := dk_42 (dk_at dksX2_takes_0 0 rfl rfl)
theorem dX2_takes_1 : decode cX2_takes 1 = .ok (.invokevirtual 73, 3) := dk_182 0 73 (dk_at dksX2_takes_0 1 rfl rfl)
theorem dX2_takes_4 : decode cX2_takes 4 = .ok (.istore_n 2, 1) := dk_61 (dk_at dksX2_takes_0 4 rfl rfl)
theorem dX2_takes_5 : decode cX2_takes 5 = .ok (.aload_n 0, 1) := dk_42 (dk_at dksX2_takes_0 5 rfl rfl)
theorem dX2_takes_6 : decode cX2_takes 6 = .ok (.getfield 67, 3) := dk_180 0 67 (dk_at dksX2_takes_0 6 rfl rfl)
theorem dX2_takes_9 : decode cX2_takes 9 = .ok (.istore_n 3, 1) := dk_62 (dk_at dksX2_takes_0 9 rfl rfl)
theorem dX2_takes_10 : decode cX2_takes 10 = .ok (.iload_n 3, 1) := dk_29 (dk_at dksX2_takes_0 10 rfl rfl)
theorem dX2_takes_11 : decode cX2_takes 11 = .ok (.aload_n 0, 1) := dk_42 (dk_at dksX2_takes_0 11 rfl rfl)
theorem dX2_takes_12 : decode cX2_takes 12 = .ok (.getfield 70, 3) := dk_180 0 70 (dk_at dksX2_takes_0 12 rfl rfl)
theorem dX2_takes_15 : decode cX2_takes 15 = .ok (.if_icmp .ge 31, 3) := dk_162 0 31 (dk_at dksX2_takes_0 15 rfl rfl)
theorem dX2_takes_18 : decode cX2_takes 18 = .ok (.aload_n 0, 1) := dk_42 (dk_at dksX2_takes_0 18 rfl rfl)
theorem dX2_takes_19 : decode cX2_takes 19 = .ok (.getfield 9, 3) := dk_180 0 9 (dk_at dksX2_takes_0 19 rfl rfl)
theorem dX2_takes_22 : decode cX2_takes 22 = .ok (.iload_n 3, 1) := dk_29 (dk_at dksX2_takes_0 22 rfl rfl)
theorem dX2_takes_23 : decode cX2_takes 23 = .ok (.baload, 1) := dk_51 (dk_at dksX2_takes_0 23 rfl rfl)
theorem dX2_takes_24 : decode cX2_takes 24 = .ok (.bipush 97, 2) := dk_16 97 (dk_at dksX2_takes_1 0 rfl rfl)
theorem dX2_takes_26 : decode cX2_takes 26 = .ok (.if_icmp .lt 20, 3) := dk_161 0 20 (dk_at dksX2_takes_1 2 rfl rfl)
theorem dX2_takes_29 : decode cX2_takes 29 = .ok (.aload_n 0, 1) := dk_42 (dk_at dksX2_takes_1 5 rfl rfl)
theorem dX2_takes_30 : decode cX2_takes 30 = .ok (.getfield 9, 3) := dk_180 0 9 (dk_at dksX2_takes_1 6 rfl rfl)
theorem dX2_takes_33 : decode cX2_takes 33 = .ok (.iload_n 3, 1) := dk_29 (dk_at dksX2_takes_1 9 rfl rfl)
theorem dX2_takes_34 : decode cX2_takes 34 = .ok (.baload, 1) := dk_51 (dk_at dksX2_takes_1 10 rfl rfl)
theorem dX2_takes_35 : decode cX2_takes 35 = .ok (.bipush 122, 2) := dk_16 122 (dk_at dksX2_takes_1 11 rfl rfl)
theorem dX2_takes_37 : decode cX2_takes 37 = .ok (.if_icmp .gt 9, 3) := dk_163 0 9 (dk_at dksX2_takes_1 13 rfl rfl)
theorem dX2_takes_40 : decode cX2_takes 40 = .ok (.iinc 3 1, 3) := dk_132 3 1 (dk_at dksX2_takes_1 16 rfl rfl)
theorem dX2_takes_43 : decode cX2_takes 43 = .ok (.goto (-33), 3) := dk_167 255 223 (dk_at dksX2_takes_1 19 rfl rfl)
theorem dX2_takes_46 : decode cX2_takes 46 = .ok (.iload_n 3, 1) := dk_29 (dk_at dksX2_takes_1 22 rfl rfl)
theorem dX2_takes_47 : decode cX2_takes 47 = .ok (.aload_n 0, 1) := dk_42 (dk_at dksX2_takes_1 23 rfl rfl)
theorem dX2_takes_48 : decode cX2_takes 48 = .ok (.getfield 67, 3) := dk_180 0 67 (dk_at dksX2_takes_2 0 rfl rfl)
theorem dX2_takes_51 : decode cX2_takes 51 = .ok (.isub, 1) := dk_100 (dk_at dksX2_takes_2 3 rfl rfl)
theorem dX2_takes_52 : decode cX2_takes 52 = .ok (.aload_n 1, 1) := dk_43 (dk_at dksX2_takes_2 4 rfl rfl)
theorem dX2_takes_53 : decode cX2_takes 53 = .ok (.invokevirtual 77, 3) := dk_182 0 77 (dk_at dksX2_takes_2 5 rfl rfl)
theorem dX2_takes_56 : decode cX2_takes 56 = .ok (.if_icmp .ne 7, 3) := dk_160 0 7 (dk_at dksX2_takes_2 8 rfl rfl)
theorem dX2_takes_59 : decode cX2_takes 59 = .ok (.iconst 1, 1) := dk_4 (dk_at dksX2_takes_2 11 rfl rfl)
theorem dX2_takes_60 : decode cX2_takes 60 = .ok (.goto 4, 3) := dk_167 0 4 (dk_at dksX2_takes_2 12 rfl rfl)
theorem dX2_takes_63 : decode cX2_takes 63 = .ok (.iconst 0, 1) := dk_3 (dk_at dksX2_takes_2 15 rfl rfl)
theorem dX2_takes_64 : decode cX2_takes 64 = .ok (.istore 4, 2) := dk_54 4 (dk_at dksX2_takes_2 16 rfl rfl)
theorem dX2_takes_66 : decode cX2_takes 66 = .ok (.iconst 0, 1) := dk_3 (dk_at dksX2_takes_2 18 rfl rfl)
theorem dX2_takes_67 : decode cX2_takes 67 = .ok (.istore 5, 2) := dk_54 5 (dk_at dksX2_takes_2 19 rfl rfl)
theorem dX2_takes_69 : decode cX2_takes 69 = .ok (.iload 5, 2) := dk_21 5 (dk_at dksX2_takes_2 21 rfl rfl)
theorem dX2_takes_71 : decode cX2_takes 71 = .ok (.aload_n 1, 1) := dk_43 (dk_at dksX2_takes_2 23 rfl rfl)
theorem dX2_takes_72 : decode cX2_takes 72 = .ok (.invokevirtual 77, 3) := dk_182 0 77 (dk_at dksX2_takes_3 0 rfl rfl)
theorem dX2_takes_75 : decode cX2_takes 75 = .ok (.if_icmp .ge 42, 3) := dk_162 0 42 (dk_at dksX2_takes_3 3 rfl rfl)
theorem dX2_takes_78 : decode cX2_takes 78 = .ok (.iload 4, 2) := dk_21 4 (dk_at dksX2_takes_3 6 rfl rfl)
theorem dX2_takes_80 : decode cX2_takes 80 = .ok (.ifCond .eq 37, 3) := dk_153 0 37 (dk_at dksX2_takes_3 8 rfl rfl)
theorem dX2_takes_83 : decode cX2_takes 83 = .ok (.aload_n 0, 1) := dk_42 (dk_at dksX2_takes_3 11 rfl rfl)
theorem dX2_takes_84 : decode cX2_takes 84 = .ok (.getfield 9, 3) := dk_180 0 9 (dk_at dksX2_takes_3 12 rfl rfl)
theorem dX2_takes_87 : decode cX2_takes 87 = .ok (.aload_n 0, 1) := dk_42 (dk_at dksX2_takes_3 15 rfl rfl)
theorem dX2_takes_88 : decode cX2_takes 88 = .ok (.getfield 67, 3) := dk_180 0 67 (dk_at dksX2_takes_3 16 rfl rfl)
theorem dX2_takes_91 : decode cX2_takes 91 = .ok (.iload 5, 2) := dk_21 5 (dk_at dksX2_takes_3 19 rfl rfl)
theorem dX2_takes_93 : decode cX2_takes 93 = .ok (.iadd, 1) := dk_96 (dk_at dksX2_takes_3 21 rfl rfl)
theorem dX2_takes_94 : decode cX2_takes 94 = .ok (.baload, 1) := dk_51 (dk_at dksX2_takes_3 22 rfl rfl)
theorem dX2_takes_95 : decode cX2_takes 95 = .ok (.aload_n 1, 1) := dk_43 (dk_at dksX2_takes_3 23 rfl rfl)
theorem dX2_takes_96 : decode cX2_takes 96 = .ok (.iload 5, 2) := dk_21 5 (dk_at dksX2_takes_4 0 rfl rfl)
theorem dX2_takes_98 : decode cX2_takes 98 = .ok (.invokevirtual 80, 3) := dk_182 0 80 (dk_at dksX2_takes_4 2 rfl rfl)
theorem dX2_takes_101 : decode cX2_takes 101 = .ok (.if_icmp .ne 7, 3) := dk_160 0 7 (dk_at dksX2_takes_4 5 rfl rfl)
theorem dX2_takes_104 : decode cX2_takes 104 = .ok (.iconst 1, 1) := dk_4 (dk_at dksX2_takes_4 8 rfl rfl)
theorem dX2_takes_105 : decode cX2_takes 105 = .ok (.goto 4, 3) := dk_167 0 4 (dk_at dksX2_takes_4 9 rfl rfl)
theorem dX2_takes_108 : decode cX2_takes 108 = .ok (.iconst 0, 1) := dk_3 (dk_at dksX2_takes_4 12 rfl rfl)
theorem dX2_takes_109 : decode cX2_takes 109 = .ok (.istore 4, 2) := dk_54 4 (dk_at dksX2_takes_4 13 rfl rfl)
theorem dX2_takes_111 : decode cX2_takes 111 = .ok (.iinc 5 1, 3) := dk_132 5 1 (dk_at dksX2_takes_4 15 rfl rfl)
theorem dX2_takes_114 : decode cX2_takes 114 = .ok (.goto (-45), 3) := dk_167 255 211 (dk_at dksX2_takes_4 18 rfl rfl)
theorem dX2_takes_117 : decode cX2_takes 117 = .ok (.iload 4, 2) := dk_21 4 (dk_at dksX2_takes_4 21 rfl rfl)
theorem dX2_takes_119 : decode cX2_takes 119 = .ok (.ifCond .eq 8, 3) := dk_153 0 8 (dk_at dksX2_takes_5 0 rfl rfl)
theorem dX2_takes_122 : decode cX2_takes 122 = .ok (.aload_n 0, 1) := dk_42 (dk_at dksX2_takes_5 3 rfl rfl)
theorem dX2_takes_123 : decode cX2_takes 123 = .ok (.iload_n 3, 1) := dk_29 (dk_at dksX2_takes_5 4 rfl rfl)
theorem dX2_takes_124 : decode cX2_takes 124 = .ok (.putfield 67, 3) := dk_181 0 67 (dk_at dksX2_takes_5 5 rfl rfl)
theorem dX2_takes_127 : decode cX2_takes 127 = .ok (.iload 4, 2) := dk_21 4 (dk_at dksX2_takes_5 8 rfl rfl)
theorem dX2_takes_129 : decode cX2_takes 129 = .ok (.ireturn, 1) := dk_172 (dk_at dksX2_takes_5 10 rfl rfl)
abbrev cX2_number : ByteArray := prog_12_method_7_code
def yX2_number : MethodName := ⟨RX2, "number", "(II)I"⟩
def dkwX2_number_5 : List UInt8 := [21, 5, 27, 161, 0, 9, 21, 5, 28, 164, 0, 9, 42, 21, 4, 182, 0, 88, 21, 5, 172]
abbrev dktX2_number_5 : List UInt8 := dkwX2_number_5 ++ []
def dkwX2_number_4 : List UInt8 := [54, 5, 42, 89, 180, 0, 67, 4, 96, 181, 0, 67, 167, 255, 167, 42, 180, 0, 67, 21, 4, 159, 0, 15]
abbrev dktX2_number_4 : List UInt8 := dkwX2_number_4 ++ dktX2_number_5
def dkwX2_number_3 : List UInt8 := [21, 4, 182, 0, 88, 16, 10, 21, 5, 104, 42, 180, 0, 9, 42, 180, 0, 67, 51, 96, 16, 48, 100]
abbrev dktX2_number_3 : List UInt8 := dkwX2_number_3 ++ dktX2_number_4
def dkwX2_number_2 : List UInt8 := [180, 0, 67, 51, 16, 57, 163, 0, 56, 42, 180, 0, 67, 21, 4, 100, 42, 180, 0, 92, 160, 0, 9, 42]
abbrev dktX2_number_2 : List UInt8 := dkwX2_number_2 ++ dktX2_number_3
def dkwX2_number_1 : List UInt8 := [162, 0, 84, 42, 180, 0, 9, 42, 180, 0, 67, 51, 16, 48, 161, 0, 70, 42, 180, 0, 9, 42]
abbrev dktX2_number_1 : List UInt8 := dkwX2_number_1 ++ dktX2_number_2
def dkwX2_number_0 : List UInt8 := [42, 182, 0, 73, 62, 42, 180, 0, 67, 54, 4, 3, 54, 5, 42, 180, 0, 67, 42, 180, 0, 70]
abbrev dktX2_number_0 : List UInt8 := dkwX2_number_0 ++ dktX2_number_1
theorem dksX2_number_0 : cX2_number.data.toList.drop 0 = dktX2_number_0 := by decide +kernel
theorem dksX2_number_1 : cX2_number.data.toList.drop 22 = dktX2_number_1 := dk_seg dksX2_number_0 22 rfl rfl
theorem dksX2_number_2 : cX2_number.data.toList.drop 44 = dktX2_number_2 := dk_seg dksX2_number_1 22 rfl rfl
theorem dksX2_number_3 : cX2_number.data.toList.drop 68 = dktX2_number_3 := dk_seg dksX2_number_2 24 rfl rfl
theorem dksX2_number_4 : cX2_number.data.toList.drop 91 = dktX2_number_4 := dk_seg dksX2_number_3 23 rfl rfl
theorem dksX2_number_5 : cX2_number.data.toList.drop 115 = dktX2_number_5 := dk_seg dksX2_number_4 24 rfl rfl
theorem dX2_number_0 : decode cX2_number 0 = .ok (.aload_n 0, 1) := dk_42 (dk_at dksX2_number_0 0 rfl rfl)
theorem dX2_number_1 : decode cX2_number 1 = .ok (.invokevirtual 73, 3) := dk_182 0 73 (dk_at dksX2_number_0 1 rfl rfl)
theorem dX2_number_4 : decode cX2_number 4 = .ok (.istore_n 3, 1) := dk_62 (dk_at dksX2_number_0 4 rfl rfl)
theorem dX2_number_5 : decode cX2_number 5 = .ok (.aload_n 0, 1) := dk_42 (dk_at dksX2_number_0 5 rfl rfl)
theorem dX2_number_6 : decode cX2_number 6 = .ok (.getfield 67, 3) := dk_180 0 67 (dk_at dksX2_number_0 6 rfl rfl)
theorem dX2_number_9 : decode cX2_number 9 = .ok (.istore 4, 2) := dk_54 4 (dk_at dksX2_number_0 9 rfl rfl)
theorem dX2_number_11 : decode cX2_number 11 = .ok (.iconst 0, 1) := dk_3 (dk_at dksX2_number_0 11 rfl rfl)
theorem dX2_number_12 : decode cX2_number 12 = .ok (.istore 5, 2) := dk_54 5 (dk_at dksX2_number_0 12 rfl rfl)
theorem dX2_number_14 : decode cX2_number 14 = .ok (.aload_n 0, 1) := dk_42 (dk_at dksX2_number_0 14 rfl rfl)
theorem dX2_number_15 : decode cX2_number 15 = .ok (.getfield 67, 3) := dk_180 0 67 (dk_at dksX2_number_0 15 rfl rfl)
theorem dX2_number_18 : decode cX2_number 18 = .ok (.aload_n 0, 1) := dk_42 (dk_at dksX2_number_0 18 rfl rfl)
theorem dX2_number_19 : decode cX2_number 19 = .ok (.getfield 70, 3) := dk_180 0 70 (dk_at dksX2_number_0 19 rfl rfl)
theorem dX2_number_22 : decode cX2_number 22 = .ok (.if_icmp .ge 84, 3) := dk_162 0 84 (dk_at dksX2_number_1 0 rfl rfl)
theorem dX2_number_25 : decode cX2_number 25 = .ok (.aload_n 0, 1) := dk_42 (dk_at dksX2_number_1 3 rfl rfl)
theorem dX2_number_26 : decode cX2_number 26 = .ok (.getfield 9, 3) := dk_180 0 9 (dk_at dksX2_number_1 4 rfl rfl)
theorem dX2_number_29 : decode cX2_number 29 = .ok (.aload_n 0, 1) := dk_42 (dk_at dksX2_number_1 7 rfl rfl)
theorem dX2_number_30 : decode cX2_number 30 = .ok (.getfield 67, 3) := dk_180 0 67 (dk_at dksX2_number_1 8 rfl rfl)
theorem dX2_number_33 : decode cX2_number 33 = .ok (.baload, 1) := dk_51 (dk_at dksX2_number_1 11 rfl rfl)
theorem dX2_number_34 : decode cX2_number 34 = .ok (.bipush 48, 2) := dk_16 48 (dk_at dksX2_number_1 12 rfl rfl)
theorem dX2_number_36 : decode cX2_number 36 = .ok (.if_icmp .lt 70, 3) := dk_161 0 70 (dk_at dksX2_number_1 14 rfl rfl)
theorem dX2_number_39 : decode cX2_number 39 = .ok (.aload_n 0, 1) := dk_42 (dk_at dksX2_number_1 17 rfl rfl)
theorem dX2_number_40 : decode cX2_number 40 = .ok (.getfield 9, 3) := dk_180 0 9 (dk_at dksX2_number_1 18 rfl rfl)
theorem dX2_number_43 : decode cX2_number 43 = .ok (.aload_n 0, 1) := dk_42 (dk_at dksX2_number_1 21 rfl rfl)
theorem dX2_number_44 : decode cX2_number 44 = .ok (.getfield 67, 3) := dk_180 0 67 (dk_at dksX2_number_2 0 rfl rfl)
theorem dX2_number_47 : decode cX2_number 47 = .ok (.baload, 1) := dk_51 (dk_at dksX2_number_2 3 rfl rfl)
theorem dX2_number_48 : decode cX2_number 48 = .ok (.bipush 57, 2) := dk_16 57 (dk_at dksX2_number_2 4 rfl rfl)
theorem dX2_number_50 : decode cX2_number 50 = .ok (.if_icmp .gt 56, 3) := dk_163 0 56 (dk_at dksX2_number_2 6 rfl rfl)
theorem dX2_number_53 : decode cX2_number 53 = .ok (.aload_n 0, 1) := dk_42 (dk_at dksX2_number_2 9 rfl rfl)
theorem dX2_number_54 : decode cX2_number 54 = .ok (.getfield 67, 3) := dk_180 0 67 (dk_at dksX2_number_2 10 rfl rfl)
theorem dX2_number_57 : decode cX2_number 57 = .ok (.iload 4, 2) := dk_21 4 (dk_at dksX2_number_2 13 rfl rfl)
theorem dX2_number_59 : decode cX2_number 59 = .ok (.isub, 1) := dk_100 (dk_at dksX2_number_2 15 rfl rfl)
theorem dX2_number_60 : decode cX2_number 60 = .ok (.aload_n 0, 1) := dk_42 (dk_at dksX2_number_2 16 rfl rfl)
theorem dX2_number_61 : decode cX2_number 61 = .ok (.getfield 92, 3) := dk_180 0 92 (dk_at dksX2_number_2 17 rfl rfl)
theorem dX2_number_64 : decode cX2_number 64 = .ok (.if_icmp .ne 9, 3) := dk_160 0 9 (dk_at dksX2_number_2 20 rfl rfl)
theorem dX2_number_67 : decode cX2_number 67 = .ok (.aload_n 0, 1) := dk_42 (dk_at dksX2_number_2 23 rfl rfl)
theorem dX2_number_68 : decode cX2_number 68 = .ok (.iload 4, 2) := dk_21 4 (dk_at dksX2_number_3 0 rfl rfl)
theorem dX2_number_70 : decode cX2_number 70 = .ok (.invokevirtual 88, 3) := dk_182 0 88 (dk_at dksX2_number_3 2 rfl rfl)
theorem dX2_number_73 : decode cX2_number 73 = .ok (.bipush 10, 2) := dk_16 10 (dk_at dksX2_number_3 5 rfl rfl)
theorem dX2_number_75 : decode cX2_number 75 = .ok (.iload 5, 2) := dk_21 5 (dk_at dksX2_number_3 7 rfl rfl)
theorem dX2_number_77 : decode cX2_number 77 = .ok (.imul, 1) := dk_104 (dk_at dksX2_number_3 9 rfl rfl)
theorem dX2_number_78 : decode cX2_number 78 = .ok (.aload_n 0, 1) := dk_42 (dk_at dksX2_number_3 10 rfl rfl)
theorem dX2_number_79 : decode cX2_number 79 = .ok (.getfield 9, 3) := dk_180 0 9 (dk_at dksX2_number_3 11 rfl rfl)
theorem dX2_number_82 : decode cX2_number 82 = .ok (.aload_n 0, 1) := dk_42 (dk_at dksX2_number_3 14 rfl rfl)
theorem dX2_number_83 : decode cX2_number 83 = .ok (.getfield 67, 3) := dk_180 0 67 (dk_at dksX2_number_3 15 rfl rfl)
theorem dX2_number_86 : decode cX2_number 86 = .ok (.baload, 1) := dk_51 (dk_at dksX2_number_3 18 rfl rfl)
theorem dX2_number_87 : decode cX2_number 87 = .ok (.iadd, 1) := dk_96 (dk_at dksX2_number_3 19 rfl rfl)
theorem dX2_number_88 : decode cX2_number 88 = .ok (.bipush 48, 2) := dk_16 48 (dk_at dksX2_number_3 20 rfl rfl)
theorem dX2_number_90 : decode cX2_number 90 = .ok (.isub, 1) := dk_100 (dk_at dksX2_number_3 22 rfl rfl)
theorem dX2_number_91 : decode cX2_number 91 = .ok (.istore 5, 2) := dk_54 5 (dk_at dksX2_number_4 0 rfl rfl)
theorem dX2_number_93 : decode cX2_number 93 = .ok (.aload_n 0, 1) := dk_42 (dk_at dksX2_number_4 2 rfl rfl)
theorem dX2_number_94 : decode cX2_number 94 = .ok (.dup, 1) := dk_89 (dk_at dksX2_number_4 3 rfl rfl)
theorem dX2_number_95 : decode cX2_number 95 = .ok (.getfield 67, 3) := dk_180 0 67 (dk_at dksX2_number_4 4 rfl rfl)
theorem dX2_number_98 : decode cX2_number 98 = .ok (.iconst 1, 1) := dk_4 (dk_at dksX2_number_4 7 rfl rfl)
theorem dX2_number_99 : decode cX2_number 99 = .ok (.iadd, 1) := dk_96 (dk_at dksX2_number_4 8 rfl rfl)
theorem dX2_number_100 : decode cX2_number 100 = .ok (.putfield 67, 3) := dk_181 0 67 (dk_at dksX2_number_4 9 rfl rfl)
theorem dX2_number_103 : decode cX2_number 103 = .ok (.goto (-89), 3) := dk_167 255 167 (dk_at dksX2_number_4 12 rfl rfl)
theorem dX2_number_106 : decode cX2_number 106 = .ok (.aload_n 0, 1) := dk_42 (dk_at dksX2_number_4 15 rfl rfl)
theorem dX2_number_107 : decode cX2_number 107 = .ok (.getfield 67, 3) := dk_180 0 67 (dk_at dksX2_number_4 16 rfl rfl)
theorem dX2_number_110 : decode cX2_number 110 = .ok (.iload 4, 2) := dk_21 4 (dk_at dksX2_number_4 19 rfl rfl)
theorem dX2_number_112 : decode cX2_number 112 = .ok (.if_icmp .eq 15, 3) := dk_159 0 15 (dk_at dksX2_number_4 21 rfl rfl)
theorem dX2_number_115 : decode cX2_number 115 = .ok (.iload 5, 2) := dk_21 5 (dk_at dksX2_number_5 0 rfl rfl)
theorem dX2_number_117 : decode cX2_number 117 = .ok (.iload_n 1, 1) := dk_27 (dk_at dksX2_number_5 2 rfl rfl)
theorem dX2_number_118 : decode cX2_number 118 = .ok (.if_icmp .lt 9, 3) := dk_161 0 9 (dk_at dksX2_number_5 3 rfl rfl)
theorem dX2_number_121 : decode cX2_number 121 = .ok (.iload 5, 2) := dk_21 5 (dk_at dksX2_number_5 6 rfl rfl)
theorem dX2_number_123 : decode cX2_number 123 = .ok (.iload_n 2, 1) := dk_28 (dk_at dksX2_number_5 8 rfl rfl)
theorem dX2_number_124 : decode cX2_number 124 = .ok (.if_icmp .le 9, 3) := dk_164 0 9 (dk_at dksX2_number_5 9 rfl rfl)
theorem dX2_number_127 : decode cX2_number 127 = .ok (.aload_n 0, 1) := dk_42 (dk_at dksX2_number_5 12 rfl rfl)
theorem dX2_number_128 : decode cX2_number 128 = .ok (.iload 4, 2) := dk_21 4 (dk_at dksX2_number_5 13 rfl rfl)
theorem dX2_number_130 : decode cX2_number 130 = .ok (.invokevirtual 88, 3) := dk_182 0 88 (dk_at dksX2_number_5 15 rfl rfl)
theorem dX2_number_133 : decode cX2_number 133 = .ok (.iload 5, 2) := dk_21 5 (dk_at dksX2_number_5 18 rfl rfl)
theorem dX2_number_135 : decode cX2_number 135 = .ok (.ireturn, 1) := dk_172 (dk_at dksX2_number_5 20 rfl rfl)
abbrev cX2_addSection : ByteArray := prog_12_method_15_code
def yX2_addSection : MethodName := ⟨RX2, "addSection", "(I)V"⟩
def dkwX2_addSection_4 : List UInt8 := [177]
abbrev dktX2_addSection_4 : List UInt8 := dkwX2_addSection_4 ++ []
def dkwX2_addSection_3 : List UInt8 := [182, 0, 118, 181, 0, 210, 42, 45, 182, 0, 195, 42, 180, 0, 52, 89, 180, 0, 204, 4, 96, 181, 0, 204]
abbrev dktX2_addSection_3 : List UInt8 := dkwX2_addSection_3 ++ dktX2_addSection_4
def dkwX2_addSection_2 : List UInt8 := [180, 0, 52, 180, 0, 207, 28, 4, 100, 50, 180, 0, 210, 4, 96, 42, 180, 0, 52, 180, 0, 122, 4, 100]
abbrev dktX2_addSection_2 : List UInt8 := dkwX2_addSection_2 ++ dktX2_addSection_3
def dkwX2_addSection_1 : List UInt8 := [180, 0, 207, 28, 50, 78, 45, 28, 154, 0, 12, 42, 3, 3, 182, 0, 118, 167, 0, 32, 42, 42]
abbrev dktX2_addSection_1 : List UInt8 := dkwX2_addSection_1 ++ dktX2_addSection_2
def dkwX2_addSection_0 : List UInt8 := [42, 180, 0, 52, 180, 0, 204, 61, 28, 16, 8, 160, 0, 8, 42, 27, 182, 0, 88, 42, 180, 0, 52]
abbrev dktX2_addSection_0 : List UInt8 := dkwX2_addSection_0 ++ dktX2_addSection_1
theorem dksX2_addSection_0 : cX2_addSection.data.toList.drop 0 = dktX2_addSection_0 := by decide +kernel
theorem dksX2_addSection_1 : cX2_addSection.data.toList.drop 23 = dktX2_addSection_1 := dk_seg dksX2_addSection_0 23 rfl rfl
theorem dksX2_addSection_2 : cX2_addSection.data.toList.drop 45 = dktX2_addSection_2 := dk_seg dksX2_addSection_1 22 rfl rfl
theorem dksX2_addSection_3 : cX2_addSection.data.toList.drop 69 = dktX2_addSection_3 := dk_seg dksX2_addSection_2 24 rfl rfl
theorem dksX2_addSection_4 : cX2_addSection.data.toList.drop 93 = dktX2_addSection_4 := dk_seg dksX2_addSection_3 24 rfl rfl
theorem dX2_addSection_0 : decode cX2_addSection 0 = .ok (.aload_n 0, 1) := dk_42 (dk_at dksX2_addSection_0 0 rfl rfl)
theorem dX2_addSection_1 : decode cX2_addSection 1 = .ok (.getfield 52, 3) := dk_180 0 52 (dk_at dksX2_addSection_0 1 rfl rfl)
theorem dX2_addSection_4 : decode cX2_addSection 4 = .ok (.getfield 204, 3) := dk_180 0 204 (dk_at dksX2_addSection_0 4 rfl rfl)
theorem dX2_addSection_7 : decode cX2_addSection 7 = .ok (.istore_n 2, 1) := dk_61 (dk_at dksX2_addSection_0 7 rfl rfl)
theorem dX2_addSection_8 : decode cX2_addSection 8 = .ok (.iload_n 2, 1) := dk_28 (dk_at dksX2_addSection_0 8 rfl rfl)
theorem dX2_addSection_9 : decode cX2_addSection 9 = .ok (.bipush 8, 2) := dk_16 8 (dk_at dksX2_addSection_0 9 rfl rfl)
theorem dX2_addSection_11 : decode cX2_addSection 11 = .ok (.if_icmp .ne 8, 3) := dk_160 0 8 (dk_at dksX2_addSection_0 11 rfl rfl)
theorem dX2_addSection_14 : decode cX2_addSection 14 = .ok (.aload_n 0, 1) := dk_42 (dk_at dksX2_addSection_0 14 rfl rfl)
theorem dX2_addSection_15 : decode cX2_addSection 15 = .ok (.iload_n 1, 1) := dk_27 (dk_at dksX2_addSection_0 15 rfl rfl)
theorem dX2_addSection_16 : decode cX2_addSection 16 = .ok (.invokevirtual 88, 3) := dk_182 0 88 (dk_at dksX2_addSection_0 16 rfl rfl)
theorem dX2_addSection_19 : decode cX2_addSection 19 = .ok (.aload_n 0, 1) := dk_42 (dk_at dksX2_addSection_0 19 rfl rfl)
theorem dX2_addSection_20 : decode cX2_addSection 20 = .ok (.getfield 52, 3) := dk_180 0 52 (dk_at dksX2_addSection_0 20 rfl rfl)
theorem dX2_addSection_23 : decode cX2_addSection 23 = .ok (.getfield 207, 3) := dk_180 0 207 (dk_at dksX2_addSection_1 0 rfl rfl)
theorem dX2_addSection_26 : decode cX2_addSection 26 = .ok (.iload_n 2, 1) := dk_28 (dk_at dksX2_addSection_1 3 rfl rfl)
theorem dX2_addSection_27 : decode cX2_addSection 27 = .ok (.aaload, 1) := dk_50 (dk_at dksX2_addSection_1 4 rfl rfl)
theorem dX2_addSection_28 : decode cX2_addSection 28 = .ok (.astore_n 3, 1) := dk_78 (dk_at dksX2_addSection_1 5 rfl rfl)
theorem dX2_addSection_29 : decode cX2_addSection 29 = .ok (.aload_n 3, 1) := dk_45 (dk_at dksX2_addSection_1 6 rfl rfl)
theorem dX2_addSection_30 : decode cX2_addSection 30 = .ok (.iload_n 2, 1) := dk_28 (dk_at dksX2_addSection_1 7 rfl rfl)
theorem dX2_addSection_31 : decode cX2_addSection 31 = .ok (.ifCond .ne 12, 3) := dk_154 0 12 (dk_at dksX2_addSection_1 8 rfl rfl)
theorem dX2_addSection_34 : decode cX2_addSection 34 = .ok (.aload_n 0, 1) := dk_42 (dk_at dksX2_addSection_1 11 rfl rfl)
theorem dX2_addSection_35 : decode cX2_addSection 35 = .ok (.iconst 0, 1) := dk_3 (dk_at dksX2_addSection_1 12 rfl rfl)
theorem dX2_addSection_36 : decode cX2_addSection 36 = .ok (.iconst 0, 1) := dk_3 (dk_at dksX2_addSection_1 13 rfl rfl)
theorem dX2_addSection_37 : decode cX2_addSection 37 = .ok (.invokevirtual 118, 3) := dk_182 0 118 (dk_at dksX2_addSection_1 14 rfl rfl)
theorem dX2_addSection_40 : decode cX2_addSection 40 = .ok (.goto 32, 3) := dk_167 0 32 (dk_at dksX2_addSection_1 17 rfl rfl)
theorem dX2_addSection_43 : decode cX2_addSection 43 = .ok (.aload_n 0, 1) := dk_42 (dk_at dksX2_addSection_1 20 rfl rfl)
theorem dX2_addSection_44 : decode cX2_addSection 44 = .ok (.aload_n 0, 1) := dk_42 (dk_at dksX2_addSection_1 21 rfl rfl)
theorem dX2_addSection_45 : decode cX2_addSection 45 = .ok (.getfield 52, 3) := dk_180 0 52 (dk_at dksX2_addSection_2 0 rfl rfl)
theorem dX2_addSection_48 : decode cX2_addSection 48 = .ok (.getfield 207, 3) := dk_180 0 207 (dk_at dksX2_addSection_2 3 rfl rfl)
theorem dX2_addSection_51 : decode cX2_addSection 51 = .ok (.iload_n 2, 1) := dk_28 (dk_at dksX2_addSection_2 6 rfl rfl)
theorem dX2_addSection_52 : decode cX2_addSection 52 = .ok (.iconst 1, 1) := dk_4 (dk_at dksX2_addSection_2 7 rfl rfl)
theorem dX2_addSection_53 : decode cX2_addSection 53 = .ok (.isub, 1) := dk_100 (dk_at dksX2_addSection_2 8 rfl rfl)
theorem dX2_addSection_54 : decode cX2_addSection 54 = .ok (.aaload, 1) := dk_50 (dk_at dksX2_addSection_2 9 rfl rfl)
theorem dX2_addSection_55 : decode cX2_addSection 55 = .ok (.getfield 210, 3) := dk_180 0 210 (dk_at dksX2_addSection_2 10 rfl rfl)
theorem dX2_addSection_58 : decode cX2_addSection 58 = .ok (.iconst 1, 1) := dk_4 (dk_at dksX2_addSection_2 13 rfl rfl)
theorem dX2_addSection_59 : decode cX2_addSection 59 = .ok (.iadd, 1) := dk_96 (dk_at dksX2_addSection_2 14 rfl rfl)
theorem dX2_addSection_60 : decode cX2_addSection 60 = .ok (.aload_n 0, 1) := dk_42 (dk_at dksX2_addSection_2 15 rfl rfl)
theorem dX2_addSection_61 : decode cX2_addSection 61 = .ok (.getfield 52, 3) := dk_180 0 52 (dk_at dksX2_addSection_2 16 rfl rfl)
theorem dX2_addSection_64 : decode cX2_addSection 64 = .ok (.getfield 122, 3) := dk_180 0 122 (dk_at dksX2_addSection_2 19 rfl rfl)
theorem dX2_addSection_67 : decode cX2_addSection 67 = .ok (.iconst 1, 1) := dk_4 (dk_at dksX2_addSection_2 22 rfl rfl)
theorem dX2_addSection_68 : decode cX2_addSection 68 = .ok (.isub, 1) := dk_100 (dk_at dksX2_addSection_2 23 rfl rfl)
theorem dX2_addSection_69 : decode cX2_addSection 69 = .ok (.invokevirtual 118, 3) := dk_182 0 118 (dk_at dksX2_addSection_3 0 rfl rfl)
theorem dX2_addSection_72 : decode cX2_addSection 72 = .ok (.putfield 210, 3) := dk_181 0 210 (dk_at dksX2_addSection_3 3 rfl rfl)
theorem dX2_addSection_75 : decode cX2_addSection 75 = .ok (.aload_n 0, 1) := dk_42 (dk_at dksX2_addSection_3 6 rfl rfl)
theorem dX2_addSection_76 : decode cX2_addSection 76 = .ok (.aload_n 3, 1) := dk_45 (dk_at dksX2_addSection_3 7 rfl rfl)
theorem dX2_addSection_77 : decode cX2_addSection 77 = .ok (.invokevirtual 195, 3) := dk_182 0 195 (dk_at dksX2_addSection_3 8 rfl rfl)
theorem dX2_addSection_80 : decode cX2_addSection 80 = .ok (.aload_n 0, 1) := dk_42 (dk_at dksX2_addSection_3 11 rfl rfl)
theorem dX2_addSection_81 : decode cX2_addSection 81 = .ok (.getfield 52, 3) := dk_180 0 52 (dk_at dksX2_addSection_3 12 rfl rfl)
theorem dX2_addSection_84 : decode cX2_addSection 84 = .ok (.dup, 1) := dk_89 (dk_at dksX2_addSection_3 15 rfl rfl)
theorem dX2_addSection_85 : decode cX2_addSection 85 = .ok (.getfield 204, 3) := dk_180 0 204 (dk_at dksX2_addSection_3 16 rfl rfl)
theorem dX2_addSection_88 : decode cX2_addSection 88 = .ok (.iconst 1, 1) := dk_4 (dk_at dksX2_addSection_3 19 rfl rfl)
theorem dX2_addSection_89 : decode cX2_addSection 89 = .ok (.iadd, 1) := dk_96 (dk_at dksX2_addSection_3 20 rfl rfl)
theorem dX2_addSection_90 : decode cX2_addSection 90 = .ok (.putfield 204, 3) := dk_181 0 204 (dk_at dksX2_addSection_3 21 rfl rfl)
theorem dX2_addSection_93 : decode cX2_addSection 93 = .ok (.return_, 1) := dk_177 (dk_at dksX2_addSection_4 0 rfl rfl)
abbrev cX2_speeds : ByteArray := prog_12_method_14_code
def yX2_speeds : MethodName := ⟨RX2, "speeds", "(LGlacierMail$Section;)V"⟩
def dkwX2_speeds_1 : List UInt8 := [182, 0, 118, 79, 132, 2, 1, 167, 255, 229, 177]
abbrev dktX2_speeds_1 : List UInt8 := dkwX2_speeds_1 ++ []
def dkwX2_speeds_0 : List UInt8 := [3, 61, 28, 42, 180, 0, 52, 180, 0, 115, 162, 0, 22, 43, 180, 0, 199, 28, 42, 3, 16, 20]
abbrev dktX2_speeds_0 : List UInt8 := dkwX2_speeds_0 ++ dktX2_speeds_1
theorem dksX2_speeds_0 : cX2_speeds.data.toList.drop 0 = dktX2_speeds_0 := by decide +kernel
theorem dksX2_speeds_1 : cX2_speeds.data.toList.drop 22 = dktX2_speeds_1 := dk_seg dksX2_speeds_0 22 rfl rfl
theorem dX2_speeds_0 : decode cX2_speeds 0 = .ok (.iconst 0, 1) := dk_3 (dk_at dksX2_speeds_0 0 rfl rfl)
theorem dX2_speeds_1 : decode cX2_speeds 1 = .ok (.istore_n 2, 1) := dk_61 (dk_at dksX2_speeds_0 1 rfl rfl)
theorem dX2_speeds_2 : decode cX2_speeds 2 = .ok (.iload_n 2, 1) := dk_28 (dk_at dksX2_speeds_0 2 rfl rfl)
theorem dX2_speeds_3 : decode cX2_speeds 3 = .ok (.aload_n 0, 1) := dk_42 (dk_at dksX2_speeds_0 3 rfl rfl)
theorem dX2_speeds_4 : decode cX2_speeds 4 = .ok (.getfield 52, 3) := dk_180 0 52 (dk_at dksX2_speeds_0 4 rfl rfl)
theorem dX2_speeds_7 : decode cX2_speeds 7 = .ok (.getfield 115, 3) := dk_180 0 115 (dk_at dksX2_speeds_0 7 rfl rfl)
theorem dX2_speeds_10 : decode cX2_speeds 10 = .ok (.if_icmp .ge 22, 3) := dk_162 0 22 (dk_at dksX2_speeds_0 10 rfl rfl)
theorem dX2_speeds_13 : decode cX2_speeds 13 = .ok (.aload_n 1, 1) := dk_43 (dk_at dksX2_speeds_0 13 rfl rfl)
theorem dX2_speeds_14 : decode cX2_speeds 14 = .ok (.getfield 199, 3) := dk_180 0 199 (dk_at dksX2_speeds_0 14 rfl rfl)
theorem dX2_speeds_17 : decode cX2_speeds 17 = .ok (.iload_n 2, 1) := dk_28 (dk_at dksX2_speeds_0 17 rfl rfl)
theorem dX2_speeds_18 : decode cX2_speeds 18 = .ok (.aload_n 0, 1) := dk_42 (dk_at dksX2_speeds_0 18 rfl rfl)
theorem dX2_speeds_19 : decode cX2_speeds 19 = .ok (.iconst 0, 1) := dk_3 (dk_at dksX2_speeds_0 19 rfl rfl)
theorem dX2_speeds_20 : decode cX2_speeds 20 = .ok (.bipush 20, 2) := dk_16 20 (dk_at dksX2_speeds_0 20 rfl rfl)
theorem dX2_speeds_22 : decode cX2_speeds 22 = .ok (.invokevirtual 118, 3) := dk_182 0 118 (dk_at dksX2_speeds_1 0 rfl rfl)
theorem dX2_speeds_25 : decode cX2_speeds 25 = .ok (.iastore, 1) := dk_79 (dk_at dksX2_speeds_1 3 rfl rfl)
theorem dX2_speeds_26 : decode cX2_speeds 26 = .ok (.iinc 2 1, 3) := dk_132 2 1 (dk_at dksX2_speeds_1 4 rfl rfl)
theorem dX2_speeds_29 : decode cX2_speeds 29 = .ok (.goto (-27), 3) := dk_167 255 229 (dk_at dksX2_speeds_1 7 rfl rfl)
theorem dX2_speeds_32 : decode cX2_speeds 32 = .ok (.return_, 1) := dk_177 (dk_at dksX2_speeds_1 10 rfl rfl)
abbrev cX2_place : ByteArray := prog_12_method_12_code
def yX2_place : MethodName := ⟨RX2, "place", "()I"⟩
def dkwX2_place_0 : List UInt8 := [42, 3, 42, 180, 0, 52, 180, 0, 122, 4, 100, 182, 0, 118, 172]
abbrev dktX2_place_0 : List UInt8 := dkwX2_place_0 ++ []
theorem dksX2_place_0 : cX2_place.data.toList.drop 0 = dktX2_place_0 := by decide +kernel
theorem dX2_place_0 : decode cX2_place 0 = .ok (.aload_n 0, 1) := dk_42 (dk_at dksX2_place_0 0 rfl rfl)
theorem dX2_place_1 : decode cX2_place 1 = .ok (.iconst 0, 1) := dk_3 (dk_at dksX2_place_0 1 rfl rfl)
theorem dX2_place_2 : decode cX2_place 2 = .ok (.aload_n 0, 1) := dk_42 (dk_at dksX2_place_0 2 rfl rfl)
theorem dX2_place_3 : decode cX2_place 3 = .ok (.getfield 52, 3) := dk_180 0 52 (dk_at dksX2_place_0 3 rfl rfl)
theorem dX2_place_6 : decode cX2_place 6 = .ok (.getfield 122, 3) := dk_180 0 122 (dk_at dksX2_place_0 6 rfl rfl)
theorem dX2_place_9 : decode cX2_place 9 = .ok (.iconst 1, 1) := dk_4 (dk_at dksX2_place_0 9 rfl rfl)
theorem dX2_place_10 : decode cX2_place 10 = .ok (.isub, 1) := dk_100 (dk_at dksX2_place_0 10 rfl rfl)
theorem dX2_place_11 : decode cX2_place 11 = .ok (.invokevirtual 118, 3) := dk_182 0 118 (dk_at dksX2_place_0 11 rfl rfl)
theorem dX2_place_14 : decode cX2_place 14 = .ok (.ireturn, 1) := dk_172 (dk_at dksX2_place_0 14 rfl rfl)
abbrev cX2_expect : ByteArray := prog_12_method_6_code
def yX2_expect : MethodName := ⟨RX2, "expect", "(Ljava/lang/String;)V"⟩
def dkwX2_expect_0 : List UInt8 := [42, 43, 182, 0, 84, 154, 0, 11, 42, 42, 180, 0, 67, 182, 0, 88, 177]
abbrev dktX2_expect_0 : List UInt8 := dkwX2_expect_0 ++ []
theorem dksX2_expect_0 : cX2_expect.data.toList.drop 0 = dktX2_expect_0 := by decide +kernel
theorem dX2_expect_0 : decode cX2_expect 0 = .ok (.aload_n 0, 1) := dk_42 (dk_at dksX2_expect_0 0 rfl rfl)
theorem dX2_expect_1 : decode cX2_expect 1 = .ok (.aload_n 1, 1) := dk_43 (dk_at dksX2_expect_0 1 rfl rfl)
theorem dX2_expect_2 : decode cX2_expect 2 = .ok (.invokevirtual 84, 3) := dk_182 0 84 (dk_at dksX2_expect_0 2 rfl rfl)
theorem dX2_expect_5 : decode cX2_expect 5 = .ok (.ifCond .ne 11, 3) := dk_154 0 11 (dk_at dksX2_expect_0 5 rfl rfl)
theorem dX2_expect_8 : decode cX2_expect 8 = .ok (.aload_n 0, 1) := dk_42 (dk_at dksX2_expect_0 8 rfl rfl)
theorem dX2_expect_9 : decode cX2_expect 9 = .ok (.aload_n 0, 1) := dk_42 (dk_at dksX2_expect_0 9 rfl rfl)
theorem dX2_expect_10 : decode cX2_expect 10 = .ok (.getfield 67, 3) := dk_180 0 67 (dk_at dksX2_expect_0 10 rfl rfl)
theorem dX2_expect_13 : decode cX2_expect 13 = .ok (.invokevirtual 88, 3) := dk_182 0 88 (dk_at dksX2_expect_0 13 rfl rfl)
theorem dX2_expect_16 : decode cX2_expect 16 = .ok (.return_, 1) := dk_177 (dk_at dksX2_expect_0 16 rfl rfl)
abbrev cX2_addFlood : ByteArray := prog_12_method_16_code
def yX2_addFlood : MethodName := ⟨RX2, "addFlood", "(I)V"⟩
def dkwX2_addFlood_3 : List UInt8 := [180, 0, 52, 89, 180, 0, 212, 4, 96, 181, 0, 212, 177]
abbrev dktX2_addFlood_3 : List UInt8 := dkwX2_addFlood_3 ++ []
def dkwX2_addFlood_2 : List UInt8 := [181, 0, 219, 44, 42, 182, 0, 143, 181, 0, 223, 44, 42, 4, 16, 20, 182, 0, 118, 181, 0, 224, 42]
abbrev dktX2_addFlood_2 : List UInt8 := dkwX2_addFlood_2 ++ dktX2_addFlood_3
def dkwX2_addFlood_1 : List UInt8 := [42, 180, 0, 52, 180, 0, 212, 50, 77, 44, 42, 42, 180, 0, 52, 180, 0, 177, 17, 1, 43, 182, 0, 118]
abbrev dktX2_addFlood_1 : List UInt8 := dkwX2_addFlood_1 ++ dktX2_addFlood_2
def dkwX2_addFlood_0 : List UInt8 := [42, 180, 0, 52, 180, 0, 212, 16, 8, 160, 0, 8, 42, 27, 182, 0, 88, 42, 180, 0, 52, 180, 0, 215]
abbrev dktX2_addFlood_0 : List UInt8 := dkwX2_addFlood_0 ++ dktX2_addFlood_1
theorem dksX2_addFlood_0 : cX2_addFlood.data.toList.drop 0 = dktX2_addFlood_0 := by decide +kernel
theorem dksX2_addFlood_1 : cX2_addFlood.data.toList.drop 24 = dktX2_addFlood_1 := dk_seg dksX2_addFlood_0 24 rfl rfl
theorem dksX2_addFlood_2 : cX2_addFlood.data.toList.drop 48 = dktX2_addFlood_2 := dk_seg dksX2_addFlood_1 24 rfl rfl
theorem dksX2_addFlood_3 : cX2_addFlood.data.toList.drop 71 = dktX2_addFlood_3 := dk_seg dksX2_addFlood_2 23 rfl rfl
theorem dX2_addFlood_0 : decode cX2_addFlood 0 = .ok (.aload_n 0, 1) := dk_42 (dk_at dksX2_addFlood_0 0 rfl rfl)
theorem dX2_addFlood_1 : decode cX2_addFlood 1 = .ok (.getfield 52, 3) := dk_180 0 52 (dk_at dksX2_addFlood_0 1 rfl rfl)
theorem dX2_addFlood_4 : decode cX2_addFlood 4 = .ok (.getfield 212, 3) := dk_180 0 212 (dk_at dksX2_addFlood_0 4 rfl rfl)
theorem dX2_addFlood_7 : decode cX2_addFlood 7 = .ok (.bipush 8, 2) := dk_16 8 (dk_at dksX2_addFlood_0 7 rfl rfl)
theorem dX2_addFlood_9 : decode cX2_addFlood 9 = .ok (.if_icmp .ne 8, 3) := dk_160 0 8 (dk_at dksX2_addFlood_0 9 rfl rfl)
theorem dX2_addFlood_12 : decode cX2_addFlood 12 = .ok (.aload_n 0, 1) := dk_42 (dk_at dksX2_addFlood_0 12 rfl rfl)
theorem dX2_addFlood_13 : decode cX2_addFlood 13 = .ok (.iload_n 1, 1) := dk_27 (dk_at dksX2_addFlood_0 13 rfl rfl)
theorem dX2_addFlood_14 : decode cX2_addFlood 14 = .ok (.invokevirtual 88, 3) := dk_182 0 88 (dk_at dksX2_addFlood_0 14 rfl rfl)
theorem dX2_addFlood_17 : decode cX2_addFlood 17 = .ok (.aload_n 0, 1) := dk_42 (dk_at dksX2_addFlood_0 17 rfl rfl)
theorem dX2_addFlood_18 : decode cX2_addFlood 18 = .ok (.getfield 52, 3) := dk_180 0 52 (dk_at dksX2_addFlood_0 18 rfl rfl)
theorem dX2_addFlood_21 : decode cX2_addFlood 21 = .ok (.getfield 215, 3) := dk_180 0 215 (dk_at dksX2_addFlood_0 21 rfl rfl)
theorem dX2_addFlood_24 : decode cX2_addFlood 24 = .ok (.aload_n 0, 1) := dk_42 (dk_at dksX2_addFlood_1 0 rfl rfl)
theorem dX2_addFlood_25 : decode cX2_addFlood 25 = .ok (.getfield 52, 3) := dk_180 0 52 (dk_at dksX2_addFlood_1 1 rfl rfl)
theorem dX2_addFlood_28 : decode cX2_addFlood 28 = .ok (.getfield 212, 3) := dk_180 0 212 (dk_at dksX2_addFlood_1 4 rfl rfl)
theorem dX2_addFlood_31 : decode cX2_addFlood 31 = .ok (.aaload, 1) := dk_50 (dk_at dksX2_addFlood_1 7 rfl rfl)
theorem dX2_addFlood_32 : decode cX2_addFlood 32 = .ok (.astore_n 2, 1) := dk_77 (dk_at dksX2_addFlood_1 8 rfl rfl)
theorem dX2_addFlood_33 : decode cX2_addFlood 33 = .ok (.aload_n 2, 1) := dk_44 (dk_at dksX2_addFlood_1 9 rfl rfl)
theorem dX2_addFlood_34 : decode cX2_addFlood 34 = .ok (.aload_n 0, 1) := dk_42 (dk_at dksX2_addFlood_1 10 rfl rfl)
theorem dX2_addFlood_35 : decode cX2_addFlood 35 = .ok (.aload_n 0, 1) := dk_42 (dk_at dksX2_addFlood_1 11 rfl rfl)
theorem dX2_addFlood_36 : decode cX2_addFlood 36 = .ok (.getfield 52, 3) := dk_180 0 52 (dk_at dksX2_addFlood_1 12 rfl rfl)
theorem dX2_addFlood_39 : decode cX2_addFlood 39 = .ok (.getfield 177, 3) := dk_180 0 177 (dk_at dksX2_addFlood_1 15 rfl rfl)
theorem dX2_addFlood_42 : decode cX2_addFlood 42 = .ok (.sipush 299, 3) := dk_17 1 43 (dk_at dksX2_addFlood_1 18 rfl rfl)
theorem dX2_addFlood_45 : decode cX2_addFlood 45 = .ok (.invokevirtual 118, 3) := dk_182 0 118 (dk_at dksX2_addFlood_1 21 rfl rfl)
theorem dX2_addFlood_48 : decode cX2_addFlood 48 = .ok (.putfield 219, 3) := dk_181 0 219 (dk_at dksX2_addFlood_2 0 rfl rfl)
theorem dX2_addFlood_51 : decode cX2_addFlood 51 = .ok (.aload_n 2, 1) := dk_44 (dk_at dksX2_addFlood_2 3 rfl rfl)
theorem dX2_addFlood_52 : decode cX2_addFlood 52 = .ok (.aload_n 0, 1) := dk_42 (dk_at dksX2_addFlood_2 4 rfl rfl)
theorem dX2_addFlood_53 : decode cX2_addFlood 53 = .ok (.invokevirtual 143, 3) := dk_182 0 143 (dk_at dksX2_addFlood_2 5 rfl rfl)
theorem dX2_addFlood_56 : decode cX2_addFlood 56 = .ok (.putfield 223, 3) := dk_181 0 223 (dk_at dksX2_addFlood_2 8 rfl rfl)
theorem dX2_addFlood_59 : decode cX2_addFlood 59 = .ok (.aload_n 2, 1) := dk_44 (dk_at dksX2_addFlood_2 11 rfl rfl)
theorem dX2_addFlood_60 : decode cX2_addFlood 60 = .ok (.aload_n 0, 1) := dk_42 (dk_at dksX2_addFlood_2 12 rfl rfl)
theorem dX2_addFlood_61 : decode cX2_addFlood 61 = .ok (.iconst 1, 1) := dk_4 (dk_at dksX2_addFlood_2 13 rfl rfl)
theorem dX2_addFlood_62 : decode cX2_addFlood 62 = .ok (.bipush 20, 2) := dk_16 20 (dk_at dksX2_addFlood_2 14 rfl rfl)
theorem dX2_addFlood_64 : decode cX2_addFlood 64 = .ok (.invokevirtual 118, 3) := dk_182 0 118 (dk_at dksX2_addFlood_2 16 rfl rfl)
theorem dX2_addFlood_67 : decode cX2_addFlood 67 = .ok (.putfield 224, 3) := dk_181 0 224 (dk_at dksX2_addFlood_2 19 rfl rfl)
theorem dX2_addFlood_70 : decode cX2_addFlood 70 = .ok (.aload_n 0, 1) := dk_42 (dk_at dksX2_addFlood_2 22 rfl rfl)
theorem dX2_addFlood_71 : decode cX2_addFlood 71 = .ok (.getfield 52, 3) := dk_180 0 52 (dk_at dksX2_addFlood_3 0 rfl rfl)
theorem dX2_addFlood_74 : decode cX2_addFlood 74 = .ok (.dup, 1) := dk_89 (dk_at dksX2_addFlood_3 3 rfl rfl)
theorem dX2_addFlood_75 : decode cX2_addFlood 75 = .ok (.getfield 212, 3) := dk_180 0 212 (dk_at dksX2_addFlood_3 4 rfl rfl)
theorem dX2_addFlood_78 : decode cX2_addFlood 78 = .ok (.iconst 1, 1) := dk_4 (dk_at dksX2_addFlood_3 7 rfl rfl)
theorem dX2_addFlood_79 : decode cX2_addFlood 79 = .ok (.iadd, 1) := dk_96 (dk_at dksX2_addFlood_3 8 rfl rfl)
theorem dX2_addFlood_80 : decode cX2_addFlood 80 = .ok (.putfield 212, 3) := dk_181 0 212 (dk_at dksX2_addFlood_3 9 rfl rfl)
theorem dX2_addFlood_83 : decode cX2_addFlood 83 = .ok (.return_, 1) := dk_177 (dk_at dksX2_addFlood_3 12 rfl rfl)
abbrev cX2_addPerson : ByteArray := prog_12_method_17_code
def yX2_addPerson : MethodName := ⟨RX2, "addPerson", "(I)V"⟩
def dkwX2_addPerson_3 : List UInt8 := [42, 180, 0, 52, 89, 180, 0, 227, 4, 96, 181, 0, 227, 177]
abbrev dktX2_addPerson_3 : List UInt8 := dkwX2_addPerson_3 ++ []
def dkwX2_addPerson_2 : List UInt8 := [181, 0, 238, 44, 42, 18, 239, 182, 0, 84, 153, 0, 10, 42, 182, 0, 171, 167, 0, 4, 2, 181, 0, 241]
abbrev dktX2_addPerson_2 : List UInt8 := dkwX2_addPerson_2 ++ dktX2_addPerson_3
def dkwX2_addPerson_1 : List UInt8 := [42, 180, 0, 52, 180, 0, 227, 50, 77, 44, 42, 182, 0, 171, 181, 0, 234, 44, 42, 182, 0, 143]
abbrev dktX2_addPerson_1 : List UInt8 := dkwX2_addPerson_1 ++ dktX2_addPerson_2
def dkwX2_addPerson_0 : List UInt8 := [42, 180, 0, 52, 180, 0, 227, 16, 8, 160, 0, 8, 42, 27, 182, 0, 88, 42, 180, 0, 52, 180, 0, 230]
abbrev dktX2_addPerson_0 : List UInt8 := dkwX2_addPerson_0 ++ dktX2_addPerson_1
theorem dksX2_addPerson_0 : cX2_addPerson.data.toList.drop 0 = dktX2_addPerson_0 := by decide +kernel
theorem dksX2_addPerson_1 : cX2_addPerson.data.toList.drop 24 = dktX2_addPerson_1 := dk_seg dksX2_addPerson_0 24 rfl rfl
theorem dksX2_addPerson_2 : cX2_addPerson.data.toList.drop 46 = dktX2_addPerson_2 := dk_seg dksX2_addPerson_1 22 rfl rfl
theorem dksX2_addPerson_3 : cX2_addPerson.data.toList.drop 70 = dktX2_addPerson_3 := dk_seg dksX2_addPerson_2 24 rfl rfl
theorem dX2_addPerson_0 : decode cX2_addPerson 0 = .ok (.aload_n 0, 1) := dk_42 (dk_at dksX2_addPerson_0 0 rfl rfl)
theorem dX2_addPerson_1 : decode cX2_addPerson 1 = .ok (.getfield 52, 3) := dk_180 0 52 (dk_at dksX2_addPerson_0 1 rfl rfl)
theorem dX2_addPerson_4 : decode cX2_addPerson 4 = .ok (.getfield 227, 3) := dk_180 0 227 (dk_at dksX2_addPerson_0 4 rfl rfl)
theorem dX2_addPerson_7 : decode cX2_addPerson 7 = .ok (.bipush 8, 2) := dk_16 8 (dk_at dksX2_addPerson_0 7 rfl rfl)
theorem dX2_addPerson_9 : decode cX2_addPerson 9 = .ok (.if_icmp .ne 8, 3) := dk_160 0 8 (dk_at dksX2_addPerson_0 9 rfl rfl)
theorem dX2_addPerson_12 : decode cX2_addPerson 12 = .ok (.aload_n 0, 1) := dk_42 (dk_at dksX2_addPerson_0 12 rfl rfl)
theorem dX2_addPerson_13 : decode cX2_addPerson 13 = .ok (.iload_n 1, 1) := dk_27 (dk_at dksX2_addPerson_0 13 rfl rfl)
theorem dX2_addPerson_14 : decode cX2_addPerson 14 = .ok (.invokevirtual 88, 3) := dk_182 0 88 (dk_at dksX2_addPerson_0 14 rfl rfl)
theorem dX2_addPerson_17 : decode cX2_addPerson 17 = .ok (.aload_n 0, 1) := dk_42 (dk_at dksX2_addPerson_0 17 rfl rfl)
theorem dX2_addPerson_18 : decode cX2_addPerson 18 = .ok (.getfield 52, 3) := dk_180 0 52 (dk_at dksX2_addPerson_0 18 rfl rfl)
theorem dX2_addPerson_21 : decode cX2_addPerson 21 = .ok (.getfield 230, 3) := dk_180 0 230 (dk_at dksX2_addPerson_0 21 rfl rfl)
theorem dX2_addPerson_24 : decode cX2_addPerson 24 = .ok (.aload_n 0, 1) := dk_42 (dk_at dksX2_addPerson_1 0 rfl rfl)
theorem dX2_addPerson_25 : decode cX2_addPerson 25 = .ok (.getfield 52, 3) := dk_180 0 52 (dk_at dksX2_addPerson_1 1 rfl rfl)
theorem dX2_addPerson_28 : decode cX2_addPerson 28 = .ok (.getfield 227, 3) := dk_180 0 227 (dk_at dksX2_addPerson_1 4 rfl rfl)
theorem dX2_addPerson_31 : decode cX2_addPerson 31 = .ok (.aaload, 1) := dk_50 (dk_at dksX2_addPerson_1 7 rfl rfl)
theorem dX2_addPerson_32 : decode cX2_addPerson 32 = .ok (.astore_n 2, 1) := dk_77 (dk_at dksX2_addPerson_1 8 rfl rfl)
theorem dX2_addPerson_33 : decode cX2_addPerson 33 = .ok (.aload_n 2, 1) := dk_44 (dk_at dksX2_addPerson_1 9 rfl rfl)
theorem dX2_addPerson_34 : decode cX2_addPerson 34 = .ok (.aload_n 0, 1) := dk_42 (dk_at dksX2_addPerson_1 10 rfl rfl)
theorem dX2_addPerson_35 : decode cX2_addPerson 35 = .ok (.invokevirtual 171, 3) := dk_182 0 171 (dk_at dksX2_addPerson_1 11 rfl rfl)
theorem dX2_addPerson_38 : decode cX2_addPerson 38 = .ok (.putfield 234, 3) := dk_181 0 234 (dk_at dksX2_addPerson_1 14 rfl rfl)
theorem dX2_addPerson_41 : decode cX2_addPerson 41 = .ok (.aload_n 2, 1) := dk_44 (dk_at dksX2_addPerson_1 17 rfl rfl)
theorem dX2_addPerson_42 : decode cX2_addPerson 42 = .ok (.aload_n 0, 1) := dk_42 (dk_at dksX2_addPerson_1 18 rfl rfl)
theorem dX2_addPerson_43 : decode cX2_addPerson 43 = .ok (.invokevirtual 143, 3) := dk_182 0 143 (dk_at dksX2_addPerson_1 19 rfl rfl)
theorem dX2_addPerson_46 : decode cX2_addPerson 46 = .ok (.putfield 238, 3) := dk_181 0 238 (dk_at dksX2_addPerson_2 0 rfl rfl)
theorem dX2_addPerson_49 : decode cX2_addPerson 49 = .ok (.aload_n 2, 1) := dk_44 (dk_at dksX2_addPerson_2 3 rfl rfl)
theorem dX2_addPerson_50 : decode cX2_addPerson 50 = .ok (.aload_n 0, 1) := dk_42 (dk_at dksX2_addPerson_2 4 rfl rfl)
theorem dX2_addPerson_51 : decode cX2_addPerson 51 = .ok (.ldc 239, 2) := dk_18 239 (dk_at dksX2_addPerson_2 5 rfl rfl)
theorem dX2_addPerson_53 : decode cX2_addPerson 53 = .ok (.invokevirtual 84, 3) := dk_182 0 84 (dk_at dksX2_addPerson_2 7 rfl rfl)
theorem dX2_addPerson_56 : decode cX2_addPerson 56 = .ok (.ifCond .eq 10, 3) := dk_153 0 10 (dk_at dksX2_addPerson_2 10 rfl rfl)
theorem dX2_addPerson_59 : decode cX2_addPerson 59 = .ok (.aload_n 0, 1) := dk_42 (dk_at dksX2_addPerson_2 13 rfl rfl)
theorem dX2_addPerson_60 : decode cX2_addPerson 60 = .ok (.invokevirtual 171, 3) := dk_182 0 171 (dk_at dksX2_addPerson_2 14 rfl rfl)
theorem dX2_addPerson_63 : decode cX2_addPerson 63 = .ok (.goto 4, 3) := dk_167 0 4 (dk_at dksX2_addPerson_2 17 rfl rfl)
theorem dX2_addPerson_66 : decode cX2_addPerson 66 = .ok (.iconst (-1), 1) := dk_2 (dk_at dksX2_addPerson_2 20 rfl rfl)
theorem dX2_addPerson_67 : decode cX2_addPerson 67 = .ok (.putfield 241, 3) := dk_181 0 241 (dk_at dksX2_addPerson_2 21 rfl rfl)
theorem dX2_addPerson_70 : decode cX2_addPerson 70 = .ok (.aload_n 0, 1) := dk_42 (dk_at dksX2_addPerson_3 0 rfl rfl)
theorem dX2_addPerson_71 : decode cX2_addPerson 71 = .ok (.getfield 52, 3) := dk_180 0 52 (dk_at dksX2_addPerson_3 1 rfl rfl)
theorem dX2_addPerson_74 : decode cX2_addPerson 74 = .ok (.dup, 1) := dk_89 (dk_at dksX2_addPerson_3 4 rfl rfl)
theorem dX2_addPerson_75 : decode cX2_addPerson 75 = .ok (.getfield 227, 3) := dk_180 0 227 (dk_at dksX2_addPerson_3 5 rfl rfl)
theorem dX2_addPerson_78 : decode cX2_addPerson 78 = .ok (.iconst 1, 1) := dk_4 (dk_at dksX2_addPerson_3 8 rfl rfl)
theorem dX2_addPerson_79 : decode cX2_addPerson 79 = .ok (.iadd, 1) := dk_96 (dk_at dksX2_addPerson_3 9 rfl rfl)
theorem dX2_addPerson_80 : decode cX2_addPerson 80 = .ok (.putfield 227, 3) := dk_181 0 227 (dk_at dksX2_addPerson_3 10 rfl rfl)
theorem dX2_addPerson_83 : decode cX2_addPerson 83 = .ok (.return_, 1) := dk_177 (dk_at dksX2_addPerson_3 13 rfl rfl)
abbrev cX2_lane : ByteArray := prog_12_method_11_code
def yX2_lane : MethodName := ⟨RX2, "lane", "()I"⟩
def dkwX2_lane_0 : List UInt8 := [42, 3, 42, 180, 0, 52, 180, 0, 115, 4, 100, 182, 0, 118, 172]
abbrev dktX2_lane_0 : List UInt8 := dkwX2_lane_0 ++ []
theorem dksX2_lane_0 : cX2_lane.data.toList.drop 0 = dktX2_lane_0 := by decide +kernel
theorem dX2_lane_0 : decode cX2_lane 0 = .ok (.aload_n 0, 1) := dk_42 (dk_at dksX2_lane_0 0 rfl rfl)
theorem dX2_lane_1 : decode cX2_lane 1 = .ok (.iconst 0, 1) := dk_3 (dk_at dksX2_lane_0 1 rfl rfl)
theorem dX2_lane_2 : decode cX2_lane 2 = .ok (.aload_n 0, 1) := dk_42 (dk_at dksX2_lane_0 2 rfl rfl)
theorem dX2_lane_3 : decode cX2_lane 3 = .ok (.getfield 52, 3) := dk_180 0 52 (dk_at dksX2_lane_0 3 rfl rfl)
theorem dX2_lane_6 : decode cX2_lane 6 = .ok (.getfield 115, 3) := dk_180 0 115 (dk_at dksX2_lane_0 6 rfl rfl)
theorem dX2_lane_9 : decode cX2_lane 9 = .ok (.iconst 1, 1) := dk_4 (dk_at dksX2_lane_0 9 rfl rfl)
theorem dX2_lane_10 : decode cX2_lane 10 = .ok (.isub, 1) := dk_100 (dk_at dksX2_lane_0 10 rfl rfl)
theorem dX2_lane_11 : decode cX2_lane 11 = .ok (.invokevirtual 118, 3) := dk_182 0 118 (dk_at dksX2_lane_0 11 rfl rfl)
theorem dX2_lane_14 : decode cX2_lane 14 = .ok (.ireturn, 1) := dk_172 (dk_at dksX2_lane_0 14 rfl rfl)
abbrev cX2_law : ByteArray := prog_12_method_18_code
def yX2_law : MethodName := ⟨RX2, "law", "(I)I"⟩
def dkwX2_law_6 : List UInt8 := [187, 1, 4, 89, 25, 6, 183, 1, 6, 83, 132, 2, 1, 167, 255, 111, 28, 172]
abbrev dktX2_law_6 : List UInt8 := dkwX2_law_6 ++ []
def dkwX2_law_5 : List UInt8 := [187, 0, 255, 89, 29, 153, 0, 8, 21, 5, 167, 0, 6, 21, 5, 116, 25, 6, 183, 1, 1, 167, 0, 12]
abbrev dktX2_law_5 : List UInt8 := dkwX2_law_5 ++ dktX2_law_6
def dkwX2_law_4 : List UInt8 := [182, 0, 252, 167, 0, 4, 1, 58, 6, 42, 180, 0, 46, 28, 29, 154, 0, 8, 21, 4, 153, 0, 27]
abbrev dktX2_law_4 : List UInt8 := dkwX2_law_4 ++ dktX2_law_5
def dkwX2_law_3 : List UInt8 := [3, 16, 20, 182, 0, 118, 167, 0, 4, 3, 54, 5, 42, 18, 250, 182, 0, 84, 153, 0, 11, 42, 3]
abbrev dktX2_law_3 : List UInt8 := dkwX2_law_3 ++ dktX2_law_4
def dkwX2_law_2 : List UInt8 := [154, 0, 14, 21, 4, 154, 0, 9, 42, 18, 248, 182, 0, 147, 29, 154, 0, 8, 21, 4, 153, 0, 13, 42]
abbrev dktX2_law_2 : List UInt8 := dkwX2_law_2 ++ dktX2_law_3
def dkwX2_law_1 : List UInt8 := [62, 29, 154, 0, 16, 42, 18, 246, 182, 0, 84, 153, 0, 7, 4, 167, 0, 4, 3, 54, 4, 29]
abbrev dktX2_law_1 : List UInt8 := dkwX2_law_1 ++ dktX2_law_2
def dkwX2_law_0 : List UInt8 := [42, 27, 6, 182, 0, 97, 3, 61, 42, 28, 16, 12, 182, 0, 105, 153, 0, 141, 42, 18, 244, 182, 0, 84]
abbrev dktX2_law_0 : List UInt8 := dkwX2_law_0 ++ dktX2_law_1
theorem dksX2_law_0 : cX2_law.data.toList.drop 0 = dktX2_law_0 := by decide +kernel
theorem dksX2_law_1 : cX2_law.data.toList.drop 24 = dktX2_law_1 := dk_seg dksX2_law_0 24 rfl rfl
theorem dksX2_law_2 : cX2_law.data.toList.drop 46 = dktX2_law_2 := dk_seg dksX2_law_1 22 rfl rfl
theorem dksX2_law_3 : cX2_law.data.toList.drop 70 = dktX2_law_3 := dk_seg dksX2_law_2 24 rfl rfl
theorem dksX2_law_4 : cX2_law.data.toList.drop 93 = dktX2_law_4 := dk_seg dksX2_law_3 23 rfl rfl
theorem dksX2_law_5 : cX2_law.data.toList.drop 116 = dktX2_law_5 := dk_seg dksX2_law_4 23 rfl rfl
theorem dksX2_law_6 : cX2_law.data.toList.drop 140 = dktX2_law_6 := dk_seg dksX2_law_5 24 rfl rfl
theorem dX2_law_0 : decode cX2_law 0 = .ok (.aload_n 0, 1) := dk_42 (dk_at dksX2_law_0 0 rfl rfl)
theorem dX2_law_1 : decode cX2_law 1 = .ok (.iload_n 1, 1) := dk_27 (dk_at dksX2_law_0 1 rfl rfl)
theorem dX2_law_2 : decode cX2_law 2 = .ok (.iconst 3, 1) := dk_6 (dk_at dksX2_law_0 2 rfl rfl)
theorem dX2_law_3 : decode cX2_law 3 = .ok (.invokevirtual 97, 3) := dk_182 0 97 (dk_at dksX2_law_0 3 rfl rfl)
theorem dX2_law_6 : decode cX2_law 6 = .ok (.iconst 0, 1) := dk_3 (dk_at dksX2_law_0 6 rfl rfl)
theorem dX2_law_7 : decode cX2_law 7 = .ok (.istore_n 2, 1) := dk_61 (dk_at dksX2_law_0 7 rfl rfl)
theorem dX2_law_8 : decode cX2_law 8 = .ok (.aload_n 0, 1) := dk_42 (dk_at dksX2_law_0 8 rfl rfl)
theorem dX2_law_9 : decode cX2_law 9 = .ok (.iload_n 2, 1) := dk_28 (dk_at dksX2_law_0 9 rfl rfl)
theorem dX2_law_10 : decode cX2_law 10 = .ok (.bipush 12, 2) := dk_16 12 (dk_at dksX2_law_0 10 rfl rfl)
theorem dX2_law_12 : decode cX2_law 12 = .ok (.invokevirtual 105, 3) := dk_182 0 105 (dk_at dksX2_law_0 12 rfl rfl)
theorem dX2_law_15 : decode cX2_law 15 = .ok (.ifCond .eq 141, 3) := dk_153 0 141 (dk_at dksX2_law_0 15 rfl rfl)
theorem dX2_law_18 : decode cX2_law 18 = .ok (.aload_n 0, 1) := dk_42 (dk_at dksX2_law_0 18 rfl rfl)
theorem dX2_law_19 : decode cX2_law 19 = .ok (.ldc 244, 2) := dk_18 244 (dk_at dksX2_law_0 19 rfl rfl)
theorem dX2_law_21 : decode cX2_law 21 = .ok (.invokevirtual 84, 3) := dk_182 0 84 (dk_at dksX2_law_0 21 rfl rfl)
theorem dX2_law_24 : decode cX2_law 24 = .ok (.istore_n 3, 1) := dk_62 (dk_at dksX2_law_1 0 rfl rfl)
theorem dX2_law_25 : decode cX2_law 25 = .ok (.iload_n 3, 1) := dk_29 (dk_at dksX2_law_1 1 rfl rfl)
theorem dX2_law_26 : decode cX2_law 26 = .ok (.ifCond .ne 16, 3) := dk_154 0 16 (dk_at dksX2_law_1 2 rfl rfl)
theorem dX2_law_29 : decode cX2_law 29 = .ok (.aload_n 0, 1) := dk_42 (dk_at dksX2_law_1 5 rfl rfl)
theorem dX2_law_30 : decode cX2_law 30 = .ok (.ldc 246, 2) := dk_18 246 (dk_at dksX2_law_1 6 rfl rfl)
theorem dX2_law_32 : decode cX2_law 32 = .ok (.invokevirtual 84, 3) := dk_182 0 84 (dk_at dksX2_law_1 8 rfl rfl)
theorem dX2_law_35 : decode cX2_law 35 = .ok (.ifCond .eq 7, 3) := dk_153 0 7 (dk_at dksX2_law_1 11 rfl rfl)
theorem dX2_law_38 : decode cX2_law 38 = .ok (.iconst 1, 1) := dk_4 (dk_at dksX2_law_1 14 rfl rfl)
theorem dX2_law_39 : decode cX2_law 39 = .ok (.goto 4, 3) := dk_167 0 4 (dk_at dksX2_law_1 15 rfl rfl)
theorem dX2_law_42 : decode cX2_law 42 = .ok (.iconst 0, 1) := dk_3 (dk_at dksX2_law_1 18 rfl rfl)
theorem dX2_law_43 : decode cX2_law 43 = .ok (.istore 4, 2) := dk_54 4 (dk_at dksX2_law_1 19 rfl rfl)
theorem dX2_law_45 : decode cX2_law 45 = .ok (.iload_n 3, 1) := dk_29 (dk_at dksX2_law_1 21 rfl rfl)
theorem dX2_law_46 : decode cX2_law 46 = .ok (.ifCond .ne 14, 3) := dk_154 0 14 (dk_at dksX2_law_2 0 rfl rfl)
theorem dX2_law_49 : decode cX2_law 49 = .ok (.iload 4, 2) := dk_21 4 (dk_at dksX2_law_2 3 rfl rfl)
theorem dX2_law_51 : decode cX2_law 51 = .ok (.ifCond .ne 9, 3) := dk_154 0 9 (dk_at dksX2_law_2 5 rfl rfl)
theorem dX2_law_54 : decode cX2_law 54 = .ok (.aload_n 0, 1) := dk_42 (dk_at dksX2_law_2 8 rfl rfl)
theorem dX2_law_55 : decode cX2_law 55 = .ok (.ldc 248, 2) := dk_18 248 (dk_at dksX2_law_2 9 rfl rfl)
theorem dX2_law_57 : decode cX2_law 57 = .ok (.invokevirtual 147, 3) := dk_182 0 147 (dk_at dksX2_law_2 11 rfl rfl)
theorem dX2_law_60 : decode cX2_law 60 = .ok (.iload_n 3, 1) := dk_29 (dk_at dksX2_law_2 14 rfl rfl)
theorem dX2_law_61 : decode cX2_law 61 = .ok (.ifCond .ne 8, 3) := dk_154 0 8 (dk_at dksX2_law_2 15 rfl rfl)
theorem dX2_law_64 : decode cX2_law 64 = .ok (.iload 4, 2) := dk_21 4 (dk_at dksX2_law_2 18 rfl rfl)
theorem dX2_law_66 : decode cX2_law 66 = .ok (.ifCond .eq 13, 3) := dk_153 0 13 (dk_at dksX2_law_2 20 rfl rfl)
theorem dX2_law_69 : decode cX2_law 69 = .ok (.aload_n 0, 1) := dk_42 (dk_at dksX2_law_2 23 rfl rfl)
theorem dX2_law_70 : decode cX2_law 70 = .ok (.iconst 0, 1) := dk_3 (dk_at dksX2_law_3 0 rfl rfl)
theorem dX2_law_71 : decode cX2_law 71 = .ok (.bipush 20, 2) := dk_16 20 (dk_at dksX2_law_3 1 rfl rfl)
theorem dX2_law_73 : decode cX2_law 73 = .ok (.invokevirtual 118, 3) := dk_182 0 118 (dk_at dksX2_law_3 3 rfl rfl)
theorem dX2_law_76 : decode cX2_law 76 = .ok (.goto 4, 3) := dk_167 0 4 (dk_at dksX2_law_3 6 rfl rfl)
theorem dX2_law_79 : decode cX2_law 79 = .ok (.iconst 0, 1) := dk_3 (dk_at dksX2_law_3 9 rfl rfl)
theorem dX2_law_80 : decode cX2_law 80 = .ok (.istore 5, 2) := dk_54 5 (dk_at dksX2_law_3 10 rfl rfl)
theorem dX2_law_82 : decode cX2_law 82 = .ok (.aload_n 0, 1) := dk_42 (dk_at dksX2_law_3 12 rfl rfl)
theorem dX2_law_83 : decode cX2_law 83 = .ok (.ldc 250, 2) := dk_18 250 (dk_at dksX2_law_3 13 rfl rfl)
theorem dX2_law_85 : decode cX2_law 85 = .ok (.invokevirtual 84, 3) := dk_182 0 84 (dk_at dksX2_law_3 15 rfl rfl)
theorem dX2_law_88 : decode cX2_law 88 = .ok (.ifCond .eq 11, 3) := dk_153 0 11 (dk_at dksX2_law_3 18 rfl rfl)
theorem dX2_law_91 : decode cX2_law 91 = .ok (.aload_n 0, 1) := dk_42 (dk_at dksX2_law_3 21 rfl rfl)
theorem dX2_law_92 : decode cX2_law 92 = .ok (.iconst 0, 1) := dk_3 (dk_at dksX2_law_3 22 rfl rfl)
theorem dX2_law_93 : decode cX2_law 93 = .ok (.invokevirtual 252, 3) := dk_182 0 252 (dk_at dksX2_law_4 0 rfl rfl)
theorem dX2_law_96 : decode cX2_law 96 = .ok (.goto 4, 3) := dk_167 0 4 (dk_at dksX2_law_4 3 rfl rfl)
theorem dX2_law_99 : decode cX2_law 99 = .ok (.aconst_null, 1) := dk_1 (dk_at dksX2_law_4 6 rfl rfl)
theorem dX2_law_100 : decode cX2_law 100 = .ok (.astore 6, 2) := dk_58 6 (dk_at dksX2_law_4 7 rfl rfl)
theorem dX2_law_102 : decode cX2_law 102 = .ok (.aload_n 0, 1) := dk_42 (dk_at dksX2_law_4 9 rfl rfl)
theorem dX2_law_103 : decode cX2_law 103 = .ok (.getfield 46, 3) := dk_180 0 46 (dk_at dksX2_law_4 10 rfl rfl)
theorem dX2_law_106 : decode cX2_law 106 = .ok (.iload_n 2, 1) := dk_28 (dk_at dksX2_law_4 13 rfl rfl)
theorem dX2_law_107 : decode cX2_law 107 = .ok (.iload_n 3, 1) := dk_29 (dk_at dksX2_law_4 14 rfl rfl)
theorem dX2_law_108 : decode cX2_law 108 = .ok (.ifCond .ne 8, 3) := dk_154 0 8 (dk_at dksX2_law_4 15 rfl rfl)
theorem dX2_law_111 : decode cX2_law 111 = .ok (.iload 4, 2) := dk_21 4 (dk_at dksX2_law_4 18 rfl rfl)
theorem dX2_law_113 : decode cX2_law 113 = .ok (.ifCond .eq 27, 3) := dk_153 0 27 (dk_at dksX2_law_4 20 rfl rfl)
theorem dX2_law_116 : decode cX2_law 116 = .ok (.new 255, 3) := dk_187 0 255 (dk_at dksX2_law_5 0 rfl rfl)
theorem dX2_law_119 : decode cX2_law 119 = .ok (.dup, 1) := dk_89 (dk_at dksX2_law_5 3 rfl rfl)
theorem dX2_law_120 : decode cX2_law 120 = .ok (.iload_n 3, 1) := dk_29 (dk_at dksX2_law_5 4 rfl rfl)
theorem dX2_law_121 : decode cX2_law 121 = .ok (.ifCond .eq 8, 3) := dk_153 0 8 (dk_at dksX2_law_5 5 rfl rfl)
theorem dX2_law_124 : decode cX2_law 124 = .ok (.iload 5, 2) := dk_21 5 (dk_at dksX2_law_5 8 rfl rfl)
theorem dX2_law_126 : decode cX2_law 126 = .ok (.goto 6, 3) := dk_167 0 6 (dk_at dksX2_law_5 10 rfl rfl)
theorem dX2_law_129 : decode cX2_law 129 = .ok (.iload 5, 2) := dk_21 5 (dk_at dksX2_law_5 13 rfl rfl)
theorem dX2_law_131 : decode cX2_law 131 = .ok (.ineg, 1) := dk_116 (dk_at dksX2_law_5 15 rfl rfl)
theorem dX2_law_132 : decode cX2_law 132 = .ok (.aload 6, 2) := dk_25 6 (dk_at dksX2_law_5 16 rfl rfl)
theorem dX2_law_134 : decode cX2_law 134 = .ok (.invokespecial 257, 3) := dk_183 1 1 (dk_at dksX2_law_5 18 rfl rfl)
theorem dX2_law_137 : decode cX2_law 137 = .ok (.goto 12, 3) := dk_167 0 12 (dk_at dksX2_law_5 21 rfl rfl)
theorem dX2_law_140 : decode cX2_law 140 = .ok (.new 260, 3) := dk_187 1 4 (dk_at dksX2_law_6 0 rfl rfl)
theorem dX2_law_143 : decode cX2_law 143 = .ok (.dup, 1) := dk_89 (dk_at dksX2_law_6 3 rfl rfl)
theorem dX2_law_144 : decode cX2_law 144 = .ok (.aload 6, 2) := dk_25 6 (dk_at dksX2_law_6 4 rfl rfl)
theorem dX2_law_146 : decode cX2_law 146 = .ok (.invokespecial 262, 3) := dk_183 1 6 (dk_at dksX2_law_6 6 rfl rfl)
theorem dX2_law_149 : decode cX2_law 149 = .ok (.aastore, 1) := dk_83 (dk_at dksX2_law_6 9 rfl rfl)
theorem dX2_law_150 : decode cX2_law 150 = .ok (.iinc 2 1, 3) := dk_132 2 1 (dk_at dksX2_law_6 10 rfl rfl)
theorem dX2_law_153 : decode cX2_law 153 = .ok (.goto (-145), 3) := dk_167 255 111 (dk_at dksX2_law_6 13 rfl rfl)
theorem dX2_law_156 : decode cX2_law 156 = .ok (.iload_n 2, 1) := dk_28 (dk_at dksX2_law_6 16 rfl rfl)
theorem dX2_law_157 : decode cX2_law 157 = .ok (.ireturn, 1) := dk_172 (dk_at dksX2_law_6 17 rfl rfl)
abbrev cX2_row : ByteArray := prog_12_method_19_code
def yX2_row : MethodName := ⟨RX2, "row", "(Z)LGlacierMail$Cond;"⟩
def dkwX2_row_3 : List UInt8 := [181, 1, 22, 45, 180, 1, 22, 78, 167, 255, 203, 44, 176]
abbrev dktX2_row_3 : List UInt8 := dkwX2_row_3 ++ []
def dkwX2_row_2 : List UInt8 := [187, 1, 9, 89, 27, 153, 0, 10, 42, 182, 1, 11, 167, 0, 8, 42, 4, 182, 0, 252, 27, 183, 1, 15]
abbrev dktX2_row_2 : List UInt8 := dkwX2_row_2 ++ dktX2_row_3
def dkwX2_row_1 : List UInt8 := [77, 44, 78, 42, 27, 153, 0, 9, 19, 1, 18, 167, 0, 6, 19, 1, 20, 182, 0, 84, 153, 0, 39, 45]
abbrev dktX2_row_1 : List UInt8 := dkwX2_row_1 ++ dktX2_row_2
def dkwX2_row_0 : List UInt8 := [187, 1, 9, 89, 27, 153, 0, 10, 42, 182, 1, 11, 167, 0, 8, 42, 4, 182, 0, 252, 27, 183, 1, 15]
abbrev dktX2_row_0 : List UInt8 := dkwX2_row_0 ++ dktX2_row_1
theorem dksX2_row_0 : cX2_row.data.toList.drop 0 = dktX2_row_0 := by decide +kernel
theorem dksX2_row_1 : cX2_row.data.toList.drop 24 = dktX2_row_1 := dk_seg dksX2_row_0 24 rfl rfl
theorem dksX2_row_2 : cX2_row.data.toList.drop 48 = dktX2_row_2 := dk_seg dksX2_row_1 24 rfl rfl
theorem dksX2_row_3 : cX2_row.data.toList.drop 72 = dktX2_row_3 := dk_seg dksX2_row_2 24 rfl rfl
theorem dX2_row_0 : decode cX2_row 0 = .ok (.new 265, 3) := dk_187 1 9 (dk_at dksX2_row_0 0 rfl rfl)
theorem dX2_row_3 : decode cX2_row 3 = .ok (.dup, 1) := dk_89 (dk_at dksX2_row_0 3 rfl rfl)
theorem dX2_row_4 : decode cX2_row 4 = .ok (.iload_n 1, 1) := dk_27 (dk_at dksX2_row_0 4 rfl rfl)
theorem dX2_row_5 : decode cX2_row 5 = .ok (.ifCond .eq 10, 3) := dk_153 0 10 (dk_at dksX2_row_0 5 rfl rfl)
theorem dX2_row_8 : decode cX2_row 8 = .ok (.aload_n 0, 1) := dk_42 (dk_at dksX2_row_0 8 rfl rfl)
theorem dX2_row_9 : decode cX2_row 9 = .ok (.invokevirtual 267, 3) := dk_182 1 11 (dk_at dksX2_row_0 9 rfl rfl)
theorem dX2_row_12 : decode cX2_row 12 = .ok (.goto 8, 3) := dk_167 0 8 (dk_at dksX2_row_0 12 rfl rfl)
theorem dX2_row_15 : decode cX2_row 15 = .ok (.aload_n 0, 1) := dk_42 (dk_at dksX2_row_0 15 rfl rfl)
theorem dX2_row_16 : decode cX2_row 16 = .ok (.iconst 1, 1) := dk_4 (dk_at dksX2_row_0 16 rfl rfl)
theorem dX2_row_17 : decode cX2_row 17 = .ok (.invokevirtual 252, 3) := dk_182 0 252 (dk_at dksX2_row_0 17 rfl rfl)
theorem dX2_row_20 : decode cX2_row 20 = .ok (.iload_n 1, 1) := dk_27 (dk_at dksX2_row_0 20 rfl rfl)
theorem dX2_row_21 : decode cX2_row 21 = .ok (.invokespecial 271, 3) := dk_183 1 15 (dk_at dksX2_row_0 21 rfl rfl)
theorem dX2_row_24 : decode cX2_row 24 = .ok (.astore_n 2, 1) := dk_77 (dk_at dksX2_row_1 0 rfl rfl)
theorem dX2_row_25 : decode cX2_row 25 = .ok (.aload_n 2, 1) := dk_44 (dk_at dksX2_row_1 1 rfl rfl)
theorem dX2_row_26 : decode cX2_row 26 = .ok (.astore_n 3, 1) := dk_78 (dk_at dksX2_row_1 2 rfl rfl)
theorem dX2_row_27 : decode cX2_row 27 = .ok (.aload_n 0, 1) := dk_42 (dk_at dksX2_row_1 3 rfl rfl)
theorem dX2_row_28 : decode cX2_row 28 = .ok (.iload_n 1, 1) := dk_27 (dk_at dksX2_row_1 4 rfl rfl)
theorem dX2_row_29 : decode cX2_row 29 = .ok (.ifCond .eq 9, 3) := dk_153 0 9 (dk_at dksX2_row_1 5 rfl rfl)
theorem dX2_row_32 : decode cX2_row 32 = .ok (.ldc_w 274, 3) := dk_19 1 18 (dk_at dksX2_row_1 8 rfl rfl)
theorem dX2_row_35 : decode cX2_row 35 = .ok (.goto 6, 3) := dk_167 0 6 (dk_at dksX2_row_1 11 rfl rfl)
theorem dX2_row_38 : decode cX2_row 38 = .ok (.ldc_w 276, 3) := dk_19 1 20 (dk_at dksX2_row_1 14 rfl rfl)
theorem dX2_row_41 : decode cX2_row 41 = .ok (.invokevirtual 84, 3) := dk_182 0 84 (dk_at dksX2_row_1 17 rfl rfl)
theorem dX2_row_44 : decode cX2_row 44 = .ok (.ifCond .eq 39, 3) := dk_153 0 39 (dk_at dksX2_row_1 20 rfl rfl)
theorem dX2_row_47 : decode cX2_row 47 = .ok (.aload_n 3, 1) := dk_45 (dk_at dksX2_row_1 23 rfl rfl)
theorem dX2_row_48 : decode cX2_row 48 = .ok (.new 265, 3) := dk_187 1 9 (dk_at dksX2_row_2 0 rfl rfl)
theorem dX2_row_51 : decode cX2_row 51 = .ok (.dup, 1) := dk_89 (dk_at dksX2_row_2 3 rfl rfl)
theorem dX2_row_52 : decode cX2_row 52 = .ok (.iload_n 1, 1) := dk_27 (dk_at dksX2_row_2 4 rfl rfl)
theorem dX2_row_53 : decode cX2_row 53 = .ok (.ifCond .eq 10, 3) := dk_153 0 10 (dk_at dksX2_row_2 5 rfl rfl)
theorem dX2_row_56 : decode cX2_row 56 = .ok (.aload_n 0, 1) := dk_42 (dk_at dksX2_row_2 8 rfl rfl)
theorem dX2_row_57 : decode cX2_row 57 = .ok (.invokevirtual 267, 3) := dk_182 1 11 (dk_at dksX2_row_2 9 rfl rfl)
theorem dX2_row_60 : decode cX2_row 60 = .ok (.goto 8, 3) := dk_167 0 8 (dk_at dksX2_row_2 12 rfl rfl)
theorem dX2_row_63 : decode cX2_row 63 = .ok (.aload_n 0, 1) := dk_42 (dk_at dksX2_row_2 15 rfl rfl)
theorem dX2_row_64 : decode cX2_row 64 = .ok (.iconst 1, 1) := dk_4 (dk_at dksX2_row_2 16 rfl rfl)
theorem dX2_row_65 : decode cX2_row 65 = .ok (.invokevirtual 252, 3) := dk_182 0 252 (dk_at dksX2_row_2 17 rfl rfl)
theorem dX2_row_68 : decode cX2_row 68 = .ok (.iload_n 1, 1) := dk_27 (dk_at dksX2_row_2 20 rfl rfl)
theorem dX2_row_69 : decode cX2_row 69 = .ok (.invokespecial 271, 3) := dk_183 1 15 (dk_at dksX2_row_2 21 rfl rfl)
theorem dX2_row_72 : decode cX2_row 72 = .ok (.putfield 278, 3) := dk_181 1 22 (dk_at dksX2_row_3 0 rfl rfl)
theorem dX2_row_75 : decode cX2_row 75 = .ok (.aload_n 3, 1) := dk_45 (dk_at dksX2_row_3 3 rfl rfl)
theorem dX2_row_76 : decode cX2_row 76 = .ok (.getfield 278, 3) := dk_180 1 22 (dk_at dksX2_row_3 4 rfl rfl)
theorem dX2_row_79 : decode cX2_row 79 = .ok (.astore_n 3, 1) := dk_78 (dk_at dksX2_row_3 7 rfl rfl)
theorem dX2_row_80 : decode cX2_row 80 = .ok (.goto (-53), 3) := dk_167 255 203 (dk_at dksX2_row_3 8 rfl rfl)
theorem dX2_row_83 : decode cX2_row 83 = .ok (.aload_n 2, 1) := dk_44 (dk_at dksX2_row_3 11 rfl rfl)
theorem dX2_row_84 : decode cX2_row 84 = .ok (.areturn, 1) := dk_176 (dk_at dksX2_row_3 12 rfl rfl)
abbrev cX2_atom : ByteArray := prog_12_method_20_code
def yX2_atom : MethodName := ⟨RX2, "atom", "()LGlacierMail$Cond;"⟩
def dkwX2_atom_5 : List UInt8 := [4, 96, 181, 0, 67, 42, 89, 180, 0, 95, 4, 100, 181, 0, 95, 25, 4, 176]
abbrev dktX2_atom_5 : List UInt8 := dkwX2_atom_5 ++ []
def dkwX2_atom_4 : List UInt8 := [58, 4, 42, 182, 0, 73, 16, 41, 159, 0, 11, 42, 42, 180, 0, 67, 182, 0, 88, 42, 89, 180, 0, 67]
abbrev dktX2_atom_4 : List UInt8 := dkwX2_atom_4 ++ dktX2_atom_5
def dkwX2_atom_3 : List UInt8 := [183, 1, 33, 58, 4, 167, 0, 47, 42, 89, 180, 0, 67, 4, 96, 181, 0, 67, 42, 3, 182, 0, 252]
abbrev dktX2_atom_3 : List UInt8 := dkwX2_atom_3 ++ dktX2_atom_4
def dkwX2_atom_2 : List UInt8 := [42, 89, 180, 0, 95, 4, 96, 181, 0, 95, 29, 153, 0, 19, 187, 1, 31, 89, 42, 182, 1, 11]
abbrev dktX2_atom_2 : List UInt8 := dkwX2_atom_2 ++ dktX2_atom_3
def dkwX2_atom_1 : List UInt8 := [16, 40, 159, 0, 8, 42, 182, 1, 28, 176, 42, 180, 0, 95, 16, 6, 160, 0, 8, 42, 28, 182, 0, 88]
abbrev dktX2_atom_1 : List UInt8 := dkwX2_atom_1 ++ dktX2_atom_2
def dkwX2_atom_0 : List UInt8 := [42, 182, 0, 73, 60, 42, 180, 0, 67, 61, 42, 19, 1, 26, 182, 0, 84, 62, 29, 154, 0, 14, 27]
abbrev dktX2_atom_0 : List UInt8 := dkwX2_atom_0 ++ dktX2_atom_1
theorem dksX2_atom_0 : cX2_atom.data.toList.drop 0 = dktX2_atom_0 := by decide +kernel
theorem dksX2_atom_1 : cX2_atom.data.toList.drop 23 = dktX2_atom_1 := dk_seg dksX2_atom_0 23 rfl rfl
theorem dksX2_atom_2 : cX2_atom.data.toList.drop 47 = dktX2_atom_2 := dk_seg dksX2_atom_1 24 rfl rfl
theorem dksX2_atom_3 : cX2_atom.data.toList.drop 69 = dktX2_atom_3 := dk_seg dksX2_atom_2 22 rfl rfl
theorem dksX2_atom_4 : cX2_atom.data.toList.drop 92 = dktX2_atom_4 := dk_seg dksX2_atom_3 23 rfl rfl
theorem dksX2_atom_5 : cX2_atom.data.toList.drop 116 = dktX2_atom_5 := dk_seg dksX2_atom_4 24 rfl rfl
theorem dX2_atom_0 : decode cX2_atom 0 = .ok (.aload_n 0, 1) := dk_42 (dk_at dksX2_atom_0 0 rfl rfl)
theorem dX2_atom_1 : decode cX2_atom 1 = .ok (.invokevirtual 73, 3) := dk_182 0 73 (dk_at dksX2_atom_0 1 rfl rfl)
theorem dX2_atom_4 : decode cX2_atom 4 = .ok (.istore_n 1, 1) := dk_60 (dk_at dksX2_atom_0 4 rfl rfl)
theorem dX2_atom_5 : decode cX2_atom 5 = .ok (.aload_n 0, 1) := dk_42 (dk_at dksX2_atom_0 5 rfl rfl)
theorem dX2_atom_6 : decode cX2_atom 6 = .ok (.getfield 67, 3) := dk_180 0 67 (dk_at dksX2_atom_0 6 rfl rfl)
theorem dX2_atom_9 : decode cX2_atom 9 = .ok (.istore_n 2, 1) := dk_61 (dk_at dksX2_atom_0 9 rfl rfl)
theorem dX2_atom_10 : decode cX2_atom 10 = .ok (.aload_n 0, 1) := dk_42 (dk_at dksX2_atom_0 10 rfl rfl)
theorem dX2_atom_11 : decode cX2_atom 11 = .ok (.ldc_w 282, 3) := dk_19 1 26 (dk_at dksX2_atom_0 11 rfl rfl)
theorem dX2_atom_14 : decode cX2_atom 14 = .ok (.invokevirtual 84, 3) := dk_182 0 84 (dk_at dksX2_atom_0 14 rfl rfl)
theorem dX2_atom_17 : decode cX2_atom 17 = .ok (.istore_n 3, 1) := dk_62 (dk_at dksX2_atom_0 17 rfl rfl)
theorem dX2_atom_18 : decode cX2_atom 18 = .ok (.iload_n 3, 1) := dk_29 (dk_at dksX2_atom_0 18 rfl rfl)
theorem dX2_atom_19 : decode cX2_atom 19 = .ok (.ifCond .ne 14, 3) := dk_154 0 14 (dk_at dksX2_atom_0 19 rfl rfl)
theorem dX2_atom_22 : decode cX2_atom 22 = .ok (.iload_n 1, 1) := dk_27 (dk_at dksX2_atom_0 22 rfl rfl)
theorem dX2_atom_23 : decode cX2_atom 23 = .ok (.bipush 40, 2) := dk_16 40 (dk_at dksX2_atom_1 0 rfl rfl)
theorem dX2_atom_25 : decode cX2_atom 25 = .ok (.if_icmp .eq 8, 3) := dk_159 0 8 (dk_at dksX2_atom_1 2 rfl rfl)
theorem dX2_atom_28 : decode cX2_atom 28 = .ok (.aload_n 0, 1) := dk_42 (dk_at dksX2_atom_1 5 rfl rfl)
theorem dX2_atom_29 : decode cX2_atom 29 = .ok (.invokevirtual 284, 3) := dk_182 1 28 (dk_at dksX2_atom_1 6 rfl rfl)
theorem dX2_atom_32 : decode cX2_atom 32 = .ok (.areturn, 1) := dk_176 (dk_at dksX2_atom_1 9 rfl rfl)
theorem dX2_atom_33 : decode cX2_atom 33 = .ok (.aload_n 0, 1) := dk_42 (dk_at dksX2_atom_1 10 rfl rfl)
theorem dX2_atom_34 : decode cX2_atom 34 = .ok (.getfield 95, 3) := dk_180 0 95 (dk_at dksX2_atom_1 11 rfl rfl)
theorem dX2_atom_37 : decode cX2_atom 37 = .ok (.bipush 6, 2) := dk_16 6 (dk_at dksX2_atom_1 14 rfl rfl)
theorem dX2_atom_39 : decode cX2_atom 39 = .ok (.if_icmp .ne 8, 3) := dk_160 0 8 (dk_at dksX2_atom_1 16 rfl rfl)
theorem dX2_atom_42 : decode cX2_atom 42 = .ok (.aload_n 0, 1) := dk_42 (dk_at dksX2_atom_1 19 rfl rfl)
theorem dX2_atom_43 : decode cX2_atom 43 = .ok (.iload_n 2, 1) := dk_28 (dk_at dksX2_atom_1 20 rfl rfl)
theorem dX2_atom_44 : decode cX2_atom 44 = .ok (.invokevirtual 88, 3) := dk_182 0 88 (dk_at dksX2_atom_1 21 rfl rfl)
theorem dX2_atom_47 : decode cX2_atom 47 = .ok (.aload_n 0, 1) := dk_42 (dk_at dksX2_atom_2 0 rfl rfl)
theorem dX2_atom_48 : decode cX2_atom 48 = .ok (.dup, 1) := dk_89 (dk_at dksX2_atom_2 1 rfl rfl)
theorem dX2_atom_49 : decode cX2_atom 49 = .ok (.getfield 95, 3) := dk_180 0 95 (dk_at dksX2_atom_2 2 rfl rfl)
theorem dX2_atom_52 : decode cX2_atom 52 = .ok (.iconst 1, 1) := dk_4 (dk_at dksX2_atom_2 5 rfl rfl)
theorem dX2_atom_53 : decode cX2_atom 53 = .ok (.iadd, 1) := dk_96 (dk_at dksX2_atom_2 6 rfl rfl)
theorem dX2_atom_54 : decode cX2_atom 54 = .ok (.putfield 95, 3) := dk_181 0 95 (dk_at dksX2_atom_2 7 rfl rfl)
theorem dX2_atom_57 : decode cX2_atom 57 = .ok (.iload_n 3, 1) := dk_29 (dk_at dksX2_atom_2 10 rfl rfl)
theorem dX2_atom_58 : decode cX2_atom 58 = .ok (.ifCond .eq 19, 3) := dk_153 0 19 (dk_at dksX2_atom_2 11 rfl rfl)
theorem dX2_atom_61 : decode cX2_atom 61 = .ok (.new 287, 3) := dk_187 1 31 (dk_at dksX2_atom_2 14 rfl rfl)
theorem dX2_atom_64 : decode cX2_atom 64 = .ok (.dup, 1) := dk_89 (dk_at dksX2_atom_2 17 rfl rfl)
theorem dX2_atom_65 : decode cX2_atom 65 = .ok (.aload_n 0, 1) := dk_42 (dk_at dksX2_atom_2 18 rfl rfl)
theorem dX2_atom_66 : decode cX2_atom 66 = .ok (.invokevirtual 267, 3) := dk_182 1 11 (dk_at dksX2_atom_2 19 rfl rfl)
theorem dX2_atom_69 : decode cX2_atom 69 = .ok (.invokespecial 289, 3) := dk_183 1 33 (dk_at dksX2_atom_3 0 rfl rfl)
theorem dX2_atom_72 : decode cX2_atom 72 = .ok (.astore 4, 2) := dk_58 4 (dk_at dksX2_atom_3 3 rfl rfl)
theorem dX2_atom_74 : decode cX2_atom 74 = .ok (.goto 47, 3) := dk_167 0 47 (dk_at dksX2_atom_3 5 rfl rfl)
theorem dX2_atom_77 : decode cX2_atom 77 = .ok (.aload_n 0, 1) := dk_42 (dk_at dksX2_atom_3 8 rfl rfl)
theorem dX2_atom_78 : decode cX2_atom 78 = .ok (.dup, 1) := dk_89 (dk_at dksX2_atom_3 9 rfl rfl)
theorem dX2_atom_79 : decode cX2_atom 79 = .ok (.getfield 67, 3) := dk_180 0 67 (dk_at dksX2_atom_3 10 rfl rfl)
theorem dX2_atom_82 : decode cX2_atom 82 = .ok (.iconst 1, 1) := dk_4 (dk_at dksX2_atom_3 13 rfl rfl)
theorem dX2_atom_83 : decode cX2_atom 83 = .ok (.iadd, 1) := dk_96 (dk_at dksX2_atom_3 14 rfl rfl)
theorem dX2_atom_84 : decode cX2_atom 84 = .ok (.putfield 67, 3) := dk_181 0 67 (dk_at dksX2_atom_3 15 rfl rfl)
theorem dX2_atom_87 : decode cX2_atom 87 = .ok (.aload_n 0, 1) := dk_42 (dk_at dksX2_atom_3 18 rfl rfl)
theorem dX2_atom_88 : decode cX2_atom 88 = .ok (.iconst 0, 1) := dk_3 (dk_at dksX2_atom_3 19 rfl rfl)
theorem dX2_atom_89 : decode cX2_atom 89 = .ok (.invokevirtual 252, 3) := dk_182 0 252 (dk_at dksX2_atom_3 20 rfl rfl)
theorem dX2_atom_92 : decode cX2_atom 92 = .ok (.astore 4, 2) := dk_58 4 (dk_at dksX2_atom_4 0 rfl rfl)
theorem dX2_atom_94 : decode cX2_atom 94 = .ok (.aload_n 0, 1) := dk_42 (dk_at dksX2_atom_4 2 rfl rfl)
theorem dX2_atom_95 : decode cX2_atom 95 = .ok (.invokevirtual 73, 3) := dk_182 0 73 (dk_at dksX2_atom_4 3 rfl rfl)
theorem dX2_atom_98 : decode cX2_atom 98 = .ok (.bipush 41, 2) := dk_16 41 (dk_at dksX2_atom_4 6 rfl rfl)
theorem dX2_atom_100 : decode cX2_atom 100 = .ok (.if_icmp .eq 11, 3) := dk_159 0 11 (dk_at dksX2_atom_4 8 rfl rfl)
theorem dX2_atom_103 : decode cX2_atom 103 = .ok (.aload_n 0, 1) := dk_42 (dk_at dksX2_atom_4 11 rfl rfl)
theorem dX2_atom_104 : decode cX2_atom 104 = .ok (.aload_n 0, 1) := dk_42 (dk_at dksX2_atom_4 12 rfl rfl)
theorem dX2_atom_105 : decode cX2_atom 105 = .ok (.getfield 67, 3) := dk_180 0 67 (dk_at dksX2_atom_4 13 rfl rfl)
theorem dX2_atom_108 : decode cX2_atom 108 = .ok (.invokevirtual 88, 3) := dk_182 0 88 (dk_at dksX2_atom_4 16 rfl rfl)
theorem dX2_atom_111 : decode cX2_atom 111 = .ok (.aload_n 0, 1) := dk_42 (dk_at dksX2_atom_4 19 rfl rfl)
theorem dX2_atom_112 : decode cX2_atom 112 = .ok (.dup, 1) := dk_89 (dk_at dksX2_atom_4 20 rfl rfl)
theorem dX2_atom_113 : decode cX2_atom 113 = .ok (.getfield 67, 3) := dk_180 0 67 (dk_at dksX2_atom_4 21 rfl rfl)
theorem dX2_atom_116 : decode cX2_atom 116 = .ok (.iconst 1, 1) := dk_4 (dk_at dksX2_atom_5 0 rfl rfl)
theorem dX2_atom_117 : decode cX2_atom 117 = .ok (.iadd, 1) := dk_96 (dk_at dksX2_atom_5 1 rfl rfl)
theorem dX2_atom_118 : decode cX2_atom 118 = .ok (.putfield 67, 3) := dk_181 0 67 (dk_at dksX2_atom_5 2 rfl rfl)
theorem dX2_atom_121 : decode cX2_atom 121 = .ok (.aload_n 0, 1) := dk_42 (dk_at dksX2_atom_5 5 rfl rfl)
theorem dX2_atom_122 : decode cX2_atom 122 = .ok (.dup, 1) := dk_89 (dk_at dksX2_atom_5 6 rfl rfl)
theorem dX2_atom_123 : decode cX2_atom 123 = .ok (.getfield 95, 3) := dk_180 0 95 (dk_at dksX2_atom_5 7 rfl rfl)
theorem dX2_atom_126 : decode cX2_atom 126 = .ok (.iconst 1, 1) := dk_4 (dk_at dksX2_atom_5 10 rfl rfl)
theorem dX2_atom_127 : decode cX2_atom 127 = .ok (.isub, 1) := dk_100 (dk_at dksX2_atom_5 11 rfl rfl)
theorem dX2_atom_128 : decode cX2_atom 128 = .ok (.putfield 95, 3) := dk_181 0 95 (dk_at dksX2_atom_5 12 rfl rfl)
theorem dX2_atom_131 : decode cX2_atom 131 = .ok (.aload 4, 2) := dk_25 4 (dk_at dksX2_atom_5 15 rfl rfl)
theorem dX2_atom_133 : decode cX2_atom 133 = .ok (.areturn, 1) := dk_176 (dk_at dksX2_atom_5 17 rfl rfl)
abbrev cX2_tag : ByteArray := prog_12_method_21_code
def yX2_tag : MethodName := ⟨RX2, "tag", "()LGlacierMail$Cond;"⟩
def dkwX2_tag_4 : List UInt8 := [89, 43, 45, 183, 1, 44, 167, 0, 12, 187, 1, 42, 89, 45, 43, 183, 1, 44, 176]
abbrev dktX2_tag_4 : List UInt8 := dkwX2_tag_4 ++ []
def dkwX2_tag_3 : List UInt8 := [42, 89, 180, 0, 67, 4, 96, 181, 0, 67, 42, 182, 1, 38, 78, 28, 16, 60, 160, 0, 15, 187, 1, 42]
abbrev dktX2_tag_3 : List UInt8 := dkwX2_tag_3 ++ dktX2_tag_4
def dkwX2_tag_2 : List UInt8 := [182, 0, 73, 61, 28, 16, 60, 159, 0, 17, 28, 16, 62, 159, 0, 11, 42, 42, 180, 0, 67, 182, 0, 88]
abbrev dktX2_tag_2 : List UInt8 := dkwX2_tag_2 ++ dktX2_tag_3
def dkwX2_tag_1 : List UInt8 := [187, 1, 34, 89, 16, 8, 27, 96, 183, 1, 36, 176, 132, 1, 1, 167, 255, 219, 42, 182, 1, 38, 76, 42]
abbrev dktX2_tag_1 : List UInt8 := dkwX2_tag_1 ++ dktX2_tag_2
def dkwX2_tag_0 : List UInt8 := [3, 60, 27, 42, 180, 0, 41, 190, 162, 0, 34, 42, 42, 180, 0, 41, 27, 50, 182, 0, 84, 153, 0, 15]
abbrev dktX2_tag_0 : List UInt8 := dkwX2_tag_0 ++ dktX2_tag_1
theorem dksX2_tag_0 : cX2_tag.data.toList.drop 0 = dktX2_tag_0 := by decide +kernel
theorem dksX2_tag_1 : cX2_tag.data.toList.drop 24 = dktX2_tag_1 := dk_seg dksX2_tag_0 24 rfl rfl
theorem dksX2_tag_2 : cX2_tag.data.toList.drop 48 = dktX2_tag_2 := dk_seg dksX2_tag_1 24 rfl rfl
theorem dksX2_tag_3 : cX2_tag.data.toList.drop 72 = dktX2_tag_3 := dk_seg dksX2_tag_2 24 rfl rfl
theorem dksX2_tag_4 : cX2_tag.data.toList.drop 96 = dktX2_tag_4 := dk_seg dksX2_tag_3 24 rfl rfl
theorem dX2_tag_0 : decode cX2_tag 0 = .ok (.iconst 0, 1) := dk_3 (dk_at dksX2_tag_0 0 rfl rfl)
theorem dX2_tag_1 : decode cX2_tag 1 = .ok (.istore_n 1, 1) := dk_60 (dk_at dksX2_tag_0 1 rfl rfl)
theorem dX2_tag_2 : decode cX2_tag 2 = .ok (.iload_n 1, 1) := dk_27 (dk_at dksX2_tag_0 2 rfl rfl)
theorem dX2_tag_3 : decode cX2_tag 3 = .ok (.aload_n 0, 1) := dk_42 (dk_at dksX2_tag_0 3 rfl rfl)
theorem dX2_tag_4 : decode cX2_tag 4 = .ok (.getfield 41, 3) := dk_180 0 41 (dk_at dksX2_tag_0 4 rfl rfl)
theorem dX2_tag_7 : decode cX2_tag 7 = .ok (.arraylength, 1) := dk_190 (dk_at dksX2_tag_0 7 rfl rfl)
theorem dX2_tag_8 : decode cX2_tag 8 = .ok (.if_icmp .ge 34, 3) := dk_162 0 34 (dk_at dksX2_tag_0 8 rfl rfl)
theorem dX2_tag_11 : decode cX2_tag 11 = .ok (.aload_n 0, 1) := dk_42 (dk_at dksX2_tag_0 11 rfl rfl)
theorem dX2_tag_12 : decode cX2_tag 12 = .ok (.aload_n 0, 1) := dk_42 (dk_at dksX2_tag_0 12 rfl rfl)
theorem dX2_tag_13 : decode cX2_tag 13 = .ok (.getfield 41, 3) := dk_180 0 41 (dk_at dksX2_tag_0 13 rfl rfl)
theorem dX2_tag_16 : decode cX2_tag 16 = .ok (.iload_n 1, 1) := dk_27 (dk_at dksX2_tag_0 16 rfl rfl)
theorem dX2_tag_17 : decode cX2_tag 17 = .ok (.aaload, 1) := dk_50 (dk_at dksX2_tag_0 17 rfl rfl)
theorem dX2_tag_18 : decode cX2_tag 18 = .ok (.invokevirtual 84, 3) := dk_182 0 84 (dk_at dksX2_tag_0 18 rfl rfl)
theorem dX2_tag_21 : decode cX2_tag 21 = .ok (.ifCond .eq 15, 3) := dk_153 0 15 (dk_at dksX2_tag_0 21 rfl rfl)
theorem dX2_tag_24 : decode cX2_tag 24 = .ok (.new 290, 3) := dk_187 1 34 (dk_at dksX2_tag_1 0 rfl rfl)
theorem dX2_tag_27 : decode cX2_tag 27 = .ok (.dup, 1) := dk_89 (dk_at dksX2_tag_1 3 rfl rfl)
theorem dX2_tag_28 : decode cX2_tag 28 = .ok (.bipush 8, 2) := dk_16 8 (dk_at dksX2_tag_1 4 rfl rfl)
theorem dX2_tag_30 : decode cX2_tag 30 = .ok (.iload_n 1, 1) := dk_27 (dk_at dksX2_tag_1 6 rfl rfl)
theorem dX2_tag_31 : decode cX2_tag 31 = .ok (.iadd, 1) := dk_96 (dk_at dksX2_tag_1 7 rfl rfl)
theorem dX2_tag_32 : decode cX2_tag 32 = .ok (.invokespecial 292, 3) := dk_183 1 36 (dk_at dksX2_tag_1 8 rfl rfl)
theorem dX2_tag_35 : decode cX2_tag 35 = .ok (.areturn, 1) := dk_176 (dk_at dksX2_tag_1 11 rfl rfl)
theorem dX2_tag_36 : decode cX2_tag 36 = .ok (.iinc 1 1, 3) := dk_132 1 1 (dk_at dksX2_tag_1 12 rfl rfl)
theorem dX2_tag_39 : decode cX2_tag 39 = .ok (.goto (-37), 3) := dk_167 255 219 (dk_at dksX2_tag_1 15 rfl rfl)
theorem dX2_tag_42 : decode cX2_tag 42 = .ok (.aload_n 0, 1) := dk_42 (dk_at dksX2_tag_1 18 rfl rfl)
theorem dX2_tag_43 : decode cX2_tag 43 = .ok (.invokevirtual 294, 3) := dk_182 1 38 (dk_at dksX2_tag_1 19 rfl rfl)
theorem dX2_tag_46 : decode cX2_tag 46 = .ok (.astore_n 1, 1) := dk_76 (dk_at dksX2_tag_1 22 rfl rfl)
theorem dX2_tag_47 : decode cX2_tag 47 = .ok (.aload_n 0, 1) := dk_42 (dk_at dksX2_tag_1 23 rfl rfl)
theorem dX2_tag_48 : decode cX2_tag 48 = .ok (.invokevirtual 73, 3) := dk_182 0 73 (dk_at dksX2_tag_2 0 rfl rfl)
theorem dX2_tag_51 : decode cX2_tag 51 = .ok (.istore_n 2, 1) := dk_61 (dk_at dksX2_tag_2 3 rfl rfl)
theorem dX2_tag_52 : decode cX2_tag 52 = .ok (.iload_n 2, 1) := dk_28 (dk_at dksX2_tag_2 4 rfl rfl)
theorem dX2_tag_53 : decode cX2_tag 53 = .ok (.bipush 60, 2) := dk_16 60 (dk_at dksX2_tag_2 5 rfl rfl)
theorem dX2_tag_55 : decode cX2_tag 55 = .ok (.if_icmp .eq 17, 3) := dk_159 0 17 (dk_at dksX2_tag_2 7 rfl rfl)
theorem dX2_tag_58 : decode cX2_tag 58 = .ok (.iload_n 2, 1) := dk_28 (dk_at dksX2_tag_2 10 rfl rfl)
theorem dX2_tag_59 : decode cX2_tag 59 = .ok (.bipush 62, 2) := dk_16 62 (dk_at dksX2_tag_2 11 rfl rfl)
theorem dX2_tag_61 : decode cX2_tag 61 = .ok (.if_icmp .eq 11, 3) := dk_159 0 11 (dk_at dksX2_tag_2 13 rfl rfl)
theorem dX2_tag_64 : decode cX2_tag 64 = .ok (.aload_n 0, 1) := dk_42 (dk_at dksX2_tag_2 16 rfl rfl)
theorem dX2_tag_65 : decode cX2_tag 65 = .ok (.aload_n 0, 1) := dk_42 (dk_at dksX2_tag_2 17 rfl rfl)
theorem dX2_tag_66 : decode cX2_tag 66 = .ok (.getfield 67, 3) := dk_180 0 67 (dk_at dksX2_tag_2 18 rfl rfl)
theorem dX2_tag_69 : decode cX2_tag 69 = .ok (.invokevirtual 88, 3) := dk_182 0 88 (dk_at dksX2_tag_2 21 rfl rfl)
theorem dX2_tag_72 : decode cX2_tag 72 = .ok (.aload_n 0, 1) := dk_42 (dk_at dksX2_tag_3 0 rfl rfl)
theorem dX2_tag_73 : decode cX2_tag 73 = .ok (.dup, 1) := dk_89 (dk_at dksX2_tag_3 1 rfl rfl)
theorem dX2_tag_74 : decode cX2_tag 74 = .ok (.getfield 67, 3) := dk_180 0 67 (dk_at dksX2_tag_3 2 rfl rfl)
theorem dX2_tag_77 : decode cX2_tag 77 = .ok (.iconst 1, 1) := dk_4 (dk_at dksX2_tag_3 5 rfl rfl)
theorem dX2_tag_78 : decode cX2_tag 78 = .ok (.iadd, 1) := dk_96 (dk_at dksX2_tag_3 6 rfl rfl)
theorem dX2_tag_79 : decode cX2_tag 79 = .ok (.putfield 67, 3) := dk_181 0 67 (dk_at dksX2_tag_3 7 rfl rfl)
theorem dX2_tag_82 : decode cX2_tag 82 = .ok (.aload_n 0, 1) := dk_42 (dk_at dksX2_tag_3 10 rfl rfl)
theorem dX2_tag_83 : decode cX2_tag 83 = .ok (.invokevirtual 294, 3) := dk_182 1 38 (dk_at dksX2_tag_3 11 rfl rfl)
theorem dX2_tag_86 : decode cX2_tag 86 = .ok (.astore_n 3, 1) := dk_78 (dk_at dksX2_tag_3 14 rfl rfl)
theorem dX2_tag_87 : decode cX2_tag 87 = .ok (.iload_n 2, 1) := dk_28 (dk_at dksX2_tag_3 15 rfl rfl)
theorem dX2_tag_88 : decode cX2_tag 88 = .ok (.bipush 60, 2) := dk_16 60 (dk_at dksX2_tag_3 16 rfl rfl)
theorem dX2_tag_90 : decode cX2_tag 90 = .ok (.if_icmp .ne 15, 3) := dk_160 0 15 (dk_at dksX2_tag_3 18 rfl rfl)
theorem dX2_tag_93 : decode cX2_tag 93 = .ok (.new 298, 3) := dk_187 1 42 (dk_at dksX2_tag_3 21 rfl rfl)
theorem dX2_tag_96 : decode cX2_tag 96 = .ok (.dup, 1) := dk_89 (dk_at dksX2_tag_4 0 rfl rfl)
theorem dX2_tag_97 : decode cX2_tag 97 = .ok (.aload_n 1, 1) := dk_43 (dk_at dksX2_tag_4 1 rfl rfl)
theorem dX2_tag_98 : decode cX2_tag 98 = .ok (.aload_n 3, 1) := dk_45 (dk_at dksX2_tag_4 2 rfl rfl)
theorem dX2_tag_99 : decode cX2_tag 99 = .ok (.invokespecial 300, 3) := dk_183 1 44 (dk_at dksX2_tag_4 3 rfl rfl)
theorem dX2_tag_102 : decode cX2_tag 102 = .ok (.goto 12, 3) := dk_167 0 12 (dk_at dksX2_tag_4 6 rfl rfl)
theorem dX2_tag_105 : decode cX2_tag 105 = .ok (.new 298, 3) := dk_187 1 42 (dk_at dksX2_tag_4 9 rfl rfl)
theorem dX2_tag_108 : decode cX2_tag 108 = .ok (.dup, 1) := dk_89 (dk_at dksX2_tag_4 12 rfl rfl)
theorem dX2_tag_109 : decode cX2_tag 109 = .ok (.aload_n 3, 1) := dk_45 (dk_at dksX2_tag_4 13 rfl rfl)
theorem dX2_tag_110 : decode cX2_tag 110 = .ok (.aload_n 1, 1) := dk_43 (dk_at dksX2_tag_4 14 rfl rfl)
theorem dX2_tag_111 : decode cX2_tag 111 = .ok (.invokespecial 300, 3) := dk_183 1 44 (dk_at dksX2_tag_4 15 rfl rfl)
theorem dX2_tag_114 : decode cX2_tag 114 = .ok (.areturn, 1) := dk_176 (dk_at dksX2_tag_4 18 rfl rfl)
abbrev cX2_sum : ByteArray := prog_12_method_22_code
def yX2_sum : MethodName := ⟨RX2, "sum", "()LGlacierMail$Sum;"⟩
def dkwX2_sum_1 : List UInt8 := [180, 0, 67, 4, 96, 181, 0, 67, 42, 43, 182, 1, 50, 167, 255, 232, 43, 176]
abbrev dktX2_sum_1 : List UInt8 := dkwX2_sum_1 ++ []
def dkwX2_sum_0 : List UInt8 := [187, 1, 47, 89, 183, 1, 49, 76, 42, 43, 182, 1, 50, 42, 182, 0, 73, 16, 43, 160, 0, 21, 42, 89]
abbrev dktX2_sum_0 : List UInt8 := dkwX2_sum_0 ++ dktX2_sum_1
theorem dksX2_sum_0 : cX2_sum.data.toList.drop 0 = dktX2_sum_0 := by decide +kernel
theorem dksX2_sum_1 : cX2_sum.data.toList.drop 24 = dktX2_sum_1 := dk_seg dksX2_sum_0 24 rfl rfl
theorem dX2_sum_0 : decode cX2_sum 0 = .ok (.new 303, 3) := dk_187 1 47 (dk_at dksX2_sum_0 0 rfl rfl)
theorem dX2_sum_3 : decode cX2_sum 3 = .ok (.dup, 1) := dk_89 (dk_at dksX2_sum_0 3 rfl rfl)
theorem dX2_sum_4 : decode cX2_sum 4 = .ok (.invokespecial 305, 3) := dk_183 1 49 (dk_at dksX2_sum_0 4 rfl rfl)
theorem dX2_sum_7 : decode cX2_sum 7 = .ok (.astore_n 1, 1) := dk_76 (dk_at dksX2_sum_0 7 rfl rfl)
theorem dX2_sum_8 : decode cX2_sum 8 = .ok (.aload_n 0, 1) := dk_42 (dk_at dksX2_sum_0 8 rfl rfl)
theorem dX2_sum_9 : decode cX2_sum 9 = .ok (.aload_n 1, 1) := dk_43 (dk_at dksX2_sum_0 9 rfl rfl)
theorem dX2_sum_10 : decode cX2_sum 10 = .ok (.invokevirtual 306, 3) := dk_182 1 50 (dk_at dksX2_sum_0 10 rfl rfl)
theorem dX2_sum_13 : decode cX2_sum 13 = .ok (.aload_n 0, 1) := dk_42 (dk_at dksX2_sum_0 13 rfl rfl)
theorem dX2_sum_14 : decode cX2_sum 14 = .ok (.invokevirtual 73, 3) := dk_182 0 73 (dk_at dksX2_sum_0 14 rfl rfl)
theorem dX2_sum_17 : decode cX2_sum 17 = .ok (.bipush 43, 2) := dk_16 43 (dk_at dksX2_sum_0 17 rfl rfl)
theorem dX2_sum_19 : decode cX2_sum 19 = .ok (.if_icmp .ne 21, 3) := dk_160 0 21 (dk_at dksX2_sum_0 19 rfl rfl)
theorem dX2_sum_22 : decode cX2_sum 22 = .ok (.aload_n 0, 1) := dk_42 (dk_at dksX2_sum_0 22 rfl rfl)
theorem dX2_sum_23 : decode cX2_sum 23 = .ok (.dup, 1) := dk_89 (dk_at dksX2_sum_0 23 rfl rfl)
theorem dX2_sum_24 : decode cX2_sum 24 = .ok (.getfield 67, 3) := dk_180 0 67 (dk_at dksX2_sum_1 0 rfl rfl)
theorem dX2_sum_27 : decode cX2_sum 27 = .ok (.iconst 1, 1) := dk_4 (dk_at dksX2_sum_1 3 rfl rfl)
theorem dX2_sum_28 : decode cX2_sum 28 = .ok (.iadd, 1) := dk_96 (dk_at dksX2_sum_1 4 rfl rfl)
theorem dX2_sum_29 : decode cX2_sum 29 = .ok (.putfield 67, 3) := dk_181 0 67 (dk_at dksX2_sum_1 5 rfl rfl)
theorem dX2_sum_32 : decode cX2_sum 32 = .ok (.aload_n 0, 1) := dk_42 (dk_at dksX2_sum_1 8 rfl rfl)
theorem dX2_sum_33 : decode cX2_sum 33 = .ok (.aload_n 1, 1) := dk_43 (dk_at dksX2_sum_1 9 rfl rfl)
theorem dX2_sum_34 : decode cX2_sum 34 = .ok (.invokevirtual 306, 3) := dk_182 1 50 (dk_at dksX2_sum_1 10 rfl rfl)
theorem dX2_sum_37 : decode cX2_sum 37 = .ok (.goto (-24), 3) := dk_167 255 232 (dk_at dksX2_sum_1 13 rfl rfl)
theorem dX2_sum_40 : decode cX2_sum 40 = .ok (.aload_n 1, 1) := dk_43 (dk_at dksX2_sum_1 16 rfl rfl)
theorem dX2_sum_41 : decode cX2_sum 41 = .ok (.areturn, 1) := dk_176 (dk_at dksX2_sum_1 17 rfl rfl)
abbrev cX2_part : ByteArray := prog_12_method_23_code
def yX2_part : MethodName := ⟨RX2, "part", "(LGlacierMail$Sum;)V"⟩
def dkwX2_part_3 : List UInt8 := [180, 0, 67, 182, 0, 88, 177]
abbrev dktX2_part_3 : List UInt8 := dkwX2_part_3 ++ []
def dkwX2_part_2 : List UInt8 := [167, 0, 14, 43, 180, 1, 59, 28, 92, 46, 4, 96, 79, 177, 132, 2, 1, 167, 255, 220, 42, 42]
abbrev dktX2_part_2 : List UInt8 := dkwX2_part_2 ++ dktX2_part_3
def dkwX2_part_1 : List UInt8 := [177, 3, 61, 28, 16, 8, 162, 0, 36, 42, 42, 180, 0, 33, 28, 50, 182, 0, 84, 154, 0, 6]
abbrev dktX2_part_1 : List UInt8 := dkwX2_part_1 ++ dktX2_part_2
def dkwX2_part_0 : List UInt8 := [42, 182, 1, 54, 153, 0, 21, 43, 89, 180, 1, 57, 42, 3, 17, 3, 231, 182, 0, 118, 96, 181, 1, 57]
abbrev dktX2_part_0 : List UInt8 := dkwX2_part_0 ++ dktX2_part_1
theorem dksX2_part_0 : cX2_part.data.toList.drop 0 = dktX2_part_0 := by decide +kernel
theorem dksX2_part_1 : cX2_part.data.toList.drop 24 = dktX2_part_1 := dk_seg dksX2_part_0 24 rfl rfl
theorem dksX2_part_2 : cX2_part.data.toList.drop 46 = dktX2_part_2 := dk_seg dksX2_part_1 22 rfl rfl
theorem dksX2_part_3 : cX2_part.data.toList.drop 68 = dktX2_part_3 := dk_seg dksX2_part_2 22 rfl rfl
theorem dX2_part_0 : decode cX2_part 0 = .ok (.aload_n 0, 1) := dk_42 (dk_at dksX2_part_0 0 rfl rfl)
theorem dX2_part_1 : decode cX2_part 1 = .ok (.invokevirtual 310, 3) := dk_182 1 54 (dk_at dksX2_part_0 1 rfl rfl)
theorem dX2_part_4 : decode cX2_part 4 = .ok (.ifCond .eq 21, 3) := dk_153 0 21 (dk_at dksX2_part_0 4 rfl rfl)
theorem dX2_part_7 : decode cX2_part 7 = .ok (.aload_n 1, 1) := dk_43 (dk_at dksX2_part_0 7 rfl rfl)
theorem dX2_part_8 : decode cX2_part 8 = .ok (.dup, 1) := dk_89 (dk_at dksX2_part_0 8 rfl rfl)
theorem dX2_part_9 : decode cX2_part 9 = .ok (.getfield 313, 3) := dk_180 1 57 (dk_at dksX2_part_0 9 rfl rfl)
theorem dX2_part_12 : decode cX2_part 12 = .ok (.aload_n 0, 1) := dk_42 (dk_at dksX2_part_0 12 rfl rfl)
theorem dX2_part_13 : decode cX2_part 13 = .ok (.iconst 0, 1) := dk_3 (dk_at dksX2_part_0 13 rfl rfl)
theorem dX2_part_14 : decode cX2_part 14 = .ok (.sipush 999, 3) := dk_17 3 231 (dk_at dksX2_part_0 14 rfl rfl)
theorem dX2_part_17 : decode cX2_part 17 = .ok (.invokevirtual 118, 3) := dk_182 0 118 (dk_at dksX2_part_0 17 rfl rfl)
theorem dX2_part_20 : decode cX2_part 20 = .ok (.iadd, 1) := dk_96 (dk_at dksX2_part_0 20 rfl rfl)
theorem dX2_part_21 : decode cX2_part 21 = .ok (.putfield 313, 3) := dk_181 1 57 (dk_at dksX2_part_0 21 rfl rfl)
theorem dX2_part_24 : decode cX2_part 24 = .ok (.return_, 1) := dk_177 (dk_at dksX2_part_1 0 rfl rfl)
theorem dX2_part_25 : decode cX2_part 25 = .ok (.iconst 0, 1) := dk_3 (dk_at dksX2_part_1 1 rfl rfl)
theorem dX2_part_26 : decode cX2_part 26 = .ok (.istore_n 2, 1) := dk_61 (dk_at dksX2_part_1 2 rfl rfl)
theorem dX2_part_27 : decode cX2_part 27 = .ok (.iload_n 2, 1) := dk_28 (dk_at dksX2_part_1 3 rfl rfl)
theorem dX2_part_28 : decode cX2_part 28 = .ok (.bipush 8, 2) := dk_16 8 (dk_at dksX2_part_1 4 rfl rfl)
theorem dX2_part_30 : decode cX2_part 30 = .ok (.if_icmp .ge 36, 3) := dk_162 0 36 (dk_at dksX2_part_1 6 rfl rfl)
theorem dX2_part_33 : decode cX2_part 33 = .ok (.aload_n 0, 1) := dk_42 (dk_at dksX2_part_1 9 rfl rfl)
theorem dX2_part_34 : decode cX2_part 34 = .ok (.aload_n 0, 1) := dk_42 (dk_at dksX2_part_1 10 rfl rfl)
theorem dX2_part_35 : decode cX2_part 35 = .ok (.getfield 33, 3) := dk_180 0 33 (dk_at dksX2_part_1 11 rfl rfl)
theorem dX2_part_38 : decode cX2_part 38 = .ok (.iload_n 2, 1) := dk_28 (dk_at dksX2_part_1 14 rfl rfl)
theorem dX2_part_39 : decode cX2_part 39 = .ok (.aaload, 1) := dk_50 (dk_at dksX2_part_1 15 rfl rfl)
theorem dX2_part_40 : decode cX2_part 40 = .ok (.invokevirtual 84, 3) := dk_182 0 84 (dk_at dksX2_part_1 16 rfl rfl)
theorem dX2_part_43 : decode cX2_part 43 = .ok (.ifCond .ne 6, 3) := dk_154 0 6 (dk_at dksX2_part_1 19 rfl rfl)
theorem dX2_part_46 : decode cX2_part 46 = .ok (.goto 14, 3) := dk_167 0 14 (dk_at dksX2_part_2 0 rfl rfl)
theorem dX2_part_49 : decode cX2_part 49 = .ok (.aload_n 1, 1) := dk_43 (dk_at dksX2_part_2 3 rfl rfl)
theorem dX2_part_50 : decode cX2_part 50 = .ok (.getfield 315, 3) := dk_180 1 59 (dk_at dksX2_part_2 4 rfl rfl)
theorem dX2_part_53 : decode cX2_part 53 = .ok (.iload_n 2, 1) := dk_28 (dk_at dksX2_part_2 7 rfl rfl)
theorem dX2_part_54 : decode cX2_part 54 = .ok (.dup2, 1) := dk_92 (dk_at dksX2_part_2 8 rfl rfl)
theorem dX2_part_55 : decode cX2_part 55 = .ok (.iaload, 1) := dk_46 (dk_at dksX2_part_2 9 rfl rfl)
theorem dX2_part_56 : decode cX2_part 56 = .ok (.iconst 1, 1) := dk_4 (dk_at dksX2_part_2 10 rfl rfl)
theorem dX2_part_57 : decode cX2_part 57 = .ok (.iadd, 1) := dk_96 (dk_at dksX2_part_2 11 rfl rfl)
theorem dX2_part_58 : decode cX2_part 58 = .ok (.iastore, 1) := dk_79 (dk_at dksX2_part_2 12 rfl rfl)
theorem dX2_part_59 : decode cX2_part 59 = .ok (.return_, 1) := dk_177 (dk_at dksX2_part_2 13 rfl rfl)
theorem dX2_part_60 : decode cX2_part 60 = .ok (.iinc 2 1, 3) := dk_132 2 1 (dk_at dksX2_part_2 14 rfl rfl)
theorem dX2_part_63 : decode cX2_part 63 = .ok (.goto (-36), 3) := dk_167 255 220 (dk_at dksX2_part_2 17 rfl rfl)
theorem dX2_part_66 : decode cX2_part 66 = .ok (.aload_n 0, 1) := dk_42 (dk_at dksX2_part_2 20 rfl rfl)
theorem dX2_part_67 : decode cX2_part 67 = .ok (.aload_n 0, 1) := dk_42 (dk_at dksX2_part_2 21 rfl rfl)
theorem dX2_part_68 : decode cX2_part 68 = .ok (.getfield 67, 3) := dk_180 0 67 (dk_at dksX2_part_3 0 rfl rfl)
theorem dX2_part_71 : decode cX2_part 71 = .ok (.invokevirtual 88, 3) := dk_182 0 88 (dk_at dksX2_part_3 3 rfl rfl)
theorem dX2_part_74 : decode cX2_part 74 = .ok (.return_, 1) := dk_177 (dk_at dksX2_part_3 6 rfl rfl)
abbrev cX2_isFigure : ByteArray := prog_12_method_4_code
def yX2_isFigure : MethodName := ⟨RX2, "isFigure", "()Z"⟩
def dkwX2_isFigure_0 : List UInt8 := [42, 182, 0, 73, 60, 27, 16, 48, 161, 0, 13, 27, 16, 57, 163, 0, 7, 4, 167, 0, 4, 3, 172]
abbrev dktX2_isFigure_0 : List UInt8 := dkwX2_isFigure_0 ++ []
theorem dksX2_isFigure_0 : cX2_isFigure.data.toList.drop 0 = dktX2_isFigure_0 := by decide +kernel
theorem dX2_isFigure_0 : decode cX2_isFigure 0 = .ok (.aload_n 0, 1) := dk_42 (dk_at dksX2_isFigure_0 0 rfl rfl)
theorem dX2_isFigure_1 : decode cX2_isFigure 1 = .ok (.invokevirtual 73, 3) := dk_182 0 73 (dk_at dksX2_isFigure_0 1 rfl rfl)
theorem dX2_isFigure_4 : decode cX2_isFigure 4 = .ok (.istore_n 1, 1) := dk_60 (dk_at dksX2_isFigure_0 4 rfl rfl)
theorem dX2_isFigure_5 : decode cX2_isFigure 5 = .ok (.iload_n 1, 1) := dk_27 (dk_at dksX2_isFigure_0 5 rfl rfl)
theorem dX2_isFigure_6 : decode cX2_isFigure 6 = .ok (.bipush 48, 2) := dk_16 48 (dk_at dksX2_isFigure_0 6 rfl rfl)
theorem dX2_isFigure_8 : decode cX2_isFigure 8 = .ok (.if_icmp .lt 13, 3) := dk_161 0 13 (dk_at dksX2_isFigure_0 8 rfl rfl)
theorem dX2_isFigure_11 : decode cX2_isFigure 11 = .ok (.iload_n 1, 1) := dk_27 (dk_at dksX2_isFigure_0 11 rfl rfl)
theorem dX2_isFigure_12 : decode cX2_isFigure 12 = .ok (.bipush 57, 2) := dk_16 57 (dk_at dksX2_isFigure_0 12 rfl rfl)
theorem dX2_isFigure_14 : decode cX2_isFigure 14 = .ok (.if_icmp .gt 7, 3) := dk_163 0 7 (dk_at dksX2_isFigure_0 14 rfl rfl)
theorem dX2_isFigure_17 : decode cX2_isFigure 17 = .ok (.iconst 1, 1) := dk_4 (dk_at dksX2_isFigure_0 17 rfl rfl)
theorem dX2_isFigure_18 : decode cX2_isFigure 18 = .ok (.goto 4, 3) := dk_167 0 4 (dk_at dksX2_isFigure_0 18 rfl rfl)
theorem dX2_isFigure_21 : decode cX2_isFigure 21 = .ok (.iconst 0, 1) := dk_3 (dk_at dksX2_isFigure_0 21 rfl rfl)
theorem dX2_isFigure_22 : decode cX2_isFigure 22 = .ok (.ireturn, 1) := dk_172 (dk_at dksX2_isFigure_0 22 rfl rfl)
theorem q136 : (Jvm.Cond.initialized "GlacierMail$Reader") ∈ lw_all := lw_g (lw_at lw_m1 2 rfl) rfl
theorem q178 : (Jvm.Cond.instantiable "GlacierMail$Reader" (11 : Nat)) ∈ lw_all := lw_g (lw_at lw_m1 44 rfl) rfl
theorem q180 : (Jvm.Cond.instanceMethod ({ cls := "GlacierMail$Reader", name := "<init>", desc := "()V" } : Jvm.MethodName)) ∈ lw_all := lw_g (lw_at lw_m1 46 rfl) rfl
theorem q181 : (Jvm.Cond.code ({ cls := "GlacierMail$Reader", name := "<init>", desc := "()V" } : Jvm.MethodName) prog_12_method_1_code (1 : Nat) (Option.none : Option Jvm.ClassFile.FieldType)) ∈ lw_all := lw_g (lw_at lw_m1 47 rfl) rfl
theorem q182 : (Jvm.Cond.methodLink "GlacierMail$Reader" (3 : Nat) ({ cls := "java/lang/Object", name := "<init>", desc := "()V" } : Jvm.MethodName)) ∈ lw_all := lw_g (lw_at lw_m1 48 rfl) rfl
theorem q183 : (Jvm.Cond.classLink "GlacierMail$Reader" (15 : Nat) "java/lang/String") ∈ lw_all := lw_g (lw_at lw_m1 49 rfl) rfl
theorem q185 : (Jvm.Cond.stringRef "GlacierMail$Reader" (17 : Nat) "lane") ∈ lw_tbl := lw_at lw_m1 51 rfl
theorem q186 : (Jvm.Cond.stringRef "GlacierMail$Reader" (19 : Nat) "row") ∈ lw_tbl := lw_at lw_m1 52 rfl
theorem q187 : (Jvm.Cond.stringRef "GlacierMail$Reader" (21 : Nat) "year") ∈ lw_tbl := lw_at lw_m1 53 rfl
theorem q188 : (Jvm.Cond.stringRef "GlacierMail$Reader" (23 : Nat) "heat") ∈ lw_tbl := lw_at lw_m1 54 rfl
theorem q189 : (Jvm.Cond.stringRef "GlacierMail$Reader" (25 : Nat) "speed") ∈ lw_tbl := lw_at lw_m1 55 rfl
theorem q190 : (Jvm.Cond.stringRef "GlacierMail$Reader" (27 : Nat) "person") ∈ lw_tbl := lw_at lw_m1 56 rfl
theorem q191 : (Jvm.Cond.stringRef "GlacierMail$Reader" (29 : Nat) "age") ∈ lw_tbl := lw_at lw_m1 57 rfl
theorem q192 : (Jvm.Cond.stringRef "GlacierMail$Reader" (31 : Nat) "deep") ∈ lw_tbl := lw_at lw_m1 58 rfl
theorem q193 : (Jvm.Cond.stringRef "GlacierMail$Reader" (37 : Nat) "side") ∈ lw_tbl := lw_at lw_m1 59 rfl
theorem q194 : (Jvm.Cond.stringRef "GlacierMail$Reader" (39 : Nat) "first") ∈ lw_tbl := lw_at lw_m1 60 rfl
theorem q195 : (Jvm.Cond.classLink "GlacierMail$Reader" (44 : Nat) "GlacierMail$Line") ∈ lw_all := lw_g (lw_at lw_m1 61 rfl) rfl
theorem q197 : (Jvm.Cond.classLink "GlacierMail$Reader" (49 : Nat) "GlacierMail$State") ∈ lw_all := lw_g (lw_at lw_m1 63 rfl) rfl
theorem q199 : (Jvm.Cond.methodLink "GlacierMail$Reader" (51 : Nat) ({ cls := "GlacierMail$State", name := "<init>", desc := "()V" } : Jvm.MethodName)) ∈ lw_all := lw_g (lw_at lw_m1 65 rfl) rfl
theorem q219 : (Jvm.Cond.fieldLinkNest "GlacierMail$Reader" (199 : Nat) "GlacierMail$Section" "speeds" "[I" "GlacierMail") ∈ lw_tbl := lw_at lw_m1 85 rfl
theorem q223 : (Jvm.Cond.fieldLinkNest "GlacierMail$Reader" (210 : Nat) "GlacierMail$Section" "row" "I" "GlacierMail") ∈ lw_tbl := lw_at lw_m1 89 rfl
theorem q238 : (Jvm.Cond.fieldLinkNest "GlacierMail$Reader" (219 : Nat) "GlacierMail$Flood" "year" "I" "GlacierMail") ∈ lw_tbl := lw_at lw_m1 104 rfl
theorem q242 : (Jvm.Cond.fieldLinkNest "GlacierMail$Reader" (223 : Nat) "GlacierMail$Flood" "row" "I" "GlacierMail") ∈ lw_tbl := lw_at lw_m1 108 rfl
theorem q245 : (Jvm.Cond.fieldLinkNest "GlacierMail$Reader" (224 : Nat) "GlacierMail$Flood" "n" "I" "GlacierMail") ∈ lw_tbl := lw_at lw_m1 111 rfl
theorem q259 : (Jvm.Cond.fieldLinkNest "GlacierMail$Reader" (234 : Nat) "GlacierMail$Person" "lane" "I" "GlacierMail") ∈ lw_tbl := lw_at lw_m1 125 rfl
theorem q262 : (Jvm.Cond.fieldLinkNest "GlacierMail$Reader" (238 : Nat) "GlacierMail$Person" "row" "I" "GlacierMail") ∈ lw_tbl := lw_at lw_m1 128 rfl
theorem q265 : (Jvm.Cond.fieldLinkNest "GlacierMail$Reader" (241 : Nat) "GlacierMail$Person" "watches" "I" "GlacierMail") ∈ lw_tbl := lw_at lw_m1 131 rfl
theorem q321 : (Jvm.Cond.fieldLinkNest "GlacierMail$Reader" (207 : Nat) "GlacierMail$State" "sections" "[LGlacierMail$Section;" "GlacierMail") ∈ lw_tbl := lw_at lw_m1 187 rfl
theorem q323 : (Jvm.Cond.fieldLinkNest "GlacierMail$Reader" (215 : Nat) "GlacierMail$State" "floods" "[LGlacierMail$Flood;" "GlacierMail") ∈ lw_tbl := lw_at lw_m1 189 rfl
theorem q327 : (Jvm.Cond.fieldLinkNest "GlacierMail$Reader" (230 : Nat) "GlacierMail$State" "people" "[LGlacierMail$Person;" "GlacierMail") ∈ lw_tbl := lw_at lw_m1 193 rfl
theorem q330 : (Jvm.Cond.fieldLinkNest "GlacierMail$Reader" (173 : Nat) "GlacierMail$State" "letters" "[LGlacierMail$Letter;" "GlacierMail") ∈ lw_tbl := lw_at lw_m1 196 rfl
theorem q332 : (Jvm.Cond.fieldLinkNest "GlacierMail$Reader" (191 : Nat) "GlacierMail$State" "tables" "[LGlacierMail$Section;" "GlacierMail") ∈ lw_tbl := lw_at lw_m1 198 rfl
theorem q343 : (Jvm.Cond.fieldLinkNest "GlacierMail$Reader" (115 : Nat) "GlacierMail$State" "lanes" "I" "GlacierMail") ∈ lw_tbl := lw_at lw_m1 209 rfl
theorem q347 : (Jvm.Cond.fieldLinkNest "GlacierMail$Reader" (122 : Nat) "GlacierMail$State" "last" "I" "GlacierMail") ∈ lw_tbl := lw_at lw_m1 213 rfl
theorem q349 : (Jvm.Cond.fieldLinkNest "GlacierMail$Reader" (204 : Nat) "GlacierMail$State" "sectionMany" "I" "GlacierMail") ∈ lw_tbl := lw_at lw_m1 215 rfl
theorem q352 : (Jvm.Cond.fieldLinkNest "GlacierMail$Reader" (212 : Nat) "GlacierMail$State" "floodMany" "I" "GlacierMail") ∈ lw_tbl := lw_at lw_m1 218 rfl
theorem q356 : (Jvm.Cond.fieldLinkNest "GlacierMail$Reader" (227 : Nat) "GlacierMail$State" "personMany" "I" "GlacierMail") ∈ lw_tbl := lw_at lw_m1 222 rfl
theorem q359 : (Jvm.Cond.fieldLinkNest "GlacierMail$Reader" (168 : Nat) "GlacierMail$State" "letterMany" "I" "GlacierMail") ∈ lw_tbl := lw_at lw_m1 225 rfl
theorem q361 : (Jvm.Cond.fieldLinkNest "GlacierMail$Reader" (188 : Nat) "GlacierMail$State" "tableMany" "I" "GlacierMail") ∈ lw_tbl := lw_at lw_m1 227 rfl
theorem q368 : (Jvm.Cond.fieldLinkNest "GlacierMail$Reader" (134 : Nat) "GlacierMail$State" "snow" "I" "GlacierMail") ∈ lw_tbl := lw_at lw_m1 234 rfl
theorem q371 : (Jvm.Cond.fieldLinkNest "GlacierMail$Reader" (151 : Nat) "GlacierMail$State" "fall" "I" "GlacierMail") ∈ lw_tbl := lw_at lw_m1 237 rfl
theorem q374 : (Jvm.Cond.fieldLinkNest "GlacierMail$Reader" (130 : Nat) "GlacierMail$State" "stripe" "I" "GlacierMail") ∈ lw_tbl := lw_at lw_m2 0 rfl
theorem q377 : (Jvm.Cond.fieldLinkNest "GlacierMail$Reader" (156 : Nat) "GlacierMail$State" "seed" "I" "GlacierMail") ∈ lw_tbl := lw_at lw_m2 3 rfl
theorem q380 : (Jvm.Cond.fieldLinkNest "GlacierMail$Reader" (177 : Nat) "GlacierMail$State" "now" "I" "GlacierMail") ∈ lw_tbl := lw_at lw_m2 6 rfl
theorem q433 : (Jvm.Cond.classLink "GlacierMail$Reader" (56 : Nat) "GlacierMail$Wrong") ∈ lw_all := lw_g (lw_at lw_m2 59 rfl) rfl
theorem q478 : (Jvm.Cond.methodLink "GlacierMail$Reader" (58 : Nat) ({ cls := "GlacierMail$Wrong", name := "<init>", desc := "()V" } : Jvm.MethodName)) ∈ lw_all := lw_g (lw_at lw_m2 104 rfl) rfl
theorem q490 : (Jvm.Cond.fieldLinkNest "GlacierMail$Reader" (63 : Nat) "GlacierMail$Wrong" "place" "I" "GlacierMail") ∈ lw_tbl := lw_at lw_m2 116 rfl
theorem q507 : (Jvm.Cond.fieldLink "GlacierMail$Reader" (9 : Nat) "GlacierMail$Reader" "tape" "[B") ∈ lw_all := lw_g (lw_at lw_m2 133 rfl) rfl
theorem q509 : (Jvm.Cond.fieldLink "GlacierMail$Reader" (33 : Nat) "GlacierMail$Reader" "words" "[Ljava/lang/String;") ∈ lw_all := lw_g (lw_at lw_m2 135 rfl) rfl
theorem q510 : (Jvm.Cond.fieldLink "GlacierMail$Reader" (41 : Nat) "GlacierMail$Reader" "tags" "[Ljava/lang/String;") ∈ lw_all := lw_g (lw_at lw_m2 136 rfl) rfl
theorem q511 : (Jvm.Cond.fieldLink "GlacierMail$Reader" (46 : Nat) "GlacierMail$Reader" "row" "[LGlacierMail$Line;") ∈ lw_all := lw_g (lw_at lw_m2 137 rfl) rfl
theorem q513 : (Jvm.Cond.fieldLink "GlacierMail$Reader" (52 : Nat) "GlacierMail$Reader" "draft" "LGlacierMail$State;") ∈ lw_all := lw_g (lw_at lw_m2 139 rfl) rfl
theorem q514 : (Jvm.Cond.fieldLink "GlacierMail$Reader" (59 : Nat) "GlacierMail$Reader" "wrong" "LGlacierMail$Wrong;") ∈ lw_all := lw_g (lw_at lw_m2 140 rfl) rfl
theorem q516 : (Jvm.Cond.fieldLink "GlacierMail$Reader" (70 : Nat) "GlacierMail$Reader" "end" "I") ∈ lw_all := lw_g (lw_at lw_m2 142 rfl) rfl
theorem q517 : (Jvm.Cond.fieldLink "GlacierMail$Reader" (67 : Nat) "GlacierMail$Reader" "at" "I") ∈ lw_all := lw_g (lw_at lw_m2 143 rfl) rfl
theorem q518 : (Jvm.Cond.fieldLink "GlacierMail$Reader" (95 : Nat) "GlacierMail$Reader" "deep" "I") ∈ lw_all := lw_g (lw_at lw_m2 144 rfl) rfl
theorem q519 : (Jvm.Cond.fieldLink "GlacierMail$Reader" (92 : Nat) "GlacierMail$Reader" "digits" "I") ∈ lw_all := lw_g (lw_at lw_m2 145 rfl) rfl
theorem q520 : (Jvm.Cond.laysFinal "GlacierMail$Reader" "GlacierMail$Reader" "tape" "[B") ∈ lw_all := lw_g (lw_at lw_m2 146 rfl) rfl
theorem q521 : (Jvm.Cond.soleField "GlacierMail$Reader" "tape") ∈ lw_all := lw_g (lw_at lw_m2 147 rfl) rfl
theorem q522 : (Jvm.Cond.laysFinal "GlacierMail$Reader" "GlacierMail$Reader" "words" "[Ljava/lang/String;") ∈ lw_all := lw_g (lw_at lw_m2 148 rfl) rfl
theorem q523 : (Jvm.Cond.soleField "GlacierMail$Reader" "words") ∈ lw_all := lw_g (lw_at lw_m2 149 rfl) rfl
theorem q524 : (Jvm.Cond.laysFinal "GlacierMail$Reader" "GlacierMail$Reader" "tags" "[Ljava/lang/String;") ∈ lw_all := lw_g (lw_at lw_m2 150 rfl) rfl
theorem q525 : (Jvm.Cond.soleField "GlacierMail$Reader" "tags") ∈ lw_all := lw_g (lw_at lw_m2 151 rfl) rfl
theorem q526 : (Jvm.Cond.laysFinal "GlacierMail$Reader" "GlacierMail$Reader" "row" "[LGlacierMail$Line;") ∈ lw_all := lw_g (lw_at lw_m2 152 rfl) rfl
theorem q527 : (Jvm.Cond.soleField "GlacierMail$Reader" "row") ∈ lw_all := lw_g (lw_at lw_m2 153 rfl) rfl
theorem q528 : (Jvm.Cond.laysFinal "GlacierMail$Reader" "GlacierMail$Reader" "draft" "LGlacierMail$State;") ∈ lw_all := lw_g (lw_at lw_m2 154 rfl) rfl
theorem q529 : (Jvm.Cond.soleField "GlacierMail$Reader" "draft") ∈ lw_all := lw_g (lw_at lw_m2 155 rfl) rfl
theorem q530 : (Jvm.Cond.laysFinal "GlacierMail$Reader" "GlacierMail$Reader" "wrong" "LGlacierMail$Wrong;") ∈ lw_all := lw_g (lw_at lw_m2 156 rfl) rfl
theorem q531 : (Jvm.Cond.soleField "GlacierMail$Reader" "wrong") ∈ lw_all := lw_g (lw_at lw_m2 157 rfl) rfl
theorem q532 : (Jvm.Cond.lays "GlacierMail$Reader" "GlacierMail$Reader" "size" "I") ∈ lw_all := lw_g (lw_at lw_m2 158 rfl) rfl
theorem q533 : (Jvm.Cond.soleField "GlacierMail$Reader" "size") ∈ lw_all := lw_g (lw_at lw_m2 159 rfl) rfl
theorem q534 : (Jvm.Cond.lays "GlacierMail$Reader" "GlacierMail$Reader" "end" "I") ∈ lw_all := lw_g (lw_at lw_m2 160 rfl) rfl
theorem q535 : (Jvm.Cond.soleField "GlacierMail$Reader" "end") ∈ lw_all := lw_g (lw_at lw_m2 161 rfl) rfl
theorem q536 : (Jvm.Cond.lays "GlacierMail$Reader" "GlacierMail$Reader" "at" "I") ∈ lw_all := lw_g (lw_at lw_m2 162 rfl) rfl
theorem q537 : (Jvm.Cond.soleField "GlacierMail$Reader" "at") ∈ lw_all := lw_g (lw_at lw_m2 163 rfl) rfl
theorem q538 : (Jvm.Cond.lays "GlacierMail$Reader" "GlacierMail$Reader" "deep" "I") ∈ lw_all := lw_g (lw_at lw_m2 164 rfl) rfl
theorem q539 : (Jvm.Cond.soleField "GlacierMail$Reader" "deep") ∈ lw_all := lw_g (lw_at lw_m2 165 rfl) rfl
theorem q540 : (Jvm.Cond.lays "GlacierMail$Reader" "GlacierMail$Reader" "digits" "I") ∈ lw_all := lw_g (lw_at lw_m2 166 rfl) rfl
theorem q541 : (Jvm.Cond.soleField "GlacierMail$Reader" "digits") ∈ lw_all := lw_g (lw_at lw_m2 167 rfl) rfl
theorem q542 : (Jvm.Cond.superclass "GlacierMail$Reader" "java/lang/Object") ∈ lw_all := lw_g (lw_at lw_m2 168 rfl) rfl
theorem q834 : (Jvm.Cond.instanceMethod ({ cls := "GlacierMail$Reader", name := "valley", desc := "(ILGlacierMail$State;)LGlacierMail$State;" } : Jvm.MethodName)) ∈ lw_all := lw_g (lw_at lw_m3 220 rfl) rfl
theorem q835 : (Jvm.Cond.selects "GlacierMail$Reader" ({ cls := "GlacierMail$Reader", name := "valley", desc := "(ILGlacierMail$State;)LGlacierMail$State;" } : Jvm.MethodName) ({ cls := "GlacierMail$Reader", name := "valley", desc := "(ILGlacierMail$State;)LGlacierMail$State;" } : Jvm.MethodName)) ∈ lw_all := lw_g (lw_at lw_m3 221 rfl) rfl
theorem q836 : (Jvm.Cond.code ({ cls := "GlacierMail$Reader", name := "valley", desc := "(ILGlacierMail$State;)LGlacierMail$State;" } : Jvm.MethodName) prog_12_method_10_code (4 : Nat) (Option.some (Jvm.ClassFile.FieldType.object "GlacierMail$State"))) ∈ lw_all := lw_g (lw_at lw_m3 222 rfl) rfl
theorem q837 : (Jvm.Cond.methodLink "GlacierMail$Reader" (97 : Nat) ({ cls := "GlacierMail$Reader", name := "begins", desc := "(II)V" } : Jvm.MethodName)) ∈ lw_all := lw_g (lw_at lw_m3 223 rfl) rfl
theorem q838 : (Jvm.Cond.privateMethod ({ cls := "GlacierMail$Reader", name := "begins", desc := "(II)V" } : Jvm.MethodName)) ∈ lw_tbl := lw_at lw_m3 224 rfl
theorem q839 : (Jvm.Cond.instanceMethod ({ cls := "GlacierMail$Reader", name := "begins", desc := "(II)V" } : Jvm.MethodName)) ∈ lw_all := lw_g (lw_at lw_m3 225 rfl) rfl
theorem q840 : (Jvm.Cond.code ({ cls := "GlacierMail$Reader", name := "begins", desc := "(II)V" } : Jvm.MethodName) prog_12_method_8_code (3 : Nat) (Option.none : Option Jvm.ClassFile.FieldType)) ∈ lw_all := lw_g (lw_at lw_m3 226 rfl) rfl
theorem q841 : (Jvm.Cond.methodLink "GlacierMail$Reader" (101 : Nat) ({ cls := "GlacierMail$State", name := "be", desc := "(LGlacierMail$State;)V" } : Jvm.MethodName)) ∈ lw_all := lw_g (lw_at lw_m3 227 rfl) rfl
theorem q842 : (Jvm.Cond.methodLink "GlacierMail$Reader" (105 : Nat) ({ cls := "GlacierMail$Reader", name := "more", desc := "(II)Z" } : Jvm.MethodName)) ∈ lw_all := lw_g (lw_at lw_m3 228 rfl) rfl
theorem q843 : (Jvm.Cond.privateMethod ({ cls := "GlacierMail$Reader", name := "more", desc := "(II)Z" } : Jvm.MethodName)) ∈ lw_tbl := lw_at lw_m3 229 rfl
theorem q844 : (Jvm.Cond.instanceMethod ({ cls := "GlacierMail$Reader", name := "more", desc := "(II)Z" } : Jvm.MethodName)) ∈ lw_all := lw_g (lw_at lw_m3 230 rfl) rfl
theorem q845 : (Jvm.Cond.code ({ cls := "GlacierMail$Reader", name := "more", desc := "(II)Z" } : Jvm.MethodName) prog_12_method_9_code (5 : Nat) (Option.some Jvm.ClassFile.FieldType.boolean)) ∈ lw_all := lw_g (lw_at lw_m3 231 rfl) rfl
theorem q846 : (Jvm.Cond.methodLink "GlacierMail$Reader" (73 : Nat) ({ cls := "GlacierMail$Reader", name := "sign", desc := "()I" } : Jvm.MethodName)) ∈ lw_all := lw_g (lw_at lw_m3 232 rfl) rfl
theorem q847 : (Jvm.Cond.privateMethod ({ cls := "GlacierMail$Reader", name := "sign", desc := "()I" } : Jvm.MethodName)) ∈ lw_tbl := lw_at lw_m3 233 rfl
theorem q848 : (Jvm.Cond.instanceMethod ({ cls := "GlacierMail$Reader", name := "sign", desc := "()I" } : Jvm.MethodName)) ∈ lw_all := lw_g (lw_at lw_m3 234 rfl) rfl
theorem q849 : (Jvm.Cond.code ({ cls := "GlacierMail$Reader", name := "sign", desc := "()I" } : Jvm.MethodName) prog_12_method_3_code (1 : Nat) (Option.some Jvm.ClassFile.FieldType.int)) ∈ lw_all := lw_g (lw_at lw_m3 235 rfl) rfl
theorem q850 : (Jvm.Cond.methodLink "GlacierMail$Reader" (88 : Nat) ({ cls := "GlacierMail$Reader", name := "fail", desc := "(I)V" } : Jvm.MethodName)) ∈ lw_all := lw_g (lw_at lw_m3 236 rfl) rfl
theorem q851 : (Jvm.Cond.privateMethod ({ cls := "GlacierMail$Reader", name := "fail", desc := "(I)V" } : Jvm.MethodName)) ∈ lw_tbl := lw_at lw_m3 237 rfl
theorem q852 : (Jvm.Cond.instanceMethod ({ cls := "GlacierMail$Reader", name := "fail", desc := "(I)V" } : Jvm.MethodName)) ∈ lw_all := lw_g (lw_at lw_m3 238 rfl) rfl
theorem q853 : (Jvm.Cond.code ({ cls := "GlacierMail$Reader", name := "fail", desc := "(I)V" } : Jvm.MethodName) prog_12_method_2_code (2 : Nat) (Option.none : Option Jvm.ClassFile.FieldType)) ∈ lw_all := lw_g (lw_at lw_m3 239 rfl) rfl
theorem q854 : (Jvm.Cond.methodLink "GlacierMail$Reader" (109 : Nat) ({ cls := "GlacierMail$Reader", name := "line", desc := "()V" } : Jvm.MethodName)) ∈ lw_all := lw_g (lw_at lw_m4 0 rfl) rfl
theorem q855 : (Jvm.Cond.privateMethod ({ cls := "GlacierMail$Reader", name := "line", desc := "()V" } : Jvm.MethodName)) ∈ lw_tbl := lw_at lw_m4 1 rfl
theorem q856 : (Jvm.Cond.instanceMethod ({ cls := "GlacierMail$Reader", name := "line", desc := "()V" } : Jvm.MethodName)) ∈ lw_all := lw_g (lw_at lw_m4 2 rfl) rfl
theorem q857 : (Jvm.Cond.code ({ cls := "GlacierMail$Reader", name := "line", desc := "()V" } : Jvm.MethodName) prog_12_method_13_code (4 : Nat) (Option.none : Option Jvm.ClassFile.FieldType)) ∈ lw_all := lw_g (lw_at lw_m4 3 rfl) rfl
theorem q858 : (Jvm.Cond.stringRef "GlacierMail$Reader" (125 : Nat) "lanes") ∈ lw_tbl := lw_at lw_m4 4 rfl
theorem q859 : (Jvm.Cond.methodLink "GlacierMail$Reader" (84 : Nat) ({ cls := "GlacierMail$Reader", name := "takes", desc := "(Ljava/lang/String;)Z" } : Jvm.MethodName)) ∈ lw_all := lw_g (lw_at lw_m4 5 rfl) rfl
theorem q860 : (Jvm.Cond.privateMethod ({ cls := "GlacierMail$Reader", name := "takes", desc := "(Ljava/lang/String;)Z" } : Jvm.MethodName)) ∈ lw_tbl := lw_at lw_m4 6 rfl
theorem q861 : (Jvm.Cond.instanceMethod ({ cls := "GlacierMail$Reader", name := "takes", desc := "(Ljava/lang/String;)Z" } : Jvm.MethodName)) ∈ lw_all := lw_g (lw_at lw_m4 7 rfl) rfl
theorem q862 : (Jvm.Cond.code ({ cls := "GlacierMail$Reader", name := "takes", desc := "(Ljava/lang/String;)Z" } : Jvm.MethodName) prog_12_method_5_code (6 : Nat) (Option.some Jvm.ClassFile.FieldType.boolean)) ∈ lw_all := lw_g (lw_at lw_m4 8 rfl) rfl
theorem q863 : (Jvm.Cond.methodLink "GlacierMail$Reader" (77 : Nat) ({ cls := "java/lang/String", name := "length", desc := "()I" } : Jvm.MethodName)) ∈ lw_all := lw_g (lw_at lw_m4 9 rfl) rfl
theorem q873 : (Jvm.Cond.methodLink "GlacierMail$Reader" (80 : Nat) ({ cls := "java/lang/String", name := "charAt", desc := "(I)C" } : Jvm.MethodName)) ∈ lw_all := lw_g (lw_at lw_m4 19 rfl) rfl
theorem q911 : (Jvm.Cond.methodLink "GlacierMail$Reader" (126 : Nat) ({ cls := "GlacierMail$State", name := "isBegun", desc := "()Z" } : Jvm.MethodName)) ∈ lw_all := lw_g (lw_at lw_m4 57 rfl) rfl
theorem q915 : (Jvm.Cond.methodLink "GlacierMail$Reader" (118 : Nat) ({ cls := "GlacierMail$Reader", name := "number", desc := "(II)I" } : Jvm.MethodName)) ∈ lw_all := lw_g (lw_at lw_m4 61 rfl) rfl
theorem q916 : (Jvm.Cond.privateMethod ({ cls := "GlacierMail$Reader", name := "number", desc := "(II)I" } : Jvm.MethodName)) ∈ lw_tbl := lw_at lw_m4 62 rfl
theorem q917 : (Jvm.Cond.instanceMethod ({ cls := "GlacierMail$Reader", name := "number", desc := "(II)I" } : Jvm.MethodName)) ∈ lw_all := lw_g (lw_at lw_m4 63 rfl) rfl
theorem q918 : (Jvm.Cond.code ({ cls := "GlacierMail$Reader", name := "number", desc := "(II)I" } : Jvm.MethodName) prog_12_method_7_code (6 : Nat) (Option.some Jvm.ClassFile.FieldType.int)) ∈ lw_all := lw_g (lw_at lw_m4 64 rfl) rfl
theorem q919 : (Jvm.Cond.stringRef "GlacierMail$Reader" (133 : Nat) "last") ∈ lw_tbl := lw_at lw_m4 65 rfl
theorem q920 : (Jvm.Cond.stringRef "GlacierMail$Reader" (137 : Nat) "section") ∈ lw_tbl := lw_at lw_m4 66 rfl
theorem q921 : (Jvm.Cond.methodLink "GlacierMail$Reader" (139 : Nat) ({ cls := "GlacierMail$Reader", name := "addSection", desc := "(I)V" } : Jvm.MethodName)) ∈ lw_all := lw_g (lw_at lw_m4 67 rfl) rfl
theorem q922 : (Jvm.Cond.privateMethod ({ cls := "GlacierMail$Reader", name := "addSection", desc := "(I)V" } : Jvm.MethodName)) ∈ lw_tbl := lw_at lw_m4 68 rfl
theorem q923 : (Jvm.Cond.instanceMethod ({ cls := "GlacierMail$Reader", name := "addSection", desc := "(I)V" } : Jvm.MethodName)) ∈ lw_all := lw_g (lw_at lw_m4 69 rfl) rfl
theorem q924 : (Jvm.Cond.code ({ cls := "GlacierMail$Reader", name := "addSection", desc := "(I)V" } : Jvm.MethodName) prog_12_method_15_code (4 : Nat) (Option.none : Option Jvm.ClassFile.FieldType)) ∈ lw_all := lw_g (lw_at lw_m4 70 rfl) rfl
theorem q925 : (Jvm.Cond.methodLink "GlacierMail$Reader" (195 : Nat) ({ cls := "GlacierMail$Reader", name := "speeds", desc := "(LGlacierMail$Section;)V" } : Jvm.MethodName)) ∈ lw_all := lw_g (lw_at lw_m4 71 rfl) rfl
theorem q926 : (Jvm.Cond.privateMethod ({ cls := "GlacierMail$Reader", name := "speeds", desc := "(LGlacierMail$Section;)V" } : Jvm.MethodName)) ∈ lw_tbl := lw_at lw_m4 72 rfl
theorem q927 : (Jvm.Cond.instanceMethod ({ cls := "GlacierMail$Reader", name := "speeds", desc := "(LGlacierMail$Section;)V" } : Jvm.MethodName)) ∈ lw_all := lw_g (lw_at lw_m4 73 rfl) rfl
theorem q928 : (Jvm.Cond.code ({ cls := "GlacierMail$Reader", name := "speeds", desc := "(LGlacierMail$Section;)V" } : Jvm.MethodName) prog_12_method_14_code (3 : Nat) (Option.none : Option Jvm.ClassFile.FieldType)) ∈ lw_all := lw_g (lw_at lw_m4 74 rfl) rfl
theorem q929 : (Jvm.Cond.stringRef "GlacierMail$Reader" (142 : Nat) "snow") ∈ lw_tbl := lw_at lw_m4 75 rfl
theorem q930 : (Jvm.Cond.methodLink "GlacierMail$Reader" (143 : Nat) ({ cls := "GlacierMail$Reader", name := "place", desc := "()I" } : Jvm.MethodName)) ∈ lw_all := lw_g (lw_at lw_m4 76 rfl) rfl
theorem q931 : (Jvm.Cond.privateMethod ({ cls := "GlacierMail$Reader", name := "place", desc := "()I" } : Jvm.MethodName)) ∈ lw_tbl := lw_at lw_m4 77 rfl
theorem q932 : (Jvm.Cond.instanceMethod ({ cls := "GlacierMail$Reader", name := "place", desc := "()I" } : Jvm.MethodName)) ∈ lw_all := lw_g (lw_at lw_m4 78 rfl) rfl
theorem q933 : (Jvm.Cond.code ({ cls := "GlacierMail$Reader", name := "place", desc := "()I" } : Jvm.MethodName) prog_12_method_12_code (1 : Nat) (Option.some Jvm.ClassFile.FieldType.int)) ∈ lw_all := lw_g (lw_at lw_m4 79 rfl) rfl
theorem q934 : (Jvm.Cond.stringRef "GlacierMail$Reader" (145 : Nat) "fall") ∈ lw_tbl := lw_at lw_m4 80 rfl
theorem q935 : (Jvm.Cond.methodLink "GlacierMail$Reader" (147 : Nat) ({ cls := "GlacierMail$Reader", name := "expect", desc := "(Ljava/lang/String;)V" } : Jvm.MethodName)) ∈ lw_all := lw_g (lw_at lw_m4 81 rfl) rfl
theorem q936 : (Jvm.Cond.privateMethod ({ cls := "GlacierMail$Reader", name := "expect", desc := "(Ljava/lang/String;)V" } : Jvm.MethodName)) ∈ lw_tbl := lw_at lw_m4 82 rfl
theorem q937 : (Jvm.Cond.instanceMethod ({ cls := "GlacierMail$Reader", name := "expect", desc := "(Ljava/lang/String;)V" } : Jvm.MethodName)) ∈ lw_all := lw_g (lw_at lw_m4 83 rfl) rfl
theorem q938 : (Jvm.Cond.code ({ cls := "GlacierMail$Reader", name := "expect", desc := "(Ljava/lang/String;)V" } : Jvm.MethodName) prog_12_method_6_code (2 : Nat) (Option.none : Option Jvm.ClassFile.FieldType)) ∈ lw_all := lw_g (lw_at lw_m4 84 rfl) rfl
theorem q939 : (Jvm.Cond.stringRef "GlacierMail$Reader" (153 : Nat) "stripe") ∈ lw_tbl := lw_at lw_m4 85 rfl
theorem q940 : (Jvm.Cond.stringRef "GlacierMail$Reader" (154 : Nat) "seed") ∈ lw_tbl := lw_at lw_m4 86 rfl
theorem q941 : (Jvm.Cond.stringRef "GlacierMail$Reader" (158 : Nat) "flood") ∈ lw_tbl := lw_at lw_m4 87 rfl
theorem q942 : (Jvm.Cond.methodLink "GlacierMail$Reader" (160 : Nat) ({ cls := "GlacierMail$Reader", name := "addFlood", desc := "(I)V" } : Jvm.MethodName)) ∈ lw_all := lw_g (lw_at lw_m4 88 rfl) rfl
theorem q943 : (Jvm.Cond.privateMethod ({ cls := "GlacierMail$Reader", name := "addFlood", desc := "(I)V" } : Jvm.MethodName)) ∈ lw_tbl := lw_at lw_m4 89 rfl
theorem q944 : (Jvm.Cond.instanceMethod ({ cls := "GlacierMail$Reader", name := "addFlood", desc := "(I)V" } : Jvm.MethodName)) ∈ lw_all := lw_g (lw_at lw_m4 90 rfl) rfl
theorem q945 : (Jvm.Cond.code ({ cls := "GlacierMail$Reader", name := "addFlood", desc := "(I)V" } : Jvm.MethodName) prog_12_method_16_code (3 : Nat) (Option.none : Option Jvm.ClassFile.FieldType)) ∈ lw_all := lw_g (lw_at lw_m4 91 rfl) rfl
theorem q946 : (Jvm.Cond.methodLink "GlacierMail$Reader" (163 : Nat) ({ cls := "GlacierMail$Reader", name := "addPerson", desc := "(I)V" } : Jvm.MethodName)) ∈ lw_all := lw_g (lw_at lw_m4 92 rfl) rfl
theorem q947 : (Jvm.Cond.privateMethod ({ cls := "GlacierMail$Reader", name := "addPerson", desc := "(I)V" } : Jvm.MethodName)) ∈ lw_tbl := lw_at lw_m4 93 rfl
theorem q948 : (Jvm.Cond.instanceMethod ({ cls := "GlacierMail$Reader", name := "addPerson", desc := "(I)V" } : Jvm.MethodName)) ∈ lw_all := lw_g (lw_at lw_m4 94 rfl) rfl
theorem q949 : (Jvm.Cond.code ({ cls := "GlacierMail$Reader", name := "addPerson", desc := "(I)V" } : Jvm.MethodName) prog_12_method_17_code (3 : Nat) (Option.none : Option Jvm.ClassFile.FieldType)) ∈ lw_all := lw_g (lw_at lw_m4 95 rfl) rfl
theorem q950 : (Jvm.Cond.methodLink "GlacierMail$Reader" (171 : Nat) ({ cls := "GlacierMail$Reader", name := "lane", desc := "()I" } : Jvm.MethodName)) ∈ lw_all := lw_g (lw_at lw_m4 96 rfl) rfl
theorem q951 : (Jvm.Cond.privateMethod ({ cls := "GlacierMail$Reader", name := "lane", desc := "()I" } : Jvm.MethodName)) ∈ lw_tbl := lw_at lw_m4 97 rfl
theorem q952 : (Jvm.Cond.instanceMethod ({ cls := "GlacierMail$Reader", name := "lane", desc := "()I" } : Jvm.MethodName)) ∈ lw_all := lw_g (lw_at lw_m4 98 rfl) rfl
theorem q953 : (Jvm.Cond.code ({ cls := "GlacierMail$Reader", name := "lane", desc := "()I" } : Jvm.MethodName) prog_12_method_11_code (1 : Nat) (Option.some Jvm.ClassFile.FieldType.int)) ∈ lw_all := lw_g (lw_at lw_m4 99 rfl) rfl
theorem q954 : (Jvm.Cond.stringRef "GlacierMail$Reader" (239 : Nat) "watch") ∈ lw_tbl := lw_at lw_m4 100 rfl
theorem q955 : (Jvm.Cond.stringRef "GlacierMail$Reader" (166 : Nat) "rock") ∈ lw_tbl := lw_at lw_m4 101 rfl
theorem q956 : (Jvm.Cond.methodLink "GlacierMail$Reader" (180 : Nat) ({ cls := "GlacierMail$Letter", name := "tell", desc := "(IIIII)LGlacierMail$Letter;" } : Jvm.MethodName)) ∈ lw_all := lw_g (lw_at lw_m4 102 rfl) rfl
theorem q960 : (Jvm.Cond.stringRef "GlacierMail$Reader" (186 : Nat) "table") ∈ lw_tbl := lw_at lw_m4 106 rfl
theorem q961 : (Jvm.Cond.methodLink "GlacierMail$Reader" (112 : Nat) ({ cls := "GlacierMail$State", name := "draws", desc := "()V" } : Jvm.MethodName)) ∈ lw_all := lw_g (lw_at lw_m4 107 rfl) rfl
theorem q1013 : (Jvm.Cond.instanceMethod ({ cls := "GlacierMail$Reader", name := "law", desc := "(I)I" } : Jvm.MethodName)) ∈ lw_all := lw_g (lw_at lw_m4 159 rfl) rfl
theorem q1014 : (Jvm.Cond.selects "GlacierMail$Reader" ({ cls := "GlacierMail$Reader", name := "law", desc := "(I)I" } : Jvm.MethodName) ({ cls := "GlacierMail$Reader", name := "law", desc := "(I)I" } : Jvm.MethodName)) ∈ lw_all := lw_g (lw_at lw_m4 160 rfl) rfl
theorem q1015 : (Jvm.Cond.code ({ cls := "GlacierMail$Reader", name := "law", desc := "(I)I" } : Jvm.MethodName) prog_12_method_18_code (7 : Nat) (Option.some Jvm.ClassFile.FieldType.int)) ∈ lw_all := lw_g (lw_at lw_m4 161 rfl) rfl
theorem q1016 : (Jvm.Cond.stringRef "GlacierMail$Reader" (244 : Nat) "fast") ∈ lw_tbl := lw_at lw_m4 162 rfl
theorem q1017 : (Jvm.Cond.stringRef "GlacierMail$Reader" (246 : Nat) "slow") ∈ lw_tbl := lw_at lw_m4 163 rfl
theorem q1018 : (Jvm.Cond.stringRef "GlacierMail$Reader" (248 : Nat) "open") ∈ lw_tbl := lw_at lw_m4 164 rfl
theorem q1019 : (Jvm.Cond.stringRef "GlacierMail$Reader" (250 : Nat) "if") ∈ lw_tbl := lw_at lw_m4 165 rfl
theorem q1020 : (Jvm.Cond.methodLink "GlacierMail$Reader" (252 : Nat) ({ cls := "GlacierMail$Reader", name := "row", desc := "(Z)LGlacierMail$Cond;" } : Jvm.MethodName)) ∈ lw_all := lw_g (lw_at lw_m4 166 rfl) rfl
theorem q1021 : (Jvm.Cond.privateMethod ({ cls := "GlacierMail$Reader", name := "row", desc := "(Z)LGlacierMail$Cond;" } : Jvm.MethodName)) ∈ lw_tbl := lw_at lw_m4 167 rfl
theorem q1022 : (Jvm.Cond.instanceMethod ({ cls := "GlacierMail$Reader", name := "row", desc := "(Z)LGlacierMail$Cond;" } : Jvm.MethodName)) ∈ lw_all := lw_g (lw_at lw_m4 168 rfl) rfl
theorem q1023 : (Jvm.Cond.code ({ cls := "GlacierMail$Reader", name := "row", desc := "(Z)LGlacierMail$Cond;" } : Jvm.MethodName) prog_12_method_19_code (4 : Nat) (Option.some (Jvm.ClassFile.FieldType.object "GlacierMail$Cond"))) ∈ lw_all := lw_g (lw_at lw_m4 169 rfl) rfl
theorem q1024 : (Jvm.Cond.classLink "GlacierMail$Reader" (265 : Nat) "GlacierMail$Chain") ∈ lw_all := lw_g (lw_at lw_m4 170 rfl) rfl
theorem q1026 : (Jvm.Cond.methodLink "GlacierMail$Reader" (267 : Nat) ({ cls := "GlacierMail$Reader", name := "atom", desc := "()LGlacierMail$Cond;" } : Jvm.MethodName)) ∈ lw_all := lw_g (lw_at lw_m4 172 rfl) rfl
theorem q1027 : (Jvm.Cond.privateMethod ({ cls := "GlacierMail$Reader", name := "atom", desc := "()LGlacierMail$Cond;" } : Jvm.MethodName)) ∈ lw_tbl := lw_at lw_m4 173 rfl
theorem q1028 : (Jvm.Cond.instanceMethod ({ cls := "GlacierMail$Reader", name := "atom", desc := "()LGlacierMail$Cond;" } : Jvm.MethodName)) ∈ lw_all := lw_g (lw_at lw_m4 174 rfl) rfl
theorem q1029 : (Jvm.Cond.code ({ cls := "GlacierMail$Reader", name := "atom", desc := "()LGlacierMail$Cond;" } : Jvm.MethodName) prog_12_method_20_code (5 : Nat) (Option.some (Jvm.ClassFile.FieldType.object "GlacierMail$Cond"))) ∈ lw_all := lw_g (lw_at lw_m4 175 rfl) rfl
theorem q1030 : (Jvm.Cond.stringRef "GlacierMail$Reader" (282 : Nat) "not") ∈ lw_tbl := lw_at lw_m4 176 rfl
theorem q1031 : (Jvm.Cond.methodLink "GlacierMail$Reader" (284 : Nat) ({ cls := "GlacierMail$Reader", name := "tag", desc := "()LGlacierMail$Cond;" } : Jvm.MethodName)) ∈ lw_all := lw_g (lw_at lw_m4 177 rfl) rfl
theorem q1032 : (Jvm.Cond.privateMethod ({ cls := "GlacierMail$Reader", name := "tag", desc := "()LGlacierMail$Cond;" } : Jvm.MethodName)) ∈ lw_tbl := lw_at lw_m4 178 rfl
theorem q1033 : (Jvm.Cond.instanceMethod ({ cls := "GlacierMail$Reader", name := "tag", desc := "()LGlacierMail$Cond;" } : Jvm.MethodName)) ∈ lw_all := lw_g (lw_at lw_m4 179 rfl) rfl
theorem q1034 : (Jvm.Cond.code ({ cls := "GlacierMail$Reader", name := "tag", desc := "()LGlacierMail$Cond;" } : Jvm.MethodName) prog_12_method_21_code (4 : Nat) (Option.some (Jvm.ClassFile.FieldType.object "GlacierMail$Cond"))) ∈ lw_all := lw_g (lw_at lw_m4 180 rfl) rfl
theorem q1035 : (Jvm.Cond.classLink "GlacierMail$Reader" (290 : Nat) "GlacierMail$Tag") ∈ lw_all := lw_g (lw_at lw_m4 181 rfl) rfl
theorem q1037 : (Jvm.Cond.methodLink "GlacierMail$Reader" (292 : Nat) ({ cls := "GlacierMail$Tag", name := "<init>", desc := "(I)V" } : Jvm.MethodName)) ∈ lw_all := lw_g (lw_at lw_m4 183 rfl) rfl
theorem q1045 : (Jvm.Cond.methodLink "GlacierMail$Reader" (294 : Nat) ({ cls := "GlacierMail$Reader", name := "sum", desc := "()LGlacierMail$Sum;" } : Jvm.MethodName)) ∈ lw_all := lw_g (lw_at lw_m4 191 rfl) rfl
theorem q1046 : (Jvm.Cond.privateMethod ({ cls := "GlacierMail$Reader", name := "sum", desc := "()LGlacierMail$Sum;" } : Jvm.MethodName)) ∈ lw_tbl := lw_at lw_m4 192 rfl
theorem q1047 : (Jvm.Cond.instanceMethod ({ cls := "GlacierMail$Reader", name := "sum", desc := "()LGlacierMail$Sum;" } : Jvm.MethodName)) ∈ lw_all := lw_g (lw_at lw_m4 193 rfl) rfl
theorem q1048 : (Jvm.Cond.code ({ cls := "GlacierMail$Reader", name := "sum", desc := "()LGlacierMail$Sum;" } : Jvm.MethodName) prog_12_method_22_code (2 : Nat) (Option.some (Jvm.ClassFile.FieldType.object "GlacierMail$Sum"))) ∈ lw_all := lw_g (lw_at lw_m4 194 rfl) rfl
theorem q1049 : (Jvm.Cond.classLink "GlacierMail$Reader" (303 : Nat) "GlacierMail$Sum") ∈ lw_all := lw_g (lw_at lw_m4 195 rfl) rfl
theorem q1051 : (Jvm.Cond.methodLinkNest "GlacierMail$Reader" (305 : Nat) ({ cls := "GlacierMail$Sum", name := "<init>", desc := "()V" } : Jvm.MethodName) "GlacierMail") ∈ lw_tbl := lw_at lw_m4 197 rfl
theorem q1056 : (Jvm.Cond.fieldLinkNest "GlacierMail$Reader" (315 : Nat) "GlacierMail$Sum" "times" "[I" "GlacierMail") ∈ lw_tbl := lw_at lw_m4 202 rfl
theorem q1058 : (Jvm.Cond.fieldLinkNest "GlacierMail$Reader" (313 : Nat) "GlacierMail$Sum" "number" "I" "GlacierMail") ∈ lw_tbl := lw_at lw_m4 204 rfl
theorem q1064 : (Jvm.Cond.methodLink "GlacierMail$Reader" (306 : Nat) ({ cls := "GlacierMail$Reader", name := "part", desc := "(LGlacierMail$Sum;)V" } : Jvm.MethodName)) ∈ lw_all := lw_g (lw_at lw_m4 210 rfl) rfl
theorem q1065 : (Jvm.Cond.privateMethod ({ cls := "GlacierMail$Reader", name := "part", desc := "(LGlacierMail$Sum;)V" } : Jvm.MethodName)) ∈ lw_tbl := lw_at lw_m4 211 rfl
theorem q1066 : (Jvm.Cond.instanceMethod ({ cls := "GlacierMail$Reader", name := "part", desc := "(LGlacierMail$Sum;)V" } : Jvm.MethodName)) ∈ lw_all := lw_g (lw_at lw_m4 212 rfl) rfl
theorem q1067 : (Jvm.Cond.code ({ cls := "GlacierMail$Reader", name := "part", desc := "(LGlacierMail$Sum;)V" } : Jvm.MethodName) prog_12_method_23_code (3 : Nat) (Option.none : Option Jvm.ClassFile.FieldType)) ∈ lw_all := lw_g (lw_at lw_m4 213 rfl) rfl
theorem q1068 : (Jvm.Cond.methodLink "GlacierMail$Reader" (310 : Nat) ({ cls := "GlacierMail$Reader", name := "isFigure", desc := "()Z" } : Jvm.MethodName)) ∈ lw_all := lw_g (lw_at lw_m4 214 rfl) rfl
theorem q1069 : (Jvm.Cond.privateMethod ({ cls := "GlacierMail$Reader", name := "isFigure", desc := "()Z" } : Jvm.MethodName)) ∈ lw_tbl := lw_at lw_m4 215 rfl
theorem q1070 : (Jvm.Cond.instanceMethod ({ cls := "GlacierMail$Reader", name := "isFigure", desc := "()Z" } : Jvm.MethodName)) ∈ lw_all := lw_g (lw_at lw_m4 216 rfl) rfl
theorem q1071 : (Jvm.Cond.code ({ cls := "GlacierMail$Reader", name := "isFigure", desc := "()Z" } : Jvm.MethodName) prog_12_method_4_code (2 : Nat) (Option.some Jvm.ClassFile.FieldType.boolean)) ∈ lw_all := lw_g (lw_at lw_m4 217 rfl) rfl
theorem q1072 : (Jvm.Cond.classLink "GlacierMail$Reader" (298 : Nat) "GlacierMail$Less") ∈ lw_all := lw_g (lw_at lw_m4 218 rfl) rfl
theorem q1074 : (Jvm.Cond.methodLink "GlacierMail$Reader" (300 : Nat) ({ cls := "GlacierMail$Less", name := "<init>", desc := "(LGlacierMail$Sum;LGlacierMail$Sum;)V" } : Jvm.MethodName)) ∈ lw_all := lw_g (lw_at lw_m4 220 rfl) rfl
theorem q1085 : (Jvm.Cond.classLink "GlacierMail$Reader" (287 : Nat) "GlacierMail$Not") ∈ lw_all := lw_g (lw_at lw_m4 231 rfl) rfl
theorem q1087 : (Jvm.Cond.methodLink "GlacierMail$Reader" (289 : Nat) ({ cls := "GlacierMail$Not", name := "<init>", desc := "(LGlacierMail$Cond;)V" } : Jvm.MethodName)) ∈ lw_all := lw_g (lw_at lw_m4 233 rfl) rfl
theorem q1095 : (Jvm.Cond.methodLink "GlacierMail$Reader" (271 : Nat) ({ cls := "GlacierMail$Chain", name := "<init>", desc := "(LGlacierMail$Cond;Z)V" } : Jvm.MethodName)) ∈ lw_all := lw_g (lw_at lw_m5 1 rfl) rfl
theorem q1102 : (Jvm.Cond.fieldLinkNest "GlacierMail$Reader" (278 : Nat) "GlacierMail$Chain" "next" "LGlacierMail$Chain;" "GlacierMail") ∈ lw_tbl := lw_at lw_m5 8 rfl
theorem q1110 : (Jvm.Cond.stringRef "GlacierMail$Reader" (274 : Nat) "and") ∈ lw_tbl := lw_at lw_m5 16 rfl
theorem q1111 : (Jvm.Cond.stringRef "GlacierMail$Reader" (276 : Nat) "or") ∈ lw_tbl := lw_at lw_m5 17 rfl
theorem q1112 : (Jvm.Cond.classLink "GlacierMail$Reader" (255 : Nat) "GlacierMail$Fast") ∈ lw_all := lw_g (lw_at lw_m5 18 rfl) rfl
theorem q1114 : (Jvm.Cond.methodLink "GlacierMail$Reader" (257 : Nat) ({ cls := "GlacierMail$Fast", name := "<init>", desc := "(ILGlacierMail$Cond;)V" } : Jvm.MethodName)) ∈ lw_all := lw_g (lw_at lw_m5 20 rfl) rfl
theorem q1128 : (Jvm.Cond.classLink "GlacierMail$Reader" (260 : Nat) "GlacierMail$Opens") ∈ lw_all := lw_g (lw_at lw_m5 34 rfl) rfl
theorem q1130 : (Jvm.Cond.methodLink "GlacierMail$Reader" (262 : Nat) ({ cls := "GlacierMail$Opens", name := "<init>", desc := "(LGlacierMail$Cond;)V" } : Jvm.MethodName)) ∈ lw_all := lw_g (lw_at lw_m5 36 rfl) rfl
theorem q2280 : (Jvm.Cond.castable "GlacierMail$Reader" "java/lang/Object") ∈ lw_tbl := lw_at lw_m9 226 rfl
theorem in_X2 : ∀ w ∈ wsX20, w ∈ lw_all := lw_in wsX20 [520, 522, 524, 526, 528, 530, 532, 534, 536, 538, 540] (by decide +kernel) (by decide +kernel)
/-! GlacierMail$State -/
set_option maxRecDepth 100000
def RX3 : String := "GlacierMail$State"
def TX3 : u_T := fun k => match k with
  | 0 => ("GlacierMail$State", "sections", "[LGlacierMail$Section;", true)
  | 1 => ("GlacierMail$State", "floods", "[LGlacierMail$Flood;", true)
  | 2 => ("GlacierMail$State", "people", "[LGlacierMail$Person;", true)
  | 3 => ("GlacierMail$State", "letters", "[LGlacierMail$Letter;", true)
  | 4 => ("GlacierMail$State", "tables", "[LGlacierMail$Section;", true)
  | 5 => ("GlacierMail$State", "law", "[LGlacierMail$Line;", true)
  | 6 => ("GlacierMail$State", "log", "[I", true)
  | 7 => ("GlacierMail$State", "heats", "[I", true)
  | 8 => ("GlacierMail$State", "facts", "[I", true)
  | 9 => ("GlacierMail$State", "lanes", "I", false)
  | 10 => ("GlacierMail$State", "last", "I", false)
  | 11 => ("GlacierMail$State", "sectionMany", "I", false)
  | 12 => ("GlacierMail$State", "floodMany", "I", false)
  | 13 => ("GlacierMail$State", "personMany", "I", false)
  | 14 => ("GlacierMail$State", "letterMany", "I", false)
  | 15 => ("GlacierMail$State", "tableMany", "I", false)
  | 16 => ("GlacierMail$State", "lawMany", "I", false)
  | 17 => ("GlacierMail$State", "texts", "I", false)
  | 18 => ("GlacierMail$State", "snow", "I", false)
  | 19 => ("GlacierMail$State", "fall", "I", false)
  | 20 => ("GlacierMail$State", "stripe", "I", false)
  | 21 => ("GlacierMail$State", "seed", "I", false)
  | 22 => ("GlacierMail$State", "now", "I", false)
  | _ => ("GlacierMail$State", "logMany", "I", false)
def tyX3 : Nat → FieldType := fun k => match k with
  | 0 => .array (.object "GlacierMail$Section")
  | 1 => .array (.object "GlacierMail$Flood")
  | 2 => .array (.object "GlacierMail$Person")
  | 3 => .array (.object "GlacierMail$Letter")
  | 4 => .array (.object "GlacierMail$Section")
  | 5 => .array (.object "GlacierMail$Line")
  | 6 => .array .int
  | 7 => .array .int
  | 8 => .array .int
  | 9 => .int
  | 10 => .int
  | 11 => .int
  | 12 => .int
  | 13 => .int
  | 14 => .int
  | 15 => .int
  | 16 => .int
  | 17 => .int
  | 18 => .int
  | 19 => .int
  | 20 => .int
  | 21 => .int
  | 22 => .int
  | _ => .int
abbrev wsX30 : List Cond := u_ws RX3 TX3 24
set_option maxRecDepth 100000 in
theorem nmX3 : ∀ a, a < 24 → ∀ b, b < 24 → a ≠ b → (TX3 a).2.1 ≠ (TX3 b).2.1 := by decide +kernel
set_option maxRecDepth 100000 in
theorem tyX3_ok : ∀ k, k < 24 → parseFieldDescriptor (TX3 k).2.2.1 = some (tyX3 k) := by decide +kernel
abbrev cX3_init : ByteArray := prog_14_method_1_code
def yX3_init : MethodName := ⟨RX3, "<init>", "()V"⟩
def dkwX3_init_11 : List UInt8 := [182, 0, 80, 177]
abbrev dktX3_init_11 : List UInt8 := dkwX3_init_11 ++ []
def dkwX3_init_10 : List UInt8 := [162, 0, 22, 42, 180, 0, 35, 27, 187, 0, 9, 89, 183, 0, 76, 83, 132, 1, 1, 167, 255, 234, 42]
abbrev dktX3_init_10 : List UInt8 := dkwX3_init_10 ++ dktX3_init_11
def dkwX3_init_9 : List UInt8 := [180, 0, 31, 27, 187, 0, 29, 89, 183, 0, 79, 83, 132, 1, 1, 167, 255, 234, 3, 60, 27, 16, 6]
abbrev dktX3_init_9 : List UInt8 := dkwX3_init_9 ++ dktX3_init_10
def dkwX3_init_8 : List UInt8 := [187, 0, 23, 89, 183, 0, 78, 83, 132, 1, 1, 167, 255, 234, 3, 60, 27, 16, 24, 162, 0, 22, 42]
abbrev dktX3_init_8 : List UInt8 := dkwX3_init_8 ++ dktX3_init_9
def dkwX3_init_7 : List UInt8 := [183, 0, 77, 83, 132, 1, 1, 167, 255, 234, 3, 60, 27, 16, 8, 162, 0, 22, 42, 180, 0, 25, 27]
abbrev dktX3_init_7 : List UInt8 := dkwX3_init_7 ++ dktX3_init_8
def dkwX3_init_6 : List UInt8 := [132, 1, 1, 167, 255, 234, 3, 60, 27, 16, 8, 162, 0, 22, 42, 180, 0, 19, 27, 187, 0, 17, 89]
abbrev dktX3_init_6 : List UInt8 := dkwX3_init_6 ++ dktX3_init_7
def dkwX3_init_5 : List UInt8 := [181, 0, 73, 3, 60, 27, 16, 8, 162, 0, 22, 42, 180, 0, 11, 27, 187, 0, 9, 89, 183, 0, 76, 83]
abbrev dktX3_init_5 : List UInt8 := dkwX3_init_5 ++ dktX3_init_6
def dkwX3_init_4 : List UInt8 := [42, 2, 181, 0, 61, 42, 16, 10, 181, 0, 64, 42, 5, 181, 0, 67, 42, 6, 181, 0, 70, 42, 4]
abbrev dktX3_init_4 : List UInt8 := dkwX3_init_4 ++ dktX3_init_5
def dkwX3_init_3 : List UInt8 := [188, 10, 181, 0, 48, 42, 16, 10, 188, 10, 181, 0, 51, 42, 6, 181, 0, 54, 42, 16, 40, 181, 0, 58]
abbrev dktX3_init_3 : List UInt8 := dkwX3_init_3 ++ dktX3_init_4
def dkwX3_init_2 : List UInt8 := [181, 0, 35, 42, 16, 12, 189, 0, 38, 181, 0, 40, 42, 16, 72, 188, 10, 181, 0, 44, 42, 17, 1, 44]
abbrev dktX3_init_2 : List UInt8 := dkwX3_init_2 ++ dktX3_init_3
def dkwX3_init_1 : List UInt8 := [16, 8, 189, 0, 23, 181, 0, 25, 42, 16, 24, 189, 0, 29, 181, 0, 31, 42, 16, 6, 189, 0, 9]
abbrev dktX3_init_1 : List UInt8 := dkwX3_init_1 ++ dktX3_init_2
def dkwX3_init_0 : List UInt8 := [42, 183, 0, 3, 42, 16, 8, 189, 0, 9, 181, 0, 11, 42, 16, 8, 189, 0, 17, 181, 0, 19, 42]
abbrev dktX3_init_0 : List UInt8 := dkwX3_init_0 ++ dktX3_init_1
theorem dksX3_init_0 : cX3_init.data.toList.drop 0 = dktX3_init_0 := by decide +kernel
theorem dksX3_init_1 : cX3_init.data.toList.drop 23 = dktX3_init_1 := dk_seg dksX3_init_0 23 rfl rfl
theorem dksX3_init_2 : cX3_init.data.toList.drop 46 = dktX3_init_2 := dk_seg dksX3_init_1 23 rfl rfl
theorem dksX3_init_3 : cX3_init.data.toList.drop 70 = dktX3_init_3 := dk_seg dksX3_init_2 24 rfl rfl
theorem dksX3_init_4 : cX3_init.data.toList.drop 94 = dktX3_init_4 := dk_seg dksX3_init_3 24 rfl rfl
theorem dksX3_init_5 : cX3_init.data.toList.drop 117 = dktX3_init_5 := dk_seg dksX3_init_4 23 rfl rfl
theorem dksX3_init_6 : cX3_init.data.toList.drop 141 = dktX3_init_6 := dk_seg dksX3_init_5 24 rfl rfl
theorem dksX3_init_7 : cX3_init.data.toList.drop 164 = dktX3_init_7 := dk_seg dksX3_init_6 23 rfl rfl
theorem dksX3_init_8 : cX3_init.data.toList.drop 187 = dktX3_init_8 := dk_seg dksX3_init_7 23 rfl rfl
theorem dksX3_init_9 : cX3_init.data.toList.drop 210 = dktX3_init_9 := dk_seg dksX3_init_8 23 rfl rfl
theorem dksX3_init_10 : cX3_init.data.toList.drop 233 = dktX3_init_10 := dk_seg dksX3_init_9 23 rfl rfl
theorem dksX3_init_11 : cX3_init.data.toList.drop 256 = dktX3_init_11 := dk_seg dksX3_init_10 23 rfl rfl
theorem dX3_init_0 : decode cX3_init 0 = .ok (.aload_n 0, 1) := dk_42 (dk_at dksX3_init_0 0 rfl rfl)
theorem dX3_init_1 : decode cX3_init 1 = .ok (.invokespecial 3, 3) := dk_183 0 3 (dk_at dksX3_init_0 1 rfl rfl)
theorem dX3_init_4 : decode cX3_init 4 = .ok (.aload_n 0, 1) := dk_42 (dk_at dksX3_init_0 4 rfl rfl)
theorem dX3_init_5 : decode cX3_init 5 = .ok (.bipush 8, 2) := dk_16 8 (dk_at dksX3_init_0 5 rfl rfl)
theorem dX3_init_7 : decode cX3_init 7 = .ok (.anewarray 9, 3) := dk_189 0 9 (dk_at dksX3_init_0 7 rfl rfl)
theorem dX3_init_10 : decode cX3_init 10 = .ok (.putfield 11, 3) := dk_181 0 11 (dk_at dksX3_init_0 10 rfl rfl)
theorem dX3_init_13 : decode cX3_init 13 = .ok (.aload_n 0, 1) := dk_42 (dk_at dksX3_init_0 13 rfl rfl)
theorem dX3_init_14 : decode cX3_init 14 = .ok (.bipush 8, 2) := dk_16 8 (dk_at dksX3_init_0 14 rfl rfl)
theorem dX3_init_16 : decode cX3_init 16 = .ok (.anewarray 17, 3) := dk_189 0 17 (dk_at dksX3_init_0 16 rfl rfl)
theorem dX3_init_19 : decode cX3_init 19 = .ok (.putfield 19, 3) := dk_181 0 19 (dk_at dksX3_init_0 19 rfl rfl)
theorem dX3_init_22 : decode cX3_init 22 = .ok (.aload_n 0, 1) := dk_42 (dk_at dksX3_init_0 22 rfl rfl)
theorem dX3_init_23 : decode cX3_init 23 = .ok (.bipush 8, 2) := dk_16 8 (dk_at dksX3_init_1 0 rfl rfl)
theorem dX3_init_25 : decode cX3_init 25 = .ok (.anewarray 23, 3) := dk_189 0 23 (dk_at dksX3_init_1 2 rfl rfl)
theorem dX3_init_28 : decode cX3_init 28 = .ok (.putfield 25, 3) := dk_181 0 25 (dk_at dksX3_init_1 5 rfl rfl)
theorem dX3_init_31 : decode cX3_init 31 = .ok (.aload_n 0, 1) := dk_42 (dk_at dksX3_init_1 8 rfl rfl)
theorem dX3_init_32 : decode cX3_init 32 = .ok (.bipush 24, 2) := dk_16 24 (dk_at dksX3_init_1 9 rfl rfl)
theorem dX3_init_34 : decode cX3_init 34 = .ok (.anewarray 29, 3) := dk_189 0 29 (dk_at dksX3_init_1 11 rfl rfl)
theorem dX3_init_37 : decode cX3_init 37 = .ok (.putfield 31, 3) := dk_181 0 31 (dk_at dksX3_init_1 14 rfl rfl)
theorem dX3_init_40 : decode cX3_init 40 = .ok (.aload_n 0, 1) := dk_42 (dk_at dksX3_init_1 17 rfl rfl)
theorem dX3_init_41 : decode cX3_init 41 = .ok (.bipush 6, 2) := dk_16 6 (dk_at dksX3_init_1 18 rfl rfl)
theorem dX3_init_43 : decode cX3_init 43 = .ok (.anewarray 9, 3) := dk_189 0 9 (dk_at dksX3_init_1 20 rfl rfl)
theorem dX3_init_46 : decode cX3_init 46 = .ok (.putfield 35, 3) := dk_181 0 35 (dk_at dksX3_init_2 0 rfl rfl)
theorem dX3_init_49 : decode cX3_init 49 = .ok (.aload_n 0, 1) := dk_42 (dk_at dksX3_init_2 3 rfl rfl)
theorem dX3_init_50 : decode cX3_init 50 = .ok (.bipush 12, 2) := dk_16 12 (dk_at dksX3_init_2 4 rfl rfl)
theorem dX3_init_52 : decode cX3_init 52 = .ok (.anewarray 38, 3) := dk_189 0 38 (dk_at dksX3_init_2 6 rfl rfl)
theorem dX3_init_55 : decode cX3_init 55 = .ok (.putfield 40, 3) := dk_181 0 40 (dk_at dksX3_init_2 9 rfl rfl)
theorem dX3_init_58 : decode cX3_init 58 = .ok (.aload_n 0, 1) := dk_42 (dk_at dksX3_init_2 12 rfl rfl)
theorem dX3_init_59 : decode cX3_init 59 = .ok (.bipush 72, 2) := dk_16 72 (dk_at dksX3_init_2 13 rfl rfl)
theorem dX3_init_61 : decode cX3_init 61 = .ok (.newarray .int, 2) := dk_188_10 (dk_at dksX3_init_2 15 rfl rfl)
theorem dX3_init_63 : decode cX3_init 63 = .ok (.putfield 44, 3) := dk_181 0 44 (dk_at dksX3_init_2 17 rfl rfl)
theorem dX3_init_66 : decode cX3_init 66 = .ok (.aload_n 0, 1) := dk_42 (dk_at dksX3_init_2 20 rfl rfl)
theorem dX3_init_67 : decode cX3_init 67 = .ok (.sipush 300, 3) := dk_17 1 44 (dk_at dksX3_init_2 21 rfl rfl)
theorem dX3_init_70 : decode cX3_init 70 = .ok (.newarray .int, 2) := dk_188_10 (dk_at dksX3_init_3 0 rfl rfl)
theorem dX3_init_72 : decode cX3_init 72 = .ok (.putfield 48, 3) := dk_181 0 48 (dk_at dksX3_init_3 2 rfl rfl)
theorem dX3_init_75 : decode cX3_init 75 = .ok (.aload_n 0, 1) := dk_42 (dk_at dksX3_init_3 5 rfl rfl)
theorem dX3_init_76 : decode cX3_init 76 = .ok (.bipush 10, 2) := dk_16 10 (dk_at dksX3_init_3 6 rfl rfl)
theorem dX3_init_78 : decode cX3_init 78 = .ok (.newarray .int, 2) := dk_188_10 (dk_at dksX3_init_3 8 rfl rfl)
theorem dX3_init_80 : decode cX3_init 80 = .ok (.putfield 51, 3) := dk_181 0 51 (dk_at dksX3_init_3 10 rfl rfl)
theorem dX3_init_83 : decode cX3_init 83 = .ok (.aload_n 0, 1) := dk_42 (dk_at dksX3_init_3 13 rfl rfl)
theorem dX3_init_84 : decode cX3_init 84 = .ok (.iconst 3, 1) := dk_6 (dk_at dksX3_init_3 14 rfl rfl)
theorem dX3_init_85 : decode cX3_init 85 = .ok (.putfield 54, 3) := dk_181 0 54 (dk_at dksX3_init_3 15 rfl rfl)
theorem dX3_init_88 : decode cX3_init 88 = .ok (.aload_n 0, 1) := dk_42 (dk_at dksX3_init_3 18 rfl rfl)
theorem dX3_init_89 : decode cX3_init 89 = .ok (.bipush 40, 2) := dk_16 40 (dk_at dksX3_init_3 19 rfl rfl)
theorem dX3_init_91 : decode cX3_init 91 = .ok (.putfield 58, 3) := dk_181 0 58 (dk_at dksX3_init_3 21 rfl rfl)
theorem dX3_init_94 : decode cX3_init 94 = .ok (.aload_n 0, 1) := dk_42 (dk_at dksX3_init_4 0 rfl rfl)
theorem dX3_init_95 : decode cX3_init 95 = .ok (.iconst (-1), 1) := dk_2 (dk_at dksX3_init_4 1 rfl rfl)
theorem dX3_init_96 : decode cX3_init 96 = .ok (.putfield 61, 3) := dk_181 0 61 (dk_at dksX3_init_4 2 rfl rfl)
theorem dX3_init_99 : decode cX3_init 99 = .ok (.aload_n 0, 1) := dk_42 (dk_at dksX3_init_4 5 rfl rfl)
theorem dX3_init_100 : decode cX3_init 100 = .ok (.bipush 10, 2) := dk_16 10 (dk_at dksX3_init_4 6 rfl rfl)
theorem dX3_init_102 : decode cX3_init 102 = .ok (.putfield 64, 3) := dk_181 0 64 (dk_at dksX3_init_4 8 rfl rfl)
theorem dX3_init_105 : decode cX3_init 105 = .ok (.aload_n 0, 1) := dk_42 (dk_at dksX3_init_4 11 rfl rfl)
theorem dX3_init_106 : decode cX3_init 106 = .ok (.iconst 2, 1) := dk_5 (dk_at dksX3_init_4 12 rfl rfl)
theorem dX3_init_107 : decode cX3_init 107 = .ok (.putfield 67, 3) := dk_181 0 67 (dk_at dksX3_init_4 13 rfl rfl)
theorem dX3_init_110 : decode cX3_init 110 = .ok (.aload_n 0, 1) := dk_42 (dk_at dksX3_init_4 16 rfl rfl)
theorem dX3_init_111 : decode cX3_init 111 = .ok (.iconst 3, 1) := dk_6 (dk_at dksX3_init_4 17 rfl rfl)
theorem dX3_init_112 : decode cX3_init 112 = .ok (.putfield 70, 3) := dk_181 0 70 (dk_at dksX3_init_4 18 rfl rfl)
theorem dX3_init_115 : decode cX3_init 115 = .ok (.aload_n 0, 1) := dk_42 (dk_at dksX3_init_4 21 rfl rfl)
theorem dX3_init_116 : decode cX3_init 116 = .ok (.iconst 1, 1) := dk_4 (dk_at dksX3_init_4 22 rfl rfl)
theorem dX3_init_117 : decode cX3_init 117 = .ok (.putfield 73, 3) := dk_181 0 73 (dk_at dksX3_init_5 0 rfl rfl)
theorem dX3_init_120 : decode cX3_init 120 = .ok (.iconst 0, 1) := dk_3 (dk_at dksX3_init_5 3 rfl rfl)
theorem dX3_init_121 : decode cX3_init 121 = .ok (.istore_n 1, 1) := dk_60 (dk_at dksX3_init_5 4 rfl rfl)
theorem dX3_init_122 : decode cX3_init 122 = .ok (.iload_n 1, 1) := dk_27 (dk_at dksX3_init_5 5 rfl rfl)
theorem dX3_init_123 : decode cX3_init 123 = .ok (.bipush 8, 2) := dk_16 8 (dk_at dksX3_init_5 6 rfl rfl)
theorem dX3_init_125 : decode cX3_init 125 = .ok (.if_icmp .ge 22, 3) := dk_162 0 22 (dk_at dksX3_init_5 8 rfl rfl)
theorem dX3_init_128 : decode cX3_init 128 = .ok (.aload_n 0, 1) := dk_42 (dk_at dksX3_init_5 11 rfl rfl)
theorem dX3_init_129 : decode cX3_init 129 = .ok (.getfield 11, 3) := dk_180 0 11 (dk_at dksX3_init_5 12 rfl rfl)
theorem dX3_init_132 : decode cX3_init 132 = .ok (.iload_n 1, 1) := dk_27 (dk_at dksX3_init_5 15 rfl rfl)
theorem dX3_init_133 : decode cX3_init 133 = .ok (.new 9, 3) := dk_187 0 9 (dk_at dksX3_init_5 16 rfl rfl)
theorem dX3_init_136 : decode cX3_init 136 = .ok (.dup, 1) := dk_89 (dk_at dksX3_init_5 19 rfl rfl)
theorem dX3_init_137 : decode cX3_init 137 = .ok (.invokespecial 76, 3) := dk_183 0 76 (dk_at dksX3_init_5 20 rfl rfl)
theorem dX3_init_140 : decode cX3_init 140 = .ok (.aastore, 1) := dk_83 (dk_at dksX3_init_5 23 rfl rfl)
theorem dX3_init_141 : decode cX3_init 141 = .ok (.iinc 1 1, 3) := dk_132 1 1 (dk_at dksX3_init_6 0 rfl rfl)
theorem dX3_init_144 : decode cX3_init 144 = .ok (.goto (-22), 3) := dk_167 255 234 (dk_at dksX3_init_6 3 rfl rfl)
theorem dX3_init_147 : decode cX3_init 147 = .ok (.iconst 0, 1) := dk_3 (dk_at dksX3_init_6 6 rfl rfl)
theorem dX3_init_148 : decode cX3_init 148 = .ok (.istore_n 1, 1) := dk_60 (dk_at dksX3_init_6 7 rfl rfl)
theorem dX3_init_149 : decode cX3_init 149 = .ok (.iload_n 1, 1) := dk_27 (dk_at dksX3_init_6 8 rfl rfl)
theorem dX3_init_150 : decode cX3_init 150 = .ok (.bipush 8, 2) := dk_16 8 (dk_at dksX3_init_6 9 rfl rfl)
theorem dX3_init_152 : decode cX3_init 152 = .ok (.if_icmp .ge 22, 3) := dk_162 0 22 (dk_at dksX3_init_6 11 rfl rfl)
theorem dX3_init_155 : decode cX3_init 155 = .ok (.aload_n 0, 1) := dk_42 (dk_at dksX3_init_6 14 rfl rfl)
theorem dX3_init_156 : decode cX3_init 156 = .ok (.getfield 19, 3) := dk_180 0 19 (dk_at dksX3_init_6 15 rfl rfl)
theorem dX3_init_159 : decode cX3_init 159 = .ok (.iload_n 1, 1) := dk_27 (dk_at dksX3_init_6 18 rfl rfl)
theorem dX3_init_160 : decode cX3_init 160 = .ok (.new 17, 3) := dk_187 0 17 (dk_at dksX3_init_6 19 rfl rfl)
theorem dX3_init_163 : decode cX3_init 163 = .ok (.dup, 1) := dk_89 (dk_at dksX3_init_6 22 rfl rfl)
theorem dX3_init_164 : decode cX3_init 164 = .ok (.invokespecial 77, 3) := dk_183 0 77 (dk_at dksX3_init_7 0 rfl rfl)
theorem dX3_init_167 : decode cX3_init 167 = .ok (.aastore, 1) := dk_83 (dk_at dksX3_init_7 3 rfl rfl)
theorem dX3_init_168 : decode cX3_init 168 = .ok (.iinc 1 1, 3) := dk_132 1 1 (dk_at dksX3_init_7 4 rfl rfl)
theorem dX3_init_171 : decode cX3_init 171 = .ok (.goto (-22), 3) := dk_167 255 234 (dk_at dksX3_init_7 7 rfl rfl)
theorem dX3_init_174 : decode cX3_init 174 = .ok (.iconst 0, 1) := dk_3 (dk_at dksX3_init_7 10 rfl rfl)
theorem dX3_init_175 : decode cX3_init 175 = .ok (.istore_n 1, 1) := dk_60 (dk_at dksX3_init_7 11 rfl rfl)
theorem dX3_init_176 : decode cX3_init 176 = .ok (.iload_n 1, 1) := dk_27 (dk_at dksX3_init_7 12 rfl rfl)
theorem dX3_init_177 : decode cX3_init 177 = .ok (.bipush 8, 2) := dk_16 8 (dk_at dksX3_init_7 13 rfl rfl)
theorem dX3_init_179 : decode cX3_init 179 = .ok (.if_icmp .ge 22, 3) := dk_162 0 22 (dk_at dksX3_init_7 15 rfl rfl)
theorem dX3_init_182 : decode cX3_init 182 = .ok (.aload_n 0, 1) := dk_42 (dk_at dksX3_init_7 18 rfl rfl)
theorem dX3_init_183 : decode cX3_init 183 = .ok (.getfield 25, 3) := dk_180 0 25 (dk_at dksX3_init_7 19 rfl rfl)
theorem dX3_init_186 : decode cX3_init 186 = .ok (.iload_n 1, 1) := dk_27 (dk_at dksX3_init_7 22 rfl rfl)
theorem dX3_init_187 : decode cX3_init 187 = .ok (.new 23, 3) := dk_187 0 23 (dk_at dksX3_init_8 0 rfl rfl)
theorem dX3_init_190 : decode cX3_init 190 = .ok (.dup, 1) := dk_89 (dk_at dksX3_init_8 3 rfl rfl)
theorem dX3_init_191 : decode cX3_init 191 = .ok (.invokespecial 78, 3) := dk_183 0 78 (dk_at dksX3_init_8 4 rfl rfl)
theorem dX3_init_194 : decode cX3_init 194 = .ok (.aastore, 1) := dk_83 (dk_at dksX3_init_8 7 rfl rfl)
theorem dX3_init_195 : decode cX3_init 195 = .ok (.iinc 1 1, 3) := dk_132 1 1 (dk_at dksX3_init_8 8 rfl rfl)
theorem dX3_init_198 : decode cX3_init 198 = .ok (.goto (-22), 3) := dk_167 255 234 (dk_at dksX3_init_8 11 rfl rfl)
theorem dX3_init_201 : decode cX3_init 201 = .ok (.iconst 0, 1) := dk_3 (dk_at dksX3_init_8 14 rfl rfl)
theorem dX3_init_202 : decode cX3_init 202 = .ok (.istore_n 1, 1) := dk_60 (dk_at dksX3_init_8 15 rfl rfl)
theorem dX3_init_203 : decode cX3_init 203 = .ok (.iload_n 1, 1) := dk_27 (dk_at dksX3_init_8 16 rfl rfl)
theorem dX3_init_204 : decode cX3_init 204 = .ok (.bipush 24, 2) := dk_16 24 (dk_at dksX3_init_8 17 rfl rfl)
theorem dX3_init_206 : decode cX3_init 206 = .ok (.if_icmp .ge 22, 3) := dk_162 0 22 (dk_at dksX3_init_8 19 rfl rfl)
theorem dX3_init_209 : decode cX3_init 209 = .ok (.aload_n 0, 1) := dk_42 (dk_at dksX3_init_8 22 rfl rfl)
theorem dX3_init_210 : decode cX3_init 210 = .ok (.getfield 31, 3) := dk_180 0 31 (dk_at dksX3_init_9 0 rfl rfl)
theorem dX3_init_213 : decode cX3_init 213 = .ok (.iload_n 1, 1) := dk_27 (dk_at dksX3_init_9 3 rfl rfl)
theorem dX3_init_214 : decode cX3_init 214 = .ok (.new 29, 3) := dk_187 0 29 (dk_at dksX3_init_9 4 rfl rfl)
theorem dX3_init_217 : decode cX3_init 217 = .ok (.dup, 1) := dk_89 (dk_at dksX3_init_9 7 rfl rfl)
theorem dX3_init_218 : decode cX3_init 218 = .ok (.invokespecial 79, 3) := dk_183 0 79 (dk_at dksX3_init_9 8 rfl rfl)
theorem dX3_init_221 : decode cX3_init 221 = .ok (.aastore, 1) := dk_83 (dk_at dksX3_init_9 11 rfl rfl)
theorem dX3_init_222 : decode cX3_init 222 = .ok (.iinc 1 1, 3) := dk_132 1 1 (dk_at dksX3_init_9 12 rfl rfl)
theorem dX3_init_225 : decode cX3_init 225 = .ok (.goto (-22), 3) := dk_167 255 234 (dk_at dksX3_init_9 15 rfl rfl)
theorem dX3_init_228 : decode cX3_init 228 = .ok (.iconst 0, 1) := dk_3 (dk_at dksX3_init_9 18 rfl rfl)
theorem dX3_init_229 : decode cX3_init 229 = .ok (.istore_n 1, 1) := dk_60 (dk_at dksX3_init_9 19 rfl rfl)
theorem dX3_init_230 : decode cX3_init 230 = .ok (.iload_n 1, 1) := dk_27 (dk_at dksX3_init_9 20 rfl rfl)
theorem dX3_init_231 : decode cX3_init 231 = .ok (.bipush 6, 2) := dk_16 6 (dk_at dksX3_init_9 21 rfl rfl)
theorem dX3_init_233 : decode cX3_init 233 = .ok (.if_icmp .ge 22, 3) := dk_162 0 22 (dk_at dksX3_init_10 0 rfl rfl)
theorem dX3_init_236 : decode cX3_init 236 = .ok (.aload_n 0, 1) := dk_42 (dk_at dksX3_init_10 3 rfl rfl)
theorem dX3_init_237 : decode cX3_init 237 = .ok (.getfield 35, 3) := dk_180 0 35 (dk_at dksX3_init_10 4 rfl rfl)
theorem dX3_init_240 : decode cX3_init 240 = .ok (.iload_n 1, 1) := dk_27 (dk_at dksX3_init_10 7 rfl rfl)
theorem dX3_init_241 : decode cX3_init 241 = .ok (.new 9, 3) := dk_187 0 9 (dk_at dksX3_init_10 8 rfl rfl)
theorem dX3_init_244 : decode cX3_init 244 = .ok (.dup, 1) := dk_89 (dk_at dksX3_init_10 11 rfl rfl)
theorem dX3_init_245 : decode cX3_init 245 = .ok (.invokespecial 76, 3) := dk_183 0 76 (dk_at dksX3_init_10 12 rfl rfl)
theorem dX3_init_248 : decode cX3_init 248 = .ok (.aastore, 1) := dk_83 (dk_at dksX3_init_10 15 rfl rfl)
theorem dX3_init_249 : decode cX3_init 249 = .ok (.iinc 1 1, 3) := dk_132 1 1 (dk_at dksX3_init_10 16 rfl rfl)
theorem dX3_init_252 : decode cX3_init 252 = .ok (.goto (-22), 3) := dk_167 255 234 (dk_at dksX3_init_10 19 rfl rfl)
theorem dX3_init_255 : decode cX3_init 255 = .ok (.aload_n 0, 1) := dk_42 (dk_at dksX3_init_10 22 rfl rfl)
theorem dX3_init_256 : decode cX3_init 256 = .ok (.invokevirtual 80, 3) := dk_182 0 80 (dk_at dksX3_init_11 0 rfl rfl)
theorem dX3_init_259 : decode cX3_init 259 = .ok (.return_, 1) := dk_177 (dk_at dksX3_init_11 3 rfl rfl)
abbrev cX3_draws : ByteArray := prog_14_method_3_code
def yX3_draws : MethodName := ⟨RX3, "draws", "()V"⟩
def dkwX3_draws_1 : List UInt8 := [180, 0, 48, 28, 27, 16, 16, 124, 17, 127, 255, 126, 16, 10, 112, 79, 132, 2, 1, 167, 255, 220, 177]
abbrev dktX3_draws_1 : List UInt8 := dkwX3_draws_1 ++ []
def dkwX3_draws_0 : List UInt8 := [42, 180, 0, 73, 60, 3, 61, 28, 17, 1, 44, 162, 0, 35, 18, 126, 27, 104, 17, 48, 57, 96, 60, 42]
abbrev dktX3_draws_0 : List UInt8 := dkwX3_draws_0 ++ dktX3_draws_1
theorem dksX3_draws_0 : cX3_draws.data.toList.drop 0 = dktX3_draws_0 := by decide +kernel
theorem dksX3_draws_1 : cX3_draws.data.toList.drop 24 = dktX3_draws_1 := dk_seg dksX3_draws_0 24 rfl rfl
theorem dX3_draws_0 : decode cX3_draws 0 = .ok (.aload_n 0, 1) := dk_42 (dk_at dksX3_draws_0 0 rfl rfl)
theorem dX3_draws_1 : decode cX3_draws 1 = .ok (.getfield 73, 3) := dk_180 0 73 (dk_at dksX3_draws_0 1 rfl rfl)
theorem dX3_draws_4 : decode cX3_draws 4 = .ok (.istore_n 1, 1) := dk_60 (dk_at dksX3_draws_0 4 rfl rfl)
theorem dX3_draws_5 : decode cX3_draws 5 = .ok (.iconst 0, 1) := dk_3 (dk_at dksX3_draws_0 5 rfl rfl)
theorem dX3_draws_6 : decode cX3_draws 6 = .ok (.istore_n 2, 1) := dk_61 (dk_at dksX3_draws_0 6 rfl rfl)
theorem dX3_draws_7 : decode cX3_draws 7 = .ok (.iload_n 2, 1) := dk_28 (dk_at dksX3_draws_0 7 rfl rfl)
theorem dX3_draws_8 : decode cX3_draws 8 = .ok (.sipush 300, 3) := dk_17 1 44 (dk_at dksX3_draws_0 8 rfl rfl)
theorem dX3_draws_11 : decode cX3_draws 11 = .ok (.if_icmp .ge 35, 3) := dk_162 0 35 (dk_at dksX3_draws_0 11 rfl rfl)
theorem dX3_draws_14 : decode cX3_draws 14 = .ok (.ldc 126, 2) := dk_18 126 (dk_at dksX3_draws_0 14 rfl rfl)
theorem dX3_draws_16 : decode cX3_draws 16 = .ok (.iload_n 1, 1) := dk_27 (dk_at dksX3_draws_0 16 rfl rfl)
theorem dX3_draws_17 : decode cX3_draws 17 = .ok (.imul, 1) := dk_104 (dk_at dksX3_draws_0 17 rfl rfl)
theorem dX3_draws_18 : decode cX3_draws 18 = .ok (.sipush 12345, 3) := dk_17 48 57 (dk_at dksX3_draws_0 18 rfl rfl)
theorem dX3_draws_21 : decode cX3_draws 21 = .ok (.iadd, 1) := dk_96 (dk_at dksX3_draws_0 21 rfl rfl)
theorem dX3_draws_22 : decode cX3_draws 22 = .ok (.istore_n 1, 1) := dk_60 (dk_at dksX3_draws_0 22 rfl rfl)
theorem dX3_draws_23 : decode cX3_draws 23 = .ok (.aload_n 0, 1) := dk_42 (dk_at dksX3_draws_0 23 rfl rfl)
theorem dX3_draws_24 : decode cX3_draws 24 = .ok (.getfield 48, 3) := dk_180 0 48 (dk_at dksX3_draws_1 0 rfl rfl)
theorem dX3_draws_27 : decode cX3_draws 27 = .ok (.iload_n 2, 1) := dk_28 (dk_at dksX3_draws_1 3 rfl rfl)
theorem dX3_draws_28 : decode cX3_draws 28 = .ok (.iload_n 1, 1) := dk_27 (dk_at dksX3_draws_1 4 rfl rfl)
theorem dX3_draws_29 : decode cX3_draws 29 = .ok (.bipush 16, 2) := dk_16 16 (dk_at dksX3_draws_1 5 rfl rfl)
theorem dX3_draws_31 : decode cX3_draws 31 = .ok (.iushr, 1) := dk_124 (dk_at dksX3_draws_1 7 rfl rfl)
theorem dX3_draws_32 : decode cX3_draws 32 = .ok (.sipush 32767, 3) := dk_17 127 255 (dk_at dksX3_draws_1 8 rfl rfl)
theorem dX3_draws_35 : decode cX3_draws 35 = .ok (.iand, 1) := dk_126 (dk_at dksX3_draws_1 11 rfl rfl)
theorem dX3_draws_36 : decode cX3_draws 36 = .ok (.bipush 10, 2) := dk_16 10 (dk_at dksX3_draws_1 12 rfl rfl)
theorem dX3_draws_38 : decode cX3_draws 38 = .ok (.irem, 1) := dk_112 (dk_at dksX3_draws_1 14 rfl rfl)
theorem dX3_draws_39 : decode cX3_draws 39 = .ok (.iastore, 1) := dk_79 (dk_at dksX3_draws_1 15 rfl rfl)
theorem dX3_draws_40 : decode cX3_draws 40 = .ok (.iinc 2 1, 3) := dk_132 2 1 (dk_at dksX3_draws_1 16 rfl rfl)
theorem dX3_draws_43 : decode cX3_draws 43 = .ok (.goto (-36), 3) := dk_167 255 220 (dk_at dksX3_draws_1 19 rfl rfl)
theorem dX3_draws_46 : decode cX3_draws 46 = .ok (.return_, 1) := dk_177 (dk_at dksX3_draws_1 22 rfl rfl)
abbrev cX3_flow : ByteArray := prog_14_method_7_code
def yX3_flow : MethodName := ⟨RX3, "flow", "(III)I"⟩
def dkwX3_flow_3 : List UInt8 := [167, 255, 208, 3, 16, 30, 21, 4, 184, 0, 149, 184, 0, 154, 172]
abbrev dktX3_flow_3 : List UInt8 := dkwX3_flow_3 ++ []
def dkwX3_flow_2 : List UInt8 := [153, 0, 16, 42, 180, 0, 40, 21, 5, 50, 182, 0, 145, 167, 0, 4, 3, 96, 54, 4, 132, 5, 1]
abbrev dktX3_flow_2 : List UInt8 := dkwX3_flow_2 ++ dktX3_flow_3
def dkwX3_flow_1 : List UInt8 := [180, 0, 61, 162, 0, 45, 21, 4, 42, 180, 0, 40, 21, 5, 50, 42, 180, 0, 51, 182, 0, 141]
abbrev dktX3_flow_1 : List UInt8 := dkwX3_flow_1 ++ dktX3_flow_2
def dkwX3_flow_0 : List UInt8 := [42, 27, 28, 182, 0, 133, 54, 4, 42, 27, 28, 29, 21, 4, 182, 0, 137, 3, 54, 5, 21, 5, 42]
abbrev dktX3_flow_0 : List UInt8 := dkwX3_flow_0 ++ dktX3_flow_1
theorem dksX3_flow_0 : cX3_flow.data.toList.drop 0 = dktX3_flow_0 := by decide +kernel
theorem dksX3_flow_1 : cX3_flow.data.toList.drop 23 = dktX3_flow_1 := dk_seg dksX3_flow_0 23 rfl rfl
theorem dksX3_flow_2 : cX3_flow.data.toList.drop 45 = dktX3_flow_2 := dk_seg dksX3_flow_1 22 rfl rfl
theorem dksX3_flow_3 : cX3_flow.data.toList.drop 68 = dktX3_flow_3 := dk_seg dksX3_flow_2 23 rfl rfl
theorem dX3_flow_0 : decode cX3_flow 0 = .ok (.aload_n 0, 1) := dk_42 (dk_at dksX3_flow_0 0 rfl rfl)
theorem dX3_flow_1 : decode cX3_flow 1 = .ok (.iload_n 1, 1) := dk_27 (dk_at dksX3_flow_0 1 rfl rfl)
theorem dX3_flow_2 : decode cX3_flow 2 = .ok (.iload_n 2, 1) := dk_28 (dk_at dksX3_flow_0 2 rfl rfl)
theorem dX3_flow_3 : decode cX3_flow 3 = .ok (.invokevirtual 133, 3) := dk_182 0 133 (dk_at dksX3_flow_0 3 rfl rfl)
theorem dX3_flow_6 : decode cX3_flow 6 = .ok (.istore 4, 2) := dk_54 4 (dk_at dksX3_flow_0 6 rfl rfl)
theorem dX3_flow_8 : decode cX3_flow 8 = .ok (.aload_n 0, 1) := dk_42 (dk_at dksX3_flow_0 8 rfl rfl)
theorem dX3_flow_9 : decode cX3_flow 9 = .ok (.iload_n 1, 1) := dk_27 (dk_at dksX3_flow_0 9 rfl rfl)
theorem dX3_flow_10 : decode cX3_flow 10 = .ok (.iload_n 2, 1) := dk_28 (dk_at dksX3_flow_0 10 rfl rfl)
theorem dX3_flow_11 : decode cX3_flow 11 = .ok (.iload_n 3, 1) := dk_29 (dk_at dksX3_flow_0 11 rfl rfl)
theorem dX3_flow_12 : decode cX3_flow 12 = .ok (.iload 4, 2) := dk_21 4 (dk_at dksX3_flow_0 12 rfl rfl)
theorem dX3_flow_14 : decode cX3_flow 14 = .ok (.invokevirtual 137, 3) := dk_182 0 137 (dk_at dksX3_flow_0 14 rfl rfl)
theorem dX3_flow_17 : decode cX3_flow 17 = .ok (.iconst 0, 1) := dk_3 (dk_at dksX3_flow_0 17 rfl rfl)
theorem dX3_flow_18 : decode cX3_flow 18 = .ok (.istore 5, 2) := dk_54 5 (dk_at dksX3_flow_0 18 rfl rfl)
theorem dX3_flow_20 : decode cX3_flow 20 = .ok (.iload 5, 2) := dk_21 5 (dk_at dksX3_flow_0 20 rfl rfl)
theorem dX3_flow_22 : decode cX3_flow 22 = .ok (.aload_n 0, 1) := dk_42 (dk_at dksX3_flow_0 22 rfl rfl)
theorem dX3_flow_23 : decode cX3_flow 23 = .ok (.getfield 61, 3) := dk_180 0 61 (dk_at dksX3_flow_1 0 rfl rfl)
theorem dX3_flow_26 : decode cX3_flow 26 = .ok (.if_icmp .ge 45, 3) := dk_162 0 45 (dk_at dksX3_flow_1 3 rfl rfl)
theorem dX3_flow_29 : decode cX3_flow 29 = .ok (.iload 4, 2) := dk_21 4 (dk_at dksX3_flow_1 6 rfl rfl)
theorem dX3_flow_31 : decode cX3_flow 31 = .ok (.aload_n 0, 1) := dk_42 (dk_at dksX3_flow_1 8 rfl rfl)
theorem dX3_flow_32 : decode cX3_flow 32 = .ok (.getfield 40, 3) := dk_180 0 40 (dk_at dksX3_flow_1 9 rfl rfl)
theorem dX3_flow_35 : decode cX3_flow 35 = .ok (.iload 5, 2) := dk_21 5 (dk_at dksX3_flow_1 12 rfl rfl)
theorem dX3_flow_37 : decode cX3_flow 37 = .ok (.aaload, 1) := dk_50 (dk_at dksX3_flow_1 14 rfl rfl)
theorem dX3_flow_38 : decode cX3_flow 38 = .ok (.aload_n 0, 1) := dk_42 (dk_at dksX3_flow_1 15 rfl rfl)
theorem dX3_flow_39 : decode cX3_flow 39 = .ok (.getfield 51, 3) := dk_180 0 51 (dk_at dksX3_flow_1 16 rfl rfl)
theorem dX3_flow_42 : decode cX3_flow 42 = .ok (.invokevirtual 141, 3) := dk_182 0 141 (dk_at dksX3_flow_1 19 rfl rfl)
theorem dX3_flow_45 : decode cX3_flow 45 = .ok (.ifCond .eq 16, 3) := dk_153 0 16 (dk_at dksX3_flow_2 0 rfl rfl)
theorem dX3_flow_48 : decode cX3_flow 48 = .ok (.aload_n 0, 1) := dk_42 (dk_at dksX3_flow_2 3 rfl rfl)
theorem dX3_flow_49 : decode cX3_flow 49 = .ok (.getfield 40, 3) := dk_180 0 40 (dk_at dksX3_flow_2 4 rfl rfl)
theorem dX3_flow_52 : decode cX3_flow 52 = .ok (.iload 5, 2) := dk_21 5 (dk_at dksX3_flow_2 7 rfl rfl)
theorem dX3_flow_54 : decode cX3_flow 54 = .ok (.aaload, 1) := dk_50 (dk_at dksX3_flow_2 9 rfl rfl)
theorem dX3_flow_55 : decode cX3_flow 55 = .ok (.invokevirtual 145, 3) := dk_182 0 145 (dk_at dksX3_flow_2 10 rfl rfl)
theorem dX3_flow_58 : decode cX3_flow 58 = .ok (.goto 4, 3) := dk_167 0 4 (dk_at dksX3_flow_2 13 rfl rfl)
theorem dX3_flow_61 : decode cX3_flow 61 = .ok (.iconst 0, 1) := dk_3 (dk_at dksX3_flow_2 16 rfl rfl)
theorem dX3_flow_62 : decode cX3_flow 62 = .ok (.iadd, 1) := dk_96 (dk_at dksX3_flow_2 17 rfl rfl)
theorem dX3_flow_63 : decode cX3_flow 63 = .ok (.istore 4, 2) := dk_54 4 (dk_at dksX3_flow_2 18 rfl rfl)
theorem dX3_flow_65 : decode cX3_flow 65 = .ok (.iinc 5 1, 3) := dk_132 5 1 (dk_at dksX3_flow_2 20 rfl rfl)
theorem dX3_flow_68 : decode cX3_flow 68 = .ok (.goto (-48), 3) := dk_167 255 208 (dk_at dksX3_flow_3 0 rfl rfl)
theorem dX3_flow_71 : decode cX3_flow 71 = .ok (.iconst 0, 1) := dk_3 (dk_at dksX3_flow_3 3 rfl rfl)
theorem dX3_flow_72 : decode cX3_flow 72 = .ok (.bipush 30, 2) := dk_16 30 (dk_at dksX3_flow_3 4 rfl rfl)
theorem dX3_flow_74 : decode cX3_flow 74 = .ok (.iload 4, 2) := dk_21 4 (dk_at dksX3_flow_3 6 rfl rfl)
theorem dX3_flow_76 : decode cX3_flow 76 = .ok (.invokestatic 149, 3) := dk_184 0 149 (dk_at dksX3_flow_3 8 rfl rfl)
theorem dX3_flow_79 : decode cX3_flow 79 = .ok (.invokestatic 154, 3) := dk_184 0 154 (dk_at dksX3_flow_3 11 rfl rfl)
theorem dX3_flow_82 : decode cX3_flow 82 = .ok (.ireturn, 1) := dk_172 (dk_at dksX3_flow_3 14 rfl rfl)
abbrev cX3_speed : ByteArray := prog_14_method_5_code
def yX3_speed : MethodName := ⟨RX3, "speed", "(II)I"⟩
def dkwX3_speed_2 : List UInt8 := [172]
abbrev dktX3_speed_2 : List UInt8 := dkwX3_speed_2 ++ []
def dkwX3_speed_1 : List UInt8 := [28, 163, 0, 22, 42, 180, 0, 11, 21, 4, 50, 180, 0, 130, 27, 46, 62, 132, 4, 1, 167, 255, 217, 29]
abbrev dktX3_speed_1 : List UInt8 := dkwX3_speed_1 ++ dktX3_speed_2
def dkwX3_speed_0 : List UInt8 := [3, 62, 3, 54, 4, 21, 4, 42, 180, 0, 83, 162, 0, 36, 42, 180, 0, 11, 21, 4, 50, 180, 0, 127]
abbrev dktX3_speed_0 : List UInt8 := dkwX3_speed_0 ++ dktX3_speed_1
theorem dksX3_speed_0 : cX3_speed.data.toList.drop 0 = dktX3_speed_0 := by decide +kernel
theorem dksX3_speed_1 : cX3_speed.data.toList.drop 24 = dktX3_speed_1 := dk_seg dksX3_speed_0 24 rfl rfl
theorem dksX3_speed_2 : cX3_speed.data.toList.drop 48 = dktX3_speed_2 := dk_seg dksX3_speed_1 24 rfl rfl
theorem dX3_speed_0 : decode cX3_speed 0 = .ok (.iconst 0, 1) := dk_3 (dk_at dksX3_speed_0 0 rfl rfl)
theorem dX3_speed_1 : decode cX3_speed 1 = .ok (.istore_n 3, 1) := dk_62 (dk_at dksX3_speed_0 1 rfl rfl)
theorem dX3_speed_2 : decode cX3_speed 2 = .ok (.iconst 0, 1) := dk_3 (dk_at dksX3_speed_0 2 rfl rfl)
theorem dX3_speed_3 : decode cX3_speed 3 = .ok (.istore 4, 2) := dk_54 4 (dk_at dksX3_speed_0 3 rfl rfl)
theorem dX3_speed_5 : decode cX3_speed 5 = .ok (.iload 4, 2) := dk_21 4 (dk_at dksX3_speed_0 5 rfl rfl)
theorem dX3_speed_7 : decode cX3_speed 7 = .ok (.aload_n 0, 1) := dk_42 (dk_at dksX3_speed_0 7 rfl rfl)
theorem dX3_speed_8 : decode cX3_speed 8 = .ok (.getfield 83, 3) := dk_180 0 83 (dk_at dksX3_speed_0 8 rfl rfl)
theorem dX3_speed_11 : decode cX3_speed 11 = .ok (.if_icmp .ge 36, 3) := dk_162 0 36 (dk_at dksX3_speed_0 11 rfl rfl)
theorem dX3_speed_14 : decode cX3_speed 14 = .ok (.aload_n 0, 1) := dk_42 (dk_at dksX3_speed_0 14 rfl rfl)
theorem dX3_speed_15 : decode cX3_speed 15 = .ok (.getfield 11, 3) := dk_180 0 11 (dk_at dksX3_speed_0 15 rfl rfl)
theorem dX3_speed_18 : decode cX3_speed 18 = .ok (.iload 4, 2) := dk_21 4 (dk_at dksX3_speed_0 18 rfl rfl)
theorem dX3_speed_20 : decode cX3_speed 20 = .ok (.aaload, 1) := dk_50 (dk_at dksX3_speed_0 20 rfl rfl)
theorem dX3_speed_21 : decode cX3_speed 21 = .ok (.getfield 127, 3) := dk_180 0 127 (dk_at dksX3_speed_0 21 rfl rfl)
theorem dX3_speed_24 : decode cX3_speed 24 = .ok (.iload_n 2, 1) := dk_28 (dk_at dksX3_speed_1 0 rfl rfl)
theorem dX3_speed_25 : decode cX3_speed 25 = .ok (.if_icmp .gt 22, 3) := dk_163 0 22 (dk_at dksX3_speed_1 1 rfl rfl)
theorem dX3_speed_28 : decode cX3_speed 28 = .ok (.aload_n 0, 1) := dk_42 (dk_at dksX3_speed_1 4 rfl rfl)
theorem dX3_speed_29 : decode cX3_speed 29 = .ok (.getfield 11, 3) := dk_180 0 11 (dk_at dksX3_speed_1 5 rfl rfl)
theorem dX3_speed_32 : decode cX3_speed 32 = .ok (.iload 4, 2) := dk_21 4 (dk_at dksX3_speed_1 8 rfl rfl)
theorem dX3_speed_34 : decode cX3_speed 34 = .ok (.aaload, 1) := dk_50 (dk_at dksX3_speed_1 10 rfl rfl)
theorem dX3_speed_35 : decode cX3_speed 35 = .ok (.getfield 130, 3) := dk_180 0 130 (dk_at dksX3_speed_1 11 rfl rfl)
theorem dX3_speed_38 : decode cX3_speed 38 = .ok (.iload_n 1, 1) := dk_27 (dk_at dksX3_speed_1 14 rfl rfl)
theorem dX3_speed_39 : decode cX3_speed 39 = .ok (.iaload, 1) := dk_46 (dk_at dksX3_speed_1 15 rfl rfl)
theorem dX3_speed_40 : decode cX3_speed 40 = .ok (.istore_n 3, 1) := dk_62 (dk_at dksX3_speed_1 16 rfl rfl)
theorem dX3_speed_41 : decode cX3_speed 41 = .ok (.iinc 4 1, 3) := dk_132 4 1 (dk_at dksX3_speed_1 17 rfl rfl)
theorem dX3_speed_44 : decode cX3_speed 44 = .ok (.goto (-39), 3) := dk_167 255 217 (dk_at dksX3_speed_1 20 rfl rfl)
theorem dX3_speed_47 : decode cX3_speed 47 = .ok (.iload_n 3, 1) := dk_29 (dk_at dksX3_speed_1 23 rfl rfl)
theorem dX3_speed_48 : decode cX3_speed 48 = .ok (.ireturn, 1) := dk_172 (dk_at dksX3_speed_2 0 rfl rfl)
abbrev cX3_tells : ByteArray := prog_14_method_6_code
def yX3_tells : MethodName := ⟨RX3, "tells", "(IIII)V"⟩
def dkwX3_tells_4 : List UInt8 := [16, 9, 27, 42, 180, 0, 70, 162, 0, 7, 4, 167, 0, 4, 3, 79, 177]
abbrev dktX3_tells_4 : List UInt8 := dkwX3_tells_4 ++ []
def dkwX3_tells_3 : List UInt8 := [27, 153, 0, 13, 27, 42, 180, 0, 54, 4, 100, 160, 0, 7, 4, 167, 0, 4, 3, 79, 42, 180, 0, 51]
abbrev dktX3_tells_3 : List UInt8 := dkwX3_tells_3 ++ dktX3_tells_4
def dkwX3_tells_2 : List UInt8 := [3, 79, 42, 180, 0, 51, 16, 6, 3, 79, 42, 180, 0, 51, 16, 7, 3, 79, 42, 180, 0, 51, 16, 8]
abbrev dktX3_tells_2 : List UInt8 := dkwX3_tells_2 ++ dktX3_tells_3
def dkwX3_tells_1 : List UInt8 := [180, 0, 51, 6, 42, 180, 0, 48, 29, 46, 79, 42, 180, 0, 51, 7, 21, 4, 79, 42, 180, 0, 51, 8]
abbrev dktX3_tells_1 : List UInt8 := dkwX3_tells_1 ++ dktX3_tells_2
def dkwX3_tells_0 : List UInt8 := [42, 180, 0, 51, 3, 27, 79, 42, 180, 0, 51, 4, 28, 79, 42, 180, 0, 51, 5, 29, 79, 42]
abbrev dktX3_tells_0 : List UInt8 := dkwX3_tells_0 ++ dktX3_tells_1
theorem dksX3_tells_0 : cX3_tells.data.toList.drop 0 = dktX3_tells_0 := by decide +kernel
theorem dksX3_tells_1 : cX3_tells.data.toList.drop 22 = dktX3_tells_1 := dk_seg dksX3_tells_0 22 rfl rfl
theorem dksX3_tells_2 : cX3_tells.data.toList.drop 46 = dktX3_tells_2 := dk_seg dksX3_tells_1 24 rfl rfl
theorem dksX3_tells_3 : cX3_tells.data.toList.drop 70 = dktX3_tells_3 := dk_seg dksX3_tells_2 24 rfl rfl
theorem dksX3_tells_4 : cX3_tells.data.toList.drop 94 = dktX3_tells_4 := dk_seg dksX3_tells_3 24 rfl rfl
theorem dX3_tells_0 : decode cX3_tells 0 = .ok (.aload_n 0, 1) := dk_42 (dk_at dksX3_tells_0 0 rfl rfl)
theorem dX3_tells_1 : decode cX3_tells 1 = .ok (.getfield 51, 3) := dk_180 0 51 (dk_at dksX3_tells_0 1 rfl rfl)
theorem dX3_tells_4 : decode cX3_tells 4 = .ok (.iconst 0, 1) := dk_3 (dk_at dksX3_tells_0 4 rfl rfl)
theorem dX3_tells_5 : decode cX3_tells 5 = .ok (.iload_n 1, 1) := dk_27 (dk_at dksX3_tells_0 5 rfl rfl)
theorem dX3_tells_6 : decode cX3_tells 6 = .ok (.iastore, 1) := dk_79 (dk_at dksX3_tells_0 6 rfl rfl)
theorem dX3_tells_7 : decode cX3_tells 7 = .ok (.aload_n 0, 1) := dk_42 (dk_at dksX3_tells_0 7 rfl rfl)
theorem dX3_tells_8 : decode cX3_tells 8 = .ok (.getfield 51, 3) := dk_180 0 51 (dk_at dksX3_tells_0 8 rfl rfl)
theorem dX3_tells_11 : decode cX3_tells 11 = .ok (.iconst 1, 1) := dk_4 (dk_at dksX3_tells_0 11 rfl rfl)
theorem dX3_tells_12 : decode cX3_tells 12 = .ok (.iload_n 2, 1) := dk_28 (dk_at dksX3_tells_0 12 rfl rfl)
theorem dX3_tells_13 : decode cX3_tells 13 = .ok (.iastore, 1) := dk_79 (dk_at dksX3_tells_0 13 rfl rfl)
theorem dX3_tells_14 : decode cX3_tells 14 = .ok (.aload_n 0, 1) := dk_42 (dk_at dksX3_tells_0 14 rfl rfl)
theorem dX3_tells_15 : decode cX3_tells 15 = .ok (.getfield 51, 3) := dk_180 0 51 (dk_at dksX3_tells_0 15 rfl rfl)
theorem dX3_tells_18 : decode cX3_tells 18 = .ok (.iconst 2, 1) := dk_5 (dk_at dksX3_tells_0 18 rfl rfl)
theorem dX3_tells_19 : decode cX3_tells 19 = .ok (.iload_n 3, 1) := dk_29 (dk_at dksX3_tells_0 19 rfl rfl)
theorem dX3_tells_20 : decode cX3_tells 20 = .ok (.iastore, 1) := dk_79 (dk_at dksX3_tells_0 20 rfl rfl)
theorem dX3_tells_21 : decode cX3_tells 21 = .ok (.aload_n 0, 1) := dk_42 (dk_at dksX3_tells_0 21 rfl rfl)
theorem dX3_tells_22 : decode cX3_tells 22 = .ok (.getfield 51, 3) := dk_180 0 51 (dk_at dksX3_tells_1 0 rfl rfl)
theorem dX3_tells_25 : decode cX3_tells 25 = .ok (.iconst 3, 1) := dk_6 (dk_at dksX3_tells_1 3 rfl rfl)
theorem dX3_tells_26 : decode cX3_tells 26 = .ok (.aload_n 0, 1) := dk_42 (dk_at dksX3_tells_1 4 rfl rfl)
theorem dX3_tells_27 : decode cX3_tells 27 = .ok (.getfield 48, 3) := dk_180 0 48 (dk_at dksX3_tells_1 5 rfl rfl)
theorem dX3_tells_30 : decode cX3_tells 30 = .ok (.iload_n 3, 1) := dk_29 (dk_at dksX3_tells_1 8 rfl rfl)
theorem dX3_tells_31 : decode cX3_tells 31 = .ok (.iaload, 1) := dk_46 (dk_at dksX3_tells_1 9 rfl rfl)
theorem dX3_tells_32 : decode cX3_tells 32 = .ok (.iastore, 1) := dk_79 (dk_at dksX3_tells_1 10 rfl rfl)
theorem dX3_tells_33 : decode cX3_tells 33 = .ok (.aload_n 0, 1) := dk_42 (dk_at dksX3_tells_1 11 rfl rfl)
theorem dX3_tells_34 : decode cX3_tells 34 = .ok (.getfield 51, 3) := dk_180 0 51 (dk_at dksX3_tells_1 12 rfl rfl)
theorem dX3_tells_37 : decode cX3_tells 37 = .ok (.iconst 4, 1) := dk_7 (dk_at dksX3_tells_1 15 rfl rfl)
theorem dX3_tells_38 : decode cX3_tells 38 = .ok (.iload 4, 2) := dk_21 4 (dk_at dksX3_tells_1 16 rfl rfl)
theorem dX3_tells_40 : decode cX3_tells 40 = .ok (.iastore, 1) := dk_79 (dk_at dksX3_tells_1 18 rfl rfl)
theorem dX3_tells_41 : decode cX3_tells 41 = .ok (.aload_n 0, 1) := dk_42 (dk_at dksX3_tells_1 19 rfl rfl)
theorem dX3_tells_42 : decode cX3_tells 42 = .ok (.getfield 51, 3) := dk_180 0 51 (dk_at dksX3_tells_1 20 rfl rfl)
theorem dX3_tells_45 : decode cX3_tells 45 = .ok (.iconst 5, 1) := dk_8 (dk_at dksX3_tells_1 23 rfl rfl)
theorem dX3_tells_46 : decode cX3_tells 46 = .ok (.iconst 0, 1) := dk_3 (dk_at dksX3_tells_2 0 rfl rfl)
theorem dX3_tells_47 : decode cX3_tells 47 = .ok (.iastore, 1) := dk_79 (dk_at dksX3_tells_2 1 rfl rfl)
theorem dX3_tells_48 : decode cX3_tells 48 = .ok (.aload_n 0, 1) := dk_42 (dk_at dksX3_tells_2 2 rfl rfl)
theorem dX3_tells_49 : decode cX3_tells 49 = .ok (.getfield 51, 3) := dk_180 0 51 (dk_at dksX3_tells_2 3 rfl rfl)
theorem dX3_tells_52 : decode cX3_tells 52 = .ok (.bipush 6, 2) := dk_16 6 (dk_at dksX3_tells_2 6 rfl rfl)
theorem dX3_tells_54 : decode cX3_tells 54 = .ok (.iconst 0, 1) := dk_3 (dk_at dksX3_tells_2 8 rfl rfl)
theorem dX3_tells_55 : decode cX3_tells 55 = .ok (.iastore, 1) := dk_79 (dk_at dksX3_tells_2 9 rfl rfl)
theorem dX3_tells_56 : decode cX3_tells 56 = .ok (.aload_n 0, 1) := dk_42 (dk_at dksX3_tells_2 10 rfl rfl)
theorem dX3_tells_57 : decode cX3_tells 57 = .ok (.getfield 51, 3) := dk_180 0 51 (dk_at dksX3_tells_2 11 rfl rfl)
theorem dX3_tells_60 : decode cX3_tells 60 = .ok (.bipush 7, 2) := dk_16 7 (dk_at dksX3_tells_2 14 rfl rfl)
theorem dX3_tells_62 : decode cX3_tells 62 = .ok (.iconst 0, 1) := dk_3 (dk_at dksX3_tells_2 16 rfl rfl)
theorem dX3_tells_63 : decode cX3_tells 63 = .ok (.iastore, 1) := dk_79 (dk_at dksX3_tells_2 17 rfl rfl)
theorem dX3_tells_64 : decode cX3_tells 64 = .ok (.aload_n 0, 1) := dk_42 (dk_at dksX3_tells_2 18 rfl rfl)
theorem dX3_tells_65 : decode cX3_tells 65 = .ok (.getfield 51, 3) := dk_180 0 51 (dk_at dksX3_tells_2 19 rfl rfl)
theorem dX3_tells_68 : decode cX3_tells 68 = .ok (.bipush 8, 2) := dk_16 8 (dk_at dksX3_tells_2 22 rfl rfl)
theorem dX3_tells_70 : decode cX3_tells 70 = .ok (.iload_n 1, 1) := dk_27 (dk_at dksX3_tells_3 0 rfl rfl)
theorem dX3_tells_71 : decode cX3_tells 71 = .ok (.ifCond .eq 13, 3) := dk_153 0 13 (dk_at dksX3_tells_3 1 rfl rfl)
theorem dX3_tells_74 : decode cX3_tells 74 = .ok (.iload_n 1, 1) := dk_27 (dk_at dksX3_tells_3 4 rfl rfl)
theorem dX3_tells_75 : decode cX3_tells 75 = .ok (.aload_n 0, 1) := dk_42 (dk_at dksX3_tells_3 5 rfl rfl)
theorem dX3_tells_76 : decode cX3_tells 76 = .ok (.getfield 54, 3) := dk_180 0 54 (dk_at dksX3_tells_3 6 rfl rfl)
theorem dX3_tells_79 : decode cX3_tells 79 = .ok (.iconst 1, 1) := dk_4 (dk_at dksX3_tells_3 9 rfl rfl)
theorem dX3_tells_80 : decode cX3_tells 80 = .ok (.isub, 1) := dk_100 (dk_at dksX3_tells_3 10 rfl rfl)
theorem dX3_tells_81 : decode cX3_tells 81 = .ok (.if_icmp .ne 7, 3) := dk_160 0 7 (dk_at dksX3_tells_3 11 rfl rfl)
theorem dX3_tells_84 : decode cX3_tells 84 = .ok (.iconst 1, 1) := dk_4 (dk_at dksX3_tells_3 14 rfl rfl)
theorem dX3_tells_85 : decode cX3_tells 85 = .ok (.goto 4, 3) := dk_167 0 4 (dk_at dksX3_tells_3 15 rfl rfl)
theorem dX3_tells_88 : decode cX3_tells 88 = .ok (.iconst 0, 1) := dk_3 (dk_at dksX3_tells_3 18 rfl rfl)
theorem dX3_tells_89 : decode cX3_tells 89 = .ok (.iastore, 1) := dk_79 (dk_at dksX3_tells_3 19 rfl rfl)
theorem dX3_tells_90 : decode cX3_tells 90 = .ok (.aload_n 0, 1) := dk_42 (dk_at dksX3_tells_3 20 rfl rfl)
theorem dX3_tells_91 : decode cX3_tells 91 = .ok (.getfield 51, 3) := dk_180 0 51 (dk_at dksX3_tells_3 21 rfl rfl)
theorem dX3_tells_94 : decode cX3_tells 94 = .ok (.bipush 9, 2) := dk_16 9 (dk_at dksX3_tells_4 0 rfl rfl)
theorem dX3_tells_96 : decode cX3_tells 96 = .ok (.iload_n 1, 1) := dk_27 (dk_at dksX3_tells_4 2 rfl rfl)
theorem dX3_tells_97 : decode cX3_tells 97 = .ok (.aload_n 0, 1) := dk_42 (dk_at dksX3_tells_4 3 rfl rfl)
theorem dX3_tells_98 : decode cX3_tells 98 = .ok (.getfield 70, 3) := dk_180 0 70 (dk_at dksX3_tells_4 4 rfl rfl)
theorem dX3_tells_101 : decode cX3_tells 101 = .ok (.if_icmp .ge 7, 3) := dk_162 0 7 (dk_at dksX3_tells_4 7 rfl rfl)
theorem dX3_tells_104 : decode cX3_tells 104 = .ok (.iconst 1, 1) := dk_4 (dk_at dksX3_tells_4 10 rfl rfl)
theorem dX3_tells_105 : decode cX3_tells 105 = .ok (.goto 4, 3) := dk_167 0 4 (dk_at dksX3_tells_4 11 rfl rfl)
theorem dX3_tells_108 : decode cX3_tells 108 = .ok (.iconst 0, 1) := dk_3 (dk_at dksX3_tells_4 14 rfl rfl)
theorem dX3_tells_109 : decode cX3_tells 109 = .ok (.iastore, 1) := dk_79 (dk_at dksX3_tells_4 15 rfl rfl)
theorem dX3_tells_110 : decode cX3_tells 110 = .ok (.return_, 1) := dk_177 (dk_at dksX3_tells_4 16 rfl rfl)
abbrev cX3_flooded : ByteArray := prog_14_method_9_code
def yX3_flooded : MethodName := ⟨RX3, "flooded", "(II)I"⟩
def dkwX3_flooded_2 : List UInt8 := [21, 4, 50, 180, 0, 169, 96, 62, 132, 4, 1, 167, 255, 203, 29, 172]
abbrev dktX3_flooded_2 : List UInt8 := dkwX3_flooded_2 ++ []
def dkwX3_flooded_1 : List UInt8 := [28, 160, 0, 30, 42, 180, 0, 19, 21, 4, 50, 180, 0, 168, 29, 163, 0, 16, 29, 42, 180, 0, 19]
abbrev dktX3_flooded_1 : List UInt8 := dkwX3_flooded_1 ++ dktX3_flooded_2
def dkwX3_flooded_0 : List UInt8 := [27, 62, 3, 54, 4, 21, 4, 42, 180, 0, 90, 162, 0, 50, 42, 180, 0, 19, 21, 4, 50, 180, 0, 167]
abbrev dktX3_flooded_0 : List UInt8 := dkwX3_flooded_0 ++ dktX3_flooded_1
theorem dksX3_flooded_0 : cX3_flooded.data.toList.drop 0 = dktX3_flooded_0 := by decide +kernel
theorem dksX3_flooded_1 : cX3_flooded.data.toList.drop 24 = dktX3_flooded_1 := dk_seg dksX3_flooded_0 24 rfl rfl
theorem dksX3_flooded_2 : cX3_flooded.data.toList.drop 47 = dktX3_flooded_2 := dk_seg dksX3_flooded_1 23 rfl rfl
theorem dX3_flooded_0 : decode cX3_flooded 0 = .ok (.iload_n 1, 1) := dk_27 (dk_at dksX3_flooded_0 0 rfl rfl)
theorem dX3_flooded_1 : decode cX3_flooded 1 = .ok (.istore_n 3, 1) := dk_62 (dk_at dksX3_flooded_0 1 rfl rfl)
theorem dX3_flooded_2 : decode cX3_flooded 2 = .ok (.iconst 0, 1) := dk_3 (dk_at dksX3_flooded_0 2 rfl rfl)
theorem dX3_flooded_3 : decode cX3_flooded 3 = .ok (.istore 4, 2) := dk_54 4 (dk_at dksX3_flooded_0 3 rfl rfl)
theorem dX3_flooded_5 : decode cX3_flooded 5 = .ok (.iload 4, 2) := dk_21 4 (dk_at dksX3_flooded_0 5 rfl rfl)
theorem dX3_flooded_7 : decode cX3_flooded 7 = .ok (.aload_n 0, 1) := dk_42 (dk_at dksX3_flooded_0 7 rfl rfl)
theorem dX3_flooded_8 : decode cX3_flooded 8 = .ok (.getfield 90, 3) := dk_180 0 90 (dk_at dksX3_flooded_0 8 rfl rfl)
theorem dX3_flooded_11 : decode cX3_flooded 11 = .ok (.if_icmp .ge 50, 3) := dk_162 0 50 (dk_at dksX3_flooded_0 11 rfl rfl)
theorem dX3_flooded_14 : decode cX3_flooded 14 = .ok (.aload_n 0, 1) := dk_42 (dk_at dksX3_flooded_0 14 rfl rfl)
theorem dX3_flooded_15 : decode cX3_flooded 15 = .ok (.getfield 19, 3) := dk_180 0 19 (dk_at dksX3_flooded_0 15 rfl rfl)
theorem dX3_flooded_18 : decode cX3_flooded 18 = .ok (.iload 4, 2) := dk_21 4 (dk_at dksX3_flooded_0 18 rfl rfl)
theorem dX3_flooded_20 : decode cX3_flooded 20 = .ok (.aaload, 1) := dk_50 (dk_at dksX3_flooded_0 20 rfl rfl)
theorem dX3_flooded_21 : decode cX3_flooded 21 = .ok (.getfield 167, 3) := dk_180 0 167 (dk_at dksX3_flooded_0 21 rfl rfl)
theorem dX3_flooded_24 : decode cX3_flooded 24 = .ok (.iload_n 2, 1) := dk_28 (dk_at dksX3_flooded_1 0 rfl rfl)
theorem dX3_flooded_25 : decode cX3_flooded 25 = .ok (.if_icmp .ne 30, 3) := dk_160 0 30 (dk_at dksX3_flooded_1 1 rfl rfl)
theorem dX3_flooded_28 : decode cX3_flooded 28 = .ok (.aload_n 0, 1) := dk_42 (dk_at dksX3_flooded_1 4 rfl rfl)
theorem dX3_flooded_29 : decode cX3_flooded 29 = .ok (.getfield 19, 3) := dk_180 0 19 (dk_at dksX3_flooded_1 5 rfl rfl)
theorem dX3_flooded_32 : decode cX3_flooded 32 = .ok (.iload 4, 2) := dk_21 4 (dk_at dksX3_flooded_1 8 rfl rfl)
theorem dX3_flooded_34 : decode cX3_flooded 34 = .ok (.aaload, 1) := dk_50 (dk_at dksX3_flooded_1 10 rfl rfl)
theorem dX3_flooded_35 : decode cX3_flooded 35 = .ok (.getfield 168, 3) := dk_180 0 168 (dk_at dksX3_flooded_1 11 rfl rfl)
theorem dX3_flooded_38 : decode cX3_flooded 38 = .ok (.iload_n 3, 1) := dk_29 (dk_at dksX3_flooded_1 14 rfl rfl)
theorem dX3_flooded_39 : decode cX3_flooded 39 = .ok (.if_icmp .gt 16, 3) := dk_163 0 16 (dk_at dksX3_flooded_1 15 rfl rfl)
theorem dX3_flooded_42 : decode cX3_flooded 42 = .ok (.iload_n 3, 1) := dk_29 (dk_at dksX3_flooded_1 18 rfl rfl)
theorem dX3_flooded_43 : decode cX3_flooded 43 = .ok (.aload_n 0, 1) := dk_42 (dk_at dksX3_flooded_1 19 rfl rfl)
theorem dX3_flooded_44 : decode cX3_flooded 44 = .ok (.getfield 19, 3) := dk_180 0 19 (dk_at dksX3_flooded_1 20 rfl rfl)
theorem dX3_flooded_47 : decode cX3_flooded 47 = .ok (.iload 4, 2) := dk_21 4 (dk_at dksX3_flooded_2 0 rfl rfl)
theorem dX3_flooded_49 : decode cX3_flooded 49 = .ok (.aaload, 1) := dk_50 (dk_at dksX3_flooded_2 2 rfl rfl)
theorem dX3_flooded_50 : decode cX3_flooded 50 = .ok (.getfield 169, 3) := dk_180 0 169 (dk_at dksX3_flooded_2 3 rfl rfl)
theorem dX3_flooded_53 : decode cX3_flooded 53 = .ok (.iadd, 1) := dk_96 (dk_at dksX3_flooded_2 6 rfl rfl)
theorem dX3_flooded_54 : decode cX3_flooded 54 = .ok (.istore_n 3, 1) := dk_62 (dk_at dksX3_flooded_2 7 rfl rfl)
theorem dX3_flooded_55 : decode cX3_flooded 55 = .ok (.iinc 4 1, 3) := dk_132 4 1 (dk_at dksX3_flooded_2 8 rfl rfl)
theorem dX3_flooded_58 : decode cX3_flooded 58 = .ok (.goto (-53), 3) := dk_167 255 203 (dk_at dksX3_flooded_2 11 rfl rfl)
theorem dX3_flooded_61 : decode cX3_flooded 61 = .ok (.iload_n 3, 1) := dk_29 (dk_at dksX3_flooded_2 14 rfl rfl)
theorem dX3_flooded_62 : decode cX3_flooded 62 = .ok (.ireturn, 1) := dk_172 (dk_at dksX3_flooded_2 15 rfl rfl)
abbrev cX3_sinks : ByteArray := prog_14_method_10_code
def yX3_sinks : MethodName := ⟨RX3, "sinks", "(III)I"⟩
def dkwX3_sinks_1 : List UInt8 := [42, 180, 0, 48, 29, 46, 100, 184, 0, 154, 172]
abbrev dktX3_sinks_1 : List UInt8 := dkwX3_sinks_1 ++ []
def dkwX3_sinks_0 : List UInt8 := [28, 42, 180, 0, 64, 162, 0, 17, 16, 99, 27, 42, 180, 0, 67, 96, 184, 0, 149, 167, 0, 15, 3, 27]
abbrev dktX3_sinks_0 : List UInt8 := dkwX3_sinks_0 ++ dktX3_sinks_1
theorem dksX3_sinks_0 : cX3_sinks.data.toList.drop 0 = dktX3_sinks_0 := by decide +kernel
theorem dksX3_sinks_1 : cX3_sinks.data.toList.drop 24 = dktX3_sinks_1 := dk_seg dksX3_sinks_0 24 rfl rfl
theorem dX3_sinks_0 : decode cX3_sinks 0 = .ok (.iload_n 2, 1) := dk_28 (dk_at dksX3_sinks_0 0 rfl rfl)
theorem dX3_sinks_1 : decode cX3_sinks 1 = .ok (.aload_n 0, 1) := dk_42 (dk_at dksX3_sinks_0 1 rfl rfl)
theorem dX3_sinks_2 : decode cX3_sinks 2 = .ok (.getfield 64, 3) := dk_180 0 64 (dk_at dksX3_sinks_0 2 rfl rfl)
theorem dX3_sinks_5 : decode cX3_sinks 5 = .ok (.if_icmp .ge 17, 3) := dk_162 0 17 (dk_at dksX3_sinks_0 5 rfl rfl)
theorem dX3_sinks_8 : decode cX3_sinks 8 = .ok (.bipush 99, 2) := dk_16 99 (dk_at dksX3_sinks_0 8 rfl rfl)
theorem dX3_sinks_10 : decode cX3_sinks 10 = .ok (.iload_n 1, 1) := dk_27 (dk_at dksX3_sinks_0 10 rfl rfl)
theorem dX3_sinks_11 : decode cX3_sinks 11 = .ok (.aload_n 0, 1) := dk_42 (dk_at dksX3_sinks_0 11 rfl rfl)
theorem dX3_sinks_12 : decode cX3_sinks 12 = .ok (.getfield 67, 3) := dk_180 0 67 (dk_at dksX3_sinks_0 12 rfl rfl)
theorem dX3_sinks_15 : decode cX3_sinks 15 = .ok (.iadd, 1) := dk_96 (dk_at dksX3_sinks_0 15 rfl rfl)
theorem dX3_sinks_16 : decode cX3_sinks 16 = .ok (.invokestatic 149, 3) := dk_184 0 149 (dk_at dksX3_sinks_0 16 rfl rfl)
theorem dX3_sinks_19 : decode cX3_sinks 19 = .ok (.goto 15, 3) := dk_167 0 15 (dk_at dksX3_sinks_0 19 rfl rfl)
theorem dX3_sinks_22 : decode cX3_sinks 22 = .ok (.iconst 0, 1) := dk_3 (dk_at dksX3_sinks_0 22 rfl rfl)
theorem dX3_sinks_23 : decode cX3_sinks 23 = .ok (.iload_n 1, 1) := dk_27 (dk_at dksX3_sinks_0 23 rfl rfl)
theorem dX3_sinks_24 : decode cX3_sinks 24 = .ok (.aload_n 0, 1) := dk_42 (dk_at dksX3_sinks_1 0 rfl rfl)
theorem dX3_sinks_25 : decode cX3_sinks 25 = .ok (.getfield 48, 3) := dk_180 0 48 (dk_at dksX3_sinks_1 1 rfl rfl)
theorem dX3_sinks_28 : decode cX3_sinks 28 = .ok (.iload_n 3, 1) := dk_29 (dk_at dksX3_sinks_1 4 rfl rfl)
theorem dX3_sinks_29 : decode cX3_sinks 29 = .ok (.iaload, 1) := dk_46 (dk_at dksX3_sinks_1 5 rfl rfl)
theorem dX3_sinks_30 : decode cX3_sinks 30 = .ok (.isub, 1) := dk_100 (dk_at dksX3_sinks_1 6 rfl rfl)
theorem dX3_sinks_31 : decode cX3_sinks 31 = .ok (.invokestatic 154, 3) := dk_184 0 154 (dk_at dksX3_sinks_1 7 rfl rfl)
theorem dX3_sinks_34 : decode cX3_sinks 34 = .ok (.ireturn, 1) := dk_172 (dk_at dksX3_sinks_1 10 rfl rfl)
abbrev cX3_be : ByteArray := prog_14_method_2_code
def yX3_be : MethodName := ⟨RX3, "be", "(LGlacierMail$State;)V"⟩
def dkwX3_be_13 : List UInt8 := [42, 43, 180, 0, 120, 181, 0, 120, 42, 43, 180, 0, 123, 181, 0, 123, 177]
abbrev dktX3_be_13 : List UInt8 := dkwX3_be_13 ++ []
def dkwX3_be_12 : List UInt8 := [42, 43, 180, 0, 67, 181, 0, 67, 42, 43, 180, 0, 70, 181, 0, 70, 42, 43, 180, 0, 73, 181, 0, 73]
abbrev dktX3_be_12 : List UInt8 := dkwX3_be_12 ++ dktX3_be_13
def dkwX3_be_11 : List UInt8 := [42, 43, 180, 0, 61, 181, 0, 61, 42, 43, 180, 0, 117, 181, 0, 117, 42, 43, 180, 0, 64, 181, 0, 64]
abbrev dktX3_be_11 : List UInt8 := dkwX3_be_11 ++ dktX3_be_12
def dkwX3_be_10 : List UInt8 := [42, 43, 180, 0, 96, 181, 0, 96, 42, 43, 180, 0, 102, 181, 0, 102, 42, 43, 180, 0, 108, 181, 0, 108]
abbrev dktX3_be_10 : List UInt8 := dkwX3_be_10 ++ dktX3_be_11
def dkwX3_be_9 : List UInt8 := [42, 43, 180, 0, 58, 181, 0, 58, 42, 43, 180, 0, 83, 181, 0, 83, 42, 43, 180, 0, 90, 181, 0, 90]
abbrev dktX3_be_9 : List UInt8 := dkwX3_be_9 ++ dktX3_be_10
def dkwX3_be_8 : List UInt8 := [43, 180, 0, 48, 3, 42, 180, 0, 48, 3, 17, 1, 44, 184, 0, 111, 42, 43, 180, 0, 54, 181, 0, 54]
abbrev dktX3_be_8 : List UInt8 := dkwX3_be_8 ++ dktX3_be_9
def dkwX3_be_7 : List UInt8 := [180, 0, 40, 3, 16, 12, 184, 0, 111, 43, 180, 0, 44, 3, 42, 180, 0, 44, 3, 16, 72, 184, 0, 111]
abbrev dktX3_be_7 : List UInt8 := dkwX3_be_7 ++ dktX3_be_8
def dkwX3_be_6 : List UInt8 := [50, 43, 180, 0, 35, 28, 50, 182, 0, 86, 132, 2, 1, 167, 255, 230, 43, 180, 0, 40, 3, 42]
abbrev dktX3_be_6 : List UInt8 := dkwX3_be_6 ++ dktX3_be_7
def dkwX3_be_5 : List UInt8 := [182, 0, 105, 132, 2, 1, 167, 255, 230, 3, 61, 28, 43, 180, 0, 108, 162, 0, 24, 42, 180, 0, 35, 28]
abbrev dktX3_be_5 : List UInt8 := dkwX3_be_5 ++ dktX3_be_6
def dkwX3_be_4 : List UInt8 := [3, 61, 28, 43, 180, 0, 102, 162, 0, 24, 42, 180, 0, 31, 28, 50, 43, 180, 0, 31, 28, 50]
abbrev dktX3_be_4 : List UInt8 := dkwX3_be_4 ++ dktX3_be_5
def dkwX3_be_3 : List UInt8 := [162, 0, 24, 42, 180, 0, 25, 28, 50, 43, 180, 0, 25, 28, 50, 182, 0, 99, 132, 2, 1, 167, 255, 230]
abbrev dktX3_be_3 : List UInt8 := dkwX3_be_3 ++ dktX3_be_4
def dkwX3_be_2 : List UInt8 := [50, 43, 180, 0, 19, 28, 50, 182, 0, 93, 132, 2, 1, 167, 255, 230, 3, 61, 28, 43, 180, 0, 96]
abbrev dktX3_be_2 : List UInt8 := dkwX3_be_2 ++ dktX3_be_3
def dkwX3_be_1 : List UInt8 := [182, 0, 86, 132, 2, 1, 167, 255, 230, 3, 61, 28, 43, 180, 0, 90, 162, 0, 24, 42, 180, 0, 19, 28]
abbrev dktX3_be_1 : List UInt8 := dkwX3_be_1 ++ dktX3_be_2
def dkwX3_be_0 : List UInt8 := [3, 61, 28, 43, 180, 0, 83, 162, 0, 24, 42, 180, 0, 11, 28, 50, 43, 180, 0, 11, 28, 50]
abbrev dktX3_be_0 : List UInt8 := dkwX3_be_0 ++ dktX3_be_1
theorem dksX3_be_0 : cX3_be.data.toList.drop 0 = dktX3_be_0 := by decide +kernel
theorem dksX3_be_1 : cX3_be.data.toList.drop 22 = dktX3_be_1 := dk_seg dksX3_be_0 22 rfl rfl
theorem dksX3_be_2 : cX3_be.data.toList.drop 46 = dktX3_be_2 := dk_seg dksX3_be_1 24 rfl rfl
theorem dksX3_be_3 : cX3_be.data.toList.drop 69 = dktX3_be_3 := dk_seg dksX3_be_2 23 rfl rfl
theorem dksX3_be_4 : cX3_be.data.toList.drop 93 = dktX3_be_4 := dk_seg dksX3_be_3 24 rfl rfl
theorem dksX3_be_5 : cX3_be.data.toList.drop 115 = dktX3_be_5 := dk_seg dksX3_be_4 22 rfl rfl
theorem dksX3_be_6 : cX3_be.data.toList.drop 139 = dktX3_be_6 := dk_seg dksX3_be_5 24 rfl rfl
theorem dksX3_be_7 : cX3_be.data.toList.drop 161 = dktX3_be_7 := dk_seg dksX3_be_6 22 rfl rfl
theorem dksX3_be_8 : cX3_be.data.toList.drop 185 = dktX3_be_8 := dk_seg dksX3_be_7 24 rfl rfl
theorem dksX3_be_9 : cX3_be.data.toList.drop 209 = dktX3_be_9 := dk_seg dksX3_be_8 24 rfl rfl
theorem dksX3_be_10 : cX3_be.data.toList.drop 233 = dktX3_be_10 := dk_seg dksX3_be_9 24 rfl rfl
theorem dksX3_be_11 : cX3_be.data.toList.drop 257 = dktX3_be_11 := dk_seg dksX3_be_10 24 rfl rfl
theorem dksX3_be_12 : cX3_be.data.toList.drop 281 = dktX3_be_12 := dk_seg dksX3_be_11 24 rfl rfl
theorem dksX3_be_13 : cX3_be.data.toList.drop 305 = dktX3_be_13 := dk_seg dksX3_be_12 24 rfl rfl
theorem dX3_be_0 : decode cX3_be 0 = .ok (.iconst 0, 1) := dk_3 (dk_at dksX3_be_0 0 rfl rfl)
theorem dX3_be_1 : decode cX3_be 1 = .ok (.istore_n 2, 1) := dk_61 (dk_at dksX3_be_0 1 rfl rfl)
theorem dX3_be_2 : decode cX3_be 2 = .ok (.iload_n 2, 1) := dk_28 (dk_at dksX3_be_0 2 rfl rfl)
theorem dX3_be_3 : decode cX3_be 3 = .ok (.aload_n 1, 1) := dk_43 (dk_at dksX3_be_0 3 rfl rfl)
theorem dX3_be_4 : decode cX3_be 4 = .ok (.getfield 83, 3) := dk_180 0 83 (dk_at dksX3_be_0 4 rfl rfl)
theorem dX3_be_7 : decode cX3_be 7 = .ok (.if_icmp .ge 24, 3) := dk_162 0 24 (dk_at dksX3_be_0 7 rfl rfl)
theorem dX3_be_10 : decode cX3_be 10 = .ok (.aload_n 0, 1) := dk_42 (dk_at dksX3_be_0 10 rfl rfl)
theorem dX3_be_11 : decode cX3_be 11 = .ok (.getfield 11, 3) := dk_180 0 11 (dk_at dksX3_be_0 11 rfl rfl)
theorem dX3_be_14 : decode cX3_be 14 = .ok (.iload_n 2, 1) := dk_28 (dk_at dksX3_be_0 14 rfl rfl)
theorem dX3_be_15 : decode cX3_be 15 = .ok (.aaload, 1) := dk_50 (dk_at dksX3_be_0 15 rfl rfl)
theorem dX3_be_16 : decode cX3_be 16 = .ok (.aload_n 1, 1) := dk_43 (dk_at dksX3_be_0 16 rfl rfl)
theorem dX3_be_17 : decode cX3_be 17 = .ok (.getfield 11, 3) := dk_180 0 11 (dk_at dksX3_be_0 17 rfl rfl)
theorem dX3_be_20 : decode cX3_be 20 = .ok (.iload_n 2, 1) := dk_28 (dk_at dksX3_be_0 20 rfl rfl)
theorem dX3_be_21 : decode cX3_be 21 = .ok (.aaload, 1) := dk_50 (dk_at dksX3_be_0 21 rfl rfl)
theorem dX3_be_22 : decode cX3_be 22 = .ok (.invokevirtual 86, 3) := dk_182 0 86 (dk_at dksX3_be_1 0 rfl rfl)
theorem dX3_be_25 : decode cX3_be 25 = .ok (.iinc 2 1, 3) := dk_132 2 1 (dk_at dksX3_be_1 3 rfl rfl)
theorem dX3_be_28 : decode cX3_be 28 = .ok (.goto (-26), 3) := dk_167 255 230 (dk_at dksX3_be_1 6 rfl rfl)
theorem dX3_be_31 : decode cX3_be 31 = .ok (.iconst 0, 1) := dk_3 (dk_at dksX3_be_1 9 rfl rfl)
theorem dX3_be_32 : decode cX3_be 32 = .ok (.istore_n 2, 1) := dk_61 (dk_at dksX3_be_1 10 rfl rfl)
theorem dX3_be_33 : decode cX3_be 33 = .ok (.iload_n 2, 1) := dk_28 (dk_at dksX3_be_1 11 rfl rfl)
theorem dX3_be_34 : decode cX3_be 34 = .ok (.aload_n 1, 1) := dk_43 (dk_at dksX3_be_1 12 rfl rfl)
theorem dX3_be_35 : decode cX3_be 35 = .ok (.getfield 90, 3) := dk_180 0 90 (dk_at dksX3_be_1 13 rfl rfl)
theorem dX3_be_38 : decode cX3_be 38 = .ok (.if_icmp .ge 24, 3) := dk_162 0 24 (dk_at dksX3_be_1 16 rfl rfl)
theorem dX3_be_41 : decode cX3_be 41 = .ok (.aload_n 0, 1) := dk_42 (dk_at dksX3_be_1 19 rfl rfl)
theorem dX3_be_42 : decode cX3_be 42 = .ok (.getfield 19, 3) := dk_180 0 19 (dk_at dksX3_be_1 20 rfl rfl)
theorem dX3_be_45 : decode cX3_be 45 = .ok (.iload_n 2, 1) := dk_28 (dk_at dksX3_be_1 23 rfl rfl)
theorem dX3_be_46 : decode cX3_be 46 = .ok (.aaload, 1) := dk_50 (dk_at dksX3_be_2 0 rfl rfl)
theorem dX3_be_47 : decode cX3_be 47 = .ok (.aload_n 1, 1) := dk_43 (dk_at dksX3_be_2 1 rfl rfl)
theorem dX3_be_48 : decode cX3_be 48 = .ok (.getfield 19, 3) := dk_180 0 19 (dk_at dksX3_be_2 2 rfl rfl)
theorem dX3_be_51 : decode cX3_be 51 = .ok (.iload_n 2, 1) := dk_28 (dk_at dksX3_be_2 5 rfl rfl)
theorem dX3_be_52 : decode cX3_be 52 = .ok (.aaload, 1) := dk_50 (dk_at dksX3_be_2 6 rfl rfl)
theorem dX3_be_53 : decode cX3_be 53 = .ok (.invokevirtual 93, 3) := dk_182 0 93 (dk_at dksX3_be_2 7 rfl rfl)
theorem dX3_be_56 : decode cX3_be 56 = .ok (.iinc 2 1, 3) := dk_132 2 1 (dk_at dksX3_be_2 10 rfl rfl)
theorem dX3_be_59 : decode cX3_be 59 = .ok (.goto (-26), 3) := dk_167 255 230 (dk_at dksX3_be_2 13 rfl rfl)
theorem dX3_be_62 : decode cX3_be 62 = .ok (.iconst 0, 1) := dk_3 (dk_at dksX3_be_2 16 rfl rfl)
theorem dX3_be_63 : decode cX3_be 63 = .ok (.istore_n 2, 1) := dk_61 (dk_at dksX3_be_2 17 rfl rfl)
theorem dX3_be_64 : decode cX3_be 64 = .ok (.iload_n 2, 1) := dk_28 (dk_at dksX3_be_2 18 rfl rfl)
theorem dX3_be_65 : decode cX3_be 65 = .ok (.aload_n 1, 1) := dk_43 (dk_at dksX3_be_2 19 rfl rfl)
theorem dX3_be_66 : decode cX3_be 66 = .ok (.getfield 96, 3) := dk_180 0 96 (dk_at dksX3_be_2 20 rfl rfl)
theorem dX3_be_69 : decode cX3_be 69 = .ok (.if_icmp .ge 24, 3) := dk_162 0 24 (dk_at dksX3_be_3 0 rfl rfl)
theorem dX3_be_72 : decode cX3_be 72 = .ok (.aload_n 0, 1) := dk_42 (dk_at dksX3_be_3 3 rfl rfl)
theorem dX3_be_73 : decode cX3_be 73 = .ok (.getfield 25, 3) := dk_180 0 25 (dk_at dksX3_be_3 4 rfl rfl)
theorem dX3_be_76 : decode cX3_be 76 = .ok (.iload_n 2, 1) := dk_28 (dk_at dksX3_be_3 7 rfl rfl)
theorem dX3_be_77 : decode cX3_be 77 = .ok (.aaload, 1) := dk_50 (dk_at dksX3_be_3 8 rfl rfl)
theorem dX3_be_78 : decode cX3_be 78 = .ok (.aload_n 1, 1) := dk_43 (dk_at dksX3_be_3 9 rfl rfl)
theorem dX3_be_79 : decode cX3_be 79 = .ok (.getfield 25, 3) := dk_180 0 25 (dk_at dksX3_be_3 10 rfl rfl)
theorem dX3_be_82 : decode cX3_be 82 = .ok (.iload_n 2, 1) := dk_28 (dk_at dksX3_be_3 13 rfl rfl)
theorem dX3_be_83 : decode cX3_be 83 = .ok (.aaload, 1) := dk_50 (dk_at dksX3_be_3 14 rfl rfl)
theorem dX3_be_84 : decode cX3_be 84 = .ok (.invokevirtual 99, 3) := dk_182 0 99 (dk_at dksX3_be_3 15 rfl rfl)
theorem dX3_be_87 : decode cX3_be 87 = .ok (.iinc 2 1, 3) := dk_132 2 1 (dk_at dksX3_be_3 18 rfl rfl)
theorem dX3_be_90 : decode cX3_be 90 = .ok (.goto (-26), 3) := dk_167 255 230 (dk_at dksX3_be_3 21 rfl rfl)
theorem dX3_be_93 : decode cX3_be 93 = .ok (.iconst 0, 1) := dk_3 (dk_at dksX3_be_4 0 rfl rfl)
theorem dX3_be_94 : decode cX3_be 94 = .ok (.istore_n 2, 1) := dk_61 (dk_at dksX3_be_4 1 rfl rfl)
theorem dX3_be_95 : decode cX3_be 95 = .ok (.iload_n 2, 1) := dk_28 (dk_at dksX3_be_4 2 rfl rfl)
theorem dX3_be_96 : decode cX3_be 96 = .ok (.aload_n 1, 1) := dk_43 (dk_at dksX3_be_4 3 rfl rfl)
theorem dX3_be_97 : decode cX3_be 97 = .ok (.getfield 102, 3) := dk_180 0 102 (dk_at dksX3_be_4 4 rfl rfl)
theorem dX3_be_100 : decode cX3_be 100 = .ok (.if_icmp .ge 24, 3) := dk_162 0 24 (dk_at dksX3_be_4 7 rfl rfl)
theorem dX3_be_103 : decode cX3_be 103 = .ok (.aload_n 0, 1) := dk_42 (dk_at dksX3_be_4 10 rfl rfl)
theorem dX3_be_104 : decode cX3_be 104 = .ok (.getfield 31, 3) := dk_180 0 31 (dk_at dksX3_be_4 11 rfl rfl)
theorem dX3_be_107 : decode cX3_be 107 = .ok (.iload_n 2, 1) := dk_28 (dk_at dksX3_be_4 14 rfl rfl)
theorem dX3_be_108 : decode cX3_be 108 = .ok (.aaload, 1) := dk_50 (dk_at dksX3_be_4 15 rfl rfl)
theorem dX3_be_109 : decode cX3_be 109 = .ok (.aload_n 1, 1) := dk_43 (dk_at dksX3_be_4 16 rfl rfl)
theorem dX3_be_110 : decode cX3_be 110 = .ok (.getfield 31, 3) := dk_180 0 31 (dk_at dksX3_be_4 17 rfl rfl)
theorem dX3_be_113 : decode cX3_be 113 = .ok (.iload_n 2, 1) := dk_28 (dk_at dksX3_be_4 20 rfl rfl)
theorem dX3_be_114 : decode cX3_be 114 = .ok (.aaload, 1) := dk_50 (dk_at dksX3_be_4 21 rfl rfl)
theorem dX3_be_115 : decode cX3_be 115 = .ok (.invokevirtual 105, 3) := dk_182 0 105 (dk_at dksX3_be_5 0 rfl rfl)
theorem dX3_be_118 : decode cX3_be 118 = .ok (.iinc 2 1, 3) := dk_132 2 1 (dk_at dksX3_be_5 3 rfl rfl)
theorem dX3_be_121 : decode cX3_be 121 = .ok (.goto (-26), 3) := dk_167 255 230 (dk_at dksX3_be_5 6 rfl rfl)
theorem dX3_be_124 : decode cX3_be 124 = .ok (.iconst 0, 1) := dk_3 (dk_at dksX3_be_5 9 rfl rfl)
theorem dX3_be_125 : decode cX3_be 125 = .ok (.istore_n 2, 1) := dk_61 (dk_at dksX3_be_5 10 rfl rfl)
theorem dX3_be_126 : decode cX3_be 126 = .ok (.iload_n 2, 1) := dk_28 (dk_at dksX3_be_5 11 rfl rfl)
theorem dX3_be_127 : decode cX3_be 127 = .ok (.aload_n 1, 1) := dk_43 (dk_at dksX3_be_5 12 rfl rfl)
theorem dX3_be_128 : decode cX3_be 128 = .ok (.getfield 108, 3) := dk_180 0 108 (dk_at dksX3_be_5 13 rfl rfl)
theorem dX3_be_131 : decode cX3_be 131 = .ok (.if_icmp .ge 24, 3) := dk_162 0 24 (dk_at dksX3_be_5 16 rfl rfl)
theorem dX3_be_134 : decode cX3_be 134 = .ok (.aload_n 0, 1) := dk_42 (dk_at dksX3_be_5 19 rfl rfl)
theorem dX3_be_135 : decode cX3_be 135 = .ok (.getfield 35, 3) := dk_180 0 35 (dk_at dksX3_be_5 20 rfl rfl)
theorem dX3_be_138 : decode cX3_be 138 = .ok (.iload_n 2, 1) := dk_28 (dk_at dksX3_be_5 23 rfl rfl)
theorem dX3_be_139 : decode cX3_be 139 = .ok (.aaload, 1) := dk_50 (dk_at dksX3_be_6 0 rfl rfl)
theorem dX3_be_140 : decode cX3_be 140 = .ok (.aload_n 1, 1) := dk_43 (dk_at dksX3_be_6 1 rfl rfl)
theorem dX3_be_141 : decode cX3_be 141 = .ok (.getfield 35, 3) := dk_180 0 35 (dk_at dksX3_be_6 2 rfl rfl)
theorem dX3_be_144 : decode cX3_be 144 = .ok (.iload_n 2, 1) := dk_28 (dk_at dksX3_be_6 5 rfl rfl)
theorem dX3_be_145 : decode cX3_be 145 = .ok (.aaload, 1) := dk_50 (dk_at dksX3_be_6 6 rfl rfl)
theorem dX3_be_146 : decode cX3_be 146 = .ok (.invokevirtual 86, 3) := dk_182 0 86 (dk_at dksX3_be_6 7 rfl rfl)
theorem dX3_be_149 : decode cX3_be 149 = .ok (.iinc 2 1, 3) := dk_132 2 1 (dk_at dksX3_be_6 10 rfl rfl)
theorem dX3_be_152 : decode cX3_be 152 = .ok (.goto (-26), 3) := dk_167 255 230 (dk_at dksX3_be_6 13 rfl rfl)
theorem dX3_be_155 : decode cX3_be 155 = .ok (.aload_n 1, 1) := dk_43 (dk_at dksX3_be_6 16 rfl rfl)
theorem dX3_be_156 : decode cX3_be 156 = .ok (.getfield 40, 3) := dk_180 0 40 (dk_at dksX3_be_6 17 rfl rfl)
theorem dX3_be_159 : decode cX3_be 159 = .ok (.iconst 0, 1) := dk_3 (dk_at dksX3_be_6 20 rfl rfl)
theorem dX3_be_160 : decode cX3_be 160 = .ok (.aload_n 0, 1) := dk_42 (dk_at dksX3_be_6 21 rfl rfl)
theorem dX3_be_161 : decode cX3_be 161 = .ok (.getfield 40, 3) := dk_180 0 40 (dk_at dksX3_be_7 0 rfl rfl)
theorem dX3_be_164 : decode cX3_be 164 = .ok (.iconst 0, 1) := dk_3 (dk_at dksX3_be_7 3 rfl rfl)
theorem dX3_be_165 : decode cX3_be 165 = .ok (.bipush 12, 2) := dk_16 12 (dk_at dksX3_be_7 4 rfl rfl)
theorem dX3_be_167 : decode cX3_be 167 = .ok (.invokestatic 111, 3) := dk_184 0 111 (dk_at dksX3_be_7 6 rfl rfl)
theorem dX3_be_170 : decode cX3_be 170 = .ok (.aload_n 1, 1) := dk_43 (dk_at dksX3_be_7 9 rfl rfl)
theorem dX3_be_171 : decode cX3_be 171 = .ok (.getfield 44, 3) := dk_180 0 44 (dk_at dksX3_be_7 10 rfl rfl)
theorem dX3_be_174 : decode cX3_be 174 = .ok (.iconst 0, 1) := dk_3 (dk_at dksX3_be_7 13 rfl rfl)
theorem dX3_be_175 : decode cX3_be 175 = .ok (.aload_n 0, 1) := dk_42 (dk_at dksX3_be_7 14 rfl rfl)
theorem dX3_be_176 : decode cX3_be 176 = .ok (.getfield 44, 3) := dk_180 0 44 (dk_at dksX3_be_7 15 rfl rfl)
theorem dX3_be_179 : decode cX3_be 179 = .ok (.iconst 0, 1) := dk_3 (dk_at dksX3_be_7 18 rfl rfl)
theorem dX3_be_180 : decode cX3_be 180 = .ok (.bipush 72, 2) := dk_16 72 (dk_at dksX3_be_7 19 rfl rfl)
theorem dX3_be_182 : decode cX3_be 182 = .ok (.invokestatic 111, 3) := dk_184 0 111 (dk_at dksX3_be_7 21 rfl rfl)
theorem dX3_be_185 : decode cX3_be 185 = .ok (.aload_n 1, 1) := dk_43 (dk_at dksX3_be_8 0 rfl rfl)
theorem dX3_be_186 : decode cX3_be 186 = .ok (.getfield 48, 3) := dk_180 0 48 (dk_at dksX3_be_8 1 rfl rfl)
theorem dX3_be_189 : decode cX3_be 189 = .ok (.iconst 0, 1) := dk_3 (dk_at dksX3_be_8 4 rfl rfl)
theorem dX3_be_190 : decode cX3_be 190 = .ok (.aload_n 0, 1) := dk_42 (dk_at dksX3_be_8 5 rfl rfl)
theorem dX3_be_191 : decode cX3_be 191 = .ok (.getfield 48, 3) := dk_180 0 48 (dk_at dksX3_be_8 6 rfl rfl)
theorem dX3_be_194 : decode cX3_be 194 = .ok (.iconst 0, 1) := dk_3 (dk_at dksX3_be_8 9 rfl rfl)
theorem dX3_be_195 : decode cX3_be 195 = .ok (.sipush 300, 3) := dk_17 1 44 (dk_at dksX3_be_8 10 rfl rfl)
theorem dX3_be_198 : decode cX3_be 198 = .ok (.invokestatic 111, 3) := dk_184 0 111 (dk_at dksX3_be_8 13 rfl rfl)
theorem dX3_be_201 : decode cX3_be 201 = .ok (.aload_n 0, 1) := dk_42 (dk_at dksX3_be_8 16 rfl rfl)
theorem dX3_be_202 : decode cX3_be 202 = .ok (.aload_n 1, 1) := dk_43 (dk_at dksX3_be_8 17 rfl rfl)
theorem dX3_be_203 : decode cX3_be 203 = .ok (.getfield 54, 3) := dk_180 0 54 (dk_at dksX3_be_8 18 rfl rfl)
theorem dX3_be_206 : decode cX3_be 206 = .ok (.putfield 54, 3) := dk_181 0 54 (dk_at dksX3_be_8 21 rfl rfl)
theorem dX3_be_209 : decode cX3_be 209 = .ok (.aload_n 0, 1) := dk_42 (dk_at dksX3_be_9 0 rfl rfl)
theorem dX3_be_210 : decode cX3_be 210 = .ok (.aload_n 1, 1) := dk_43 (dk_at dksX3_be_9 1 rfl rfl)
theorem dX3_be_211 : decode cX3_be 211 = .ok (.getfield 58, 3) := dk_180 0 58 (dk_at dksX3_be_9 2 rfl rfl)
theorem dX3_be_214 : decode cX3_be 214 = .ok (.putfield 58, 3) := dk_181 0 58 (dk_at dksX3_be_9 5 rfl rfl)
theorem dX3_be_217 : decode cX3_be 217 = .ok (.aload_n 0, 1) := dk_42 (dk_at dksX3_be_9 8 rfl rfl)
theorem dX3_be_218 : decode cX3_be 218 = .ok (.aload_n 1, 1) := dk_43 (dk_at dksX3_be_9 9 rfl rfl)
theorem dX3_be_219 : decode cX3_be 219 = .ok (.getfield 83, 3) := dk_180 0 83 (dk_at dksX3_be_9 10 rfl rfl)
theorem dX3_be_222 : decode cX3_be 222 = .ok (.putfield 83, 3) := dk_181 0 83 (dk_at dksX3_be_9 13 rfl rfl)
theorem dX3_be_225 : decode cX3_be 225 = .ok (.aload_n 0, 1) := dk_42 (dk_at dksX3_be_9 16 rfl rfl)
theorem dX3_be_226 : decode cX3_be 226 = .ok (.aload_n 1, 1) := dk_43 (dk_at dksX3_be_9 17 rfl rfl)
theorem dX3_be_227 : decode cX3_be 227 = .ok (.getfield 90, 3) := dk_180 0 90 (dk_at dksX3_be_9 18 rfl rfl)
theorem dX3_be_230 : decode cX3_be 230 = .ok (.putfield 90, 3) := dk_181 0 90 (dk_at dksX3_be_9 21 rfl rfl)
theorem dX3_be_233 : decode cX3_be 233 = .ok (.aload_n 0, 1) := dk_42 (dk_at dksX3_be_10 0 rfl rfl)
theorem dX3_be_234 : decode cX3_be 234 = .ok (.aload_n 1, 1) := dk_43 (dk_at dksX3_be_10 1 rfl rfl)
theorem dX3_be_235 : decode cX3_be 235 = .ok (.getfield 96, 3) := dk_180 0 96 (dk_at dksX3_be_10 2 rfl rfl)
theorem dX3_be_238 : decode cX3_be 238 = .ok (.putfield 96, 3) := dk_181 0 96 (dk_at dksX3_be_10 5 rfl rfl)
theorem dX3_be_241 : decode cX3_be 241 = .ok (.aload_n 0, 1) := dk_42 (dk_at dksX3_be_10 8 rfl rfl)
theorem dX3_be_242 : decode cX3_be 242 = .ok (.aload_n 1, 1) := dk_43 (dk_at dksX3_be_10 9 rfl rfl)
theorem dX3_be_243 : decode cX3_be 243 = .ok (.getfield 102, 3) := dk_180 0 102 (dk_at dksX3_be_10 10 rfl rfl)
theorem dX3_be_246 : decode cX3_be 246 = .ok (.putfield 102, 3) := dk_181 0 102 (dk_at dksX3_be_10 13 rfl rfl)
theorem dX3_be_249 : decode cX3_be 249 = .ok (.aload_n 0, 1) := dk_42 (dk_at dksX3_be_10 16 rfl rfl)
theorem dX3_be_250 : decode cX3_be 250 = .ok (.aload_n 1, 1) := dk_43 (dk_at dksX3_be_10 17 rfl rfl)
theorem dX3_be_251 : decode cX3_be 251 = .ok (.getfield 108, 3) := dk_180 0 108 (dk_at dksX3_be_10 18 rfl rfl)
theorem dX3_be_254 : decode cX3_be 254 = .ok (.putfield 108, 3) := dk_181 0 108 (dk_at dksX3_be_10 21 rfl rfl)
theorem dX3_be_257 : decode cX3_be 257 = .ok (.aload_n 0, 1) := dk_42 (dk_at dksX3_be_11 0 rfl rfl)
theorem dX3_be_258 : decode cX3_be 258 = .ok (.aload_n 1, 1) := dk_43 (dk_at dksX3_be_11 1 rfl rfl)
theorem dX3_be_259 : decode cX3_be 259 = .ok (.getfield 61, 3) := dk_180 0 61 (dk_at dksX3_be_11 2 rfl rfl)
theorem dX3_be_262 : decode cX3_be 262 = .ok (.putfield 61, 3) := dk_181 0 61 (dk_at dksX3_be_11 5 rfl rfl)
theorem dX3_be_265 : decode cX3_be 265 = .ok (.aload_n 0, 1) := dk_42 (dk_at dksX3_be_11 8 rfl rfl)
theorem dX3_be_266 : decode cX3_be 266 = .ok (.aload_n 1, 1) := dk_43 (dk_at dksX3_be_11 9 rfl rfl)
theorem dX3_be_267 : decode cX3_be 267 = .ok (.getfield 117, 3) := dk_180 0 117 (dk_at dksX3_be_11 10 rfl rfl)
theorem dX3_be_270 : decode cX3_be 270 = .ok (.putfield 117, 3) := dk_181 0 117 (dk_at dksX3_be_11 13 rfl rfl)
theorem dX3_be_273 : decode cX3_be 273 = .ok (.aload_n 0, 1) := dk_42 (dk_at dksX3_be_11 16 rfl rfl)
theorem dX3_be_274 : decode cX3_be 274 = .ok (.aload_n 1, 1) := dk_43 (dk_at dksX3_be_11 17 rfl rfl)
theorem dX3_be_275 : decode cX3_be 275 = .ok (.getfield 64, 3) := dk_180 0 64 (dk_at dksX3_be_11 18 rfl rfl)
theorem dX3_be_278 : decode cX3_be 278 = .ok (.putfield 64, 3) := dk_181 0 64 (dk_at dksX3_be_11 21 rfl rfl)
theorem dX3_be_281 : decode cX3_be 281 = .ok (.aload_n 0, 1) := dk_42 (dk_at dksX3_be_12 0 rfl rfl)
theorem dX3_be_282 : decode cX3_be 282 = .ok (.aload_n 1, 1) := dk_43 (dk_at dksX3_be_12 1 rfl rfl)
theorem dX3_be_283 : decode cX3_be 283 = .ok (.getfield 67, 3) := dk_180 0 67 (dk_at dksX3_be_12 2 rfl rfl)
theorem dX3_be_286 : decode cX3_be 286 = .ok (.putfield 67, 3) := dk_181 0 67 (dk_at dksX3_be_12 5 rfl rfl)
theorem dX3_be_289 : decode cX3_be 289 = .ok (.aload_n 0, 1) := dk_42 (dk_at dksX3_be_12 8 rfl rfl)
theorem dX3_be_290 : decode cX3_be 290 = .ok (.aload_n 1, 1) := dk_43 (dk_at dksX3_be_12 9 rfl rfl)
theorem dX3_be_291 : decode cX3_be 291 = .ok (.getfield 70, 3) := dk_180 0 70 (dk_at dksX3_be_12 10 rfl rfl)
theorem dX3_be_294 : decode cX3_be 294 = .ok (.putfield 70, 3) := dk_181 0 70 (dk_at dksX3_be_12 13 rfl rfl)
theorem dX3_be_297 : decode cX3_be 297 = .ok (.aload_n 0, 1) := dk_42 (dk_at dksX3_be_12 16 rfl rfl)
theorem dX3_be_298 : decode cX3_be 298 = .ok (.aload_n 1, 1) := dk_43 (dk_at dksX3_be_12 17 rfl rfl)
theorem dX3_be_299 : decode cX3_be 299 = .ok (.getfield 73, 3) := dk_180 0 73 (dk_at dksX3_be_12 18 rfl rfl)
theorem dX3_be_302 : decode cX3_be 302 = .ok (.putfield 73, 3) := dk_181 0 73 (dk_at dksX3_be_12 21 rfl rfl)
theorem dX3_be_305 : decode cX3_be 305 = .ok (.aload_n 0, 1) := dk_42 (dk_at dksX3_be_13 0 rfl rfl)
theorem dX3_be_306 : decode cX3_be 306 = .ok (.aload_n 1, 1) := dk_43 (dk_at dksX3_be_13 1 rfl rfl)
theorem dX3_be_307 : decode cX3_be 307 = .ok (.getfield 120, 3) := dk_180 0 120 (dk_at dksX3_be_13 2 rfl rfl)
theorem dX3_be_310 : decode cX3_be 310 = .ok (.putfield 120, 3) := dk_181 0 120 (dk_at dksX3_be_13 5 rfl rfl)
theorem dX3_be_313 : decode cX3_be 313 = .ok (.aload_n 0, 1) := dk_42 (dk_at dksX3_be_13 8 rfl rfl)
theorem dX3_be_314 : decode cX3_be 314 = .ok (.aload_n 1, 1) := dk_43 (dk_at dksX3_be_13 9 rfl rfl)
theorem dX3_be_315 : decode cX3_be 315 = .ok (.getfield 123, 3) := dk_180 0 123 (dk_at dksX3_be_13 10 rfl rfl)
theorem dX3_be_318 : decode cX3_be 318 = .ok (.putfield 123, 3) := dk_181 0 123 (dk_at dksX3_be_13 13 rfl rfl)
theorem dX3_be_321 : decode cX3_be 321 = .ok (.return_, 1) := dk_177 (dk_at dksX3_be_13 16 rfl rfl)
abbrev cX3_isBegun : ByteArray := prog_14_method_4_code
def yX3_isBegun : MethodName := ⟨RX3, "isBegun", "()Z"⟩
def dkwX3_isBegun_1 : List UInt8 := [158, 0, 7, 4, 167, 0, 4, 3, 172]
abbrev dktX3_isBegun_1 : List UInt8 := dkwX3_isBegun_1 ++ []
def dkwX3_isBegun_0 : List UInt8 := [42, 180, 0, 83, 42, 180, 0, 90, 96, 42, 180, 0, 96, 96, 42, 180, 0, 102, 96, 42, 180, 0, 108, 96]
abbrev dktX3_isBegun_0 : List UInt8 := dkwX3_isBegun_0 ++ dktX3_isBegun_1
theorem dksX3_isBegun_0 : cX3_isBegun.data.toList.drop 0 = dktX3_isBegun_0 := by decide +kernel
theorem dksX3_isBegun_1 : cX3_isBegun.data.toList.drop 24 = dktX3_isBegun_1 := dk_seg dksX3_isBegun_0 24 rfl rfl
theorem dX3_isBegun_0 : decode cX3_isBegun 0 = .ok (.aload_n 0, 1) := dk_42 (dk_at dksX3_isBegun_0 0 rfl rfl)
theorem dX3_isBegun_1 : decode cX3_isBegun 1 = .ok (.getfield 83, 3) := dk_180 0 83 (dk_at dksX3_isBegun_0 1 rfl rfl)
theorem dX3_isBegun_4 : decode cX3_isBegun 4 = .ok (.aload_n 0, 1) := dk_42 (dk_at dksX3_isBegun_0 4 rfl rfl)
theorem dX3_isBegun_5 : decode cX3_isBegun 5 = .ok (.getfield 90, 3) := dk_180 0 90 (dk_at dksX3_isBegun_0 5 rfl rfl)
theorem dX3_isBegun_8 : decode cX3_isBegun 8 = .ok (.iadd, 1) := dk_96 (dk_at dksX3_isBegun_0 8 rfl rfl)
theorem dX3_isBegun_9 : decode cX3_isBegun 9 = .ok (.aload_n 0, 1) := dk_42 (dk_at dksX3_isBegun_0 9 rfl rfl)
theorem dX3_isBegun_10 : decode cX3_isBegun 10 = .ok (.getfield 96, 3) := dk_180 0 96 (dk_at dksX3_isBegun_0 10 rfl rfl)
theorem dX3_isBegun_13 : decode cX3_isBegun 13 = .ok (.iadd, 1) := dk_96 (dk_at dksX3_isBegun_0 13 rfl rfl)
theorem dX3_isBegun_14 : decode cX3_isBegun 14 = .ok (.aload_n 0, 1) := dk_42 (dk_at dksX3_isBegun_0 14 rfl rfl)
theorem dX3_isBegun_15 : decode cX3_isBegun 15 = .ok (.getfield 102, 3) := dk_180 0 102 (dk_at dksX3_isBegun_0 15 rfl rfl)
theorem dX3_isBegun_18 : decode cX3_isBegun 18 = .ok (.iadd, 1) := dk_96 (dk_at dksX3_isBegun_0 18 rfl rfl)
theorem dX3_isBegun_19 : decode cX3_isBegun 19 = .ok (.aload_n 0, 1) := dk_42 (dk_at dksX3_isBegun_0 19 rfl rfl)
theorem dX3_isBegun_20 : decode cX3_isBegun 20 = .ok (.getfield 108, 3) := dk_180 0 108 (dk_at dksX3_isBegun_0 20 rfl rfl)
theorem dX3_isBegun_23 : decode cX3_isBegun 23 = .ok (.iadd, 1) := dk_96 (dk_at dksX3_isBegun_0 23 rfl rfl)
theorem dX3_isBegun_24 : decode cX3_isBegun 24 = .ok (.ifCond .le 7, 3) := dk_158 0 7 (dk_at dksX3_isBegun_1 0 rfl rfl)
theorem dX3_isBegun_27 : decode cX3_isBegun 27 = .ok (.iconst 1, 1) := dk_4 (dk_at dksX3_isBegun_1 3 rfl rfl)
theorem dX3_isBegun_28 : decode cX3_isBegun 28 = .ok (.goto 4, 3) := dk_167 0 4 (dk_at dksX3_isBegun_1 4 rfl rfl)
theorem dX3_isBegun_31 : decode cX3_isBegun 31 = .ok (.iconst 0, 1) := dk_3 (dk_at dksX3_isBegun_1 7 rfl rfl)
theorem dX3_isBegun_32 : decode cX3_isBegun 32 = .ok (.ireturn, 1) := dk_172 (dk_at dksX3_isBegun_1 8 rfl rfl)
abbrev cX3_opens : ByteArray := prog_14_method_11_code
def yX3_opens : MethodName := ⟨RX3, "opens", "(II)V"⟩
def dkwX3_opens_3 : List UInt8 := [96, 181, 0, 123, 177]
abbrev dktX3_opens_3 : List UInt8 := dkwX3_opens_3 ++ []
def dkwX3_opens_2 : List UInt8 := [4, 96, 27, 79, 42, 180, 0, 44, 6, 42, 180, 0, 123, 104, 5, 96, 28, 79, 42, 89, 180, 0, 123, 4]
abbrev dktX3_opens_2 : List UInt8 := dkwX3_opens_2 ++ dktX3_opens_3
def dkwX3_opens_1 : List UInt8 := [180, 0, 44, 6, 42, 180, 0, 123, 104, 42, 180, 0, 120, 79, 42, 180, 0, 44, 6, 42, 180, 0, 123, 104]
abbrev dktX3_opens_1 : List UInt8 := dkwX3_opens_1 ++ dktX3_opens_2
def dkwX3_opens_0 : List UInt8 := [42, 180, 0, 31, 27, 50, 28, 181, 0, 172, 42, 180, 0, 31, 27, 50, 42, 180, 0, 120, 181, 0, 175, 42]
abbrev dktX3_opens_0 : List UInt8 := dkwX3_opens_0 ++ dktX3_opens_1
theorem dksX3_opens_0 : cX3_opens.data.toList.drop 0 = dktX3_opens_0 := by decide +kernel
theorem dksX3_opens_1 : cX3_opens.data.toList.drop 24 = dktX3_opens_1 := dk_seg dksX3_opens_0 24 rfl rfl
theorem dksX3_opens_2 : cX3_opens.data.toList.drop 48 = dktX3_opens_2 := dk_seg dksX3_opens_1 24 rfl rfl
theorem dksX3_opens_3 : cX3_opens.data.toList.drop 72 = dktX3_opens_3 := dk_seg dksX3_opens_2 24 rfl rfl
theorem dX3_opens_0 : decode cX3_opens 0 = .ok (.aload_n 0, 1) := dk_42 (dk_at dksX3_opens_0 0 rfl rfl)
theorem dX3_opens_1 : decode cX3_opens 1 = .ok (.getfield 31, 3) := dk_180 0 31 (dk_at dksX3_opens_0 1 rfl rfl)
theorem dX3_opens_4 : decode cX3_opens 4 = .ok (.iload_n 1, 1) := dk_27 (dk_at dksX3_opens_0 4 rfl rfl)
theorem dX3_opens_5 : decode cX3_opens 5 = .ok (.aaload, 1) := dk_50 (dk_at dksX3_opens_0 5 rfl rfl)
theorem dX3_opens_6 : decode cX3_opens 6 = .ok (.iload_n 2, 1) := dk_28 (dk_at dksX3_opens_0 6 rfl rfl)
theorem dX3_opens_7 : decode cX3_opens 7 = .ok (.putfield 172, 3) := dk_181 0 172 (dk_at dksX3_opens_0 7 rfl rfl)
theorem dX3_opens_10 : decode cX3_opens 10 = .ok (.aload_n 0, 1) := dk_42 (dk_at dksX3_opens_0 10 rfl rfl)
theorem dX3_opens_11 : decode cX3_opens 11 = .ok (.getfield 31, 3) := dk_180 0 31 (dk_at dksX3_opens_0 11 rfl rfl)
theorem dX3_opens_14 : decode cX3_opens 14 = .ok (.iload_n 1, 1) := dk_27 (dk_at dksX3_opens_0 14 rfl rfl)
theorem dX3_opens_15 : decode cX3_opens 15 = .ok (.aaload, 1) := dk_50 (dk_at dksX3_opens_0 15 rfl rfl)
theorem dX3_opens_16 : decode cX3_opens 16 = .ok (.aload_n 0, 1) := dk_42 (dk_at dksX3_opens_0 16 rfl rfl)
theorem dX3_opens_17 : decode cX3_opens 17 = .ok (.getfield 120, 3) := dk_180 0 120 (dk_at dksX3_opens_0 17 rfl rfl)
theorem dX3_opens_20 : decode cX3_opens 20 = .ok (.putfield 175, 3) := dk_181 0 175 (dk_at dksX3_opens_0 20 rfl rfl)
theorem dX3_opens_23 : decode cX3_opens 23 = .ok (.aload_n 0, 1) := dk_42 (dk_at dksX3_opens_0 23 rfl rfl)
theorem dX3_opens_24 : decode cX3_opens 24 = .ok (.getfield 44, 3) := dk_180 0 44 (dk_at dksX3_opens_1 0 rfl rfl)
theorem dX3_opens_27 : decode cX3_opens 27 = .ok (.iconst 3, 1) := dk_6 (dk_at dksX3_opens_1 3 rfl rfl)
theorem dX3_opens_28 : decode cX3_opens 28 = .ok (.aload_n 0, 1) := dk_42 (dk_at dksX3_opens_1 4 rfl rfl)
theorem dX3_opens_29 : decode cX3_opens 29 = .ok (.getfield 123, 3) := dk_180 0 123 (dk_at dksX3_opens_1 5 rfl rfl)
theorem dX3_opens_32 : decode cX3_opens 32 = .ok (.imul, 1) := dk_104 (dk_at dksX3_opens_1 8 rfl rfl)
theorem dX3_opens_33 : decode cX3_opens 33 = .ok (.aload_n 0, 1) := dk_42 (dk_at dksX3_opens_1 9 rfl rfl)
theorem dX3_opens_34 : decode cX3_opens 34 = .ok (.getfield 120, 3) := dk_180 0 120 (dk_at dksX3_opens_1 10 rfl rfl)
theorem dX3_opens_37 : decode cX3_opens 37 = .ok (.iastore, 1) := dk_79 (dk_at dksX3_opens_1 13 rfl rfl)
theorem dX3_opens_38 : decode cX3_opens 38 = .ok (.aload_n 0, 1) := dk_42 (dk_at dksX3_opens_1 14 rfl rfl)
theorem dX3_opens_39 : decode cX3_opens 39 = .ok (.getfield 44, 3) := dk_180 0 44 (dk_at dksX3_opens_1 15 rfl rfl)
theorem dX3_opens_42 : decode cX3_opens 42 = .ok (.iconst 3, 1) := dk_6 (dk_at dksX3_opens_1 18 rfl rfl)
theorem dX3_opens_43 : decode cX3_opens 43 = .ok (.aload_n 0, 1) := dk_42 (dk_at dksX3_opens_1 19 rfl rfl)
theorem dX3_opens_44 : decode cX3_opens 44 = .ok (.getfield 123, 3) := dk_180 0 123 (dk_at dksX3_opens_1 20 rfl rfl)
theorem dX3_opens_47 : decode cX3_opens 47 = .ok (.imul, 1) := dk_104 (dk_at dksX3_opens_1 23 rfl rfl)
theorem dX3_opens_48 : decode cX3_opens 48 = .ok (.iconst 1, 1) := dk_4 (dk_at dksX3_opens_2 0 rfl rfl)
theorem dX3_opens_49 : decode cX3_opens 49 = .ok (.iadd, 1) := dk_96 (dk_at dksX3_opens_2 1 rfl rfl)
theorem dX3_opens_50 : decode cX3_opens 50 = .ok (.iload_n 1, 1) := dk_27 (dk_at dksX3_opens_2 2 rfl rfl)
theorem dX3_opens_51 : decode cX3_opens 51 = .ok (.iastore, 1) := dk_79 (dk_at dksX3_opens_2 3 rfl rfl)
theorem dX3_opens_52 : decode cX3_opens 52 = .ok (.aload_n 0, 1) := dk_42 (dk_at dksX3_opens_2 4 rfl rfl)
theorem dX3_opens_53 : decode cX3_opens 53 = .ok (.getfield 44, 3) := dk_180 0 44 (dk_at dksX3_opens_2 5 rfl rfl)
theorem dX3_opens_56 : decode cX3_opens 56 = .ok (.iconst 3, 1) := dk_6 (dk_at dksX3_opens_2 8 rfl rfl)
theorem dX3_opens_57 : decode cX3_opens 57 = .ok (.aload_n 0, 1) := dk_42 (dk_at dksX3_opens_2 9 rfl rfl)
theorem dX3_opens_58 : decode cX3_opens 58 = .ok (.getfield 123, 3) := dk_180 0 123 (dk_at dksX3_opens_2 10 rfl rfl)
theorem dX3_opens_61 : decode cX3_opens 61 = .ok (.imul, 1) := dk_104 (dk_at dksX3_opens_2 13 rfl rfl)
theorem dX3_opens_62 : decode cX3_opens 62 = .ok (.iconst 2, 1) := dk_5 (dk_at dksX3_opens_2 14 rfl rfl)
theorem dX3_opens_63 : decode cX3_opens 63 = .ok (.iadd, 1) := dk_96 (dk_at dksX3_opens_2 15 rfl rfl)
theorem dX3_opens_64 : decode cX3_opens 64 = .ok (.iload_n 2, 1) := dk_28 (dk_at dksX3_opens_2 16 rfl rfl)
theorem dX3_opens_65 : decode cX3_opens 65 = .ok (.iastore, 1) := dk_79 (dk_at dksX3_opens_2 17 rfl rfl)
theorem dX3_opens_66 : decode cX3_opens 66 = .ok (.aload_n 0, 1) := dk_42 (dk_at dksX3_opens_2 18 rfl rfl)
theorem dX3_opens_67 : decode cX3_opens 67 = .ok (.dup, 1) := dk_89 (dk_at dksX3_opens_2 19 rfl rfl)
theorem dX3_opens_68 : decode cX3_opens 68 = .ok (.getfield 123, 3) := dk_180 0 123 (dk_at dksX3_opens_2 20 rfl rfl)
theorem dX3_opens_71 : decode cX3_opens 71 = .ok (.iconst 1, 1) := dk_4 (dk_at dksX3_opens_2 23 rfl rfl)
theorem dX3_opens_72 : decode cX3_opens 72 = .ok (.iadd, 1) := dk_96 (dk_at dksX3_opens_3 0 rfl rfl)
theorem dX3_opens_73 : decode cX3_opens 73 = .ok (.putfield 123, 3) := dk_181 0 123 (dk_at dksX3_opens_3 1 rfl rfl)
theorem dX3_opens_76 : decode cX3_opens 76 = .ok (.return_, 1) := dk_177 (dk_at dksX3_opens_3 4 rfl rfl)
abbrev cX3_mayOpen : ByteArray := prog_14_method_8_code
def yX3_mayOpen : MethodName := ⟨RX3, "mayOpen", "(ILGlacierMail$Letter;I)Z"⟩
def dkwX3_mayOpen_4 : List UInt8 := [132, 4, 1, 167, 255, 212, 3, 172]
abbrev dktX3_mayOpen_4 : List UInt8 := dkwX3_mayOpen_4 ++ []
def dkwX3_mayOpen_3 : List UInt8 := [153, 0, 22, 42, 180, 0, 40, 21, 4, 50, 42, 180, 0, 51, 182, 0, 141, 153, 0, 5, 4, 172]
abbrev dktX3_mayOpen_3 : List UInt8 := dkwX3_mayOpen_3 ++ dktX3_mayOpen_4
def dkwX3_mayOpen_2 : List UInt8 := [3, 54, 4, 21, 4, 42, 180, 0, 61, 162, 0, 41, 42, 180, 0, 40, 21, 4, 50, 182, 0, 163]
abbrev dktX3_mayOpen_2 : List UInt8 := dkwX3_mayOpen_2 ++ dktX3_mayOpen_3
def dkwX3_mayOpen_1 : List UInt8 := [42, 180, 0, 51, 16, 6, 42, 180, 0, 120, 44, 180, 0, 160, 100, 79, 42, 180, 0, 51, 16, 7, 29, 79]
abbrev dktX3_mayOpen_1 : List UInt8 := dkwX3_mayOpen_1 ++ dktX3_mayOpen_2
def dkwX3_mayOpen_0 : List UInt8 := [42, 44, 180, 0, 157, 42, 180, 0, 58, 42, 180, 0, 120, 3, 182, 0, 137, 42, 180, 0, 51, 8, 27, 79]
abbrev dktX3_mayOpen_0 : List UInt8 := dkwX3_mayOpen_0 ++ dktX3_mayOpen_1
theorem dksX3_mayOpen_0 : cX3_mayOpen.data.toList.drop 0 = dktX3_mayOpen_0 := by decide +kernel
theorem dksX3_mayOpen_1 : cX3_mayOpen.data.toList.drop 24 = dktX3_mayOpen_1 := dk_seg dksX3_mayOpen_0 24 rfl rfl
theorem dksX3_mayOpen_2 : cX3_mayOpen.data.toList.drop 48 = dktX3_mayOpen_2 := dk_seg dksX3_mayOpen_1 24 rfl rfl
theorem dksX3_mayOpen_3 : cX3_mayOpen.data.toList.drop 70 = dktX3_mayOpen_3 := dk_seg dksX3_mayOpen_2 22 rfl rfl
theorem dksX3_mayOpen_4 : cX3_mayOpen.data.toList.drop 92 = dktX3_mayOpen_4 := dk_seg dksX3_mayOpen_3 22 rfl rfl
theorem dX3_mayOpen_0 : decode cX3_mayOpen 0 = .ok (.aload_n 0, 1) := dk_42 (dk_at dksX3_mayOpen_0 0 rfl rfl)
theorem dX3_mayOpen_1 : decode cX3_mayOpen 1 = .ok (.aload_n 2, 1) := dk_44 (dk_at dksX3_mayOpen_0 1 rfl rfl)
theorem dX3_mayOpen_2 : decode cX3_mayOpen 2 = .ok (.getfield 157, 3) := dk_180 0 157 (dk_at dksX3_mayOpen_0 2 rfl rfl)
theorem dX3_mayOpen_5 : decode cX3_mayOpen 5 = .ok (.aload_n 0, 1) := dk_42 (dk_at dksX3_mayOpen_0 5 rfl rfl)
theorem dX3_mayOpen_6 : decode cX3_mayOpen 6 = .ok (.getfield 58, 3) := dk_180 0 58 (dk_at dksX3_mayOpen_0 6 rfl rfl)
theorem dX3_mayOpen_9 : decode cX3_mayOpen 9 = .ok (.aload_n 0, 1) := dk_42 (dk_at dksX3_mayOpen_0 9 rfl rfl)
theorem dX3_mayOpen_10 : decode cX3_mayOpen 10 = .ok (.getfield 120, 3) := dk_180 0 120 (dk_at dksX3_mayOpen_0 10 rfl rfl)
theorem dX3_mayOpen_13 : decode cX3_mayOpen 13 = .ok (.iconst 0, 1) := dk_3 (dk_at dksX3_mayOpen_0 13 rfl rfl)
theorem dX3_mayOpen_14 : decode cX3_mayOpen 14 = .ok (.invokevirtual 137, 3) := dk_182 0 137 (dk_at dksX3_mayOpen_0 14 rfl rfl)
theorem dX3_mayOpen_17 : decode cX3_mayOpen 17 = .ok (.aload_n 0, 1) := dk_42 (dk_at dksX3_mayOpen_0 17 rfl rfl)
theorem dX3_mayOpen_18 : decode cX3_mayOpen 18 = .ok (.getfield 51, 3) := dk_180 0 51 (dk_at dksX3_mayOpen_0 18 rfl rfl)
theorem dX3_mayOpen_21 : decode cX3_mayOpen 21 = .ok (.iconst 5, 1) := dk_8 (dk_at dksX3_mayOpen_0 21 rfl rfl)
theorem dX3_mayOpen_22 : decode cX3_mayOpen 22 = .ok (.iload_n 1, 1) := dk_27 (dk_at dksX3_mayOpen_0 22 rfl rfl)
theorem dX3_mayOpen_23 : decode cX3_mayOpen 23 = .ok (.iastore, 1) := dk_79 (dk_at dksX3_mayOpen_0 23 rfl rfl)
theorem dX3_mayOpen_24 : decode cX3_mayOpen 24 = .ok (.aload_n 0, 1) := dk_42 (dk_at dksX3_mayOpen_1 0 rfl rfl)
theorem dX3_mayOpen_25 : decode cX3_mayOpen 25 = .ok (.getfield 51, 3) := dk_180 0 51 (dk_at dksX3_mayOpen_1 1 rfl rfl)
theorem dX3_mayOpen_28 : decode cX3_mayOpen 28 = .ok (.bipush 6, 2) := dk_16 6 (dk_at dksX3_mayOpen_1 4 rfl rfl)
theorem dX3_mayOpen_30 : decode cX3_mayOpen 30 = .ok (.aload_n 0, 1) := dk_42 (dk_at dksX3_mayOpen_1 6 rfl rfl)
theorem dX3_mayOpen_31 : decode cX3_mayOpen 31 = .ok (.getfield 120, 3) := dk_180 0 120 (dk_at dksX3_mayOpen_1 7 rfl rfl)
theorem dX3_mayOpen_34 : decode cX3_mayOpen 34 = .ok (.aload_n 2, 1) := dk_44 (dk_at dksX3_mayOpen_1 10 rfl rfl)
theorem dX3_mayOpen_35 : decode cX3_mayOpen 35 = .ok (.getfield 160, 3) := dk_180 0 160 (dk_at dksX3_mayOpen_1 11 rfl rfl)
theorem dX3_mayOpen_38 : decode cX3_mayOpen 38 = .ok (.isub, 1) := dk_100 (dk_at dksX3_mayOpen_1 14 rfl rfl)
theorem dX3_mayOpen_39 : decode cX3_mayOpen 39 = .ok (.iastore, 1) := dk_79 (dk_at dksX3_mayOpen_1 15 rfl rfl)
theorem dX3_mayOpen_40 : decode cX3_mayOpen 40 = .ok (.aload_n 0, 1) := dk_42 (dk_at dksX3_mayOpen_1 16 rfl rfl)
theorem dX3_mayOpen_41 : decode cX3_mayOpen 41 = .ok (.getfield 51, 3) := dk_180 0 51 (dk_at dksX3_mayOpen_1 17 rfl rfl)
theorem dX3_mayOpen_44 : decode cX3_mayOpen 44 = .ok (.bipush 7, 2) := dk_16 7 (dk_at dksX3_mayOpen_1 20 rfl rfl)
theorem dX3_mayOpen_46 : decode cX3_mayOpen 46 = .ok (.iload_n 3, 1) := dk_29 (dk_at dksX3_mayOpen_1 22 rfl rfl)
theorem dX3_mayOpen_47 : decode cX3_mayOpen 47 = .ok (.iastore, 1) := dk_79 (dk_at dksX3_mayOpen_1 23 rfl rfl)
theorem dX3_mayOpen_48 : decode cX3_mayOpen 48 = .ok (.iconst 0, 1) := dk_3 (dk_at dksX3_mayOpen_2 0 rfl rfl)
theorem dX3_mayOpen_49 : decode cX3_mayOpen 49 = .ok (.istore 4, 2) := dk_54 4 (dk_at dksX3_mayOpen_2 1 rfl rfl)
theorem dX3_mayOpen_51 : decode cX3_mayOpen 51 = .ok (.iload 4, 2) := dk_21 4 (dk_at dksX3_mayOpen_2 3 rfl rfl)
theorem dX3_mayOpen_53 : decode cX3_mayOpen 53 = .ok (.aload_n 0, 1) := dk_42 (dk_at dksX3_mayOpen_2 5 rfl rfl)
theorem dX3_mayOpen_54 : decode cX3_mayOpen 54 = .ok (.getfield 61, 3) := dk_180 0 61 (dk_at dksX3_mayOpen_2 6 rfl rfl)
theorem dX3_mayOpen_57 : decode cX3_mayOpen 57 = .ok (.if_icmp .ge 41, 3) := dk_162 0 41 (dk_at dksX3_mayOpen_2 9 rfl rfl)
theorem dX3_mayOpen_60 : decode cX3_mayOpen 60 = .ok (.aload_n 0, 1) := dk_42 (dk_at dksX3_mayOpen_2 12 rfl rfl)
theorem dX3_mayOpen_61 : decode cX3_mayOpen 61 = .ok (.getfield 40, 3) := dk_180 0 40 (dk_at dksX3_mayOpen_2 13 rfl rfl)
theorem dX3_mayOpen_64 : decode cX3_mayOpen 64 = .ok (.iload 4, 2) := dk_21 4 (dk_at dksX3_mayOpen_2 16 rfl rfl)
theorem dX3_mayOpen_66 : decode cX3_mayOpen 66 = .ok (.aaload, 1) := dk_50 (dk_at dksX3_mayOpen_2 18 rfl rfl)
theorem dX3_mayOpen_67 : decode cX3_mayOpen 67 = .ok (.invokevirtual 163, 3) := dk_182 0 163 (dk_at dksX3_mayOpen_2 19 rfl rfl)
theorem dX3_mayOpen_70 : decode cX3_mayOpen 70 = .ok (.ifCond .eq 22, 3) := dk_153 0 22 (dk_at dksX3_mayOpen_3 0 rfl rfl)
theorem dX3_mayOpen_73 : decode cX3_mayOpen 73 = .ok (.aload_n 0, 1) := dk_42 (dk_at dksX3_mayOpen_3 3 rfl rfl)
theorem dX3_mayOpen_74 : decode cX3_mayOpen 74 = .ok (.getfield 40, 3) := dk_180 0 40 (dk_at dksX3_mayOpen_3 4 rfl rfl)
theorem dX3_mayOpen_77 : decode cX3_mayOpen 77 = .ok (.iload 4, 2) := dk_21 4 (dk_at dksX3_mayOpen_3 7 rfl rfl)
theorem dX3_mayOpen_79 : decode cX3_mayOpen 79 = .ok (.aaload, 1) := dk_50 (dk_at dksX3_mayOpen_3 9 rfl rfl)
theorem dX3_mayOpen_80 : decode cX3_mayOpen 80 = .ok (.aload_n 0, 1) := dk_42 (dk_at dksX3_mayOpen_3 10 rfl rfl)
theorem dX3_mayOpen_81 : decode cX3_mayOpen 81 = .ok (.getfield 51, 3) := dk_180 0 51 (dk_at dksX3_mayOpen_3 11 rfl rfl)
theorem dX3_mayOpen_84 : decode cX3_mayOpen 84 = .ok (.invokevirtual 141, 3) := dk_182 0 141 (dk_at dksX3_mayOpen_3 14 rfl rfl)
theorem dX3_mayOpen_87 : decode cX3_mayOpen 87 = .ok (.ifCond .eq 5, 3) := dk_153 0 5 (dk_at dksX3_mayOpen_3 17 rfl rfl)
theorem dX3_mayOpen_90 : decode cX3_mayOpen 90 = .ok (.iconst 1, 1) := dk_4 (dk_at dksX3_mayOpen_3 20 rfl rfl)
theorem dX3_mayOpen_91 : decode cX3_mayOpen 91 = .ok (.ireturn, 1) := dk_172 (dk_at dksX3_mayOpen_3 21 rfl rfl)
theorem dX3_mayOpen_92 : decode cX3_mayOpen 92 = .ok (.iinc 4 1, 3) := dk_132 4 1 (dk_at dksX3_mayOpen_4 0 rfl rfl)
theorem dX3_mayOpen_95 : decode cX3_mayOpen 95 = .ok (.goto (-44), 3) := dk_167 255 212 (dk_at dksX3_mayOpen_4 3 rfl rfl)
theorem dX3_mayOpen_98 : decode cX3_mayOpen 98 = .ok (.iconst 0, 1) := dk_3 (dk_at dksX3_mayOpen_4 6 rfl rfl)
theorem dX3_mayOpen_99 : decode cX3_mayOpen 99 = .ok (.ireturn, 1) := dk_172 (dk_at dksX3_mayOpen_4 7 rfl rfl)
theorem q137 : (Jvm.Cond.initialized "GlacierMail$State") ∈ lw_all := lw_g (lw_at lw_m1 3 rfl) rfl
theorem q198 : (Jvm.Cond.instantiable "GlacierMail$State" (24 : Nat)) ∈ lw_all := lw_g (lw_at lw_m1 64 rfl) rfl
theorem q200 : (Jvm.Cond.instanceMethod ({ cls := "GlacierMail$State", name := "<init>", desc := "()V" } : Jvm.MethodName)) ∈ lw_all := lw_g (lw_at lw_m1 66 rfl) rfl
theorem q201 : (Jvm.Cond.code ({ cls := "GlacierMail$State", name := "<init>", desc := "()V" } : Jvm.MethodName) prog_14_method_1_code (2 : Nat) (Option.none : Option Jvm.ClassFile.FieldType)) ∈ lw_all := lw_g (lw_at lw_m1 67 rfl) rfl
theorem q202 : (Jvm.Cond.methodLink "GlacierMail$State" (3 : Nat) ({ cls := "java/lang/Object", name := "<init>", desc := "()V" } : Jvm.MethodName)) ∈ lw_all := lw_g (lw_at lw_m1 68 rfl) rfl
theorem q203 : (Jvm.Cond.classLink "GlacierMail$State" (9 : Nat) "GlacierMail$Section") ∈ lw_all := lw_g (lw_at lw_m1 69 rfl) rfl
theorem q205 : (Jvm.Cond.classLink "GlacierMail$State" (17 : Nat) "GlacierMail$Flood") ∈ lw_all := lw_g (lw_at lw_m1 71 rfl) rfl
theorem q207 : (Jvm.Cond.classLink "GlacierMail$State" (23 : Nat) "GlacierMail$Person") ∈ lw_all := lw_g (lw_at lw_m1 73 rfl) rfl
theorem q209 : (Jvm.Cond.classLink "GlacierMail$State" (29 : Nat) "GlacierMail$Letter") ∈ lw_all := lw_g (lw_at lw_m1 75 rfl) rfl
theorem q211 : (Jvm.Cond.classLink "GlacierMail$State" (38 : Nat) "GlacierMail$Line") ∈ lw_all := lw_g (lw_at lw_m1 77 rfl) rfl
theorem q213 : (Jvm.Cond.methodLinkNest "GlacierMail$State" (76 : Nat) ({ cls := "GlacierMail$Section", name := "<init>", desc := "()V" } : Jvm.MethodName) "GlacierMail") ∈ lw_tbl := lw_at lw_m1 79 rfl
theorem q218 : (Jvm.Cond.fieldLinkNest "GlacierMail$State" (130 : Nat) "GlacierMail$Section" "speeds" "[I" "GlacierMail") ∈ lw_tbl := lw_at lw_m1 84 rfl
theorem q222 : (Jvm.Cond.fieldLinkNest "GlacierMail$State" (127 : Nat) "GlacierMail$Section" "row" "I" "GlacierMail") ∈ lw_tbl := lw_at lw_m1 88 rfl
theorem q232 : (Jvm.Cond.methodLinkNest "GlacierMail$State" (77 : Nat) ({ cls := "GlacierMail$Flood", name := "<init>", desc := "()V" } : Jvm.MethodName) "GlacierMail") ∈ lw_tbl := lw_at lw_m1 98 rfl
theorem q237 : (Jvm.Cond.fieldLinkNest "GlacierMail$State" (167 : Nat) "GlacierMail$Flood" "year" "I" "GlacierMail") ∈ lw_tbl := lw_at lw_m1 103 rfl
theorem q241 : (Jvm.Cond.fieldLinkNest "GlacierMail$State" (168 : Nat) "GlacierMail$Flood" "row" "I" "GlacierMail") ∈ lw_tbl := lw_at lw_m1 107 rfl
theorem q244 : (Jvm.Cond.fieldLinkNest "GlacierMail$State" (169 : Nat) "GlacierMail$Flood" "n" "I" "GlacierMail") ∈ lw_tbl := lw_at lw_m1 110 rfl
theorem q254 : (Jvm.Cond.methodLinkNest "GlacierMail$State" (78 : Nat) ({ cls := "GlacierMail$Person", name := "<init>", desc := "()V" } : Jvm.MethodName) "GlacierMail") ∈ lw_tbl := lw_at lw_m1 120 rfl
theorem q275 : (Jvm.Cond.methodLinkNest "GlacierMail$State" (79 : Nat) ({ cls := "GlacierMail$Letter", name := "<init>", desc := "()V" } : Jvm.MethodName) "GlacierMail") ∈ lw_tbl := lw_at lw_m1 141 rfl
theorem q285 : (Jvm.Cond.fieldLinkNest "GlacierMail$State" (157 : Nat) "GlacierMail$Letter" "lane" "I" "GlacierMail") ∈ lw_tbl := lw_at lw_m1 151 rfl
theorem q292 : (Jvm.Cond.fieldLinkNest "GlacierMail$State" (160 : Nat) "GlacierMail$Letter" "year" "I" "GlacierMail") ∈ lw_tbl := lw_at lw_m1 158 rfl
theorem q295 : (Jvm.Cond.fieldLinkNest "GlacierMail$State" (172 : Nat) "GlacierMail$Letter" "by" "I" "GlacierMail") ∈ lw_tbl := lw_at lw_m1 161 rfl
theorem q298 : (Jvm.Cond.fieldLinkNest "GlacierMail$State" (175 : Nat) "GlacierMail$Letter" "opened" "I" "GlacierMail") ∈ lw_tbl := lw_at lw_m1 164 rfl
theorem q315 : (Jvm.Cond.methodLink "GlacierMail$State" (80 : Nat) ({ cls := "GlacierMail$State", name := "draws", desc := "()V" } : Jvm.MethodName)) ∈ lw_all := lw_g (lw_at lw_m1 181 rfl) rfl
theorem q316 : (Jvm.Cond.instanceMethod ({ cls := "GlacierMail$State", name := "draws", desc := "()V" } : Jvm.MethodName)) ∈ lw_all := lw_g (lw_at lw_m1 182 rfl) rfl
theorem q317 : (Jvm.Cond.selects "GlacierMail$State" ({ cls := "GlacierMail$State", name := "draws", desc := "()V" } : Jvm.MethodName) ({ cls := "GlacierMail$State", name := "draws", desc := "()V" } : Jvm.MethodName)) ∈ lw_all := lw_g (lw_at lw_m1 183 rfl) rfl
theorem q318 : (Jvm.Cond.code ({ cls := "GlacierMail$State", name := "draws", desc := "()V" } : Jvm.MethodName) prog_14_method_3_code (3 : Nat) (Option.none : Option Jvm.ClassFile.FieldType)) ∈ lw_all := lw_g (lw_at lw_m1 184 rfl) rfl
theorem q319 : (Jvm.Cond.constant "GlacierMail$State" (126 : Nat) (1103515245 : Int32)) ∈ lw_all := lw_g (lw_at lw_m1 185 rfl) rfl
theorem q320 : (Jvm.Cond.fieldLink "GlacierMail$State" (11 : Nat) "GlacierMail$State" "sections" "[LGlacierMail$Section;") ∈ lw_all := lw_g (lw_at lw_m1 186 rfl) rfl
theorem q322 : (Jvm.Cond.fieldLink "GlacierMail$State" (19 : Nat) "GlacierMail$State" "floods" "[LGlacierMail$Flood;") ∈ lw_all := lw_g (lw_at lw_m1 188 rfl) rfl
theorem q325 : (Jvm.Cond.fieldLink "GlacierMail$State" (25 : Nat) "GlacierMail$State" "people" "[LGlacierMail$Person;") ∈ lw_all := lw_g (lw_at lw_m1 191 rfl) rfl
theorem q328 : (Jvm.Cond.fieldLink "GlacierMail$State" (31 : Nat) "GlacierMail$State" "letters" "[LGlacierMail$Letter;") ∈ lw_all := lw_g (lw_at lw_m1 194 rfl) rfl
theorem q331 : (Jvm.Cond.fieldLink "GlacierMail$State" (35 : Nat) "GlacierMail$State" "tables" "[LGlacierMail$Section;") ∈ lw_all := lw_g (lw_at lw_m1 197 rfl) rfl
theorem q334 : (Jvm.Cond.fieldLink "GlacierMail$State" (40 : Nat) "GlacierMail$State" "law" "[LGlacierMail$Line;") ∈ lw_all := lw_g (lw_at lw_m1 200 rfl) rfl
theorem q336 : (Jvm.Cond.fieldLink "GlacierMail$State" (44 : Nat) "GlacierMail$State" "log" "[I") ∈ lw_all := lw_g (lw_at lw_m1 202 rfl) rfl
theorem q338 : (Jvm.Cond.fieldLink "GlacierMail$State" (48 : Nat) "GlacierMail$State" "heats" "[I") ∈ lw_all := lw_g (lw_at lw_m1 204 rfl) rfl
theorem q340 : (Jvm.Cond.fieldLink "GlacierMail$State" (51 : Nat) "GlacierMail$State" "facts" "[I") ∈ lw_all := lw_g (lw_at lw_m1 206 rfl) rfl
theorem q341 : (Jvm.Cond.fieldLink "GlacierMail$State" (54 : Nat) "GlacierMail$State" "lanes" "I") ∈ lw_all := lw_g (lw_at lw_m1 207 rfl) rfl
theorem q344 : (Jvm.Cond.fieldLink "GlacierMail$State" (58 : Nat) "GlacierMail$State" "last" "I") ∈ lw_all := lw_g (lw_at lw_m1 210 rfl) rfl
theorem q348 : (Jvm.Cond.fieldLink "GlacierMail$State" (83 : Nat) "GlacierMail$State" "sectionMany" "I") ∈ lw_all := lw_g (lw_at lw_m1 214 rfl) rfl
theorem q351 : (Jvm.Cond.fieldLink "GlacierMail$State" (90 : Nat) "GlacierMail$State" "floodMany" "I") ∈ lw_all := lw_g (lw_at lw_m1 217 rfl) rfl
theorem q354 : (Jvm.Cond.fieldLink "GlacierMail$State" (96 : Nat) "GlacierMail$State" "personMany" "I") ∈ lw_all := lw_g (lw_at lw_m1 220 rfl) rfl
theorem q357 : (Jvm.Cond.fieldLink "GlacierMail$State" (102 : Nat) "GlacierMail$State" "letterMany" "I") ∈ lw_all := lw_g (lw_at lw_m1 223 rfl) rfl
theorem q360 : (Jvm.Cond.fieldLink "GlacierMail$State" (108 : Nat) "GlacierMail$State" "tableMany" "I") ∈ lw_all := lw_g (lw_at lw_m1 226 rfl) rfl
theorem q363 : (Jvm.Cond.fieldLink "GlacierMail$State" (61 : Nat) "GlacierMail$State" "lawMany" "I") ∈ lw_all := lw_g (lw_at lw_m1 229 rfl) rfl
theorem q365 : (Jvm.Cond.fieldLink "GlacierMail$State" (117 : Nat) "GlacierMail$State" "texts" "I") ∈ lw_all := lw_g (lw_at lw_m1 231 rfl) rfl
theorem q367 : (Jvm.Cond.fieldLink "GlacierMail$State" (64 : Nat) "GlacierMail$State" "snow" "I") ∈ lw_all := lw_g (lw_at lw_m1 233 rfl) rfl
theorem q370 : (Jvm.Cond.fieldLink "GlacierMail$State" (67 : Nat) "GlacierMail$State" "fall" "I") ∈ lw_all := lw_g (lw_at lw_m1 236 rfl) rfl
theorem q373 : (Jvm.Cond.fieldLink "GlacierMail$State" (70 : Nat) "GlacierMail$State" "stripe" "I") ∈ lw_all := lw_g (lw_at lw_m1 239 rfl) rfl
theorem q376 : (Jvm.Cond.fieldLink "GlacierMail$State" (73 : Nat) "GlacierMail$State" "seed" "I") ∈ lw_all := lw_g (lw_at lw_m2 2 rfl) rfl
theorem q379 : (Jvm.Cond.fieldLink "GlacierMail$State" (120 : Nat) "GlacierMail$State" "now" "I") ∈ lw_all := lw_g (lw_at lw_m2 5 rfl) rfl
theorem q382 : (Jvm.Cond.fieldLink "GlacierMail$State" (123 : Nat) "GlacierMail$State" "logMany" "I") ∈ lw_all := lw_g (lw_at lw_m2 8 rfl) rfl
theorem q384 : (Jvm.Cond.laysFinal "GlacierMail$State" "GlacierMail$State" "sections" "[LGlacierMail$Section;") ∈ lw_all := lw_g (lw_at lw_m2 10 rfl) rfl
theorem q385 : (Jvm.Cond.soleField "GlacierMail$State" "sections") ∈ lw_all := lw_g (lw_at lw_m2 11 rfl) rfl
theorem q386 : (Jvm.Cond.laysFinal "GlacierMail$State" "GlacierMail$State" "floods" "[LGlacierMail$Flood;") ∈ lw_all := lw_g (lw_at lw_m2 12 rfl) rfl
theorem q387 : (Jvm.Cond.soleField "GlacierMail$State" "floods") ∈ lw_all := lw_g (lw_at lw_m2 13 rfl) rfl
theorem q388 : (Jvm.Cond.laysFinal "GlacierMail$State" "GlacierMail$State" "people" "[LGlacierMail$Person;") ∈ lw_all := lw_g (lw_at lw_m2 14 rfl) rfl
theorem q389 : (Jvm.Cond.soleField "GlacierMail$State" "people") ∈ lw_all := lw_g (lw_at lw_m2 15 rfl) rfl
theorem q390 : (Jvm.Cond.laysFinal "GlacierMail$State" "GlacierMail$State" "letters" "[LGlacierMail$Letter;") ∈ lw_all := lw_g (lw_at lw_m2 16 rfl) rfl
theorem q391 : (Jvm.Cond.soleField "GlacierMail$State" "letters") ∈ lw_all := lw_g (lw_at lw_m2 17 rfl) rfl
theorem q392 : (Jvm.Cond.laysFinal "GlacierMail$State" "GlacierMail$State" "tables" "[LGlacierMail$Section;") ∈ lw_all := lw_g (lw_at lw_m2 18 rfl) rfl
theorem q393 : (Jvm.Cond.soleField "GlacierMail$State" "tables") ∈ lw_all := lw_g (lw_at lw_m2 19 rfl) rfl
theorem q394 : (Jvm.Cond.laysFinal "GlacierMail$State" "GlacierMail$State" "law" "[LGlacierMail$Line;") ∈ lw_all := lw_g (lw_at lw_m2 20 rfl) rfl
theorem q395 : (Jvm.Cond.soleField "GlacierMail$State" "law") ∈ lw_all := lw_g (lw_at lw_m2 21 rfl) rfl
theorem q396 : (Jvm.Cond.laysFinal "GlacierMail$State" "GlacierMail$State" "log" "[I") ∈ lw_all := lw_g (lw_at lw_m2 22 rfl) rfl
theorem q397 : (Jvm.Cond.soleField "GlacierMail$State" "log") ∈ lw_all := lw_g (lw_at lw_m2 23 rfl) rfl
theorem q398 : (Jvm.Cond.laysFinal "GlacierMail$State" "GlacierMail$State" "heats" "[I") ∈ lw_all := lw_g (lw_at lw_m2 24 rfl) rfl
theorem q399 : (Jvm.Cond.soleField "GlacierMail$State" "heats") ∈ lw_all := lw_g (lw_at lw_m2 25 rfl) rfl
theorem q400 : (Jvm.Cond.laysFinal "GlacierMail$State" "GlacierMail$State" "facts" "[I") ∈ lw_all := lw_g (lw_at lw_m2 26 rfl) rfl
theorem q401 : (Jvm.Cond.soleField "GlacierMail$State" "facts") ∈ lw_all := lw_g (lw_at lw_m2 27 rfl) rfl
theorem q402 : (Jvm.Cond.lays "GlacierMail$State" "GlacierMail$State" "lanes" "I") ∈ lw_all := lw_g (lw_at lw_m2 28 rfl) rfl
theorem q403 : (Jvm.Cond.soleField "GlacierMail$State" "lanes") ∈ lw_all := lw_g (lw_at lw_m2 29 rfl) rfl
theorem q404 : (Jvm.Cond.lays "GlacierMail$State" "GlacierMail$State" "last" "I") ∈ lw_all := lw_g (lw_at lw_m2 30 rfl) rfl
theorem q405 : (Jvm.Cond.soleField "GlacierMail$State" "last") ∈ lw_all := lw_g (lw_at lw_m2 31 rfl) rfl
theorem q406 : (Jvm.Cond.lays "GlacierMail$State" "GlacierMail$State" "sectionMany" "I") ∈ lw_all := lw_g (lw_at lw_m2 32 rfl) rfl
theorem q407 : (Jvm.Cond.soleField "GlacierMail$State" "sectionMany") ∈ lw_all := lw_g (lw_at lw_m2 33 rfl) rfl
theorem q408 : (Jvm.Cond.lays "GlacierMail$State" "GlacierMail$State" "floodMany" "I") ∈ lw_all := lw_g (lw_at lw_m2 34 rfl) rfl
theorem q409 : (Jvm.Cond.soleField "GlacierMail$State" "floodMany") ∈ lw_all := lw_g (lw_at lw_m2 35 rfl) rfl
theorem q410 : (Jvm.Cond.lays "GlacierMail$State" "GlacierMail$State" "personMany" "I") ∈ lw_all := lw_g (lw_at lw_m2 36 rfl) rfl
theorem q411 : (Jvm.Cond.soleField "GlacierMail$State" "personMany") ∈ lw_all := lw_g (lw_at lw_m2 37 rfl) rfl
theorem q412 : (Jvm.Cond.lays "GlacierMail$State" "GlacierMail$State" "letterMany" "I") ∈ lw_all := lw_g (lw_at lw_m2 38 rfl) rfl
theorem q413 : (Jvm.Cond.soleField "GlacierMail$State" "letterMany") ∈ lw_all := lw_g (lw_at lw_m2 39 rfl) rfl
theorem q414 : (Jvm.Cond.lays "GlacierMail$State" "GlacierMail$State" "tableMany" "I") ∈ lw_all := lw_g (lw_at lw_m2 40 rfl) rfl
theorem q415 : (Jvm.Cond.soleField "GlacierMail$State" "tableMany") ∈ lw_all := lw_g (lw_at lw_m2 41 rfl) rfl
theorem q416 : (Jvm.Cond.lays "GlacierMail$State" "GlacierMail$State" "lawMany" "I") ∈ lw_all := lw_g (lw_at lw_m2 42 rfl) rfl
theorem q417 : (Jvm.Cond.soleField "GlacierMail$State" "lawMany") ∈ lw_all := lw_g (lw_at lw_m2 43 rfl) rfl
theorem q418 : (Jvm.Cond.lays "GlacierMail$State" "GlacierMail$State" "texts" "I") ∈ lw_all := lw_g (lw_at lw_m2 44 rfl) rfl
theorem q419 : (Jvm.Cond.soleField "GlacierMail$State" "texts") ∈ lw_all := lw_g (lw_at lw_m2 45 rfl) rfl
theorem q420 : (Jvm.Cond.lays "GlacierMail$State" "GlacierMail$State" "snow" "I") ∈ lw_all := lw_g (lw_at lw_m2 46 rfl) rfl
theorem q421 : (Jvm.Cond.soleField "GlacierMail$State" "snow") ∈ lw_all := lw_g (lw_at lw_m2 47 rfl) rfl
theorem q422 : (Jvm.Cond.lays "GlacierMail$State" "GlacierMail$State" "fall" "I") ∈ lw_all := lw_g (lw_at lw_m2 48 rfl) rfl
theorem q423 : (Jvm.Cond.soleField "GlacierMail$State" "fall") ∈ lw_all := lw_g (lw_at lw_m2 49 rfl) rfl
theorem q424 : (Jvm.Cond.lays "GlacierMail$State" "GlacierMail$State" "stripe" "I") ∈ lw_all := lw_g (lw_at lw_m2 50 rfl) rfl
theorem q425 : (Jvm.Cond.soleField "GlacierMail$State" "stripe") ∈ lw_all := lw_g (lw_at lw_m2 51 rfl) rfl
theorem q426 : (Jvm.Cond.lays "GlacierMail$State" "GlacierMail$State" "seed" "I") ∈ lw_all := lw_g (lw_at lw_m2 52 rfl) rfl
theorem q427 : (Jvm.Cond.soleField "GlacierMail$State" "seed") ∈ lw_all := lw_g (lw_at lw_m2 53 rfl) rfl
theorem q428 : (Jvm.Cond.lays "GlacierMail$State" "GlacierMail$State" "now" "I") ∈ lw_all := lw_g (lw_at lw_m2 54 rfl) rfl
theorem q429 : (Jvm.Cond.soleField "GlacierMail$State" "now") ∈ lw_all := lw_g (lw_at lw_m2 55 rfl) rfl
theorem q430 : (Jvm.Cond.lays "GlacierMail$State" "GlacierMail$State" "logMany" "I") ∈ lw_all := lw_g (lw_at lw_m2 56 rfl) rfl
theorem q431 : (Jvm.Cond.soleField "GlacierMail$State" "logMany") ∈ lw_all := lw_g (lw_at lw_m2 57 rfl) rfl
theorem q432 : (Jvm.Cond.superclass "GlacierMail$State" "java/lang/Object") ∈ lw_all := lw_g (lw_at lw_m2 58 rfl) rfl
theorem q667 : (Jvm.Cond.instanceMethod ({ cls := "GlacierMail$State", name := "flow", desc := "(III)I" } : Jvm.MethodName)) ∈ lw_all := lw_g (lw_at lw_m3 53 rfl) rfl
theorem q668 : (Jvm.Cond.selects "GlacierMail$State" ({ cls := "GlacierMail$State", name := "flow", desc := "(III)I" } : Jvm.MethodName) ({ cls := "GlacierMail$State", name := "flow", desc := "(III)I" } : Jvm.MethodName)) ∈ lw_all := lw_g (lw_at lw_m3 54 rfl) rfl
theorem q669 : (Jvm.Cond.code ({ cls := "GlacierMail$State", name := "flow", desc := "(III)I" } : Jvm.MethodName) prog_14_method_7_code (6 : Nat) (Option.some Jvm.ClassFile.FieldType.int)) ∈ lw_all := lw_g (lw_at lw_m3 55 rfl) rfl
theorem q670 : (Jvm.Cond.methodLink "GlacierMail$State" (133 : Nat) ({ cls := "GlacierMail$State", name := "speed", desc := "(II)I" } : Jvm.MethodName)) ∈ lw_all := lw_g (lw_at lw_m3 56 rfl) rfl
theorem q671 : (Jvm.Cond.instanceMethod ({ cls := "GlacierMail$State", name := "speed", desc := "(II)I" } : Jvm.MethodName)) ∈ lw_all := lw_g (lw_at lw_m3 57 rfl) rfl
theorem q672 : (Jvm.Cond.selects "GlacierMail$State" ({ cls := "GlacierMail$State", name := "speed", desc := "(II)I" } : Jvm.MethodName) ({ cls := "GlacierMail$State", name := "speed", desc := "(II)I" } : Jvm.MethodName)) ∈ lw_all := lw_g (lw_at lw_m3 58 rfl) rfl
theorem q673 : (Jvm.Cond.code ({ cls := "GlacierMail$State", name := "speed", desc := "(II)I" } : Jvm.MethodName) prog_14_method_5_code (5 : Nat) (Option.some Jvm.ClassFile.FieldType.int)) ∈ lw_all := lw_g (lw_at lw_m3 59 rfl) rfl
theorem q674 : (Jvm.Cond.methodLink "GlacierMail$State" (137 : Nat) ({ cls := "GlacierMail$State", name := "tells", desc := "(IIII)V" } : Jvm.MethodName)) ∈ lw_all := lw_g (lw_at lw_m3 60 rfl) rfl
theorem q675 : (Jvm.Cond.privateMethod ({ cls := "GlacierMail$State", name := "tells", desc := "(IIII)V" } : Jvm.MethodName)) ∈ lw_tbl := lw_at lw_m3 61 rfl
theorem q676 : (Jvm.Cond.instanceMethod ({ cls := "GlacierMail$State", name := "tells", desc := "(IIII)V" } : Jvm.MethodName)) ∈ lw_all := lw_g (lw_at lw_m3 62 rfl) rfl
theorem q677 : (Jvm.Cond.code ({ cls := "GlacierMail$State", name := "tells", desc := "(IIII)V" } : Jvm.MethodName) prog_14_method_6_code (5 : Nat) (Option.none : Option Jvm.ClassFile.FieldType)) ∈ lw_all := lw_g (lw_at lw_m3 63 rfl) rfl
theorem q678 : (Jvm.Cond.methodLink "GlacierMail$State" (141 : Nat) ({ cls := "GlacierMail$Line", name := "is", desc := "([I)Z" } : Jvm.MethodName)) ∈ lw_all := lw_g (lw_at lw_m3 64 rfl) rfl
theorem q720 : (Jvm.Cond.methodLink "GlacierMail$State" (145 : Nat) ({ cls := "GlacierMail$Line", name := "faster", desc := "()I" } : Jvm.MethodName)) ∈ lw_all := lw_g (lw_at lw_m3 106 rfl) rfl
theorem q728 : (Jvm.Cond.methodLink "GlacierMail$State" (149 : Nat) ({ cls := "java/lang/Math", name := "min", desc := "(II)I" } : Jvm.MethodName)) ∈ lw_all := lw_g (lw_at lw_m3 114 rfl) rfl
theorem q731 : (Jvm.Cond.methodLink "GlacierMail$State" (154 : Nat) ({ cls := "java/lang/Math", name := "max", desc := "(II)I" } : Jvm.MethodName)) ∈ lw_all := lw_g (lw_at lw_m3 117 rfl) rfl
theorem q735 : (Jvm.Cond.instanceMethod ({ cls := "GlacierMail$State", name := "flooded", desc := "(II)I" } : Jvm.MethodName)) ∈ lw_all := lw_g (lw_at lw_m3 121 rfl) rfl
theorem q736 : (Jvm.Cond.selects "GlacierMail$State" ({ cls := "GlacierMail$State", name := "flooded", desc := "(II)I" } : Jvm.MethodName) ({ cls := "GlacierMail$State", name := "flooded", desc := "(II)I" } : Jvm.MethodName)) ∈ lw_all := lw_g (lw_at lw_m3 122 rfl) rfl
theorem q737 : (Jvm.Cond.code ({ cls := "GlacierMail$State", name := "flooded", desc := "(II)I" } : Jvm.MethodName) prog_14_method_9_code (5 : Nat) (Option.some Jvm.ClassFile.FieldType.int)) ∈ lw_all := lw_g (lw_at lw_m3 123 rfl) rfl
theorem q740 : (Jvm.Cond.instanceMethod ({ cls := "GlacierMail$State", name := "sinks", desc := "(III)I" } : Jvm.MethodName)) ∈ lw_all := lw_g (lw_at lw_m3 126 rfl) rfl
theorem q741 : (Jvm.Cond.selects "GlacierMail$State" ({ cls := "GlacierMail$State", name := "sinks", desc := "(III)I" } : Jvm.MethodName) ({ cls := "GlacierMail$State", name := "sinks", desc := "(III)I" } : Jvm.MethodName)) ∈ lw_all := lw_g (lw_at lw_m3 127 rfl) rfl
theorem q742 : (Jvm.Cond.code ({ cls := "GlacierMail$State", name := "sinks", desc := "(III)I" } : Jvm.MethodName) prog_14_method_10_code (4 : Nat) (Option.some Jvm.ClassFile.FieldType.int)) ∈ lw_all := lw_g (lw_at lw_m3 128 rfl) rfl
theorem q772 : (Jvm.Cond.instanceMethod ({ cls := "GlacierMail$State", name := "be", desc := "(LGlacierMail$State;)V" } : Jvm.MethodName)) ∈ lw_all := lw_g (lw_at lw_m3 158 rfl) rfl
theorem q773 : (Jvm.Cond.selects "GlacierMail$State" ({ cls := "GlacierMail$State", name := "be", desc := "(LGlacierMail$State;)V" } : Jvm.MethodName) ({ cls := "GlacierMail$State", name := "be", desc := "(LGlacierMail$State;)V" } : Jvm.MethodName)) ∈ lw_all := lw_g (lw_at lw_m3 159 rfl) rfl
theorem q774 : (Jvm.Cond.code ({ cls := "GlacierMail$State", name := "be", desc := "(LGlacierMail$State;)V" } : Jvm.MethodName) prog_14_method_2_code (3 : Nat) (Option.none : Option Jvm.ClassFile.FieldType)) ∈ lw_all := lw_g (lw_at lw_m3 160 rfl) rfl
theorem q775 : (Jvm.Cond.methodLink "GlacierMail$State" (86 : Nat) ({ cls := "GlacierMail$Section", name := "be", desc := "(LGlacierMail$Section;)V" } : Jvm.MethodName)) ∈ lw_all := lw_g (lw_at lw_m3 161 rfl) rfl
theorem q782 : (Jvm.Cond.methodLink "GlacierMail$State" (93 : Nat) ({ cls := "GlacierMail$Flood", name := "be", desc := "(LGlacierMail$Flood;)V" } : Jvm.MethodName)) ∈ lw_all := lw_g (lw_at lw_m3 168 rfl) rfl
theorem q786 : (Jvm.Cond.methodLink "GlacierMail$State" (99 : Nat) ({ cls := "GlacierMail$Person", name := "be", desc := "(LGlacierMail$Person;)V" } : Jvm.MethodName)) ∈ lw_all := lw_g (lw_at lw_m3 172 rfl) rfl
theorem q790 : (Jvm.Cond.methodLink "GlacierMail$State" (105 : Nat) ({ cls := "GlacierMail$Letter", name := "be", desc := "(LGlacierMail$Letter;)V" } : Jvm.MethodName)) ∈ lw_all := lw_g (lw_at lw_m3 176 rfl) rfl
theorem q794 : (Jvm.Cond.methodLink "GlacierMail$State" (111 : Nat) ({ cls := "java/lang/System", name := "arraycopy", desc := "(Ljava/lang/Object;ILjava/lang/Object;II)V" } : Jvm.MethodName)) ∈ lw_all := lw_g (lw_at lw_m3 180 rfl) rfl
theorem q912 : (Jvm.Cond.instanceMethod ({ cls := "GlacierMail$State", name := "isBegun", desc := "()Z" } : Jvm.MethodName)) ∈ lw_all := lw_g (lw_at lw_m4 58 rfl) rfl
theorem q913 : (Jvm.Cond.selects "GlacierMail$State" ({ cls := "GlacierMail$State", name := "isBegun", desc := "()Z" } : Jvm.MethodName) ({ cls := "GlacierMail$State", name := "isBegun", desc := "()Z" } : Jvm.MethodName)) ∈ lw_all := lw_g (lw_at lw_m4 59 rfl) rfl
theorem q914 : (Jvm.Cond.code ({ cls := "GlacierMail$State", name := "isBegun", desc := "()Z" } : Jvm.MethodName) prog_14_method_4_code (1 : Nat) (Option.some Jvm.ClassFile.FieldType.boolean)) ∈ lw_all := lw_g (lw_at lw_m4 60 rfl) rfl
theorem q1340 : (Jvm.Cond.instanceMethod ({ cls := "GlacierMail$State", name := "opens", desc := "(II)V" } : Jvm.MethodName)) ∈ lw_all := lw_g (lw_at lw_m6 6 rfl) rfl
theorem q1341 : (Jvm.Cond.selects "GlacierMail$State" ({ cls := "GlacierMail$State", name := "opens", desc := "(II)V" } : Jvm.MethodName) ({ cls := "GlacierMail$State", name := "opens", desc := "(II)V" } : Jvm.MethodName)) ∈ lw_all := lw_g (lw_at lw_m6 7 rfl) rfl
theorem q1342 : (Jvm.Cond.code ({ cls := "GlacierMail$State", name := "opens", desc := "(II)V" } : Jvm.MethodName) prog_14_method_11_code (3 : Nat) (Option.none : Option Jvm.ClassFile.FieldType)) ∈ lw_all := lw_g (lw_at lw_m6 8 rfl) rfl
theorem q1359 : (Jvm.Cond.instanceMethod ({ cls := "GlacierMail$State", name := "mayOpen", desc := "(ILGlacierMail$Letter;I)Z" } : Jvm.MethodName)) ∈ lw_all := lw_g (lw_at lw_m6 25 rfl) rfl
theorem q1360 : (Jvm.Cond.selects "GlacierMail$State" ({ cls := "GlacierMail$State", name := "mayOpen", desc := "(ILGlacierMail$Letter;I)Z" } : Jvm.MethodName) ({ cls := "GlacierMail$State", name := "mayOpen", desc := "(ILGlacierMail$Letter;I)Z" } : Jvm.MethodName)) ∈ lw_all := lw_g (lw_at lw_m6 26 rfl) rfl
theorem q1361 : (Jvm.Cond.code ({ cls := "GlacierMail$State", name := "mayOpen", desc := "(ILGlacierMail$Letter;I)Z" } : Jvm.MethodName) prog_14_method_8_code (5 : Nat) (Option.some Jvm.ClassFile.FieldType.boolean)) ∈ lw_all := lw_g (lw_at lw_m6 27 rfl) rfl
theorem q1362 : (Jvm.Cond.methodLink "GlacierMail$State" (163 : Nat) ({ cls := "GlacierMail$Line", name := "opens", desc := "()Z" } : Jvm.MethodName)) ∈ lw_all := lw_g (lw_at lw_m6 28 rfl) rfl
theorem q2281 : (Jvm.Cond.castable "GlacierMail$State" "java/lang/Object") ∈ lw_tbl := lw_at lw_m9 227 rfl
theorem in_X3 : ∀ w ∈ wsX30, w ∈ lw_all := lw_in wsX30 [384, 386, 388, 390, 392, 394, 396, 398, 400, 402, 404, 406, 408, 410, 412, 414, 416, 418, 420, 422, 424, 426, 428, 430] (by decide +kernel) (by decide +kernel)
/-! GlacierMail$Section -/
set_option maxRecDepth 100000
def RX4 : String := "GlacierMail$Section"
def TX4 : u_T := fun k => match k with
  | 0 => ("GlacierMail$Section", "speeds", "[I", true)
  | _ => ("GlacierMail$Section", "row", "I", false)
def tyX4 : Nat → FieldType := fun k => match k with
  | 0 => .array .int
  | _ => .int
abbrev wsX40 : List Cond := u_ws RX4 TX4 2
theorem nmX4 : ∀ a, a < 2 → ∀ b, b < 2 → a ≠ b → (TX4 a).2.1 ≠ (TX4 b).2.1 := by decide +kernel
theorem tyX4_ok : ∀ k, k < 2 → parseFieldDescriptor (TX4 k).2.2.1 = some (tyX4 k) := by decide +kernel
abbrev cX4_init : ByteArray := prog_13_method_1_code
def yX4_init : MethodName := ⟨RX4, "<init>", "()V"⟩
def dkwX4_init_0 : List UInt8 := [42, 183, 0, 3, 42, 16, 6, 188, 10, 181, 0, 9, 177]
abbrev dktX4_init_0 : List UInt8 := dkwX4_init_0 ++ []
theorem dksX4_init_0 : cX4_init.data.toList.drop 0 = dktX4_init_0 := by decide +kernel
theorem dX4_init_0 : decode cX4_init 0 = .ok (.aload_n 0, 1) := dk_42 (dk_at dksX4_init_0 0 rfl rfl)
theorem dX4_init_1 : decode cX4_init 1 = .ok (.invokespecial 3, 3) := dk_183 0 3 (dk_at dksX4_init_0 1 rfl rfl)
theorem dX4_init_4 : decode cX4_init 4 = .ok (.aload_n 0, 1) := dk_42 (dk_at dksX4_init_0 4 rfl rfl)
theorem dX4_init_5 : decode cX4_init 5 = .ok (.bipush 6, 2) := dk_16 6 (dk_at dksX4_init_0 5 rfl rfl)
theorem dX4_init_7 : decode cX4_init 7 = .ok (.newarray .int, 2) := dk_188_10 (dk_at dksX4_init_0 7 rfl rfl)
theorem dX4_init_9 : decode cX4_init 9 = .ok (.putfield 9, 3) := dk_181 0 9 (dk_at dksX4_init_0 9 rfl rfl)
theorem dX4_init_12 : decode cX4_init 12 = .ok (.return_, 1) := dk_177 (dk_at dksX4_init_0 12 rfl rfl)
abbrev cX4_be : ByteArray := prog_13_method_2_code
def yX4_be : MethodName := ⟨RX4, "be", "(LGlacierMail$Section;)V"⟩
def dkwX4_be_0 : List UInt8 := [43, 180, 0, 9, 3, 42, 180, 0, 9, 3, 16, 6, 184, 0, 15, 42, 43, 180, 0, 21, 181, 0, 21, 177]
abbrev dktX4_be_0 : List UInt8 := dkwX4_be_0 ++ []
theorem dksX4_be_0 : cX4_be.data.toList.drop 0 = dktX4_be_0 := by decide +kernel
theorem dX4_be_0 : decode cX4_be 0 = .ok (.aload_n 1, 1) := dk_43 (dk_at dksX4_be_0 0 rfl rfl)
theorem dX4_be_1 : decode cX4_be 1 = .ok (.getfield 9, 3) := dk_180 0 9 (dk_at dksX4_be_0 1 rfl rfl)
theorem dX4_be_4 : decode cX4_be 4 = .ok (.iconst 0, 1) := dk_3 (dk_at dksX4_be_0 4 rfl rfl)
theorem dX4_be_5 : decode cX4_be 5 = .ok (.aload_n 0, 1) := dk_42 (dk_at dksX4_be_0 5 rfl rfl)
theorem dX4_be_6 : decode cX4_be 6 = .ok (.getfield 9, 3) := dk_180 0 9 (dk_at dksX4_be_0 6 rfl rfl)
theorem dX4_be_9 : decode cX4_be 9 = .ok (.iconst 0, 1) := dk_3 (dk_at dksX4_be_0 9 rfl rfl)
theorem dX4_be_10 : decode cX4_be 10 = .ok (.bipush 6, 2) := dk_16 6 (dk_at dksX4_be_0 10 rfl rfl)
theorem dX4_be_12 : decode cX4_be 12 = .ok (.invokestatic 15, 3) := dk_184 0 15 (dk_at dksX4_be_0 12 rfl rfl)
theorem dX4_be_15 : decode cX4_be 15 = .ok (.aload_n 0, 1) := dk_42 (dk_at dksX4_be_0 15 rfl rfl)
theorem dX4_be_16 : decode cX4_be 16 = .ok (.aload_n 1, 1) := dk_43 (dk_at dksX4_be_0 16 rfl rfl)
theorem dX4_be_17 : decode cX4_be 17 = .ok (.getfield 21, 3) := dk_180 0 21 (dk_at dksX4_be_0 17 rfl rfl)
theorem dX4_be_20 : decode cX4_be 20 = .ok (.putfield 21, 3) := dk_181 0 21 (dk_at dksX4_be_0 20 rfl rfl)
theorem dX4_be_23 : decode cX4_be 23 = .ok (.return_, 1) := dk_177 (dk_at dksX4_be_0 23 rfl rfl)
theorem q138 : (Jvm.Cond.initialized "GlacierMail$Section") ∈ lw_all := lw_g (lw_at lw_m1 4 rfl) rfl
theorem q212 : (Jvm.Cond.instantiable "GlacierMail$Section" (2 : Nat)) ∈ lw_all := lw_g (lw_at lw_m1 78 rfl) rfl
theorem q214 : (Jvm.Cond.instanceMethod ({ cls := "GlacierMail$Section", name := "<init>", desc := "()V" } : Jvm.MethodName)) ∈ lw_all := lw_g (lw_at lw_m1 80 rfl) rfl
theorem q215 : (Jvm.Cond.code ({ cls := "GlacierMail$Section", name := "<init>", desc := "()V" } : Jvm.MethodName) prog_13_method_1_code (1 : Nat) (Option.none : Option Jvm.ClassFile.FieldType)) ∈ lw_all := lw_g (lw_at lw_m1 81 rfl) rfl
theorem q216 : (Jvm.Cond.methodLink "GlacierMail$Section" (3 : Nat) ({ cls := "java/lang/Object", name := "<init>", desc := "()V" } : Jvm.MethodName)) ∈ lw_all := lw_g (lw_at lw_m1 82 rfl) rfl
theorem q217 : (Jvm.Cond.fieldLink "GlacierMail$Section" (9 : Nat) "GlacierMail$Section" "speeds" "[I") ∈ lw_all := lw_g (lw_at lw_m1 83 rfl) rfl
theorem q221 : (Jvm.Cond.fieldLink "GlacierMail$Section" (21 : Nat) "GlacierMail$Section" "row" "I") ∈ lw_all := lw_g (lw_at lw_m1 87 rfl) rfl
theorem q224 : (Jvm.Cond.laysFinal "GlacierMail$Section" "GlacierMail$Section" "speeds" "[I") ∈ lw_all := lw_g (lw_at lw_m1 90 rfl) rfl
theorem q225 : (Jvm.Cond.soleField "GlacierMail$Section" "speeds") ∈ lw_all := lw_g (lw_at lw_m1 91 rfl) rfl
theorem q226 : (Jvm.Cond.lays "GlacierMail$Section" "GlacierMail$Section" "row" "I") ∈ lw_all := lw_g (lw_at lw_m1 92 rfl) rfl
theorem q227 : (Jvm.Cond.soleField "GlacierMail$Section" "row") ∈ lw_all := lw_g (lw_at lw_m1 93 rfl) rfl
theorem q228 : (Jvm.Cond.superclass "GlacierMail$Section" "java/lang/Object") ∈ lw_all := lw_g (lw_at lw_m1 94 rfl) rfl
theorem q776 : (Jvm.Cond.instanceMethod ({ cls := "GlacierMail$Section", name := "be", desc := "(LGlacierMail$Section;)V" } : Jvm.MethodName)) ∈ lw_all := lw_g (lw_at lw_m3 162 rfl) rfl
theorem q777 : (Jvm.Cond.selects "GlacierMail$Section" ({ cls := "GlacierMail$Section", name := "be", desc := "(LGlacierMail$Section;)V" } : Jvm.MethodName) ({ cls := "GlacierMail$Section", name := "be", desc := "(LGlacierMail$Section;)V" } : Jvm.MethodName)) ∈ lw_all := lw_g (lw_at lw_m3 163 rfl) rfl
theorem q778 : (Jvm.Cond.code ({ cls := "GlacierMail$Section", name := "be", desc := "(LGlacierMail$Section;)V" } : Jvm.MethodName) prog_13_method_2_code (2 : Nat) (Option.none : Option Jvm.ClassFile.FieldType)) ∈ lw_all := lw_g (lw_at lw_m3 164 rfl) rfl
theorem q779 : (Jvm.Cond.methodLink "GlacierMail$Section" (15 : Nat) ({ cls := "java/lang/System", name := "arraycopy", desc := "(Ljava/lang/Object;ILjava/lang/Object;II)V" } : Jvm.MethodName)) ∈ lw_all := lw_g (lw_at lw_m3 165 rfl) rfl
theorem q2282 : (Jvm.Cond.castable "GlacierMail$Section" "java/lang/Object") ∈ lw_tbl := lw_at lw_m9 228 rfl
theorem in_X4 : ∀ w ∈ wsX40, w ∈ lw_all := lw_in wsX40 [224, 226] (by decide +kernel) (by decide +kernel)
/-! GlacierMail$Flood -/
set_option maxRecDepth 100000
def RX5 : String := "GlacierMail$Flood"
def TX5 : u_T := fun k => match k with
  | 0 => ("GlacierMail$Flood", "year", "I", false)
  | 1 => ("GlacierMail$Flood", "row", "I", false)
  | _ => ("GlacierMail$Flood", "n", "I", false)
def tyX5 : Nat → FieldType := fun k => match k with
  | 0 => .int
  | 1 => .int
  | _ => .int
abbrev wsX50 : List Cond := u_ws RX5 TX5 3
theorem nmX5 : ∀ a, a < 3 → ∀ b, b < 3 → a ≠ b → (TX5 a).2.1 ≠ (TX5 b).2.1 := by decide +kernel
theorem tyX5_ok : ∀ k, k < 3 → parseFieldDescriptor (TX5 k).2.2.1 = some (tyX5 k) := by decide +kernel
abbrev cX5_init : ByteArray := prog_5_method_1_code
def yX5_init : MethodName := ⟨RX5, "<init>", "()V"⟩
theorem dX5_init_0 : decode cX5_init 0 = .ok (.aload_n 0, 1) := by decide +kernel
theorem dX5_init_1 : decode cX5_init 1 = .ok (.invokespecial 1, 3) := by decide +kernel
theorem dX5_init_4 : decode cX5_init 4 = .ok (.return_, 1) := by decide +kernel
abbrev cX5_be : ByteArray := prog_5_method_2_code
def yX5_be : MethodName := ⟨RX5, "be", "(LGlacierMail$Flood;)V"⟩
def dkwX5_be_1 : List UInt8 := [177]
abbrev dktX5_be_1 : List UInt8 := dkwX5_be_1 ++ []
def dkwX5_be_0 : List UInt8 := [42, 43, 180, 0, 7, 181, 0, 7, 42, 43, 180, 0, 13, 181, 0, 13, 42, 43, 180, 0, 16, 181, 0, 16]
abbrev dktX5_be_0 : List UInt8 := dkwX5_be_0 ++ dktX5_be_1
theorem dksX5_be_0 : cX5_be.data.toList.drop 0 = dktX5_be_0 := by decide +kernel
theorem dksX5_be_1 : cX5_be.data.toList.drop 24 = dktX5_be_1 := dk_seg dksX5_be_0 24 rfl rfl
theorem dX5_be_0 : decode cX5_be 0 = .ok (.aload_n 0, 1) := dk_42 (dk_at dksX5_be_0 0 rfl rfl)
theorem dX5_be_1 : decode cX5_be 1 = .ok (.aload_n 1, 1) := dk_43 (dk_at dksX5_be_0 1 rfl rfl)
theorem dX5_be_2 : decode cX5_be 2 = .ok (.getfield 7, 3) := dk_180 0 7 (dk_at dksX5_be_0 2 rfl rfl)
theorem dX5_be_5 : decode cX5_be 5 = .ok (.putfield 7, 3) := dk_181 0 7 (dk_at dksX5_be_0 5 rfl rfl)
theorem dX5_be_8 : decode cX5_be 8 = .ok (.aload_n 0, 1) := dk_42 (dk_at dksX5_be_0 8 rfl rfl)
theorem dX5_be_9 : decode cX5_be 9 = .ok (.aload_n 1, 1) := dk_43 (dk_at dksX5_be_0 9 rfl rfl)
theorem dX5_be_10 : decode cX5_be 10 = .ok (.getfield 13, 3) := dk_180 0 13 (dk_at dksX5_be_0 10 rfl rfl)
theorem dX5_be_13 : decode cX5_be 13 = .ok (.putfield 13, 3) := dk_181 0 13 (dk_at dksX5_be_0 13 rfl rfl)
theorem dX5_be_16 : decode cX5_be 16 = .ok (.aload_n 0, 1) := dk_42 (dk_at dksX5_be_0 16 rfl rfl)
theorem dX5_be_17 : decode cX5_be 17 = .ok (.aload_n 1, 1) := dk_43 (dk_at dksX5_be_0 17 rfl rfl)
theorem dX5_be_18 : decode cX5_be 18 = .ok (.getfield 16, 3) := dk_180 0 16 (dk_at dksX5_be_0 18 rfl rfl)
theorem dX5_be_21 : decode cX5_be 21 = .ok (.putfield 16, 3) := dk_181 0 16 (dk_at dksX5_be_0 21 rfl rfl)
theorem dX5_be_24 : decode cX5_be 24 = .ok (.return_, 1) := dk_177 (dk_at dksX5_be_1 0 rfl rfl)
theorem q139 : (Jvm.Cond.initialized "GlacierMail$Flood") ∈ lw_all := lw_g (lw_at lw_m1 5 rfl) rfl
theorem q231 : (Jvm.Cond.instantiable "GlacierMail$Flood" (3 : Nat)) ∈ lw_all := lw_g (lw_at lw_m1 97 rfl) rfl
theorem q233 : (Jvm.Cond.instanceMethod ({ cls := "GlacierMail$Flood", name := "<init>", desc := "()V" } : Jvm.MethodName)) ∈ lw_all := lw_g (lw_at lw_m1 99 rfl) rfl
theorem q234 : (Jvm.Cond.code ({ cls := "GlacierMail$Flood", name := "<init>", desc := "()V" } : Jvm.MethodName) prog_5_method_1_code (1 : Nat) (Option.none : Option Jvm.ClassFile.FieldType)) ∈ lw_all := lw_g (lw_at lw_m1 100 rfl) rfl
theorem q235 : (Jvm.Cond.methodLink "GlacierMail$Flood" (1 : Nat) ({ cls := "java/lang/Object", name := "<init>", desc := "()V" } : Jvm.MethodName)) ∈ lw_all := lw_g (lw_at lw_m1 101 rfl) rfl
theorem q236 : (Jvm.Cond.fieldLink "GlacierMail$Flood" (7 : Nat) "GlacierMail$Flood" "year" "I") ∈ lw_all := lw_g (lw_at lw_m1 102 rfl) rfl
theorem q240 : (Jvm.Cond.fieldLink "GlacierMail$Flood" (13 : Nat) "GlacierMail$Flood" "row" "I") ∈ lw_all := lw_g (lw_at lw_m1 106 rfl) rfl
theorem q243 : (Jvm.Cond.fieldLink "GlacierMail$Flood" (16 : Nat) "GlacierMail$Flood" "n" "I") ∈ lw_all := lw_g (lw_at lw_m1 109 rfl) rfl
theorem q246 : (Jvm.Cond.lays "GlacierMail$Flood" "GlacierMail$Flood" "year" "I") ∈ lw_all := lw_g (lw_at lw_m1 112 rfl) rfl
theorem q247 : (Jvm.Cond.soleField "GlacierMail$Flood" "year") ∈ lw_all := lw_g (lw_at lw_m1 113 rfl) rfl
theorem q248 : (Jvm.Cond.lays "GlacierMail$Flood" "GlacierMail$Flood" "row" "I") ∈ lw_all := lw_g (lw_at lw_m1 114 rfl) rfl
theorem q249 : (Jvm.Cond.soleField "GlacierMail$Flood" "row") ∈ lw_all := lw_g (lw_at lw_m1 115 rfl) rfl
theorem q250 : (Jvm.Cond.lays "GlacierMail$Flood" "GlacierMail$Flood" "n" "I") ∈ lw_all := lw_g (lw_at lw_m1 116 rfl) rfl
theorem q251 : (Jvm.Cond.soleField "GlacierMail$Flood" "n") ∈ lw_all := lw_g (lw_at lw_m1 117 rfl) rfl
theorem q252 : (Jvm.Cond.superclass "GlacierMail$Flood" "java/lang/Object") ∈ lw_all := lw_g (lw_at lw_m1 118 rfl) rfl
theorem q783 : (Jvm.Cond.instanceMethod ({ cls := "GlacierMail$Flood", name := "be", desc := "(LGlacierMail$Flood;)V" } : Jvm.MethodName)) ∈ lw_all := lw_g (lw_at lw_m3 169 rfl) rfl
theorem q784 : (Jvm.Cond.selects "GlacierMail$Flood" ({ cls := "GlacierMail$Flood", name := "be", desc := "(LGlacierMail$Flood;)V" } : Jvm.MethodName) ({ cls := "GlacierMail$Flood", name := "be", desc := "(LGlacierMail$Flood;)V" } : Jvm.MethodName)) ∈ lw_all := lw_g (lw_at lw_m3 170 rfl) rfl
theorem q785 : (Jvm.Cond.code ({ cls := "GlacierMail$Flood", name := "be", desc := "(LGlacierMail$Flood;)V" } : Jvm.MethodName) prog_5_method_2_code (2 : Nat) (Option.none : Option Jvm.ClassFile.FieldType)) ∈ lw_all := lw_g (lw_at lw_m3 171 rfl) rfl
theorem q2283 : (Jvm.Cond.castable "GlacierMail$Flood" "java/lang/Object") ∈ lw_tbl := lw_at lw_m9 229 rfl
theorem in_X5 : ∀ w ∈ wsX50, w ∈ lw_all := lw_in wsX50 [246, 248, 250] (by decide +kernel) (by decide +kernel)
/-! GlacierMail$Person -/
set_option maxRecDepth 100000
def RX6 : String := "GlacierMail$Person"
def TX6 : u_T := fun k => match k with
  | 0 => ("GlacierMail$Person", "lane", "I", false)
  | 1 => ("GlacierMail$Person", "row", "I", false)
  | _ => ("GlacierMail$Person", "watches", "I", false)
def tyX6 : Nat → FieldType := fun k => match k with
  | 0 => .int
  | 1 => .int
  | _ => .int
abbrev wsX60 : List Cond := u_ws RX6 TX6 3
theorem nmX6 : ∀ a, a < 3 → ∀ b, b < 3 → a ≠ b → (TX6 a).2.1 ≠ (TX6 b).2.1 := by decide +kernel
theorem tyX6_ok : ∀ k, k < 3 → parseFieldDescriptor (TX6 k).2.2.1 = some (tyX6 k) := by decide +kernel
abbrev cX6_init : ByteArray := prog_11_method_1_code
def yX6_init : MethodName := ⟨RX6, "<init>", "()V"⟩
theorem dX6_init_0 : decode cX6_init 0 = .ok (.aload_n 0, 1) := by decide +kernel
theorem dX6_init_1 : decode cX6_init 1 = .ok (.invokespecial 1, 3) := by decide +kernel
theorem dX6_init_4 : decode cX6_init 4 = .ok (.return_, 1) := by decide +kernel
abbrev cX6_be : ByteArray := prog_11_method_2_code
def yX6_be : MethodName := ⟨RX6, "be", "(LGlacierMail$Person;)V"⟩
def dkwX6_be_1 : List UInt8 := [177]
abbrev dktX6_be_1 : List UInt8 := dkwX6_be_1 ++ []
def dkwX6_be_0 : List UInt8 := [42, 43, 180, 0, 7, 181, 0, 7, 42, 43, 180, 0, 13, 181, 0, 13, 42, 43, 180, 0, 16, 181, 0, 16]
abbrev dktX6_be_0 : List UInt8 := dkwX6_be_0 ++ dktX6_be_1
theorem dksX6_be_0 : cX6_be.data.toList.drop 0 = dktX6_be_0 := by decide +kernel
theorem dksX6_be_1 : cX6_be.data.toList.drop 24 = dktX6_be_1 := dk_seg dksX6_be_0 24 rfl rfl
theorem dX6_be_0 : decode cX6_be 0 = .ok (.aload_n 0, 1) := dk_42 (dk_at dksX6_be_0 0 rfl rfl)
theorem dX6_be_1 : decode cX6_be 1 = .ok (.aload_n 1, 1) := dk_43 (dk_at dksX6_be_0 1 rfl rfl)
theorem dX6_be_2 : decode cX6_be 2 = .ok (.getfield 7, 3) := dk_180 0 7 (dk_at dksX6_be_0 2 rfl rfl)
theorem dX6_be_5 : decode cX6_be 5 = .ok (.putfield 7, 3) := dk_181 0 7 (dk_at dksX6_be_0 5 rfl rfl)
theorem dX6_be_8 : decode cX6_be 8 = .ok (.aload_n 0, 1) := dk_42 (dk_at dksX6_be_0 8 rfl rfl)
theorem dX6_be_9 : decode cX6_be 9 = .ok (.aload_n 1, 1) := dk_43 (dk_at dksX6_be_0 9 rfl rfl)
theorem dX6_be_10 : decode cX6_be 10 = .ok (.getfield 13, 3) := dk_180 0 13 (dk_at dksX6_be_0 10 rfl rfl)
theorem dX6_be_13 : decode cX6_be 13 = .ok (.putfield 13, 3) := dk_181 0 13 (dk_at dksX6_be_0 13 rfl rfl)
theorem dX6_be_16 : decode cX6_be 16 = .ok (.aload_n 0, 1) := dk_42 (dk_at dksX6_be_0 16 rfl rfl)
theorem dX6_be_17 : decode cX6_be 17 = .ok (.aload_n 1, 1) := dk_43 (dk_at dksX6_be_0 17 rfl rfl)
theorem dX6_be_18 : decode cX6_be 18 = .ok (.getfield 16, 3) := dk_180 0 16 (dk_at dksX6_be_0 18 rfl rfl)
theorem dX6_be_21 : decode cX6_be 21 = .ok (.putfield 16, 3) := dk_181 0 16 (dk_at dksX6_be_0 21 rfl rfl)
theorem dX6_be_24 : decode cX6_be 24 = .ok (.return_, 1) := dk_177 (dk_at dksX6_be_1 0 rfl rfl)
theorem q140 : (Jvm.Cond.initialized "GlacierMail$Person") ∈ lw_all := lw_g (lw_at lw_m1 6 rfl) rfl
theorem q253 : (Jvm.Cond.instantiable "GlacierMail$Person" (3 : Nat)) ∈ lw_all := lw_g (lw_at lw_m1 119 rfl) rfl
theorem q255 : (Jvm.Cond.instanceMethod ({ cls := "GlacierMail$Person", name := "<init>", desc := "()V" } : Jvm.MethodName)) ∈ lw_all := lw_g (lw_at lw_m1 121 rfl) rfl
theorem q256 : (Jvm.Cond.code ({ cls := "GlacierMail$Person", name := "<init>", desc := "()V" } : Jvm.MethodName) prog_11_method_1_code (1 : Nat) (Option.none : Option Jvm.ClassFile.FieldType)) ∈ lw_all := lw_g (lw_at lw_m1 122 rfl) rfl
theorem q257 : (Jvm.Cond.methodLink "GlacierMail$Person" (1 : Nat) ({ cls := "java/lang/Object", name := "<init>", desc := "()V" } : Jvm.MethodName)) ∈ lw_all := lw_g (lw_at lw_m1 123 rfl) rfl
theorem q258 : (Jvm.Cond.fieldLink "GlacierMail$Person" (7 : Nat) "GlacierMail$Person" "lane" "I") ∈ lw_all := lw_g (lw_at lw_m1 124 rfl) rfl
theorem q261 : (Jvm.Cond.fieldLink "GlacierMail$Person" (13 : Nat) "GlacierMail$Person" "row" "I") ∈ lw_all := lw_g (lw_at lw_m1 127 rfl) rfl
theorem q264 : (Jvm.Cond.fieldLink "GlacierMail$Person" (16 : Nat) "GlacierMail$Person" "watches" "I") ∈ lw_all := lw_g (lw_at lw_m1 130 rfl) rfl
theorem q267 : (Jvm.Cond.lays "GlacierMail$Person" "GlacierMail$Person" "lane" "I") ∈ lw_all := lw_g (lw_at lw_m1 133 rfl) rfl
theorem q268 : (Jvm.Cond.soleField "GlacierMail$Person" "lane") ∈ lw_all := lw_g (lw_at lw_m1 134 rfl) rfl
theorem q269 : (Jvm.Cond.lays "GlacierMail$Person" "GlacierMail$Person" "row" "I") ∈ lw_all := lw_g (lw_at lw_m1 135 rfl) rfl
theorem q270 : (Jvm.Cond.soleField "GlacierMail$Person" "row") ∈ lw_all := lw_g (lw_at lw_m1 136 rfl) rfl
theorem q271 : (Jvm.Cond.lays "GlacierMail$Person" "GlacierMail$Person" "watches" "I") ∈ lw_all := lw_g (lw_at lw_m1 137 rfl) rfl
theorem q272 : (Jvm.Cond.soleField "GlacierMail$Person" "watches") ∈ lw_all := lw_g (lw_at lw_m1 138 rfl) rfl
theorem q273 : (Jvm.Cond.superclass "GlacierMail$Person" "java/lang/Object") ∈ lw_all := lw_g (lw_at lw_m1 139 rfl) rfl
theorem q787 : (Jvm.Cond.instanceMethod ({ cls := "GlacierMail$Person", name := "be", desc := "(LGlacierMail$Person;)V" } : Jvm.MethodName)) ∈ lw_all := lw_g (lw_at lw_m3 173 rfl) rfl
theorem q788 : (Jvm.Cond.selects "GlacierMail$Person" ({ cls := "GlacierMail$Person", name := "be", desc := "(LGlacierMail$Person;)V" } : Jvm.MethodName) ({ cls := "GlacierMail$Person", name := "be", desc := "(LGlacierMail$Person;)V" } : Jvm.MethodName)) ∈ lw_all := lw_g (lw_at lw_m3 174 rfl) rfl
theorem q789 : (Jvm.Cond.code ({ cls := "GlacierMail$Person", name := "be", desc := "(LGlacierMail$Person;)V" } : Jvm.MethodName) prog_11_method_2_code (2 : Nat) (Option.none : Option Jvm.ClassFile.FieldType)) ∈ lw_all := lw_g (lw_at lw_m3 175 rfl) rfl
theorem q2284 : (Jvm.Cond.castable "GlacierMail$Person" "java/lang/Object") ∈ lw_tbl := lw_at lw_m9 230 rfl
theorem in_X6 : ∀ w ∈ wsX60, w ∈ lw_all := lw_in wsX60 [267, 269, 271] (by decide +kernel) (by decide +kernel)
/-! GlacierMail$Letter -/
set_option maxRecDepth 100000
def RX7 : String := "GlacierMail$Letter"
def TX7 : u_T := fun k => match k with
  | 0 => ("GlacierMail$Letter", "from", "I", false)
  | 1 => ("GlacierMail$Letter", "to", "I", false)
  | 2 => ("GlacierMail$Letter", "lane", "I", false)
  | 3 => ("GlacierMail$Letter", "row", "I", false)
  | 4 => ("GlacierMail$Letter", "year", "I", false)
  | 5 => ("GlacierMail$Letter", "by", "I", false)
  | _ => ("GlacierMail$Letter", "opened", "I", false)
def tyX7 : Nat → FieldType := fun k => match k with
  | 0 => .int
  | 1 => .int
  | 2 => .int
  | 3 => .int
  | 4 => .int
  | 5 => .int
  | _ => .int
abbrev wsX70 : List Cond := u_ws RX7 TX7 7
theorem nmX7 : ∀ a, a < 7 → ∀ b, b < 7 → a ≠ b → (TX7 a).2.1 ≠ (TX7 b).2.1 := by decide +kernel
theorem tyX7_ok : ∀ k, k < 7 → parseFieldDescriptor (TX7 k).2.2.1 = some (tyX7 k) := by decide +kernel
abbrev cX7_init : ByteArray := prog_7_method_1_code
def yX7_init : MethodName := ⟨RX7, "<init>", "()V"⟩
theorem dX7_init_0 : decode cX7_init 0 = .ok (.aload_n 0, 1) := by decide +kernel
theorem dX7_init_1 : decode cX7_init 1 = .ok (.invokespecial 3, 3) := by decide +kernel
theorem dX7_init_4 : decode cX7_init 4 = .ok (.return_, 1) := by decide +kernel
abbrev cX7_isRock : ByteArray := prog_7_method_4_code
def yX7_isRock : MethodName := ⟨RX7, "isRock", "()Z"⟩
def dkwX7_isRock_0 : List UInt8 := [42, 180, 0, 15, 2, 160, 0, 7, 4, 167, 0, 4, 3, 172]
abbrev dktX7_isRock_0 : List UInt8 := dkwX7_isRock_0 ++ []
theorem dksX7_isRock_0 : cX7_isRock.data.toList.drop 0 = dktX7_isRock_0 := by decide +kernel
theorem dX7_isRock_0 : decode cX7_isRock 0 = .ok (.aload_n 0, 1) := dk_42 (dk_at dksX7_isRock_0 0 rfl rfl)
theorem dX7_isRock_1 : decode cX7_isRock 1 = .ok (.getfield 15, 3) := dk_180 0 15 (dk_at dksX7_isRock_0 1 rfl rfl)
theorem dX7_isRock_4 : decode cX7_isRock 4 = .ok (.iconst (-1), 1) := dk_2 (dk_at dksX7_isRock_0 4 rfl rfl)
theorem dX7_isRock_5 : decode cX7_isRock 5 = .ok (.if_icmp .ne 7, 3) := dk_160 0 7 (dk_at dksX7_isRock_0 5 rfl rfl)
theorem dX7_isRock_8 : decode cX7_isRock 8 = .ok (.iconst 1, 1) := dk_4 (dk_at dksX7_isRock_0 8 rfl rfl)
theorem dX7_isRock_9 : decode cX7_isRock 9 = .ok (.goto 4, 3) := dk_167 0 4 (dk_at dksX7_isRock_0 9 rfl rfl)
theorem dX7_isRock_12 : decode cX7_isRock 12 = .ok (.iconst 0, 1) := dk_3 (dk_at dksX7_isRock_0 12 rfl rfl)
theorem dX7_isRock_13 : decode cX7_isRock 13 = .ok (.ireturn, 1) := dk_172 (dk_at dksX7_isRock_0 13 rfl rfl)
abbrev cX7_be : ByteArray := prog_7_method_2_code
def yX7_be : MethodName := ⟨RX7, "be", "(LGlacierMail$Letter;)V"⟩
def dkwX7_be_2 : List UInt8 := [42, 43, 180, 0, 30, 181, 0, 30, 177]
abbrev dktX7_be_2 : List UInt8 := dkwX7_be_2 ++ []
def dkwX7_be_1 : List UInt8 := [42, 43, 180, 0, 21, 181, 0, 21, 42, 43, 180, 0, 24, 181, 0, 24, 42, 43, 180, 0, 27, 181, 0, 27]
abbrev dktX7_be_1 : List UInt8 := dkwX7_be_1 ++ dktX7_be_2
def dkwX7_be_0 : List UInt8 := [42, 43, 180, 0, 9, 181, 0, 9, 42, 43, 180, 0, 15, 181, 0, 15, 42, 43, 180, 0, 18, 181, 0, 18]
abbrev dktX7_be_0 : List UInt8 := dkwX7_be_0 ++ dktX7_be_1
theorem dksX7_be_0 : cX7_be.data.toList.drop 0 = dktX7_be_0 := by decide +kernel
theorem dksX7_be_1 : cX7_be.data.toList.drop 24 = dktX7_be_1 := dk_seg dksX7_be_0 24 rfl rfl
theorem dksX7_be_2 : cX7_be.data.toList.drop 48 = dktX7_be_2 := dk_seg dksX7_be_1 24 rfl rfl
theorem dX7_be_0 : decode cX7_be 0 = .ok (.aload_n 0, 1) := dk_42 (dk_at dksX7_be_0 0 rfl rfl)
theorem dX7_be_1 : decode cX7_be 1 = .ok (.aload_n 1, 1) := dk_43 (dk_at dksX7_be_0 1 rfl rfl)
theorem dX7_be_2 : decode cX7_be 2 = .ok (.getfield 9, 3) := dk_180 0 9 (dk_at dksX7_be_0 2 rfl rfl)
theorem dX7_be_5 : decode cX7_be 5 = .ok (.putfield 9, 3) := dk_181 0 9 (dk_at dksX7_be_0 5 rfl rfl)
theorem dX7_be_8 : decode cX7_be 8 = .ok (.aload_n 0, 1) := dk_42 (dk_at dksX7_be_0 8 rfl rfl)
theorem dX7_be_9 : decode cX7_be 9 = .ok (.aload_n 1, 1) := dk_43 (dk_at dksX7_be_0 9 rfl rfl)
theorem dX7_be_10 : decode cX7_be 10 = .ok (.getfield 15, 3) := dk_180 0 15 (dk_at dksX7_be_0 10 rfl rfl)
theorem dX7_be_13 : decode cX7_be 13 = .ok (.putfield 15, 3) := dk_181 0 15 (dk_at dksX7_be_0 13 rfl rfl)
theorem dX7_be_16 : decode cX7_be 16 = .ok (.aload_n 0, 1) := dk_42 (dk_at dksX7_be_0 16 rfl rfl)
theorem dX7_be_17 : decode cX7_be 17 = .ok (.aload_n 1, 1) := dk_43 (dk_at dksX7_be_0 17 rfl rfl)
theorem dX7_be_18 : decode cX7_be 18 = .ok (.getfield 18, 3) := dk_180 0 18 (dk_at dksX7_be_0 18 rfl rfl)
theorem dX7_be_21 : decode cX7_be 21 = .ok (.putfield 18, 3) := dk_181 0 18 (dk_at dksX7_be_0 21 rfl rfl)
theorem dX7_be_24 : decode cX7_be 24 = .ok (.aload_n 0, 1) := dk_42 (dk_at dksX7_be_1 0 rfl rfl)
theorem dX7_be_25 : decode cX7_be 25 = .ok (.aload_n 1, 1) := dk_43 (dk_at dksX7_be_1 1 rfl rfl)
theorem dX7_be_26 : decode cX7_be 26 = .ok (.getfield 21, 3) := dk_180 0 21 (dk_at dksX7_be_1 2 rfl rfl)
theorem dX7_be_29 : decode cX7_be 29 = .ok (.putfield 21, 3) := dk_181 0 21 (dk_at dksX7_be_1 5 rfl rfl)
theorem dX7_be_32 : decode cX7_be 32 = .ok (.aload_n 0, 1) := dk_42 (dk_at dksX7_be_1 8 rfl rfl)
theorem dX7_be_33 : decode cX7_be 33 = .ok (.aload_n 1, 1) := dk_43 (dk_at dksX7_be_1 9 rfl rfl)
theorem dX7_be_34 : decode cX7_be 34 = .ok (.getfield 24, 3) := dk_180 0 24 (dk_at dksX7_be_1 10 rfl rfl)
theorem dX7_be_37 : decode cX7_be 37 = .ok (.putfield 24, 3) := dk_181 0 24 (dk_at dksX7_be_1 13 rfl rfl)
theorem dX7_be_40 : decode cX7_be 40 = .ok (.aload_n 0, 1) := dk_42 (dk_at dksX7_be_1 16 rfl rfl)
theorem dX7_be_41 : decode cX7_be 41 = .ok (.aload_n 1, 1) := dk_43 (dk_at dksX7_be_1 17 rfl rfl)
theorem dX7_be_42 : decode cX7_be 42 = .ok (.getfield 27, 3) := dk_180 0 27 (dk_at dksX7_be_1 18 rfl rfl)
theorem dX7_be_45 : decode cX7_be 45 = .ok (.putfield 27, 3) := dk_181 0 27 (dk_at dksX7_be_1 21 rfl rfl)
theorem dX7_be_48 : decode cX7_be 48 = .ok (.aload_n 0, 1) := dk_42 (dk_at dksX7_be_2 0 rfl rfl)
theorem dX7_be_49 : decode cX7_be 49 = .ok (.aload_n 1, 1) := dk_43 (dk_at dksX7_be_2 1 rfl rfl)
theorem dX7_be_50 : decode cX7_be 50 = .ok (.getfield 30, 3) := dk_180 0 30 (dk_at dksX7_be_2 2 rfl rfl)
theorem dX7_be_53 : decode cX7_be 53 = .ok (.putfield 30, 3) := dk_181 0 30 (dk_at dksX7_be_2 5 rfl rfl)
theorem dX7_be_56 : decode cX7_be 56 = .ok (.return_, 1) := dk_177 (dk_at dksX7_be_2 8 rfl rfl)
abbrev cX7_tell : ByteArray := prog_7_method_3_code
def yX7_tell : MethodName := ⟨RX7, "tell", "(IIIII)LGlacierMail$Letter;"⟩
def dkwX7_tell_1 : List UInt8 := [181, 0, 24, 42, 2, 181, 0, 27, 42, 2, 181, 0, 30, 42, 176]
abbrev dktX7_tell_1 : List UInt8 := dkwX7_tell_1 ++ []
def dkwX7_tell_0 : List UInt8 := [42, 27, 181, 0, 9, 42, 28, 181, 0, 15, 42, 29, 181, 0, 18, 42, 21, 4, 181, 0, 21, 42, 21, 5]
abbrev dktX7_tell_0 : List UInt8 := dkwX7_tell_0 ++ dktX7_tell_1
theorem dksX7_tell_0 : cX7_tell.data.toList.drop 0 = dktX7_tell_0 := by decide +kernel
theorem dksX7_tell_1 : cX7_tell.data.toList.drop 24 = dktX7_tell_1 := dk_seg dksX7_tell_0 24 rfl rfl
theorem dX7_tell_0 : decode cX7_tell 0 = .ok (.aload_n 0, 1) := dk_42 (dk_at dksX7_tell_0 0 rfl rfl)
theorem dX7_tell_1 : decode cX7_tell 1 = .ok (.iload_n 1, 1) := dk_27 (dk_at dksX7_tell_0 1 rfl rfl)
theorem dX7_tell_2 : decode cX7_tell 2 = .ok (.putfield 9, 3) := dk_181 0 9 (dk_at dksX7_tell_0 2 rfl rfl)
theorem dX7_tell_5 : decode cX7_tell 5 = .ok (.aload_n 0, 1) := dk_42 (dk_at dksX7_tell_0 5 rfl rfl)
theorem dX7_tell_6 : decode cX7_tell 6 = .ok (.iload_n 2, 1) := dk_28 (dk_at dksX7_tell_0 6 rfl rfl)
theorem dX7_tell_7 : decode cX7_tell 7 = .ok (.putfield 15, 3) := dk_181 0 15 (dk_at dksX7_tell_0 7 rfl rfl)
theorem dX7_tell_10 : decode cX7_tell 10 = .ok (.aload_n 0, 1) := dk_42 (dk_at dksX7_tell_0 10 rfl rfl)
theorem dX7_tell_11 : decode cX7_tell 11 = .ok (.iload_n 3, 1) := dk_29 (dk_at dksX7_tell_0 11 rfl rfl)
theorem dX7_tell_12 : decode cX7_tell 12 = .ok (.putfield 18, 3) := dk_181 0 18 (dk_at dksX7_tell_0 12 rfl rfl)
theorem dX7_tell_15 : decode cX7_tell 15 = .ok (.aload_n 0, 1) := dk_42 (dk_at dksX7_tell_0 15 rfl rfl)
theorem dX7_tell_16 : decode cX7_tell 16 = .ok (.iload 4, 2) := dk_21 4 (dk_at dksX7_tell_0 16 rfl rfl)
theorem dX7_tell_18 : decode cX7_tell 18 = .ok (.putfield 21, 3) := dk_181 0 21 (dk_at dksX7_tell_0 18 rfl rfl)
theorem dX7_tell_21 : decode cX7_tell 21 = .ok (.aload_n 0, 1) := dk_42 (dk_at dksX7_tell_0 21 rfl rfl)
theorem dX7_tell_22 : decode cX7_tell 22 = .ok (.iload 5, 2) := dk_21 5 (dk_at dksX7_tell_0 22 rfl rfl)
theorem dX7_tell_24 : decode cX7_tell 24 = .ok (.putfield 24, 3) := dk_181 0 24 (dk_at dksX7_tell_1 0 rfl rfl)
theorem dX7_tell_27 : decode cX7_tell 27 = .ok (.aload_n 0, 1) := dk_42 (dk_at dksX7_tell_1 3 rfl rfl)
theorem dX7_tell_28 : decode cX7_tell 28 = .ok (.iconst (-1), 1) := dk_2 (dk_at dksX7_tell_1 4 rfl rfl)
theorem dX7_tell_29 : decode cX7_tell 29 = .ok (.putfield 27, 3) := dk_181 0 27 (dk_at dksX7_tell_1 5 rfl rfl)
theorem dX7_tell_32 : decode cX7_tell 32 = .ok (.aload_n 0, 1) := dk_42 (dk_at dksX7_tell_1 8 rfl rfl)
theorem dX7_tell_33 : decode cX7_tell 33 = .ok (.iconst (-1), 1) := dk_2 (dk_at dksX7_tell_1 9 rfl rfl)
theorem dX7_tell_34 : decode cX7_tell 34 = .ok (.putfield 30, 3) := dk_181 0 30 (dk_at dksX7_tell_1 10 rfl rfl)
theorem dX7_tell_37 : decode cX7_tell 37 = .ok (.aload_n 0, 1) := dk_42 (dk_at dksX7_tell_1 13 rfl rfl)
theorem dX7_tell_38 : decode cX7_tell 38 = .ok (.areturn, 1) := dk_176 (dk_at dksX7_tell_1 14 rfl rfl)
theorem q141 : (Jvm.Cond.initialized "GlacierMail$Letter") ∈ lw_all := lw_g (lw_at lw_m1 7 rfl) rfl
theorem q274 : (Jvm.Cond.instantiable "GlacierMail$Letter" (7 : Nat)) ∈ lw_all := lw_g (lw_at lw_m1 140 rfl) rfl
theorem q276 : (Jvm.Cond.instanceMethod ({ cls := "GlacierMail$Letter", name := "<init>", desc := "()V" } : Jvm.MethodName)) ∈ lw_all := lw_g (lw_at lw_m1 142 rfl) rfl
theorem q277 : (Jvm.Cond.code ({ cls := "GlacierMail$Letter", name := "<init>", desc := "()V" } : Jvm.MethodName) prog_7_method_1_code (1 : Nat) (Option.none : Option Jvm.ClassFile.FieldType)) ∈ lw_all := lw_g (lw_at lw_m1 143 rfl) rfl
theorem q278 : (Jvm.Cond.methodLink "GlacierMail$Letter" (3 : Nat) ({ cls := "java/lang/Object", name := "<init>", desc := "()V" } : Jvm.MethodName)) ∈ lw_all := lw_g (lw_at lw_m1 144 rfl) rfl
theorem q279 : (Jvm.Cond.fieldLink "GlacierMail$Letter" (9 : Nat) "GlacierMail$Letter" "from" "I") ∈ lw_all := lw_g (lw_at lw_m1 145 rfl) rfl
theorem q281 : (Jvm.Cond.fieldLink "GlacierMail$Letter" (15 : Nat) "GlacierMail$Letter" "to" "I") ∈ lw_all := lw_g (lw_at lw_m1 147 rfl) rfl
theorem q283 : (Jvm.Cond.fieldLink "GlacierMail$Letter" (18 : Nat) "GlacierMail$Letter" "lane" "I") ∈ lw_all := lw_g (lw_at lw_m1 149 rfl) rfl
theorem q287 : (Jvm.Cond.fieldLink "GlacierMail$Letter" (21 : Nat) "GlacierMail$Letter" "row" "I") ∈ lw_all := lw_g (lw_at lw_m1 153 rfl) rfl
theorem q290 : (Jvm.Cond.fieldLink "GlacierMail$Letter" (24 : Nat) "GlacierMail$Letter" "year" "I") ∈ lw_all := lw_g (lw_at lw_m1 156 rfl) rfl
theorem q294 : (Jvm.Cond.fieldLink "GlacierMail$Letter" (27 : Nat) "GlacierMail$Letter" "by" "I") ∈ lw_all := lw_g (lw_at lw_m1 160 rfl) rfl
theorem q297 : (Jvm.Cond.fieldLink "GlacierMail$Letter" (30 : Nat) "GlacierMail$Letter" "opened" "I") ∈ lw_all := lw_g (lw_at lw_m1 163 rfl) rfl
theorem q300 : (Jvm.Cond.lays "GlacierMail$Letter" "GlacierMail$Letter" "from" "I") ∈ lw_all := lw_g (lw_at lw_m1 166 rfl) rfl
theorem q301 : (Jvm.Cond.soleField "GlacierMail$Letter" "from") ∈ lw_all := lw_g (lw_at lw_m1 167 rfl) rfl
theorem q302 : (Jvm.Cond.lays "GlacierMail$Letter" "GlacierMail$Letter" "to" "I") ∈ lw_all := lw_g (lw_at lw_m1 168 rfl) rfl
theorem q303 : (Jvm.Cond.soleField "GlacierMail$Letter" "to") ∈ lw_all := lw_g (lw_at lw_m1 169 rfl) rfl
theorem q304 : (Jvm.Cond.lays "GlacierMail$Letter" "GlacierMail$Letter" "lane" "I") ∈ lw_all := lw_g (lw_at lw_m1 170 rfl) rfl
theorem q305 : (Jvm.Cond.soleField "GlacierMail$Letter" "lane") ∈ lw_all := lw_g (lw_at lw_m1 171 rfl) rfl
theorem q306 : (Jvm.Cond.lays "GlacierMail$Letter" "GlacierMail$Letter" "row" "I") ∈ lw_all := lw_g (lw_at lw_m1 172 rfl) rfl
theorem q307 : (Jvm.Cond.soleField "GlacierMail$Letter" "row") ∈ lw_all := lw_g (lw_at lw_m1 173 rfl) rfl
theorem q308 : (Jvm.Cond.lays "GlacierMail$Letter" "GlacierMail$Letter" "year" "I") ∈ lw_all := lw_g (lw_at lw_m1 174 rfl) rfl
theorem q309 : (Jvm.Cond.soleField "GlacierMail$Letter" "year") ∈ lw_all := lw_g (lw_at lw_m1 175 rfl) rfl
theorem q310 : (Jvm.Cond.lays "GlacierMail$Letter" "GlacierMail$Letter" "by" "I") ∈ lw_all := lw_g (lw_at lw_m1 176 rfl) rfl
theorem q311 : (Jvm.Cond.soleField "GlacierMail$Letter" "by") ∈ lw_all := lw_g (lw_at lw_m1 177 rfl) rfl
theorem q312 : (Jvm.Cond.lays "GlacierMail$Letter" "GlacierMail$Letter" "opened" "I") ∈ lw_all := lw_g (lw_at lw_m1 178 rfl) rfl
theorem q313 : (Jvm.Cond.soleField "GlacierMail$Letter" "opened") ∈ lw_all := lw_g (lw_at lw_m1 179 rfl) rfl
theorem q314 : (Jvm.Cond.superclass "GlacierMail$Letter" "java/lang/Object") ∈ lw_all := lw_g (lw_at lw_m1 180 rfl) rfl
theorem q654 : (Jvm.Cond.instanceMethod ({ cls := "GlacierMail$Letter", name := "isRock", desc := "()Z" } : Jvm.MethodName)) ∈ lw_all := lw_g (lw_at lw_m3 40 rfl) rfl
theorem q655 : (Jvm.Cond.selects "GlacierMail$Letter" ({ cls := "GlacierMail$Letter", name := "isRock", desc := "()Z" } : Jvm.MethodName) ({ cls := "GlacierMail$Letter", name := "isRock", desc := "()Z" } : Jvm.MethodName)) ∈ lw_all := lw_g (lw_at lw_m3 41 rfl) rfl
theorem q656 : (Jvm.Cond.code ({ cls := "GlacierMail$Letter", name := "isRock", desc := "()Z" } : Jvm.MethodName) prog_7_method_4_code (1 : Nat) (Option.some Jvm.ClassFile.FieldType.boolean)) ∈ lw_all := lw_g (lw_at lw_m3 42 rfl) rfl
theorem q791 : (Jvm.Cond.instanceMethod ({ cls := "GlacierMail$Letter", name := "be", desc := "(LGlacierMail$Letter;)V" } : Jvm.MethodName)) ∈ lw_all := lw_g (lw_at lw_m3 177 rfl) rfl
theorem q792 : (Jvm.Cond.selects "GlacierMail$Letter" ({ cls := "GlacierMail$Letter", name := "be", desc := "(LGlacierMail$Letter;)V" } : Jvm.MethodName) ({ cls := "GlacierMail$Letter", name := "be", desc := "(LGlacierMail$Letter;)V" } : Jvm.MethodName)) ∈ lw_all := lw_g (lw_at lw_m3 178 rfl) rfl
theorem q793 : (Jvm.Cond.code ({ cls := "GlacierMail$Letter", name := "be", desc := "(LGlacierMail$Letter;)V" } : Jvm.MethodName) prog_7_method_2_code (2 : Nat) (Option.none : Option Jvm.ClassFile.FieldType)) ∈ lw_all := lw_g (lw_at lw_m3 179 rfl) rfl
theorem q957 : (Jvm.Cond.instanceMethod ({ cls := "GlacierMail$Letter", name := "tell", desc := "(IIIII)LGlacierMail$Letter;" } : Jvm.MethodName)) ∈ lw_all := lw_g (lw_at lw_m4 103 rfl) rfl
theorem q958 : (Jvm.Cond.selects "GlacierMail$Letter" ({ cls := "GlacierMail$Letter", name := "tell", desc := "(IIIII)LGlacierMail$Letter;" } : Jvm.MethodName) ({ cls := "GlacierMail$Letter", name := "tell", desc := "(IIIII)LGlacierMail$Letter;" } : Jvm.MethodName)) ∈ lw_all := lw_g (lw_at lw_m4 104 rfl) rfl
theorem q959 : (Jvm.Cond.code ({ cls := "GlacierMail$Letter", name := "tell", desc := "(IIIII)LGlacierMail$Letter;" } : Jvm.MethodName) prog_7_method_3_code (6 : Nat) (Option.some (Jvm.ClassFile.FieldType.object "GlacierMail$Letter"))) ∈ lw_all := lw_g (lw_at lw_m4 105 rfl) rfl
theorem q2285 : (Jvm.Cond.castable "GlacierMail$Letter" "java/lang/Object") ∈ lw_tbl := lw_at lw_m9 231 rfl
theorem in_X7 : ∀ w ∈ wsX70, w ∈ lw_all := lw_in wsX70 [300, 302, 304, 306, 308, 310, 312] (by decide +kernel) (by decide +kernel)
/-! GlacierMail$Wrong -/
set_option maxRecDepth 100000
def RX8 : String := "GlacierMail$Wrong"
def TX8 : u_T := fun k => match k with
  | 0 => ("java/lang/Throwable", "cause", "Ljava/lang/Throwable;", false)
  | 1 => ("java/lang/Throwable", "stackTrace", "[Ljava/lang/StackTraceElement;", false)
  | 2 => ("java/lang/Throwable", "suppressedExceptions", "Ljava/util/List;", false)
  | 3 => ("java/lang/Throwable", "detailMessage", "Ljava/lang/String;", false)
  | 4 => ("java/lang/Throwable", "backtrace", "Ljava/lang/Object;", false)
  | 5 => ("java/lang/Throwable", "depth", "I", false)
  | _ => ("GlacierMail$Wrong", "place", "I", false)
def tyX8 : Nat → FieldType := fun k => match k with
  | 0 => .object "java/lang/Throwable"
  | 1 => .array (.object "java/lang/StackTraceElement")
  | 2 => .object "java/util/List"
  | 3 => .object "java/lang/String"
  | 4 => .object "java/lang/Object"
  | 5 => .int
  | _ => .int
abbrev wsX80 : List Cond := u_ws RX8 TX8 7
theorem nmX8 : ∀ a, a < 7 → ∀ b, b < 7 → a ≠ b → (TX8 a).2.1 ≠ (TX8 b).2.1 := by decide +kernel
theorem tyX8_ok : ∀ k, k < 7 → parseFieldDescriptor (TX8 k).2.2.1 = some (tyX8 k) := by decide +kernel
abbrev cX8_init : ByteArray := prog_18_method_1_code
def yX8_init : MethodName := ⟨RX8, "<init>", "()V"⟩
def dkwX8_init_0 : List UInt8 := [42, 1, 1, 3, 3, 183, 0, 1, 177]
abbrev dktX8_init_0 : List UInt8 := dkwX8_init_0 ++ []
theorem dksX8_init_0 : cX8_init.data.toList.drop 0 = dktX8_init_0 := by decide +kernel
theorem dX8_init_0 : decode cX8_init 0 = .ok (.aload_n 0, 1) := dk_42 (dk_at dksX8_init_0 0 rfl rfl)
theorem dX8_init_1 : decode cX8_init 1 = .ok (.aconst_null, 1) := dk_1 (dk_at dksX8_init_0 1 rfl rfl)
theorem dX8_init_2 : decode cX8_init 2 = .ok (.aconst_null, 1) := dk_1 (dk_at dksX8_init_0 2 rfl rfl)
theorem dX8_init_3 : decode cX8_init 3 = .ok (.iconst 0, 1) := dk_3 (dk_at dksX8_init_0 3 rfl rfl)
theorem dX8_init_4 : decode cX8_init 4 = .ok (.iconst 0, 1) := dk_3 (dk_at dksX8_init_0 4 rfl rfl)
theorem dX8_init_5 : decode cX8_init 5 = .ok (.invokespecial 1, 3) := dk_183 0 1 (dk_at dksX8_init_0 5 rfl rfl)
theorem dX8_init_8 : decode cX8_init 8 = .ok (.return_, 1) := dk_177 (dk_at dksX8_init_0 8 rfl rfl)
theorem q145 : (Jvm.Cond.initialized "GlacierMail$Wrong") ∈ lw_all := lw_g (lw_at lw_m1 11 rfl) rfl
theorem q434 : (Jvm.Cond.instantiable "GlacierMail$Wrong" (7 : Nat)) ∈ lw_all := lw_g (lw_at lw_m2 60 rfl) rfl
theorem q435 : (Jvm.Cond.castable "GlacierMail$Wrong" "GlacierMail$Wrong") ∈ lw_tbl := lw_at lw_m2 61 rfl
theorem q442 : (Jvm.Cond.selects "GlacierMail$Wrong" ({ cls := "java/lang/Throwable", name := "fillInStackTrace", desc := "(I)Ljava/lang/Throwable;" } : Jvm.MethodName) ({ cls := "java/lang/Throwable", name := "fillInStackTrace", desc := "(I)Ljava/lang/Throwable;" } : Jvm.MethodName)) ∈ lw_all := lw_g (lw_at lw_m2 68 rfl) rfl
theorem q443 : (Jvm.Cond.selects "GlacierMail$Wrong" ({ cls := "java/lang/Throwable", name := "fillInStackTrace", desc := "()Ljava/lang/Throwable;" } : Jvm.MethodName) ({ cls := "java/lang/Throwable", name := "fillInStackTrace", desc := "()Ljava/lang/Throwable;" } : Jvm.MethodName)) ∈ lw_all := lw_g (lw_at lw_m2 69 rfl) rfl
theorem q444 : (Jvm.Cond.lays "GlacierMail$Wrong" "java/lang/Throwable" "cause" "Ljava/lang/Throwable;") ∈ lw_all := lw_g (lw_at lw_m2 70 rfl) rfl
theorem q446 : (Jvm.Cond.lays "GlacierMail$Wrong" "java/lang/Throwable" "stackTrace" "[Ljava/lang/StackTraceElement;") ∈ lw_all := lw_g (lw_at lw_m2 72 rfl) rfl
theorem q448 : (Jvm.Cond.lays "GlacierMail$Wrong" "java/lang/Throwable" "suppressedExceptions" "Ljava/util/List;") ∈ lw_all := lw_g (lw_at lw_m2 74 rfl) rfl
theorem q450 : (Jvm.Cond.lays "GlacierMail$Wrong" "java/lang/Throwable" "detailMessage" "Ljava/lang/String;") ∈ lw_all := lw_g (lw_at lw_m2 76 rfl) rfl
theorem q452 : (Jvm.Cond.lays "GlacierMail$Wrong" "java/lang/Throwable" "backtrace" "Ljava/lang/Object;") ∈ lw_all := lw_g (lw_at lw_m2 78 rfl) rfl
theorem q479 : (Jvm.Cond.instanceMethod ({ cls := "GlacierMail$Wrong", name := "<init>", desc := "()V" } : Jvm.MethodName)) ∈ lw_all := lw_g (lw_at lw_m2 105 rfl) rfl
theorem q480 : (Jvm.Cond.code ({ cls := "GlacierMail$Wrong", name := "<init>", desc := "()V" } : Jvm.MethodName) prog_18_method_1_code (1 : Nat) (Option.none : Option Jvm.ClassFile.FieldType)) ∈ lw_all := lw_g (lw_at lw_m2 106 rfl) rfl
theorem q481 : (Jvm.Cond.methodLink "GlacierMail$Wrong" (1 : Nat) ({ cls := "java/lang/RuntimeException", name := "<init>", desc := "(Ljava/lang/String;Ljava/lang/Throwable;ZZ)V" } : Jvm.MethodName)) ∈ lw_all := lw_g (lw_at lw_m2 107 rfl) rfl
theorem q497 : (Jvm.Cond.lays "GlacierMail$Wrong" "GlacierMail$Wrong" "place" "I") ∈ lw_all := lw_g (lw_at lw_m2 123 rfl) rfl
theorem q498 : (Jvm.Cond.soleField "GlacierMail$Wrong" "place") ∈ lw_all := lw_g (lw_at lw_m2 124 rfl) rfl
theorem q503 : (Jvm.Cond.lays "GlacierMail$Wrong" "java/lang/Throwable" "depth" "I") ∈ lw_all := lw_g (lw_at lw_m2 129 rfl) rfl
theorem q506 : (Jvm.Cond.superclass "GlacierMail$Wrong" "java/lang/RuntimeException") ∈ lw_all := lw_g (lw_at lw_m2 132 rfl) rfl
theorem q2286 : (Jvm.Cond.castable "GlacierMail$Wrong" "java/lang/Object") ∈ lw_tbl := lw_at lw_m9 232 rfl
theorem in_X8 : ∀ w ∈ wsX80, w ∈ lw_all := lw_in wsX80 [444, 446, 448, 450, 452, 503, 497] (by decide +kernel) (by decide +kernel)
/-! GlacierMail$Trip -/
set_option maxRecDepth 100000
def RX9 : String := "GlacierMail$Trip"
def TX9 : u_T := fun k => match k with
  | 0 => ("GlacierMail$Trip", "rows", "[I", true)
  | 1 => ("GlacierMail$Trip", "deeps", "[I", true)
  | 2 => ("GlacierMail$Trip", "from", "I", false)
  | 3 => ("GlacierMail$Trip", "out", "I", false)
  | _ => ("GlacierMail$Trip", "this$0", "LGlacierMail;", true)
def tyX9 : Nat → FieldType := fun k => match k with
  | 0 => .array .int
  | 1 => .array .int
  | 2 => .int
  | 3 => .int
  | _ => .object "GlacierMail"
abbrev wsX90 : List Cond := u_ws RX9 TX9 5
theorem nmX9 : ∀ a, a < 5 → ∀ b, b < 5 → a ≠ b → (TX9 a).2.1 ≠ (TX9 b).2.1 := by decide +kernel
theorem tyX9_ok : ∀ k, k < 5 → parseFieldDescriptor (TX9 k).2.2.1 = some (tyX9 k) := by decide +kernel
abbrev cX9_init : ByteArray := prog_17_method_1_code
def yX9_init : MethodName := ⟨RX9, "<init>", "(LGlacierMail;)V"⟩
def dkwX9_init_1 : List UInt8 := [181, 0, 19, 177]
abbrev dktX9_init_1 : List UInt8 := dkwX9_init_1 ++ []
def dkwX9_init_0 : List UInt8 := [42, 43, 181, 0, 3, 42, 183, 0, 9, 42, 17, 1, 44, 188, 10, 181, 0, 15, 42, 17, 1, 44, 188, 10]
abbrev dktX9_init_0 : List UInt8 := dkwX9_init_0 ++ dktX9_init_1
theorem dksX9_init_0 : cX9_init.data.toList.drop 0 = dktX9_init_0 := by decide +kernel
theorem dksX9_init_1 : cX9_init.data.toList.drop 24 = dktX9_init_1 := dk_seg dksX9_init_0 24 rfl rfl
theorem dX9_init_0 : decode cX9_init 0 = .ok (.aload_n 0, 1) := dk_42 (dk_at dksX9_init_0 0 rfl rfl)
theorem dX9_init_1 : decode cX9_init 1 = .ok (.aload_n 1, 1) := dk_43 (dk_at dksX9_init_0 1 rfl rfl)
theorem dX9_init_2 : decode cX9_init 2 = .ok (.putfield 3, 3) := dk_181 0 3 (dk_at dksX9_init_0 2 rfl rfl)
theorem dX9_init_5 : decode cX9_init 5 = .ok (.aload_n 0, 1) := dk_42 (dk_at dksX9_init_0 5 rfl rfl)
theorem dX9_init_6 : decode cX9_init 6 = .ok (.invokespecial 9, 3) := dk_183 0 9 (dk_at dksX9_init_0 6 rfl rfl)
theorem dX9_init_9 : decode cX9_init 9 = .ok (.aload_n 0, 1) := dk_42 (dk_at dksX9_init_0 9 rfl rfl)
theorem dX9_init_10 : decode cX9_init 10 = .ok (.sipush 300, 3) := dk_17 1 44 (dk_at dksX9_init_0 10 rfl rfl)
theorem dX9_init_13 : decode cX9_init 13 = .ok (.newarray .int, 2) := dk_188_10 (dk_at dksX9_init_0 13 rfl rfl)
theorem dX9_init_15 : decode cX9_init 15 = .ok (.putfield 15, 3) := dk_181 0 15 (dk_at dksX9_init_0 15 rfl rfl)
theorem dX9_init_18 : decode cX9_init 18 = .ok (.aload_n 0, 1) := dk_42 (dk_at dksX9_init_0 18 rfl rfl)
theorem dX9_init_19 : decode cX9_init 19 = .ok (.sipush 300, 3) := dk_17 1 44 (dk_at dksX9_init_0 19 rfl rfl)
theorem dX9_init_22 : decode cX9_init 22 = .ok (.newarray .int, 2) := dk_188_10 (dk_at dksX9_init_0 22 rfl rfl)
theorem dX9_init_24 : decode cX9_init 24 = .ok (.putfield 19, 3) := dk_181 0 19 (dk_at dksX9_init_1 0 rfl rfl)
theorem dX9_init_27 : decode cX9_init 27 = .ok (.return_, 1) := dk_177 (dk_at dksX9_init_1 3 rfl rfl)
abbrev cX9_of : ByteArray := prog_17_method_3_code
def yX9_of : MethodName := ⟨RX9, "of", "(LGlacierMail$Letter;)LGlacierMail$Trip;"⟩
def dkwX9_of_0 : List UInt8 := [42, 43, 180, 0, 55, 43, 180, 0, 60, 43, 180, 0, 63, 43, 182, 0, 66, 182, 0, 70, 176]
abbrev dktX9_of_0 : List UInt8 := dkwX9_of_0 ++ []
theorem dksX9_of_0 : cX9_of.data.toList.drop 0 = dktX9_of_0 := by decide +kernel
theorem dX9_of_0 : decode cX9_of 0 = .ok (.aload_n 0, 1) := dk_42 (dk_at dksX9_of_0 0 rfl rfl)
theorem dX9_of_1 : decode cX9_of 1 = .ok (.aload_n 1, 1) := dk_43 (dk_at dksX9_of_0 1 rfl rfl)
theorem dX9_of_2 : decode cX9_of 2 = .ok (.getfield 55, 3) := dk_180 0 55 (dk_at dksX9_of_0 2 rfl rfl)
theorem dX9_of_5 : decode cX9_of 5 = .ok (.aload_n 1, 1) := dk_43 (dk_at dksX9_of_0 5 rfl rfl)
theorem dX9_of_6 : decode cX9_of 6 = .ok (.getfield 60, 3) := dk_180 0 60 (dk_at dksX9_of_0 6 rfl rfl)
theorem dX9_of_9 : decode cX9_of 9 = .ok (.aload_n 1, 1) := dk_43 (dk_at dksX9_of_0 9 rfl rfl)
theorem dX9_of_10 : decode cX9_of 10 = .ok (.getfield 63, 3) := dk_180 0 63 (dk_at dksX9_of_0 10 rfl rfl)
theorem dX9_of_13 : decode cX9_of 13 = .ok (.aload_n 1, 1) := dk_43 (dk_at dksX9_of_0 13 rfl rfl)
theorem dX9_of_14 : decode cX9_of 14 = .ok (.invokevirtual 66, 3) := dk_182 0 66 (dk_at dksX9_of_0 14 rfl rfl)
theorem dX9_of_17 : decode cX9_of 17 = .ok (.invokevirtual 70, 3) := dk_182 0 70 (dk_at dksX9_of_0 17 rfl rfl)
theorem dX9_of_20 : decode cX9_of 20 = .ok (.areturn, 1) := dk_176 (dk_at dksX9_of_0 20 rfl rfl)
abbrev cX9_goes : ByteArray := prog_17_method_2_code
def yX9_goes : MethodName := ⟨RX9, "goes", "(IIIZ)LGlacierMail$Trip;"⟩
def dkwX9_goes_9 : List UInt8 := [42, 21, 5, 4, 96, 181, 0, 27, 132, 5, 1, 167, 255, 59, 42, 176]
abbrev dktX9_goes_9 : List UInt8 := dkwX9_goes_9 ++ []
def dkwX9_goes_8 : List UInt8 := [182, 0, 52, 79, 21, 6, 154, 0, 26, 21, 7, 42, 180, 0, 3, 180, 0, 30, 180, 0, 34, 161, 0, 11]
abbrev dktX9_goes_8 : List UInt8 := dkwX9_goes_8 ++ dktX9_goes_9
def dkwX9_goes_7 : List UInt8 := [42, 180, 0, 3, 180, 0, 30, 42, 180, 0, 19, 21, 5, 46, 42, 180, 0, 15, 21, 5, 46, 21, 5]
abbrev dktX9_goes_7 : List UInt8 := dkwX9_goes_7 ++ dktX9_goes_8
def dkwX9_goes_6 : List UInt8 := [21, 6, 153, 0, 13, 42, 180, 0, 19, 21, 5, 46, 167, 0, 38, 21, 4, 153, 0, 7, 3, 167, 0, 29]
abbrev dktX9_goes_6 : List UInt8 := dkwX9_goes_6 ++ dktX9_goes_7
def dkwX9_goes_5 : List UInt8 := [21, 7, 42, 180, 0, 3, 180, 0, 30, 180, 0, 34, 184, 0, 47, 79, 42, 180, 0, 19, 21, 5, 4, 96]
abbrev dktX9_goes_5 : List UInt8 := dkwX9_goes_5 ++ dktX9_goes_6
def dkwX9_goes_4 : List UInt8 := [21, 5, 46, 21, 5, 182, 0, 39, 96, 21, 5, 182, 0, 43, 54, 7, 42, 180, 0, 15, 21, 5, 4, 96]
abbrev dktX9_goes_4 : List UInt8 := dkwX9_goes_4 ++ dktX9_goes_5
def dkwX9_goes_3 : List UInt8 := [42, 180, 0, 3, 180, 0, 30, 42, 180, 0, 15, 21, 5, 46, 42, 180, 0, 3, 27, 42, 180, 0, 15]
abbrev dktX9_goes_3 : List UInt8 := dkwX9_goes_3 ++ dktX9_goes_4
def dkwX9_goes_2 : List UInt8 := [167, 0, 4, 3, 54, 6, 21, 6, 153, 0, 16, 42, 180, 0, 3, 180, 0, 30, 180, 0, 34, 167, 0, 40]
abbrev dktX9_goes_2 : List UInt8 := dkwX9_goes_2 ++ dktX9_goes_3
def dkwX9_goes_1 : List UInt8 := [79, 29, 54, 5, 21, 5, 4, 96, 17, 1, 44, 162, 0, 193, 42, 180, 0, 27, 18, 26, 159, 0, 7, 4]
abbrev dktX9_goes_1 : List UInt8 := dkwX9_goes_1 ++ dktX9_goes_2
def dkwX9_goes_0 : List UInt8 := [42, 29, 181, 0, 22, 42, 18, 26, 181, 0, 27, 42, 180, 0, 15, 29, 28, 79, 42, 180, 0, 19, 29, 3]
abbrev dktX9_goes_0 : List UInt8 := dkwX9_goes_0 ++ dktX9_goes_1
theorem dksX9_goes_0 : cX9_goes.data.toList.drop 0 = dktX9_goes_0 := by decide +kernel
theorem dksX9_goes_1 : cX9_goes.data.toList.drop 24 = dktX9_goes_1 := dk_seg dksX9_goes_0 24 rfl rfl
theorem dksX9_goes_2 : cX9_goes.data.toList.drop 48 = dktX9_goes_2 := dk_seg dksX9_goes_1 24 rfl rfl
theorem dksX9_goes_3 : cX9_goes.data.toList.drop 72 = dktX9_goes_3 := dk_seg dksX9_goes_2 24 rfl rfl
theorem dksX9_goes_4 : cX9_goes.data.toList.drop 95 = dktX9_goes_4 := dk_seg dksX9_goes_3 23 rfl rfl
theorem dksX9_goes_5 : cX9_goes.data.toList.drop 119 = dktX9_goes_5 := dk_seg dksX9_goes_4 24 rfl rfl
theorem dksX9_goes_6 : cX9_goes.data.toList.drop 143 = dktX9_goes_6 := dk_seg dksX9_goes_5 24 rfl rfl
theorem dksX9_goes_7 : cX9_goes.data.toList.drop 167 = dktX9_goes_7 := dk_seg dksX9_goes_6 24 rfl rfl
theorem dksX9_goes_8 : cX9_goes.data.toList.drop 190 = dktX9_goes_8 := dk_seg dksX9_goes_7 23 rfl rfl
theorem dksX9_goes_9 : cX9_goes.data.toList.drop 214 = dktX9_goes_9 := dk_seg dksX9_goes_8 24 rfl rfl
theorem dX9_goes_0 : decode cX9_goes 0 = .ok (.aload_n 0, 1) := dk_42 (dk_at dksX9_goes_0 0 rfl rfl)
theorem dX9_goes_1 : decode cX9_goes 1 = .ok (.iload_n 3, 1) := dk_29 (dk_at dksX9_goes_0 1 rfl rfl)
theorem dX9_goes_2 : decode cX9_goes 2 = .ok (.putfield 22, 3) := dk_181 0 22 (dk_at dksX9_goes_0 2 rfl rfl)
theorem dX9_goes_5 : decode cX9_goes 5 = .ok (.aload_n 0, 1) := dk_42 (dk_at dksX9_goes_0 5 rfl rfl)
theorem dX9_goes_6 : decode cX9_goes 6 = .ok (.ldc 26, 2) := dk_18 26 (dk_at dksX9_goes_0 6 rfl rfl)
theorem dX9_goes_8 : decode cX9_goes 8 = .ok (.putfield 27, 3) := dk_181 0 27 (dk_at dksX9_goes_0 8 rfl rfl)
theorem dX9_goes_11 : decode cX9_goes 11 = .ok (.aload_n 0, 1) := dk_42 (dk_at dksX9_goes_0 11 rfl rfl)
theorem dX9_goes_12 : decode cX9_goes 12 = .ok (.getfield 15, 3) := dk_180 0 15 (dk_at dksX9_goes_0 12 rfl rfl)
theorem dX9_goes_15 : decode cX9_goes 15 = .ok (.iload_n 3, 1) := dk_29 (dk_at dksX9_goes_0 15 rfl rfl)
theorem dX9_goes_16 : decode cX9_goes 16 = .ok (.iload_n 2, 1) := dk_28 (dk_at dksX9_goes_0 16 rfl rfl)
theorem dX9_goes_17 : decode cX9_goes 17 = .ok (.iastore, 1) := dk_79 (dk_at dksX9_goes_0 17 rfl rfl)
theorem dX9_goes_18 : decode cX9_goes 18 = .ok (.aload_n 0, 1) := dk_42 (dk_at dksX9_goes_0 18 rfl rfl)
theorem dX9_goes_19 : decode cX9_goes 19 = .ok (.getfield 19, 3) := dk_180 0 19 (dk_at dksX9_goes_0 19 rfl rfl)
theorem dX9_goes_22 : decode cX9_goes 22 = .ok (.iload_n 3, 1) := dk_29 (dk_at dksX9_goes_0 22 rfl rfl)
theorem dX9_goes_23 : decode cX9_goes 23 = .ok (.iconst 0, 1) := dk_3 (dk_at dksX9_goes_0 23 rfl rfl)
theorem dX9_goes_24 : decode cX9_goes 24 = .ok (.iastore, 1) := dk_79 (dk_at dksX9_goes_1 0 rfl rfl)
theorem dX9_goes_25 : decode cX9_goes 25 = .ok (.iload_n 3, 1) := dk_29 (dk_at dksX9_goes_1 1 rfl rfl)
theorem dX9_goes_26 : decode cX9_goes 26 = .ok (.istore 5, 2) := dk_54 5 (dk_at dksX9_goes_1 2 rfl rfl)
theorem dX9_goes_28 : decode cX9_goes 28 = .ok (.iload 5, 2) := dk_21 5 (dk_at dksX9_goes_1 4 rfl rfl)
theorem dX9_goes_30 : decode cX9_goes 30 = .ok (.iconst 1, 1) := dk_4 (dk_at dksX9_goes_1 6 rfl rfl)
theorem dX9_goes_31 : decode cX9_goes 31 = .ok (.iadd, 1) := dk_96 (dk_at dksX9_goes_1 7 rfl rfl)
theorem dX9_goes_32 : decode cX9_goes 32 = .ok (.sipush 300, 3) := dk_17 1 44 (dk_at dksX9_goes_1 8 rfl rfl)
theorem dX9_goes_35 : decode cX9_goes 35 = .ok (.if_icmp .ge 193, 3) := dk_162 0 193 (dk_at dksX9_goes_1 11 rfl rfl)
theorem dX9_goes_38 : decode cX9_goes 38 = .ok (.aload_n 0, 1) := dk_42 (dk_at dksX9_goes_1 14 rfl rfl)
theorem dX9_goes_39 : decode cX9_goes 39 = .ok (.getfield 27, 3) := dk_180 0 27 (dk_at dksX9_goes_1 15 rfl rfl)
theorem dX9_goes_42 : decode cX9_goes 42 = .ok (.ldc 26, 2) := dk_18 26 (dk_at dksX9_goes_1 18 rfl rfl)
theorem dX9_goes_44 : decode cX9_goes 44 = .ok (.if_icmp .eq 7, 3) := dk_159 0 7 (dk_at dksX9_goes_1 20 rfl rfl)
theorem dX9_goes_47 : decode cX9_goes 47 = .ok (.iconst 1, 1) := dk_4 (dk_at dksX9_goes_1 23 rfl rfl)
theorem dX9_goes_48 : decode cX9_goes 48 = .ok (.goto 4, 3) := dk_167 0 4 (dk_at dksX9_goes_2 0 rfl rfl)
theorem dX9_goes_51 : decode cX9_goes 51 = .ok (.iconst 0, 1) := dk_3 (dk_at dksX9_goes_2 3 rfl rfl)
theorem dX9_goes_52 : decode cX9_goes 52 = .ok (.istore 6, 2) := dk_54 6 (dk_at dksX9_goes_2 4 rfl rfl)
theorem dX9_goes_54 : decode cX9_goes 54 = .ok (.iload 6, 2) := dk_21 6 (dk_at dksX9_goes_2 6 rfl rfl)
theorem dX9_goes_56 : decode cX9_goes 56 = .ok (.ifCond .eq 16, 3) := dk_153 0 16 (dk_at dksX9_goes_2 8 rfl rfl)
theorem dX9_goes_59 : decode cX9_goes 59 = .ok (.aload_n 0, 1) := dk_42 (dk_at dksX9_goes_2 11 rfl rfl)
theorem dX9_goes_60 : decode cX9_goes 60 = .ok (.getfield 3, 3) := dk_180 0 3 (dk_at dksX9_goes_2 12 rfl rfl)
theorem dX9_goes_63 : decode cX9_goes 63 = .ok (.getfield 30, 3) := dk_180 0 30 (dk_at dksX9_goes_2 15 rfl rfl)
theorem dX9_goes_66 : decode cX9_goes 66 = .ok (.getfield 34, 3) := dk_180 0 34 (dk_at dksX9_goes_2 18 rfl rfl)
theorem dX9_goes_69 : decode cX9_goes 69 = .ok (.goto 40, 3) := dk_167 0 40 (dk_at dksX9_goes_2 21 rfl rfl)
theorem dX9_goes_72 : decode cX9_goes 72 = .ok (.aload_n 0, 1) := dk_42 (dk_at dksX9_goes_3 0 rfl rfl)
theorem dX9_goes_73 : decode cX9_goes 73 = .ok (.getfield 3, 3) := dk_180 0 3 (dk_at dksX9_goes_3 1 rfl rfl)
theorem dX9_goes_76 : decode cX9_goes 76 = .ok (.getfield 30, 3) := dk_180 0 30 (dk_at dksX9_goes_3 4 rfl rfl)
theorem dX9_goes_79 : decode cX9_goes 79 = .ok (.aload_n 0, 1) := dk_42 (dk_at dksX9_goes_3 7 rfl rfl)
theorem dX9_goes_80 : decode cX9_goes 80 = .ok (.getfield 15, 3) := dk_180 0 15 (dk_at dksX9_goes_3 8 rfl rfl)
theorem dX9_goes_83 : decode cX9_goes 83 = .ok (.iload 5, 2) := dk_21 5 (dk_at dksX9_goes_3 11 rfl rfl)
theorem dX9_goes_85 : decode cX9_goes 85 = .ok (.iaload, 1) := dk_46 (dk_at dksX9_goes_3 13 rfl rfl)
theorem dX9_goes_86 : decode cX9_goes 86 = .ok (.aload_n 0, 1) := dk_42 (dk_at dksX9_goes_3 14 rfl rfl)
theorem dX9_goes_87 : decode cX9_goes 87 = .ok (.getfield 3, 3) := dk_180 0 3 (dk_at dksX9_goes_3 15 rfl rfl)
theorem dX9_goes_90 : decode cX9_goes 90 = .ok (.iload_n 1, 1) := dk_27 (dk_at dksX9_goes_3 18 rfl rfl)
theorem dX9_goes_91 : decode cX9_goes 91 = .ok (.aload_n 0, 1) := dk_42 (dk_at dksX9_goes_3 19 rfl rfl)
theorem dX9_goes_92 : decode cX9_goes 92 = .ok (.getfield 15, 3) := dk_180 0 15 (dk_at dksX9_goes_3 20 rfl rfl)
theorem dX9_goes_95 : decode cX9_goes 95 = .ok (.iload 5, 2) := dk_21 5 (dk_at dksX9_goes_4 0 rfl rfl)
theorem dX9_goes_97 : decode cX9_goes 97 = .ok (.iaload, 1) := dk_46 (dk_at dksX9_goes_4 2 rfl rfl)
theorem dX9_goes_98 : decode cX9_goes 98 = .ok (.iload 5, 2) := dk_21 5 (dk_at dksX9_goes_4 3 rfl rfl)
theorem dX9_goes_100 : decode cX9_goes 100 = .ok (.invokevirtual 39, 3) := dk_182 0 39 (dk_at dksX9_goes_4 5 rfl rfl)
theorem dX9_goes_103 : decode cX9_goes 103 = .ok (.iadd, 1) := dk_96 (dk_at dksX9_goes_4 8 rfl rfl)
theorem dX9_goes_104 : decode cX9_goes 104 = .ok (.iload 5, 2) := dk_21 5 (dk_at dksX9_goes_4 9 rfl rfl)
theorem dX9_goes_106 : decode cX9_goes 106 = .ok (.invokevirtual 43, 3) := dk_182 0 43 (dk_at dksX9_goes_4 11 rfl rfl)
theorem dX9_goes_109 : decode cX9_goes 109 = .ok (.istore 7, 2) := dk_54 7 (dk_at dksX9_goes_4 14 rfl rfl)
theorem dX9_goes_111 : decode cX9_goes 111 = .ok (.aload_n 0, 1) := dk_42 (dk_at dksX9_goes_4 16 rfl rfl)
theorem dX9_goes_112 : decode cX9_goes 112 = .ok (.getfield 15, 3) := dk_180 0 15 (dk_at dksX9_goes_4 17 rfl rfl)
theorem dX9_goes_115 : decode cX9_goes 115 = .ok (.iload 5, 2) := dk_21 5 (dk_at dksX9_goes_4 20 rfl rfl)
theorem dX9_goes_117 : decode cX9_goes 117 = .ok (.iconst 1, 1) := dk_4 (dk_at dksX9_goes_4 22 rfl rfl)
theorem dX9_goes_118 : decode cX9_goes 118 = .ok (.iadd, 1) := dk_96 (dk_at dksX9_goes_4 23 rfl rfl)
theorem dX9_goes_119 : decode cX9_goes 119 = .ok (.iload 7, 2) := dk_21 7 (dk_at dksX9_goes_5 0 rfl rfl)
theorem dX9_goes_121 : decode cX9_goes 121 = .ok (.aload_n 0, 1) := dk_42 (dk_at dksX9_goes_5 2 rfl rfl)
theorem dX9_goes_122 : decode cX9_goes 122 = .ok (.getfield 3, 3) := dk_180 0 3 (dk_at dksX9_goes_5 3 rfl rfl)
theorem dX9_goes_125 : decode cX9_goes 125 = .ok (.getfield 30, 3) := dk_180 0 30 (dk_at dksX9_goes_5 6 rfl rfl)
theorem dX9_goes_128 : decode cX9_goes 128 = .ok (.getfield 34, 3) := dk_180 0 34 (dk_at dksX9_goes_5 9 rfl rfl)
theorem dX9_goes_131 : decode cX9_goes 131 = .ok (.invokestatic 47, 3) := dk_184 0 47 (dk_at dksX9_goes_5 12 rfl rfl)
theorem dX9_goes_134 : decode cX9_goes 134 = .ok (.iastore, 1) := dk_79 (dk_at dksX9_goes_5 15 rfl rfl)
theorem dX9_goes_135 : decode cX9_goes 135 = .ok (.aload_n 0, 1) := dk_42 (dk_at dksX9_goes_5 16 rfl rfl)
theorem dX9_goes_136 : decode cX9_goes 136 = .ok (.getfield 19, 3) := dk_180 0 19 (dk_at dksX9_goes_5 17 rfl rfl)
theorem dX9_goes_139 : decode cX9_goes 139 = .ok (.iload 5, 2) := dk_21 5 (dk_at dksX9_goes_5 20 rfl rfl)
theorem dX9_goes_141 : decode cX9_goes 141 = .ok (.iconst 1, 1) := dk_4 (dk_at dksX9_goes_5 22 rfl rfl)
theorem dX9_goes_142 : decode cX9_goes 142 = .ok (.iadd, 1) := dk_96 (dk_at dksX9_goes_5 23 rfl rfl)
theorem dX9_goes_143 : decode cX9_goes 143 = .ok (.iload 6, 2) := dk_21 6 (dk_at dksX9_goes_6 0 rfl rfl)
theorem dX9_goes_145 : decode cX9_goes 145 = .ok (.ifCond .eq 13, 3) := dk_153 0 13 (dk_at dksX9_goes_6 2 rfl rfl)
theorem dX9_goes_148 : decode cX9_goes 148 = .ok (.aload_n 0, 1) := dk_42 (dk_at dksX9_goes_6 5 rfl rfl)
theorem dX9_goes_149 : decode cX9_goes 149 = .ok (.getfield 19, 3) := dk_180 0 19 (dk_at dksX9_goes_6 6 rfl rfl)
theorem dX9_goes_152 : decode cX9_goes 152 = .ok (.iload 5, 2) := dk_21 5 (dk_at dksX9_goes_6 9 rfl rfl)
theorem dX9_goes_154 : decode cX9_goes 154 = .ok (.iaload, 1) := dk_46 (dk_at dksX9_goes_6 11 rfl rfl)
theorem dX9_goes_155 : decode cX9_goes 155 = .ok (.goto 38, 3) := dk_167 0 38 (dk_at dksX9_goes_6 12 rfl rfl)
theorem dX9_goes_158 : decode cX9_goes 158 = .ok (.iload 4, 2) := dk_21 4 (dk_at dksX9_goes_6 15 rfl rfl)
theorem dX9_goes_160 : decode cX9_goes 160 = .ok (.ifCond .eq 7, 3) := dk_153 0 7 (dk_at dksX9_goes_6 17 rfl rfl)
theorem dX9_goes_163 : decode cX9_goes 163 = .ok (.iconst 0, 1) := dk_3 (dk_at dksX9_goes_6 20 rfl rfl)
theorem dX9_goes_164 : decode cX9_goes 164 = .ok (.goto 29, 3) := dk_167 0 29 (dk_at dksX9_goes_6 21 rfl rfl)
theorem dX9_goes_167 : decode cX9_goes 167 = .ok (.aload_n 0, 1) := dk_42 (dk_at dksX9_goes_7 0 rfl rfl)
theorem dX9_goes_168 : decode cX9_goes 168 = .ok (.getfield 3, 3) := dk_180 0 3 (dk_at dksX9_goes_7 1 rfl rfl)
theorem dX9_goes_171 : decode cX9_goes 171 = .ok (.getfield 30, 3) := dk_180 0 30 (dk_at dksX9_goes_7 4 rfl rfl)
theorem dX9_goes_174 : decode cX9_goes 174 = .ok (.aload_n 0, 1) := dk_42 (dk_at dksX9_goes_7 7 rfl rfl)
theorem dX9_goes_175 : decode cX9_goes 175 = .ok (.getfield 19, 3) := dk_180 0 19 (dk_at dksX9_goes_7 8 rfl rfl)
theorem dX9_goes_178 : decode cX9_goes 178 = .ok (.iload 5, 2) := dk_21 5 (dk_at dksX9_goes_7 11 rfl rfl)
theorem dX9_goes_180 : decode cX9_goes 180 = .ok (.iaload, 1) := dk_46 (dk_at dksX9_goes_7 13 rfl rfl)
theorem dX9_goes_181 : decode cX9_goes 181 = .ok (.aload_n 0, 1) := dk_42 (dk_at dksX9_goes_7 14 rfl rfl)
theorem dX9_goes_182 : decode cX9_goes 182 = .ok (.getfield 15, 3) := dk_180 0 15 (dk_at dksX9_goes_7 15 rfl rfl)
theorem dX9_goes_185 : decode cX9_goes 185 = .ok (.iload 5, 2) := dk_21 5 (dk_at dksX9_goes_7 18 rfl rfl)
theorem dX9_goes_187 : decode cX9_goes 187 = .ok (.iaload, 1) := dk_46 (dk_at dksX9_goes_7 20 rfl rfl)
theorem dX9_goes_188 : decode cX9_goes 188 = .ok (.iload 5, 2) := dk_21 5 (dk_at dksX9_goes_7 21 rfl rfl)
theorem dX9_goes_190 : decode cX9_goes 190 = .ok (.invokevirtual 52, 3) := dk_182 0 52 (dk_at dksX9_goes_8 0 rfl rfl)
theorem dX9_goes_193 : decode cX9_goes 193 = .ok (.iastore, 1) := dk_79 (dk_at dksX9_goes_8 3 rfl rfl)
theorem dX9_goes_194 : decode cX9_goes 194 = .ok (.iload 6, 2) := dk_21 6 (dk_at dksX9_goes_8 4 rfl rfl)
theorem dX9_goes_196 : decode cX9_goes 196 = .ok (.ifCond .ne 26, 3) := dk_154 0 26 (dk_at dksX9_goes_8 6 rfl rfl)
theorem dX9_goes_199 : decode cX9_goes 199 = .ok (.iload 7, 2) := dk_21 7 (dk_at dksX9_goes_8 9 rfl rfl)
theorem dX9_goes_201 : decode cX9_goes 201 = .ok (.aload_n 0, 1) := dk_42 (dk_at dksX9_goes_8 11 rfl rfl)
theorem dX9_goes_202 : decode cX9_goes 202 = .ok (.getfield 3, 3) := dk_180 0 3 (dk_at dksX9_goes_8 12 rfl rfl)
theorem dX9_goes_205 : decode cX9_goes 205 = .ok (.getfield 30, 3) := dk_180 0 30 (dk_at dksX9_goes_8 15 rfl rfl)
theorem dX9_goes_208 : decode cX9_goes 208 = .ok (.getfield 34, 3) := dk_180 0 34 (dk_at dksX9_goes_8 18 rfl rfl)
theorem dX9_goes_211 : decode cX9_goes 211 = .ok (.if_icmp .lt 11, 3) := dk_161 0 11 (dk_at dksX9_goes_8 21 rfl rfl)
theorem dX9_goes_214 : decode cX9_goes 214 = .ok (.aload_n 0, 1) := dk_42 (dk_at dksX9_goes_9 0 rfl rfl)
theorem dX9_goes_215 : decode cX9_goes 215 = .ok (.iload 5, 2) := dk_21 5 (dk_at dksX9_goes_9 1 rfl rfl)
theorem dX9_goes_217 : decode cX9_goes 217 = .ok (.iconst 1, 1) := dk_4 (dk_at dksX9_goes_9 3 rfl rfl)
theorem dX9_goes_218 : decode cX9_goes 218 = .ok (.iadd, 1) := dk_96 (dk_at dksX9_goes_9 4 rfl rfl)
theorem dX9_goes_219 : decode cX9_goes 219 = .ok (.putfield 27, 3) := dk_181 0 27 (dk_at dksX9_goes_9 5 rfl rfl)
theorem dX9_goes_222 : decode cX9_goes 222 = .ok (.iinc 5 1, 3) := dk_132 5 1 (dk_at dksX9_goes_9 8 rfl rfl)
theorem dX9_goes_225 : decode cX9_goes 225 = .ok (.goto (-197), 3) := dk_167 255 59 (dk_at dksX9_goes_9 11 rfl rfl)
theorem dX9_goes_228 : decode cX9_goes 228 = .ok (.aload_n 0, 1) := dk_42 (dk_at dksX9_goes_9 14 rfl rfl)
theorem dX9_goes_229 : decode cX9_goes 229 = .ok (.areturn, 1) := dk_176 (dk_at dksX9_goes_9 15 rfl rfl)
abbrev cX9_isIn : ByteArray := prog_17_method_4_code
def yX9_isIn : MethodName := ⟨RX9, "isIn", "(I)Z"⟩
def dkwX9_isIn_0 : List UInt8 := [27, 42, 180, 0, 22, 161, 0, 15, 27, 42, 180, 0, 27, 162, 0, 7, 4, 167, 0, 4, 3, 172]
abbrev dktX9_isIn_0 : List UInt8 := dkwX9_isIn_0 ++ []
theorem dksX9_isIn_0 : cX9_isIn.data.toList.drop 0 = dktX9_isIn_0 := by decide +kernel
theorem dX9_isIn_0 : decode cX9_isIn 0 = .ok (.iload_n 1, 1) := dk_27 (dk_at dksX9_isIn_0 0 rfl rfl)
theorem dX9_isIn_1 : decode cX9_isIn 1 = .ok (.aload_n 0, 1) := dk_42 (dk_at dksX9_isIn_0 1 rfl rfl)
theorem dX9_isIn_2 : decode cX9_isIn 2 = .ok (.getfield 22, 3) := dk_180 0 22 (dk_at dksX9_isIn_0 2 rfl rfl)
theorem dX9_isIn_5 : decode cX9_isIn 5 = .ok (.if_icmp .lt 15, 3) := dk_161 0 15 (dk_at dksX9_isIn_0 5 rfl rfl)
theorem dX9_isIn_8 : decode cX9_isIn 8 = .ok (.iload_n 1, 1) := dk_27 (dk_at dksX9_isIn_0 8 rfl rfl)
theorem dX9_isIn_9 : decode cX9_isIn 9 = .ok (.aload_n 0, 1) := dk_42 (dk_at dksX9_isIn_0 9 rfl rfl)
theorem dX9_isIn_10 : decode cX9_isIn 10 = .ok (.getfield 27, 3) := dk_180 0 27 (dk_at dksX9_isIn_0 10 rfl rfl)
theorem dX9_isIn_13 : decode cX9_isIn 13 = .ok (.if_icmp .ge 7, 3) := dk_162 0 7 (dk_at dksX9_isIn_0 13 rfl rfl)
theorem dX9_isIn_16 : decode cX9_isIn 16 = .ok (.iconst 1, 1) := dk_4 (dk_at dksX9_isIn_0 16 rfl rfl)
theorem dX9_isIn_17 : decode cX9_isIn 17 = .ok (.goto 4, 3) := dk_167 0 4 (dk_at dksX9_isIn_0 17 rfl rfl)
theorem dX9_isIn_20 : decode cX9_isIn 20 = .ok (.iconst 0, 1) := dk_3 (dk_at dksX9_isIn_0 20 rfl rfl)
theorem dX9_isIn_21 : decode cX9_isIn 21 = .ok (.ireturn, 1) := dk_172 (dk_at dksX9_isIn_0 21 rfl rfl)
abbrev cX9_outYear : ByteArray := prog_17_method_6_code
def yX9_outYear : MethodName := ⟨RX9, "outYear", "()I"⟩
def dkwX9_outYear_0 : List UInt8 := [42, 180, 0, 27, 18, 26, 160, 0, 7, 2, 167, 0, 7, 42, 180, 0, 27, 172]
abbrev dktX9_outYear_0 : List UInt8 := dkwX9_outYear_0 ++ []
theorem dksX9_outYear_0 : cX9_outYear.data.toList.drop 0 = dktX9_outYear_0 := by decide +kernel
theorem dX9_outYear_0 : decode cX9_outYear 0 = .ok (.aload_n 0, 1) := dk_42 (dk_at dksX9_outYear_0 0 rfl rfl)
theorem dX9_outYear_1 : decode cX9_outYear 1 = .ok (.getfield 27, 3) := dk_180 0 27 (dk_at dksX9_outYear_0 1 rfl rfl)
theorem dX9_outYear_4 : decode cX9_outYear 4 = .ok (.ldc 26, 2) := dk_18 26 (dk_at dksX9_outYear_0 4 rfl rfl)
theorem dX9_outYear_6 : decode cX9_outYear 6 = .ok (.if_icmp .ne 7, 3) := dk_160 0 7 (dk_at dksX9_outYear_0 6 rfl rfl)
theorem dX9_outYear_9 : decode cX9_outYear 9 = .ok (.iconst (-1), 1) := dk_2 (dk_at dksX9_outYear_0 9 rfl rfl)
theorem dX9_outYear_10 : decode cX9_outYear 10 = .ok (.goto 7, 3) := dk_167 0 7 (dk_at dksX9_outYear_0 10 rfl rfl)
theorem dX9_outYear_13 : decode cX9_outYear 13 = .ok (.aload_n 0, 1) := dk_42 (dk_at dksX9_outYear_0 13 rfl rfl)
theorem dX9_outYear_14 : decode cX9_outYear 14 = .ok (.getfield 27, 3) := dk_180 0 27 (dk_at dksX9_outYear_0 14 rfl rfl)
theorem dX9_outYear_17 : decode cX9_outYear 17 = .ok (.ireturn, 1) := dk_172 (dk_at dksX9_outYear_0 17 rfl rfl)
abbrev cX9_isBare : ByteArray := prog_17_method_5_code
def yX9_isBare : MethodName := ⟨RX9, "isBare", "(I)Z"⟩
def dkwX9_isBare_1 : List UInt8 := [154, 0, 7, 4, 167, 0, 4, 3, 172]
abbrev dktX9_isBare_1 : List UInt8 := dkwX9_isBare_1 ++ []
def dkwX9_isBare_0 : List UInt8 := [27, 42, 180, 0, 22, 164, 0, 24, 42, 27, 182, 0, 74, 153, 0, 16, 42, 180, 0, 19, 27, 46]
abbrev dktX9_isBare_0 : List UInt8 := dkwX9_isBare_0 ++ dktX9_isBare_1
theorem dksX9_isBare_0 : cX9_isBare.data.toList.drop 0 = dktX9_isBare_0 := by decide +kernel
theorem dksX9_isBare_1 : cX9_isBare.data.toList.drop 22 = dktX9_isBare_1 := dk_seg dksX9_isBare_0 22 rfl rfl
theorem dX9_isBare_0 : decode cX9_isBare 0 = .ok (.iload_n 1, 1) := dk_27 (dk_at dksX9_isBare_0 0 rfl rfl)
theorem dX9_isBare_1 : decode cX9_isBare 1 = .ok (.aload_n 0, 1) := dk_42 (dk_at dksX9_isBare_0 1 rfl rfl)
theorem dX9_isBare_2 : decode cX9_isBare 2 = .ok (.getfield 22, 3) := dk_180 0 22 (dk_at dksX9_isBare_0 2 rfl rfl)
theorem dX9_isBare_5 : decode cX9_isBare 5 = .ok (.if_icmp .le 24, 3) := dk_164 0 24 (dk_at dksX9_isBare_0 5 rfl rfl)
theorem dX9_isBare_8 : decode cX9_isBare 8 = .ok (.aload_n 0, 1) := dk_42 (dk_at dksX9_isBare_0 8 rfl rfl)
theorem dX9_isBare_9 : decode cX9_isBare 9 = .ok (.iload_n 1, 1) := dk_27 (dk_at dksX9_isBare_0 9 rfl rfl)
theorem dX9_isBare_10 : decode cX9_isBare 10 = .ok (.invokevirtual 74, 3) := dk_182 0 74 (dk_at dksX9_isBare_0 10 rfl rfl)
theorem dX9_isBare_13 : decode cX9_isBare 13 = .ok (.ifCond .eq 16, 3) := dk_153 0 16 (dk_at dksX9_isBare_0 13 rfl rfl)
theorem dX9_isBare_16 : decode cX9_isBare 16 = .ok (.aload_n 0, 1) := dk_42 (dk_at dksX9_isBare_0 16 rfl rfl)
theorem dX9_isBare_17 : decode cX9_isBare 17 = .ok (.getfield 19, 3) := dk_180 0 19 (dk_at dksX9_isBare_0 17 rfl rfl)
theorem dX9_isBare_20 : decode cX9_isBare 20 = .ok (.iload_n 1, 1) := dk_27 (dk_at dksX9_isBare_0 20 rfl rfl)
theorem dX9_isBare_21 : decode cX9_isBare 21 = .ok (.iaload, 1) := dk_46 (dk_at dksX9_isBare_0 21 rfl rfl)
theorem dX9_isBare_22 : decode cX9_isBare 22 = .ok (.ifCond .ne 7, 3) := dk_154 0 7 (dk_at dksX9_isBare_1 0 rfl rfl)
theorem dX9_isBare_25 : decode cX9_isBare 25 = .ok (.iconst 1, 1) := dk_4 (dk_at dksX9_isBare_1 3 rfl rfl)
theorem dX9_isBare_26 : decode cX9_isBare 26 = .ok (.goto 4, 3) := dk_167 0 4 (dk_at dksX9_isBare_1 4 rfl rfl)
theorem dX9_isBare_29 : decode cX9_isBare 29 = .ok (.iconst 0, 1) := dk_3 (dk_at dksX9_isBare_1 7 rfl rfl)
theorem dX9_isBare_30 : decode cX9_isBare 30 = .ok (.ireturn, 1) := dk_172 (dk_at dksX9_isBare_1 8 rfl rfl)
theorem q146 : (Jvm.Cond.initialized "GlacierMail$Trip") ∈ lw_all := lw_g (lw_at lw_m1 12 rfl) rfl
theorem q284 : (Jvm.Cond.fieldLinkNest "GlacierMail$Trip" (55 : Nat) "GlacierMail$Letter" "lane" "I" "GlacierMail") ∈ lw_tbl := lw_at lw_m1 150 rfl
theorem q288 : (Jvm.Cond.fieldLinkNest "GlacierMail$Trip" (60 : Nat) "GlacierMail$Letter" "row" "I" "GlacierMail") ∈ lw_tbl := lw_at lw_m1 154 rfl
theorem q291 : (Jvm.Cond.fieldLinkNest "GlacierMail$Trip" (63 : Nat) "GlacierMail$Letter" "year" "I" "GlacierMail") ∈ lw_tbl := lw_at lw_m1 157 rfl
theorem q345 : (Jvm.Cond.fieldLinkNest "GlacierMail$Trip" (34 : Nat) "GlacierMail$State" "last" "I" "GlacierMail") ∈ lw_tbl := lw_at lw_m1 211 rfl
theorem q547 : (Jvm.Cond.instantiable "GlacierMail$Trip" (5 : Nat)) ∈ lw_all := lw_g (lw_at lw_m2 173 rfl) rfl
theorem q549 : (Jvm.Cond.instanceMethod ({ cls := "GlacierMail$Trip", name := "<init>", desc := "(LGlacierMail;)V" } : Jvm.MethodName)) ∈ lw_all := lw_g (lw_at lw_m2 175 rfl) rfl
theorem q550 : (Jvm.Cond.code ({ cls := "GlacierMail$Trip", name := "<init>", desc := "(LGlacierMail;)V" } : Jvm.MethodName) prog_17_method_1_code (2 : Nat) (Option.none : Option Jvm.ClassFile.FieldType)) ∈ lw_all := lw_g (lw_at lw_m2 176 rfl) rfl
theorem q551 : (Jvm.Cond.methodLink "GlacierMail$Trip" (9 : Nat) ({ cls := "java/lang/Object", name := "<init>", desc := "()V" } : Jvm.MethodName)) ∈ lw_all := lw_g (lw_at lw_m2 177 rfl) rfl
theorem q552 : (Jvm.Cond.fieldLink "GlacierMail$Trip" (15 : Nat) "GlacierMail$Trip" "rows" "[I") ∈ lw_all := lw_g (lw_at lw_m2 178 rfl) rfl
theorem q554 : (Jvm.Cond.fieldLink "GlacierMail$Trip" (19 : Nat) "GlacierMail$Trip" "deeps" "[I") ∈ lw_all := lw_g (lw_at lw_m2 180 rfl) rfl
theorem q556 : (Jvm.Cond.fieldLink "GlacierMail$Trip" (22 : Nat) "GlacierMail$Trip" "from" "I") ∈ lw_all := lw_g (lw_at lw_m2 182 rfl) rfl
theorem q558 : (Jvm.Cond.fieldLink "GlacierMail$Trip" (27 : Nat) "GlacierMail$Trip" "out" "I") ∈ lw_all := lw_g (lw_at lw_m2 184 rfl) rfl
theorem q560 : (Jvm.Cond.fieldLink "GlacierMail$Trip" (3 : Nat) "GlacierMail$Trip" "this$0" "LGlacierMail;") ∈ lw_all := lw_g (lw_at lw_m2 186 rfl) rfl
theorem q561 : (Jvm.Cond.laysFinal "GlacierMail$Trip" "GlacierMail$Trip" "rows" "[I") ∈ lw_all := lw_g (lw_at lw_m2 187 rfl) rfl
theorem q562 : (Jvm.Cond.soleField "GlacierMail$Trip" "rows") ∈ lw_all := lw_g (lw_at lw_m2 188 rfl) rfl
theorem q563 : (Jvm.Cond.laysFinal "GlacierMail$Trip" "GlacierMail$Trip" "deeps" "[I") ∈ lw_all := lw_g (lw_at lw_m2 189 rfl) rfl
theorem q564 : (Jvm.Cond.soleField "GlacierMail$Trip" "deeps") ∈ lw_all := lw_g (lw_at lw_m2 190 rfl) rfl
theorem q565 : (Jvm.Cond.lays "GlacierMail$Trip" "GlacierMail$Trip" "from" "I") ∈ lw_all := lw_g (lw_at lw_m2 191 rfl) rfl
theorem q566 : (Jvm.Cond.soleField "GlacierMail$Trip" "from") ∈ lw_all := lw_g (lw_at lw_m2 192 rfl) rfl
theorem q567 : (Jvm.Cond.lays "GlacierMail$Trip" "GlacierMail$Trip" "out" "I") ∈ lw_all := lw_g (lw_at lw_m2 193 rfl) rfl
theorem q568 : (Jvm.Cond.soleField "GlacierMail$Trip" "out") ∈ lw_all := lw_g (lw_at lw_m2 194 rfl) rfl
theorem q569 : (Jvm.Cond.laysFinal "GlacierMail$Trip" "GlacierMail$Trip" "this$0" "LGlacierMail;") ∈ lw_all := lw_g (lw_at lw_m2 195 rfl) rfl
theorem q570 : (Jvm.Cond.soleField "GlacierMail$Trip" "this$0") ∈ lw_all := lw_g (lw_at lw_m2 196 rfl) rfl
theorem q571 : (Jvm.Cond.superclass "GlacierMail$Trip" "java/lang/Object") ∈ lw_all := lw_g (lw_at lw_m2 197 rfl) rfl
theorem q574 : (Jvm.Cond.fieldLinkNest "GlacierMail$Trip" (30 : Nat) "GlacierMail" "now" "LGlacierMail$State;" "GlacierMail") ∈ lw_tbl := lw_at lw_m2 200 rfl
theorem q650 : (Jvm.Cond.instanceMethod ({ cls := "GlacierMail$Trip", name := "of", desc := "(LGlacierMail$Letter;)LGlacierMail$Trip;" } : Jvm.MethodName)) ∈ lw_all := lw_g (lw_at lw_m3 36 rfl) rfl
theorem q651 : (Jvm.Cond.selects "GlacierMail$Trip" ({ cls := "GlacierMail$Trip", name := "of", desc := "(LGlacierMail$Letter;)LGlacierMail$Trip;" } : Jvm.MethodName) ({ cls := "GlacierMail$Trip", name := "of", desc := "(LGlacierMail$Letter;)LGlacierMail$Trip;" } : Jvm.MethodName)) ∈ lw_all := lw_g (lw_at lw_m3 37 rfl) rfl
theorem q652 : (Jvm.Cond.code ({ cls := "GlacierMail$Trip", name := "of", desc := "(LGlacierMail$Letter;)LGlacierMail$Trip;" } : Jvm.MethodName) prog_17_method_3_code (2 : Nat) (Option.some (Jvm.ClassFile.FieldType.object "GlacierMail$Trip"))) ∈ lw_all := lw_g (lw_at lw_m3 38 rfl) rfl
theorem q653 : (Jvm.Cond.methodLink "GlacierMail$Trip" (66 : Nat) ({ cls := "GlacierMail$Letter", name := "isRock", desc := "()Z" } : Jvm.MethodName)) ∈ lw_all := lw_g (lw_at lw_m3 39 rfl) rfl
theorem q657 : (Jvm.Cond.methodLink "GlacierMail$Trip" (70 : Nat) ({ cls := "GlacierMail$Trip", name := "goes", desc := "(IIIZ)LGlacierMail$Trip;" } : Jvm.MethodName)) ∈ lw_all := lw_g (lw_at lw_m3 43 rfl) rfl
theorem q658 : (Jvm.Cond.instanceMethod ({ cls := "GlacierMail$Trip", name := "goes", desc := "(IIIZ)LGlacierMail$Trip;" } : Jvm.MethodName)) ∈ lw_all := lw_g (lw_at lw_m3 44 rfl) rfl
theorem q659 : (Jvm.Cond.selects "GlacierMail$Trip" ({ cls := "GlacierMail$Trip", name := "goes", desc := "(IIIZ)LGlacierMail$Trip;" } : Jvm.MethodName) ({ cls := "GlacierMail$Trip", name := "goes", desc := "(IIIZ)LGlacierMail$Trip;" } : Jvm.MethodName)) ∈ lw_all := lw_g (lw_at lw_m3 45 rfl) rfl
theorem q660 : (Jvm.Cond.code ({ cls := "GlacierMail$Trip", name := "goes", desc := "(IIIZ)LGlacierMail$Trip;" } : Jvm.MethodName) prog_17_method_2_code (8 : Nat) (Option.some (Jvm.ClassFile.FieldType.object "GlacierMail$Trip"))) ∈ lw_all := lw_g (lw_at lw_m3 46 rfl) rfl
theorem q661 : (Jvm.Cond.constant "GlacierMail$Trip" (26 : Nat) (2147483647 : Int32)) ∈ lw_all := lw_g (lw_at lw_m3 47 rfl) rfl
theorem q662 : (Jvm.Cond.methodLinkNest "GlacierMail$Trip" (39 : Nat) ({ cls := "GlacierMail", name := "flowOf", desc := "(III)I" } : Jvm.MethodName) "GlacierMail") ∈ lw_tbl := lw_at lw_m3 48 rfl
theorem q734 : (Jvm.Cond.methodLink "GlacierMail$Trip" (43 : Nat) ({ cls := "GlacierMail$State", name := "flooded", desc := "(II)I" } : Jvm.MethodName)) ∈ lw_all := lw_g (lw_at lw_m3 120 rfl) rfl
theorem q738 : (Jvm.Cond.methodLink "GlacierMail$Trip" (47 : Nat) ({ cls := "java/lang/Math", name := "min", desc := "(II)I" } : Jvm.MethodName)) ∈ lw_all := lw_g (lw_at lw_m3 124 rfl) rfl
theorem q739 : (Jvm.Cond.methodLink "GlacierMail$Trip" (52 : Nat) ({ cls := "GlacierMail$State", name := "sinks", desc := "(III)I" } : Jvm.MethodName)) ∈ lw_all := lw_g (lw_at lw_m3 125 rfl) rfl
theorem q816 : (Jvm.Cond.instanceMethod ({ cls := "GlacierMail$Trip", name := "isIn", desc := "(I)Z" } : Jvm.MethodName)) ∈ lw_all := lw_g (lw_at lw_m3 202 rfl) rfl
theorem q817 : (Jvm.Cond.selects "GlacierMail$Trip" ({ cls := "GlacierMail$Trip", name := "isIn", desc := "(I)Z" } : Jvm.MethodName) ({ cls := "GlacierMail$Trip", name := "isIn", desc := "(I)Z" } : Jvm.MethodName)) ∈ lw_all := lw_g (lw_at lw_m3 203 rfl) rfl
theorem q818 : (Jvm.Cond.code ({ cls := "GlacierMail$Trip", name := "isIn", desc := "(I)Z" } : Jvm.MethodName) prog_17_method_4_code (2 : Nat) (Option.some Jvm.ClassFile.FieldType.boolean)) ∈ lw_all := lw_g (lw_at lw_m3 204 rfl) rfl
theorem q1266 : (Jvm.Cond.instanceMethod ({ cls := "GlacierMail$Trip", name := "outYear", desc := "()I" } : Jvm.MethodName)) ∈ lw_all := lw_g (lw_at lw_m5 172 rfl) rfl
theorem q1267 : (Jvm.Cond.selects "GlacierMail$Trip" ({ cls := "GlacierMail$Trip", name := "outYear", desc := "()I" } : Jvm.MethodName) ({ cls := "GlacierMail$Trip", name := "outYear", desc := "()I" } : Jvm.MethodName)) ∈ lw_all := lw_g (lw_at lw_m5 173 rfl) rfl
theorem q1268 : (Jvm.Cond.code ({ cls := "GlacierMail$Trip", name := "outYear", desc := "()I" } : Jvm.MethodName) prog_17_method_6_code (1 : Nat) (Option.some Jvm.ClassFile.FieldType.int)) ∈ lw_all := lw_g (lw_at lw_m5 174 rfl) rfl
theorem q1278 : (Jvm.Cond.instanceMethod ({ cls := "GlacierMail$Trip", name := "isBare", desc := "(I)Z" } : Jvm.MethodName)) ∈ lw_all := lw_g (lw_at lw_m5 184 rfl) rfl
theorem q1279 : (Jvm.Cond.selects "GlacierMail$Trip" ({ cls := "GlacierMail$Trip", name := "isBare", desc := "(I)Z" } : Jvm.MethodName) ({ cls := "GlacierMail$Trip", name := "isBare", desc := "(I)Z" } : Jvm.MethodName)) ∈ lw_all := lw_g (lw_at lw_m5 185 rfl) rfl
theorem q1280 : (Jvm.Cond.code ({ cls := "GlacierMail$Trip", name := "isBare", desc := "(I)Z" } : Jvm.MethodName) prog_17_method_5_code (2 : Nat) (Option.some Jvm.ClassFile.FieldType.boolean)) ∈ lw_all := lw_g (lw_at lw_m5 186 rfl) rfl
theorem q1281 : (Jvm.Cond.methodLink "GlacierMail$Trip" (74 : Nat) ({ cls := "GlacierMail$Trip", name := "isIn", desc := "(I)Z" } : Jvm.MethodName)) ∈ lw_all := lw_g (lw_at lw_m5 187 rfl) rfl
theorem q2287 : (Jvm.Cond.castable "GlacierMail$Trip" "java/lang/Object") ∈ lw_tbl := lw_at lw_m9 233 rfl
theorem in_X9 : ∀ w ∈ wsX90, w ∈ lw_all := lw_in wsX90 [561, 563, 565, 567, 569] (by decide +kernel) (by decide +kernel)
/-! GlacierMail$Chain -/
set_option maxRecDepth 100000
def RX11 : String := "GlacierMail$Chain"
def TX11 : u_T := fun k => match k with
  | 0 => ("GlacierMail$Chain", "one", "LGlacierMail$Cond;", true)
  | 1 => ("GlacierMail$Chain", "all", "Z", true)
  | _ => ("GlacierMail$Chain", "next", "LGlacierMail$Chain;", false)
def tyX11 : Nat → FieldType := fun k => match k with
  | 0 => .object "GlacierMail$Cond"
  | 1 => .boolean
  | _ => .object "GlacierMail$Chain"
abbrev wsX110 : List Cond := u_ws RX11 TX11 3
theorem nmX11 : ∀ a, a < 3 → ∀ b, b < 3 → a ≠ b → (TX11 a).2.1 ≠ (TX11 b).2.1 := by decide +kernel
theorem tyX11_ok : ∀ k, k < 3 → parseFieldDescriptor (TX11 k).2.2.1 = some (tyX11 k) := by decide +kernel
abbrev cX11_holds : ByteArray := prog_2_method_2_code
def yX11_holds : MethodName := ⟨RX11, "holds", "([I)Z"⟩
def dkwX11_holds_2 : List UInt8 := [172]
abbrev dktX11_holds_2 : List UInt8 := dkwX11_holds_2 ++ []
def dkwX11_holds_1 : List UInt8 := [180, 0, 13, 154, 0, 7, 4, 167, 0, 4, 3, 172, 44, 180, 0, 23, 77, 167, 255, 217, 42, 180, 0, 13]
abbrev dktX11_holds_1 : List UInt8 := dkwX11_holds_1 ++ dktX11_holds_2
def dkwX11_holds_0 : List UInt8 := [42, 77, 44, 198, 0, 41, 44, 180, 0, 7, 43, 185, 0, 17, 2, 0, 42, 180, 0, 13, 159, 0, 16, 42]
abbrev dktX11_holds_0 : List UInt8 := dkwX11_holds_0 ++ dktX11_holds_1
theorem dksX11_holds_0 : cX11_holds.data.toList.drop 0 = dktX11_holds_0 := by decide +kernel
theorem dksX11_holds_1 : cX11_holds.data.toList.drop 24 = dktX11_holds_1 := dk_seg dksX11_holds_0 24 rfl rfl
theorem dksX11_holds_2 : cX11_holds.data.toList.drop 48 = dktX11_holds_2 := dk_seg dksX11_holds_1 24 rfl rfl
theorem dX11_holds_0 : decode cX11_holds 0 = .ok (.aload_n 0, 1) := dk_42 (dk_at dksX11_holds_0 0 rfl rfl)
theorem dX11_holds_1 : decode cX11_holds 1 = .ok (.astore_n 2, 1) := dk_77 (dk_at dksX11_holds_0 1 rfl rfl)
theorem dX11_holds_2 : decode cX11_holds 2 = .ok (.aload_n 2, 1) := dk_44 (dk_at dksX11_holds_0 2 rfl rfl)
theorem dX11_holds_3 : decode cX11_holds 3 = .ok (.ifnull 41, 3) := dk_198 0 41 (dk_at dksX11_holds_0 3 rfl rfl)
theorem dX11_holds_6 : decode cX11_holds 6 = .ok (.aload_n 2, 1) := dk_44 (dk_at dksX11_holds_0 6 rfl rfl)
theorem dX11_holds_7 : decode cX11_holds 7 = .ok (.getfield 7, 3) := dk_180 0 7 (dk_at dksX11_holds_0 7 rfl rfl)
theorem dX11_holds_10 : decode cX11_holds 10 = .ok (.aload_n 1, 1) := dk_43 (dk_at dksX11_holds_0 10 rfl rfl)
theorem dX11_holds_11 : decode cX11_holds 11 = .ok (.invokeinterface 17 2, 5) := by decide +kernel
theorem dX11_holds_16 : decode cX11_holds 16 = .ok (.aload_n 0, 1) := dk_42 (dk_at dksX11_holds_0 16 rfl rfl)
theorem dX11_holds_17 : decode cX11_holds 17 = .ok (.getfield 13, 3) := dk_180 0 13 (dk_at dksX11_holds_0 17 rfl rfl)
theorem dX11_holds_20 : decode cX11_holds 20 = .ok (.if_icmp .eq 16, 3) := dk_159 0 16 (dk_at dksX11_holds_0 20 rfl rfl)
theorem dX11_holds_23 : decode cX11_holds 23 = .ok (.aload_n 0, 1) := dk_42 (dk_at dksX11_holds_0 23 rfl rfl)
theorem dX11_holds_24 : decode cX11_holds 24 = .ok (.getfield 13, 3) := dk_180 0 13 (dk_at dksX11_holds_1 0 rfl rfl)
theorem dX11_holds_27 : decode cX11_holds 27 = .ok (.ifCond .ne 7, 3) := dk_154 0 7 (dk_at dksX11_holds_1 3 rfl rfl)
theorem dX11_holds_30 : decode cX11_holds 30 = .ok (.iconst 1, 1) := dk_4 (dk_at dksX11_holds_1 6 rfl rfl)
theorem dX11_holds_31 : decode cX11_holds 31 = .ok (.goto 4, 3) := dk_167 0 4 (dk_at dksX11_holds_1 7 rfl rfl)
theorem dX11_holds_34 : decode cX11_holds 34 = .ok (.iconst 0, 1) := dk_3 (dk_at dksX11_holds_1 10 rfl rfl)
theorem dX11_holds_35 : decode cX11_holds 35 = .ok (.ireturn, 1) := dk_172 (dk_at dksX11_holds_1 11 rfl rfl)
theorem dX11_holds_36 : decode cX11_holds 36 = .ok (.aload_n 2, 1) := dk_44 (dk_at dksX11_holds_1 12 rfl rfl)
theorem dX11_holds_37 : decode cX11_holds 37 = .ok (.getfield 23, 3) := dk_180 0 23 (dk_at dksX11_holds_1 13 rfl rfl)
theorem dX11_holds_40 : decode cX11_holds 40 = .ok (.astore_n 2, 1) := dk_77 (dk_at dksX11_holds_1 16 rfl rfl)
theorem dX11_holds_41 : decode cX11_holds 41 = .ok (.goto (-39), 3) := dk_167 255 217 (dk_at dksX11_holds_1 17 rfl rfl)
theorem dX11_holds_44 : decode cX11_holds 44 = .ok (.aload_n 0, 1) := dk_42 (dk_at dksX11_holds_1 20 rfl rfl)
theorem dX11_holds_45 : decode cX11_holds 45 = .ok (.getfield 13, 3) := dk_180 0 13 (dk_at dksX11_holds_1 21 rfl rfl)
theorem dX11_holds_48 : decode cX11_holds 48 = .ok (.ireturn, 1) := dk_172 (dk_at dksX11_holds_2 0 rfl rfl)
abbrev cX11_init : ByteArray := prog_2_method_1_code
def yX11_init : MethodName := ⟨RX11, "<init>", "(LGlacierMail$Cond;Z)V"⟩
def dkwX11_init_0 : List UInt8 := [42, 183, 0, 1, 42, 43, 181, 0, 7, 42, 28, 181, 0, 13, 177]
abbrev dktX11_init_0 : List UInt8 := dkwX11_init_0 ++ []
theorem dksX11_init_0 : cX11_init.data.toList.drop 0 = dktX11_init_0 := by decide +kernel
theorem dX11_init_0 : decode cX11_init 0 = .ok (.aload_n 0, 1) := dk_42 (dk_at dksX11_init_0 0 rfl rfl)
theorem dX11_init_1 : decode cX11_init 1 = .ok (.invokespecial 1, 3) := dk_183 0 1 (dk_at dksX11_init_0 1 rfl rfl)
theorem dX11_init_4 : decode cX11_init 4 = .ok (.aload_n 0, 1) := dk_42 (dk_at dksX11_init_0 4 rfl rfl)
theorem dX11_init_5 : decode cX11_init 5 = .ok (.aload_n 1, 1) := dk_43 (dk_at dksX11_init_0 5 rfl rfl)
theorem dX11_init_6 : decode cX11_init 6 = .ok (.putfield 7, 3) := dk_181 0 7 (dk_at dksX11_init_0 6 rfl rfl)
theorem dX11_init_9 : decode cX11_init 9 = .ok (.aload_n 0, 1) := dk_42 (dk_at dksX11_init_0 9 rfl rfl)
theorem dX11_init_10 : decode cX11_init 10 = .ok (.iload_n 2, 1) := dk_28 (dk_at dksX11_init_0 10 rfl rfl)
theorem dX11_init_11 : decode cX11_init 11 = .ok (.putfield 13, 3) := dk_181 0 13 (dk_at dksX11_init_0 11 rfl rfl)
theorem dX11_init_14 : decode cX11_init 14 = .ok (.return_, 1) := dk_177 (dk_at dksX11_init_0 14 rfl rfl)
theorem q155 : (Jvm.Cond.initialized "GlacierMail$Chain") ∈ lw_all := lw_g (lw_at lw_m1 21 rfl) rfl
theorem q688 : (Jvm.Cond.castable "GlacierMail$Chain" "GlacierMail$Cond") ∈ lw_tbl := lw_at lw_m3 74 rfl
theorem q689 : (Jvm.Cond.selects "GlacierMail$Chain" ({ cls := "GlacierMail$Cond", name := "holds", desc := "([I)Z" } : Jvm.MethodName) ({ cls := "GlacierMail$Chain", name := "holds", desc := "([I)Z" } : Jvm.MethodName)) ∈ lw_all := lw_g (lw_at lw_m3 75 rfl) rfl
theorem q690 : (Jvm.Cond.unhidden "GlacierMail$Chain" "holds" "([I)Z") ∈ lw_tbl := lw_at lw_m3 76 rfl
theorem q691 : (Jvm.Cond.instanceMethod ({ cls := "GlacierMail$Chain", name := "holds", desc := "([I)Z" } : Jvm.MethodName)) ∈ lw_all := lw_g (lw_at lw_m3 77 rfl) rfl
theorem q692 : (Jvm.Cond.publicMethod ({ cls := "GlacierMail$Chain", name := "holds", desc := "([I)Z" } : Jvm.MethodName)) ∈ lw_tbl := lw_at lw_m3 78 rfl
theorem q693 : (Jvm.Cond.code ({ cls := "GlacierMail$Chain", name := "holds", desc := "([I)Z" } : Jvm.MethodName) prog_2_method_2_code (3 : Nat) (Option.some Jvm.ClassFile.FieldType.boolean)) ∈ lw_all := lw_g (lw_at lw_m3 79 rfl) rfl
theorem q694 : (Jvm.Cond.interfaceEntry "GlacierMail$Chain" (17 : Nat)) ∈ lw_tbl := lw_at lw_m3 80 rfl
theorem q695 : (Jvm.Cond.methodLink "GlacierMail$Chain" (17 : Nat) ({ cls := "GlacierMail$Cond", name := "holds", desc := "([I)Z" } : Jvm.MethodName)) ∈ lw_all := lw_g (lw_at lw_m3 81 rfl) rfl
theorem q1025 : (Jvm.Cond.instantiable "GlacierMail$Chain" (3 : Nat)) ∈ lw_all := lw_g (lw_at lw_m4 171 rfl) rfl
theorem q1096 : (Jvm.Cond.instanceMethod ({ cls := "GlacierMail$Chain", name := "<init>", desc := "(LGlacierMail$Cond;Z)V" } : Jvm.MethodName)) ∈ lw_all := lw_g (lw_at lw_m5 2 rfl) rfl
theorem q1097 : (Jvm.Cond.code ({ cls := "GlacierMail$Chain", name := "<init>", desc := "(LGlacierMail$Cond;Z)V" } : Jvm.MethodName) prog_2_method_1_code (3 : Nat) (Option.none : Option Jvm.ClassFile.FieldType)) ∈ lw_all := lw_g (lw_at lw_m5 3 rfl) rfl
theorem q1098 : (Jvm.Cond.methodLink "GlacierMail$Chain" (1 : Nat) ({ cls := "java/lang/Object", name := "<init>", desc := "()V" } : Jvm.MethodName)) ∈ lw_all := lw_g (lw_at lw_m5 4 rfl) rfl
theorem q1099 : (Jvm.Cond.fieldLink "GlacierMail$Chain" (7 : Nat) "GlacierMail$Chain" "one" "LGlacierMail$Cond;") ∈ lw_all := lw_g (lw_at lw_m5 5 rfl) rfl
theorem q1100 : (Jvm.Cond.fieldLink "GlacierMail$Chain" (13 : Nat) "GlacierMail$Chain" "all" "Z") ∈ lw_all := lw_g (lw_at lw_m5 6 rfl) rfl
theorem q1101 : (Jvm.Cond.fieldLink "GlacierMail$Chain" (23 : Nat) "GlacierMail$Chain" "next" "LGlacierMail$Chain;") ∈ lw_all := lw_g (lw_at lw_m5 7 rfl) rfl
theorem q1103 : (Jvm.Cond.laysFinal "GlacierMail$Chain" "GlacierMail$Chain" "one" "LGlacierMail$Cond;") ∈ lw_all := lw_g (lw_at lw_m5 9 rfl) rfl
theorem q1104 : (Jvm.Cond.soleField "GlacierMail$Chain" "one") ∈ lw_all := lw_g (lw_at lw_m5 10 rfl) rfl
theorem q1105 : (Jvm.Cond.laysFinal "GlacierMail$Chain" "GlacierMail$Chain" "all" "Z") ∈ lw_all := lw_g (lw_at lw_m5 11 rfl) rfl
theorem q1106 : (Jvm.Cond.soleField "GlacierMail$Chain" "all") ∈ lw_all := lw_g (lw_at lw_m5 12 rfl) rfl
theorem q1107 : (Jvm.Cond.lays "GlacierMail$Chain" "GlacierMail$Chain" "next" "LGlacierMail$Chain;") ∈ lw_all := lw_g (lw_at lw_m5 13 rfl) rfl
theorem q1108 : (Jvm.Cond.soleField "GlacierMail$Chain" "next") ∈ lw_all := lw_g (lw_at lw_m5 14 rfl) rfl
theorem q1109 : (Jvm.Cond.superclass "GlacierMail$Chain" "java/lang/Object") ∈ lw_all := lw_g (lw_at lw_m5 15 rfl) rfl
theorem q2291 : (Jvm.Cond.castable "GlacierMail$Chain" "java/lang/Object") ∈ lw_tbl := lw_at lw_m9 237 rfl
theorem in_X11 : ∀ w ∈ wsX110, w ∈ lw_all := lw_in wsX110 [1103, 1105, 1107] (by decide +kernel) (by decide +kernel)
/-! GlacierMail$Tag -/
set_option maxRecDepth 100000
def RX12 : String := "GlacierMail$Tag"
def TX12 : u_T := fun k => match k with
  | _ => ("GlacierMail$Tag", "fact", "I", true)
def tyX12 : Nat → FieldType := fun k => match k with
  | _ => .int
abbrev wsX120 : List Cond := u_ws RX12 TX12 1
theorem nmX12 : ∀ a, a < 1 → ∀ b, b < 1 → a ≠ b → (TX12 a).2.1 ≠ (TX12 b).2.1 := by decide +kernel
theorem tyX12_ok : ∀ k, k < 1 → parseFieldDescriptor (TX12 k).2.2.1 = some (tyX12 k) := by decide +kernel
abbrev cX12_holds : ByteArray := prog_16_method_2_code
def yX12_holds : MethodName := ⟨RX12, "holds", "([I)Z"⟩
def dkwX12_holds_0 : List UInt8 := [43, 42, 180, 0, 7, 46, 153, 0, 7, 4, 167, 0, 4, 3, 172]
abbrev dktX12_holds_0 : List UInt8 := dkwX12_holds_0 ++ []
theorem dksX12_holds_0 : cX12_holds.data.toList.drop 0 = dktX12_holds_0 := by decide +kernel
theorem dX12_holds_0 : decode cX12_holds 0 = .ok (.aload_n 1, 1) := dk_43 (dk_at dksX12_holds_0 0 rfl rfl)
theorem dX12_holds_1 : decode cX12_holds 1 = .ok (.aload_n 0, 1) := dk_42 (dk_at dksX12_holds_0 1 rfl rfl)
theorem dX12_holds_2 : decode cX12_holds 2 = .ok (.getfield 7, 3) := dk_180 0 7 (dk_at dksX12_holds_0 2 rfl rfl)
theorem dX12_holds_5 : decode cX12_holds 5 = .ok (.iaload, 1) := dk_46 (dk_at dksX12_holds_0 5 rfl rfl)
theorem dX12_holds_6 : decode cX12_holds 6 = .ok (.ifCond .eq 7, 3) := dk_153 0 7 (dk_at dksX12_holds_0 6 rfl rfl)
theorem dX12_holds_9 : decode cX12_holds 9 = .ok (.iconst 1, 1) := dk_4 (dk_at dksX12_holds_0 9 rfl rfl)
theorem dX12_holds_10 : decode cX12_holds 10 = .ok (.goto 4, 3) := dk_167 0 4 (dk_at dksX12_holds_0 10 rfl rfl)
theorem dX12_holds_13 : decode cX12_holds 13 = .ok (.iconst 0, 1) := dk_3 (dk_at dksX12_holds_0 13 rfl rfl)
theorem dX12_holds_14 : decode cX12_holds 14 = .ok (.ireturn, 1) := dk_172 (dk_at dksX12_holds_0 14 rfl rfl)
abbrev cX12_init : ByteArray := prog_16_method_1_code
def yX12_init : MethodName := ⟨RX12, "<init>", "(I)V"⟩
def dkwX12_init_0 : List UInt8 := [42, 183, 0, 1, 42, 27, 181, 0, 7, 177]
abbrev dktX12_init_0 : List UInt8 := dkwX12_init_0 ++ []
theorem dksX12_init_0 : cX12_init.data.toList.drop 0 = dktX12_init_0 := by decide +kernel
theorem dX12_init_0 : decode cX12_init 0 = .ok (.aload_n 0, 1) := dk_42 (dk_at dksX12_init_0 0 rfl rfl)
theorem dX12_init_1 : decode cX12_init 1 = .ok (.invokespecial 1, 3) := dk_183 0 1 (dk_at dksX12_init_0 1 rfl rfl)
theorem dX12_init_4 : decode cX12_init 4 = .ok (.aload_n 0, 1) := dk_42 (dk_at dksX12_init_0 4 rfl rfl)
theorem dX12_init_5 : decode cX12_init 5 = .ok (.iload_n 1, 1) := dk_27 (dk_at dksX12_init_0 5 rfl rfl)
theorem dX12_init_6 : decode cX12_init 6 = .ok (.putfield 7, 3) := dk_181 0 7 (dk_at dksX12_init_0 6 rfl rfl)
theorem dX12_init_9 : decode cX12_init 9 = .ok (.return_, 1) := dk_177 (dk_at dksX12_init_0 9 rfl rfl)
theorem q156 : (Jvm.Cond.initialized "GlacierMail$Tag") ∈ lw_all := lw_g (lw_at lw_m1 22 rfl) rfl
theorem q714 : (Jvm.Cond.castable "GlacierMail$Tag" "GlacierMail$Cond") ∈ lw_tbl := lw_at lw_m3 100 rfl
theorem q715 : (Jvm.Cond.selects "GlacierMail$Tag" ({ cls := "GlacierMail$Cond", name := "holds", desc := "([I)Z" } : Jvm.MethodName) ({ cls := "GlacierMail$Tag", name := "holds", desc := "([I)Z" } : Jvm.MethodName)) ∈ lw_all := lw_g (lw_at lw_m3 101 rfl) rfl
theorem q716 : (Jvm.Cond.unhidden "GlacierMail$Tag" "holds" "([I)Z") ∈ lw_tbl := lw_at lw_m3 102 rfl
theorem q717 : (Jvm.Cond.instanceMethod ({ cls := "GlacierMail$Tag", name := "holds", desc := "([I)Z" } : Jvm.MethodName)) ∈ lw_all := lw_g (lw_at lw_m3 103 rfl) rfl
theorem q718 : (Jvm.Cond.publicMethod ({ cls := "GlacierMail$Tag", name := "holds", desc := "([I)Z" } : Jvm.MethodName)) ∈ lw_tbl := lw_at lw_m3 104 rfl
theorem q719 : (Jvm.Cond.code ({ cls := "GlacierMail$Tag", name := "holds", desc := "([I)Z" } : Jvm.MethodName) prog_16_method_2_code (2 : Nat) (Option.some Jvm.ClassFile.FieldType.boolean)) ∈ lw_all := lw_g (lw_at lw_m3 105 rfl) rfl
theorem q1036 : (Jvm.Cond.instantiable "GlacierMail$Tag" (1 : Nat)) ∈ lw_all := lw_g (lw_at lw_m4 182 rfl) rfl
theorem q1038 : (Jvm.Cond.instanceMethod ({ cls := "GlacierMail$Tag", name := "<init>", desc := "(I)V" } : Jvm.MethodName)) ∈ lw_all := lw_g (lw_at lw_m4 184 rfl) rfl
theorem q1039 : (Jvm.Cond.code ({ cls := "GlacierMail$Tag", name := "<init>", desc := "(I)V" } : Jvm.MethodName) prog_16_method_1_code (2 : Nat) (Option.none : Option Jvm.ClassFile.FieldType)) ∈ lw_all := lw_g (lw_at lw_m4 185 rfl) rfl
theorem q1040 : (Jvm.Cond.methodLink "GlacierMail$Tag" (1 : Nat) ({ cls := "java/lang/Object", name := "<init>", desc := "()V" } : Jvm.MethodName)) ∈ lw_all := lw_g (lw_at lw_m4 186 rfl) rfl
theorem q1041 : (Jvm.Cond.fieldLink "GlacierMail$Tag" (7 : Nat) "GlacierMail$Tag" "fact" "I") ∈ lw_all := lw_g (lw_at lw_m4 187 rfl) rfl
theorem q1042 : (Jvm.Cond.laysFinal "GlacierMail$Tag" "GlacierMail$Tag" "fact" "I") ∈ lw_all := lw_g (lw_at lw_m4 188 rfl) rfl
theorem q1043 : (Jvm.Cond.soleField "GlacierMail$Tag" "fact") ∈ lw_all := lw_g (lw_at lw_m4 189 rfl) rfl
theorem q1044 : (Jvm.Cond.superclass "GlacierMail$Tag" "java/lang/Object") ∈ lw_all := lw_g (lw_at lw_m4 190 rfl) rfl
theorem q2292 : (Jvm.Cond.castable "GlacierMail$Tag" "java/lang/Object") ∈ lw_tbl := lw_at lw_m9 238 rfl
theorem in_X12 : ∀ w ∈ wsX120, w ∈ lw_all := lw_in wsX120 [1042] (by decide +kernel) (by decide +kernel)
/-! GlacierMail$Sum -/
set_option maxRecDepth 100000
def RX13 : String := "GlacierMail$Sum"
def TX13 : u_T := fun k => match k with
  | 0 => ("GlacierMail$Sum", "times", "[I", true)
  | _ => ("GlacierMail$Sum", "number", "I", false)
def tyX13 : Nat → FieldType := fun k => match k with
  | 0 => .array .int
  | _ => .int
abbrev wsX130 : List Cond := u_ws RX13 TX13 2
theorem nmX13 : ∀ a, a < 2 → ∀ b, b < 2 → a ≠ b → (TX13 a).2.1 ≠ (TX13 b).2.1 := by decide +kernel
theorem tyX13_ok : ∀ k, k < 2 → parseFieldDescriptor (TX13 k).2.2.1 = some (tyX13 k) := by decide +kernel
abbrev cX13_of : ByteArray := prog_15_method_2_code
def yX13_of : MethodName := ⟨RX13, "of", "([I)I"⟩
def dkwX13_of_1 : List UInt8 := [96, 61, 132, 3, 1, 167, 255, 234, 28, 172]
abbrev dktX13_of_1 : List UInt8 := dkwX13_of_1 ++ []
def dkwX13_of_0 : List UInt8 := [42, 180, 0, 15, 61, 3, 62, 29, 16, 8, 162, 0, 22, 28, 42, 180, 0, 9, 29, 46, 43, 29, 46, 104]
abbrev dktX13_of_0 : List UInt8 := dkwX13_of_0 ++ dktX13_of_1
theorem dksX13_of_0 : cX13_of.data.toList.drop 0 = dktX13_of_0 := by decide +kernel
theorem dksX13_of_1 : cX13_of.data.toList.drop 24 = dktX13_of_1 := dk_seg dksX13_of_0 24 rfl rfl
theorem dX13_of_0 : decode cX13_of 0 = .ok (.aload_n 0, 1) := dk_42 (dk_at dksX13_of_0 0 rfl rfl)
theorem dX13_of_1 : decode cX13_of 1 = .ok (.getfield 15, 3) := dk_180 0 15 (dk_at dksX13_of_0 1 rfl rfl)
theorem dX13_of_4 : decode cX13_of 4 = .ok (.istore_n 2, 1) := dk_61 (dk_at dksX13_of_0 4 rfl rfl)
theorem dX13_of_5 : decode cX13_of 5 = .ok (.iconst 0, 1) := dk_3 (dk_at dksX13_of_0 5 rfl rfl)
theorem dX13_of_6 : decode cX13_of 6 = .ok (.istore_n 3, 1) := dk_62 (dk_at dksX13_of_0 6 rfl rfl)
theorem dX13_of_7 : decode cX13_of 7 = .ok (.iload_n 3, 1) := dk_29 (dk_at dksX13_of_0 7 rfl rfl)
theorem dX13_of_8 : decode cX13_of 8 = .ok (.bipush 8, 2) := dk_16 8 (dk_at dksX13_of_0 8 rfl rfl)
theorem dX13_of_10 : decode cX13_of 10 = .ok (.if_icmp .ge 22, 3) := dk_162 0 22 (dk_at dksX13_of_0 10 rfl rfl)
theorem dX13_of_13 : decode cX13_of 13 = .ok (.iload_n 2, 1) := dk_28 (dk_at dksX13_of_0 13 rfl rfl)
theorem dX13_of_14 : decode cX13_of 14 = .ok (.aload_n 0, 1) := dk_42 (dk_at dksX13_of_0 14 rfl rfl)
theorem dX13_of_15 : decode cX13_of 15 = .ok (.getfield 9, 3) := dk_180 0 9 (dk_at dksX13_of_0 15 rfl rfl)
theorem dX13_of_18 : decode cX13_of 18 = .ok (.iload_n 3, 1) := dk_29 (dk_at dksX13_of_0 18 rfl rfl)
theorem dX13_of_19 : decode cX13_of 19 = .ok (.iaload, 1) := dk_46 (dk_at dksX13_of_0 19 rfl rfl)
theorem dX13_of_20 : decode cX13_of 20 = .ok (.aload_n 1, 1) := dk_43 (dk_at dksX13_of_0 20 rfl rfl)
theorem dX13_of_21 : decode cX13_of 21 = .ok (.iload_n 3, 1) := dk_29 (dk_at dksX13_of_0 21 rfl rfl)
theorem dX13_of_22 : decode cX13_of 22 = .ok (.iaload, 1) := dk_46 (dk_at dksX13_of_0 22 rfl rfl)
theorem dX13_of_23 : decode cX13_of 23 = .ok (.imul, 1) := dk_104 (dk_at dksX13_of_0 23 rfl rfl)
theorem dX13_of_24 : decode cX13_of 24 = .ok (.iadd, 1) := dk_96 (dk_at dksX13_of_1 0 rfl rfl)
theorem dX13_of_25 : decode cX13_of 25 = .ok (.istore_n 2, 1) := dk_61 (dk_at dksX13_of_1 1 rfl rfl)
theorem dX13_of_26 : decode cX13_of 26 = .ok (.iinc 3 1, 3) := dk_132 3 1 (dk_at dksX13_of_1 2 rfl rfl)
theorem dX13_of_29 : decode cX13_of 29 = .ok (.goto (-22), 3) := dk_167 255 234 (dk_at dksX13_of_1 5 rfl rfl)
theorem dX13_of_32 : decode cX13_of 32 = .ok (.iload_n 2, 1) := dk_28 (dk_at dksX13_of_1 8 rfl rfl)
theorem dX13_of_33 : decode cX13_of 33 = .ok (.ireturn, 1) := dk_172 (dk_at dksX13_of_1 9 rfl rfl)
abbrev cX13_init : ByteArray := prog_15_method_1_code
def yX13_init : MethodName := ⟨RX13, "<init>", "()V"⟩
def dkwX13_init_0 : List UInt8 := [42, 183, 0, 3, 42, 16, 8, 188, 10, 181, 0, 9, 177]
abbrev dktX13_init_0 : List UInt8 := dkwX13_init_0 ++ []
theorem dksX13_init_0 : cX13_init.data.toList.drop 0 = dktX13_init_0 := by decide +kernel
theorem dX13_init_0 : decode cX13_init 0 = .ok (.aload_n 0, 1) := dk_42 (dk_at dksX13_init_0 0 rfl rfl)
theorem dX13_init_1 : decode cX13_init 1 = .ok (.invokespecial 3, 3) := dk_183 0 3 (dk_at dksX13_init_0 1 rfl rfl)
theorem dX13_init_4 : decode cX13_init 4 = .ok (.aload_n 0, 1) := dk_42 (dk_at dksX13_init_0 4 rfl rfl)
theorem dX13_init_5 : decode cX13_init 5 = .ok (.bipush 8, 2) := dk_16 8 (dk_at dksX13_init_0 5 rfl rfl)
theorem dX13_init_7 : decode cX13_init 7 = .ok (.newarray .int, 2) := dk_188_10 (dk_at dksX13_init_0 7 rfl rfl)
theorem dX13_init_9 : decode cX13_init 9 = .ok (.putfield 9, 3) := dk_181 0 9 (dk_at dksX13_init_0 9 rfl rfl)
theorem dX13_init_12 : decode cX13_init 12 = .ok (.return_, 1) := dk_177 (dk_at dksX13_init_0 12 rfl rfl)
theorem q157 : (Jvm.Cond.initialized "GlacierMail$Sum") ∈ lw_all := lw_g (lw_at lw_m1 23 rfl) rfl
theorem q703 : (Jvm.Cond.instanceMethod ({ cls := "GlacierMail$Sum", name := "of", desc := "([I)I" } : Jvm.MethodName)) ∈ lw_all := lw_g (lw_at lw_m3 89 rfl) rfl
theorem q704 : (Jvm.Cond.selects "GlacierMail$Sum" ({ cls := "GlacierMail$Sum", name := "of", desc := "([I)I" } : Jvm.MethodName) ({ cls := "GlacierMail$Sum", name := "of", desc := "([I)I" } : Jvm.MethodName)) ∈ lw_all := lw_g (lw_at lw_m3 90 rfl) rfl
theorem q705 : (Jvm.Cond.code ({ cls := "GlacierMail$Sum", name := "of", desc := "([I)I" } : Jvm.MethodName) prog_15_method_2_code (4 : Nat) (Option.some Jvm.ClassFile.FieldType.int)) ∈ lw_all := lw_g (lw_at lw_m3 91 rfl) rfl
theorem q1050 : (Jvm.Cond.instantiable "GlacierMail$Sum" (2 : Nat)) ∈ lw_all := lw_g (lw_at lw_m4 196 rfl) rfl
theorem q1052 : (Jvm.Cond.instanceMethod ({ cls := "GlacierMail$Sum", name := "<init>", desc := "()V" } : Jvm.MethodName)) ∈ lw_all := lw_g (lw_at lw_m4 198 rfl) rfl
theorem q1053 : (Jvm.Cond.code ({ cls := "GlacierMail$Sum", name := "<init>", desc := "()V" } : Jvm.MethodName) prog_15_method_1_code (1 : Nat) (Option.none : Option Jvm.ClassFile.FieldType)) ∈ lw_all := lw_g (lw_at lw_m4 199 rfl) rfl
theorem q1054 : (Jvm.Cond.methodLink "GlacierMail$Sum" (3 : Nat) ({ cls := "java/lang/Object", name := "<init>", desc := "()V" } : Jvm.MethodName)) ∈ lw_all := lw_g (lw_at lw_m4 200 rfl) rfl
theorem q1055 : (Jvm.Cond.fieldLink "GlacierMail$Sum" (9 : Nat) "GlacierMail$Sum" "times" "[I") ∈ lw_all := lw_g (lw_at lw_m4 201 rfl) rfl
theorem q1057 : (Jvm.Cond.fieldLink "GlacierMail$Sum" (15 : Nat) "GlacierMail$Sum" "number" "I") ∈ lw_all := lw_g (lw_at lw_m4 203 rfl) rfl
theorem q1059 : (Jvm.Cond.laysFinal "GlacierMail$Sum" "GlacierMail$Sum" "times" "[I") ∈ lw_all := lw_g (lw_at lw_m4 205 rfl) rfl
theorem q1060 : (Jvm.Cond.soleField "GlacierMail$Sum" "times") ∈ lw_all := lw_g (lw_at lw_m4 206 rfl) rfl
theorem q1061 : (Jvm.Cond.lays "GlacierMail$Sum" "GlacierMail$Sum" "number" "I") ∈ lw_all := lw_g (lw_at lw_m4 207 rfl) rfl
theorem q1062 : (Jvm.Cond.soleField "GlacierMail$Sum" "number") ∈ lw_all := lw_g (lw_at lw_m4 208 rfl) rfl
theorem q1063 : (Jvm.Cond.superclass "GlacierMail$Sum" "java/lang/Object") ∈ lw_all := lw_g (lw_at lw_m4 209 rfl) rfl
theorem q2293 : (Jvm.Cond.castable "GlacierMail$Sum" "java/lang/Object") ∈ lw_tbl := lw_at lw_m9 239 rfl
theorem in_X13 : ∀ w ∈ wsX130, w ∈ lw_all := lw_in wsX130 [1059, 1061] (by decide +kernel) (by decide +kernel)
/-! GlacierMail$Less -/
set_option maxRecDepth 100000
def RX14 : String := "GlacierMail$Less"
def TX14 : u_T := fun k => match k with
  | 0 => ("GlacierMail$Less", "low", "LGlacierMail$Sum;", true)
  | _ => ("GlacierMail$Less", "high", "LGlacierMail$Sum;", true)
def tyX14 : Nat → FieldType := fun k => match k with
  | 0 => .object "GlacierMail$Sum"
  | _ => .object "GlacierMail$Sum"
abbrev wsX140 : List Cond := u_ws RX14 TX14 2
theorem nmX14 : ∀ a, a < 2 → ∀ b, b < 2 → a ≠ b → (TX14 a).2.1 ≠ (TX14 b).2.1 := by decide +kernel
theorem tyX14_ok : ∀ k, k < 2 → parseFieldDescriptor (TX14 k).2.2.1 = some (tyX14 k) := by decide +kernel
abbrev cX14_holds : ByteArray := prog_6_method_2_code
def yX14_holds : MethodName := ⟨RX14, "holds", "([I)Z"⟩
def dkwX14_holds_1 : List UInt8 := [172]
abbrev dktX14_holds_1 : List UInt8 := dkwX14_holds_1 ++ []
def dkwX14_holds_0 : List UInt8 := [42, 180, 0, 7, 43, 182, 0, 16, 42, 180, 0, 13, 43, 182, 0, 16, 162, 0, 7, 4, 167, 0, 4, 3]
abbrev dktX14_holds_0 : List UInt8 := dkwX14_holds_0 ++ dktX14_holds_1
theorem dksX14_holds_0 : cX14_holds.data.toList.drop 0 = dktX14_holds_0 := by decide +kernel
theorem dksX14_holds_1 : cX14_holds.data.toList.drop 24 = dktX14_holds_1 := dk_seg dksX14_holds_0 24 rfl rfl
theorem dX14_holds_0 : decode cX14_holds 0 = .ok (.aload_n 0, 1) := dk_42 (dk_at dksX14_holds_0 0 rfl rfl)
theorem dX14_holds_1 : decode cX14_holds 1 = .ok (.getfield 7, 3) := dk_180 0 7 (dk_at dksX14_holds_0 1 rfl rfl)
theorem dX14_holds_4 : decode cX14_holds 4 = .ok (.aload_n 1, 1) := dk_43 (dk_at dksX14_holds_0 4 rfl rfl)
theorem dX14_holds_5 : decode cX14_holds 5 = .ok (.invokevirtual 16, 3) := dk_182 0 16 (dk_at dksX14_holds_0 5 rfl rfl)
theorem dX14_holds_8 : decode cX14_holds 8 = .ok (.aload_n 0, 1) := dk_42 (dk_at dksX14_holds_0 8 rfl rfl)
theorem dX14_holds_9 : decode cX14_holds 9 = .ok (.getfield 13, 3) := dk_180 0 13 (dk_at dksX14_holds_0 9 rfl rfl)
theorem dX14_holds_12 : decode cX14_holds 12 = .ok (.aload_n 1, 1) := dk_43 (dk_at dksX14_holds_0 12 rfl rfl)
theorem dX14_holds_13 : decode cX14_holds 13 = .ok (.invokevirtual 16, 3) := dk_182 0 16 (dk_at dksX14_holds_0 13 rfl rfl)
theorem dX14_holds_16 : decode cX14_holds 16 = .ok (.if_icmp .ge 7, 3) := dk_162 0 7 (dk_at dksX14_holds_0 16 rfl rfl)
theorem dX14_holds_19 : decode cX14_holds 19 = .ok (.iconst 1, 1) := dk_4 (dk_at dksX14_holds_0 19 rfl rfl)
theorem dX14_holds_20 : decode cX14_holds 20 = .ok (.goto 4, 3) := dk_167 0 4 (dk_at dksX14_holds_0 20 rfl rfl)
theorem dX14_holds_23 : decode cX14_holds 23 = .ok (.iconst 0, 1) := dk_3 (dk_at dksX14_holds_0 23 rfl rfl)
theorem dX14_holds_24 : decode cX14_holds 24 = .ok (.ireturn, 1) := dk_172 (dk_at dksX14_holds_1 0 rfl rfl)
abbrev cX14_init : ByteArray := prog_6_method_1_code
def yX14_init : MethodName := ⟨RX14, "<init>", "(LGlacierMail$Sum;LGlacierMail$Sum;)V"⟩
def dkwX14_init_0 : List UInt8 := [42, 183, 0, 1, 42, 43, 181, 0, 7, 42, 44, 181, 0, 13, 177]
abbrev dktX14_init_0 : List UInt8 := dkwX14_init_0 ++ []
theorem dksX14_init_0 : cX14_init.data.toList.drop 0 = dktX14_init_0 := by decide +kernel
theorem dX14_init_0 : decode cX14_init 0 = .ok (.aload_n 0, 1) := dk_42 (dk_at dksX14_init_0 0 rfl rfl)
theorem dX14_init_1 : decode cX14_init 1 = .ok (.invokespecial 1, 3) := dk_183 0 1 (dk_at dksX14_init_0 1 rfl rfl)
theorem dX14_init_4 : decode cX14_init 4 = .ok (.aload_n 0, 1) := dk_42 (dk_at dksX14_init_0 4 rfl rfl)
theorem dX14_init_5 : decode cX14_init 5 = .ok (.aload_n 1, 1) := dk_43 (dk_at dksX14_init_0 5 rfl rfl)
theorem dX14_init_6 : decode cX14_init 6 = .ok (.putfield 7, 3) := dk_181 0 7 (dk_at dksX14_init_0 6 rfl rfl)
theorem dX14_init_9 : decode cX14_init 9 = .ok (.aload_n 0, 1) := dk_42 (dk_at dksX14_init_0 9 rfl rfl)
theorem dX14_init_10 : decode cX14_init 10 = .ok (.aload_n 2, 1) := dk_44 (dk_at dksX14_init_0 10 rfl rfl)
theorem dX14_init_11 : decode cX14_init 11 = .ok (.putfield 13, 3) := dk_181 0 13 (dk_at dksX14_init_0 11 rfl rfl)
theorem dX14_init_14 : decode cX14_init 14 = .ok (.return_, 1) := dk_177 (dk_at dksX14_init_0 14 rfl rfl)
theorem q158 : (Jvm.Cond.initialized "GlacierMail$Less") ∈ lw_all := lw_g (lw_at lw_m1 24 rfl) rfl
theorem q696 : (Jvm.Cond.castable "GlacierMail$Less" "GlacierMail$Cond") ∈ lw_tbl := lw_at lw_m3 82 rfl
theorem q697 : (Jvm.Cond.selects "GlacierMail$Less" ({ cls := "GlacierMail$Cond", name := "holds", desc := "([I)Z" } : Jvm.MethodName) ({ cls := "GlacierMail$Less", name := "holds", desc := "([I)Z" } : Jvm.MethodName)) ∈ lw_all := lw_g (lw_at lw_m3 83 rfl) rfl
theorem q698 : (Jvm.Cond.unhidden "GlacierMail$Less" "holds" "([I)Z") ∈ lw_tbl := lw_at lw_m3 84 rfl
theorem q699 : (Jvm.Cond.instanceMethod ({ cls := "GlacierMail$Less", name := "holds", desc := "([I)Z" } : Jvm.MethodName)) ∈ lw_all := lw_g (lw_at lw_m3 85 rfl) rfl
theorem q700 : (Jvm.Cond.publicMethod ({ cls := "GlacierMail$Less", name := "holds", desc := "([I)Z" } : Jvm.MethodName)) ∈ lw_tbl := lw_at lw_m3 86 rfl
theorem q701 : (Jvm.Cond.code ({ cls := "GlacierMail$Less", name := "holds", desc := "([I)Z" } : Jvm.MethodName) prog_6_method_2_code (2 : Nat) (Option.some Jvm.ClassFile.FieldType.boolean)) ∈ lw_all := lw_g (lw_at lw_m3 87 rfl) rfl
theorem q702 : (Jvm.Cond.methodLink "GlacierMail$Less" (16 : Nat) ({ cls := "GlacierMail$Sum", name := "of", desc := "([I)I" } : Jvm.MethodName)) ∈ lw_all := lw_g (lw_at lw_m3 88 rfl) rfl
theorem q1073 : (Jvm.Cond.instantiable "GlacierMail$Less" (2 : Nat)) ∈ lw_all := lw_g (lw_at lw_m4 219 rfl) rfl
theorem q1075 : (Jvm.Cond.instanceMethod ({ cls := "GlacierMail$Less", name := "<init>", desc := "(LGlacierMail$Sum;LGlacierMail$Sum;)V" } : Jvm.MethodName)) ∈ lw_all := lw_g (lw_at lw_m4 221 rfl) rfl
theorem q1076 : (Jvm.Cond.code ({ cls := "GlacierMail$Less", name := "<init>", desc := "(LGlacierMail$Sum;LGlacierMail$Sum;)V" } : Jvm.MethodName) prog_6_method_1_code (3 : Nat) (Option.none : Option Jvm.ClassFile.FieldType)) ∈ lw_all := lw_g (lw_at lw_m4 222 rfl) rfl
theorem q1077 : (Jvm.Cond.methodLink "GlacierMail$Less" (1 : Nat) ({ cls := "java/lang/Object", name := "<init>", desc := "()V" } : Jvm.MethodName)) ∈ lw_all := lw_g (lw_at lw_m4 223 rfl) rfl
theorem q1078 : (Jvm.Cond.fieldLink "GlacierMail$Less" (7 : Nat) "GlacierMail$Less" "low" "LGlacierMail$Sum;") ∈ lw_all := lw_g (lw_at lw_m4 224 rfl) rfl
theorem q1079 : (Jvm.Cond.fieldLink "GlacierMail$Less" (13 : Nat) "GlacierMail$Less" "high" "LGlacierMail$Sum;") ∈ lw_all := lw_g (lw_at lw_m4 225 rfl) rfl
theorem q1080 : (Jvm.Cond.laysFinal "GlacierMail$Less" "GlacierMail$Less" "low" "LGlacierMail$Sum;") ∈ lw_all := lw_g (lw_at lw_m4 226 rfl) rfl
theorem q1081 : (Jvm.Cond.soleField "GlacierMail$Less" "low") ∈ lw_all := lw_g (lw_at lw_m4 227 rfl) rfl
theorem q1082 : (Jvm.Cond.laysFinal "GlacierMail$Less" "GlacierMail$Less" "high" "LGlacierMail$Sum;") ∈ lw_all := lw_g (lw_at lw_m4 228 rfl) rfl
theorem q1083 : (Jvm.Cond.soleField "GlacierMail$Less" "high") ∈ lw_all := lw_g (lw_at lw_m4 229 rfl) rfl
theorem q1084 : (Jvm.Cond.superclass "GlacierMail$Less" "java/lang/Object") ∈ lw_all := lw_g (lw_at lw_m4 230 rfl) rfl
theorem q2294 : (Jvm.Cond.castable "GlacierMail$Less" "java/lang/Object") ∈ lw_tbl := lw_at lw_m10 0 rfl
theorem in_X14 : ∀ w ∈ wsX140, w ∈ lw_all := lw_in wsX140 [1080, 1082] (by decide +kernel) (by decide +kernel)
/-! GlacierMail$Not -/
set_option maxRecDepth 100000
def RX15 : String := "GlacierMail$Not"
def TX15 : u_T := fun k => match k with
  | _ => ("GlacierMail$Not", "of", "LGlacierMail$Cond;", true)
def tyX15 : Nat → FieldType := fun k => match k with
  | _ => .object "GlacierMail$Cond"
abbrev wsX150 : List Cond := u_ws RX15 TX15 1
theorem nmX15 : ∀ a, a < 1 → ∀ b, b < 1 → a ≠ b → (TX15 a).2.1 ≠ (TX15 b).2.1 := by decide +kernel
theorem tyX15_ok : ∀ k, k < 1 → parseFieldDescriptor (TX15 k).2.2.1 = some (tyX15 k) := by decide +kernel
abbrev cX15_holds : ByteArray := prog_9_method_2_code
def yX15_holds : MethodName := ⟨RX15, "holds", "([I)Z"⟩
def dkwX15_holds_0 : List UInt8 := [42, 180, 0, 7, 43, 185, 0, 13, 2, 0, 154, 0, 7, 4, 167, 0, 4, 3, 172]
abbrev dktX15_holds_0 : List UInt8 := dkwX15_holds_0 ++ []
theorem dksX15_holds_0 : cX15_holds.data.toList.drop 0 = dktX15_holds_0 := by decide +kernel
theorem dX15_holds_0 : decode cX15_holds 0 = .ok (.aload_n 0, 1) := dk_42 (dk_at dksX15_holds_0 0 rfl rfl)
theorem dX15_holds_1 : decode cX15_holds 1 = .ok (.getfield 7, 3) := dk_180 0 7 (dk_at dksX15_holds_0 1 rfl rfl)
theorem dX15_holds_4 : decode cX15_holds 4 = .ok (.aload_n 1, 1) := dk_43 (dk_at dksX15_holds_0 4 rfl rfl)
theorem dX15_holds_5 : decode cX15_holds 5 = .ok (.invokeinterface 13 2, 5) := by decide +kernel
theorem dX15_holds_10 : decode cX15_holds 10 = .ok (.ifCond .ne 7, 3) := dk_154 0 7 (dk_at dksX15_holds_0 10 rfl rfl)
theorem dX15_holds_13 : decode cX15_holds 13 = .ok (.iconst 1, 1) := dk_4 (dk_at dksX15_holds_0 13 rfl rfl)
theorem dX15_holds_14 : decode cX15_holds 14 = .ok (.goto 4, 3) := dk_167 0 4 (dk_at dksX15_holds_0 14 rfl rfl)
theorem dX15_holds_17 : decode cX15_holds 17 = .ok (.iconst 0, 1) := dk_3 (dk_at dksX15_holds_0 17 rfl rfl)
theorem dX15_holds_18 : decode cX15_holds 18 = .ok (.ireturn, 1) := dk_172 (dk_at dksX15_holds_0 18 rfl rfl)
abbrev cX15_init : ByteArray := prog_9_method_1_code
def yX15_init : MethodName := ⟨RX15, "<init>", "(LGlacierMail$Cond;)V"⟩
def dkwX15_init_0 : List UInt8 := [42, 183, 0, 1, 42, 43, 181, 0, 7, 177]
abbrev dktX15_init_0 : List UInt8 := dkwX15_init_0 ++ []
theorem dksX15_init_0 : cX15_init.data.toList.drop 0 = dktX15_init_0 := by decide +kernel
theorem dX15_init_0 : decode cX15_init 0 = .ok (.aload_n 0, 1) := dk_42 (dk_at dksX15_init_0 0 rfl rfl)
theorem dX15_init_1 : decode cX15_init 1 = .ok (.invokespecial 1, 3) := dk_183 0 1 (dk_at dksX15_init_0 1 rfl rfl)
theorem dX15_init_4 : decode cX15_init 4 = .ok (.aload_n 0, 1) := dk_42 (dk_at dksX15_init_0 4 rfl rfl)
theorem dX15_init_5 : decode cX15_init 5 = .ok (.aload_n 1, 1) := dk_43 (dk_at dksX15_init_0 5 rfl rfl)
theorem dX15_init_6 : decode cX15_init 6 = .ok (.putfield 7, 3) := dk_181 0 7 (dk_at dksX15_init_0 6 rfl rfl)
theorem dX15_init_9 : decode cX15_init 9 = .ok (.return_, 1) := dk_177 (dk_at dksX15_init_0 9 rfl rfl)
theorem q159 : (Jvm.Cond.initialized "GlacierMail$Not") ∈ lw_all := lw_g (lw_at lw_m1 25 rfl) rfl
theorem q706 : (Jvm.Cond.castable "GlacierMail$Not" "GlacierMail$Cond") ∈ lw_tbl := lw_at lw_m3 92 rfl
theorem q707 : (Jvm.Cond.selects "GlacierMail$Not" ({ cls := "GlacierMail$Cond", name := "holds", desc := "([I)Z" } : Jvm.MethodName) ({ cls := "GlacierMail$Not", name := "holds", desc := "([I)Z" } : Jvm.MethodName)) ∈ lw_all := lw_g (lw_at lw_m3 93 rfl) rfl
theorem q708 : (Jvm.Cond.unhidden "GlacierMail$Not" "holds" "([I)Z") ∈ lw_tbl := lw_at lw_m3 94 rfl
theorem q709 : (Jvm.Cond.instanceMethod ({ cls := "GlacierMail$Not", name := "holds", desc := "([I)Z" } : Jvm.MethodName)) ∈ lw_all := lw_g (lw_at lw_m3 95 rfl) rfl
theorem q710 : (Jvm.Cond.publicMethod ({ cls := "GlacierMail$Not", name := "holds", desc := "([I)Z" } : Jvm.MethodName)) ∈ lw_tbl := lw_at lw_m3 96 rfl
theorem q711 : (Jvm.Cond.code ({ cls := "GlacierMail$Not", name := "holds", desc := "([I)Z" } : Jvm.MethodName) prog_9_method_2_code (2 : Nat) (Option.some Jvm.ClassFile.FieldType.boolean)) ∈ lw_all := lw_g (lw_at lw_m3 97 rfl) rfl
theorem q712 : (Jvm.Cond.interfaceEntry "GlacierMail$Not" (13 : Nat)) ∈ lw_tbl := lw_at lw_m3 98 rfl
theorem q713 : (Jvm.Cond.methodLink "GlacierMail$Not" (13 : Nat) ({ cls := "GlacierMail$Cond", name := "holds", desc := "([I)Z" } : Jvm.MethodName)) ∈ lw_all := lw_g (lw_at lw_m3 99 rfl) rfl
theorem q1086 : (Jvm.Cond.instantiable "GlacierMail$Not" (1 : Nat)) ∈ lw_all := lw_g (lw_at lw_m4 232 rfl) rfl
theorem q1088 : (Jvm.Cond.instanceMethod ({ cls := "GlacierMail$Not", name := "<init>", desc := "(LGlacierMail$Cond;)V" } : Jvm.MethodName)) ∈ lw_all := lw_g (lw_at lw_m4 234 rfl) rfl
theorem q1089 : (Jvm.Cond.code ({ cls := "GlacierMail$Not", name := "<init>", desc := "(LGlacierMail$Cond;)V" } : Jvm.MethodName) prog_9_method_1_code (2 : Nat) (Option.none : Option Jvm.ClassFile.FieldType)) ∈ lw_all := lw_g (lw_at lw_m4 235 rfl) rfl
theorem q1090 : (Jvm.Cond.methodLink "GlacierMail$Not" (1 : Nat) ({ cls := "java/lang/Object", name := "<init>", desc := "()V" } : Jvm.MethodName)) ∈ lw_all := lw_g (lw_at lw_m4 236 rfl) rfl
theorem q1091 : (Jvm.Cond.fieldLink "GlacierMail$Not" (7 : Nat) "GlacierMail$Not" "of" "LGlacierMail$Cond;") ∈ lw_all := lw_g (lw_at lw_m4 237 rfl) rfl
theorem q1092 : (Jvm.Cond.laysFinal "GlacierMail$Not" "GlacierMail$Not" "of" "LGlacierMail$Cond;") ∈ lw_all := lw_g (lw_at lw_m4 238 rfl) rfl
theorem q1093 : (Jvm.Cond.soleField "GlacierMail$Not" "of") ∈ lw_all := lw_g (lw_at lw_m4 239 rfl) rfl
theorem q1094 : (Jvm.Cond.superclass "GlacierMail$Not" "java/lang/Object") ∈ lw_all := lw_g (lw_at lw_m5 0 rfl) rfl
theorem q2295 : (Jvm.Cond.castable "GlacierMail$Not" "java/lang/Object") ∈ lw_tbl := lw_at lw_m10 1 rfl
theorem in_X15 : ∀ w ∈ wsX150, w ∈ lw_all := lw_in wsX150 [1092] (by decide +kernel) (by decide +kernel)
/-! GlacierMail$Line -/
set_option maxRecDepth 100000
def RX16 : String := "GlacierMail$Line"
abbrev cX16_is : ByteArray := prog_8_method_2_code
def yX16_is : MethodName := ⟨RX16, "is", "([I)Z"⟩
def dkwX16_is_1 : List UInt8 := [3, 172]
abbrev dktX16_is_1 : List UInt8 := dkwX16_is_1 ++ []
def dkwX16_is_0 : List UInt8 := [42, 180, 0, 7, 198, 0, 16, 42, 180, 0, 7, 43, 185, 0, 13, 2, 0, 153, 0, 7, 4, 167, 0, 4]
abbrev dktX16_is_0 : List UInt8 := dkwX16_is_0 ++ dktX16_is_1
theorem dksX16_is_0 : cX16_is.data.toList.drop 0 = dktX16_is_0 := by decide +kernel
theorem dksX16_is_1 : cX16_is.data.toList.drop 24 = dktX16_is_1 := dk_seg dksX16_is_0 24 rfl rfl
theorem dX16_is_0 : decode cX16_is 0 = .ok (.aload_n 0, 1) := dk_42 (dk_at dksX16_is_0 0 rfl rfl)
theorem dX16_is_1 : decode cX16_is 1 = .ok (.getfield 7, 3) := dk_180 0 7 (dk_at dksX16_is_0 1 rfl rfl)
theorem dX16_is_4 : decode cX16_is 4 = .ok (.ifnull 16, 3) := dk_198 0 16 (dk_at dksX16_is_0 4 rfl rfl)
theorem dX16_is_7 : decode cX16_is 7 = .ok (.aload_n 0, 1) := dk_42 (dk_at dksX16_is_0 7 rfl rfl)
theorem dX16_is_8 : decode cX16_is 8 = .ok (.getfield 7, 3) := dk_180 0 7 (dk_at dksX16_is_0 8 rfl rfl)
theorem dX16_is_11 : decode cX16_is 11 = .ok (.aload_n 1, 1) := dk_43 (dk_at dksX16_is_0 11 rfl rfl)
theorem dX16_is_12 : decode cX16_is 12 = .ok (.invokeinterface 13 2, 5) := by decide +kernel
theorem dX16_is_17 : decode cX16_is 17 = .ok (.ifCond .eq 7, 3) := dk_153 0 7 (dk_at dksX16_is_0 17 rfl rfl)
theorem dX16_is_20 : decode cX16_is 20 = .ok (.iconst 1, 1) := dk_4 (dk_at dksX16_is_0 20 rfl rfl)
theorem dX16_is_21 : decode cX16_is 21 = .ok (.goto 4, 3) := dk_167 0 4 (dk_at dksX16_is_0 21 rfl rfl)
theorem dX16_is_24 : decode cX16_is 24 = .ok (.iconst 0, 1) := dk_3 (dk_at dksX16_is_1 0 rfl rfl)
theorem dX16_is_25 : decode cX16_is 25 = .ok (.ireturn, 1) := dk_172 (dk_at dksX16_is_1 1 rfl rfl)
abbrev cX16_faster : ByteArray := prog_8_method_3_code
def yX16_faster : MethodName := ⟨RX16, "faster", "()I"⟩
theorem dX16_faster_0 : decode cX16_faster 0 = .ok (.iconst 0, 1) := by decide +kernel
theorem dX16_faster_1 : decode cX16_faster 1 = .ok (.ireturn, 1) := by decide +kernel
abbrev cX16_init : ByteArray := prog_8_method_1_code
def yX16_init : MethodName := ⟨RX16, "<init>", "(LGlacierMail$Cond;)V"⟩
def dkwX16_init_0 : List UInt8 := [42, 183, 0, 1, 42, 43, 181, 0, 7, 177]
abbrev dktX16_init_0 : List UInt8 := dkwX16_init_0 ++ []
theorem dksX16_init_0 : cX16_init.data.toList.drop 0 = dktX16_init_0 := by decide +kernel
theorem dX16_init_0 : decode cX16_init 0 = .ok (.aload_n 0, 1) := dk_42 (dk_at dksX16_init_0 0 rfl rfl)
theorem dX16_init_1 : decode cX16_init 1 = .ok (.invokespecial 1, 3) := dk_183 0 1 (dk_at dksX16_init_0 1 rfl rfl)
theorem dX16_init_4 : decode cX16_init 4 = .ok (.aload_n 0, 1) := dk_42 (dk_at dksX16_init_0 4 rfl rfl)
theorem dX16_init_5 : decode cX16_init 5 = .ok (.aload_n 1, 1) := dk_43 (dk_at dksX16_init_0 5 rfl rfl)
theorem dX16_init_6 : decode cX16_init 6 = .ok (.putfield 7, 3) := dk_181 0 7 (dk_at dksX16_init_0 6 rfl rfl)
theorem dX16_init_9 : decode cX16_init 9 = .ok (.return_, 1) := dk_177 (dk_at dksX16_init_0 9 rfl rfl)
abbrev cX16_opens : ByteArray := prog_8_method_4_code
def yX16_opens : MethodName := ⟨RX16, "opens", "()Z"⟩
theorem dX16_opens_0 : decode cX16_opens 0 = .ok (.iconst 0, 1) := by decide +kernel
theorem dX16_opens_1 : decode cX16_opens 1 = .ok (.ireturn, 1) := by decide +kernel
theorem q160 : (Jvm.Cond.initialized "GlacierMail$Line") ∈ lw_all := lw_g (lw_at lw_m1 26 rfl) rfl
theorem q679 : (Jvm.Cond.instanceMethod ({ cls := "GlacierMail$Line", name := "is", desc := "([I)Z" } : Jvm.MethodName)) ∈ lw_all := lw_g (lw_at lw_m3 65 rfl) rfl
theorem q680 : (Jvm.Cond.sameMethod "GlacierMail$Line" "GlacierMail$Line" "is" "([I)Z") ∈ lw_all := lw_g (lw_at lw_m3 66 rfl) rfl
theorem q683 : (Jvm.Cond.code ({ cls := "GlacierMail$Line", name := "is", desc := "([I)Z" } : Jvm.MethodName) prog_8_method_2_code (2 : Nat) (Option.some Jvm.ClassFile.FieldType.boolean)) ∈ lw_all := lw_g (lw_at lw_m3 69 rfl) rfl
theorem q684 : (Jvm.Cond.interfaceEntry "GlacierMail$Line" (13 : Nat)) ∈ lw_tbl := lw_at lw_m3 70 rfl
theorem q685 : (Jvm.Cond.methodLink "GlacierMail$Line" (13 : Nat) ({ cls := "GlacierMail$Cond", name := "holds", desc := "([I)Z" } : Jvm.MethodName)) ∈ lw_all := lw_g (lw_at lw_m3 71 rfl) rfl
theorem q721 : (Jvm.Cond.instanceMethod ({ cls := "GlacierMail$Line", name := "faster", desc := "()I" } : Jvm.MethodName)) ∈ lw_all := lw_g (lw_at lw_m3 107 rfl) rfl
theorem q722 : (Jvm.Cond.sameMethod "GlacierMail$Line" "GlacierMail$Line" "faster" "()I") ∈ lw_all := lw_g (lw_at lw_m3 108 rfl) rfl
theorem q727 : (Jvm.Cond.code ({ cls := "GlacierMail$Line", name := "faster", desc := "()I" } : Jvm.MethodName) prog_8_method_3_code (1 : Nat) (Option.some Jvm.ClassFile.FieldType.int)) ∈ lw_all := lw_g (lw_at lw_m3 113 rfl) rfl
theorem q1118 : (Jvm.Cond.instanceMethod ({ cls := "GlacierMail$Line", name := "<init>", desc := "(LGlacierMail$Cond;)V" } : Jvm.MethodName)) ∈ lw_all := lw_g (lw_at lw_m5 24 rfl) rfl
theorem q1119 : (Jvm.Cond.code ({ cls := "GlacierMail$Line", name := "<init>", desc := "(LGlacierMail$Cond;)V" } : Jvm.MethodName) prog_8_method_1_code (2 : Nat) (Option.none : Option Jvm.ClassFile.FieldType)) ∈ lw_all := lw_g (lw_at lw_m5 25 rfl) rfl
theorem q1120 : (Jvm.Cond.methodLink "GlacierMail$Line" (1 : Nat) ({ cls := "java/lang/Object", name := "<init>", desc := "()V" } : Jvm.MethodName)) ∈ lw_all := lw_g (lw_at lw_m5 26 rfl) rfl
theorem q1122 : (Jvm.Cond.fieldLink "GlacierMail$Line" (7 : Nat) "GlacierMail$Line" "cond" "LGlacierMail$Cond;") ∈ lw_all := lw_g (lw_at lw_m5 28 rfl) rfl
theorem q1126 : (Jvm.Cond.soleField "GlacierMail$Line" "cond") ∈ lw_all := lw_g (lw_at lw_m5 32 rfl) rfl
theorem q1363 : (Jvm.Cond.instanceMethod ({ cls := "GlacierMail$Line", name := "opens", desc := "()Z" } : Jvm.MethodName)) ∈ lw_all := lw_g (lw_at lw_m6 29 rfl) rfl
theorem q1364 : (Jvm.Cond.sameMethod "GlacierMail$Line" "GlacierMail$Line" "opens" "()Z") ∈ lw_all := lw_g (lw_at lw_m6 30 rfl) rfl
theorem q1369 : (Jvm.Cond.code ({ cls := "GlacierMail$Line", name := "opens", desc := "()Z" } : Jvm.MethodName) prog_8_method_4_code (1 : Nat) (Option.some Jvm.ClassFile.FieldType.boolean)) ∈ lw_all := lw_g (lw_at lw_m6 35 rfl) rfl
/-! GlacierMail$Fast -/
set_option maxRecDepth 100000
def RX17 : String := "GlacierMail$Fast"
def TX17 : u_T := fun k => match k with
  | 0 => ("GlacierMail$Line", "cond", "LGlacierMail$Cond;", true)
  | _ => ("GlacierMail$Fast", "n", "I", true)
def tyX17 : Nat → FieldType := fun k => match k with
  | 0 => .object "GlacierMail$Cond"
  | _ => .int
abbrev wsX170 : List Cond := u_ws RX17 TX17 2
theorem nmX17 : ∀ a, a < 2 → ∀ b, b < 2 → a ≠ b → (TX17 a).2.1 ≠ (TX17 b).2.1 := by decide +kernel
theorem tyX17_ok : ∀ k, k < 2 → parseFieldDescriptor (TX17 k).2.2.1 = some (tyX17 k) := by decide +kernel
abbrev cX17_faster : ByteArray := prog_4_method_2_code
def yX17_faster : MethodName := ⟨RX17, "faster", "()I"⟩
theorem dX17_faster_0 : decode cX17_faster 0 = .ok (.aload_n 0, 1) := by decide +kernel
theorem dX17_faster_1 : decode cX17_faster 1 = .ok (.getfield 7, 3) := by decide +kernel
theorem dX17_faster_4 : decode cX17_faster 4 = .ok (.ireturn, 1) := by decide +kernel
abbrev cX17_init : ByteArray := prog_4_method_1_code
def yX17_init : MethodName := ⟨RX17, "<init>", "(ILGlacierMail$Cond;)V"⟩
def dkwX17_init_0 : List UInt8 := [42, 44, 183, 0, 1, 42, 27, 181, 0, 7, 177]
abbrev dktX17_init_0 : List UInt8 := dkwX17_init_0 ++ []
theorem dksX17_init_0 : cX17_init.data.toList.drop 0 = dktX17_init_0 := by decide +kernel
theorem dX17_init_0 : decode cX17_init 0 = .ok (.aload_n 0, 1) := dk_42 (dk_at dksX17_init_0 0 rfl rfl)
theorem dX17_init_1 : decode cX17_init 1 = .ok (.aload_n 2, 1) := dk_44 (dk_at dksX17_init_0 1 rfl rfl)
theorem dX17_init_2 : decode cX17_init 2 = .ok (.invokespecial 1, 3) := dk_183 0 1 (dk_at dksX17_init_0 2 rfl rfl)
theorem dX17_init_5 : decode cX17_init 5 = .ok (.aload_n 0, 1) := dk_42 (dk_at dksX17_init_0 5 rfl rfl)
theorem dX17_init_6 : decode cX17_init 6 = .ok (.iload_n 1, 1) := dk_27 (dk_at dksX17_init_0 6 rfl rfl)
theorem dX17_init_7 : decode cX17_init 7 = .ok (.putfield 7, 3) := dk_181 0 7 (dk_at dksX17_init_0 7 rfl rfl)
theorem dX17_init_10 : decode cX17_init 10 = .ok (.return_, 1) := dk_177 (dk_at dksX17_init_0 10 rfl rfl)
theorem q161 : (Jvm.Cond.initialized "GlacierMail$Fast") ∈ lw_all := lw_g (lw_at lw_m1 27 rfl) rfl
theorem q681 : (Jvm.Cond.selects "GlacierMail$Fast" ({ cls := "GlacierMail$Line", name := "is", desc := "([I)Z" } : Jvm.MethodName) ({ cls := "GlacierMail$Line", name := "is", desc := "([I)Z" } : Jvm.MethodName)) ∈ lw_all := lw_g (lw_at lw_m3 67 rfl) rfl
theorem q723 : (Jvm.Cond.selects "GlacierMail$Fast" ({ cls := "GlacierMail$Line", name := "faster", desc := "()I" } : Jvm.MethodName) ({ cls := "GlacierMail$Fast", name := "faster", desc := "()I" } : Jvm.MethodName)) ∈ lw_all := lw_g (lw_at lw_m3 109 rfl) rfl
theorem q724 : (Jvm.Cond.instanceMethod ({ cls := "GlacierMail$Fast", name := "faster", desc := "()I" } : Jvm.MethodName)) ∈ lw_all := lw_g (lw_at lw_m3 110 rfl) rfl
theorem q725 : (Jvm.Cond.code ({ cls := "GlacierMail$Fast", name := "faster", desc := "()I" } : Jvm.MethodName) prog_4_method_2_code (1 : Nat) (Option.some Jvm.ClassFile.FieldType.int)) ∈ lw_all := lw_g (lw_at lw_m3 111 rfl) rfl
theorem q1113 : (Jvm.Cond.instantiable "GlacierMail$Fast" (2 : Nat)) ∈ lw_all := lw_g (lw_at lw_m5 19 rfl) rfl
theorem q1115 : (Jvm.Cond.instanceMethod ({ cls := "GlacierMail$Fast", name := "<init>", desc := "(ILGlacierMail$Cond;)V" } : Jvm.MethodName)) ∈ lw_all := lw_g (lw_at lw_m5 21 rfl) rfl
theorem q1116 : (Jvm.Cond.code ({ cls := "GlacierMail$Fast", name := "<init>", desc := "(ILGlacierMail$Cond;)V" } : Jvm.MethodName) prog_4_method_1_code (3 : Nat) (Option.none : Option Jvm.ClassFile.FieldType)) ∈ lw_all := lw_g (lw_at lw_m5 22 rfl) rfl
theorem q1117 : (Jvm.Cond.methodLink "GlacierMail$Fast" (1 : Nat) ({ cls := "GlacierMail$Line", name := "<init>", desc := "(LGlacierMail$Cond;)V" } : Jvm.MethodName)) ∈ lw_all := lw_g (lw_at lw_m5 23 rfl) rfl
theorem q1121 : (Jvm.Cond.fieldLink "GlacierMail$Fast" (7 : Nat) "GlacierMail$Fast" "n" "I") ∈ lw_all := lw_g (lw_at lw_m5 27 rfl) rfl
theorem q1123 : (Jvm.Cond.laysFinal "GlacierMail$Fast" "GlacierMail$Fast" "n" "I") ∈ lw_all := lw_g (lw_at lw_m5 29 rfl) rfl
theorem q1124 : (Jvm.Cond.soleField "GlacierMail$Fast" "n") ∈ lw_all := lw_g (lw_at lw_m5 30 rfl) rfl
theorem q1125 : (Jvm.Cond.laysFinal "GlacierMail$Fast" "GlacierMail$Line" "cond" "LGlacierMail$Cond;") ∈ lw_all := lw_g (lw_at lw_m5 31 rfl) rfl
theorem q1127 : (Jvm.Cond.superclass "GlacierMail$Fast" "GlacierMail$Line") ∈ lw_all := lw_g (lw_at lw_m5 33 rfl) rfl
theorem q1365 : (Jvm.Cond.selects "GlacierMail$Fast" ({ cls := "GlacierMail$Line", name := "opens", desc := "()Z" } : Jvm.MethodName) ({ cls := "GlacierMail$Line", name := "opens", desc := "()Z" } : Jvm.MethodName)) ∈ lw_all := lw_g (lw_at lw_m6 31 rfl) rfl
theorem q2296 : (Jvm.Cond.castable "GlacierMail$Fast" "java/lang/Object") ∈ lw_tbl := lw_at lw_m10 2 rfl
theorem q2304 : (Jvm.Cond.castable "GlacierMail$Fast" "GlacierMail$Line") ∈ lw_tbl := lw_at lw_m10 10 rfl
theorem in_X17 : ∀ w ∈ wsX170, w ∈ lw_all := lw_in wsX170 [1125, 1123] (by decide +kernel) (by decide +kernel)
/-! GlacierMail$Opens -/
set_option maxRecDepth 100000
def RX18 : String := "GlacierMail$Opens"
def TX18 : u_T := fun k => match k with
  | _ => ("GlacierMail$Line", "cond", "LGlacierMail$Cond;", true)
def tyX18 : Nat → FieldType := fun k => match k with
  | _ => .object "GlacierMail$Cond"
abbrev wsX180 : List Cond := u_ws RX18 TX18 1
theorem nmX18 : ∀ a, a < 1 → ∀ b, b < 1 → a ≠ b → (TX18 a).2.1 ≠ (TX18 b).2.1 := by decide +kernel
theorem tyX18_ok : ∀ k, k < 1 → parseFieldDescriptor (TX18 k).2.2.1 = some (tyX18 k) := by decide +kernel
abbrev cX18_init : ByteArray := prog_10_method_1_code
def yX18_init : MethodName := ⟨RX18, "<init>", "(LGlacierMail$Cond;)V"⟩
def dkwX18_init_0 : List UInt8 := [42, 43, 183, 0, 1, 177]
abbrev dktX18_init_0 : List UInt8 := dkwX18_init_0 ++ []
theorem dksX18_init_0 : cX18_init.data.toList.drop 0 = dktX18_init_0 := by decide +kernel
theorem dX18_init_0 : decode cX18_init 0 = .ok (.aload_n 0, 1) := dk_42 (dk_at dksX18_init_0 0 rfl rfl)
theorem dX18_init_1 : decode cX18_init 1 = .ok (.aload_n 1, 1) := dk_43 (dk_at dksX18_init_0 1 rfl rfl)
theorem dX18_init_2 : decode cX18_init 2 = .ok (.invokespecial 1, 3) := dk_183 0 1 (dk_at dksX18_init_0 2 rfl rfl)
theorem dX18_init_5 : decode cX18_init 5 = .ok (.return_, 1) := dk_177 (dk_at dksX18_init_0 5 rfl rfl)
abbrev cX18_opens : ByteArray := prog_10_method_2_code
def yX18_opens : MethodName := ⟨RX18, "opens", "()Z"⟩
theorem dX18_opens_0 : decode cX18_opens 0 = .ok (.iconst 1, 1) := by decide +kernel
theorem dX18_opens_1 : decode cX18_opens 1 = .ok (.ireturn, 1) := by decide +kernel
theorem q162 : (Jvm.Cond.initialized "GlacierMail$Opens") ∈ lw_all := lw_g (lw_at lw_m1 28 rfl) rfl
theorem q682 : (Jvm.Cond.selects "GlacierMail$Opens" ({ cls := "GlacierMail$Line", name := "is", desc := "([I)Z" } : Jvm.MethodName) ({ cls := "GlacierMail$Line", name := "is", desc := "([I)Z" } : Jvm.MethodName)) ∈ lw_all := lw_g (lw_at lw_m3 68 rfl) rfl
theorem q726 : (Jvm.Cond.selects "GlacierMail$Opens" ({ cls := "GlacierMail$Line", name := "faster", desc := "()I" } : Jvm.MethodName) ({ cls := "GlacierMail$Line", name := "faster", desc := "()I" } : Jvm.MethodName)) ∈ lw_all := lw_g (lw_at lw_m3 112 rfl) rfl
theorem q1129 : (Jvm.Cond.instantiable "GlacierMail$Opens" (1 : Nat)) ∈ lw_all := lw_g (lw_at lw_m5 35 rfl) rfl
theorem q1131 : (Jvm.Cond.instanceMethod ({ cls := "GlacierMail$Opens", name := "<init>", desc := "(LGlacierMail$Cond;)V" } : Jvm.MethodName)) ∈ lw_all := lw_g (lw_at lw_m5 37 rfl) rfl
theorem q1132 : (Jvm.Cond.code ({ cls := "GlacierMail$Opens", name := "<init>", desc := "(LGlacierMail$Cond;)V" } : Jvm.MethodName) prog_10_method_1_code (2 : Nat) (Option.none : Option Jvm.ClassFile.FieldType)) ∈ lw_all := lw_g (lw_at lw_m5 38 rfl) rfl
theorem q1133 : (Jvm.Cond.methodLink "GlacierMail$Opens" (1 : Nat) ({ cls := "GlacierMail$Line", name := "<init>", desc := "(LGlacierMail$Cond;)V" } : Jvm.MethodName)) ∈ lw_all := lw_g (lw_at lw_m5 39 rfl) rfl
theorem q1134 : (Jvm.Cond.laysFinal "GlacierMail$Opens" "GlacierMail$Line" "cond" "LGlacierMail$Cond;") ∈ lw_all := lw_g (lw_at lw_m5 40 rfl) rfl
theorem q1135 : (Jvm.Cond.superclass "GlacierMail$Opens" "GlacierMail$Line") ∈ lw_all := lw_g (lw_at lw_m5 41 rfl) rfl
theorem q1366 : (Jvm.Cond.selects "GlacierMail$Opens" ({ cls := "GlacierMail$Line", name := "opens", desc := "()Z" } : Jvm.MethodName) ({ cls := "GlacierMail$Opens", name := "opens", desc := "()Z" } : Jvm.MethodName)) ∈ lw_all := lw_g (lw_at lw_m6 32 rfl) rfl
theorem q1367 : (Jvm.Cond.instanceMethod ({ cls := "GlacierMail$Opens", name := "opens", desc := "()Z" } : Jvm.MethodName)) ∈ lw_all := lw_g (lw_at lw_m6 33 rfl) rfl
theorem q1368 : (Jvm.Cond.code ({ cls := "GlacierMail$Opens", name := "opens", desc := "()Z" } : Jvm.MethodName) prog_10_method_2_code (1 : Nat) (Option.some Jvm.ClassFile.FieldType.boolean)) ∈ lw_all := lw_g (lw_at lw_m6 34 rfl) rfl
theorem q2297 : (Jvm.Cond.castable "GlacierMail$Opens" "java/lang/Object") ∈ lw_tbl := lw_at lw_m10 3 rfl
theorem q2305 : (Jvm.Cond.castable "GlacierMail$Opens" "GlacierMail$Line") ∈ lw_tbl := lw_at lw_m10 11 rfl
theorem in_X18 : ∀ w ∈ wsX180, w ∈ lw_all := lw_in wsX180 [1134] (by decide +kernel) (by decide +kernel)
