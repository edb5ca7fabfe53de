/-! java/lang/Throwable -/
set_option maxRecDepth 100000
def RJ0 : String := "java/lang/Throwable"
def TJ0 : u_T := fun k => match k with
  | 0 => ("java/lang/Throwable", "cause", "Ljava/lang/Throwable;", false)
  | 1 => ("java/lang/Throwable", "stackTrace", "[Ljava/lang/StackTraceElement;", false)
  | 2 => ("java/lang/Throwable", "suppressedExceptions", "Ljava/util/List;", false)
  | 3 => ("java/lang/Throwable", "detailMessage", "Ljava/lang/String;", false)
  | _ => ("java/lang/Throwable", "backtrace", "Ljava/lang/Object;", false)
def tyJ0 : Nat → FieldType := fun k => match k with
  | 0 => .object "java/lang/Throwable"
  | 1 => .array (.object "java/lang/StackTraceElement")
  | 2 => .object "java/util/List"
  | 3 => .object "java/lang/String"
  | _ => .object "java/lang/Object"
abbrev wsJ00 : List Cond := u_ws RJ0 TJ0 5
theorem nmJ0 : ∀ a, a < 5 → ∀ b, b < 5 → a ≠ b → (TJ0 a).2.1 ≠ (TJ0 b).2.1 := by decide +kernel
theorem tyJ0_ok : ∀ k, k < 5 → parseFieldDescriptor (TJ0 k).2.2.1 = some (tyJ0 k) := by decide +kernel
abbrev cJ0_init : ByteArray := prog_44_method_1_code
def yJ0_init : MethodName := ⟨RJ0, "<init>", "()V"⟩
def dkwJ0_init_1 : List UInt8 := [182, 0, 27, 87, 177]
abbrev dktJ0_init_1 : List UInt8 := dkwJ0_init_1 ++ []
def dkwJ0_init_0 : List UInt8 := [42, 183, 0, 1, 42, 42, 181, 0, 7, 42, 178, 0, 13, 181, 0, 17, 42, 178, 0, 20, 181, 0, 24, 42]
abbrev dktJ0_init_0 : List UInt8 := dkwJ0_init_0 ++ dktJ0_init_1
theorem dksJ0_init_0 : cJ0_init.data.toList.drop 0 = dktJ0_init_0 := by decide +kernel
theorem dksJ0_init_1 : cJ0_init.data.toList.drop 24 = dktJ0_init_1 := dk_seg dksJ0_init_0 24 rfl rfl
theorem dJ0_init_0 : decode cJ0_init 0 = .ok (.aload_n 0, 1) := dk_42 (dk_at dksJ0_init_0 0 rfl rfl)
theorem dJ0_init_1 : decode cJ0_init 1 = .ok (.invokespecial 1, 3) := dk_183 0 1 (dk_at dksJ0_init_0 1 rfl rfl)
theorem dJ0_init_4 : decode cJ0_init 4 = .ok (.aload_n 0, 1) := dk_42 (dk_at dksJ0_init_0 4 rfl rfl)
theorem dJ0_init_5 : decode cJ0_init 5 = .ok (.aload_n 0, 1) := dk_42 (dk_at dksJ0_init_0 5 rfl rfl)
theorem dJ0_init_6 : decode cJ0_init 6 = .ok (.putfield 7, 3) := dk_181 0 7 (dk_at dksJ0_init_0 6 rfl rfl)
theorem dJ0_init_9 : decode cJ0_init 9 = .ok (.aload_n 0, 1) := dk_42 (dk_at dksJ0_init_0 9 rfl rfl)
theorem dJ0_init_10 : decode cJ0_init 10 = .ok (.getstatic 13, 3) := dk_178 0 13 (dk_at dksJ0_init_0 10 rfl rfl)
theorem dJ0_init_13 : decode cJ0_init 13 = .ok (.putfield 17, 3) := dk_181 0 17 (dk_at dksJ0_init_0 13 rfl rfl)
theorem dJ0_init_16 : decode cJ0_init 16 = .ok (.aload_n 0, 1) := dk_42 (dk_at dksJ0_init_0 16 rfl rfl)
theorem dJ0_init_17 : decode cJ0_init 17 = .ok (.getstatic 20, 3) := dk_178 0 20 (dk_at dksJ0_init_0 17 rfl rfl)
theorem dJ0_init_20 : decode cJ0_init 20 = .ok (.putfield 24, 3) := dk_181 0 24 (dk_at dksJ0_init_0 20 rfl rfl)
theorem dJ0_init_23 : decode cJ0_init 23 = .ok (.aload_n 0, 1) := dk_42 (dk_at dksJ0_init_0 23 rfl rfl)
theorem dJ0_init_24 : decode cJ0_init 24 = .ok (.invokevirtual 27, 3) := dk_182 0 27 (dk_at dksJ0_init_1 0 rfl rfl)
theorem dJ0_init_27 : decode cJ0_init 27 = .ok (.pop, 1) := dk_87 (dk_at dksJ0_init_1 3 rfl rfl)
theorem dJ0_init_28 : decode cJ0_init 28 = .ok (.return_, 1) := dk_177 (dk_at dksJ0_init_1 4 rfl rfl)
abbrev cJ0_init_2 : ByteArray := prog_44_method_5_code
def yJ0_init_2 : MethodName := ⟨RJ0, "<init>", "(Ljava/lang/String;Ljava/lang/Throwable;ZZ)V"⟩
def dkwJ0_init_2_2 : List UInt8 := [44, 181, 0, 7, 29, 154, 0, 8, 42, 1, 181, 0, 24, 177]
abbrev dktJ0_init_2_2 : List UInt8 := dkwJ0_init_2_2 ++ []
def dkwJ0_init_2_1 : List UInt8 := [21, 4, 153, 0, 11, 42, 182, 0, 27, 87, 167, 0, 8, 42, 1, 181, 0, 17, 42, 43, 181, 0, 31, 42]
abbrev dktJ0_init_2_1 : List UInt8 := dkwJ0_init_2_1 ++ dktJ0_init_2_2
def dkwJ0_init_2_0 : List UInt8 := [42, 183, 0, 1, 42, 42, 181, 0, 7, 42, 178, 0, 13, 181, 0, 17, 42, 178, 0, 20, 181, 0, 24]
abbrev dktJ0_init_2_0 : List UInt8 := dkwJ0_init_2_0 ++ dktJ0_init_2_1
theorem dksJ0_init_2_0 : cJ0_init_2.data.toList.drop 0 = dktJ0_init_2_0 := by decide +kernel
theorem dksJ0_init_2_1 : cJ0_init_2.data.toList.drop 23 = dktJ0_init_2_1 := dk_seg dksJ0_init_2_0 23 rfl rfl
theorem dksJ0_init_2_2 : cJ0_init_2.data.toList.drop 47 = dktJ0_init_2_2 := dk_seg dksJ0_init_2_1 24 rfl rfl
theorem dJ0_init_2_0 : decode cJ0_init_2 0 = .ok (.aload_n 0, 1) := dk_42 (dk_at dksJ0_init_2_0 0 rfl rfl)
theorem dJ0_init_2_1 : decode cJ0_init_2 1 = .ok (.invokespecial 1, 3) := dk_183 0 1 (dk_at dksJ0_init_2_0 1 rfl rfl)
theorem dJ0_init_2_4 : decode cJ0_init_2 4 = .ok (.aload_n 0, 1) := dk_42 (dk_at dksJ0_init_2_0 4 rfl rfl)
theorem dJ0_init_2_5 : decode cJ0_init_2 5 = .ok (.aload_n 0, 1) := dk_42 (dk_at dksJ0_init_2_0 5 rfl rfl)
theorem dJ0_init_2_6 : decode cJ0_init_2 6 = .ok (.putfield 7, 3) := dk_181 0 7 (dk_at dksJ0_init_2_0 6 rfl rfl)
theorem dJ0_init_2_9 : decode cJ0_init_2 9 = .ok (.aload_n 0, 1) := dk_42 (dk_at dksJ0_init_2_0 9 rfl rfl)
theorem dJ0_init_2_10 : decode cJ0_init_2 10 = .ok (.getstatic 13, 3) := dk_178 0 13 (dk_at dksJ0_init_2_0 10 rfl rfl)
theorem dJ0_init_2_13 : decode cJ0_init_2 13 = .ok (.putfield 17, 3) := dk_181 0 17 (dk_at dksJ0_init_2_0 13 rfl rfl)
theorem dJ0_init_2_16 : decode cJ0_init_2 16 = .ok (.aload_n 0, 1) := dk_42 (dk_at dksJ0_init_2_0 16 rfl rfl)
theorem dJ0_init_2_17 : decode cJ0_init_2 17 = .ok (.getstatic 20, 3) := dk_178 0 20 (dk_at dksJ0_init_2_0 17 rfl rfl)
theorem dJ0_init_2_20 : decode cJ0_init_2 20 = .ok (.putfield 24, 3) := dk_181 0 24 (dk_at dksJ0_init_2_0 20 rfl rfl)
theorem dJ0_init_2_23 : decode cJ0_init_2 23 = .ok (.iload 4, 2) := dk_21 4 (dk_at dksJ0_init_2_1 0 rfl rfl)
theorem dJ0_init_2_25 : decode cJ0_init_2 25 = .ok (.ifCond .eq 11, 3) := dk_153 0 11 (dk_at dksJ0_init_2_1 2 rfl rfl)
theorem dJ0_init_2_28 : decode cJ0_init_2 28 = .ok (.aload_n 0, 1) := dk_42 (dk_at dksJ0_init_2_1 5 rfl rfl)
theorem dJ0_init_2_29 : decode cJ0_init_2 29 = .ok (.invokevirtual 27, 3) := dk_182 0 27 (dk_at dksJ0_init_2_1 6 rfl rfl)
theorem dJ0_init_2_32 : decode cJ0_init_2 32 = .ok (.pop, 1) := dk_87 (dk_at dksJ0_init_2_1 9 rfl rfl)
theorem dJ0_init_2_33 : decode cJ0_init_2 33 = .ok (.goto 8, 3) := dk_167 0 8 (dk_at dksJ0_init_2_1 10 rfl rfl)
theorem dJ0_init_2_36 : decode cJ0_init_2 36 = .ok (.aload_n 0, 1) := dk_42 (dk_at dksJ0_init_2_1 13 rfl rfl)
theorem dJ0_init_2_37 : decode cJ0_init_2 37 = .ok (.aconst_null, 1) := dk_1 (dk_at dksJ0_init_2_1 14 rfl rfl)
theorem dJ0_init_2_38 : decode cJ0_init_2 38 = .ok (.putfield 17, 3) := dk_181 0 17 (dk_at dksJ0_init_2_1 15 rfl rfl)
theorem dJ0_init_2_41 : decode cJ0_init_2 41 = .ok (.aload_n 0, 1) := dk_42 (dk_at dksJ0_init_2_1 18 rfl rfl)
theorem dJ0_init_2_42 : decode cJ0_init_2 42 = .ok (.aload_n 1, 1) := dk_43 (dk_at dksJ0_init_2_1 19 rfl rfl)
theorem dJ0_init_2_43 : decode cJ0_init_2 43 = .ok (.putfield 31, 3) := dk_181 0 31 (dk_at dksJ0_init_2_1 20 rfl rfl)
theorem dJ0_init_2_46 : decode cJ0_init_2 46 = .ok (.aload_n 0, 1) := dk_42 (dk_at dksJ0_init_2_1 23 rfl rfl)
theorem dJ0_init_2_47 : decode cJ0_init_2 47 = .ok (.aload_n 2, 1) := dk_44 (dk_at dksJ0_init_2_2 0 rfl rfl)
theorem dJ0_init_2_48 : decode cJ0_init_2 48 = .ok (.putfield 7, 3) := dk_181 0 7 (dk_at dksJ0_init_2_2 1 rfl rfl)
theorem dJ0_init_2_51 : decode cJ0_init_2 51 = .ok (.iload_n 3, 1) := dk_29 (dk_at dksJ0_init_2_2 4 rfl rfl)
theorem dJ0_init_2_52 : decode cJ0_init_2 52 = .ok (.ifCond .ne 8, 3) := dk_154 0 8 (dk_at dksJ0_init_2_2 5 rfl rfl)
theorem dJ0_init_2_55 : decode cJ0_init_2 55 = .ok (.aload_n 0, 1) := dk_42 (dk_at dksJ0_init_2_2 8 rfl rfl)
theorem dJ0_init_2_56 : decode cJ0_init_2 56 = .ok (.aconst_null, 1) := dk_1 (dk_at dksJ0_init_2_2 9 rfl rfl)
theorem dJ0_init_2_57 : decode cJ0_init_2 57 = .ok (.putfield 24, 3) := dk_181 0 24 (dk_at dksJ0_init_2_2 10 rfl rfl)
theorem dJ0_init_2_60 : decode cJ0_init_2 60 = .ok (.return_, 1) := dk_177 (dk_at dksJ0_init_2_2 13 rfl rfl)
abbrev cJ0_init_3 : ByteArray := prog_44_method_2_code
def yJ0_init_3 : MethodName := ⟨RJ0, "<init>", "(Ljava/lang/String;)V"⟩
def dkwJ0_init_3_1 : List UInt8 := [182, 0, 27, 87, 42, 43, 181, 0, 31, 177]
abbrev dktJ0_init_3_1 : List UInt8 := dkwJ0_init_3_1 ++ []
def dkwJ0_init_3_0 : List UInt8 := [42, 183, 0, 1, 42, 42, 181, 0, 7, 42, 178, 0, 13, 181, 0, 17, 42, 178, 0, 20, 181, 0, 24, 42]
abbrev dktJ0_init_3_0 : List UInt8 := dkwJ0_init_3_0 ++ dktJ0_init_3_1
theorem dksJ0_init_3_0 : cJ0_init_3.data.toList.drop 0 = dktJ0_init_3_0 := by decide +kernel
theorem dksJ0_init_3_1 : cJ0_init_3.data.toList.drop 24 = dktJ0_init_3_1 := dk_seg dksJ0_init_3_0 24 rfl rfl
theorem dJ0_init_3_0 : decode cJ0_init_3 0 = .ok (.aload_n 0, 1) := dk_42 (dk_at dksJ0_init_3_0 0 rfl rfl)
theorem dJ0_init_3_1 : decode cJ0_init_3 1 = .ok (.invokespecial 1, 3) := dk_183 0 1 (dk_at dksJ0_init_3_0 1 rfl rfl)
theorem dJ0_init_3_4 : decode cJ0_init_3 4 = .ok (.aload_n 0, 1) := dk_42 (dk_at dksJ0_init_3_0 4 rfl rfl)
theorem dJ0_init_3_5 : decode cJ0_init_3 5 = .ok (.aload_n 0, 1) := dk_42 (dk_at dksJ0_init_3_0 5 rfl rfl)
theorem dJ0_init_3_6 : decode cJ0_init_3 6 = .ok (.putfield 7, 3) := dk_181 0 7 (dk_at dksJ0_init_3_0 6 rfl rfl)
theorem dJ0_init_3_9 : decode cJ0_init_3 9 = .ok (.aload_n 0, 1) := dk_42 (dk_at dksJ0_init_3_0 9 rfl rfl)
theorem dJ0_init_3_10 : decode cJ0_init_3 10 = .ok (.getstatic 13, 3) := dk_178 0 13 (dk_at dksJ0_init_3_0 10 rfl rfl)
theorem dJ0_init_3_13 : decode cJ0_init_3 13 = .ok (.putfield 17, 3) := dk_181 0 17 (dk_at dksJ0_init_3_0 13 rfl rfl)
theorem dJ0_init_3_16 : decode cJ0_init_3 16 = .ok (.aload_n 0, 1) := dk_42 (dk_at dksJ0_init_3_0 16 rfl rfl)
theorem dJ0_init_3_17 : decode cJ0_init_3 17 = .ok (.getstatic 20, 3) := dk_178 0 20 (dk_at dksJ0_init_3_0 17 rfl rfl)
theorem dJ0_init_3_20 : decode cJ0_init_3 20 = .ok (.putfield 24, 3) := dk_181 0 24 (dk_at dksJ0_init_3_0 20 rfl rfl)
theorem dJ0_init_3_23 : decode cJ0_init_3 23 = .ok (.aload_n 0, 1) := dk_42 (dk_at dksJ0_init_3_0 23 rfl rfl)
theorem dJ0_init_3_24 : decode cJ0_init_3 24 = .ok (.invokevirtual 27, 3) := dk_182 0 27 (dk_at dksJ0_init_3_1 0 rfl rfl)
theorem dJ0_init_3_27 : decode cJ0_init_3 27 = .ok (.pop, 1) := dk_87 (dk_at dksJ0_init_3_1 3 rfl rfl)
theorem dJ0_init_3_28 : decode cJ0_init_3 28 = .ok (.aload_n 0, 1) := dk_42 (dk_at dksJ0_init_3_1 4 rfl rfl)
theorem dJ0_init_3_29 : decode cJ0_init_3 29 = .ok (.aload_n 1, 1) := dk_43 (dk_at dksJ0_init_3_1 5 rfl rfl)
theorem dJ0_init_3_30 : decode cJ0_init_3 30 = .ok (.putfield 31, 3) := dk_181 0 31 (dk_at dksJ0_init_3_1 6 rfl rfl)
theorem dJ0_init_3_33 : decode cJ0_init_3 33 = .ok (.return_, 1) := dk_177 (dk_at dksJ0_init_3_1 9 rfl rfl)
theorem q119 : (Jvm.Cond.initialized "java/lang/Throwable") ∈ lw_all := lw_g (lw_at lw_m1 17 rfl) rfl
theorem q411 : (Jvm.Cond.declares ({ cls := "java/lang/Throwable", name := "<init>", desc := "()V" } : Jvm.MethodName)) ∈ lw_tbl := lw_at lw_m2 69 rfl
theorem q412 : (Jvm.Cond.declares ({ cls := "java/lang/Throwable", name := "<init>", desc := "(Ljava/lang/String;)V" } : Jvm.MethodName)) ∈ lw_tbl := lw_at lw_m2 70 rfl
theorem q416 : (Jvm.Cond.lays "java/lang/Throwable" "java/lang/Throwable" "cause" "Ljava/lang/Throwable;") ∈ lw_all := lw_g (lw_at lw_m2 74 rfl) rfl
theorem q418 : (Jvm.Cond.lays "java/lang/Throwable" "java/lang/Throwable" "stackTrace" "[Ljava/lang/StackTraceElement;") ∈ lw_all := lw_g (lw_at lw_m2 76 rfl) rfl
theorem q420 : (Jvm.Cond.lays "java/lang/Throwable" "java/lang/Throwable" "suppressedExceptions" "Ljava/util/List;") ∈ lw_all := lw_g (lw_at lw_m2 78 rfl) rfl
theorem q422 : (Jvm.Cond.lays "java/lang/Throwable" "java/lang/Throwable" "detailMessage" "Ljava/lang/String;") ∈ lw_all := lw_g (lw_at lw_m2 80 rfl) rfl
theorem q424 : (Jvm.Cond.lays "java/lang/Throwable" "java/lang/Throwable" "backtrace" "Ljava/lang/Object;") ∈ lw_all := lw_g (lw_at lw_m2 82 rfl) rfl
theorem q425 : (Jvm.Cond.fieldLink "java/lang/Throwable" (198 : Nat) "java/lang/Throwable" "backtrace" "Ljava/lang/Object;") ∈ lw_all := lw_g (lw_at lw_m2 83 rfl) rfl
theorem q426 : (Jvm.Cond.superclass "java/lang/Throwable" "java/lang/Object") ∈ lw_all := lw_g (lw_at lw_m2 84 rfl) rfl
theorem q427 : (Jvm.Cond.instanceMethod ({ cls := "java/lang/Throwable", name := "<init>", desc := "()V" } : Jvm.MethodName)) ∈ lw_all := lw_g (lw_at lw_m2 85 rfl) rfl
theorem q428 : (Jvm.Cond.code ({ cls := "java/lang/Throwable", name := "<init>", desc := "()V" } : Jvm.MethodName) prog_44_method_1_code (1 : Nat) (Option.none : Option Jvm.ClassFile.FieldType)) ∈ lw_all := lw_g (lw_at lw_m2 86 rfl) rfl
theorem q429 : (Jvm.Cond.methodLink "java/lang/Throwable" (1 : Nat) ({ cls := "java/lang/Object", name := "<init>", desc := "()V" } : Jvm.MethodName)) ∈ lw_all := lw_g (lw_at lw_m2 87 rfl) rfl
theorem q430 : (Jvm.Cond.fieldLink "java/lang/Throwable" (13 : Nat) "java/lang/Throwable" "UNASSIGNED_STACK" "[Ljava/lang/StackTraceElement;") ∈ lw_all := lw_g (lw_at lw_m2 88 rfl) rfl
theorem q431 : (Jvm.Cond.laysStatic "java/lang/Throwable" "UNASSIGNED_STACK" "[Ljava/lang/StackTraceElement;") ∈ lw_tbl := lw_at lw_m2 89 rfl
theorem q432 : (Jvm.Cond.fieldLink "java/lang/Throwable" (20 : Nat) "java/lang/Throwable" "SUPPRESSED_SENTINEL" "Ljava/util/List;") ∈ lw_all := lw_g (lw_at lw_m2 90 rfl) rfl
theorem q433 : (Jvm.Cond.laysStatic "java/lang/Throwable" "SUPPRESSED_SENTINEL" "Ljava/util/List;") ∈ lw_tbl := lw_at lw_m2 91 rfl
theorem q434 : (Jvm.Cond.methodLink "java/lang/Throwable" (27 : Nat) ({ cls := "java/lang/Throwable", name := "fillInStackTrace", desc := "()Ljava/lang/Throwable;" } : Jvm.MethodName)) ∈ lw_all := lw_g (lw_at lw_m2 92 rfl) rfl
theorem q435 : (Jvm.Cond.instanceMethod ({ cls := "java/lang/Throwable", name := "fillInStackTrace", desc := "()Ljava/lang/Throwable;" } : Jvm.MethodName)) ∈ lw_all := lw_g (lw_at lw_m2 93 rfl) rfl
theorem q436 : (Jvm.Cond.sameMethod "java/lang/Throwable" "java/lang/Throwable" "fillInStackTrace" "()Ljava/lang/Throwable;") ∈ lw_all := lw_g (lw_at lw_m2 94 rfl) rfl
theorem q442 : (Jvm.Cond.codeSync ({ cls := "java/lang/Throwable", name := "fillInStackTrace", desc := "()Ljava/lang/Throwable;" } : Jvm.MethodName) prog_44_method_18_code (1 : Nat) (Option.some (Jvm.ClassFile.FieldType.object "java/lang/Throwable"))) ∈ lw_all := lw_g (lw_at lw_m2 100 rfl) rfl
theorem q443 : (Jvm.Cond.methodLink "java/lang/Throwable" (202 : Nat) ({ cls := "java/lang/Throwable", name := "fillInStackTrace", desc := "(I)Ljava/lang/Throwable;" } : Jvm.MethodName)) ∈ lw_all := lw_g (lw_at lw_m2 101 rfl) rfl
theorem q444 : (Jvm.Cond.privateMethod ({ cls := "java/lang/Throwable", name := "fillInStackTrace", desc := "(I)Ljava/lang/Throwable;" } : Jvm.MethodName)) ∈ lw_tbl := lw_at lw_m2 102 rfl
theorem q445 : (Jvm.Cond.instanceMethod ({ cls := "java/lang/Throwable", name := "fillInStackTrace", desc := "(I)Ljava/lang/Throwable;" } : Jvm.MethodName)) ∈ lw_all := lw_g (lw_at lw_m2 103 rfl) rfl
theorem q446 : (Jvm.Cond.instantiable "java/lang/Throwable" (6 : Nat)) ∈ lw_all := lw_g (lw_at lw_m2 104 rfl) rfl
theorem q447 : (Jvm.Cond.native ({ cls := "java/lang/Throwable", name := "fillInStackTrace", desc := "(I)Ljava/lang/Throwable;" } : Jvm.MethodName)) ∈ lw_all := lw_g (lw_at lw_m2 105 rfl) rfl
theorem q458 : (Jvm.Cond.instanceMethod ({ cls := "java/lang/Throwable", name := "<init>", desc := "(Ljava/lang/String;Ljava/lang/Throwable;ZZ)V" } : Jvm.MethodName)) ∈ lw_all := lw_g (lw_at lw_m2 116 rfl) rfl
theorem q459 : (Jvm.Cond.code ({ cls := "java/lang/Throwable", name := "<init>", desc := "(Ljava/lang/String;Ljava/lang/Throwable;ZZ)V" } : Jvm.MethodName) prog_44_method_5_code (5 : Nat) (Option.none : Option Jvm.ClassFile.FieldType)) ∈ lw_all := lw_g (lw_at lw_m2 117 rfl) rfl
theorem q462 : (Jvm.Cond.fieldLink "java/lang/Throwable" (198 : Nat) "java/lang/Throwable" "backtrace" "Ljava/lang/Object;") ∈ lw_all := lw_g (lw_at lw_m2 120 rfl) rfl
theorem q463 : (Jvm.Cond.fieldLink "java/lang/Throwable" (31 : Nat) "java/lang/Throwable" "detailMessage" "Ljava/lang/String;") ∈ lw_all := lw_g (lw_at lw_m2 121 rfl) rfl
theorem q464 : (Jvm.Cond.fieldLink "java/lang/Throwable" (7 : Nat) "java/lang/Throwable" "cause" "Ljava/lang/Throwable;") ∈ lw_all := lw_g (lw_at lw_m2 122 rfl) rfl
theorem q465 : (Jvm.Cond.fieldLink "java/lang/Throwable" (17 : Nat) "java/lang/Throwable" "stackTrace" "[Ljava/lang/StackTraceElement;") ∈ lw_all := lw_g (lw_at lw_m2 123 rfl) rfl
theorem q466 : (Jvm.Cond.fieldLink "java/lang/Throwable" (24 : Nat) "java/lang/Throwable" "suppressedExceptions" "Ljava/util/List;") ∈ lw_all := lw_g (lw_at lw_m2 124 rfl) rfl
theorem q469 : (Jvm.Cond.soleField "java/lang/Throwable" "backtrace") ∈ lw_all := lw_g (lw_at lw_m2 127 rfl) rfl
theorem q470 : (Jvm.Cond.soleField "java/lang/Throwable" "detailMessage") ∈ lw_all := lw_g (lw_at lw_m2 128 rfl) rfl
theorem q471 : (Jvm.Cond.soleField "java/lang/Throwable" "cause") ∈ lw_all := lw_g (lw_at lw_m2 129 rfl) rfl
theorem q472 : (Jvm.Cond.soleField "java/lang/Throwable" "stackTrace") ∈ lw_all := lw_g (lw_at lw_m2 130 rfl) rfl
theorem q474 : (Jvm.Cond.soleField "java/lang/Throwable" "depth") ∈ lw_all := lw_g (lw_at lw_m2 132 rfl) rfl
theorem q475 : (Jvm.Cond.soleField "java/lang/Throwable" "suppressedExceptions") ∈ lw_all := lw_g (lw_at lw_m2 133 rfl) rfl
theorem q1123 : (Jvm.Cond.instanceMethod ({ cls := "java/lang/Throwable", name := "<init>", desc := "(Ljava/lang/String;)V" } : Jvm.MethodName)) ∈ lw_all := lw_g (lw_at lw_m5 61 rfl) rfl
theorem q1124 : (Jvm.Cond.code ({ cls := "java/lang/Throwable", name := "<init>", desc := "(Ljava/lang/String;)V" } : Jvm.MethodName) prog_44_method_2_code (2 : Nat) (Option.none : Option Jvm.ClassFile.FieldType)) ∈ lw_all := lw_g (lw_at lw_m5 62 rfl) rfl
theorem q2136 : (Jvm.Cond.sameMethod "java/lang/Throwable" "java/lang/Throwable" "fillInStackTrace" "(I)Ljava/lang/Throwable;") ∈ lw_all := lw_g (lw_at lw_m9 114 rfl) rfl
theorem in_J0 : ∀ w ∈ wsJ00, w ∈ lw_all := lw_in wsJ00 [416, 418, 420, 422, 424] (by decide +kernel) (by decide +kernel)

/-! java/lang/Exception -/
set_option maxRecDepth 100000
def RJ1 : String := "java/lang/Exception"
abbrev cJ1_init : ByteArray := prog_36_method_5_code
def yJ1_init : MethodName := ⟨RJ1, "<init>", "(Ljava/lang/String;Ljava/lang/Throwable;ZZ)V"⟩
def dkwJ1_init_0 : List UInt8 := [42, 43, 44, 29, 21, 4, 183, 0, 16, 177]
abbrev dktJ1_init_0 : List UInt8 := dkwJ1_init_0 ++ []
theorem dksJ1_init_0 : cJ1_init.data.toList.drop 0 = dktJ1_init_0 := by decide +kernel
theorem dJ1_init_0 : decode cJ1_init 0 = .ok (.aload_n 0, 1) := dk_42 (dk_at dksJ1_init_0 0 rfl rfl)
theorem dJ1_init_1 : decode cJ1_init 1 = .ok (.aload_n 1, 1) := dk_43 (dk_at dksJ1_init_0 1 rfl rfl)
theorem dJ1_init_2 : decode cJ1_init 2 = .ok (.aload_n 2, 1) := dk_44 (dk_at dksJ1_init_0 2 rfl rfl)
theorem dJ1_init_3 : decode cJ1_init 3 = .ok (.iload_n 3, 1) := dk_29 (dk_at dksJ1_init_0 3 rfl rfl)
theorem dJ1_init_4 : decode cJ1_init 4 = .ok (.iload 4, 2) := dk_21 4 (dk_at dksJ1_init_0 4 rfl rfl)
theorem dJ1_init_6 : decode cJ1_init 6 = .ok (.invokespecial 16, 3) := dk_183 0 16 (dk_at dksJ1_init_0 6 rfl rfl)
theorem dJ1_init_9 : decode cJ1_init 9 = .ok (.return_, 1) := dk_177 (dk_at dksJ1_init_0 9 rfl rfl)
abbrev cJ1_init_2 : ByteArray := prog_36_method_2_code
def yJ1_init_2 : MethodName := ⟨RJ1, "<init>", "(Ljava/lang/String;)V"⟩
def dkwJ1_init_2_0 : List UInt8 := [42, 43, 183, 0, 7, 177]
abbrev dktJ1_init_2_0 : List UInt8 := dkwJ1_init_2_0 ++ []
theorem dksJ1_init_2_0 : cJ1_init_2.data.toList.drop 0 = dktJ1_init_2_0 := by decide +kernel
theorem dJ1_init_2_0 : decode cJ1_init_2 0 = .ok (.aload_n 0, 1) := dk_42 (dk_at dksJ1_init_2_0 0 rfl rfl)
theorem dJ1_init_2_1 : decode cJ1_init_2 1 = .ok (.aload_n 1, 1) := dk_43 (dk_at dksJ1_init_2_0 1 rfl rfl)
theorem dJ1_init_2_2 : decode cJ1_init_2 2 = .ok (.invokespecial 7, 3) := dk_183 0 7 (dk_at dksJ1_init_2_0 2 rfl rfl)
theorem dJ1_init_2_5 : decode cJ1_init_2 5 = .ok (.return_, 1) := dk_177 (dk_at dksJ1_init_2_0 5 rfl rfl)
theorem q120 : (Jvm.Cond.initialized "java/lang/Exception") ∈ lw_all := lw_g (lw_at lw_m1 18 rfl) rfl
theorem q409 : (Jvm.Cond.declares ({ cls := "java/lang/Exception", name := "<init>", desc := "()V" } : Jvm.MethodName)) ∈ lw_tbl := lw_at lw_m2 67 rfl
theorem q410 : (Jvm.Cond.declares ({ cls := "java/lang/Exception", name := "<init>", desc := "(Ljava/lang/String;)V" } : Jvm.MethodName)) ∈ lw_tbl := lw_at lw_m2 68 rfl
theorem q455 : (Jvm.Cond.instanceMethod ({ cls := "java/lang/Exception", name := "<init>", desc := "(Ljava/lang/String;Ljava/lang/Throwable;ZZ)V" } : Jvm.MethodName)) ∈ lw_all := lw_g (lw_at lw_m2 113 rfl) rfl
theorem q456 : (Jvm.Cond.code ({ cls := "java/lang/Exception", name := "<init>", desc := "(Ljava/lang/String;Ljava/lang/Throwable;ZZ)V" } : Jvm.MethodName) prog_36_method_5_code (5 : Nat) (Option.none : Option Jvm.ClassFile.FieldType)) ∈ lw_all := lw_g (lw_at lw_m2 114 rfl) rfl
theorem q457 : (Jvm.Cond.methodLink "java/lang/Exception" (16 : Nat) ({ cls := "java/lang/Throwable", name := "<init>", desc := "(Ljava/lang/String;Ljava/lang/Throwable;ZZ)V" } : Jvm.MethodName)) ∈ lw_all := lw_g (lw_at lw_m2 115 rfl) rfl
theorem q1120 : (Jvm.Cond.instanceMethod ({ cls := "java/lang/Exception", name := "<init>", desc := "(Ljava/lang/String;)V" } : Jvm.MethodName)) ∈ lw_all := lw_g (lw_at lw_m5 58 rfl) rfl
theorem q1121 : (Jvm.Cond.code ({ cls := "java/lang/Exception", name := "<init>", desc := "(Ljava/lang/String;)V" } : Jvm.MethodName) prog_36_method_2_code (2 : Nat) (Option.none : Option Jvm.ClassFile.FieldType)) ∈ lw_all := lw_g (lw_at lw_m5 59 rfl) rfl
theorem q1122 : (Jvm.Cond.methodLink "java/lang/Exception" (7 : Nat) ({ cls := "java/lang/Throwable", name := "<init>", desc := "(Ljava/lang/String;)V" } : Jvm.MethodName)) ∈ lw_all := lw_g (lw_at lw_m5 60 rfl) rfl

/-! java/lang/RuntimeException -/
set_option maxRecDepth 100000
def RJ2 : String := "java/lang/RuntimeException"
abbrev cJ2_init : ByteArray := prog_39_method_5_code
def yJ2_init : MethodName := ⟨RJ2, "<init>", "(Ljava/lang/String;Ljava/lang/Throwable;ZZ)V"⟩
def dkwJ2_init_0 : List UInt8 := [42, 43, 44, 29, 21, 4, 183, 0, 16, 177]
abbrev dktJ2_init_0 : List UInt8 := dkwJ2_init_0 ++ []
theorem dksJ2_init_0 : cJ2_init.data.toList.drop 0 = dktJ2_init_0 := by decide +kernel
theorem dJ2_init_0 : decode cJ2_init 0 = .ok (.aload_n 0, 1) := dk_42 (dk_at dksJ2_init_0 0 rfl rfl)
theorem dJ2_init_1 : decode cJ2_init 1 = .ok (.aload_n 1, 1) := dk_43 (dk_at dksJ2_init_0 1 rfl rfl)
theorem dJ2_init_2 : decode cJ2_init 2 = .ok (.aload_n 2, 1) := dk_44 (dk_at dksJ2_init_0 2 rfl rfl)
theorem dJ2_init_3 : decode cJ2_init 3 = .ok (.iload_n 3, 1) := dk_29 (dk_at dksJ2_init_0 3 rfl rfl)
theorem dJ2_init_4 : decode cJ2_init 4 = .ok (.iload 4, 2) := dk_21 4 (dk_at dksJ2_init_0 4 rfl rfl)
theorem dJ2_init_6 : decode cJ2_init 6 = .ok (.invokespecial 16, 3) := dk_183 0 16 (dk_at dksJ2_init_0 6 rfl rfl)
theorem dJ2_init_9 : decode cJ2_init 9 = .ok (.return_, 1) := dk_177 (dk_at dksJ2_init_0 9 rfl rfl)
abbrev cJ2_init_2 : ByteArray := prog_39_method_2_code
def yJ2_init_2 : MethodName := ⟨RJ2, "<init>", "(Ljava/lang/String;)V"⟩
def dkwJ2_init_2_0 : List UInt8 := [42, 43, 183, 0, 7, 177]
abbrev dktJ2_init_2_0 : List UInt8 := dkwJ2_init_2_0 ++ []
theorem dksJ2_init_2_0 : cJ2_init_2.data.toList.drop 0 = dktJ2_init_2_0 := by decide +kernel
theorem dJ2_init_2_0 : decode cJ2_init_2 0 = .ok (.aload_n 0, 1) := dk_42 (dk_at dksJ2_init_2_0 0 rfl rfl)
theorem dJ2_init_2_1 : decode cJ2_init_2 1 = .ok (.aload_n 1, 1) := dk_43 (dk_at dksJ2_init_2_0 1 rfl rfl)
theorem dJ2_init_2_2 : decode cJ2_init_2 2 = .ok (.invokespecial 7, 3) := dk_183 0 7 (dk_at dksJ2_init_2_0 2 rfl rfl)
theorem dJ2_init_2_5 : decode cJ2_init_2 5 = .ok (.return_, 1) := dk_177 (dk_at dksJ2_init_2_0 5 rfl rfl)
theorem q121 : (Jvm.Cond.initialized "java/lang/RuntimeException") ∈ lw_all := lw_g (lw_at lw_m1 19 rfl) rfl
theorem q407 : (Jvm.Cond.declares ({ cls := "java/lang/RuntimeException", name := "<init>", desc := "()V" } : Jvm.MethodName)) ∈ lw_tbl := lw_at lw_m2 65 rfl
theorem q408 : (Jvm.Cond.declares ({ cls := "java/lang/RuntimeException", name := "<init>", desc := "(Ljava/lang/String;)V" } : Jvm.MethodName)) ∈ lw_tbl := lw_at lw_m2 66 rfl
theorem q452 : (Jvm.Cond.instanceMethod ({ cls := "java/lang/RuntimeException", name := "<init>", desc := "(Ljava/lang/String;Ljava/lang/Throwable;ZZ)V" } : Jvm.MethodName)) ∈ lw_all := lw_g (lw_at lw_m2 110 rfl) rfl
theorem q453 : (Jvm.Cond.code ({ cls := "java/lang/RuntimeException", name := "<init>", desc := "(Ljava/lang/String;Ljava/lang/Throwable;ZZ)V" } : Jvm.MethodName) prog_39_method_5_code (5 : Nat) (Option.none : Option Jvm.ClassFile.FieldType)) ∈ lw_all := lw_g (lw_at lw_m2 111 rfl) rfl
theorem q454 : (Jvm.Cond.methodLink "java/lang/RuntimeException" (16 : Nat) ({ cls := "java/lang/Exception", name := "<init>", desc := "(Ljava/lang/String;Ljava/lang/Throwable;ZZ)V" } : Jvm.MethodName)) ∈ lw_all := lw_g (lw_at lw_m2 112 rfl) rfl
theorem q1117 : (Jvm.Cond.instanceMethod ({ cls := "java/lang/RuntimeException", name := "<init>", desc := "(Ljava/lang/String;)V" } : Jvm.MethodName)) ∈ lw_all := lw_g (lw_at lw_m5 55 rfl) rfl
theorem q1118 : (Jvm.Cond.code ({ cls := "java/lang/RuntimeException", name := "<init>", desc := "(Ljava/lang/String;)V" } : Jvm.MethodName) prog_39_method_2_code (2 : Nat) (Option.none : Option Jvm.ClassFile.FieldType)) ∈ lw_all := lw_g (lw_at lw_m5 56 rfl) rfl
theorem q1119 : (Jvm.Cond.methodLink "java/lang/RuntimeException" (7 : Nat) ({ cls := "java/lang/Exception", name := "<init>", desc := "(Ljava/lang/String;)V" } : Jvm.MethodName)) ∈ lw_all := lw_g (lw_at lw_m5 57 rfl) rfl

/-! java/lang/String -/
set_option maxRecDepth 100000
def RJ3 : String := "java/lang/String"
def TJ3 : u_T := fun k => match k with
  | 0 => ("java/lang/String", "value", "[B", true)
  | _ => ("java/lang/String", "coder", "B", true)
def tyJ3 : Nat → FieldType := fun k => match k with
  | 0 => .array .byte
  | _ => .byte
abbrev wsJ30 : List Cond := u_ws RJ3 TJ3 2
theorem nmJ3 : ∀ a, a < 2 → ∀ b, b < 2 → a ≠ b → (TJ3 a).2.1 ≠ (TJ3 b).2.1 := by decide +kernel
theorem tyJ3_ok : ∀ k, k < 2 → parseFieldDescriptor (TJ3 k).2.2.1 = some (tyJ3 k) := by decide +kernel
abbrev cJ3_length : ByteArray := prog_40_method_54_code
def yJ3_length : MethodName := ⟨RJ3, "length", "()I"⟩
def dkwJ3_length_0 : List UInt8 := [42, 180, 0, 9, 190, 42, 182, 1, 79, 122, 172]
abbrev dktJ3_length_0 : List UInt8 := dkwJ3_length_0 ++ []
theorem dksJ3_length_0 : cJ3_length.data.toList.drop 0 = dktJ3_length_0 := by decide +kernel
theorem dJ3_length_0 : decode cJ3_length 0 = .ok (.aload_n 0, 1) := dk_42 (dk_at dksJ3_length_0 0 rfl rfl)
theorem dJ3_length_1 : decode cJ3_length 1 = .ok (.getfield 9, 3) := dk_180 0 9 (dk_at dksJ3_length_0 1 rfl rfl)
theorem dJ3_length_4 : decode cJ3_length 4 = .ok (.arraylength, 1) := dk_190 (dk_at dksJ3_length_0 4 rfl rfl)
theorem dJ3_length_5 : decode cJ3_length 5 = .ok (.aload_n 0, 1) := dk_42 (dk_at dksJ3_length_0 5 rfl rfl)
theorem dJ3_length_6 : decode cJ3_length 6 = .ok (.invokevirtual 335, 3) := dk_182 1 79 (dk_at dksJ3_length_0 6 rfl rfl)
theorem dJ3_length_9 : decode cJ3_length 9 = .ok (.ishr, 1) := dk_122 (dk_at dksJ3_length_0 9 rfl rfl)
theorem dJ3_length_10 : decode cJ3_length 10 = .ok (.ireturn, 1) := dk_172 (dk_at dksJ3_length_0 10 rfl rfl)
abbrev cJ3_coder : ByteArray := prog_40_method_152_code
def yJ3_coder : MethodName := ⟨RJ3, "coder", "()B"⟩
def dkwJ3_coder_0 : List UInt8 := [178, 0, 38, 153, 0, 10, 42, 180, 0, 15, 167, 0, 4, 4, 172]
abbrev dktJ3_coder_0 : List UInt8 := dkwJ3_coder_0 ++ []
theorem dksJ3_coder_0 : cJ3_coder.data.toList.drop 0 = dktJ3_coder_0 := by decide +kernel
theorem dJ3_coder_0 : decode cJ3_coder 0 = .ok (.getstatic 38, 3) := dk_178 0 38 (dk_at dksJ3_coder_0 0 rfl rfl)
theorem dJ3_coder_3 : decode cJ3_coder 3 = .ok (.ifCond .eq 10, 3) := dk_153 0 10 (dk_at dksJ3_coder_0 3 rfl rfl)
theorem dJ3_coder_6 : decode cJ3_coder 6 = .ok (.aload_n 0, 1) := dk_42 (dk_at dksJ3_coder_0 6 rfl rfl)
theorem dJ3_coder_7 : decode cJ3_coder 7 = .ok (.getfield 15, 3) := dk_180 0 15 (dk_at dksJ3_coder_0 7 rfl rfl)
theorem dJ3_coder_10 : decode cJ3_coder 10 = .ok (.goto 4, 3) := dk_167 0 4 (dk_at dksJ3_coder_0 10 rfl rfl)
theorem dJ3_coder_13 : decode cJ3_coder 13 = .ok (.iconst 1, 1) := dk_4 (dk_at dksJ3_coder_0 13 rfl rfl)
theorem dJ3_coder_14 : decode cJ3_coder 14 = .ok (.ireturn, 1) := dk_172 (dk_at dksJ3_coder_0 14 rfl rfl)
abbrev cJ3_charAt : ByteArray := prog_40_method_56_code
def yJ3_charAt : MethodName := ⟨RJ3, "charAt", "(I)C"⟩
def dkwJ3_charAt_1 : List UInt8 := [172]
abbrev dktJ3_charAt_1 : List UInt8 := dkwJ3_charAt_1 ++ []
def dkwJ3_charAt_0 : List UInt8 := [42, 182, 1, 236, 153, 0, 12, 42, 180, 0, 9, 27, 184, 1, 239, 172, 42, 180, 0, 9, 27, 184, 1, 242]
abbrev dktJ3_charAt_0 : List UInt8 := dkwJ3_charAt_0 ++ dktJ3_charAt_1
theorem dksJ3_charAt_0 : cJ3_charAt.data.toList.drop 0 = dktJ3_charAt_0 := by decide +kernel
theorem dksJ3_charAt_1 : cJ3_charAt.data.toList.drop 24 = dktJ3_charAt_1 := dk_seg dksJ3_charAt_0 24 rfl rfl
theorem dJ3_charAt_0 : decode cJ3_charAt 0 = .ok (.aload_n 0, 1) := dk_42 (dk_at dksJ3_charAt_0 0 rfl rfl)
theorem dJ3_charAt_1 : decode cJ3_charAt 1 = .ok (.invokevirtual 492, 3) := dk_182 1 236 (dk_at dksJ3_charAt_0 1 rfl rfl)
theorem dJ3_charAt_4 : decode cJ3_charAt 4 = .ok (.ifCond .eq 12, 3) := dk_153 0 12 (dk_at dksJ3_charAt_0 4 rfl rfl)
theorem dJ3_charAt_7 : decode cJ3_charAt 7 = .ok (.aload_n 0, 1) := dk_42 (dk_at dksJ3_charAt_0 7 rfl rfl)
theorem dJ3_charAt_8 : decode cJ3_charAt 8 = .ok (.getfield 9, 3) := dk_180 0 9 (dk_at dksJ3_charAt_0 8 rfl rfl)
theorem dJ3_charAt_11 : decode cJ3_charAt 11 = .ok (.iload_n 1, 1) := dk_27 (dk_at dksJ3_charAt_0 11 rfl rfl)
theorem dJ3_charAt_12 : decode cJ3_charAt 12 = .ok (.invokestatic 495, 3) := dk_184 1 239 (dk_at dksJ3_charAt_0 12 rfl rfl)
theorem dJ3_charAt_15 : decode cJ3_charAt 15 = .ok (.ireturn, 1) := dk_172 (dk_at dksJ3_charAt_0 15 rfl rfl)
theorem dJ3_charAt_16 : decode cJ3_charAt 16 = .ok (.aload_n 0, 1) := dk_42 (dk_at dksJ3_charAt_0 16 rfl rfl)
theorem dJ3_charAt_17 : decode cJ3_charAt 17 = .ok (.getfield 9, 3) := dk_180 0 9 (dk_at dksJ3_charAt_0 17 rfl rfl)
theorem dJ3_charAt_20 : decode cJ3_charAt 20 = .ok (.iload_n 1, 1) := dk_27 (dk_at dksJ3_charAt_0 20 rfl rfl)
theorem dJ3_charAt_21 : decode cJ3_charAt 21 = .ok (.invokestatic 498, 3) := dk_184 1 242 (dk_at dksJ3_charAt_0 21 rfl rfl)
theorem dJ3_charAt_24 : decode cJ3_charAt 24 = .ok (.ireturn, 1) := dk_172 (dk_at dksJ3_charAt_1 0 rfl rfl)
abbrev cJ3_isLatin1 : ByteArray := prog_40_method_154_code
def yJ3_isLatin1 : MethodName := ⟨RJ3, "isLatin1", "()Z"⟩
def dkwJ3_isLatin1_0 : List UInt8 := [178, 0, 38, 153, 0, 14, 42, 180, 0, 15, 154, 0, 7, 4, 167, 0, 4, 3, 172]
abbrev dktJ3_isLatin1_0 : List UInt8 := dkwJ3_isLatin1_0 ++ []
theorem dksJ3_isLatin1_0 : cJ3_isLatin1.data.toList.drop 0 = dktJ3_isLatin1_0 := by decide +kernel
theorem dJ3_isLatin1_0 : decode cJ3_isLatin1 0 = .ok (.getstatic 38, 3) := dk_178 0 38 (dk_at dksJ3_isLatin1_0 0 rfl rfl)
theorem dJ3_isLatin1_3 : decode cJ3_isLatin1 3 = .ok (.ifCond .eq 14, 3) := dk_153 0 14 (dk_at dksJ3_isLatin1_0 3 rfl rfl)
theorem dJ3_isLatin1_6 : decode cJ3_isLatin1 6 = .ok (.aload_n 0, 1) := dk_42 (dk_at dksJ3_isLatin1_0 6 rfl rfl)
theorem dJ3_isLatin1_7 : decode cJ3_isLatin1 7 = .ok (.getfield 15, 3) := dk_180 0 15 (dk_at dksJ3_isLatin1_0 7 rfl rfl)
theorem dJ3_isLatin1_10 : decode cJ3_isLatin1 10 = .ok (.ifCond .ne 7, 3) := dk_154 0 7 (dk_at dksJ3_isLatin1_0 10 rfl rfl)
theorem dJ3_isLatin1_13 : decode cJ3_isLatin1 13 = .ok (.iconst 1, 1) := dk_4 (dk_at dksJ3_isLatin1_0 13 rfl rfl)
theorem dJ3_isLatin1_14 : decode cJ3_isLatin1 14 = .ok (.goto 4, 3) := dk_167 0 4 (dk_at dksJ3_isLatin1_0 14 rfl rfl)
theorem dJ3_isLatin1_17 : decode cJ3_isLatin1 17 = .ok (.iconst 0, 1) := dk_3 (dk_at dksJ3_isLatin1_0 17 rfl rfl)
theorem dJ3_isLatin1_18 : decode cJ3_isLatin1 18 = .ok (.ireturn, 1) := dk_172 (dk_at dksJ3_isLatin1_0 18 rfl rfl)
abbrev cJ3_checkIndex : ByteArray := prog_40_method_155_code
def yJ3_checkIndex : MethodName := ⟨RJ3, "checkIndex", "(II)V"⟩
def dkwJ3_checkIndex_0 : List UInt8 := [26, 27, 178, 4, 29, 184, 4, 35, 87, 177]
abbrev dktJ3_checkIndex_0 : List UInt8 := dkwJ3_checkIndex_0 ++ []
theorem dksJ3_checkIndex_0 : cJ3_checkIndex.data.toList.drop 0 = dktJ3_checkIndex_0 := by decide +kernel
theorem dJ3_checkIndex_0 : decode cJ3_checkIndex 0 = .ok (.iload_n 0, 1) := dk_26 (dk_at dksJ3_checkIndex_0 0 rfl rfl)
theorem dJ3_checkIndex_1 : decode cJ3_checkIndex 1 = .ok (.iload_n 1, 1) := dk_27 (dk_at dksJ3_checkIndex_0 1 rfl rfl)
theorem dJ3_checkIndex_2 : decode cJ3_checkIndex 2 = .ok (.getstatic 1053, 3) := dk_178 4 29 (dk_at dksJ3_checkIndex_0 2 rfl rfl)
theorem dJ3_checkIndex_5 : decode cJ3_checkIndex 5 = .ok (.invokestatic 1059, 3) := dk_184 4 35 (dk_at dksJ3_checkIndex_0 5 rfl rfl)
theorem dJ3_checkIndex_8 : decode cJ3_checkIndex 8 = .ok (.pop, 1) := dk_87 (dk_at dksJ3_checkIndex_0 8 rfl rfl)
theorem dJ3_checkIndex_9 : decode cJ3_checkIndex 9 = .ok (.return_, 1) := dk_177 (dk_at dksJ3_checkIndex_0 9 rfl rfl)
theorem q129 : (Jvm.Cond.initialized "java/lang/String") ∈ lw_all := lw_g (lw_at lw_m1 27 rfl) rfl
theorem q698 : (Jvm.Cond.instanceMethod ({ cls := "java/lang/String", name := "length", desc := "()I" } : Jvm.MethodName)) ∈ lw_all := lw_g (lw_at lw_m3 116 rfl) rfl
theorem q699 : (Jvm.Cond.selects "java/lang/String" ({ cls := "java/lang/String", name := "length", desc := "()I" } : Jvm.MethodName) ({ cls := "java/lang/String", name := "length", desc := "()I" } : Jvm.MethodName)) ∈ lw_all := lw_g (lw_at lw_m3 117 rfl) rfl
theorem q700 : (Jvm.Cond.code ({ cls := "java/lang/String", name := "length", desc := "()I" } : Jvm.MethodName) prog_40_method_54_code (1 : Nat) (Option.some Jvm.ClassFile.FieldType.int)) ∈ lw_all := lw_g (lw_at lw_m3 118 rfl) rfl
theorem q701 : (Jvm.Cond.methodLink "java/lang/String" (335 : Nat) ({ cls := "java/lang/String", name := "coder", desc := "()B" } : Jvm.MethodName)) ∈ lw_all := lw_g (lw_at lw_m3 119 rfl) rfl
theorem q702 : (Jvm.Cond.instanceMethod ({ cls := "java/lang/String", name := "coder", desc := "()B" } : Jvm.MethodName)) ∈ lw_all := lw_g (lw_at lw_m3 120 rfl) rfl
theorem q703 : (Jvm.Cond.selects "java/lang/String" ({ cls := "java/lang/String", name := "coder", desc := "()B" } : Jvm.MethodName) ({ cls := "java/lang/String", name := "coder", desc := "()B" } : Jvm.MethodName)) ∈ lw_all := lw_g (lw_at lw_m3 121 rfl) rfl
theorem q704 : (Jvm.Cond.code ({ cls := "java/lang/String", name := "coder", desc := "()B" } : Jvm.MethodName) prog_40_method_152_code (1 : Nat) (Option.some Jvm.ClassFile.FieldType.byte)) ∈ lw_all := lw_g (lw_at lw_m3 122 rfl) rfl
theorem q705 : (Jvm.Cond.fieldLink "java/lang/String" (38 : Nat) "java/lang/String" "COMPACT_STRINGS" "Z") ∈ lw_all := lw_g (lw_at lw_m3 123 rfl) rfl
theorem q706 : (Jvm.Cond.laysStatic "java/lang/String" "COMPACT_STRINGS" "Z") ∈ lw_tbl := lw_at lw_m3 124 rfl
theorem q708 : (Jvm.Cond.instanceMethod ({ cls := "java/lang/String", name := "charAt", desc := "(I)C" } : Jvm.MethodName)) ∈ lw_all := lw_g (lw_at lw_m3 126 rfl) rfl
theorem q709 : (Jvm.Cond.selects "java/lang/String" ({ cls := "java/lang/String", name := "charAt", desc := "(I)C" } : Jvm.MethodName) ({ cls := "java/lang/String", name := "charAt", desc := "(I)C" } : Jvm.MethodName)) ∈ lw_all := lw_g (lw_at lw_m3 127 rfl) rfl
theorem q710 : (Jvm.Cond.code ({ cls := "java/lang/String", name := "charAt", desc := "(I)C" } : Jvm.MethodName) prog_40_method_56_code (2 : Nat) (Option.some Jvm.ClassFile.FieldType.char)) ∈ lw_all := lw_g (lw_at lw_m3 128 rfl) rfl
theorem q711 : (Jvm.Cond.methodLink "java/lang/String" (492 : Nat) ({ cls := "java/lang/String", name := "isLatin1", desc := "()Z" } : Jvm.MethodName)) ∈ lw_all := lw_g (lw_at lw_m3 129 rfl) rfl
theorem q712 : (Jvm.Cond.instanceMethod ({ cls := "java/lang/String", name := "isLatin1", desc := "()Z" } : Jvm.MethodName)) ∈ lw_all := lw_g (lw_at lw_m3 130 rfl) rfl
theorem q713 : (Jvm.Cond.selects "java/lang/String" ({ cls := "java/lang/String", name := "isLatin1", desc := "()Z" } : Jvm.MethodName) ({ cls := "java/lang/String", name := "isLatin1", desc := "()Z" } : Jvm.MethodName)) ∈ lw_all := lw_g (lw_at lw_m3 131 rfl) rfl
theorem q714 : (Jvm.Cond.code ({ cls := "java/lang/String", name := "isLatin1", desc := "()Z" } : Jvm.MethodName) prog_40_method_154_code (1 : Nat) (Option.some Jvm.ClassFile.FieldType.boolean)) ∈ lw_all := lw_g (lw_at lw_m3 132 rfl) rfl
theorem q715 : (Jvm.Cond.methodLink "java/lang/String" (495 : Nat) ({ cls := "java/lang/StringLatin1", name := "charAt", desc := "([BI)C" } : Jvm.MethodName)) ∈ lw_all := lw_g (lw_at lw_m3 133 rfl) rfl
theorem q719 : (Jvm.Cond.static ({ cls := "java/lang/String", name := "checkIndex", desc := "(II)V" } : Jvm.MethodName)) ∈ lw_all := lw_g (lw_at lw_m3 137 rfl) rfl
theorem q720 : (Jvm.Cond.code ({ cls := "java/lang/String", name := "checkIndex", desc := "(II)V" } : Jvm.MethodName) prog_40_method_155_code (2 : Nat) (Option.none : Option Jvm.ClassFile.FieldType)) ∈ lw_all := lw_g (lw_at lw_m3 138 rfl) rfl
theorem q721 : (Jvm.Cond.fieldLink "java/lang/String" (1053 : Nat) "jdk/internal/util/Preconditions" "SIOOBE_FORMATTER" "Ljava/util/function/BiFunction;") ∈ lw_all := lw_g (lw_at lw_m3 139 rfl) rfl
theorem q723 : (Jvm.Cond.methodLink "java/lang/String" (1059 : Nat) ({ cls := "jdk/internal/util/Preconditions", name := "checkIndex", desc := "(IILjava/util/function/BiFunction;)I" } : Jvm.MethodName)) ∈ lw_all := lw_g (lw_at lw_m3 141 rfl) rfl
theorem q726 : (Jvm.Cond.methodLink "java/lang/String" (498 : Nat) ({ cls := "java/lang/StringUTF16", name := "charAt", desc := "([BI)C" } : Jvm.MethodName)) ∈ lw_all := lw_g (lw_at lw_m3 144 rfl) rfl
theorem q1134 : (Jvm.Cond.instantiable "java/lang/String" (4 : Nat)) ∈ lw_all := lw_g (lw_at lw_m5 72 rfl) rfl
theorem q1135 : (Jvm.Cond.laysFinal "java/lang/String" "java/lang/String" "value" "[B") ∈ lw_all := lw_g (lw_at lw_m5 73 rfl) rfl
theorem q1136 : (Jvm.Cond.soleField "java/lang/String" "value") ∈ lw_all := lw_g (lw_at lw_m5 74 rfl) rfl
theorem q1137 : (Jvm.Cond.laysFinal "java/lang/String" "java/lang/String" "coder" "B") ∈ lw_all := lw_g (lw_at lw_m5 75 rfl) rfl
theorem q1138 : (Jvm.Cond.soleField "java/lang/String" "coder") ∈ lw_all := lw_g (lw_at lw_m5 76 rfl) rfl
theorem q2171 : (Jvm.Cond.fieldLink "java/lang/String" (9 : Nat) "java/lang/String" "value" "[B") ∈ lw_all := lw_g (lw_at lw_m9 149 rfl) rfl
theorem q2172 : (Jvm.Cond.fieldLink "java/lang/String" (15 : Nat) "java/lang/String" "coder" "B") ∈ lw_all := lw_g (lw_at lw_m9 150 rfl) rfl
theorem in_J3 : ∀ w ∈ wsJ30, w ∈ lw_all := lw_in wsJ30 [1135, 1137] (by decide +kernel) (by decide +kernel)

/-! java/lang/StringLatin1 -/
set_option maxRecDepth 100000
def RJ4 : String := "java/lang/StringLatin1"
abbrev cJ4_charAt : ByteArray := prog_41_method_2_code
def yJ4_charAt : MethodName := ⟨RJ4, "charAt", "([BI)C"⟩
def dkwJ4_charAt_0 : List UInt8 := [27, 42, 190, 184, 0, 9, 42, 27, 51, 17, 0, 255, 126, 146, 172]
abbrev dktJ4_charAt_0 : List UInt8 := dkwJ4_charAt_0 ++ []
theorem dksJ4_charAt_0 : cJ4_charAt.data.toList.drop 0 = dktJ4_charAt_0 := by decide +kernel
theorem dJ4_charAt_0 : decode cJ4_charAt 0 = .ok (.iload_n 1, 1) := dk_27 (dk_at dksJ4_charAt_0 0 rfl rfl)
theorem dJ4_charAt_1 : decode cJ4_charAt 1 = .ok (.aload_n 0, 1) := dk_42 (dk_at dksJ4_charAt_0 1 rfl rfl)
theorem dJ4_charAt_2 : decode cJ4_charAt 2 = .ok (.arraylength, 1) := dk_190 (dk_at dksJ4_charAt_0 2 rfl rfl)
theorem dJ4_charAt_3 : decode cJ4_charAt 3 = .ok (.invokestatic 9, 3) := dk_184 0 9 (dk_at dksJ4_charAt_0 3 rfl rfl)
theorem dJ4_charAt_6 : decode cJ4_charAt 6 = .ok (.aload_n 0, 1) := dk_42 (dk_at dksJ4_charAt_0 6 rfl rfl)
theorem dJ4_charAt_7 : decode cJ4_charAt 7 = .ok (.iload_n 1, 1) := dk_27 (dk_at dksJ4_charAt_0 7 rfl rfl)
theorem dJ4_charAt_8 : decode cJ4_charAt 8 = .ok (.baload, 1) := dk_51 (dk_at dksJ4_charAt_0 8 rfl rfl)
theorem dJ4_charAt_9 : decode cJ4_charAt 9 = .ok (.sipush 255, 3) := dk_17 0 255 (dk_at dksJ4_charAt_0 9 rfl rfl)
theorem dJ4_charAt_12 : decode cJ4_charAt 12 = .ok (.iand, 1) := dk_126 (dk_at dksJ4_charAt_0 12 rfl rfl)
theorem dJ4_charAt_13 : decode cJ4_charAt 13 = .ok (.i2c, 1) := dk_146 (dk_at dksJ4_charAt_0 13 rfl rfl)
theorem dJ4_charAt_14 : decode cJ4_charAt 14 = .ok (.ireturn, 1) := dk_172 (dk_at dksJ4_charAt_0 14 rfl rfl)
theorem q130 : (Jvm.Cond.initialized "java/lang/StringLatin1") ∈ lw_all := lw_g (lw_at lw_m1 28 rfl) rfl
theorem q716 : (Jvm.Cond.static ({ cls := "java/lang/StringLatin1", name := "charAt", desc := "([BI)C" } : Jvm.MethodName)) ∈ lw_all := lw_g (lw_at lw_m3 134 rfl) rfl
theorem q717 : (Jvm.Cond.code ({ cls := "java/lang/StringLatin1", name := "charAt", desc := "([BI)C" } : Jvm.MethodName) prog_41_method_2_code (2 : Nat) (Option.some Jvm.ClassFile.FieldType.char)) ∈ lw_all := lw_g (lw_at lw_m3 135 rfl) rfl
theorem q718 : (Jvm.Cond.methodLink "java/lang/StringLatin1" (9 : Nat) ({ cls := "java/lang/String", name := "checkIndex", desc := "(II)V" } : Jvm.MethodName)) ∈ lw_all := lw_g (lw_at lw_m3 136 rfl) rfl

/-! jdk/internal/util/Preconditions -/
set_option maxRecDepth 100000
def RJ5 : String := "jdk/internal/util/Preconditions"
abbrev cJ5_checkIndex : ByteArray := prog_45_method_11_code
def yJ5_checkIndex : MethodName := ⟨RJ5, "checkIndex", "(IILjava/util/function/BiFunction;)I"⟩
def dkwJ5_checkIndex_0 : List UInt8 := [26, 155, 0, 8, 26, 27, 161, 0, 10, 44, 26, 27, 184, 0, 95, 191, 26, 172]
abbrev dktJ5_checkIndex_0 : List UInt8 := dkwJ5_checkIndex_0 ++ []
theorem dksJ5_checkIndex_0 : cJ5_checkIndex.data.toList.drop 0 = dktJ5_checkIndex_0 := by decide +kernel
theorem dJ5_checkIndex_0 : decode cJ5_checkIndex 0 = .ok (.iload_n 0, 1) := dk_26 (dk_at dksJ5_checkIndex_0 0 rfl rfl)
theorem dJ5_checkIndex_1 : decode cJ5_checkIndex 1 = .ok (.ifCond .lt 8, 3) := dk_155 0 8 (dk_at dksJ5_checkIndex_0 1 rfl rfl)
theorem dJ5_checkIndex_4 : decode cJ5_checkIndex 4 = .ok (.iload_n 0, 1) := dk_26 (dk_at dksJ5_checkIndex_0 4 rfl rfl)
theorem dJ5_checkIndex_5 : decode cJ5_checkIndex 5 = .ok (.iload_n 1, 1) := dk_27 (dk_at dksJ5_checkIndex_0 5 rfl rfl)
theorem dJ5_checkIndex_6 : decode cJ5_checkIndex 6 = .ok (.if_icmp .lt 10, 3) := dk_161 0 10 (dk_at dksJ5_checkIndex_0 6 rfl rfl)
theorem dJ5_checkIndex_9 : decode cJ5_checkIndex 9 = .ok (.aload_n 2, 1) := dk_44 (dk_at dksJ5_checkIndex_0 9 rfl rfl)
theorem dJ5_checkIndex_10 : decode cJ5_checkIndex 10 = .ok (.iload_n 0, 1) := dk_26 (dk_at dksJ5_checkIndex_0 10 rfl rfl)
theorem dJ5_checkIndex_11 : decode cJ5_checkIndex 11 = .ok (.iload_n 1, 1) := dk_27 (dk_at dksJ5_checkIndex_0 11 rfl rfl)
theorem dJ5_checkIndex_12 : decode cJ5_checkIndex 12 = .ok (.invokestatic 95, 3) := dk_184 0 95 (dk_at dksJ5_checkIndex_0 12 rfl rfl)
theorem dJ5_checkIndex_15 : decode cJ5_checkIndex 15 = .ok (.athrow, 1) := dk_191 (dk_at dksJ5_checkIndex_0 15 rfl rfl)
theorem dJ5_checkIndex_16 : decode cJ5_checkIndex 16 = .ok (.iload_n 0, 1) := dk_26 (dk_at dksJ5_checkIndex_0 16 rfl rfl)
theorem dJ5_checkIndex_17 : decode cJ5_checkIndex 17 = .ok (.ireturn, 1) := dk_172 (dk_at dksJ5_checkIndex_0 17 rfl rfl)
theorem q131 : (Jvm.Cond.initialized "jdk/internal/util/Preconditions") ∈ lw_all := lw_g (lw_at lw_m1 29 rfl) rfl
theorem q722 : (Jvm.Cond.laysStatic "jdk/internal/util/Preconditions" "SIOOBE_FORMATTER" "Ljava/util/function/BiFunction;") ∈ lw_tbl := lw_at lw_m3 140 rfl
theorem q724 : (Jvm.Cond.static ({ cls := "jdk/internal/util/Preconditions", name := "checkIndex", desc := "(IILjava/util/function/BiFunction;)I" } : Jvm.MethodName)) ∈ lw_all := lw_g (lw_at lw_m3 142 rfl) rfl
theorem q725 : (Jvm.Cond.code ({ cls := "jdk/internal/util/Preconditions", name := "checkIndex", desc := "(IILjava/util/function/BiFunction;)I" } : Jvm.MethodName) prog_45_method_11_code (3 : Nat) (Option.some Jvm.ClassFile.FieldType.int)) ∈ lw_all := lw_g (lw_at lw_m3 143 rfl) rfl

/-! java/lang/StringUTF16 -/
set_option maxRecDepth 100000
def RJ6 : String := "java/lang/StringUTF16"
abbrev cJ6_charAt : ByteArray := prog_42_method_83_code
def yJ6_charAt : MethodName := ⟨RJ6, "charAt", "([BI)C"⟩
def dkwJ6_charAt_0 : List UInt8 := [27, 42, 184, 0, 67, 42, 27, 184, 0, 71, 172]
abbrev dktJ6_charAt_0 : List UInt8 := dkwJ6_charAt_0 ++ []
theorem dksJ6_charAt_0 : cJ6_charAt.data.toList.drop 0 = dktJ6_charAt_0 := by decide +kernel
theorem dJ6_charAt_0 : decode cJ6_charAt 0 = .ok (.iload_n 1, 1) := dk_27 (dk_at dksJ6_charAt_0 0 rfl rfl)
theorem dJ6_charAt_1 : decode cJ6_charAt 1 = .ok (.aload_n 0, 1) := dk_42 (dk_at dksJ6_charAt_0 1 rfl rfl)
theorem dJ6_charAt_2 : decode cJ6_charAt 2 = .ok (.invokestatic 67, 3) := dk_184 0 67 (dk_at dksJ6_charAt_0 2 rfl rfl)
theorem dJ6_charAt_5 : decode cJ6_charAt 5 = .ok (.aload_n 0, 1) := dk_42 (dk_at dksJ6_charAt_0 5 rfl rfl)
theorem dJ6_charAt_6 : decode cJ6_charAt 6 = .ok (.iload_n 1, 1) := dk_27 (dk_at dksJ6_charAt_0 6 rfl rfl)
theorem dJ6_charAt_7 : decode cJ6_charAt 7 = .ok (.invokestatic 71, 3) := dk_184 0 71 (dk_at dksJ6_charAt_0 7 rfl rfl)
theorem dJ6_charAt_10 : decode cJ6_charAt 10 = .ok (.ireturn, 1) := dk_172 (dk_at dksJ6_charAt_0 10 rfl rfl)
abbrev cJ6_checkIndex : ByteArray := prog_42_method_91_code
def yJ6_checkIndex : MethodName := ⟨RJ6, "checkIndex", "(I[B)V"⟩
def dkwJ6_checkIndex_0 : List UInt8 := [26, 43, 184, 0, 48, 184, 1, 158, 177]
abbrev dktJ6_checkIndex_0 : List UInt8 := dkwJ6_checkIndex_0 ++ []
theorem dksJ6_checkIndex_0 : cJ6_checkIndex.data.toList.drop 0 = dktJ6_checkIndex_0 := by decide +kernel
theorem dJ6_checkIndex_0 : decode cJ6_checkIndex 0 = .ok (.iload_n 0, 1) := dk_26 (dk_at dksJ6_checkIndex_0 0 rfl rfl)
theorem dJ6_checkIndex_1 : decode cJ6_checkIndex 1 = .ok (.aload_n 1, 1) := dk_43 (dk_at dksJ6_checkIndex_0 1 rfl rfl)
theorem dJ6_checkIndex_2 : decode cJ6_checkIndex 2 = .ok (.invokestatic 48, 3) := dk_184 0 48 (dk_at dksJ6_checkIndex_0 2 rfl rfl)
theorem dJ6_checkIndex_5 : decode cJ6_checkIndex 5 = .ok (.invokestatic 414, 3) := dk_184 1 158 (dk_at dksJ6_checkIndex_0 5 rfl rfl)
theorem dJ6_checkIndex_8 : decode cJ6_checkIndex 8 = .ok (.return_, 1) := dk_177 (dk_at dksJ6_checkIndex_0 8 rfl rfl)
abbrev cJ6_length : ByteArray := prog_42_method_6_code
def yJ6_length : MethodName := ⟨RJ6, "length", "([B)I"⟩
def dkwJ6_length_0 : List UInt8 := [42, 190, 4, 122, 172]
abbrev dktJ6_length_0 : List UInt8 := dkwJ6_length_0 ++ []
theorem dksJ6_length_0 : cJ6_length.data.toList.drop 0 = dktJ6_length_0 := by decide +kernel
theorem dJ6_length_0 : decode cJ6_length 0 = .ok (.aload_n 0, 1) := dk_42 (dk_at dksJ6_length_0 0 rfl rfl)
theorem dJ6_length_1 : decode cJ6_length 1 = .ok (.arraylength, 1) := dk_190 (dk_at dksJ6_length_0 1 rfl rfl)
theorem dJ6_length_2 : decode cJ6_length 2 = .ok (.iconst 1, 1) := dk_4 (dk_at dksJ6_length_0 2 rfl rfl)
theorem dJ6_length_3 : decode cJ6_length 3 = .ok (.ishr, 1) := dk_122 (dk_at dksJ6_length_0 3 rfl rfl)
theorem dJ6_length_4 : decode cJ6_length 4 = .ok (.ireturn, 1) := dk_172 (dk_at dksJ6_length_0 4 rfl rfl)
abbrev cJ6_getChar : ByteArray := prog_42_method_5_code
def yJ6_getChar : MethodName := ⟨RJ6, "getChar", "([BI)C"⟩
def dkwJ6_getChar_2 : List UInt8 := [51, 17, 0, 255, 126, 178, 0, 63, 120, 128, 146, 172]
abbrev dktJ6_getChar_2 : List UInt8 := dkwJ6_getChar_2 ++ []
def dkwJ6_getChar_1 : List UInt8 := [183, 0, 56, 191, 27, 4, 120, 60, 42, 27, 132, 1, 1, 51, 17, 0, 255, 126, 178, 0, 59, 120, 42, 27]
abbrev dktJ6_getChar_1 : List UInt8 := dkwJ6_getChar_1 ++ dktJ6_getChar_2
def dkwJ6_getChar_0 : List UInt8 := [178, 0, 44, 154, 0, 25, 27, 155, 0, 11, 27, 42, 184, 0, 48, 161, 0, 13, 187, 0, 52, 89, 18, 54]
abbrev dktJ6_getChar_0 : List UInt8 := dkwJ6_getChar_0 ++ dktJ6_getChar_1
theorem dksJ6_getChar_0 : cJ6_getChar.data.toList.drop 0 = dktJ6_getChar_0 := by decide +kernel
theorem dksJ6_getChar_1 : cJ6_getChar.data.toList.drop 24 = dktJ6_getChar_1 := dk_seg dksJ6_getChar_0 24 rfl rfl
theorem dksJ6_getChar_2 : cJ6_getChar.data.toList.drop 48 = dktJ6_getChar_2 := dk_seg dksJ6_getChar_1 24 rfl rfl
theorem dJ6_getChar_0 : decode cJ6_getChar 0 = .ok (.getstatic 44, 3) := dk_178 0 44 (dk_at dksJ6_getChar_0 0 rfl rfl)
theorem dJ6_getChar_3 : decode cJ6_getChar 3 = .ok (.ifCond .ne 25, 3) := dk_154 0 25 (dk_at dksJ6_getChar_0 3 rfl rfl)
theorem dJ6_getChar_6 : decode cJ6_getChar 6 = .ok (.iload_n 1, 1) := dk_27 (dk_at dksJ6_getChar_0 6 rfl rfl)
theorem dJ6_getChar_7 : decode cJ6_getChar 7 = .ok (.ifCond .lt 11, 3) := dk_155 0 11 (dk_at dksJ6_getChar_0 7 rfl rfl)
theorem dJ6_getChar_10 : decode cJ6_getChar 10 = .ok (.iload_n 1, 1) := dk_27 (dk_at dksJ6_getChar_0 10 rfl rfl)
theorem dJ6_getChar_11 : decode cJ6_getChar 11 = .ok (.aload_n 0, 1) := dk_42 (dk_at dksJ6_getChar_0 11 rfl rfl)
theorem dJ6_getChar_12 : decode cJ6_getChar 12 = .ok (.invokestatic 48, 3) := dk_184 0 48 (dk_at dksJ6_getChar_0 12 rfl rfl)
theorem dJ6_getChar_15 : decode cJ6_getChar 15 = .ok (.if_icmp .lt 13, 3) := dk_161 0 13 (dk_at dksJ6_getChar_0 15 rfl rfl)
theorem dJ6_getChar_18 : decode cJ6_getChar 18 = .ok (.new 52, 3) := dk_187 0 52 (dk_at dksJ6_getChar_0 18 rfl rfl)
theorem dJ6_getChar_21 : decode cJ6_getChar 21 = .ok (.dup, 1) := dk_89 (dk_at dksJ6_getChar_0 21 rfl rfl)
theorem dJ6_getChar_22 : decode cJ6_getChar 22 = .ok (.ldc 54, 2) := dk_18 54 (dk_at dksJ6_getChar_0 22 rfl rfl)
theorem dJ6_getChar_24 : decode cJ6_getChar 24 = .ok (.invokespecial 56, 3) := dk_183 0 56 (dk_at dksJ6_getChar_1 0 rfl rfl)
theorem dJ6_getChar_27 : decode cJ6_getChar 27 = .ok (.athrow, 1) := dk_191 (dk_at dksJ6_getChar_1 3 rfl rfl)
theorem dJ6_getChar_28 : decode cJ6_getChar 28 = .ok (.iload_n 1, 1) := dk_27 (dk_at dksJ6_getChar_1 4 rfl rfl)
theorem dJ6_getChar_29 : decode cJ6_getChar 29 = .ok (.iconst 1, 1) := dk_4 (dk_at dksJ6_getChar_1 5 rfl rfl)
theorem dJ6_getChar_30 : decode cJ6_getChar 30 = .ok (.ishl, 1) := dk_120 (dk_at dksJ6_getChar_1 6 rfl rfl)
theorem dJ6_getChar_31 : decode cJ6_getChar 31 = .ok (.istore_n 1, 1) := dk_60 (dk_at dksJ6_getChar_1 7 rfl rfl)
theorem dJ6_getChar_32 : decode cJ6_getChar 32 = .ok (.aload_n 0, 1) := dk_42 (dk_at dksJ6_getChar_1 8 rfl rfl)
theorem dJ6_getChar_33 : decode cJ6_getChar 33 = .ok (.iload_n 1, 1) := dk_27 (dk_at dksJ6_getChar_1 9 rfl rfl)
theorem dJ6_getChar_34 : decode cJ6_getChar 34 = .ok (.iinc 1 1, 3) := dk_132 1 1 (dk_at dksJ6_getChar_1 10 rfl rfl)
theorem dJ6_getChar_37 : decode cJ6_getChar 37 = .ok (.baload, 1) := dk_51 (dk_at dksJ6_getChar_1 13 rfl rfl)
theorem dJ6_getChar_38 : decode cJ6_getChar 38 = .ok (.sipush 255, 3) := dk_17 0 255 (dk_at dksJ6_getChar_1 14 rfl rfl)
theorem dJ6_getChar_41 : decode cJ6_getChar 41 = .ok (.iand, 1) := dk_126 (dk_at dksJ6_getChar_1 17 rfl rfl)
theorem dJ6_getChar_42 : decode cJ6_getChar 42 = .ok (.getstatic 59, 3) := dk_178 0 59 (dk_at dksJ6_getChar_1 18 rfl rfl)
theorem dJ6_getChar_45 : decode cJ6_getChar 45 = .ok (.ishl, 1) := dk_120 (dk_at dksJ6_getChar_1 21 rfl rfl)
theorem dJ6_getChar_46 : decode cJ6_getChar 46 = .ok (.aload_n 0, 1) := dk_42 (dk_at dksJ6_getChar_1 22 rfl rfl)
theorem dJ6_getChar_47 : decode cJ6_getChar 47 = .ok (.iload_n 1, 1) := dk_27 (dk_at dksJ6_getChar_1 23 rfl rfl)
theorem dJ6_getChar_48 : decode cJ6_getChar 48 = .ok (.baload, 1) := dk_51 (dk_at dksJ6_getChar_2 0 rfl rfl)
theorem dJ6_getChar_49 : decode cJ6_getChar 49 = .ok (.sipush 255, 3) := dk_17 0 255 (dk_at dksJ6_getChar_2 1 rfl rfl)
theorem dJ6_getChar_52 : decode cJ6_getChar 52 = .ok (.iand, 1) := dk_126 (dk_at dksJ6_getChar_2 4 rfl rfl)
theorem dJ6_getChar_53 : decode cJ6_getChar 53 = .ok (.getstatic 63, 3) := dk_178 0 63 (dk_at dksJ6_getChar_2 5 rfl rfl)
theorem dJ6_getChar_56 : decode cJ6_getChar 56 = .ok (.ishl, 1) := dk_120 (dk_at dksJ6_getChar_2 8 rfl rfl)
theorem dJ6_getChar_57 : decode cJ6_getChar 57 = .ok (.ior, 1) := dk_128 (dk_at dksJ6_getChar_2 9 rfl rfl)
theorem dJ6_getChar_58 : decode cJ6_getChar 58 = .ok (.i2c, 1) := dk_146 (dk_at dksJ6_getChar_2 10 rfl rfl)
theorem dJ6_getChar_59 : decode cJ6_getChar 59 = .ok (.ireturn, 1) := dk_172 (dk_at dksJ6_getChar_2 11 rfl rfl)
theorem q132 : (Jvm.Cond.initialized "java/lang/StringUTF16") ∈ lw_all := lw_g (lw_at lw_m1 30 rfl) rfl
theorem q727 : (Jvm.Cond.static ({ cls := "java/lang/StringUTF16", name := "charAt", desc := "([BI)C" } : Jvm.MethodName)) ∈ lw_all := lw_g (lw_at lw_m3 145 rfl) rfl
theorem q728 : (Jvm.Cond.code ({ cls := "java/lang/StringUTF16", name := "charAt", desc := "([BI)C" } : Jvm.MethodName) prog_42_method_83_code (2 : Nat) (Option.some Jvm.ClassFile.FieldType.char)) ∈ lw_all := lw_g (lw_at lw_m3 146 rfl) rfl
theorem q729 : (Jvm.Cond.methodLink "java/lang/StringUTF16" (67 : Nat) ({ cls := "java/lang/StringUTF16", name := "checkIndex", desc := "(I[B)V" } : Jvm.MethodName)) ∈ lw_all := lw_g (lw_at lw_m3 147 rfl) rfl
theorem q730 : (Jvm.Cond.static ({ cls := "java/lang/StringUTF16", name := "checkIndex", desc := "(I[B)V" } : Jvm.MethodName)) ∈ lw_all := lw_g (lw_at lw_m3 148 rfl) rfl
theorem q731 : (Jvm.Cond.code ({ cls := "java/lang/StringUTF16", name := "checkIndex", desc := "(I[B)V" } : Jvm.MethodName) prog_42_method_91_code (2 : Nat) (Option.none : Option Jvm.ClassFile.FieldType)) ∈ lw_all := lw_g (lw_at lw_m3 149 rfl) rfl
theorem q732 : (Jvm.Cond.methodLink "java/lang/StringUTF16" (48 : Nat) ({ cls := "java/lang/StringUTF16", name := "length", desc := "([B)I" } : Jvm.MethodName)) ∈ lw_all := lw_g (lw_at lw_m3 150 rfl) rfl
theorem q733 : (Jvm.Cond.static ({ cls := "java/lang/StringUTF16", name := "length", desc := "([B)I" } : Jvm.MethodName)) ∈ lw_all := lw_g (lw_at lw_m3 151 rfl) rfl
theorem q734 : (Jvm.Cond.code ({ cls := "java/lang/StringUTF16", name := "length", desc := "([B)I" } : Jvm.MethodName) prog_42_method_6_code (1 : Nat) (Option.some Jvm.ClassFile.FieldType.int)) ∈ lw_all := lw_g (lw_at lw_m3 152 rfl) rfl
theorem q735 : (Jvm.Cond.methodLink "java/lang/StringUTF16" (414 : Nat) ({ cls := "java/lang/String", name := "checkIndex", desc := "(II)V" } : Jvm.MethodName)) ∈ lw_all := lw_g (lw_at lw_m3 153 rfl) rfl
theorem q736 : (Jvm.Cond.methodLink "java/lang/StringUTF16" (71 : Nat) ({ cls := "java/lang/StringUTF16", name := "getChar", desc := "([BI)C" } : Jvm.MethodName)) ∈ lw_all := lw_g (lw_at lw_m3 154 rfl) rfl
theorem q737 : (Jvm.Cond.static ({ cls := "java/lang/StringUTF16", name := "getChar", desc := "([BI)C" } : Jvm.MethodName)) ∈ lw_all := lw_g (lw_at lw_m3 155 rfl) rfl
theorem q738 : (Jvm.Cond.code ({ cls := "java/lang/StringUTF16", name := "getChar", desc := "([BI)C" } : Jvm.MethodName) prog_42_method_5_code (2 : Nat) (Option.some Jvm.ClassFile.FieldType.char)) ∈ lw_all := lw_g (lw_at lw_m3 156 rfl) rfl
theorem q739 : (Jvm.Cond.fieldLink "java/lang/StringUTF16" (44 : Nat) "java/lang/StringUTF16" "$assertionsDisabled" "Z") ∈ lw_all := lw_g (lw_at lw_m3 157 rfl) rfl
theorem q740 : (Jvm.Cond.laysStatic "java/lang/StringUTF16" "$assertionsDisabled" "Z") ∈ lw_tbl := lw_at lw_m3 158 rfl
theorem q741 : (Jvm.Cond.fieldLink "java/lang/StringUTF16" (59 : Nat) "java/lang/StringUTF16" "HI_BYTE_SHIFT" "I") ∈ lw_all := lw_g (lw_at lw_m3 159 rfl) rfl
theorem q742 : (Jvm.Cond.laysStatic "java/lang/StringUTF16" "HI_BYTE_SHIFT" "I") ∈ lw_tbl := lw_at lw_m3 160 rfl
theorem q743 : (Jvm.Cond.fieldLink "java/lang/StringUTF16" (63 : Nat) "java/lang/StringUTF16" "LO_BYTE_SHIFT" "I") ∈ lw_all := lw_g (lw_at lw_m3 161 rfl) rfl
theorem q744 : (Jvm.Cond.laysStatic "java/lang/StringUTF16" "LO_BYTE_SHIFT" "I") ∈ lw_tbl := lw_at lw_m3 162 rfl

/-! java/lang/Math -/
set_option maxRecDepth 100000
def RJ7 : String := "java/lang/Math"
abbrev cJ7_min : ByteArray := prog_37_method_69_code
def yJ7_min : MethodName := ⟨RJ7, "min", "(II)I"⟩
def dkwJ7_min_0 : List UInt8 := [26, 27, 163, 0, 7, 26, 167, 0, 4, 27, 172]
abbrev dktJ7_min_0 : List UInt8 := dkwJ7_min_0 ++ []
theorem dksJ7_min_0 : cJ7_min.data.toList.drop 0 = dktJ7_min_0 := by decide +kernel
theorem dJ7_min_0 : decode cJ7_min 0 = .ok (.iload_n 0, 1) := dk_26 (dk_at dksJ7_min_0 0 rfl rfl)
theorem dJ7_min_1 : decode cJ7_min 1 = .ok (.iload_n 1, 1) := dk_27 (dk_at dksJ7_min_0 1 rfl rfl)
theorem dJ7_min_2 : decode cJ7_min 2 = .ok (.if_icmp .gt 7, 3) := dk_163 0 7 (dk_at dksJ7_min_0 2 rfl rfl)
theorem dJ7_min_5 : decode cJ7_min 5 = .ok (.iload_n 0, 1) := dk_26 (dk_at dksJ7_min_0 5 rfl rfl)
theorem dJ7_min_6 : decode cJ7_min 6 = .ok (.goto 4, 3) := dk_167 0 4 (dk_at dksJ7_min_0 6 rfl rfl)
theorem dJ7_min_9 : decode cJ7_min 9 = .ok (.iload_n 1, 1) := dk_27 (dk_at dksJ7_min_0 9 rfl rfl)
theorem dJ7_min_10 : decode cJ7_min 10 = .ok (.ireturn, 1) := dk_172 (dk_at dksJ7_min_0 10 rfl rfl)
abbrev cJ7_max : ByteArray := prog_37_method_65_code
def yJ7_max : MethodName := ⟨RJ7, "max", "(II)I"⟩
def dkwJ7_max_0 : List UInt8 := [26, 27, 161, 0, 7, 26, 167, 0, 4, 27, 172]
abbrev dktJ7_max_0 : List UInt8 := dkwJ7_max_0 ++ []
theorem dksJ7_max_0 : cJ7_max.data.toList.drop 0 = dktJ7_max_0 := by decide +kernel
theorem dJ7_max_0 : decode cJ7_max 0 = .ok (.iload_n 0, 1) := dk_26 (dk_at dksJ7_max_0 0 rfl rfl)
theorem dJ7_max_1 : decode cJ7_max 1 = .ok (.iload_n 1, 1) := dk_27 (dk_at dksJ7_max_0 1 rfl rfl)
theorem dJ7_max_2 : decode cJ7_max 2 = .ok (.if_icmp .lt 7, 3) := dk_161 0 7 (dk_at dksJ7_max_0 2 rfl rfl)
theorem dJ7_max_5 : decode cJ7_max 5 = .ok (.iload_n 0, 1) := dk_26 (dk_at dksJ7_max_0 5 rfl rfl)
theorem dJ7_max_6 : decode cJ7_max 6 = .ok (.goto 4, 3) := dk_167 0 4 (dk_at dksJ7_max_0 6 rfl rfl)
theorem dJ7_max_9 : decode cJ7_max 9 = .ok (.iload_n 1, 1) := dk_27 (dk_at dksJ7_max_0 9 rfl rfl)
theorem dJ7_max_10 : decode cJ7_max 10 = .ok (.ireturn, 1) := dk_172 (dk_at dksJ7_max_0 10 rfl rfl)
abbrev cJ7_abs : ByteArray := prog_37_method_61_code
def yJ7_abs : MethodName := ⟨RJ7, "abs", "(J)J"⟩
def dkwJ7_abs_0 : List UInt8 := [30, 9, 148, 156, 0, 8, 30, 117, 167, 0, 4, 30, 173]
abbrev dktJ7_abs_0 : List UInt8 := dkwJ7_abs_0 ++ []
theorem dksJ7_abs_0 : cJ7_abs.data.toList.drop 0 = dktJ7_abs_0 := by decide +kernel
theorem dJ7_abs_0 : decode cJ7_abs 0 = .ok (.lload_n 0, 1) := dk_30 (dk_at dksJ7_abs_0 0 rfl rfl)
theorem dJ7_abs_1 : decode cJ7_abs 1 = .ok (.lconst 0, 1) := dk_9 (dk_at dksJ7_abs_0 1 rfl rfl)
theorem dJ7_abs_2 : decode cJ7_abs 2 = .ok (.lcmp, 1) := dk_148 (dk_at dksJ7_abs_0 2 rfl rfl)
theorem dJ7_abs_3 : decode cJ7_abs 3 = .ok (.ifCond .ge 8, 3) := dk_156 0 8 (dk_at dksJ7_abs_0 3 rfl rfl)
theorem dJ7_abs_6 : decode cJ7_abs 6 = .ok (.lload_n 0, 1) := dk_30 (dk_at dksJ7_abs_0 6 rfl rfl)
theorem dJ7_abs_7 : decode cJ7_abs 7 = .ok (.lneg, 1) := dk_117 (dk_at dksJ7_abs_0 7 rfl rfl)
theorem dJ7_abs_8 : decode cJ7_abs 8 = .ok (.goto 4, 3) := dk_167 0 4 (dk_at dksJ7_abs_0 8 rfl rfl)
theorem dJ7_abs_11 : decode cJ7_abs 11 = .ok (.lload_n 0, 1) := dk_30 (dk_at dksJ7_abs_0 11 rfl rfl)
theorem dJ7_abs_12 : decode cJ7_abs 12 = .ok (.lreturn, 1) := dk_173 (dk_at dksJ7_abs_0 12 rfl rfl)
abbrev cJ7_max_2 : ByteArray := prog_37_method_66_code
def yJ7_max_2 : MethodName := ⟨RJ7, "max", "(JJ)J"⟩
def dkwJ7_max_2_0 : List UInt8 := [30, 32, 148, 155, 0, 7, 30, 167, 0, 4, 32, 173]
abbrev dktJ7_max_2_0 : List UInt8 := dkwJ7_max_2_0 ++ []
theorem dksJ7_max_2_0 : cJ7_max_2.data.toList.drop 0 = dktJ7_max_2_0 := by decide +kernel
theorem dJ7_max_2_0 : decode cJ7_max_2 0 = .ok (.lload_n 0, 1) := dk_30 (dk_at dksJ7_max_2_0 0 rfl rfl)
theorem dJ7_max_2_1 : decode cJ7_max_2 1 = .ok (.lload_n 2, 1) := dk_32 (dk_at dksJ7_max_2_0 1 rfl rfl)
theorem dJ7_max_2_2 : decode cJ7_max_2 2 = .ok (.lcmp, 1) := dk_148 (dk_at dksJ7_max_2_0 2 rfl rfl)
theorem dJ7_max_2_3 : decode cJ7_max_2 3 = .ok (.ifCond .lt 7, 3) := dk_155 0 7 (dk_at dksJ7_max_2_0 3 rfl rfl)
theorem dJ7_max_2_6 : decode cJ7_max_2 6 = .ok (.lload_n 0, 1) := dk_30 (dk_at dksJ7_max_2_0 6 rfl rfl)
theorem dJ7_max_2_7 : decode cJ7_max_2 7 = .ok (.goto 4, 3) := dk_167 0 4 (dk_at dksJ7_max_2_0 7 rfl rfl)
theorem dJ7_max_2_10 : decode cJ7_max_2 10 = .ok (.lload_n 2, 1) := dk_32 (dk_at dksJ7_max_2_0 10 rfl rfl)
theorem dJ7_max_2_11 : decode cJ7_max_2 11 = .ok (.lreturn, 1) := dk_173 (dk_at dksJ7_max_2_0 11 rfl rfl)
theorem q133 : (Jvm.Cond.initialized "java/lang/Math") ∈ lw_all := lw_g (lw_at lw_m1 31 rfl) rfl
theorem q910 : (Jvm.Cond.static ({ cls := "java/lang/Math", name := "min", desc := "(II)I" } : Jvm.MethodName)) ∈ lw_all := lw_g (lw_at lw_m4 88 rfl) rfl
theorem q911 : (Jvm.Cond.code ({ cls := "java/lang/Math", name := "min", desc := "(II)I" } : Jvm.MethodName) prog_37_method_69_code (2 : Nat) (Option.some Jvm.ClassFile.FieldType.int)) ∈ lw_all := lw_g (lw_at lw_m4 89 rfl) rfl
theorem q947 : (Jvm.Cond.static ({ cls := "java/lang/Math", name := "max", desc := "(II)I" } : Jvm.MethodName)) ∈ lw_all := lw_g (lw_at lw_m4 125 rfl) rfl
theorem q948 : (Jvm.Cond.code ({ cls := "java/lang/Math", name := "max", desc := "(II)I" } : Jvm.MethodName) prog_37_method_65_code (2 : Nat) (Option.some Jvm.ClassFile.FieldType.int)) ∈ lw_all := lw_g (lw_at lw_m4 126 rfl) rfl
theorem q1050 : (Jvm.Cond.static ({ cls := "java/lang/Math", name := "abs", desc := "(J)J" } : Jvm.MethodName)) ∈ lw_all := lw_g (lw_at lw_m4 228 rfl) rfl
theorem q1051 : (Jvm.Cond.code ({ cls := "java/lang/Math", name := "abs", desc := "(J)J" } : Jvm.MethodName) prog_37_method_61_code (2 : Nat) (Option.some Jvm.ClassFile.FieldType.long)) ∈ lw_all := lw_g (lw_at lw_m4 229 rfl) rfl
theorem q1061 : (Jvm.Cond.static ({ cls := "java/lang/Math", name := "max", desc := "(JJ)J" } : Jvm.MethodName)) ∈ lw_all := lw_g (lw_at lw_m4 239 rfl) rfl
theorem q1062 : (Jvm.Cond.code ({ cls := "java/lang/Math", name := "max", desc := "(JJ)J" } : Jvm.MethodName) prog_37_method_66_code (4 : Nat) (Option.some Jvm.ClassFile.FieldType.long)) ∈ lw_all := lw_g (lw_at lw_m5 0 rfl) rfl

/-! java/lang/ClassCastException -/
set_option maxRecDepth 100000
def RJ8 : String := "java/lang/ClassCastException"
def TJ8 : u_T := fun k => match k with
  | 0 => ("java/lang/Throwable", "backtrace", "Ljava/lang/Object;", false)
  | 1 => ("java/lang/Throwable", "detailMessage", "Ljava/lang/String;", false)
  | 2 => ("java/lang/Throwable", "cause", "Ljava/lang/Throwable;", false)
  | 3 => ("java/lang/Throwable", "stackTrace", "[Ljava/lang/StackTraceElement;", false)
  | 4 => ("java/lang/Throwable", "depth", "I", false)
  | _ => ("java/lang/Throwable", "suppressedExceptions", "Ljava/util/List;", false)
def tyJ8 : Nat → FieldType := fun k => match k with
  | 0 => .object "java/lang/Object"
  | 1 => .object "java/lang/String"
  | 2 => .object "java/lang/Throwable"
  | 3 => .array (.object "java/lang/StackTraceElement")
  | 4 => .int
  | _ => .object "java/util/List"
abbrev wsJ80 : List Cond := u_ws RJ8 TJ8 6
theorem nmJ8 : ∀ a, a < 6 → ∀ b, b < 6 → a ≠ b → (TJ8 a).2.1 ≠ (TJ8 b).2.1 := by decide +kernel
theorem tyJ8_ok : ∀ k, k < 6 → parseFieldDescriptor (TJ8 k).2.2.1 = some (tyJ8 k) := by decide +kernel
abbrev cJ8_init : ByteArray := prog_35_method_2_code
def yJ8_init : MethodName := ⟨RJ8, "<init>", "(Ljava/lang/String;)V"⟩
def dkwJ8_init_0 : List UInt8 := [42, 43, 183, 0, 7, 177]
abbrev dktJ8_init_0 : List UInt8 := dkwJ8_init_0 ++ []
theorem dksJ8_init_0 : cJ8_init.data.toList.drop 0 = dktJ8_init_0 := by decide +kernel
theorem dJ8_init_0 : decode cJ8_init 0 = .ok (.aload_n 0, 1) := dk_42 (dk_at dksJ8_init_0 0 rfl rfl)
theorem dJ8_init_1 : decode cJ8_init 1 = .ok (.aload_n 1, 1) := dk_43 (dk_at dksJ8_init_0 1 rfl rfl)
theorem dJ8_init_2 : decode cJ8_init 2 = .ok (.invokespecial 7, 3) := dk_183 0 7 (dk_at dksJ8_init_0 2 rfl rfl)
theorem dJ8_init_5 : decode cJ8_init 5 = .ok (.return_, 1) := dk_177 (dk_at dksJ8_init_0 5 rfl rfl)
theorem q135 : (Jvm.Cond.initialized "java/lang/ClassCastException") ∈ lw_all := lw_g (lw_at lw_m1 33 rfl) rfl
theorem q440 : (Jvm.Cond.selects "java/lang/ClassCastException" ({ cls := "java/lang/Throwable", name := "fillInStackTrace", desc := "()Ljava/lang/Throwable;" } : Jvm.MethodName) ({ cls := "java/lang/Throwable", name := "fillInStackTrace", desc := "()Ljava/lang/Throwable;" } : Jvm.MethodName)) ∈ lw_all := lw_g (lw_at lw_m2 98 rfl) rfl
theorem q1113 : (Jvm.Cond.instantiable "java/lang/ClassCastException" (6 : Nat)) ∈ lw_all := lw_g (lw_at lw_m5 51 rfl) rfl
theorem q1114 : (Jvm.Cond.instanceMethod ({ cls := "java/lang/ClassCastException", name := "<init>", desc := "(Ljava/lang/String;)V" } : Jvm.MethodName)) ∈ lw_all := lw_g (lw_at lw_m5 52 rfl) rfl
theorem q1115 : (Jvm.Cond.code ({ cls := "java/lang/ClassCastException", name := "<init>", desc := "(Ljava/lang/String;)V" } : Jvm.MethodName) prog_35_method_2_code (2 : Nat) (Option.none : Option Jvm.ClassFile.FieldType)) ∈ lw_all := lw_g (lw_at lw_m5 53 rfl) rfl
theorem q1116 : (Jvm.Cond.methodLink "java/lang/ClassCastException" (7 : Nat) ({ cls := "java/lang/RuntimeException", name := "<init>", desc := "(Ljava/lang/String;)V" } : Jvm.MethodName)) ∈ lw_all := lw_g (lw_at lw_m5 54 rfl) rfl
theorem q1125 : (Jvm.Cond.lays "java/lang/ClassCastException" "java/lang/Throwable" "backtrace" "Ljava/lang/Object;") ∈ lw_all := lw_g (lw_at lw_m5 63 rfl) rfl
theorem q1126 : (Jvm.Cond.lays "java/lang/ClassCastException" "java/lang/Throwable" "detailMessage" "Ljava/lang/String;") ∈ lw_all := lw_g (lw_at lw_m5 64 rfl) rfl
theorem q1127 : (Jvm.Cond.lays "java/lang/ClassCastException" "java/lang/Throwable" "cause" "Ljava/lang/Throwable;") ∈ lw_all := lw_g (lw_at lw_m5 65 rfl) rfl
theorem q1128 : (Jvm.Cond.lays "java/lang/ClassCastException" "java/lang/Throwable" "stackTrace" "[Ljava/lang/StackTraceElement;") ∈ lw_all := lw_g (lw_at lw_m5 66 rfl) rfl
theorem q1129 : (Jvm.Cond.lays "java/lang/ClassCastException" "java/lang/Throwable" "depth" "I") ∈ lw_all := lw_g (lw_at lw_m5 67 rfl) rfl
theorem q1130 : (Jvm.Cond.lays "java/lang/ClassCastException" "java/lang/Throwable" "suppressedExceptions" "Ljava/util/List;") ∈ lw_all := lw_g (lw_at lw_m5 68 rfl) rfl
theorem q1131 : (Jvm.Cond.superclass "java/lang/ClassCastException" "java/lang/RuntimeException") ∈ lw_all := lw_g (lw_at lw_m5 69 rfl) rfl
theorem q1132 : (Jvm.Cond.castable "java/lang/ClassCastException" "java/lang/ClassCastException") ∈ lw_tbl := lw_at lw_m5 70 rfl
theorem q1133 : (Jvm.Cond.selects "java/lang/ClassCastException" ({ cls := "java/lang/Throwable", name := "fillInStackTrace", desc := "(I)Ljava/lang/Throwable;" } : Jvm.MethodName) ({ cls := "java/lang/Throwable", name := "fillInStackTrace", desc := "(I)Ljava/lang/Throwable;" } : Jvm.MethodName)) ∈ lw_all := lw_g (lw_at lw_m5 71 rfl) rfl
theorem in_J8 : ∀ w ∈ wsJ80, w ∈ lw_all := lw_in wsJ80 [1125, 1126, 1127, 1128, 1129, 1130] (by decide +kernel) (by decide +kernel)

/-! java/lang/NegativeArraySizeException -/
set_option maxRecDepth 100000
def RJ9 : String := "java/lang/NegativeArraySizeException"
def TJ9 : u_T := fun k => match k with
  | 0 => ("java/lang/Throwable", "backtrace", "Ljava/lang/Object;", false)
  | 1 => ("java/lang/Throwable", "detailMessage", "Ljava/lang/String;", false)
  | 2 => ("java/lang/Throwable", "cause", "Ljava/lang/Throwable;", false)
  | 3 => ("java/lang/Throwable", "stackTrace", "[Ljava/lang/StackTraceElement;", false)
  | 4 => ("java/lang/Throwable", "depth", "I", false)
  | _ => ("java/lang/Throwable", "suppressedExceptions", "Ljava/util/List;", false)
def tyJ9 : Nat → FieldType := fun k => match k with
  | 0 => .object "java/lang/Object"
  | 1 => .object "java/lang/String"
  | 2 => .object "java/lang/Throwable"
  | 3 => .array (.object "java/lang/StackTraceElement")
  | 4 => .int
  | _ => .object "java/util/List"
abbrev wsJ90 : List Cond := u_ws RJ9 TJ9 6
theorem nmJ9 : ∀ a, a < 6 → ∀ b, b < 6 → a ≠ b → (TJ9 a).2.1 ≠ (TJ9 b).2.1 := by decide +kernel
theorem tyJ9_ok : ∀ k, k < 6 → parseFieldDescriptor (TJ9 k).2.2.1 = some (tyJ9 k) := by decide +kernel
abbrev cJ9_init : ByteArray := prog_38_method_2_code
def yJ9_init : MethodName := ⟨RJ9, "<init>", "(Ljava/lang/String;)V"⟩
def dkwJ9_init_0 : List UInt8 := [42, 43, 183, 0, 7, 177]
abbrev dktJ9_init_0 : List UInt8 := dkwJ9_init_0 ++ []
theorem dksJ9_init_0 : cJ9_init.data.toList.drop 0 = dktJ9_init_0 := by decide +kernel
theorem dJ9_init_0 : decode cJ9_init 0 = .ok (.aload_n 0, 1) := dk_42 (dk_at dksJ9_init_0 0 rfl rfl)
theorem dJ9_init_1 : decode cJ9_init 1 = .ok (.aload_n 1, 1) := dk_43 (dk_at dksJ9_init_0 1 rfl rfl)
theorem dJ9_init_2 : decode cJ9_init 2 = .ok (.invokespecial 7, 3) := dk_183 0 7 (dk_at dksJ9_init_0 2 rfl rfl)
theorem dJ9_init_5 : decode cJ9_init 5 = .ok (.return_, 1) := dk_177 (dk_at dksJ9_init_0 5 rfl rfl)
theorem q136 : (Jvm.Cond.initialized "java/lang/NegativeArraySizeException") ∈ lw_all := lw_g (lw_at lw_m1 34 rfl) rfl
theorem q441 : (Jvm.Cond.selects "java/lang/NegativeArraySizeException" ({ cls := "java/lang/Throwable", name := "fillInStackTrace", desc := "()Ljava/lang/Throwable;" } : Jvm.MethodName) ({ cls := "java/lang/Throwable", name := "fillInStackTrace", desc := "()Ljava/lang/Throwable;" } : Jvm.MethodName)) ∈ lw_all := lw_g (lw_at lw_m2 99 rfl) rfl
theorem q1168 : (Jvm.Cond.instantiable "java/lang/NegativeArraySizeException" (6 : Nat)) ∈ lw_all := lw_g (lw_at lw_m5 106 rfl) rfl
theorem q1169 : (Jvm.Cond.instanceMethod ({ cls := "java/lang/NegativeArraySizeException", name := "<init>", desc := "(Ljava/lang/String;)V" } : Jvm.MethodName)) ∈ lw_all := lw_g (lw_at lw_m5 107 rfl) rfl
theorem q1170 : (Jvm.Cond.code ({ cls := "java/lang/NegativeArraySizeException", name := "<init>", desc := "(Ljava/lang/String;)V" } : Jvm.MethodName) prog_38_method_2_code (2 : Nat) (Option.none : Option Jvm.ClassFile.FieldType)) ∈ lw_all := lw_g (lw_at lw_m5 108 rfl) rfl
theorem q1171 : (Jvm.Cond.methodLink "java/lang/NegativeArraySizeException" (7 : Nat) ({ cls := "java/lang/RuntimeException", name := "<init>", desc := "(Ljava/lang/String;)V" } : Jvm.MethodName)) ∈ lw_all := lw_g (lw_at lw_m5 109 rfl) rfl
theorem q1172 : (Jvm.Cond.lays "java/lang/NegativeArraySizeException" "java/lang/Throwable" "backtrace" "Ljava/lang/Object;") ∈ lw_all := lw_g (lw_at lw_m5 110 rfl) rfl
theorem q1173 : (Jvm.Cond.lays "java/lang/NegativeArraySizeException" "java/lang/Throwable" "detailMessage" "Ljava/lang/String;") ∈ lw_all := lw_g (lw_at lw_m5 111 rfl) rfl
theorem q1174 : (Jvm.Cond.lays "java/lang/NegativeArraySizeException" "java/lang/Throwable" "cause" "Ljava/lang/Throwable;") ∈ lw_all := lw_g (lw_at lw_m5 112 rfl) rfl
theorem q1175 : (Jvm.Cond.lays "java/lang/NegativeArraySizeException" "java/lang/Throwable" "stackTrace" "[Ljava/lang/StackTraceElement;") ∈ lw_all := lw_g (lw_at lw_m5 113 rfl) rfl
theorem q1176 : (Jvm.Cond.lays "java/lang/NegativeArraySizeException" "java/lang/Throwable" "depth" "I") ∈ lw_all := lw_g (lw_at lw_m5 114 rfl) rfl
theorem q1177 : (Jvm.Cond.lays "java/lang/NegativeArraySizeException" "java/lang/Throwable" "suppressedExceptions" "Ljava/util/List;") ∈ lw_all := lw_g (lw_at lw_m5 115 rfl) rfl
theorem q1178 : (Jvm.Cond.superclass "java/lang/NegativeArraySizeException" "java/lang/RuntimeException") ∈ lw_all := lw_g (lw_at lw_m5 116 rfl) rfl
theorem q1179 : (Jvm.Cond.castable "java/lang/NegativeArraySizeException" "java/lang/NegativeArraySizeException") ∈ lw_tbl := lw_at lw_m5 117 rfl
theorem q1180 : (Jvm.Cond.selects "java/lang/NegativeArraySizeException" ({ cls := "java/lang/Throwable", name := "fillInStackTrace", desc := "(I)Ljava/lang/Throwable;" } : Jvm.MethodName) ({ cls := "java/lang/Throwable", name := "fillInStackTrace", desc := "(I)Ljava/lang/Throwable;" } : Jvm.MethodName)) ∈ lw_all := lw_g (lw_at lw_m5 118 rfl) rfl
theorem in_J9 : ∀ w ∈ wsJ90, w ∈ lw_all := lw_in wsJ90 [1172, 1173, 1174, 1175, 1176, 1177] (by decide +kernel) (by decide +kernel)

/-! java/lang/ArithmeticException -/
set_option maxRecDepth 100000
def RJ10 : String := "java/lang/ArithmeticException"
def TJ10 : u_T := fun k => match k with
  | 0 => ("java/lang/Throwable", "backtrace", "Ljava/lang/Object;", false)
  | 1 => ("java/lang/Throwable", "detailMessage", "Ljava/lang/String;", false)
  | 2 => ("java/lang/Throwable", "cause", "Ljava/lang/Throwable;", false)
  | 3 => ("java/lang/Throwable", "stackTrace", "[Ljava/lang/StackTraceElement;", false)
  | 4 => ("java/lang/Throwable", "depth", "I", false)
  | _ => ("java/lang/Throwable", "suppressedExceptions", "Ljava/util/List;", false)
def tyJ10 : Nat → FieldType := fun k => match k with
  | 0 => .object "java/lang/Object"
  | 1 => .object "java/lang/String"
  | 2 => .object "java/lang/Throwable"
  | 3 => .array (.object "java/lang/StackTraceElement")
  | 4 => .int
  | _ => .object "java/util/List"
abbrev wsJ100 : List Cond := u_ws RJ10 TJ10 6
theorem nmJ10 : ∀ a, a < 6 → ∀ b, b < 6 → a ≠ b → (TJ10 a).2.1 ≠ (TJ10 b).2.1 := by decide +kernel
theorem tyJ10_ok : ∀ k, k < 6 → parseFieldDescriptor (TJ10 k).2.2.1 = some (tyJ10 k) := by decide +kernel
abbrev cJ10_init : ByteArray := prog_34_method_2_code
def yJ10_init : MethodName := ⟨RJ10, "<init>", "(Ljava/lang/String;)V"⟩
def dkwJ10_init_0 : List UInt8 := [42, 43, 183, 0, 7, 177]
abbrev dktJ10_init_0 : List UInt8 := dkwJ10_init_0 ++ []
theorem dksJ10_init_0 : cJ10_init.data.toList.drop 0 = dktJ10_init_0 := by decide +kernel
theorem dJ10_init_0 : decode cJ10_init 0 = .ok (.aload_n 0, 1) := dk_42 (dk_at dksJ10_init_0 0 rfl rfl)
theorem dJ10_init_1 : decode cJ10_init 1 = .ok (.aload_n 1, 1) := dk_43 (dk_at dksJ10_init_0 1 rfl rfl)
theorem dJ10_init_2 : decode cJ10_init 2 = .ok (.invokespecial 7, 3) := dk_183 0 7 (dk_at dksJ10_init_0 2 rfl rfl)
theorem dJ10_init_5 : decode cJ10_init 5 = .ok (.return_, 1) := dk_177 (dk_at dksJ10_init_0 5 rfl rfl)
theorem q143 : (Jvm.Cond.initialized "java/lang/ArithmeticException") ∈ lw_all := lw_g (lw_at lw_m1 41 rfl) rfl
theorem q439 : (Jvm.Cond.selects "java/lang/ArithmeticException" ({ cls := "java/lang/Throwable", name := "fillInStackTrace", desc := "()Ljava/lang/Throwable;" } : Jvm.MethodName) ({ cls := "java/lang/Throwable", name := "fillInStackTrace", desc := "()Ljava/lang/Throwable;" } : Jvm.MethodName)) ∈ lw_all := lw_g (lw_at lw_m2 97 rfl) rfl
theorem q1390 : (Jvm.Cond.instantiable "java/lang/ArithmeticException" (6 : Nat)) ∈ lw_all := lw_g (lw_at lw_m6 88 rfl) rfl
theorem q1391 : (Jvm.Cond.instanceMethod ({ cls := "java/lang/ArithmeticException", name := "<init>", desc := "(Ljava/lang/String;)V" } : Jvm.MethodName)) ∈ lw_all := lw_g (lw_at lw_m6 89 rfl) rfl
theorem q1392 : (Jvm.Cond.code ({ cls := "java/lang/ArithmeticException", name := "<init>", desc := "(Ljava/lang/String;)V" } : Jvm.MethodName) prog_34_method_2_code (2 : Nat) (Option.none : Option Jvm.ClassFile.FieldType)) ∈ lw_all := lw_g (lw_at lw_m6 90 rfl) rfl
theorem q1393 : (Jvm.Cond.methodLink "java/lang/ArithmeticException" (7 : Nat) ({ cls := "java/lang/RuntimeException", name := "<init>", desc := "(Ljava/lang/String;)V" } : Jvm.MethodName)) ∈ lw_all := lw_g (lw_at lw_m6 91 rfl) rfl
theorem q1394 : (Jvm.Cond.lays "java/lang/ArithmeticException" "java/lang/Throwable" "backtrace" "Ljava/lang/Object;") ∈ lw_all := lw_g (lw_at lw_m6 92 rfl) rfl
theorem q1395 : (Jvm.Cond.lays "java/lang/ArithmeticException" "java/lang/Throwable" "detailMessage" "Ljava/lang/String;") ∈ lw_all := lw_g (lw_at lw_m6 93 rfl) rfl
theorem q1396 : (Jvm.Cond.lays "java/lang/ArithmeticException" "java/lang/Throwable" "cause" "Ljava/lang/Throwable;") ∈ lw_all := lw_g (lw_at lw_m6 94 rfl) rfl
theorem q1397 : (Jvm.Cond.lays "java/lang/ArithmeticException" "java/lang/Throwable" "stackTrace" "[Ljava/lang/StackTraceElement;") ∈ lw_all := lw_g (lw_at lw_m6 95 rfl) rfl
theorem q1398 : (Jvm.Cond.lays "java/lang/ArithmeticException" "java/lang/Throwable" "depth" "I") ∈ lw_all := lw_g (lw_at lw_m6 96 rfl) rfl
theorem q1399 : (Jvm.Cond.lays "java/lang/ArithmeticException" "java/lang/Throwable" "suppressedExceptions" "Ljava/util/List;") ∈ lw_all := lw_g (lw_at lw_m6 97 rfl) rfl
theorem q1400 : (Jvm.Cond.superclass "java/lang/ArithmeticException" "java/lang/RuntimeException") ∈ lw_all := lw_g (lw_at lw_m6 98 rfl) rfl
theorem q1401 : (Jvm.Cond.castable "java/lang/ArithmeticException" "java/lang/ArithmeticException") ∈ lw_tbl := lw_at lw_m6 99 rfl
theorem q1402 : (Jvm.Cond.selects "java/lang/ArithmeticException" ({ cls := "java/lang/Throwable", name := "fillInStackTrace", desc := "(I)Ljava/lang/Throwable;" } : Jvm.MethodName) ({ cls := "java/lang/Throwable", name := "fillInStackTrace", desc := "(I)Ljava/lang/Throwable;" } : Jvm.MethodName)) ∈ lw_all := lw_g (lw_at lw_m6 100 rfl) rfl
theorem in_J10 : ∀ w ∈ wsJ100, w ∈ lw_all := lw_in wsJ100 [1394, 1395, 1396, 1397, 1398, 1399] (by decide +kernel) (by decide +kernel)

/-! java/lang/Object -/
set_option maxRecDepth 100000
def RJ11 : String := "java/lang/Object"
abbrev cJ11_init : ByteArray := object_method_1_code
def yJ11_init : MethodName := ⟨RJ11, "<init>", "()V"⟩
theorem dJ11_init_0 : decode cJ11_init 0 = .ok (.return_, 1) := by decide +kernel
theorem q150 : (Jvm.Cond.instanceMethod ({ cls := "java/lang/Object", name := "<init>", desc := "()V" } : Jvm.MethodName)) ∈ lw_all := lw_g (lw_at lw_m1 48 rfl) rfl
theorem q151 : (Jvm.Cond.code ({ cls := "java/lang/Object", name := "<init>", desc := "()V" } : Jvm.MethodName) object_method_1_code (1 : Nat) (Option.none : Option Jvm.ClassFile.FieldType)) ∈ lw_all := lw_g (lw_at lw_m1 49 rfl) rfl

/-! CoatHoles$Nature -/
set_option maxRecDepth 100000
def RX1 : String := "CoatHoles$Nature"
abbrev cX1_init : ByteArray := prog_18_method_1_code
def yX1_init : MethodName := ⟨RX1, "<init>", "(LCoatHoles;)V"⟩
def dkwX1_init_0 : List UInt8 := [42, 43, 181, 0, 1, 42, 183, 0, 7, 177]
abbrev dktX1_init_0 : List UInt8 := dkwX1_init_0 ++ []
theorem dksX1_init_0 : cX1_init.data.toList.drop 0 = dktX1_init_0 := by decide +kernel
theorem dX1_init_0 : decode cX1_init 0 = .ok (.aload_n 0, 1) := dk_42 (dk_at dksX1_init_0 0 rfl rfl)
theorem dX1_init_1 : decode cX1_init 1 = .ok (.aload_n 1, 1) := dk_43 (dk_at dksX1_init_0 1 rfl rfl)
theorem dX1_init_2 : decode cX1_init 2 = .ok (.putfield 1, 3) := dk_181 0 1 (dk_at dksX1_init_0 2 rfl rfl)
theorem dX1_init_5 : decode cX1_init 5 = .ok (.aload_n 0, 1) := dk_42 (dk_at dksX1_init_0 5 rfl rfl)
theorem dX1_init_6 : decode cX1_init 6 = .ok (.invokespecial 7, 3) := dk_183 0 7 (dk_at dksX1_init_0 6 rfl rfl)
theorem dX1_init_9 : decode cX1_init 9 = .ok (.return_, 1) := dk_177 (dk_at dksX1_init_0 9 rfl rfl)
theorem q104 : (Jvm.Cond.initialized "CoatHoles$Nature") ∈ lw_all := lw_g (lw_at lw_m1 2 rfl) rfl
theorem q160 : (Jvm.Cond.instanceMethod ({ cls := "CoatHoles$Nature", name := "<init>", desc := "(LCoatHoles;)V" } : Jvm.MethodName)) ∈ lw_all := lw_g (lw_at lw_m1 58 rfl) rfl
theorem q161 : (Jvm.Cond.code ({ cls := "CoatHoles$Nature", name := "<init>", desc := "(LCoatHoles;)V" } : Jvm.MethodName) prog_18_method_1_code (2 : Nat) (Option.none : Option Jvm.ClassFile.FieldType)) ∈ lw_all := lw_g (lw_at lw_m1 59 rfl) rfl
theorem q162 : (Jvm.Cond.methodLink "CoatHoles$Nature" (7 : Nat) ({ cls := "java/lang/Object", name := "<init>", desc := "()V" } : Jvm.MethodName)) ∈ lw_all := lw_g (lw_at lw_m1 60 rfl) rfl
theorem q164 : (Jvm.Cond.fieldLink "CoatHoles$Nature" (1 : Nat) "CoatHoles$Nature" "this$0" "LCoatHoles;") ∈ lw_all := lw_g (lw_at lw_m1 62 rfl) rfl
theorem q168 : (Jvm.Cond.soleField "CoatHoles$Nature" "this$0") ∈ lw_all := lw_g (lw_at lw_m1 66 rfl) rfl
theorem q975 : (Jvm.Cond.declares ({ cls := "CoatHoles$Nature", name := "does", desc := "(LCoatHoles$Item;)V" } : Jvm.MethodName)) ∈ lw_tbl := lw_at lw_m4 153 rfl
theorem q976 : (Jvm.Cond.sameMethod "CoatHoles$Nature" "CoatHoles$Nature" "does" "(LCoatHoles$Item;)V") ∈ lw_all := lw_g (lw_at lw_m4 154 rfl) rfl
theorem q1241 : (Jvm.Cond.declares ({ cls := "CoatHoles$Nature", name := "thing", desc := "(II)LCoatHoles$Tells;" } : Jvm.MethodName)) ∈ lw_tbl := lw_at lw_m5 179 rfl
theorem q1242 : (Jvm.Cond.sameMethod "CoatHoles$Nature" "CoatHoles$Nature" "thing" "(II)LCoatHoles$Tells;") ∈ lw_all := lw_g (lw_at lw_m5 180 rfl) rfl

/-! CoatHoles$Cold -/
set_option maxRecDepth 100000
def RX2 : String := "CoatHoles$Cold"
def TX2 : u_T := fun k => match k with
  | 0 => ("CoatHoles$Nature", "this$0", "LCoatHoles;", true)
  | _ => ("CoatHoles$Cold", "this$0", "LCoatHoles;", true)
def tyX2 : Nat → FieldType := fun k => match k with
  | 0 => .object "CoatHoles"
  | _ => .object "CoatHoles"
abbrev wsX20 : List Cond := u_ws RX2 TX2 2
-- two fields of one name: no nmX2
theorem tyX2_ok : ∀ k, k < 2 → parseFieldDescriptor (TX2 k).2.2.1 = some (tyX2 k) := by decide +kernel
abbrev cX2_init : ByteArray := prog_7_method_1_code
def yX2_init : MethodName := ⟨RX2, "<init>", "(LCoatHoles;)V"⟩
def dkwX2_init_0 : List UInt8 := [42, 43, 181, 0, 3, 42, 43, 183, 0, 9, 177]
abbrev dktX2_init_0 : List UInt8 := dkwX2_init_0 ++ []
theorem dksX2_init_0 : cX2_init.data.toList.drop 0 = dktX2_init_0 := by decide +kernel
theorem dX2_init_0 : decode cX2_init 0 = .ok (.aload_n 0, 1) := dk_42 (dk_at dksX2_init_0 0 rfl rfl)
theorem dX2_init_1 : decode cX2_init 1 = .ok (.aload_n 1, 1) := dk_43 (dk_at dksX2_init_0 1 rfl rfl)
theorem dX2_init_2 : decode cX2_init 2 = .ok (.putfield 3, 3) := dk_181 0 3 (dk_at dksX2_init_0 2 rfl rfl)
theorem dX2_init_5 : decode cX2_init 5 = .ok (.aload_n 0, 1) := dk_42 (dk_at dksX2_init_0 5 rfl rfl)
theorem dX2_init_6 : decode cX2_init 6 = .ok (.aload_n 1, 1) := dk_43 (dk_at dksX2_init_0 6 rfl rfl)
theorem dX2_init_7 : decode cX2_init 7 = .ok (.invokespecial 9, 3) := dk_183 0 9 (dk_at dksX2_init_0 7 rfl rfl)
theorem dX2_init_10 : decode cX2_init 10 = .ok (.return_, 1) := dk_177 (dk_at dksX2_init_0 10 rfl rfl)
abbrev cX2_does : ByteArray := prog_7_method_2_code
def yX2_does : MethodName := ⟨RX2, "does", "(LCoatHoles$Item;)V"⟩
def dkwX2_does_1 : List UInt8 := [177]
abbrev dktX2_does_1 : List UInt8 := dkwX2_does_1 ++ []
def dkwX2_does_0 : List UInt8 := [43, 180, 0, 15, 3, 3, 79, 43, 180, 0, 15, 4, 3, 79, 43, 5, 182, 0, 21, 43, 6, 182, 0, 21]
abbrev dktX2_does_0 : List UInt8 := dkwX2_does_0 ++ dktX2_does_1
theorem dksX2_does_0 : cX2_does.data.toList.drop 0 = dktX2_does_0 := by decide +kernel
theorem dksX2_does_1 : cX2_does.data.toList.drop 24 = dktX2_does_1 := dk_seg dksX2_does_0 24 rfl rfl
theorem dX2_does_0 : decode cX2_does 0 = .ok (.aload_n 1, 1) := dk_43 (dk_at dksX2_does_0 0 rfl rfl)
theorem dX2_does_1 : decode cX2_does 1 = .ok (.getfield 15, 3) := dk_180 0 15 (dk_at dksX2_does_0 1 rfl rfl)
theorem dX2_does_4 : decode cX2_does 4 = .ok (.iconst 0, 1) := dk_3 (dk_at dksX2_does_0 4 rfl rfl)
theorem dX2_does_5 : decode cX2_does 5 = .ok (.iconst 0, 1) := dk_3 (dk_at dksX2_does_0 5 rfl rfl)
theorem dX2_does_6 : decode cX2_does 6 = .ok (.iastore, 1) := dk_79 (dk_at dksX2_does_0 6 rfl rfl)
theorem dX2_does_7 : decode cX2_does 7 = .ok (.aload_n 1, 1) := dk_43 (dk_at dksX2_does_0 7 rfl rfl)
theorem dX2_does_8 : decode cX2_does 8 = .ok (.getfield 15, 3) := dk_180 0 15 (dk_at dksX2_does_0 8 rfl rfl)
theorem dX2_does_11 : decode cX2_does 11 = .ok (.iconst 1, 1) := dk_4 (dk_at dksX2_does_0 11 rfl rfl)
theorem dX2_does_12 : decode cX2_does 12 = .ok (.iconst 0, 1) := dk_3 (dk_at dksX2_does_0 12 rfl rfl)
theorem dX2_does_13 : decode cX2_does 13 = .ok (.iastore, 1) := dk_79 (dk_at dksX2_does_0 13 rfl rfl)
theorem dX2_does_14 : decode cX2_does 14 = .ok (.aload_n 1, 1) := dk_43 (dk_at dksX2_does_0 14 rfl rfl)
theorem dX2_does_15 : decode cX2_does 15 = .ok (.iconst 2, 1) := dk_5 (dk_at dksX2_does_0 15 rfl rfl)
theorem dX2_does_16 : decode cX2_does 16 = .ok (.invokevirtual 21, 3) := dk_182 0 21 (dk_at dksX2_does_0 16 rfl rfl)
theorem dX2_does_19 : decode cX2_does 19 = .ok (.aload_n 1, 1) := dk_43 (dk_at dksX2_does_0 19 rfl rfl)
theorem dX2_does_20 : decode cX2_does 20 = .ok (.iconst 3, 1) := dk_6 (dk_at dksX2_does_0 20 rfl rfl)
theorem dX2_does_21 : decode cX2_does 21 = .ok (.invokevirtual 21, 3) := dk_182 0 21 (dk_at dksX2_does_0 21 rfl rfl)
theorem dX2_does_24 : decode cX2_does 24 = .ok (.return_, 1) := dk_177 (dk_at dksX2_does_1 0 rfl rfl)
abbrev cX2_thing : ByteArray := prog_7_method_3_code
def yX2_thing : MethodName := ⟨RX2, "thing", "(II)LCoatHoles$Tells;"⟩
def dkwX2_thing_0 : List UInt8 := [187, 0, 25, 89, 42, 180, 0, 3, 27, 28, 183, 0, 27, 176]
abbrev dktX2_thing_0 : List UInt8 := dkwX2_thing_0 ++ []
theorem dksX2_thing_0 : cX2_thing.data.toList.drop 0 = dktX2_thing_0 := by decide +kernel
theorem dX2_thing_0 : decode cX2_thing 0 = .ok (.new 25, 3) := dk_187 0 25 (dk_at dksX2_thing_0 0 rfl rfl)
theorem dX2_thing_3 : decode cX2_thing 3 = .ok (.dup, 1) := dk_89 (dk_at dksX2_thing_0 3 rfl rfl)
theorem dX2_thing_4 : decode cX2_thing 4 = .ok (.aload_n 0, 1) := dk_42 (dk_at dksX2_thing_0 4 rfl rfl)
theorem dX2_thing_5 : decode cX2_thing 5 = .ok (.getfield 3, 3) := dk_180 0 3 (dk_at dksX2_thing_0 5 rfl rfl)
theorem dX2_thing_8 : decode cX2_thing 8 = .ok (.iload_n 1, 1) := dk_27 (dk_at dksX2_thing_0 8 rfl rfl)
theorem dX2_thing_9 : decode cX2_thing 9 = .ok (.iload_n 2, 1) := dk_28 (dk_at dksX2_thing_0 9 rfl rfl)
theorem dX2_thing_10 : decode cX2_thing 10 = .ok (.invokespecial 27, 3) := dk_183 0 27 (dk_at dksX2_thing_0 10 rfl rfl)
theorem dX2_thing_13 : decode cX2_thing 13 = .ok (.areturn, 1) := dk_176 (dk_at dksX2_thing_0 13 rfl rfl)
theorem q105 : (Jvm.Cond.initialized "CoatHoles$Cold") ∈ lw_all := lw_g (lw_at lw_m1 3 rfl) rfl
theorem q155 : (Jvm.Cond.instantiable "CoatHoles$Cold" (2 : Nat)) ∈ lw_all := lw_g (lw_at lw_m1 53 rfl) rfl
theorem q157 : (Jvm.Cond.instanceMethod ({ cls := "CoatHoles$Cold", name := "<init>", desc := "(LCoatHoles;)V" } : Jvm.MethodName)) ∈ lw_all := lw_g (lw_at lw_m1 55 rfl) rfl
theorem q158 : (Jvm.Cond.code ({ cls := "CoatHoles$Cold", name := "<init>", desc := "(LCoatHoles;)V" } : Jvm.MethodName) prog_7_method_1_code (2 : Nat) (Option.none : Option Jvm.ClassFile.FieldType)) ∈ lw_all := lw_g (lw_at lw_m1 56 rfl) rfl
theorem q159 : (Jvm.Cond.methodLinkNest "CoatHoles$Cold" (9 : Nat) ({ cls := "CoatHoles$Nature", name := "<init>", desc := "(LCoatHoles;)V" } : Jvm.MethodName) "CoatHoles") ∈ lw_tbl := lw_at lw_m1 57 rfl
theorem q163 : (Jvm.Cond.fieldLink "CoatHoles$Cold" (3 : Nat) "CoatHoles$Cold" "this$0" "LCoatHoles;") ∈ lw_all := lw_g (lw_at lw_m1 61 rfl) rfl
theorem q165 : (Jvm.Cond.laysFinal "CoatHoles$Cold" "CoatHoles$Cold" "this$0" "LCoatHoles;") ∈ lw_all := lw_g (lw_at lw_m1 63 rfl) rfl
theorem q166 : (Jvm.Cond.soleField "CoatHoles$Cold" "this$0") ∈ lw_all := lw_g (lw_at lw_m1 64 rfl) rfl
theorem q167 : (Jvm.Cond.laysFinal "CoatHoles$Cold" "CoatHoles$Nature" "this$0" "LCoatHoles;") ∈ lw_all := lw_g (lw_at lw_m1 65 rfl) rfl
theorem q169 : (Jvm.Cond.superclass "CoatHoles$Cold" "CoatHoles$Nature") ∈ lw_all := lw_g (lw_at lw_m1 67 rfl) rfl
theorem q293 : (Jvm.Cond.fieldLinkNest "CoatHoles$Cold" (15 : Nat) "CoatHoles$Item" "lives" "[I" "CoatHoles") ∈ lw_tbl := lw_at lw_m1 191 rfl
theorem q984 : (Jvm.Cond.selects "CoatHoles$Cold" ({ cls := "CoatHoles$Nature", name := "does", desc := "(LCoatHoles$Item;)V" } : Jvm.MethodName) ({ cls := "CoatHoles$Cold", name := "does", desc := "(LCoatHoles$Item;)V" } : Jvm.MethodName)) ∈ lw_all := lw_g (lw_at lw_m4 162 rfl) rfl
theorem q985 : (Jvm.Cond.instanceMethod ({ cls := "CoatHoles$Cold", name := "does", desc := "(LCoatHoles$Item;)V" } : Jvm.MethodName)) ∈ lw_all := lw_g (lw_at lw_m4 163 rfl) rfl
theorem q986 : (Jvm.Cond.code ({ cls := "CoatHoles$Cold", name := "does", desc := "(LCoatHoles$Item;)V" } : Jvm.MethodName) prog_7_method_2_code (2 : Nat) (Option.none : Option Jvm.ClassFile.FieldType)) ∈ lw_all := lw_g (lw_at lw_m4 164 rfl) rfl
theorem q987 : (Jvm.Cond.methodLink "CoatHoles$Cold" (21 : Nat) ({ cls := "CoatHoles$Item", name := "halves", desc := "(I)V" } : Jvm.MethodName)) ∈ lw_all := lw_g (lw_at lw_m4 165 rfl) rfl
theorem q1284 : (Jvm.Cond.selects "CoatHoles$Cold" ({ cls := "CoatHoles$Nature", name := "thing", desc := "(II)LCoatHoles$Tells;" } : Jvm.MethodName) ({ cls := "CoatHoles$Cold", name := "thing", desc := "(II)LCoatHoles$Tells;" } : Jvm.MethodName)) ∈ lw_all := lw_g (lw_at lw_m5 222 rfl) rfl
theorem q1285 : (Jvm.Cond.instanceMethod ({ cls := "CoatHoles$Cold", name := "thing", desc := "(II)LCoatHoles$Tells;" } : Jvm.MethodName)) ∈ lw_all := lw_g (lw_at lw_m5 223 rfl) rfl
theorem q1286 : (Jvm.Cond.code ({ cls := "CoatHoles$Cold", name := "thing", desc := "(II)LCoatHoles$Tells;" } : Jvm.MethodName) prog_7_method_3_code (3 : Nat) (Option.some (Jvm.ClassFile.FieldType.object "CoatHoles$Tells"))) ∈ lw_all := lw_g (lw_at lw_m5 224 rfl) rfl
theorem q1287 : (Jvm.Cond.classLink "CoatHoles$Cold" (25 : Nat) "CoatHoles$ColdDoing") ∈ lw_all := lw_g (lw_at lw_m5 225 rfl) rfl
theorem q1289 : (Jvm.Cond.methodLink "CoatHoles$Cold" (27 : Nat) ({ cls := "CoatHoles$ColdDoing", name := "<init>", desc := "(LCoatHoles;II)V" } : Jvm.MethodName)) ∈ lw_all := lw_g (lw_at lw_m5 227 rfl) rfl
theorem q2140 : (Jvm.Cond.sameMethod "CoatHoles$Cold" "CoatHoles$Cold" "does" "(LCoatHoles$Item;)V") ∈ lw_all := lw_g (lw_at lw_m9 118 rfl) rfl
theorem q2161 : (Jvm.Cond.castable "CoatHoles$Cold" "CoatHoles$Nature") ∈ lw_tbl := lw_at lw_m9 139 rfl
theorem in_X2 : ∀ w ∈ wsX20, w ∈ lw_all := lw_in wsX20 [167, 165] (by decide +kernel) (by decide +kernel)

/-! CoatHoles$Shake -/
set_option maxRecDepth 100000
def RX3 : String := "CoatHoles$Shake"
def TX3 : u_T := fun k => match k with
  | 0 => ("CoatHoles$Nature", "this$0", "LCoatHoles;", true)
  | _ => ("CoatHoles$Shake", "this$0", "LCoatHoles;", true)
def tyX3 : Nat → FieldType := fun k => match k with
  | 0 => .object "CoatHoles"
  | _ => .object "CoatHoles"
abbrev wsX30 : List Cond := u_ws RX3 TX3 2
-- two fields of one name: no nmX3
theorem tyX3_ok : ∀ k, k < 2 → parseFieldDescriptor (TX3 k).2.2.1 = some (tyX3 k) := by decide +kernel
abbrev cX3_init : ByteArray := prog_22_method_1_code
def yX3_init : MethodName := ⟨RX3, "<init>", "(LCoatHoles;)V"⟩
def dkwX3_init_0 : List UInt8 := [42, 43, 181, 0, 3, 42, 43, 183, 0, 9, 177]
abbrev dktX3_init_0 : List UInt8 := dkwX3_init_0 ++ []
theorem dksX3_init_0 : cX3_init.data.toList.drop 0 = dktX3_init_0 := by decide +kernel
theorem dX3_init_0 : decode cX3_init 0 = .ok (.aload_n 0, 1) := dk_42 (dk_at dksX3_init_0 0 rfl rfl)
theorem dX3_init_1 : decode cX3_init 1 = .ok (.aload_n 1, 1) := dk_43 (dk_at dksX3_init_0 1 rfl rfl)
theorem dX3_init_2 : decode cX3_init 2 = .ok (.putfield 3, 3) := dk_181 0 3 (dk_at dksX3_init_0 2 rfl rfl)
theorem dX3_init_5 : decode cX3_init 5 = .ok (.aload_n 0, 1) := dk_42 (dk_at dksX3_init_0 5 rfl rfl)
theorem dX3_init_6 : decode cX3_init 6 = .ok (.aload_n 1, 1) := dk_43 (dk_at dksX3_init_0 6 rfl rfl)
theorem dX3_init_7 : decode cX3_init 7 = .ok (.invokespecial 9, 3) := dk_183 0 9 (dk_at dksX3_init_0 7 rfl rfl)
theorem dX3_init_10 : decode cX3_init 10 = .ok (.return_, 1) := dk_177 (dk_at dksX3_init_0 10 rfl rfl)
abbrev cX3_does : ByteArray := prog_22_method_2_code
def yX3_does : MethodName := ⟨RX3, "does", "(LCoatHoles$Item;)V"⟩
def dkwX3_does_0 : List UInt8 := [43, 3, 182, 0, 15, 43, 4, 182, 0, 15, 177]
abbrev dktX3_does_0 : List UInt8 := dkwX3_does_0 ++ []
theorem dksX3_does_0 : cX3_does.data.toList.drop 0 = dktX3_does_0 := by decide +kernel
theorem dX3_does_0 : decode cX3_does 0 = .ok (.aload_n 1, 1) := dk_43 (dk_at dksX3_does_0 0 rfl rfl)
theorem dX3_does_1 : decode cX3_does 1 = .ok (.iconst 0, 1) := dk_3 (dk_at dksX3_does_0 1 rfl rfl)
theorem dX3_does_2 : decode cX3_does 2 = .ok (.invokevirtual 15, 3) := dk_182 0 15 (dk_at dksX3_does_0 2 rfl rfl)
theorem dX3_does_5 : decode cX3_does 5 = .ok (.aload_n 1, 1) := dk_43 (dk_at dksX3_does_0 5 rfl rfl)
theorem dX3_does_6 : decode cX3_does 6 = .ok (.iconst 1, 1) := dk_4 (dk_at dksX3_does_0 6 rfl rfl)
theorem dX3_does_7 : decode cX3_does 7 = .ok (.invokevirtual 15, 3) := dk_182 0 15 (dk_at dksX3_does_0 7 rfl rfl)
theorem dX3_does_10 : decode cX3_does 10 = .ok (.return_, 1) := dk_177 (dk_at dksX3_does_0 10 rfl rfl)
abbrev cX3_thing : ByteArray := prog_22_method_3_code
def yX3_thing : MethodName := ⟨RX3, "thing", "(II)LCoatHoles$Tells;"⟩
def dkwX3_thing_0 : List UInt8 := [187, 0, 21, 89, 42, 180, 0, 3, 27, 28, 183, 0, 23, 176]
abbrev dktX3_thing_0 : List UInt8 := dkwX3_thing_0 ++ []
theorem dksX3_thing_0 : cX3_thing.data.toList.drop 0 = dktX3_thing_0 := by decide +kernel
theorem dX3_thing_0 : decode cX3_thing 0 = .ok (.new 21, 3) := dk_187 0 21 (dk_at dksX3_thing_0 0 rfl rfl)
theorem dX3_thing_3 : decode cX3_thing 3 = .ok (.dup, 1) := dk_89 (dk_at dksX3_thing_0 3 rfl rfl)
theorem dX3_thing_4 : decode cX3_thing 4 = .ok (.aload_n 0, 1) := dk_42 (dk_at dksX3_thing_0 4 rfl rfl)
theorem dX3_thing_5 : decode cX3_thing 5 = .ok (.getfield 3, 3) := dk_180 0 3 (dk_at dksX3_thing_0 5 rfl rfl)
theorem dX3_thing_8 : decode cX3_thing 8 = .ok (.iload_n 1, 1) := dk_27 (dk_at dksX3_thing_0 8 rfl rfl)
theorem dX3_thing_9 : decode cX3_thing 9 = .ok (.iload_n 2, 1) := dk_28 (dk_at dksX3_thing_0 9 rfl rfl)
theorem dX3_thing_10 : decode cX3_thing 10 = .ok (.invokespecial 23, 3) := dk_183 0 23 (dk_at dksX3_thing_0 10 rfl rfl)
theorem dX3_thing_13 : decode cX3_thing 13 = .ok (.areturn, 1) := dk_176 (dk_at dksX3_thing_0 13 rfl rfl)
theorem q106 : (Jvm.Cond.initialized "CoatHoles$Shake") ∈ lw_all := lw_g (lw_at lw_m1 4 rfl) rfl
theorem q171 : (Jvm.Cond.instantiable "CoatHoles$Shake" (2 : Nat)) ∈ lw_all := lw_g (lw_at lw_m1 69 rfl) rfl
theorem q173 : (Jvm.Cond.instanceMethod ({ cls := "CoatHoles$Shake", name := "<init>", desc := "(LCoatHoles;)V" } : Jvm.MethodName)) ∈ lw_all := lw_g (lw_at lw_m1 71 rfl) rfl
theorem q174 : (Jvm.Cond.code ({ cls := "CoatHoles$Shake", name := "<init>", desc := "(LCoatHoles;)V" } : Jvm.MethodName) prog_22_method_1_code (2 : Nat) (Option.none : Option Jvm.ClassFile.FieldType)) ∈ lw_all := lw_g (lw_at lw_m1 72 rfl) rfl
theorem q175 : (Jvm.Cond.methodLinkNest "CoatHoles$Shake" (9 : Nat) ({ cls := "CoatHoles$Nature", name := "<init>", desc := "(LCoatHoles;)V" } : Jvm.MethodName) "CoatHoles") ∈ lw_tbl := lw_at lw_m1 73 rfl
theorem q176 : (Jvm.Cond.fieldLink "CoatHoles$Shake" (3 : Nat) "CoatHoles$Shake" "this$0" "LCoatHoles;") ∈ lw_all := lw_g (lw_at lw_m1 74 rfl) rfl
theorem q177 : (Jvm.Cond.laysFinal "CoatHoles$Shake" "CoatHoles$Shake" "this$0" "LCoatHoles;") ∈ lw_all := lw_g (lw_at lw_m1 75 rfl) rfl
theorem q178 : (Jvm.Cond.soleField "CoatHoles$Shake" "this$0") ∈ lw_all := lw_g (lw_at lw_m1 76 rfl) rfl
theorem q179 : (Jvm.Cond.laysFinal "CoatHoles$Shake" "CoatHoles$Nature" "this$0" "LCoatHoles;") ∈ lw_all := lw_g (lw_at lw_m1 77 rfl) rfl
theorem q180 : (Jvm.Cond.superclass "CoatHoles$Shake" "CoatHoles$Nature") ∈ lw_all := lw_g (lw_at lw_m1 78 rfl) rfl
theorem q981 : (Jvm.Cond.instanceMethod ({ cls := "CoatHoles$Shake", name := "does", desc := "(LCoatHoles$Item;)V" } : Jvm.MethodName)) ∈ lw_all := lw_g (lw_at lw_m4 159 rfl) rfl
theorem q982 : (Jvm.Cond.code ({ cls := "CoatHoles$Shake", name := "does", desc := "(LCoatHoles$Item;)V" } : Jvm.MethodName) prog_22_method_2_code (2 : Nat) (Option.none : Option Jvm.ClassFile.FieldType)) ∈ lw_all := lw_g (lw_at lw_m4 160 rfl) rfl
theorem q983 : (Jvm.Cond.methodLink "CoatHoles$Shake" (15 : Nat) ({ cls := "CoatHoles$Item", name := "halves", desc := "(I)V" } : Jvm.MethodName)) ∈ lw_all := lw_g (lw_at lw_m4 161 rfl) rfl
theorem q992 : (Jvm.Cond.selects "CoatHoles$Shake" ({ cls := "CoatHoles$Nature", name := "does", desc := "(LCoatHoles$Item;)V" } : Jvm.MethodName) ({ cls := "CoatHoles$Shake", name := "does", desc := "(LCoatHoles$Item;)V" } : Jvm.MethodName)) ∈ lw_all := lw_g (lw_at lw_m4 170 rfl) rfl
theorem q1317 : (Jvm.Cond.selects "CoatHoles$Shake" ({ cls := "CoatHoles$Nature", name := "thing", desc := "(II)LCoatHoles$Tells;" } : Jvm.MethodName) ({ cls := "CoatHoles$Shake", name := "thing", desc := "(II)LCoatHoles$Tells;" } : Jvm.MethodName)) ∈ lw_all := lw_g (lw_at lw_m6 15 rfl) rfl
theorem q1318 : (Jvm.Cond.instanceMethod ({ cls := "CoatHoles$Shake", name := "thing", desc := "(II)LCoatHoles$Tells;" } : Jvm.MethodName)) ∈ lw_all := lw_g (lw_at lw_m6 16 rfl) rfl
theorem q1319 : (Jvm.Cond.code ({ cls := "CoatHoles$Shake", name := "thing", desc := "(II)LCoatHoles$Tells;" } : Jvm.MethodName) prog_22_method_3_code (3 : Nat) (Option.some (Jvm.ClassFile.FieldType.object "CoatHoles$Tells"))) ∈ lw_all := lw_g (lw_at lw_m6 17 rfl) rfl
theorem q1320 : (Jvm.Cond.classLink "CoatHoles$Shake" (21 : Nat) "CoatHoles$ShakeDoing") ∈ lw_all := lw_g (lw_at lw_m6 18 rfl) rfl
theorem q1322 : (Jvm.Cond.methodLink "CoatHoles$Shake" (23 : Nat) ({ cls := "CoatHoles$ShakeDoing", name := "<init>", desc := "(LCoatHoles;II)V" } : Jvm.MethodName)) ∈ lw_all := lw_g (lw_at lw_m6 20 rfl) rfl
theorem q2139 : (Jvm.Cond.sameMethod "CoatHoles$Shake" "CoatHoles$Shake" "does" "(LCoatHoles$Item;)V") ∈ lw_all := lw_g (lw_at lw_m9 117 rfl) rfl
theorem q2162 : (Jvm.Cond.castable "CoatHoles$Shake" "CoatHoles$Nature") ∈ lw_tbl := lw_at lw_m9 140 rfl
theorem in_X3 : ∀ w ∈ wsX30, w ∈ lw_all := lw_in wsX30 [179, 177] (by decide +kernel) (by decide +kernel)

/-! CoatHoles$Wash -/
set_option maxRecDepth 100000
def RX4 : String := "CoatHoles$Wash"
def TX4 : u_T := fun k => match k with
  | 0 => ("CoatHoles$Nature", "this$0", "LCoatHoles;", true)
  | 1 => ("CoatHoles$Shake", "this$0", "LCoatHoles;", true)
  | _ => ("CoatHoles$Wash", "this$0", "LCoatHoles;", true)
def tyX4 : Nat → FieldType := fun k => match k with
  | 0 => .object "CoatHoles"
  | 1 => .object "CoatHoles"
  | _ => .object "CoatHoles"
abbrev wsX40 : List Cond := u_ws RX4 TX4 3
-- two fields of one name: no nmX4
theorem tyX4_ok : ∀ k, k < 3 → parseFieldDescriptor (TX4 k).2.2.1 = some (tyX4 k) := by decide +kernel
abbrev cX4_init : ByteArray := prog_29_method_1_code
def yX4_init : MethodName := ⟨RX4, "<init>", "(LCoatHoles;)V"⟩
def dkwX4_init_0 : List UInt8 := [42, 43, 181, 0, 3, 42, 43, 183, 0, 9, 177]
abbrev dktX4_init_0 : List UInt8 := dkwX4_init_0 ++ []
theorem dksX4_init_0 : cX4_init.data.toList.drop 0 = dktX4_init_0 := by decide +kernel
theorem dX4_init_0 : decode cX4_init 0 = .ok (.aload_n 0, 1) := dk_42 (dk_at dksX4_init_0 0 rfl rfl)
theorem dX4_init_1 : decode cX4_init 1 = .ok (.aload_n 1, 1) := dk_43 (dk_at dksX4_init_0 1 rfl rfl)
theorem dX4_init_2 : decode cX4_init 2 = .ok (.putfield 3, 3) := dk_181 0 3 (dk_at dksX4_init_0 2 rfl rfl)
theorem dX4_init_5 : decode cX4_init 5 = .ok (.aload_n 0, 1) := dk_42 (dk_at dksX4_init_0 5 rfl rfl)
theorem dX4_init_6 : decode cX4_init 6 = .ok (.aload_n 1, 1) := dk_43 (dk_at dksX4_init_0 6 rfl rfl)
theorem dX4_init_7 : decode cX4_init 7 = .ok (.invokespecial 9, 3) := dk_183 0 9 (dk_at dksX4_init_0 7 rfl rfl)
theorem dX4_init_10 : decode cX4_init 10 = .ok (.return_, 1) := dk_177 (dk_at dksX4_init_0 10 rfl rfl)
abbrev cX4_does : ByteArray := prog_29_method_2_code
def yX4_does : MethodName := ⟨RX4, "does", "(LCoatHoles$Item;)V"⟩
def dkwX4_does_0 : List UInt8 := [42, 43, 183, 0, 15, 43, 180, 0, 19, 3, 3, 79, 43, 3, 181, 0, 25, 177]
abbrev dktX4_does_0 : List UInt8 := dkwX4_does_0 ++ []
theorem dksX4_does_0 : cX4_does.data.toList.drop 0 = dktX4_does_0 := by decide +kernel
theorem dX4_does_0 : decode cX4_does 0 = .ok (.aload_n 0, 1) := dk_42 (dk_at dksX4_does_0 0 rfl rfl)
theorem dX4_does_1 : decode cX4_does 1 = .ok (.aload_n 1, 1) := dk_43 (dk_at dksX4_does_0 1 rfl rfl)
theorem dX4_does_2 : decode cX4_does 2 = .ok (.invokespecial 15, 3) := dk_183 0 15 (dk_at dksX4_does_0 2 rfl rfl)
theorem dX4_does_5 : decode cX4_does 5 = .ok (.aload_n 1, 1) := dk_43 (dk_at dksX4_does_0 5 rfl rfl)
theorem dX4_does_6 : decode cX4_does 6 = .ok (.getfield 19, 3) := dk_180 0 19 (dk_at dksX4_does_0 6 rfl rfl)
theorem dX4_does_9 : decode cX4_does 9 = .ok (.iconst 0, 1) := dk_3 (dk_at dksX4_does_0 9 rfl rfl)
theorem dX4_does_10 : decode cX4_does 10 = .ok (.iconst 0, 1) := dk_3 (dk_at dksX4_does_0 10 rfl rfl)
theorem dX4_does_11 : decode cX4_does 11 = .ok (.iastore, 1) := dk_79 (dk_at dksX4_does_0 11 rfl rfl)
theorem dX4_does_12 : decode cX4_does 12 = .ok (.aload_n 1, 1) := dk_43 (dk_at dksX4_does_0 12 rfl rfl)
theorem dX4_does_13 : decode cX4_does 13 = .ok (.iconst 0, 1) := dk_3 (dk_at dksX4_does_0 13 rfl rfl)
theorem dX4_does_14 : decode cX4_does 14 = .ok (.putfield 25, 3) := dk_181 0 25 (dk_at dksX4_does_0 14 rfl rfl)
theorem dX4_does_17 : decode cX4_does 17 = .ok (.return_, 1) := dk_177 (dk_at dksX4_does_0 17 rfl rfl)
abbrev cX4_thing : ByteArray := prog_29_method_3_code
def yX4_thing : MethodName := ⟨RX4, "thing", "(II)LCoatHoles$Tells;"⟩
def dkwX4_thing_0 : List UInt8 := [187, 0, 29, 89, 42, 180, 0, 3, 27, 28, 183, 0, 31, 176]
abbrev dktX4_thing_0 : List UInt8 := dkwX4_thing_0 ++ []
theorem dksX4_thing_0 : cX4_thing.data.toList.drop 0 = dktX4_thing_0 := by decide +kernel
theorem dX4_thing_0 : decode cX4_thing 0 = .ok (.new 29, 3) := dk_187 0 29 (dk_at dksX4_thing_0 0 rfl rfl)
theorem dX4_thing_3 : decode cX4_thing 3 = .ok (.dup, 1) := dk_89 (dk_at dksX4_thing_0 3 rfl rfl)
theorem dX4_thing_4 : decode cX4_thing 4 = .ok (.aload_n 0, 1) := dk_42 (dk_at dksX4_thing_0 4 rfl rfl)
theorem dX4_thing_5 : decode cX4_thing 5 = .ok (.getfield 3, 3) := dk_180 0 3 (dk_at dksX4_thing_0 5 rfl rfl)
theorem dX4_thing_8 : decode cX4_thing 8 = .ok (.iload_n 1, 1) := dk_27 (dk_at dksX4_thing_0 8 rfl rfl)
theorem dX4_thing_9 : decode cX4_thing 9 = .ok (.iload_n 2, 1) := dk_28 (dk_at dksX4_thing_0 9 rfl rfl)
theorem dX4_thing_10 : decode cX4_thing 10 = .ok (.invokespecial 31, 3) := dk_183 0 31 (dk_at dksX4_thing_0 10 rfl rfl)
theorem dX4_thing_13 : decode cX4_thing 13 = .ok (.areturn, 1) := dk_176 (dk_at dksX4_thing_0 13 rfl rfl)
theorem q107 : (Jvm.Cond.initialized "CoatHoles$Wash") ∈ lw_all := lw_g (lw_at lw_m1 5 rfl) rfl
theorem q182 : (Jvm.Cond.instantiable "CoatHoles$Wash" (3 : Nat)) ∈ lw_all := lw_g (lw_at lw_m1 80 rfl) rfl
theorem q184 : (Jvm.Cond.instanceMethod ({ cls := "CoatHoles$Wash", name := "<init>", desc := "(LCoatHoles;)V" } : Jvm.MethodName)) ∈ lw_all := lw_g (lw_at lw_m1 82 rfl) rfl
theorem q185 : (Jvm.Cond.code ({ cls := "CoatHoles$Wash", name := "<init>", desc := "(LCoatHoles;)V" } : Jvm.MethodName) prog_29_method_1_code (2 : Nat) (Option.none : Option Jvm.ClassFile.FieldType)) ∈ lw_all := lw_g (lw_at lw_m1 83 rfl) rfl
theorem q186 : (Jvm.Cond.methodLinkNest "CoatHoles$Wash" (9 : Nat) ({ cls := "CoatHoles$Shake", name := "<init>", desc := "(LCoatHoles;)V" } : Jvm.MethodName) "CoatHoles") ∈ lw_tbl := lw_at lw_m1 84 rfl
theorem q187 : (Jvm.Cond.fieldLink "CoatHoles$Wash" (3 : Nat) "CoatHoles$Wash" "this$0" "LCoatHoles;") ∈ lw_all := lw_g (lw_at lw_m1 85 rfl) rfl
theorem q188 : (Jvm.Cond.laysFinal "CoatHoles$Wash" "CoatHoles$Wash" "this$0" "LCoatHoles;") ∈ lw_all := lw_g (lw_at lw_m1 86 rfl) rfl
theorem q189 : (Jvm.Cond.soleField "CoatHoles$Wash" "this$0") ∈ lw_all := lw_g (lw_at lw_m1 87 rfl) rfl
theorem q190 : (Jvm.Cond.laysFinal "CoatHoles$Wash" "CoatHoles$Shake" "this$0" "LCoatHoles;") ∈ lw_all := lw_g (lw_at lw_m1 88 rfl) rfl
theorem q191 : (Jvm.Cond.laysFinal "CoatHoles$Wash" "CoatHoles$Nature" "this$0" "LCoatHoles;") ∈ lw_all := lw_g (lw_at lw_m1 89 rfl) rfl
theorem q192 : (Jvm.Cond.superclass "CoatHoles$Wash" "CoatHoles$Shake") ∈ lw_all := lw_g (lw_at lw_m1 90 rfl) rfl
theorem q280 : (Jvm.Cond.fieldLinkNest "CoatHoles$Wash" (25 : Nat) "CoatHoles$Item" "soil" "I" "CoatHoles") ∈ lw_tbl := lw_at lw_m1 178 rfl
theorem q295 : (Jvm.Cond.fieldLinkNest "CoatHoles$Wash" (19 : Nat) "CoatHoles$Item" "lives" "[I" "CoatHoles") ∈ lw_tbl := lw_at lw_m1 193 rfl
theorem q993 : (Jvm.Cond.selects "CoatHoles$Wash" ({ cls := "CoatHoles$Nature", name := "does", desc := "(LCoatHoles$Item;)V" } : Jvm.MethodName) ({ cls := "CoatHoles$Wash", name := "does", desc := "(LCoatHoles$Item;)V" } : Jvm.MethodName)) ∈ lw_all := lw_g (lw_at lw_m4 171 rfl) rfl
theorem q994 : (Jvm.Cond.instanceMethod ({ cls := "CoatHoles$Wash", name := "does", desc := "(LCoatHoles$Item;)V" } : Jvm.MethodName)) ∈ lw_all := lw_g (lw_at lw_m4 172 rfl) rfl
theorem q995 : (Jvm.Cond.code ({ cls := "CoatHoles$Wash", name := "does", desc := "(LCoatHoles$Item;)V" } : Jvm.MethodName) prog_29_method_2_code (2 : Nat) (Option.none : Option Jvm.ClassFile.FieldType)) ∈ lw_all := lw_g (lw_at lw_m4 173 rfl) rfl
theorem q996 : (Jvm.Cond.methodLink "CoatHoles$Wash" (15 : Nat) ({ cls := "CoatHoles$Shake", name := "does", desc := "(LCoatHoles$Item;)V" } : Jvm.MethodName)) ∈ lw_all := lw_g (lw_at lw_m4 174 rfl) rfl
theorem q1328 : (Jvm.Cond.selects "CoatHoles$Wash" ({ cls := "CoatHoles$Nature", name := "thing", desc := "(II)LCoatHoles$Tells;" } : Jvm.MethodName) ({ cls := "CoatHoles$Wash", name := "thing", desc := "(II)LCoatHoles$Tells;" } : Jvm.MethodName)) ∈ lw_all := lw_g (lw_at lw_m6 26 rfl) rfl
theorem q1329 : (Jvm.Cond.instanceMethod ({ cls := "CoatHoles$Wash", name := "thing", desc := "(II)LCoatHoles$Tells;" } : Jvm.MethodName)) ∈ lw_all := lw_g (lw_at lw_m6 27 rfl) rfl
theorem q1330 : (Jvm.Cond.code ({ cls := "CoatHoles$Wash", name := "thing", desc := "(II)LCoatHoles$Tells;" } : Jvm.MethodName) prog_29_method_3_code (3 : Nat) (Option.some (Jvm.ClassFile.FieldType.object "CoatHoles$Tells"))) ∈ lw_all := lw_g (lw_at lw_m6 28 rfl) rfl
theorem q1331 : (Jvm.Cond.classLink "CoatHoles$Wash" (29 : Nat) "CoatHoles$WashDoing") ∈ lw_all := lw_g (lw_at lw_m6 29 rfl) rfl
theorem q1333 : (Jvm.Cond.methodLink "CoatHoles$Wash" (31 : Nat) ({ cls := "CoatHoles$WashDoing", name := "<init>", desc := "(LCoatHoles;II)V" } : Jvm.MethodName)) ∈ lw_all := lw_g (lw_at lw_m6 31 rfl) rfl
theorem q2163 : (Jvm.Cond.castable "CoatHoles$Wash" "CoatHoles$Nature") ∈ lw_tbl := lw_at lw_m9 141 rfl
theorem in_X4 : ∀ w ∈ wsX40, w ∈ lw_all := lw_in wsX40 [191, 190, 188] (by decide +kernel) (by decide +kernel)

/-! CoatHoles$Heat -/
set_option maxRecDepth 100000
def RX5 : String := "CoatHoles$Heat"
def TX5 : u_T := fun k => match k with
  | 0 => ("CoatHoles$Nature", "this$0", "LCoatHoles;", true)
  | 1 => ("CoatHoles$Cold", "this$0", "LCoatHoles;", true)
  | _ => ("CoatHoles$Heat", "this$0", "LCoatHoles;", true)
def tyX5 : Nat → FieldType := fun k => match k with
  | 0 => .object "CoatHoles"
  | 1 => .object "CoatHoles"
  | _ => .object "CoatHoles"
abbrev wsX50 : List Cond := u_ws RX5 TX5 3
-- two fields of one name: no nmX5
theorem tyX5_ok : ∀ k, k < 3 → parseFieldDescriptor (TX5 k).2.2.1 = some (tyX5 k) := by decide +kernel
abbrev cX5_init : ByteArray := prog_15_method_1_code
def yX5_init : MethodName := ⟨RX5, "<init>", "(LCoatHoles;)V"⟩
def dkwX5_init_0 : List UInt8 := [42, 43, 181, 0, 3, 42, 43, 183, 0, 9, 177]
abbrev dktX5_init_0 : List UInt8 := dkwX5_init_0 ++ []
theorem dksX5_init_0 : cX5_init.data.toList.drop 0 = dktX5_init_0 := by decide +kernel
theorem dX5_init_0 : decode cX5_init 0 = .ok (.aload_n 0, 1) := dk_42 (dk_at dksX5_init_0 0 rfl rfl)
theorem dX5_init_1 : decode cX5_init 1 = .ok (.aload_n 1, 1) := dk_43 (dk_at dksX5_init_0 1 rfl rfl)
theorem dX5_init_2 : decode cX5_init 2 = .ok (.putfield 3, 3) := dk_181 0 3 (dk_at dksX5_init_0 2 rfl rfl)
theorem dX5_init_5 : decode cX5_init 5 = .ok (.aload_n 0, 1) := dk_42 (dk_at dksX5_init_0 5 rfl rfl)
theorem dX5_init_6 : decode cX5_init 6 = .ok (.aload_n 1, 1) := dk_43 (dk_at dksX5_init_0 6 rfl rfl)
theorem dX5_init_7 : decode cX5_init 7 = .ok (.invokespecial 9, 3) := dk_183 0 9 (dk_at dksX5_init_0 7 rfl rfl)
theorem dX5_init_10 : decode cX5_init 10 = .ok (.return_, 1) := dk_177 (dk_at dksX5_init_0 10 rfl rfl)
abbrev cX5_does : ByteArray := prog_15_method_2_code
def yX5_does : MethodName := ⟨RX5, "does", "(LCoatHoles$Item;)V"⟩
def dkwX5_does_0 : List UInt8 := [42, 43, 183, 0, 15, 43, 180, 0, 19, 5, 3, 79, 177]
abbrev dktX5_does_0 : List UInt8 := dkwX5_does_0 ++ []
theorem dksX5_does_0 : cX5_does.data.toList.drop 0 = dktX5_does_0 := by decide +kernel
theorem dX5_does_0 : decode cX5_does 0 = .ok (.aload_n 0, 1) := dk_42 (dk_at dksX5_does_0 0 rfl rfl)
theorem dX5_does_1 : decode cX5_does 1 = .ok (.aload_n 1, 1) := dk_43 (dk_at dksX5_does_0 1 rfl rfl)
theorem dX5_does_2 : decode cX5_does 2 = .ok (.invokespecial 15, 3) := dk_183 0 15 (dk_at dksX5_does_0 2 rfl rfl)
theorem dX5_does_5 : decode cX5_does 5 = .ok (.aload_n 1, 1) := dk_43 (dk_at dksX5_does_0 5 rfl rfl)
theorem dX5_does_6 : decode cX5_does 6 = .ok (.getfield 19, 3) := dk_180 0 19 (dk_at dksX5_does_0 6 rfl rfl)
theorem dX5_does_9 : decode cX5_does 9 = .ok (.iconst 2, 1) := dk_5 (dk_at dksX5_does_0 9 rfl rfl)
theorem dX5_does_10 : decode cX5_does 10 = .ok (.iconst 0, 1) := dk_3 (dk_at dksX5_does_0 10 rfl rfl)
theorem dX5_does_11 : decode cX5_does 11 = .ok (.iastore, 1) := dk_79 (dk_at dksX5_does_0 11 rfl rfl)
theorem dX5_does_12 : decode cX5_does 12 = .ok (.return_, 1) := dk_177 (dk_at dksX5_does_0 12 rfl rfl)
abbrev cX5_thing : ByteArray := prog_15_method_3_code
def yX5_thing : MethodName := ⟨RX5, "thing", "(II)LCoatHoles$Tells;"⟩
def dkwX5_thing_0 : List UInt8 := [187, 0, 25, 89, 42, 180, 0, 3, 27, 28, 183, 0, 27, 176]
abbrev dktX5_thing_0 : List UInt8 := dkwX5_thing_0 ++ []
theorem dksX5_thing_0 : cX5_thing.data.toList.drop 0 = dktX5_thing_0 := by decide +kernel
theorem dX5_thing_0 : decode cX5_thing 0 = .ok (.new 25, 3) := dk_187 0 25 (dk_at dksX5_thing_0 0 rfl rfl)
theorem dX5_thing_3 : decode cX5_thing 3 = .ok (.dup, 1) := dk_89 (dk_at dksX5_thing_0 3 rfl rfl)
theorem dX5_thing_4 : decode cX5_thing 4 = .ok (.aload_n 0, 1) := dk_42 (dk_at dksX5_thing_0 4 rfl rfl)
theorem dX5_thing_5 : decode cX5_thing 5 = .ok (.getfield 3, 3) := dk_180 0 3 (dk_at dksX5_thing_0 5 rfl rfl)
theorem dX5_thing_8 : decode cX5_thing 8 = .ok (.iload_n 1, 1) := dk_27 (dk_at dksX5_thing_0 8 rfl rfl)
theorem dX5_thing_9 : decode cX5_thing 9 = .ok (.iload_n 2, 1) := dk_28 (dk_at dksX5_thing_0 9 rfl rfl)
theorem dX5_thing_10 : decode cX5_thing 10 = .ok (.invokespecial 27, 3) := dk_183 0 27 (dk_at dksX5_thing_0 10 rfl rfl)
theorem dX5_thing_13 : decode cX5_thing 13 = .ok (.areturn, 1) := dk_176 (dk_at dksX5_thing_0 13 rfl rfl)
theorem q108 : (Jvm.Cond.initialized "CoatHoles$Heat") ∈ lw_all := lw_g (lw_at lw_m1 6 rfl) rfl
theorem q194 : (Jvm.Cond.instantiable "CoatHoles$Heat" (3 : Nat)) ∈ lw_all := lw_g (lw_at lw_m1 92 rfl) rfl
theorem q196 : (Jvm.Cond.instanceMethod ({ cls := "CoatHoles$Heat", name := "<init>", desc := "(LCoatHoles;)V" } : Jvm.MethodName)) ∈ lw_all := lw_g (lw_at lw_m1 94 rfl) rfl
theorem q197 : (Jvm.Cond.code ({ cls := "CoatHoles$Heat", name := "<init>", desc := "(LCoatHoles;)V" } : Jvm.MethodName) prog_15_method_1_code (2 : Nat) (Option.none : Option Jvm.ClassFile.FieldType)) ∈ lw_all := lw_g (lw_at lw_m1 95 rfl) rfl
theorem q198 : (Jvm.Cond.methodLinkNest "CoatHoles$Heat" (9 : Nat) ({ cls := "CoatHoles$Cold", name := "<init>", desc := "(LCoatHoles;)V" } : Jvm.MethodName) "CoatHoles") ∈ lw_tbl := lw_at lw_m1 96 rfl
theorem q199 : (Jvm.Cond.fieldLink "CoatHoles$Heat" (3 : Nat) "CoatHoles$Heat" "this$0" "LCoatHoles;") ∈ lw_all := lw_g (lw_at lw_m1 97 rfl) rfl
theorem q200 : (Jvm.Cond.laysFinal "CoatHoles$Heat" "CoatHoles$Heat" "this$0" "LCoatHoles;") ∈ lw_all := lw_g (lw_at lw_m1 98 rfl) rfl
theorem q201 : (Jvm.Cond.soleField "CoatHoles$Heat" "this$0") ∈ lw_all := lw_g (lw_at lw_m1 99 rfl) rfl
theorem q202 : (Jvm.Cond.laysFinal "CoatHoles$Heat" "CoatHoles$Cold" "this$0" "LCoatHoles;") ∈ lw_all := lw_g (lw_at lw_m1 100 rfl) rfl
theorem q203 : (Jvm.Cond.laysFinal "CoatHoles$Heat" "CoatHoles$Nature" "this$0" "LCoatHoles;") ∈ lw_all := lw_g (lw_at lw_m1 101 rfl) rfl
theorem q204 : (Jvm.Cond.superclass "CoatHoles$Heat" "CoatHoles$Cold") ∈ lw_all := lw_g (lw_at lw_m1 102 rfl) rfl
theorem q294 : (Jvm.Cond.fieldLinkNest "CoatHoles$Heat" (19 : Nat) "CoatHoles$Item" "lives" "[I" "CoatHoles") ∈ lw_tbl := lw_at lw_m1 192 rfl
theorem q988 : (Jvm.Cond.selects "CoatHoles$Heat" ({ cls := "CoatHoles$Nature", name := "does", desc := "(LCoatHoles$Item;)V" } : Jvm.MethodName) ({ cls := "CoatHoles$Heat", name := "does", desc := "(LCoatHoles$Item;)V" } : Jvm.MethodName)) ∈ lw_all := lw_g (lw_at lw_m4 166 rfl) rfl
theorem q989 : (Jvm.Cond.instanceMethod ({ cls := "CoatHoles$Heat", name := "does", desc := "(LCoatHoles$Item;)V" } : Jvm.MethodName)) ∈ lw_all := lw_g (lw_at lw_m4 167 rfl) rfl
theorem q990 : (Jvm.Cond.code ({ cls := "CoatHoles$Heat", name := "does", desc := "(LCoatHoles$Item;)V" } : Jvm.MethodName) prog_15_method_2_code (2 : Nat) (Option.none : Option Jvm.ClassFile.FieldType)) ∈ lw_all := lw_g (lw_at lw_m4 168 rfl) rfl
theorem q991 : (Jvm.Cond.methodLink "CoatHoles$Heat" (15 : Nat) ({ cls := "CoatHoles$Cold", name := "does", desc := "(LCoatHoles$Item;)V" } : Jvm.MethodName)) ∈ lw_all := lw_g (lw_at lw_m4 169 rfl) rfl
theorem q1300 : (Jvm.Cond.selects "CoatHoles$Heat" ({ cls := "CoatHoles$Nature", name := "thing", desc := "(II)LCoatHoles$Tells;" } : Jvm.MethodName) ({ cls := "CoatHoles$Heat", name := "thing", desc := "(II)LCoatHoles$Tells;" } : Jvm.MethodName)) ∈ lw_all := lw_g (lw_at lw_m5 238 rfl) rfl
theorem q1301 : (Jvm.Cond.instanceMethod ({ cls := "CoatHoles$Heat", name := "thing", desc := "(II)LCoatHoles$Tells;" } : Jvm.MethodName)) ∈ lw_all := lw_g (lw_at lw_m5 239 rfl) rfl
theorem q1302 : (Jvm.Cond.code ({ cls := "CoatHoles$Heat", name := "thing", desc := "(II)LCoatHoles$Tells;" } : Jvm.MethodName) prog_15_method_3_code (3 : Nat) (Option.some (Jvm.ClassFile.FieldType.object "CoatHoles$Tells"))) ∈ lw_all := lw_g (lw_at lw_m6 0 rfl) rfl
theorem q1303 : (Jvm.Cond.classLink "CoatHoles$Heat" (25 : Nat) "CoatHoles$HeatDoing") ∈ lw_all := lw_g (lw_at lw_m6 1 rfl) rfl
theorem q1305 : (Jvm.Cond.methodLink "CoatHoles$Heat" (27 : Nat) ({ cls := "CoatHoles$HeatDoing", name := "<init>", desc := "(LCoatHoles;II)V" } : Jvm.MethodName)) ∈ lw_all := lw_g (lw_at lw_m6 3 rfl) rfl
theorem q2164 : (Jvm.Cond.castable "CoatHoles$Heat" "CoatHoles$Nature") ∈ lw_tbl := lw_at lw_m9 142 rfl
theorem in_X5 : ∀ w ∈ wsX50, w ∈ lw_all := lw_in wsX50 [203, 202, 200] (by decide +kernel) (by decide +kernel)

/-! CoatHoles$Beat -/
set_option maxRecDepth 100000
def RX6 : String := "CoatHoles$Beat"
def TX6 : u_T := fun k => match k with
  | 0 => ("CoatHoles$Nature", "this$0", "LCoatHoles;", true)
  | 1 => ("CoatHoles$Shake", "this$0", "LCoatHoles;", true)
  | _ => ("CoatHoles$Beat", "this$0", "LCoatHoles;", true)
def tyX6 : Nat → FieldType := fun k => match k with
  | 0 => .object "CoatHoles"
  | 1 => .object "CoatHoles"
  | _ => .object "CoatHoles"
abbrev wsX60 : List Cond := u_ws RX6 TX6 3
-- two fields of one name: no nmX6
theorem tyX6_ok : ∀ k, k < 3 → parseFieldDescriptor (TX6 k).2.2.1 = some (tyX6 k) := by decide +kernel
abbrev cX6_init : ByteArray := prog_3_method_1_code
def yX6_init : MethodName := ⟨RX6, "<init>", "(LCoatHoles;)V"⟩
def dkwX6_init_0 : List UInt8 := [42, 43, 181, 0, 1, 42, 43, 183, 0, 7, 177]
abbrev dktX6_init_0 : List UInt8 := dkwX6_init_0 ++ []
theorem dksX6_init_0 : cX6_init.data.toList.drop 0 = dktX6_init_0 := by decide +kernel
theorem dX6_init_0 : decode cX6_init 0 = .ok (.aload_n 0, 1) := dk_42 (dk_at dksX6_init_0 0 rfl rfl)
theorem dX6_init_1 : decode cX6_init 1 = .ok (.aload_n 1, 1) := dk_43 (dk_at dksX6_init_0 1 rfl rfl)
theorem dX6_init_2 : decode cX6_init 2 = .ok (.putfield 1, 3) := dk_181 0 1 (dk_at dksX6_init_0 2 rfl rfl)
theorem dX6_init_5 : decode cX6_init 5 = .ok (.aload_n 0, 1) := dk_42 (dk_at dksX6_init_0 5 rfl rfl)
theorem dX6_init_6 : decode cX6_init 6 = .ok (.aload_n 1, 1) := dk_43 (dk_at dksX6_init_0 6 rfl rfl)
theorem dX6_init_7 : decode cX6_init 7 = .ok (.invokespecial 7, 3) := dk_183 0 7 (dk_at dksX6_init_0 7 rfl rfl)
theorem dX6_init_10 : decode cX6_init 10 = .ok (.return_, 1) := dk_177 (dk_at dksX6_init_0 10 rfl rfl)
abbrev cX6_does : ByteArray := prog_3_method_2_code
def yX6_does : MethodName := ⟨RX6, "does", "(LCoatHoles$Item;)V"⟩
def dkwX6_does_0 : List UInt8 := [42, 43, 183, 0, 13, 42, 43, 183, 0, 13, 177]
abbrev dktX6_does_0 : List UInt8 := dkwX6_does_0 ++ []
theorem dksX6_does_0 : cX6_does.data.toList.drop 0 = dktX6_does_0 := by decide +kernel
theorem dX6_does_0 : decode cX6_does 0 = .ok (.aload_n 0, 1) := dk_42 (dk_at dksX6_does_0 0 rfl rfl)
theorem dX6_does_1 : decode cX6_does 1 = .ok (.aload_n 1, 1) := dk_43 (dk_at dksX6_does_0 1 rfl rfl)
theorem dX6_does_2 : decode cX6_does 2 = .ok (.invokespecial 13, 3) := dk_183 0 13 (dk_at dksX6_does_0 2 rfl rfl)
theorem dX6_does_5 : decode cX6_does 5 = .ok (.aload_n 0, 1) := dk_42 (dk_at dksX6_does_0 5 rfl rfl)
theorem dX6_does_6 : decode cX6_does 6 = .ok (.aload_n 1, 1) := dk_43 (dk_at dksX6_does_0 6 rfl rfl)
theorem dX6_does_7 : decode cX6_does 7 = .ok (.invokespecial 13, 3) := dk_183 0 13 (dk_at dksX6_does_0 7 rfl rfl)
theorem dX6_does_10 : decode cX6_does 10 = .ok (.return_, 1) := dk_177 (dk_at dksX6_does_0 10 rfl rfl)
abbrev cX6_thing : ByteArray := prog_3_method_3_code
def yX6_thing : MethodName := ⟨RX6, "thing", "(II)LCoatHoles$Tells;"⟩
def dkwX6_thing_0 : List UInt8 := [187, 0, 17, 89, 42, 180, 0, 1, 27, 28, 183, 0, 19, 176]
abbrev dktX6_thing_0 : List UInt8 := dkwX6_thing_0 ++ []
theorem dksX6_thing_0 : cX6_thing.data.toList.drop 0 = dktX6_thing_0 := by decide +kernel
theorem dX6_thing_0 : decode cX6_thing 0 = .ok (.new 17, 3) := dk_187 0 17 (dk_at dksX6_thing_0 0 rfl rfl)
theorem dX6_thing_3 : decode cX6_thing 3 = .ok (.dup, 1) := dk_89 (dk_at dksX6_thing_0 3 rfl rfl)
theorem dX6_thing_4 : decode cX6_thing 4 = .ok (.aload_n 0, 1) := dk_42 (dk_at dksX6_thing_0 4 rfl rfl)
theorem dX6_thing_5 : decode cX6_thing 5 = .ok (.getfield 1, 3) := dk_180 0 1 (dk_at dksX6_thing_0 5 rfl rfl)
theorem dX6_thing_8 : decode cX6_thing 8 = .ok (.iload_n 1, 1) := dk_27 (dk_at dksX6_thing_0 8 rfl rfl)
theorem dX6_thing_9 : decode cX6_thing 9 = .ok (.iload_n 2, 1) := dk_28 (dk_at dksX6_thing_0 9 rfl rfl)
theorem dX6_thing_10 : decode cX6_thing 10 = .ok (.invokespecial 19, 3) := dk_183 0 19 (dk_at dksX6_thing_0 10 rfl rfl)
theorem dX6_thing_13 : decode cX6_thing 13 = .ok (.areturn, 1) := dk_176 (dk_at dksX6_thing_0 13 rfl rfl)
theorem q109 : (Jvm.Cond.initialized "CoatHoles$Beat") ∈ lw_all := lw_g (lw_at lw_m1 7 rfl) rfl
theorem q206 : (Jvm.Cond.instantiable "CoatHoles$Beat" (3 : Nat)) ∈ lw_all := lw_g (lw_at lw_m1 104 rfl) rfl
theorem q208 : (Jvm.Cond.instanceMethod ({ cls := "CoatHoles$Beat", name := "<init>", desc := "(LCoatHoles;)V" } : Jvm.MethodName)) ∈ lw_all := lw_g (lw_at lw_m1 106 rfl) rfl
theorem q209 : (Jvm.Cond.code ({ cls := "CoatHoles$Beat", name := "<init>", desc := "(LCoatHoles;)V" } : Jvm.MethodName) prog_3_method_1_code (2 : Nat) (Option.none : Option Jvm.ClassFile.FieldType)) ∈ lw_all := lw_g (lw_at lw_m1 107 rfl) rfl
theorem q210 : (Jvm.Cond.methodLinkNest "CoatHoles$Beat" (7 : Nat) ({ cls := "CoatHoles$Shake", name := "<init>", desc := "(LCoatHoles;)V" } : Jvm.MethodName) "CoatHoles") ∈ lw_tbl := lw_at lw_m1 108 rfl
theorem q211 : (Jvm.Cond.fieldLink "CoatHoles$Beat" (1 : Nat) "CoatHoles$Beat" "this$0" "LCoatHoles;") ∈ lw_all := lw_g (lw_at lw_m1 109 rfl) rfl
theorem q212 : (Jvm.Cond.laysFinal "CoatHoles$Beat" "CoatHoles$Beat" "this$0" "LCoatHoles;") ∈ lw_all := lw_g (lw_at lw_m1 110 rfl) rfl
theorem q213 : (Jvm.Cond.soleField "CoatHoles$Beat" "this$0") ∈ lw_all := lw_g (lw_at lw_m1 111 rfl) rfl
theorem q214 : (Jvm.Cond.laysFinal "CoatHoles$Beat" "CoatHoles$Shake" "this$0" "LCoatHoles;") ∈ lw_all := lw_g (lw_at lw_m1 112 rfl) rfl
theorem q215 : (Jvm.Cond.laysFinal "CoatHoles$Beat" "CoatHoles$Nature" "this$0" "LCoatHoles;") ∈ lw_all := lw_g (lw_at lw_m1 113 rfl) rfl
theorem q216 : (Jvm.Cond.superclass "CoatHoles$Beat" "CoatHoles$Shake") ∈ lw_all := lw_g (lw_at lw_m1 114 rfl) rfl
theorem q977 : (Jvm.Cond.selects "CoatHoles$Beat" ({ cls := "CoatHoles$Nature", name := "does", desc := "(LCoatHoles$Item;)V" } : Jvm.MethodName) ({ cls := "CoatHoles$Beat", name := "does", desc := "(LCoatHoles$Item;)V" } : Jvm.MethodName)) ∈ lw_all := lw_g (lw_at lw_m4 155 rfl) rfl
theorem q978 : (Jvm.Cond.instanceMethod ({ cls := "CoatHoles$Beat", name := "does", desc := "(LCoatHoles$Item;)V" } : Jvm.MethodName)) ∈ lw_all := lw_g (lw_at lw_m4 156 rfl) rfl
theorem q979 : (Jvm.Cond.code ({ cls := "CoatHoles$Beat", name := "does", desc := "(LCoatHoles$Item;)V" } : Jvm.MethodName) prog_3_method_2_code (2 : Nat) (Option.none : Option Jvm.ClassFile.FieldType)) ∈ lw_all := lw_g (lw_at lw_m4 157 rfl) rfl
theorem q980 : (Jvm.Cond.methodLink "CoatHoles$Beat" (13 : Nat) ({ cls := "CoatHoles$Shake", name := "does", desc := "(LCoatHoles$Item;)V" } : Jvm.MethodName)) ∈ lw_all := lw_g (lw_at lw_m4 158 rfl) rfl
theorem q1243 : (Jvm.Cond.selects "CoatHoles$Beat" ({ cls := "CoatHoles$Nature", name := "thing", desc := "(II)LCoatHoles$Tells;" } : Jvm.MethodName) ({ cls := "CoatHoles$Beat", name := "thing", desc := "(II)LCoatHoles$Tells;" } : Jvm.MethodName)) ∈ lw_all := lw_g (lw_at lw_m5 181 rfl) rfl
theorem q1244 : (Jvm.Cond.instanceMethod ({ cls := "CoatHoles$Beat", name := "thing", desc := "(II)LCoatHoles$Tells;" } : Jvm.MethodName)) ∈ lw_all := lw_g (lw_at lw_m5 182 rfl) rfl
theorem q1245 : (Jvm.Cond.code ({ cls := "CoatHoles$Beat", name := "thing", desc := "(II)LCoatHoles$Tells;" } : Jvm.MethodName) prog_3_method_3_code (3 : Nat) (Option.some (Jvm.ClassFile.FieldType.object "CoatHoles$Tells"))) ∈ lw_all := lw_g (lw_at lw_m5 183 rfl) rfl
theorem q1246 : (Jvm.Cond.classLink "CoatHoles$Beat" (17 : Nat) "CoatHoles$BeatDoing") ∈ lw_all := lw_g (lw_at lw_m5 184 rfl) rfl
theorem q1248 : (Jvm.Cond.methodLink "CoatHoles$Beat" (19 : Nat) ({ cls := "CoatHoles$BeatDoing", name := "<init>", desc := "(LCoatHoles;II)V" } : Jvm.MethodName)) ∈ lw_all := lw_g (lw_at lw_m5 186 rfl) rfl
theorem q2165 : (Jvm.Cond.castable "CoatHoles$Beat" "CoatHoles$Nature") ∈ lw_tbl := lw_at lw_m9 143 rfl
theorem in_X6 : ∀ w ∈ wsX60, w ∈ lw_all := lw_in wsX60 [215, 214, 212] (by decide +kernel) (by decide +kernel)

/-! CoatHoles$Silk -/
set_option maxRecDepth 100000
def RX8 : String := "CoatHoles$Silk"
abbrev cX8_init : ByteArray := prog_27_method_1_code
def yX8_init : MethodName := ⟨RX8, "<init>", "()V"⟩
theorem dX8_init_0 : decode cX8_init 0 = .ok (.aload_n 0, 1) := by decide +kernel
theorem dX8_init_1 : decode cX8_init 1 = .ok (.invokespecial 1, 3) := by decide +kernel
theorem dX8_init_4 : decode cX8_init 4 = .ok (.return_, 1) := by decide +kernel
abbrev cX8_taste : ByteArray := prog_27_method_2_code
def yX8_taste : MethodName := ⟨RX8, "taste", "(I)I"⟩
theorem dX8_taste_0 : decode cX8_taste 0 = .ok (.iconst 0, 1) := by decide +kernel
theorem dX8_taste_1 : decode cX8_taste 1 = .ok (.ireturn, 1) := by decide +kernel
theorem q111 : (Jvm.Cond.initialized "CoatHoles$Silk") ∈ lw_all := lw_g (lw_at lw_m1 9 rfl) rfl
theorem q225 : (Jvm.Cond.instantiable "CoatHoles$Silk" (0 : Nat)) ∈ lw_all := lw_g (lw_at lw_m1 123 rfl) rfl
theorem q227 : (Jvm.Cond.instanceMethod ({ cls := "CoatHoles$Silk", name := "<init>", desc := "()V" } : Jvm.MethodName)) ∈ lw_all := lw_g (lw_at lw_m1 125 rfl) rfl
theorem q228 : (Jvm.Cond.code ({ cls := "CoatHoles$Silk", name := "<init>", desc := "()V" } : Jvm.MethodName) prog_27_method_1_code (1 : Nat) (Option.none : Option Jvm.ClassFile.FieldType)) ∈ lw_all := lw_g (lw_at lw_m1 126 rfl) rfl
theorem q229 : (Jvm.Cond.methodLink "CoatHoles$Silk" (1 : Nat) ({ cls := "java/lang/Object", name := "<init>", desc := "()V" } : Jvm.MethodName)) ∈ lw_all := lw_g (lw_at lw_m1 127 rfl) rfl
theorem q230 : (Jvm.Cond.superclass "CoatHoles$Silk" "java/lang/Object") ∈ lw_all := lw_g (lw_at lw_m1 128 rfl) rfl
theorem q816 : (Jvm.Cond.instanceMethod ({ cls := "CoatHoles$Silk", name := "taste", desc := "(I)I" } : Jvm.MethodName)) ∈ lw_all := lw_g (lw_at lw_m3 234 rfl) rfl
theorem q817 : (Jvm.Cond.selects "CoatHoles$Silk" ({ cls := "CoatHoles$Silk", name := "taste", desc := "(I)I" } : Jvm.MethodName) ({ cls := "CoatHoles$Silk", name := "taste", desc := "(I)I" } : Jvm.MethodName)) ∈ lw_all := lw_g (lw_at lw_m3 235 rfl) rfl
theorem q818 : (Jvm.Cond.sameMethod "CoatHoles$Silk" "CoatHoles$Silk" "taste" "(I)I") ∈ lw_all := lw_g (lw_at lw_m3 236 rfl) rfl
theorem q826 : (Jvm.Cond.code ({ cls := "CoatHoles$Silk", name := "taste", desc := "(I)I" } : Jvm.MethodName) prog_27_method_2_code (2 : Nat) (Option.some Jvm.ClassFile.FieldType.int)) ∈ lw_all := lw_g (lw_at lw_m4 4 rfl) rfl

/-! CoatHoles$Wool -/
set_option maxRecDepth 100000
def RX9 : String := "CoatHoles$Wool"
abbrev cX9_init : ByteArray := prog_31_method_1_code
def yX9_init : MethodName := ⟨RX9, "<init>", "()V"⟩
theorem dX9_init_0 : decode cX9_init 0 = .ok (.aload_n 0, 1) := by decide +kernel
theorem dX9_init_1 : decode cX9_init 1 = .ok (.invokespecial 1, 3) := by decide +kernel
theorem dX9_init_4 : decode cX9_init 4 = .ok (.return_, 1) := by decide +kernel
abbrev cX9_taste : ByteArray := prog_31_method_2_code
def yX9_taste : MethodName := ⟨RX9, "taste", "(I)I"⟩
def dkwX9_taste_0 : List UInt8 := [42, 27, 183, 0, 7, 5, 96, 172]
abbrev dktX9_taste_0 : List UInt8 := dkwX9_taste_0 ++ []
theorem dksX9_taste_0 : cX9_taste.data.toList.drop 0 = dktX9_taste_0 := by decide +kernel
theorem dX9_taste_0 : decode cX9_taste 0 = .ok (.aload_n 0, 1) := dk_42 (dk_at dksX9_taste_0 0 rfl rfl)
theorem dX9_taste_1 : decode cX9_taste 1 = .ok (.iload_n 1, 1) := dk_27 (dk_at dksX9_taste_0 1 rfl rfl)
theorem dX9_taste_2 : decode cX9_taste 2 = .ok (.invokespecial 7, 3) := dk_183 0 7 (dk_at dksX9_taste_0 2 rfl rfl)
theorem dX9_taste_5 : decode cX9_taste 5 = .ok (.iconst 2, 1) := dk_5 (dk_at dksX9_taste_0 5 rfl rfl)
theorem dX9_taste_6 : decode cX9_taste 6 = .ok (.iadd, 1) := dk_96 (dk_at dksX9_taste_0 6 rfl rfl)
theorem dX9_taste_7 : decode cX9_taste 7 = .ok (.ireturn, 1) := dk_172 (dk_at dksX9_taste_0 7 rfl rfl)
theorem q112 : (Jvm.Cond.initialized "CoatHoles$Wool") ∈ lw_all := lw_g (lw_at lw_m1 10 rfl) rfl
theorem q232 : (Jvm.Cond.instantiable "CoatHoles$Wool" (0 : Nat)) ∈ lw_all := lw_g (lw_at lw_m1 130 rfl) rfl
theorem q234 : (Jvm.Cond.instanceMethod ({ cls := "CoatHoles$Wool", name := "<init>", desc := "()V" } : Jvm.MethodName)) ∈ lw_all := lw_g (lw_at lw_m1 132 rfl) rfl
theorem q235 : (Jvm.Cond.code ({ cls := "CoatHoles$Wool", name := "<init>", desc := "()V" } : Jvm.MethodName) prog_31_method_1_code (1 : Nat) (Option.none : Option Jvm.ClassFile.FieldType)) ∈ lw_all := lw_g (lw_at lw_m1 133 rfl) rfl
theorem q236 : (Jvm.Cond.methodLinkNest "CoatHoles$Wool" (1 : Nat) ({ cls := "CoatHoles$Silk", name := "<init>", desc := "()V" } : Jvm.MethodName) "CoatHoles") ∈ lw_tbl := lw_at lw_m1 134 rfl
theorem q237 : (Jvm.Cond.superclass "CoatHoles$Wool" "CoatHoles$Silk") ∈ lw_all := lw_g (lw_at lw_m1 135 rfl) rfl
theorem q823 : (Jvm.Cond.instanceMethod ({ cls := "CoatHoles$Wool", name := "taste", desc := "(I)I" } : Jvm.MethodName)) ∈ lw_all := lw_g (lw_at lw_m4 1 rfl) rfl
theorem q824 : (Jvm.Cond.code ({ cls := "CoatHoles$Wool", name := "taste", desc := "(I)I" } : Jvm.MethodName) prog_31_method_2_code (2 : Nat) (Option.some Jvm.ClassFile.FieldType.int)) ∈ lw_all := lw_g (lw_at lw_m4 2 rfl) rfl
theorem q825 : (Jvm.Cond.methodLink "CoatHoles$Wool" (7 : Nat) ({ cls := "CoatHoles$Silk", name := "taste", desc := "(I)I" } : Jvm.MethodName)) ∈ lw_all := lw_g (lw_at lw_m4 3 rfl) rfl
theorem q839 : (Jvm.Cond.selects "CoatHoles$Wool" ({ cls := "CoatHoles$Silk", name := "taste", desc := "(I)I" } : Jvm.MethodName) ({ cls := "CoatHoles$Wool", name := "taste", desc := "(I)I" } : Jvm.MethodName)) ∈ lw_all := lw_g (lw_at lw_m4 17 rfl) rfl
theorem q2137 : (Jvm.Cond.sameMethod "CoatHoles$Wool" "CoatHoles$Wool" "taste" "(I)I") ∈ lw_all := lw_g (lw_at lw_m9 115 rfl) rfl
theorem q2166 : (Jvm.Cond.castable "CoatHoles$Wool" "CoatHoles$Silk") ∈ lw_tbl := lw_at lw_m9 144 rfl

/-! CoatHoles$Cashmere -/
set_option maxRecDepth 100000
def RX10 : String := "CoatHoles$Cashmere"
abbrev cX10_init : ByteArray := prog_6_method_1_code
def yX10_init : MethodName := ⟨RX10, "<init>", "()V"⟩
theorem dX10_init_0 : decode cX10_init 0 = .ok (.aload_n 0, 1) := by decide +kernel
theorem dX10_init_1 : decode cX10_init 1 = .ok (.invokespecial 1, 3) := by decide +kernel
theorem dX10_init_4 : decode cX10_init 4 = .ok (.return_, 1) := by decide +kernel
abbrev cX10_taste : ByteArray := prog_6_method_2_code
def yX10_taste : MethodName := ⟨RX10, "taste", "(I)I"⟩
def dkwX10_taste_0 : List UInt8 := [42, 27, 183, 0, 7, 4, 96, 172]
abbrev dktX10_taste_0 : List UInt8 := dkwX10_taste_0 ++ []
theorem dksX10_taste_0 : cX10_taste.data.toList.drop 0 = dktX10_taste_0 := by decide +kernel
theorem dX10_taste_0 : decode cX10_taste 0 = .ok (.aload_n 0, 1) := dk_42 (dk_at dksX10_taste_0 0 rfl rfl)
theorem dX10_taste_1 : decode cX10_taste 1 = .ok (.iload_n 1, 1) := dk_27 (dk_at dksX10_taste_0 1 rfl rfl)
theorem dX10_taste_2 : decode cX10_taste 2 = .ok (.invokespecial 7, 3) := dk_183 0 7 (dk_at dksX10_taste_0 2 rfl rfl)
theorem dX10_taste_5 : decode cX10_taste 5 = .ok (.iconst 1, 1) := dk_4 (dk_at dksX10_taste_0 5 rfl rfl)
theorem dX10_taste_6 : decode cX10_taste 6 = .ok (.iadd, 1) := dk_96 (dk_at dksX10_taste_0 6 rfl rfl)
theorem dX10_taste_7 : decode cX10_taste 7 = .ok (.ireturn, 1) := dk_172 (dk_at dksX10_taste_0 7 rfl rfl)
theorem q113 : (Jvm.Cond.initialized "CoatHoles$Cashmere") ∈ lw_all := lw_g (lw_at lw_m1 11 rfl) rfl
theorem q239 : (Jvm.Cond.instantiable "CoatHoles$Cashmere" (0 : Nat)) ∈ lw_all := lw_g (lw_at lw_m1 137 rfl) rfl
theorem q241 : (Jvm.Cond.instanceMethod ({ cls := "CoatHoles$Cashmere", name := "<init>", desc := "()V" } : Jvm.MethodName)) ∈ lw_all := lw_g (lw_at lw_m1 139 rfl) rfl
theorem q242 : (Jvm.Cond.code ({ cls := "CoatHoles$Cashmere", name := "<init>", desc := "()V" } : Jvm.MethodName) prog_6_method_1_code (1 : Nat) (Option.none : Option Jvm.ClassFile.FieldType)) ∈ lw_all := lw_g (lw_at lw_m1 140 rfl) rfl
theorem q243 : (Jvm.Cond.methodLinkNest "CoatHoles$Cashmere" (1 : Nat) ({ cls := "CoatHoles$Wool", name := "<init>", desc := "()V" } : Jvm.MethodName) "CoatHoles") ∈ lw_tbl := lw_at lw_m1 141 rfl
theorem q244 : (Jvm.Cond.superclass "CoatHoles$Cashmere" "CoatHoles$Wool") ∈ lw_all := lw_g (lw_at lw_m1 142 rfl) rfl
theorem q819 : (Jvm.Cond.selects "CoatHoles$Cashmere" ({ cls := "CoatHoles$Silk", name := "taste", desc := "(I)I" } : Jvm.MethodName) ({ cls := "CoatHoles$Cashmere", name := "taste", desc := "(I)I" } : Jvm.MethodName)) ∈ lw_all := lw_g (lw_at lw_m3 237 rfl) rfl
theorem q820 : (Jvm.Cond.instanceMethod ({ cls := "CoatHoles$Cashmere", name := "taste", desc := "(I)I" } : Jvm.MethodName)) ∈ lw_all := lw_g (lw_at lw_m3 238 rfl) rfl
theorem q821 : (Jvm.Cond.code ({ cls := "CoatHoles$Cashmere", name := "taste", desc := "(I)I" } : Jvm.MethodName) prog_6_method_2_code (2 : Nat) (Option.some Jvm.ClassFile.FieldType.int)) ∈ lw_all := lw_g (lw_at lw_m3 239 rfl) rfl
theorem q822 : (Jvm.Cond.methodLink "CoatHoles$Cashmere" (7 : Nat) ({ cls := "CoatHoles$Wool", name := "taste", desc := "(I)I" } : Jvm.MethodName)) ∈ lw_all := lw_g (lw_at lw_m4 0 rfl) rfl
theorem q2138 : (Jvm.Cond.sameMethod "CoatHoles$Cashmere" "CoatHoles$Cashmere" "taste" "(I)I") ∈ lw_all := lw_g (lw_at lw_m9 116 rfl) rfl
theorem q2167 : (Jvm.Cond.castable "CoatHoles$Cashmere" "CoatHoles$Silk") ∈ lw_tbl := lw_at lw_m9 145 rfl

/-! CoatHoles$Felt -/
set_option maxRecDepth 100000
def RX11 : String := "CoatHoles$Felt"
abbrev cX11_init : ByteArray := prog_13_method_1_code
def yX11_init : MethodName := ⟨RX11, "<init>", "()V"⟩
theorem dX11_init_0 : decode cX11_init 0 = .ok (.aload_n 0, 1) := by decide +kernel
theorem dX11_init_1 : decode cX11_init 1 = .ok (.invokespecial 1, 3) := by decide +kernel
theorem dX11_init_4 : decode cX11_init 4 = .ok (.return_, 1) := by decide +kernel
abbrev cX11_taste : ByteArray := prog_13_method_2_code
def yX11_taste : MethodName := ⟨RX11, "taste", "(I)I"⟩
def dkwX11_taste_0 : List UInt8 := [42, 27, 183, 0, 7, 5, 108, 172]
abbrev dktX11_taste_0 : List UInt8 := dkwX11_taste_0 ++ []
theorem dksX11_taste_0 : cX11_taste.data.toList.drop 0 = dktX11_taste_0 := by decide +kernel
theorem dX11_taste_0 : decode cX11_taste 0 = .ok (.aload_n 0, 1) := dk_42 (dk_at dksX11_taste_0 0 rfl rfl)
theorem dX11_taste_1 : decode cX11_taste 1 = .ok (.iload_n 1, 1) := dk_27 (dk_at dksX11_taste_0 1 rfl rfl)
theorem dX11_taste_2 : decode cX11_taste 2 = .ok (.invokespecial 7, 3) := dk_183 0 7 (dk_at dksX11_taste_0 2 rfl rfl)
theorem dX11_taste_5 : decode cX11_taste 5 = .ok (.iconst 2, 1) := dk_5 (dk_at dksX11_taste_0 5 rfl rfl)
theorem dX11_taste_6 : decode cX11_taste 6 = .ok (.idiv, 1) := dk_108 (dk_at dksX11_taste_0 6 rfl rfl)
theorem dX11_taste_7 : decode cX11_taste 7 = .ok (.ireturn, 1) := dk_172 (dk_at dksX11_taste_0 7 rfl rfl)
theorem q114 : (Jvm.Cond.initialized "CoatHoles$Felt") ∈ lw_all := lw_g (lw_at lw_m1 12 rfl) rfl
theorem q246 : (Jvm.Cond.instantiable "CoatHoles$Felt" (0 : Nat)) ∈ lw_all := lw_g (lw_at lw_m1 144 rfl) rfl
theorem q248 : (Jvm.Cond.instanceMethod ({ cls := "CoatHoles$Felt", name := "<init>", desc := "()V" } : Jvm.MethodName)) ∈ lw_all := lw_g (lw_at lw_m1 146 rfl) rfl
theorem q249 : (Jvm.Cond.code ({ cls := "CoatHoles$Felt", name := "<init>", desc := "()V" } : Jvm.MethodName) prog_13_method_1_code (1 : Nat) (Option.none : Option Jvm.ClassFile.FieldType)) ∈ lw_all := lw_g (lw_at lw_m1 147 rfl) rfl
theorem q250 : (Jvm.Cond.methodLinkNest "CoatHoles$Felt" (1 : Nat) ({ cls := "CoatHoles$Wool", name := "<init>", desc := "()V" } : Jvm.MethodName) "CoatHoles") ∈ lw_tbl := lw_at lw_m1 148 rfl
theorem q251 : (Jvm.Cond.superclass "CoatHoles$Felt" "CoatHoles$Wool") ∈ lw_all := lw_g (lw_at lw_m1 149 rfl) rfl
theorem q831 : (Jvm.Cond.selects "CoatHoles$Felt" ({ cls := "CoatHoles$Silk", name := "taste", desc := "(I)I" } : Jvm.MethodName) ({ cls := "CoatHoles$Felt", name := "taste", desc := "(I)I" } : Jvm.MethodName)) ∈ lw_all := lw_g (lw_at lw_m4 9 rfl) rfl
theorem q832 : (Jvm.Cond.instanceMethod ({ cls := "CoatHoles$Felt", name := "taste", desc := "(I)I" } : Jvm.MethodName)) ∈ lw_all := lw_g (lw_at lw_m4 10 rfl) rfl
theorem q833 : (Jvm.Cond.code ({ cls := "CoatHoles$Felt", name := "taste", desc := "(I)I" } : Jvm.MethodName) prog_13_method_2_code (2 : Nat) (Option.some Jvm.ClassFile.FieldType.int)) ∈ lw_all := lw_g (lw_at lw_m4 11 rfl) rfl
theorem q834 : (Jvm.Cond.methodLink "CoatHoles$Felt" (7 : Nat) ({ cls := "CoatHoles$Wool", name := "taste", desc := "(I)I" } : Jvm.MethodName)) ∈ lw_all := lw_g (lw_at lw_m4 12 rfl) rfl
theorem q2168 : (Jvm.Cond.castable "CoatHoles$Felt" "CoatHoles$Silk") ∈ lw_tbl := lw_at lw_m9 146 rfl

/-! CoatHoles$Cotton -/
set_option maxRecDepth 100000
def RX12 : String := "CoatHoles$Cotton"
abbrev cX12_init : ByteArray := prog_9_method_1_code
def yX12_init : MethodName := ⟨RX12, "<init>", "()V"⟩
theorem dX12_init_0 : decode cX12_init 0 = .ok (.aload_n 0, 1) := by decide +kernel
theorem dX12_init_1 : decode cX12_init 1 = .ok (.invokespecial 1, 3) := by decide +kernel
theorem dX12_init_4 : decode cX12_init 4 = .ok (.return_, 1) := by decide +kernel
abbrev cX12_taste : ByteArray := prog_9_method_2_code
def yX12_taste : MethodName := ⟨RX12, "taste", "(I)I"⟩
def dkwX12_taste_0 : List UInt8 := [27, 7, 164, 0, 13, 42, 27, 183, 0, 7, 4, 96, 167, 0, 8, 42, 27, 183, 0, 7, 172]
abbrev dktX12_taste_0 : List UInt8 := dkwX12_taste_0 ++ []
theorem dksX12_taste_0 : cX12_taste.data.toList.drop 0 = dktX12_taste_0 := by decide +kernel
theorem dX12_taste_0 : decode cX12_taste 0 = .ok (.iload_n 1, 1) := dk_27 (dk_at dksX12_taste_0 0 rfl rfl)
theorem dX12_taste_1 : decode cX12_taste 1 = .ok (.iconst 4, 1) := dk_7 (dk_at dksX12_taste_0 1 rfl rfl)
theorem dX12_taste_2 : decode cX12_taste 2 = .ok (.if_icmp .le 13, 3) := dk_164 0 13 (dk_at dksX12_taste_0 2 rfl rfl)
theorem dX12_taste_5 : decode cX12_taste 5 = .ok (.aload_n 0, 1) := dk_42 (dk_at dksX12_taste_0 5 rfl rfl)
theorem dX12_taste_6 : decode cX12_taste 6 = .ok (.iload_n 1, 1) := dk_27 (dk_at dksX12_taste_0 6 rfl rfl)
theorem dX12_taste_7 : decode cX12_taste 7 = .ok (.invokespecial 7, 3) := dk_183 0 7 (dk_at dksX12_taste_0 7 rfl rfl)
theorem dX12_taste_10 : decode cX12_taste 10 = .ok (.iconst 1, 1) := dk_4 (dk_at dksX12_taste_0 10 rfl rfl)
theorem dX12_taste_11 : decode cX12_taste 11 = .ok (.iadd, 1) := dk_96 (dk_at dksX12_taste_0 11 rfl rfl)
theorem dX12_taste_12 : decode cX12_taste 12 = .ok (.goto 8, 3) := dk_167 0 8 (dk_at dksX12_taste_0 12 rfl rfl)
theorem dX12_taste_15 : decode cX12_taste 15 = .ok (.aload_n 0, 1) := dk_42 (dk_at dksX12_taste_0 15 rfl rfl)
theorem dX12_taste_16 : decode cX12_taste 16 = .ok (.iload_n 1, 1) := dk_27 (dk_at dksX12_taste_0 16 rfl rfl)
theorem dX12_taste_17 : decode cX12_taste 17 = .ok (.invokespecial 7, 3) := dk_183 0 7 (dk_at dksX12_taste_0 17 rfl rfl)
theorem dX12_taste_20 : decode cX12_taste 20 = .ok (.ireturn, 1) := dk_172 (dk_at dksX12_taste_0 20 rfl rfl)
theorem q115 : (Jvm.Cond.initialized "CoatHoles$Cotton") ∈ lw_all := lw_g (lw_at lw_m1 13 rfl) rfl
theorem q253 : (Jvm.Cond.instantiable "CoatHoles$Cotton" (0 : Nat)) ∈ lw_all := lw_g (lw_at lw_m1 151 rfl) rfl
theorem q255 : (Jvm.Cond.instanceMethod ({ cls := "CoatHoles$Cotton", name := "<init>", desc := "()V" } : Jvm.MethodName)) ∈ lw_all := lw_g (lw_at lw_m1 153 rfl) rfl
theorem q256 : (Jvm.Cond.code ({ cls := "CoatHoles$Cotton", name := "<init>", desc := "()V" } : Jvm.MethodName) prog_9_method_1_code (1 : Nat) (Option.none : Option Jvm.ClassFile.FieldType)) ∈ lw_all := lw_g (lw_at lw_m1 154 rfl) rfl
theorem q257 : (Jvm.Cond.methodLinkNest "CoatHoles$Cotton" (1 : Nat) ({ cls := "CoatHoles$Silk", name := "<init>", desc := "()V" } : Jvm.MethodName) "CoatHoles") ∈ lw_tbl := lw_at lw_m1 155 rfl
theorem q258 : (Jvm.Cond.superclass "CoatHoles$Cotton" "CoatHoles$Silk") ∈ lw_all := lw_g (lw_at lw_m1 156 rfl) rfl
theorem q827 : (Jvm.Cond.selects "CoatHoles$Cotton" ({ cls := "CoatHoles$Silk", name := "taste", desc := "(I)I" } : Jvm.MethodName) ({ cls := "CoatHoles$Cotton", name := "taste", desc := "(I)I" } : Jvm.MethodName)) ∈ lw_all := lw_g (lw_at lw_m4 5 rfl) rfl
theorem q828 : (Jvm.Cond.instanceMethod ({ cls := "CoatHoles$Cotton", name := "taste", desc := "(I)I" } : Jvm.MethodName)) ∈ lw_all := lw_g (lw_at lw_m4 6 rfl) rfl
theorem q829 : (Jvm.Cond.code ({ cls := "CoatHoles$Cotton", name := "taste", desc := "(I)I" } : Jvm.MethodName) prog_9_method_2_code (2 : Nat) (Option.some Jvm.ClassFile.FieldType.int)) ∈ lw_all := lw_g (lw_at lw_m4 7 rfl) rfl
theorem q830 : (Jvm.Cond.methodLink "CoatHoles$Cotton" (7 : Nat) ({ cls := "CoatHoles$Silk", name := "taste", desc := "(I)I" } : Jvm.MethodName)) ∈ lw_all := lw_g (lw_at lw_m4 8 rfl) rfl
theorem q2169 : (Jvm.Cond.castable "CoatHoles$Cotton" "CoatHoles$Silk") ∈ lw_tbl := lw_at lw_m9 147 rfl

/-! CoatHoles$Fur -/
set_option maxRecDepth 100000
def RX13 : String := "CoatHoles$Fur"
abbrev cX13_init : ByteArray := prog_14_method_1_code
def yX13_init : MethodName := ⟨RX13, "<init>", "()V"⟩
theorem dX13_init_0 : decode cX13_init 0 = .ok (.aload_n 0, 1) := by decide +kernel
theorem dX13_init_1 : decode cX13_init 1 = .ok (.invokespecial 1, 3) := by decide +kernel
theorem dX13_init_4 : decode cX13_init 4 = .ok (.return_, 1) := by decide +kernel
abbrev cX13_taste : ByteArray := prog_14_method_2_code
def yX13_taste : MethodName := ⟨RX13, "taste", "(I)I"⟩
def dkwX13_taste_0 : List UInt8 := [42, 27, 183, 0, 7, 27, 6, 108, 96, 172]
abbrev dktX13_taste_0 : List UInt8 := dkwX13_taste_0 ++ []
theorem dksX13_taste_0 : cX13_taste.data.toList.drop 0 = dktX13_taste_0 := by decide +kernel
theorem dX13_taste_0 : decode cX13_taste 0 = .ok (.aload_n 0, 1) := dk_42 (dk_at dksX13_taste_0 0 rfl rfl)
theorem dX13_taste_1 : decode cX13_taste 1 = .ok (.iload_n 1, 1) := dk_27 (dk_at dksX13_taste_0 1 rfl rfl)
theorem dX13_taste_2 : decode cX13_taste 2 = .ok (.invokespecial 7, 3) := dk_183 0 7 (dk_at dksX13_taste_0 2 rfl rfl)
theorem dX13_taste_5 : decode cX13_taste 5 = .ok (.iload_n 1, 1) := dk_27 (dk_at dksX13_taste_0 5 rfl rfl)
theorem dX13_taste_6 : decode cX13_taste 6 = .ok (.iconst 3, 1) := dk_6 (dk_at dksX13_taste_0 6 rfl rfl)
theorem dX13_taste_7 : decode cX13_taste 7 = .ok (.idiv, 1) := dk_108 (dk_at dksX13_taste_0 7 rfl rfl)
theorem dX13_taste_8 : decode cX13_taste 8 = .ok (.iadd, 1) := dk_96 (dk_at dksX13_taste_0 8 rfl rfl)
theorem dX13_taste_9 : decode cX13_taste 9 = .ok (.ireturn, 1) := dk_172 (dk_at dksX13_taste_0 9 rfl rfl)
theorem q116 : (Jvm.Cond.initialized "CoatHoles$Fur") ∈ lw_all := lw_g (lw_at lw_m1 14 rfl) rfl
theorem q260 : (Jvm.Cond.instantiable "CoatHoles$Fur" (0 : Nat)) ∈ lw_all := lw_g (lw_at lw_m1 158 rfl) rfl
theorem q262 : (Jvm.Cond.instanceMethod ({ cls := "CoatHoles$Fur", name := "<init>", desc := "()V" } : Jvm.MethodName)) ∈ lw_all := lw_g (lw_at lw_m1 160 rfl) rfl
theorem q263 : (Jvm.Cond.code ({ cls := "CoatHoles$Fur", name := "<init>", desc := "()V" } : Jvm.MethodName) prog_14_method_1_code (1 : Nat) (Option.none : Option Jvm.ClassFile.FieldType)) ∈ lw_all := lw_g (lw_at lw_m1 161 rfl) rfl
theorem q264 : (Jvm.Cond.methodLinkNest "CoatHoles$Fur" (1 : Nat) ({ cls := "CoatHoles$Cashmere", name := "<init>", desc := "()V" } : Jvm.MethodName) "CoatHoles") ∈ lw_tbl := lw_at lw_m1 162 rfl
theorem q265 : (Jvm.Cond.superclass "CoatHoles$Fur" "CoatHoles$Cashmere") ∈ lw_all := lw_g (lw_at lw_m1 163 rfl) rfl
theorem q835 : (Jvm.Cond.selects "CoatHoles$Fur" ({ cls := "CoatHoles$Silk", name := "taste", desc := "(I)I" } : Jvm.MethodName) ({ cls := "CoatHoles$Fur", name := "taste", desc := "(I)I" } : Jvm.MethodName)) ∈ lw_all := lw_g (lw_at lw_m4 13 rfl) rfl
theorem q836 : (Jvm.Cond.instanceMethod ({ cls := "CoatHoles$Fur", name := "taste", desc := "(I)I" } : Jvm.MethodName)) ∈ lw_all := lw_g (lw_at lw_m4 14 rfl) rfl
theorem q837 : (Jvm.Cond.code ({ cls := "CoatHoles$Fur", name := "taste", desc := "(I)I" } : Jvm.MethodName) prog_14_method_2_code (2 : Nat) (Option.some Jvm.ClassFile.FieldType.int)) ∈ lw_all := lw_g (lw_at lw_m4 15 rfl) rfl
theorem q838 : (Jvm.Cond.methodLink "CoatHoles$Fur" (7 : Nat) ({ cls := "CoatHoles$Cashmere", name := "taste", desc := "(I)I" } : Jvm.MethodName)) ∈ lw_all := lw_g (lw_at lw_m4 16 rfl) rfl
theorem q2170 : (Jvm.Cond.castable "CoatHoles$Fur" "CoatHoles$Silk") ∈ lw_tbl := lw_at lw_m9 148 rfl

/-! CoatHoles$Item -/
set_option maxRecDepth 100000
def RX14 : String := "CoatHoles$Item"
def TX14 : u_T := fun k => match k with
  | 0 => ("CoatHoles$Item", "stuff", "I", false)
  | 1 => ("CoatHoles$Item", "place", "I", false)
  | 2 => ("CoatHoles$Item", "soil", "I", false)
  | 3 => ("CoatHoles$Item", "worth", "I", false)
  | 4 => ("CoatHoles$Item", "holes", "I", false)
  | 5 => ("CoatHoles$Item", "bagged", "Z", false)
  | _ => ("CoatHoles$Item", "lives", "[I", true)
def tyX14 : Nat → FieldType := fun k => match k with
  | 0 => .int
  | 1 => .int
  | 2 => .int
  | 3 => .int
  | 4 => .int
  | 5 => .boolean
  | _ => .array .int
abbrev wsX140 : List Cond := u_ws RX14 TX14 7
theorem nmX14 : ∀ a, a < 7 → ∀ b, b < 7 → a ≠ b → (TX14 a).2.1 ≠ (TX14 b).2.1 := by decide +kernel
theorem tyX14_ok : ∀ k, k < 7 → parseFieldDescriptor (TX14 k).2.2.1 = some (tyX14 k) := by decide +kernel
abbrev cX14_init : ByteArray := prog_17_method_1_code
def yX14_init : MethodName := ⟨RX14, "<init>", "()V"⟩
def dkwX14_init_0 : List UInt8 := [42, 183, 0, 3, 42, 7, 188, 10, 181, 0, 9, 177]
abbrev dktX14_init_0 : List UInt8 := dkwX14_init_0 ++ []
theorem dksX14_init_0 : cX14_init.data.toList.drop 0 = dktX14_init_0 := by decide +kernel
theorem dX14_init_0 : decode cX14_init 0 = .ok (.aload_n 0, 1) := dk_42 (dk_at dksX14_init_0 0 rfl rfl)
theorem dX14_init_1 : decode cX14_init 1 = .ok (.invokespecial 3, 3) := dk_183 0 3 (dk_at dksX14_init_0 1 rfl rfl)
theorem dX14_init_4 : decode cX14_init 4 = .ok (.aload_n 0, 1) := dk_42 (dk_at dksX14_init_0 4 rfl rfl)
theorem dX14_init_5 : decode cX14_init 5 = .ok (.iconst 4, 1) := dk_7 (dk_at dksX14_init_0 5 rfl rfl)
theorem dX14_init_6 : decode cX14_init 6 = .ok (.newarray .int, 2) := dk_188_10 (dk_at dksX14_init_0 6 rfl rfl)
theorem dX14_init_8 : decode cX14_init 8 = .ok (.putfield 9, 3) := dk_181 0 9 (dk_at dksX14_init_0 8 rfl rfl)
theorem dX14_init_11 : decode cX14_init 11 = .ok (.return_, 1) := dk_177 (dk_at dksX14_init_0 11 rfl rfl)
abbrev cX14_become : ByteArray := prog_17_method_3_code
def yX14_become : MethodName := ⟨RX14, "become", "(LCoatHoles$Item;)V"⟩
def dkwX14_become_2 : List UInt8 := [7, 184, 0, 39, 177]
abbrev dktX14_become_2 : List UInt8 := dkwX14_become_2 ++ []
def dkwX14_become_1 : List UInt8 := [180, 0, 28, 181, 0, 28, 42, 43, 180, 0, 31, 181, 0, 31, 43, 180, 0, 9, 3, 42, 180, 0, 9, 3]
abbrev dktX14_become_1 : List UInt8 := dkwX14_become_1 ++ dktX14_become_2
def dkwX14_become_0 : List UInt8 := [42, 43, 180, 0, 15, 43, 180, 0, 19, 43, 180, 0, 22, 43, 180, 0, 25, 182, 0, 35, 42, 43]
abbrev dktX14_become_0 : List UInt8 := dkwX14_become_0 ++ dktX14_become_1
theorem dksX14_become_0 : cX14_become.data.toList.drop 0 = dktX14_become_0 := by decide +kernel
theorem dksX14_become_1 : cX14_become.data.toList.drop 22 = dktX14_become_1 := dk_seg dksX14_become_0 22 rfl rfl
theorem dksX14_become_2 : cX14_become.data.toList.drop 46 = dktX14_become_2 := dk_seg dksX14_become_1 24 rfl rfl
theorem dX14_become_0 : decode cX14_become 0 = .ok (.aload_n 0, 1) := dk_42 (dk_at dksX14_become_0 0 rfl rfl)
theorem dX14_become_1 : decode cX14_become 1 = .ok (.aload_n 1, 1) := dk_43 (dk_at dksX14_become_0 1 rfl rfl)
theorem dX14_become_2 : decode cX14_become 2 = .ok (.getfield 15, 3) := dk_180 0 15 (dk_at dksX14_become_0 2 rfl rfl)
theorem dX14_become_5 : decode cX14_become 5 = .ok (.aload_n 1, 1) := dk_43 (dk_at dksX14_become_0 5 rfl rfl)
theorem dX14_become_6 : decode cX14_become 6 = .ok (.getfield 19, 3) := dk_180 0 19 (dk_at dksX14_become_0 6 rfl rfl)
theorem dX14_become_9 : decode cX14_become 9 = .ok (.aload_n 1, 1) := dk_43 (dk_at dksX14_become_0 9 rfl rfl)
theorem dX14_become_10 : decode cX14_become 10 = .ok (.getfield 22, 3) := dk_180 0 22 (dk_at dksX14_become_0 10 rfl rfl)
theorem dX14_become_13 : decode cX14_become 13 = .ok (.aload_n 1, 1) := dk_43 (dk_at dksX14_become_0 13 rfl rfl)
theorem dX14_become_14 : decode cX14_become 14 = .ok (.getfield 25, 3) := dk_180 0 25 (dk_at dksX14_become_0 14 rfl rfl)
theorem dX14_become_17 : decode cX14_become 17 = .ok (.invokevirtual 35, 3) := dk_182 0 35 (dk_at dksX14_become_0 17 rfl rfl)
theorem dX14_become_20 : decode cX14_become 20 = .ok (.aload_n 0, 1) := dk_42 (dk_at dksX14_become_0 20 rfl rfl)
theorem dX14_become_21 : decode cX14_become 21 = .ok (.aload_n 1, 1) := dk_43 (dk_at dksX14_become_0 21 rfl rfl)
theorem dX14_become_22 : decode cX14_become 22 = .ok (.getfield 28, 3) := dk_180 0 28 (dk_at dksX14_become_1 0 rfl rfl)
theorem dX14_become_25 : decode cX14_become 25 = .ok (.putfield 28, 3) := dk_181 0 28 (dk_at dksX14_become_1 3 rfl rfl)
theorem dX14_become_28 : decode cX14_become 28 = .ok (.aload_n 0, 1) := dk_42 (dk_at dksX14_become_1 6 rfl rfl)
theorem dX14_become_29 : decode cX14_become 29 = .ok (.aload_n 1, 1) := dk_43 (dk_at dksX14_become_1 7 rfl rfl)
theorem dX14_become_30 : decode cX14_become 30 = .ok (.getfield 31, 3) := dk_180 0 31 (dk_at dksX14_become_1 8 rfl rfl)
theorem dX14_become_33 : decode cX14_become 33 = .ok (.putfield 31, 3) := dk_181 0 31 (dk_at dksX14_become_1 11 rfl rfl)
theorem dX14_become_36 : decode cX14_become 36 = .ok (.aload_n 1, 1) := dk_43 (dk_at dksX14_become_1 14 rfl rfl)
theorem dX14_become_37 : decode cX14_become 37 = .ok (.getfield 9, 3) := dk_180 0 9 (dk_at dksX14_become_1 15 rfl rfl)
theorem dX14_become_40 : decode cX14_become 40 = .ok (.iconst 0, 1) := dk_3 (dk_at dksX14_become_1 18 rfl rfl)
theorem dX14_become_41 : decode cX14_become 41 = .ok (.aload_n 0, 1) := dk_42 (dk_at dksX14_become_1 19 rfl rfl)
theorem dX14_become_42 : decode cX14_become 42 = .ok (.getfield 9, 3) := dk_180 0 9 (dk_at dksX14_become_1 20 rfl rfl)
theorem dX14_become_45 : decode cX14_become 45 = .ok (.iconst 0, 1) := dk_3 (dk_at dksX14_become_1 23 rfl rfl)
theorem dX14_become_46 : decode cX14_become 46 = .ok (.iconst 4, 1) := dk_7 (dk_at dksX14_become_2 0 rfl rfl)
theorem dX14_become_47 : decode cX14_become 47 = .ok (.invokestatic 39, 3) := dk_184 0 39 (dk_at dksX14_become_2 1 rfl rfl)
theorem dX14_become_50 : decode cX14_become 50 = .ok (.return_, 1) := dk_177 (dk_at dksX14_become_2 4 rfl rfl)
abbrev cX14_begins : ByteArray := prog_17_method_2_code
def yX14_begins : MethodName := ⟨RX14, "begins", "(IIII)V"⟩
def dkwX14_begins_2 : List UInt8 := [79, 132, 5, 1, 167, 255, 239, 177]
abbrev dktX14_begins_2 : List UInt8 := dkwX14_begins_2 ++ []
def dkwX14_begins_1 : List UInt8 := [181, 0, 28, 42, 3, 181, 0, 31, 3, 54, 5, 21, 5, 7, 162, 0, 17, 42, 180, 0, 9, 21, 5, 3]
abbrev dktX14_begins_1 : List UInt8 := dkwX14_begins_1 ++ dktX14_begins_2
def dkwX14_begins_0 : List UInt8 := [42, 27, 181, 0, 15, 42, 28, 181, 0, 19, 42, 29, 181, 0, 22, 42, 21, 4, 181, 0, 25, 42, 3]
abbrev dktX14_begins_0 : List UInt8 := dkwX14_begins_0 ++ dktX14_begins_1
theorem dksX14_begins_0 : cX14_begins.data.toList.drop 0 = dktX14_begins_0 := by decide +kernel
theorem dksX14_begins_1 : cX14_begins.data.toList.drop 23 = dktX14_begins_1 := dk_seg dksX14_begins_0 23 rfl rfl
theorem dksX14_begins_2 : cX14_begins.data.toList.drop 47 = dktX14_begins_2 := dk_seg dksX14_begins_1 24 rfl rfl
theorem dX14_begins_0 : decode cX14_begins 0 = .ok (.aload_n 0, 1) := dk_42 (dk_at dksX14_begins_0 0 rfl rfl)
theorem dX14_begins_1 : decode cX14_begins 1 = .ok (.iload_n 1, 1) := dk_27 (dk_at dksX14_begins_0 1 rfl rfl)
theorem dX14_begins_2 : decode cX14_begins 2 = .ok (.putfield 15, 3) := dk_181 0 15 (dk_at dksX14_begins_0 2 rfl rfl)
theorem dX14_begins_5 : decode cX14_begins 5 = .ok (.aload_n 0, 1) := dk_42 (dk_at dksX14_begins_0 5 rfl rfl)
theorem dX14_begins_6 : decode cX14_begins 6 = .ok (.iload_n 2, 1) := dk_28 (dk_at dksX14_begins_0 6 rfl rfl)
theorem dX14_begins_7 : decode cX14_begins 7 = .ok (.putfield 19, 3) := dk_181 0 19 (dk_at dksX14_begins_0 7 rfl rfl)
theorem dX14_begins_10 : decode cX14_begins 10 = .ok (.aload_n 0, 1) := dk_42 (dk_at dksX14_begins_0 10 rfl rfl)
theorem dX14_begins_11 : decode cX14_begins 11 = .ok (.iload_n 3, 1) := dk_29 (dk_at dksX14_begins_0 11 rfl rfl)
theorem dX14_begins_12 : decode cX14_begins 12 = .ok (.putfield 22, 3) := dk_181 0 22 (dk_at dksX14_begins_0 12 rfl rfl)
theorem dX14_begins_15 : decode cX14_begins 15 = .ok (.aload_n 0, 1) := dk_42 (dk_at dksX14_begins_0 15 rfl rfl)
theorem dX14_begins_16 : decode cX14_begins 16 = .ok (.iload 4, 2) := dk_21 4 (dk_at dksX14_begins_0 16 rfl rfl)
theorem dX14_begins_18 : decode cX14_begins 18 = .ok (.putfield 25, 3) := dk_181 0 25 (dk_at dksX14_begins_0 18 rfl rfl)
theorem dX14_begins_21 : decode cX14_begins 21 = .ok (.aload_n 0, 1) := dk_42 (dk_at dksX14_begins_0 21 rfl rfl)
theorem dX14_begins_22 : decode cX14_begins 22 = .ok (.iconst 0, 1) := dk_3 (dk_at dksX14_begins_0 22 rfl rfl)
theorem dX14_begins_23 : decode cX14_begins 23 = .ok (.putfield 28, 3) := dk_181 0 28 (dk_at dksX14_begins_1 0 rfl rfl)
theorem dX14_begins_26 : decode cX14_begins 26 = .ok (.aload_n 0, 1) := dk_42 (dk_at dksX14_begins_1 3 rfl rfl)
theorem dX14_begins_27 : decode cX14_begins 27 = .ok (.iconst 0, 1) := dk_3 (dk_at dksX14_begins_1 4 rfl rfl)
theorem dX14_begins_28 : decode cX14_begins 28 = .ok (.putfield 31, 3) := dk_181 0 31 (dk_at dksX14_begins_1 5 rfl rfl)
theorem dX14_begins_31 : decode cX14_begins 31 = .ok (.iconst 0, 1) := dk_3 (dk_at dksX14_begins_1 8 rfl rfl)
theorem dX14_begins_32 : decode cX14_begins 32 = .ok (.istore 5, 2) := dk_54 5 (dk_at dksX14_begins_1 9 rfl rfl)
theorem dX14_begins_34 : decode cX14_begins 34 = .ok (.iload 5, 2) := dk_21 5 (dk_at dksX14_begins_1 11 rfl rfl)
theorem dX14_begins_36 : decode cX14_begins 36 = .ok (.iconst 4, 1) := dk_7 (dk_at dksX14_begins_1 13 rfl rfl)
theorem dX14_begins_37 : decode cX14_begins 37 = .ok (.if_icmp .ge 17, 3) := dk_162 0 17 (dk_at dksX14_begins_1 14 rfl rfl)
theorem dX14_begins_40 : decode cX14_begins 40 = .ok (.aload_n 0, 1) := dk_42 (dk_at dksX14_begins_1 17 rfl rfl)
theorem dX14_begins_41 : decode cX14_begins 41 = .ok (.getfield 9, 3) := dk_180 0 9 (dk_at dksX14_begins_1 18 rfl rfl)
theorem dX14_begins_44 : decode cX14_begins 44 = .ok (.iload 5, 2) := dk_21 5 (dk_at dksX14_begins_1 21 rfl rfl)
theorem dX14_begins_46 : decode cX14_begins 46 = .ok (.iconst 0, 1) := dk_3 (dk_at dksX14_begins_1 23 rfl rfl)
theorem dX14_begins_47 : decode cX14_begins 47 = .ok (.iastore, 1) := dk_79 (dk_at dksX14_begins_2 0 rfl rfl)
theorem dX14_begins_48 : decode cX14_begins 48 = .ok (.iinc 5 1, 3) := dk_132 5 1 (dk_at dksX14_begins_2 1 rfl rfl)
theorem dX14_begins_51 : decode cX14_begins 51 = .ok (.goto (-17), 3) := dk_167 255 239 (dk_at dksX14_begins_2 4 rfl rfl)
theorem dX14_begins_54 : decode cX14_begins 54 = .ok (.return_, 1) := dk_177 (dk_at dksX14_begins_2 7 rfl rfl)
abbrev cX14_comes : ByteArray := prog_17_method_4_code
def yX14_comes : MethodName := ⟨RX14, "comes", "(II)V"⟩
def dkwX14_comes_0 : List UInt8 := [42, 180, 0, 9, 27, 17, 3, 231, 42, 180, 0, 9, 27, 46, 28, 96, 184, 0, 45, 79, 177]
abbrev dktX14_comes_0 : List UInt8 := dkwX14_comes_0 ++ []
theorem dksX14_comes_0 : cX14_comes.data.toList.drop 0 = dktX14_comes_0 := by decide +kernel
theorem dX14_comes_0 : decode cX14_comes 0 = .ok (.aload_n 0, 1) := dk_42 (dk_at dksX14_comes_0 0 rfl rfl)
theorem dX14_comes_1 : decode cX14_comes 1 = .ok (.getfield 9, 3) := dk_180 0 9 (dk_at dksX14_comes_0 1 rfl rfl)
theorem dX14_comes_4 : decode cX14_comes 4 = .ok (.iload_n 1, 1) := dk_27 (dk_at dksX14_comes_0 4 rfl rfl)
theorem dX14_comes_5 : decode cX14_comes 5 = .ok (.sipush 999, 3) := dk_17 3 231 (dk_at dksX14_comes_0 5 rfl rfl)
theorem dX14_comes_8 : decode cX14_comes 8 = .ok (.aload_n 0, 1) := dk_42 (dk_at dksX14_comes_0 8 rfl rfl)
theorem dX14_comes_9 : decode cX14_comes 9 = .ok (.getfield 9, 3) := dk_180 0 9 (dk_at dksX14_comes_0 9 rfl rfl)
theorem dX14_comes_12 : decode cX14_comes 12 = .ok (.iload_n 1, 1) := dk_27 (dk_at dksX14_comes_0 12 rfl rfl)
theorem dX14_comes_13 : decode cX14_comes 13 = .ok (.iaload, 1) := dk_46 (dk_at dksX14_comes_0 13 rfl rfl)
theorem dX14_comes_14 : decode cX14_comes 14 = .ok (.iload_n 2, 1) := dk_28 (dk_at dksX14_comes_0 14 rfl rfl)
theorem dX14_comes_15 : decode cX14_comes 15 = .ok (.iadd, 1) := dk_96 (dk_at dksX14_comes_0 15 rfl rfl)
theorem dX14_comes_16 : decode cX14_comes 16 = .ok (.invokestatic 45, 3) := dk_184 0 45 (dk_at dksX14_comes_0 16 rfl rfl)
theorem dX14_comes_19 : decode cX14_comes 19 = .ok (.iastore, 1) := dk_79 (dk_at dksX14_comes_0 19 rfl rfl)
theorem dX14_comes_20 : decode cX14_comes 20 = .ok (.return_, 1) := dk_177 (dk_at dksX14_comes_0 20 rfl rfl)
abbrev cX14_halves : ByteArray := prog_17_method_5_code
def yX14_halves : MethodName := ⟨RX14, "halves", "(I)V"⟩
def dkwX14_halves_0 : List UInt8 := [42, 180, 0, 9, 27, 92, 46, 42, 180, 0, 9, 27, 46, 5, 108, 100, 79, 177]
abbrev dktX14_halves_0 : List UInt8 := dkwX14_halves_0 ++ []
theorem dksX14_halves_0 : cX14_halves.data.toList.drop 0 = dktX14_halves_0 := by decide +kernel
theorem dX14_halves_0 : decode cX14_halves 0 = .ok (.aload_n 0, 1) := dk_42 (dk_at dksX14_halves_0 0 rfl rfl)
theorem dX14_halves_1 : decode cX14_halves 1 = .ok (.getfield 9, 3) := dk_180 0 9 (dk_at dksX14_halves_0 1 rfl rfl)
theorem dX14_halves_4 : decode cX14_halves 4 = .ok (.iload_n 1, 1) := dk_27 (dk_at dksX14_halves_0 4 rfl rfl)
theorem dX14_halves_5 : decode cX14_halves 5 = .ok (.dup2, 1) := dk_92 (dk_at dksX14_halves_0 5 rfl rfl)
theorem dX14_halves_6 : decode cX14_halves 6 = .ok (.iaload, 1) := dk_46 (dk_at dksX14_halves_0 6 rfl rfl)
theorem dX14_halves_7 : decode cX14_halves 7 = .ok (.aload_n 0, 1) := dk_42 (dk_at dksX14_halves_0 7 rfl rfl)
theorem dX14_halves_8 : decode cX14_halves 8 = .ok (.getfield 9, 3) := dk_180 0 9 (dk_at dksX14_halves_0 8 rfl rfl)
theorem dX14_halves_11 : decode cX14_halves 11 = .ok (.iload_n 1, 1) := dk_27 (dk_at dksX14_halves_0 11 rfl rfl)
theorem dX14_halves_12 : decode cX14_halves 12 = .ok (.iaload, 1) := dk_46 (dk_at dksX14_halves_0 12 rfl rfl)
theorem dX14_halves_13 : decode cX14_halves 13 = .ok (.iconst 2, 1) := dk_5 (dk_at dksX14_halves_0 13 rfl rfl)
theorem dX14_halves_14 : decode cX14_halves 14 = .ok (.idiv, 1) := dk_108 (dk_at dksX14_halves_0 14 rfl rfl)
theorem dX14_halves_15 : decode cX14_halves 15 = .ok (.isub, 1) := dk_100 (dk_at dksX14_halves_0 15 rfl rfl)
theorem dX14_halves_16 : decode cX14_halves 16 = .ok (.iastore, 1) := dk_79 (dk_at dksX14_halves_0 16 rfl rfl)
theorem dX14_halves_17 : decode cX14_halves 17 = .ok (.return_, 1) := dk_177 (dk_at dksX14_halves_0 17 rfl rfl)
abbrev cX14_alive : ByteArray := prog_17_method_6_code
def yX14_alive : MethodName := ⟨RX14, "alive", "()I"⟩
def dkwX14_alive_1 : List UInt8 := [6, 46, 96, 172]
abbrev dktX14_alive_1 : List UInt8 := dkwX14_alive_1 ++ []
def dkwX14_alive_0 : List UInt8 := [42, 180, 0, 9, 3, 46, 42, 180, 0, 9, 4, 46, 96, 42, 180, 0, 9, 5, 46, 96, 42, 180, 0, 9]
abbrev dktX14_alive_0 : List UInt8 := dkwX14_alive_0 ++ dktX14_alive_1
theorem dksX14_alive_0 : cX14_alive.data.toList.drop 0 = dktX14_alive_0 := by decide +kernel
theorem dksX14_alive_1 : cX14_alive.data.toList.drop 24 = dktX14_alive_1 := dk_seg dksX14_alive_0 24 rfl rfl
theorem dX14_alive_0 : decode cX14_alive 0 = .ok (.aload_n 0, 1) := dk_42 (dk_at dksX14_alive_0 0 rfl rfl)
theorem dX14_alive_1 : decode cX14_alive 1 = .ok (.getfield 9, 3) := dk_180 0 9 (dk_at dksX14_alive_0 1 rfl rfl)
theorem dX14_alive_4 : decode cX14_alive 4 = .ok (.iconst 0, 1) := dk_3 (dk_at dksX14_alive_0 4 rfl rfl)
theorem dX14_alive_5 : decode cX14_alive 5 = .ok (.iaload, 1) := dk_46 (dk_at dksX14_alive_0 5 rfl rfl)
theorem dX14_alive_6 : decode cX14_alive 6 = .ok (.aload_n 0, 1) := dk_42 (dk_at dksX14_alive_0 6 rfl rfl)
theorem dX14_alive_7 : decode cX14_alive 7 = .ok (.getfield 9, 3) := dk_180 0 9 (dk_at dksX14_alive_0 7 rfl rfl)
theorem dX14_alive_10 : decode cX14_alive 10 = .ok (.iconst 1, 1) := dk_4 (dk_at dksX14_alive_0 10 rfl rfl)
theorem dX14_alive_11 : decode cX14_alive 11 = .ok (.iaload, 1) := dk_46 (dk_at dksX14_alive_0 11 rfl rfl)
theorem dX14_alive_12 : decode cX14_alive 12 = .ok (.iadd, 1) := dk_96 (dk_at dksX14_alive_0 12 rfl rfl)
theorem dX14_alive_13 : decode cX14_alive 13 = .ok (.aload_n 0, 1) := dk_42 (dk_at dksX14_alive_0 13 rfl rfl)
theorem dX14_alive_14 : decode cX14_alive 14 = .ok (.getfield 9, 3) := dk_180 0 9 (dk_at dksX14_alive_0 14 rfl rfl)
theorem dX14_alive_17 : decode cX14_alive 17 = .ok (.iconst 2, 1) := dk_5 (dk_at dksX14_alive_0 17 rfl rfl)
theorem dX14_alive_18 : decode cX14_alive 18 = .ok (.iaload, 1) := dk_46 (dk_at dksX14_alive_0 18 rfl rfl)
theorem dX14_alive_19 : decode cX14_alive 19 = .ok (.iadd, 1) := dk_96 (dk_at dksX14_alive_0 19 rfl rfl)
theorem dX14_alive_20 : decode cX14_alive 20 = .ok (.aload_n 0, 1) := dk_42 (dk_at dksX14_alive_0 20 rfl rfl)
theorem dX14_alive_21 : decode cX14_alive 21 = .ok (.getfield 9, 3) := dk_180 0 9 (dk_at dksX14_alive_0 21 rfl rfl)
theorem dX14_alive_24 : decode cX14_alive 24 = .ok (.iconst 3, 1) := dk_6 (dk_at dksX14_alive_1 0 rfl rfl)
theorem dX14_alive_25 : decode cX14_alive 25 = .ok (.iaload, 1) := dk_46 (dk_at dksX14_alive_1 1 rfl rfl)
theorem dX14_alive_26 : decode cX14_alive 26 = .ok (.iadd, 1) := dk_96 (dk_at dksX14_alive_1 2 rfl rfl)
theorem dX14_alive_27 : decode cX14_alive 27 = .ok (.ireturn, 1) := dk_172 (dk_at dksX14_alive_1 3 rfl rfl)
theorem q117 : (Jvm.Cond.initialized "CoatHoles$Item") ∈ lw_all := lw_g (lw_at lw_m1 15 rfl) rfl
theorem q268 : (Jvm.Cond.instantiable "CoatHoles$Item" (7 : Nat)) ∈ lw_all := lw_g (lw_at lw_m1 166 rfl) rfl
theorem q270 : (Jvm.Cond.instanceMethod ({ cls := "CoatHoles$Item", name := "<init>", desc := "()V" } : Jvm.MethodName)) ∈ lw_all := lw_g (lw_at lw_m1 168 rfl) rfl
theorem q271 : (Jvm.Cond.code ({ cls := "CoatHoles$Item", name := "<init>", desc := "()V" } : Jvm.MethodName) prog_17_method_1_code (1 : Nat) (Option.none : Option Jvm.ClassFile.FieldType)) ∈ lw_all := lw_g (lw_at lw_m1 169 rfl) rfl
theorem q272 : (Jvm.Cond.methodLink "CoatHoles$Item" (3 : Nat) ({ cls := "java/lang/Object", name := "<init>", desc := "()V" } : Jvm.MethodName)) ∈ lw_all := lw_g (lw_at lw_m1 170 rfl) rfl
theorem q273 : (Jvm.Cond.fieldLink "CoatHoles$Item" (15 : Nat) "CoatHoles$Item" "stuff" "I") ∈ lw_all := lw_g (lw_at lw_m1 171 rfl) rfl
theorem q276 : (Jvm.Cond.fieldLink "CoatHoles$Item" (19 : Nat) "CoatHoles$Item" "place" "I") ∈ lw_all := lw_g (lw_at lw_m1 174 rfl) rfl
theorem q279 : (Jvm.Cond.fieldLink "CoatHoles$Item" (22 : Nat) "CoatHoles$Item" "soil" "I") ∈ lw_all := lw_g (lw_at lw_m1 177 rfl) rfl
theorem q283 : (Jvm.Cond.fieldLink "CoatHoles$Item" (25 : Nat) "CoatHoles$Item" "worth" "I") ∈ lw_all := lw_g (lw_at lw_m1 181 rfl) rfl
theorem q286 : (Jvm.Cond.fieldLink "CoatHoles$Item" (28 : Nat) "CoatHoles$Item" "holes" "I") ∈ lw_all := lw_g (lw_at lw_m1 184 rfl) rfl
theorem q289 : (Jvm.Cond.fieldLink "CoatHoles$Item" (31 : Nat) "CoatHoles$Item" "bagged" "Z") ∈ lw_all := lw_g (lw_at lw_m1 187 rfl) rfl
theorem q292 : (Jvm.Cond.fieldLink "CoatHoles$Item" (9 : Nat) "CoatHoles$Item" "lives" "[I") ∈ lw_all := lw_g (lw_at lw_m1 190 rfl) rfl
theorem q299 : (Jvm.Cond.lays "CoatHoles$Item" "CoatHoles$Item" "stuff" "I") ∈ lw_all := lw_g (lw_at lw_m1 197 rfl) rfl
theorem q300 : (Jvm.Cond.soleField "CoatHoles$Item" "stuff") ∈ lw_all := lw_g (lw_at lw_m1 198 rfl) rfl
theorem q301 : (Jvm.Cond.lays "CoatHoles$Item" "CoatHoles$Item" "place" "I") ∈ lw_all := lw_g (lw_at lw_m1 199 rfl) rfl
theorem q302 : (Jvm.Cond.soleField "CoatHoles$Item" "place") ∈ lw_all := lw_g (lw_at lw_m1 200 rfl) rfl
theorem q303 : (Jvm.Cond.lays "CoatHoles$Item" "CoatHoles$Item" "soil" "I") ∈ lw_all := lw_g (lw_at lw_m1 201 rfl) rfl
theorem q304 : (Jvm.Cond.soleField "CoatHoles$Item" "soil") ∈ lw_all := lw_g (lw_at lw_m1 202 rfl) rfl
theorem q305 : (Jvm.Cond.lays "CoatHoles$Item" "CoatHoles$Item" "worth" "I") ∈ lw_all := lw_g (lw_at lw_m1 203 rfl) rfl
theorem q306 : (Jvm.Cond.soleField "CoatHoles$Item" "worth") ∈ lw_all := lw_g (lw_at lw_m1 204 rfl) rfl
theorem q307 : (Jvm.Cond.lays "CoatHoles$Item" "CoatHoles$Item" "holes" "I") ∈ lw_all := lw_g (lw_at lw_m1 205 rfl) rfl
theorem q308 : (Jvm.Cond.soleField "CoatHoles$Item" "holes") ∈ lw_all := lw_g (lw_at lw_m1 206 rfl) rfl
theorem q309 : (Jvm.Cond.lays "CoatHoles$Item" "CoatHoles$Item" "bagged" "Z") ∈ lw_all := lw_g (lw_at lw_m1 207 rfl) rfl
theorem q310 : (Jvm.Cond.soleField "CoatHoles$Item" "bagged") ∈ lw_all := lw_g (lw_at lw_m1 208 rfl) rfl
theorem q311 : (Jvm.Cond.laysFinal "CoatHoles$Item" "CoatHoles$Item" "lives" "[I") ∈ lw_all := lw_g (lw_at lw_m1 209 rfl) rfl
theorem q312 : (Jvm.Cond.soleField "CoatHoles$Item" "lives") ∈ lw_all := lw_g (lw_at lw_m1 210 rfl) rfl
theorem q313 : (Jvm.Cond.superclass "CoatHoles$Item" "java/lang/Object") ∈ lw_all := lw_g (lw_at lw_m1 211 rfl) rfl
theorem q649 : (Jvm.Cond.instanceMethod ({ cls := "CoatHoles$Item", name := "become", desc := "(LCoatHoles$Item;)V" } : Jvm.MethodName)) ∈ lw_all := lw_g (lw_at lw_m3 67 rfl) rfl
theorem q650 : (Jvm.Cond.selects "CoatHoles$Item" ({ cls := "CoatHoles$Item", name := "become", desc := "(LCoatHoles$Item;)V" } : Jvm.MethodName) ({ cls := "CoatHoles$Item", name := "become", desc := "(LCoatHoles$Item;)V" } : Jvm.MethodName)) ∈ lw_all := lw_g (lw_at lw_m3 68 rfl) rfl
theorem q651 : (Jvm.Cond.code ({ cls := "CoatHoles$Item", name := "become", desc := "(LCoatHoles$Item;)V" } : Jvm.MethodName) prog_17_method_3_code (2 : Nat) (Option.none : Option Jvm.ClassFile.FieldType)) ∈ lw_all := lw_g (lw_at lw_m3 69 rfl) rfl
theorem q652 : (Jvm.Cond.methodLink "CoatHoles$Item" (35 : Nat) ({ cls := "CoatHoles$Item", name := "begins", desc := "(IIII)V" } : Jvm.MethodName)) ∈ lw_all := lw_g (lw_at lw_m3 70 rfl) rfl
theorem q653 : (Jvm.Cond.instanceMethod ({ cls := "CoatHoles$Item", name := "begins", desc := "(IIII)V" } : Jvm.MethodName)) ∈ lw_all := lw_g (lw_at lw_m3 71 rfl) rfl
theorem q654 : (Jvm.Cond.selects "CoatHoles$Item" ({ cls := "CoatHoles$Item", name := "begins", desc := "(IIII)V" } : Jvm.MethodName) ({ cls := "CoatHoles$Item", name := "begins", desc := "(IIII)V" } : Jvm.MethodName)) ∈ lw_all := lw_g (lw_at lw_m3 72 rfl) rfl
theorem q655 : (Jvm.Cond.code ({ cls := "CoatHoles$Item", name := "begins", desc := "(IIII)V" } : Jvm.MethodName) prog_17_method_2_code (6 : Nat) (Option.none : Option Jvm.ClassFile.FieldType)) ∈ lw_all := lw_g (lw_at lw_m3 73 rfl) rfl
theorem q656 : (Jvm.Cond.methodLink "CoatHoles$Item" (39 : Nat) ({ cls := "java/lang/System", name := "arraycopy", desc := "(Ljava/lang/Object;ILjava/lang/Object;II)V" } : Jvm.MethodName)) ∈ lw_all := lw_g (lw_at lw_m3 74 rfl) rfl
theorem q906 : (Jvm.Cond.instanceMethod ({ cls := "CoatHoles$Item", name := "comes", desc := "(II)V" } : Jvm.MethodName)) ∈ lw_all := lw_g (lw_at lw_m4 84 rfl) rfl
theorem q907 : (Jvm.Cond.selects "CoatHoles$Item" ({ cls := "CoatHoles$Item", name := "comes", desc := "(II)V" } : Jvm.MethodName) ({ cls := "CoatHoles$Item", name := "comes", desc := "(II)V" } : Jvm.MethodName)) ∈ lw_all := lw_g (lw_at lw_m4 85 rfl) rfl
theorem q908 : (Jvm.Cond.code ({ cls := "CoatHoles$Item", name := "comes", desc := "(II)V" } : Jvm.MethodName) prog_17_method_4_code (3 : Nat) (Option.none : Option Jvm.ClassFile.FieldType)) ∈ lw_all := lw_g (lw_at lw_m4 86 rfl) rfl
theorem q909 : (Jvm.Cond.methodLink "CoatHoles$Item" (45 : Nat) ({ cls := "java/lang/Math", name := "min", desc := "(II)I" } : Jvm.MethodName)) ∈ lw_all := lw_g (lw_at lw_m4 87 rfl) rfl
theorem q922 : (Jvm.Cond.instanceMethod ({ cls := "CoatHoles$Item", name := "halves", desc := "(I)V" } : Jvm.MethodName)) ∈ lw_all := lw_g (lw_at lw_m4 100 rfl) rfl
theorem q923 : (Jvm.Cond.selects "CoatHoles$Item" ({ cls := "CoatHoles$Item", name := "halves", desc := "(I)V" } : Jvm.MethodName) ({ cls := "CoatHoles$Item", name := "halves", desc := "(I)V" } : Jvm.MethodName)) ∈ lw_all := lw_g (lw_at lw_m4 101 rfl) rfl
theorem q924 : (Jvm.Cond.code ({ cls := "CoatHoles$Item", name := "halves", desc := "(I)V" } : Jvm.MethodName) prog_17_method_5_code (2 : Nat) (Option.none : Option Jvm.ClassFile.FieldType)) ∈ lw_all := lw_g (lw_at lw_m4 102 rfl) rfl
theorem q939 : (Jvm.Cond.instanceMethod ({ cls := "CoatHoles$Item", name := "alive", desc := "()I" } : Jvm.MethodName)) ∈ lw_all := lw_g (lw_at lw_m4 117 rfl) rfl
theorem q940 : (Jvm.Cond.selects "CoatHoles$Item" ({ cls := "CoatHoles$Item", name := "alive", desc := "()I" } : Jvm.MethodName) ({ cls := "CoatHoles$Item", name := "alive", desc := "()I" } : Jvm.MethodName)) ∈ lw_all := lw_g (lw_at lw_m4 118 rfl) rfl
theorem q941 : (Jvm.Cond.code ({ cls := "CoatHoles$Item", name := "alive", desc := "()I" } : Jvm.MethodName) prog_17_method_6_code (1 : Nat) (Option.some Jvm.ClassFile.FieldType.int)) ∈ lw_all := lw_g (lw_at lw_m4 119 rfl) rfl
theorem in_X14 : ∀ w ∈ wsX140, w ∈ lw_all := lw_in wsX140 [299, 301, 303, 305, 307, 309, 311] (by decide +kernel) (by decide +kernel)

/-! CoatHoles$Fault -/
set_option maxRecDepth 100000
def RX16 : String := "CoatHoles$Fault"
def TX16 : u_T := fun k => match k with
  | 0 => ("java/lang/Throwable", "cause", "Ljava/lang/Throwable;", false)
  | 1 => ("java/lang/Throwable", "stackTrace", "[Ljava/lang/StackTraceElement;", false)
  | 2 => ("java/lang/Throwable", "suppressedExceptions", "Ljava/util/List;", false)
  | 3 => ("java/lang/Throwable", "detailMessage", "Ljava/lang/String;", false)
  | 4 => ("java/lang/Throwable", "backtrace", "Ljava/lang/Object;", false)
  | 5 => ("java/lang/Throwable", "depth", "I", false)
  | _ => ("CoatHoles$Fault", "place", "I", false)
def tyX16 : Nat → FieldType := fun k => match k with
  | 0 => .object "java/lang/Throwable"
  | 1 => .array (.object "java/lang/StackTraceElement")
  | 2 => .object "java/util/List"
  | 3 => .object "java/lang/String"
  | 4 => .object "java/lang/Object"
  | 5 => .int
  | _ => .int
abbrev wsX160 : List Cond := u_ws RX16 TX16 7
theorem nmX16 : ∀ a, a < 7 → ∀ b, b < 7 → a ≠ b → (TX16 a).2.1 ≠ (TX16 b).2.1 := by decide +kernel
theorem tyX16_ok : ∀ k, k < 7 → parseFieldDescriptor (TX16 k).2.2.1 = some (tyX16 k) := by decide +kernel
abbrev cX16_init : ByteArray := prog_12_method_1_code
def yX16_init : MethodName := ⟨RX16, "<init>", "()V"⟩
def dkwX16_init_0 : List UInt8 := [42, 1, 1, 3, 3, 183, 0, 1, 177]
abbrev dktX16_init_0 : List UInt8 := dkwX16_init_0 ++ []
theorem dksX16_init_0 : cX16_init.data.toList.drop 0 = dktX16_init_0 := by decide +kernel
theorem dX16_init_0 : decode cX16_init 0 = .ok (.aload_n 0, 1) := dk_42 (dk_at dksX16_init_0 0 rfl rfl)
theorem dX16_init_1 : decode cX16_init 1 = .ok (.aconst_null, 1) := dk_1 (dk_at dksX16_init_0 1 rfl rfl)
theorem dX16_init_2 : decode cX16_init 2 = .ok (.aconst_null, 1) := dk_1 (dk_at dksX16_init_0 2 rfl rfl)
theorem dX16_init_3 : decode cX16_init 3 = .ok (.iconst 0, 1) := dk_3 (dk_at dksX16_init_0 3 rfl rfl)
theorem dX16_init_4 : decode cX16_init 4 = .ok (.iconst 0, 1) := dk_3 (dk_at dksX16_init_0 4 rfl rfl)
theorem dX16_init_5 : decode cX16_init 5 = .ok (.invokespecial 1, 3) := dk_183 0 1 (dk_at dksX16_init_0 5 rfl rfl)
theorem dX16_init_8 : decode cX16_init 8 = .ok (.return_, 1) := dk_177 (dk_at dksX16_init_0 8 rfl rfl)
abbrev cX16_at : ByteArray := prog_12_method_2_code
def yX16_at : MethodName := ⟨RX16, "at", "(I)LCoatHoles$Fault;"⟩
def dkwX16_at_0 : List UInt8 := [42, 27, 181, 0, 7, 42, 176]
abbrev dktX16_at_0 : List UInt8 := dkwX16_at_0 ++ []
theorem dksX16_at_0 : cX16_at.data.toList.drop 0 = dktX16_at_0 := by decide +kernel
theorem dX16_at_0 : decode cX16_at 0 = .ok (.aload_n 0, 1) := dk_42 (dk_at dksX16_at_0 0 rfl rfl)
theorem dX16_at_1 : decode cX16_at 1 = .ok (.iload_n 1, 1) := dk_27 (dk_at dksX16_at_0 1 rfl rfl)
theorem dX16_at_2 : decode cX16_at 2 = .ok (.putfield 7, 3) := dk_181 0 7 (dk_at dksX16_at_0 2 rfl rfl)
theorem dX16_at_5 : decode cX16_at 5 = .ok (.aload_n 0, 1) := dk_42 (dk_at dksX16_at_0 5 rfl rfl)
theorem dX16_at_6 : decode cX16_at 6 = .ok (.areturn, 1) := dk_176 (dk_at dksX16_at_0 6 rfl rfl)
theorem q122 : (Jvm.Cond.initialized "CoatHoles$Fault") ∈ lw_all := lw_g (lw_at lw_m1 20 rfl) rfl
theorem q405 : (Jvm.Cond.instantiable "CoatHoles$Fault" (7 : Nat)) ∈ lw_all := lw_g (lw_at lw_m2 63 rfl) rfl
theorem q406 : (Jvm.Cond.castable "CoatHoles$Fault" "CoatHoles$Fault") ∈ lw_tbl := lw_at lw_m2 64 rfl
theorem q413 : (Jvm.Cond.selects "CoatHoles$Fault" ({ cls := "java/lang/Throwable", name := "fillInStackTrace", desc := "(I)Ljava/lang/Throwable;" } : Jvm.MethodName) ({ cls := "java/lang/Throwable", name := "fillInStackTrace", desc := "(I)Ljava/lang/Throwable;" } : Jvm.MethodName)) ∈ lw_all := lw_g (lw_at lw_m2 71 rfl) rfl
theorem q414 : (Jvm.Cond.selects "CoatHoles$Fault" ({ cls := "java/lang/Throwable", name := "fillInStackTrace", desc := "()Ljava/lang/Throwable;" } : Jvm.MethodName) ({ cls := "java/lang/Throwable", name := "fillInStackTrace", desc := "()Ljava/lang/Throwable;" } : Jvm.MethodName)) ∈ lw_all := lw_g (lw_at lw_m2 72 rfl) rfl
theorem q415 : (Jvm.Cond.lays "CoatHoles$Fault" "java/lang/Throwable" "cause" "Ljava/lang/Throwable;") ∈ lw_all := lw_g (lw_at lw_m2 73 rfl) rfl
theorem q417 : (Jvm.Cond.lays "CoatHoles$Fault" "java/lang/Throwable" "stackTrace" "[Ljava/lang/StackTraceElement;") ∈ lw_all := lw_g (lw_at lw_m2 75 rfl) rfl
theorem q419 : (Jvm.Cond.lays "CoatHoles$Fault" "java/lang/Throwable" "suppressedExceptions" "Ljava/util/List;") ∈ lw_all := lw_g (lw_at lw_m2 77 rfl) rfl
theorem q421 : (Jvm.Cond.lays "CoatHoles$Fault" "java/lang/Throwable" "detailMessage" "Ljava/lang/String;") ∈ lw_all := lw_g (lw_at lw_m2 79 rfl) rfl
theorem q423 : (Jvm.Cond.lays "CoatHoles$Fault" "java/lang/Throwable" "backtrace" "Ljava/lang/Object;") ∈ lw_all := lw_g (lw_at lw_m2 81 rfl) rfl
theorem q449 : (Jvm.Cond.instanceMethod ({ cls := "CoatHoles$Fault", name := "<init>", desc := "()V" } : Jvm.MethodName)) ∈ lw_all := lw_g (lw_at lw_m2 107 rfl) rfl
theorem q450 : (Jvm.Cond.code ({ cls := "CoatHoles$Fault", name := "<init>", desc := "()V" } : Jvm.MethodName) prog_12_method_1_code (1 : Nat) (Option.none : Option Jvm.ClassFile.FieldType)) ∈ lw_all := lw_g (lw_at lw_m2 108 rfl) rfl
theorem q451 : (Jvm.Cond.methodLink "CoatHoles$Fault" (1 : Nat) ({ cls := "java/lang/RuntimeException", name := "<init>", desc := "(Ljava/lang/String;Ljava/lang/Throwable;ZZ)V" } : Jvm.MethodName)) ∈ lw_all := lw_g (lw_at lw_m2 109 rfl) rfl
theorem q460 : (Jvm.Cond.fieldLink "CoatHoles$Fault" (7 : Nat) "CoatHoles$Fault" "place" "I") ∈ lw_all := lw_g (lw_at lw_m2 118 rfl) rfl
theorem q467 : (Jvm.Cond.lays "CoatHoles$Fault" "CoatHoles$Fault" "place" "I") ∈ lw_all := lw_g (lw_at lw_m2 125 rfl) rfl
theorem q468 : (Jvm.Cond.soleField "CoatHoles$Fault" "place") ∈ lw_all := lw_g (lw_at lw_m2 126 rfl) rfl
theorem q473 : (Jvm.Cond.lays "CoatHoles$Fault" "java/lang/Throwable" "depth" "I") ∈ lw_all := lw_g (lw_at lw_m2 131 rfl) rfl
theorem q476 : (Jvm.Cond.superclass "CoatHoles$Fault" "java/lang/RuntimeException") ∈ lw_all := lw_g (lw_at lw_m2 134 rfl) rfl
theorem q754 : (Jvm.Cond.instanceMethod ({ cls := "CoatHoles$Fault", name := "at", desc := "(I)LCoatHoles$Fault;" } : Jvm.MethodName)) ∈ lw_all := lw_g (lw_at lw_m3 172 rfl) rfl
theorem q755 : (Jvm.Cond.selects "CoatHoles$Fault" ({ cls := "CoatHoles$Fault", name := "at", desc := "(I)LCoatHoles$Fault;" } : Jvm.MethodName) ({ cls := "CoatHoles$Fault", name := "at", desc := "(I)LCoatHoles$Fault;" } : Jvm.MethodName)) ∈ lw_all := lw_g (lw_at lw_m3 173 rfl) rfl
theorem q756 : (Jvm.Cond.code ({ cls := "CoatHoles$Fault", name := "at", desc := "(I)LCoatHoles$Fault;" } : Jvm.MethodName) prog_12_method_2_code (2 : Nat) (Option.some (Jvm.ClassFile.FieldType.object "CoatHoles$Fault"))) ∈ lw_all := lw_g (lw_at lw_m3 174 rfl) rfl
theorem in_X16 : ∀ w ∈ wsX160, w ∈ lw_all := lw_in wsX160 [415, 417, 419, 421, 423, 473, 467] (by decide +kernel) (by decide +kernel)

/-! CoatHoles$Sheet -/
set_option maxRecDepth 100000
def RX17 : String := "CoatHoles$Sheet"
def TX17 : u_T := fun k => match k with
  | 0 => ("CoatHoles$Sheet", "bytes", "[B", false)
  | 1 => ("CoatHoles$Sheet", "shorts", "[S", false)
  | 2 => ("CoatHoles$Sheet", "ints", "[I", false)
  | 3 => ("CoatHoles$Sheet", "longs", "[J", false)
  | _ => ("CoatHoles$Sheet", "sort", "I", false)
def tyX17 : Nat → FieldType := fun k => match k with
  | 0 => .array .byte
  | 1 => .array .short
  | 2 => .array .int
  | 3 => .array .long
  | _ => .int
abbrev wsX170 : List Cond := u_ws RX17 TX17 5
theorem nmX17 : ∀ a, a < 5 → ∀ b, b < 5 → a ≠ b → (TX17 a).2.1 ≠ (TX17 b).2.1 := by decide +kernel
theorem tyX17_ok : ∀ k, k < 5 → parseFieldDescriptor (TX17 k).2.2.1 = some (tyX17 k) := by decide +kernel
abbrev cX17_init : ByteArray := prog_25_method_1_code
def yX17_init : MethodName := ⟨RX17, "<init>", "()V"⟩
def dkwX17_init_0 : List UInt8 := [42, 183, 0, 1, 42, 2, 181, 0, 7, 177]
abbrev dktX17_init_0 : List UInt8 := dkwX17_init_0 ++ []
theorem dksX17_init_0 : cX17_init.data.toList.drop 0 = dktX17_init_0 := by decide +kernel
theorem dX17_init_0 : decode cX17_init 0 = .ok (.aload_n 0, 1) := dk_42 (dk_at dksX17_init_0 0 rfl rfl)
theorem dX17_init_1 : decode cX17_init 1 = .ok (.invokespecial 1, 3) := dk_183 0 1 (dk_at dksX17_init_0 1 rfl rfl)
theorem dX17_init_4 : decode cX17_init 4 = .ok (.aload_n 0, 1) := dk_42 (dk_at dksX17_init_0 4 rfl rfl)
theorem dX17_init_5 : decode cX17_init 5 = .ok (.iconst (-1), 1) := dk_2 (dk_at dksX17_init_0 5 rfl rfl)
theorem dX17_init_6 : decode cX17_init 6 = .ok (.putfield 7, 3) := dk_181 0 7 (dk_at dksX17_init_0 6 rfl rfl)
theorem dX17_init_9 : decode cX17_init 9 = .ok (.return_, 1) := dk_177 (dk_at dksX17_init_0 9 rfl rfl)
abbrev cX17_row : ByteArray := prog_25_method_2_code
def yX17_row : MethodName := ⟨RX17, "row", "()Ljava/lang/Object;"⟩
def dkwX17_row_2 : List UInt8 := [42, 180, 0, 13, 176, 42, 180, 0, 17, 176, 42, 180, 0, 21, 176, 42, 180, 0, 25, 176, 1, 176]
abbrev dktX17_row_2 : List UInt8 := dkwX17_row_2 ++ []
def dkwX17_row_1 : List UInt8 := [170, 0, 0, 0, 0, 0, 0, 52, 0, 0, 0, 0, 0, 0, 0, 3, 0, 0, 0, 32, 0, 0, 0, 37, 0, 0, 0, 42, 0, 0, 0, 47]
abbrev dktX17_row_1 : List UInt8 := dkwX17_row_1 ++ dktX17_row_2
def dkwX17_row_0 : List UInt8 := [42, 180, 0, 7]
abbrev dktX17_row_0 : List UInt8 := dkwX17_row_0 ++ dktX17_row_1
theorem dksX17_row_0 : cX17_row.data.toList.drop 0 = dktX17_row_0 := by decide +kernel
theorem dksX17_row_1 : cX17_row.data.toList.drop 4 = dktX17_row_1 := dk_seg dksX17_row_0 4 rfl rfl
theorem dksX17_row_2 : cX17_row.data.toList.drop 36 = dktX17_row_2 := dk_seg dksX17_row_1 32 rfl rfl
theorem dX17_row_0 : decode cX17_row 0 = .ok (.aload_n 0, 1) := dk_42 (dk_at dksX17_row_0 0 rfl rfl)
theorem dX17_row_1 : decode cX17_row 1 = .ok (.getfield 7, 3) := dk_180 0 7 (dk_at dksX17_row_0 1 rfl rfl)
theorem dX17_row_4 : decode cX17_row 4 = .ok (.tableswitch 52 0 3 #[32, 37, 42, 47], 32) := by decide +kernel
theorem dX17_row_36 : decode cX17_row 36 = .ok (.aload_n 0, 1) := dk_42 (dk_at dksX17_row_2 0 rfl rfl)
theorem dX17_row_37 : decode cX17_row 37 = .ok (.getfield 13, 3) := dk_180 0 13 (dk_at dksX17_row_2 1 rfl rfl)
theorem dX17_row_40 : decode cX17_row 40 = .ok (.areturn, 1) := dk_176 (dk_at dksX17_row_2 4 rfl rfl)
theorem dX17_row_41 : decode cX17_row 41 = .ok (.aload_n 0, 1) := dk_42 (dk_at dksX17_row_2 5 rfl rfl)
theorem dX17_row_42 : decode cX17_row 42 = .ok (.getfield 17, 3) := dk_180 0 17 (dk_at dksX17_row_2 6 rfl rfl)
theorem dX17_row_45 : decode cX17_row 45 = .ok (.areturn, 1) := dk_176 (dk_at dksX17_row_2 9 rfl rfl)
theorem dX17_row_46 : decode cX17_row 46 = .ok (.aload_n 0, 1) := dk_42 (dk_at dksX17_row_2 10 rfl rfl)
theorem dX17_row_47 : decode cX17_row 47 = .ok (.getfield 21, 3) := dk_180 0 21 (dk_at dksX17_row_2 11 rfl rfl)
theorem dX17_row_50 : decode cX17_row 50 = .ok (.areturn, 1) := dk_176 (dk_at dksX17_row_2 14 rfl rfl)
theorem dX17_row_51 : decode cX17_row 51 = .ok (.aload_n 0, 1) := dk_42 (dk_at dksX17_row_2 15 rfl rfl)
theorem dX17_row_52 : decode cX17_row 52 = .ok (.getfield 25, 3) := dk_180 0 25 (dk_at dksX17_row_2 16 rfl rfl)
theorem dX17_row_55 : decode cX17_row 55 = .ok (.areturn, 1) := dk_176 (dk_at dksX17_row_2 19 rfl rfl)
theorem dX17_row_56 : decode cX17_row 56 = .ok (.aconst_null, 1) := dk_1 (dk_at dksX17_row_2 20 rfl rfl)
theorem dX17_row_57 : decode cX17_row 57 = .ok (.areturn, 1) := dk_176 (dk_at dksX17_row_2 21 rfl rfl)
abbrev cX17_becomes : ByteArray := prog_25_method_3_code
def yX17_becomes : MethodName := ⟨RX17, "becomes", "(II)V"⟩
def dkwX17_becomes_3 : List UInt8 := [181, 0, 21, 167, 0, 13, 42, 28, 188, 11, 181, 0, 25, 167, 0, 3, 42, 27, 181, 0, 7, 177]
abbrev dktX17_becomes_3 : List UInt8 := dkwX17_becomes_3 ++ []
def dkwX17_becomes_2 : List UInt8 := [42, 28, 188, 8, 181, 0, 13, 167, 0, 33, 42, 28, 188, 9, 181, 0, 17, 167, 0, 23, 42, 28, 188, 10]
abbrev dktX17_becomes_2 : List UInt8 := dkwX17_becomes_2 ++ dktX17_becomes_3
def dkwX17_becomes_1 : List UInt8 := [170, 0, 0, 0, 0, 0, 71, 0, 0, 0, 0, 0, 0, 0, 3, 0, 0, 0, 31, 0, 0, 0, 41, 0, 0, 0, 51, 0, 0, 0, 61]
abbrev dktX17_becomes_1 : List UInt8 := dkwX17_becomes_1 ++ dktX17_becomes_2
def dkwX17_becomes_0 : List UInt8 := [27]
abbrev dktX17_becomes_0 : List UInt8 := dkwX17_becomes_0 ++ dktX17_becomes_1
theorem dksX17_becomes_0 : cX17_becomes.data.toList.drop 0 = dktX17_becomes_0 := by decide +kernel
theorem dksX17_becomes_1 : cX17_becomes.data.toList.drop 1 = dktX17_becomes_1 := dk_seg dksX17_becomes_0 1 rfl rfl
theorem dksX17_becomes_2 : cX17_becomes.data.toList.drop 32 = dktX17_becomes_2 := dk_seg dksX17_becomes_1 31 rfl rfl
theorem dksX17_becomes_3 : cX17_becomes.data.toList.drop 56 = dktX17_becomes_3 := dk_seg dksX17_becomes_2 24 rfl rfl
theorem dX17_becomes_0 : decode cX17_becomes 0 = .ok (.iload_n 1, 1) := dk_27 (dk_at dksX17_becomes_0 0 rfl rfl)
theorem dX17_becomes_1 : decode cX17_becomes 1 = .ok (.tableswitch 71 0 3 #[31, 41, 51, 61], 31) := by decide +kernel
theorem dX17_becomes_32 : decode cX17_becomes 32 = .ok (.aload_n 0, 1) := dk_42 (dk_at dksX17_becomes_2 0 rfl rfl)
theorem dX17_becomes_33 : decode cX17_becomes 33 = .ok (.iload_n 2, 1) := dk_28 (dk_at dksX17_becomes_2 1 rfl rfl)
theorem dX17_becomes_34 : decode cX17_becomes 34 = .ok (.newarray .byte, 2) := dk_188_8 (dk_at dksX17_becomes_2 2 rfl rfl)
theorem dX17_becomes_36 : decode cX17_becomes 36 = .ok (.putfield 13, 3) := dk_181 0 13 (dk_at dksX17_becomes_2 4 rfl rfl)
theorem dX17_becomes_39 : decode cX17_becomes 39 = .ok (.goto 33, 3) := dk_167 0 33 (dk_at dksX17_becomes_2 7 rfl rfl)
theorem dX17_becomes_42 : decode cX17_becomes 42 = .ok (.aload_n 0, 1) := dk_42 (dk_at dksX17_becomes_2 10 rfl rfl)
theorem dX17_becomes_43 : decode cX17_becomes 43 = .ok (.iload_n 2, 1) := dk_28 (dk_at dksX17_becomes_2 11 rfl rfl)
theorem dX17_becomes_44 : decode cX17_becomes 44 = .ok (.newarray .short, 2) := dk_188_9 (dk_at dksX17_becomes_2 12 rfl rfl)
theorem dX17_becomes_46 : decode cX17_becomes 46 = .ok (.putfield 17, 3) := dk_181 0 17 (dk_at dksX17_becomes_2 14 rfl rfl)
theorem dX17_becomes_49 : decode cX17_becomes 49 = .ok (.goto 23, 3) := dk_167 0 23 (dk_at dksX17_becomes_2 17 rfl rfl)
theorem dX17_becomes_52 : decode cX17_becomes 52 = .ok (.aload_n 0, 1) := dk_42 (dk_at dksX17_becomes_2 20 rfl rfl)
theorem dX17_becomes_53 : decode cX17_becomes 53 = .ok (.iload_n 2, 1) := dk_28 (dk_at dksX17_becomes_2 21 rfl rfl)
theorem dX17_becomes_54 : decode cX17_becomes 54 = .ok (.newarray .int, 2) := dk_188_10 (dk_at dksX17_becomes_2 22 rfl rfl)
theorem dX17_becomes_56 : decode cX17_becomes 56 = .ok (.putfield 21, 3) := dk_181 0 21 (dk_at dksX17_becomes_3 0 rfl rfl)
theorem dX17_becomes_59 : decode cX17_becomes 59 = .ok (.goto 13, 3) := dk_167 0 13 (dk_at dksX17_becomes_3 3 rfl rfl)
theorem dX17_becomes_62 : decode cX17_becomes 62 = .ok (.aload_n 0, 1) := dk_42 (dk_at dksX17_becomes_3 6 rfl rfl)
theorem dX17_becomes_63 : decode cX17_becomes 63 = .ok (.iload_n 2, 1) := dk_28 (dk_at dksX17_becomes_3 7 rfl rfl)
theorem dX17_becomes_64 : decode cX17_becomes 64 = .ok (.newarray .long, 2) := dk_188_11 (dk_at dksX17_becomes_3 8 rfl rfl)
theorem dX17_becomes_66 : decode cX17_becomes 66 = .ok (.putfield 25, 3) := dk_181 0 25 (dk_at dksX17_becomes_3 10 rfl rfl)
theorem dX17_becomes_69 : decode cX17_becomes 69 = .ok (.goto 3, 3) := dk_167 0 3 (dk_at dksX17_becomes_3 13 rfl rfl)
theorem dX17_becomes_72 : decode cX17_becomes 72 = .ok (.aload_n 0, 1) := dk_42 (dk_at dksX17_becomes_3 16 rfl rfl)
theorem dX17_becomes_73 : decode cX17_becomes 73 = .ok (.iload_n 1, 1) := dk_27 (dk_at dksX17_becomes_3 17 rfl rfl)
theorem dX17_becomes_74 : decode cX17_becomes 74 = .ok (.putfield 7, 3) := dk_181 0 7 (dk_at dksX17_becomes_3 18 rfl rfl)
theorem dX17_becomes_77 : decode cX17_becomes 77 = .ok (.return_, 1) := dk_177 (dk_at dksX17_becomes_3 21 rfl rfl)
theorem q123 : (Jvm.Cond.initialized "CoatHoles$Sheet") ∈ lw_all := lw_g (lw_at lw_m1 21 rfl) rfl
theorem q504 : (Jvm.Cond.instantiable "CoatHoles$Sheet" (5 : Nat)) ∈ lw_all := lw_g (lw_at lw_m2 162 rfl) rfl
theorem q506 : (Jvm.Cond.instanceMethod ({ cls := "CoatHoles$Sheet", name := "<init>", desc := "()V" } : Jvm.MethodName)) ∈ lw_all := lw_g (lw_at lw_m2 164 rfl) rfl
theorem q507 : (Jvm.Cond.code ({ cls := "CoatHoles$Sheet", name := "<init>", desc := "()V" } : Jvm.MethodName) prog_25_method_1_code (1 : Nat) (Option.none : Option Jvm.ClassFile.FieldType)) ∈ lw_all := lw_g (lw_at lw_m2 165 rfl) rfl
theorem q508 : (Jvm.Cond.methodLink "CoatHoles$Sheet" (1 : Nat) ({ cls := "java/lang/Object", name := "<init>", desc := "()V" } : Jvm.MethodName)) ∈ lw_all := lw_g (lw_at lw_m2 166 rfl) rfl
theorem q509 : (Jvm.Cond.fieldLink "CoatHoles$Sheet" (13 : Nat) "CoatHoles$Sheet" "bytes" "[B") ∈ lw_all := lw_g (lw_at lw_m2 167 rfl) rfl
theorem q510 : (Jvm.Cond.fieldLink "CoatHoles$Sheet" (17 : Nat) "CoatHoles$Sheet" "shorts" "[S") ∈ lw_all := lw_g (lw_at lw_m2 168 rfl) rfl
theorem q511 : (Jvm.Cond.fieldLink "CoatHoles$Sheet" (21 : Nat) "CoatHoles$Sheet" "ints" "[I") ∈ lw_all := lw_g (lw_at lw_m2 169 rfl) rfl
theorem q512 : (Jvm.Cond.fieldLink "CoatHoles$Sheet" (25 : Nat) "CoatHoles$Sheet" "longs" "[J") ∈ lw_all := lw_g (lw_at lw_m2 170 rfl) rfl
theorem q513 : (Jvm.Cond.fieldLink "CoatHoles$Sheet" (7 : Nat) "CoatHoles$Sheet" "sort" "I") ∈ lw_all := lw_g (lw_at lw_m2 171 rfl) rfl
theorem q514 : (Jvm.Cond.lays "CoatHoles$Sheet" "CoatHoles$Sheet" "bytes" "[B") ∈ lw_all := lw_g (lw_at lw_m2 172 rfl) rfl
theorem q515 : (Jvm.Cond.soleField "CoatHoles$Sheet" "bytes") ∈ lw_all := lw_g (lw_at lw_m2 173 rfl) rfl
theorem q516 : (Jvm.Cond.lays "CoatHoles$Sheet" "CoatHoles$Sheet" "shorts" "[S") ∈ lw_all := lw_g (lw_at lw_m2 174 rfl) rfl
theorem q517 : (Jvm.Cond.soleField "CoatHoles$Sheet" "shorts") ∈ lw_all := lw_g (lw_at lw_m2 175 rfl) rfl
theorem q518 : (Jvm.Cond.lays "CoatHoles$Sheet" "CoatHoles$Sheet" "ints" "[I") ∈ lw_all := lw_g (lw_at lw_m2 176 rfl) rfl
theorem q519 : (Jvm.Cond.soleField "CoatHoles$Sheet" "ints") ∈ lw_all := lw_g (lw_at lw_m2 177 rfl) rfl
theorem q520 : (Jvm.Cond.lays "CoatHoles$Sheet" "CoatHoles$Sheet" "longs" "[J") ∈ lw_all := lw_g (lw_at lw_m2 178 rfl) rfl
theorem q521 : (Jvm.Cond.soleField "CoatHoles$Sheet" "longs") ∈ lw_all := lw_g (lw_at lw_m2 179 rfl) rfl
theorem q522 : (Jvm.Cond.lays "CoatHoles$Sheet" "CoatHoles$Sheet" "sort" "I") ∈ lw_all := lw_g (lw_at lw_m2 180 rfl) rfl
theorem q523 : (Jvm.Cond.soleField "CoatHoles$Sheet" "sort") ∈ lw_all := lw_g (lw_at lw_m2 181 rfl) rfl
theorem q524 : (Jvm.Cond.superclass "CoatHoles$Sheet" "java/lang/Object") ∈ lw_all := lw_g (lw_at lw_m2 182 rfl) rfl
theorem q1143 : (Jvm.Cond.instanceMethod ({ cls := "CoatHoles$Sheet", name := "row", desc := "()Ljava/lang/Object;" } : Jvm.MethodName)) ∈ lw_all := lw_g (lw_at lw_m5 81 rfl) rfl
theorem q1144 : (Jvm.Cond.selects "CoatHoles$Sheet" ({ cls := "CoatHoles$Sheet", name := "row", desc := "()Ljava/lang/Object;" } : Jvm.MethodName) ({ cls := "CoatHoles$Sheet", name := "row", desc := "()Ljava/lang/Object;" } : Jvm.MethodName)) ∈ lw_all := lw_g (lw_at lw_m5 82 rfl) rfl
theorem q1145 : (Jvm.Cond.code ({ cls := "CoatHoles$Sheet", name := "row", desc := "()Ljava/lang/Object;" } : Jvm.MethodName) prog_25_method_2_code (1 : Nat) (Option.some (Jvm.ClassFile.FieldType.object "java/lang/Object"))) ∈ lw_all := lw_g (lw_at lw_m5 83 rfl) rfl
theorem q1182 : (Jvm.Cond.instanceMethod ({ cls := "CoatHoles$Sheet", name := "becomes", desc := "(II)V" } : Jvm.MethodName)) ∈ lw_all := lw_g (lw_at lw_m5 120 rfl) rfl
theorem q1183 : (Jvm.Cond.selects "CoatHoles$Sheet" ({ cls := "CoatHoles$Sheet", name := "becomes", desc := "(II)V" } : Jvm.MethodName) ({ cls := "CoatHoles$Sheet", name := "becomes", desc := "(II)V" } : Jvm.MethodName)) ∈ lw_all := lw_g (lw_at lw_m5 121 rfl) rfl
theorem q1184 : (Jvm.Cond.code ({ cls := "CoatHoles$Sheet", name := "becomes", desc := "(II)V" } : Jvm.MethodName) prog_25_method_3_code (3 : Nat) (Option.none : Option Jvm.ClassFile.FieldType)) ∈ lw_all := lw_g (lw_at lw_m5 122 rfl) rfl
theorem in_X17 : ∀ w ∈ wsX170, w ∈ lw_all := lw_in wsX170 [514, 516, 518, 520, 522] (by decide +kernel) (by decide +kernel)

/-! CoatHoles$Beyond -/
set_option maxRecDepth 100000
def RX18 : String := "CoatHoles$Beyond"
def TX18 : u_T := fun k => match k with
  | 0 => ("java/lang/Throwable", "cause", "Ljava/lang/Throwable;", false)
  | 1 => ("java/lang/Throwable", "stackTrace", "[Ljava/lang/StackTraceElement;", false)
  | 2 => ("java/lang/Throwable", "suppressedExceptions", "Ljava/util/List;", false)
  | 3 => ("java/lang/Throwable", "detailMessage", "Ljava/lang/String;", false)
  | 4 => ("java/lang/Throwable", "backtrace", "Ljava/lang/Object;", false)
  | _ => ("java/lang/Throwable", "depth", "I", false)
def tyX18 : Nat → FieldType := fun k => match k with
  | 0 => .object "java/lang/Throwable"
  | 1 => .array (.object "java/lang/StackTraceElement")
  | 2 => .object "java/util/List"
  | 3 => .object "java/lang/String"
  | 4 => .object "java/lang/Object"
  | _ => .int
abbrev wsX180 : List Cond := u_ws RX18 TX18 6
theorem nmX18 : ∀ a, a < 6 → ∀ b, b < 6 → a ≠ b → (TX18 a).2.1 ≠ (TX18 b).2.1 := by decide +kernel
theorem tyX18_ok : ∀ k, k < 6 → parseFieldDescriptor (TX18 k).2.2.1 = some (tyX18 k) := by decide +kernel
abbrev cX18_init : ByteArray := prog_5_method_1_code
def yX18_init : MethodName := ⟨RX18, "<init>", "()V"⟩
def dkwX18_init_0 : List UInt8 := [42, 1, 1, 3, 3, 183, 0, 1, 177]
abbrev dktX18_init_0 : List UInt8 := dkwX18_init_0 ++ []
theorem dksX18_init_0 : cX18_init.data.toList.drop 0 = dktX18_init_0 := by decide +kernel
theorem dX18_init_0 : decode cX18_init 0 = .ok (.aload_n 0, 1) := dk_42 (dk_at dksX18_init_0 0 rfl rfl)
theorem dX18_init_1 : decode cX18_init 1 = .ok (.aconst_null, 1) := dk_1 (dk_at dksX18_init_0 1 rfl rfl)
theorem dX18_init_2 : decode cX18_init 2 = .ok (.aconst_null, 1) := dk_1 (dk_at dksX18_init_0 2 rfl rfl)
theorem dX18_init_3 : decode cX18_init 3 = .ok (.iconst 0, 1) := dk_3 (dk_at dksX18_init_0 3 rfl rfl)
theorem dX18_init_4 : decode cX18_init 4 = .ok (.iconst 0, 1) := dk_3 (dk_at dksX18_init_0 4 rfl rfl)
theorem dX18_init_5 : decode cX18_init 5 = .ok (.invokespecial 1, 3) := dk_183 0 1 (dk_at dksX18_init_0 5 rfl rfl)
theorem dX18_init_8 : decode cX18_init 8 = .ok (.return_, 1) := dk_177 (dk_at dksX18_init_0 8 rfl rfl)
theorem q124 : (Jvm.Cond.initialized "CoatHoles$Beyond") ∈ lw_all := lw_g (lw_at lw_m1 22 rfl) rfl
theorem q437 : (Jvm.Cond.selects "CoatHoles$Beyond" ({ cls := "java/lang/Throwable", name := "fillInStackTrace", desc := "()Ljava/lang/Throwable;" } : Jvm.MethodName) ({ cls := "java/lang/Throwable", name := "fillInStackTrace", desc := "()Ljava/lang/Throwable;" } : Jvm.MethodName)) ∈ lw_all := lw_g (lw_at lw_m2 95 rfl) rfl
theorem q526 : (Jvm.Cond.instantiable "CoatHoles$Beyond" (6 : Nat)) ∈ lw_all := lw_g (lw_at lw_m2 184 rfl) rfl
theorem q527 : (Jvm.Cond.castable "CoatHoles$Beyond" "CoatHoles$Beyond") ∈ lw_tbl := lw_at lw_m2 185 rfl
theorem q528 : (Jvm.Cond.selects "CoatHoles$Beyond" ({ cls := "java/lang/Throwable", name := "fillInStackTrace", desc := "(I)Ljava/lang/Throwable;" } : Jvm.MethodName) ({ cls := "java/lang/Throwable", name := "fillInStackTrace", desc := "(I)Ljava/lang/Throwable;" } : Jvm.MethodName)) ∈ lw_all := lw_g (lw_at lw_m2 186 rfl) rfl
theorem q529 : (Jvm.Cond.lays "CoatHoles$Beyond" "java/lang/Throwable" "cause" "Ljava/lang/Throwable;") ∈ lw_all := lw_g (lw_at lw_m2 187 rfl) rfl
theorem q530 : (Jvm.Cond.lays "CoatHoles$Beyond" "java/lang/Throwable" "stackTrace" "[Ljava/lang/StackTraceElement;") ∈ lw_all := lw_g (lw_at lw_m2 188 rfl) rfl
theorem q531 : (Jvm.Cond.lays "CoatHoles$Beyond" "java/lang/Throwable" "suppressedExceptions" "Ljava/util/List;") ∈ lw_all := lw_g (lw_at lw_m2 189 rfl) rfl
theorem q532 : (Jvm.Cond.lays "CoatHoles$Beyond" "java/lang/Throwable" "detailMessage" "Ljava/lang/String;") ∈ lw_all := lw_g (lw_at lw_m2 190 rfl) rfl
theorem q533 : (Jvm.Cond.lays "CoatHoles$Beyond" "java/lang/Throwable" "backtrace" "Ljava/lang/Object;") ∈ lw_all := lw_g (lw_at lw_m2 191 rfl) rfl
theorem q535 : (Jvm.Cond.instanceMethod ({ cls := "CoatHoles$Beyond", name := "<init>", desc := "()V" } : Jvm.MethodName)) ∈ lw_all := lw_g (lw_at lw_m2 193 rfl) rfl
theorem q536 : (Jvm.Cond.code ({ cls := "CoatHoles$Beyond", name := "<init>", desc := "()V" } : Jvm.MethodName) prog_5_method_1_code (1 : Nat) (Option.none : Option Jvm.ClassFile.FieldType)) ∈ lw_all := lw_g (lw_at lw_m2 194 rfl) rfl
theorem q537 : (Jvm.Cond.methodLink "CoatHoles$Beyond" (1 : Nat) ({ cls := "java/lang/RuntimeException", name := "<init>", desc := "(Ljava/lang/String;Ljava/lang/Throwable;ZZ)V" } : Jvm.MethodName)) ∈ lw_all := lw_g (lw_at lw_m2 195 rfl) rfl
theorem q538 : (Jvm.Cond.lays "CoatHoles$Beyond" "java/lang/Throwable" "depth" "I") ∈ lw_all := lw_g (lw_at lw_m2 196 rfl) rfl
theorem q539 : (Jvm.Cond.superclass "CoatHoles$Beyond" "java/lang/RuntimeException") ∈ lw_all := lw_g (lw_at lw_m2 197 rfl) rfl
theorem in_X18 : ∀ w ∈ wsX180, w ∈ lw_all := lw_in wsX180 [529, 530, 531, 532, 533, 538] (by decide +kernel) (by decide +kernel)

/-! CoatHoles$Nothing -/
set_option maxRecDepth 100000
def RX19 : String := "CoatHoles$Nothing"
def TX19 : u_T := fun k => match k with
  | 0 => ("java/lang/Throwable", "cause", "Ljava/lang/Throwable;", false)
  | 1 => ("java/lang/Throwable", "stackTrace", "[Ljava/lang/StackTraceElement;", false)
  | 2 => ("java/lang/Throwable", "suppressedExceptions", "Ljava/util/List;", false)
  | 3 => ("java/lang/Throwable", "detailMessage", "Ljava/lang/String;", false)
  | 4 => ("java/lang/Throwable", "backtrace", "Ljava/lang/Object;", false)
  | _ => ("java/lang/Throwable", "depth", "I", false)
def tyX19 : Nat → FieldType := fun k => match k with
  | 0 => .object "java/lang/Throwable"
  | 1 => .array (.object "java/lang/StackTraceElement")
  | 2 => .object "java/util/List"
  | 3 => .object "java/lang/String"
  | 4 => .object "java/lang/Object"
  | _ => .int
abbrev wsX190 : List Cond := u_ws RX19 TX19 6
theorem nmX19 : ∀ a, a < 6 → ∀ b, b < 6 → a ≠ b → (TX19 a).2.1 ≠ (TX19 b).2.1 := by decide +kernel
theorem tyX19_ok : ∀ k, k < 6 → parseFieldDescriptor (TX19 k).2.2.1 = some (tyX19 k) := by decide +kernel
abbrev cX19_init : ByteArray := prog_19_method_1_code
def yX19_init : MethodName := ⟨RX19, "<init>", "()V"⟩
def dkwX19_init_0 : List UInt8 := [42, 1, 1, 3, 3, 183, 0, 1, 177]
abbrev dktX19_init_0 : List UInt8 := dkwX19_init_0 ++ []
theorem dksX19_init_0 : cX19_init.data.toList.drop 0 = dktX19_init_0 := by decide +kernel
theorem dX19_init_0 : decode cX19_init 0 = .ok (.aload_n 0, 1) := dk_42 (dk_at dksX19_init_0 0 rfl rfl)
theorem dX19_init_1 : decode cX19_init 1 = .ok (.aconst_null, 1) := dk_1 (dk_at dksX19_init_0 1 rfl rfl)
theorem dX19_init_2 : decode cX19_init 2 = .ok (.aconst_null, 1) := dk_1 (dk_at dksX19_init_0 2 rfl rfl)
theorem dX19_init_3 : decode cX19_init 3 = .ok (.iconst 0, 1) := dk_3 (dk_at dksX19_init_0 3 rfl rfl)
theorem dX19_init_4 : decode cX19_init 4 = .ok (.iconst 0, 1) := dk_3 (dk_at dksX19_init_0 4 rfl rfl)
theorem dX19_init_5 : decode cX19_init 5 = .ok (.invokespecial 1, 3) := dk_183 0 1 (dk_at dksX19_init_0 5 rfl rfl)
theorem dX19_init_8 : decode cX19_init 8 = .ok (.return_, 1) := dk_177 (dk_at dksX19_init_0 8 rfl rfl)
theorem q125 : (Jvm.Cond.initialized "CoatHoles$Nothing") ∈ lw_all := lw_g (lw_at lw_m1 23 rfl) rfl
theorem q438 : (Jvm.Cond.selects "CoatHoles$Nothing" ({ cls := "java/lang/Throwable", name := "fillInStackTrace", desc := "()Ljava/lang/Throwable;" } : Jvm.MethodName) ({ cls := "java/lang/Throwable", name := "fillInStackTrace", desc := "()Ljava/lang/Throwable;" } : Jvm.MethodName)) ∈ lw_all := lw_g (lw_at lw_m2 96 rfl) rfl
theorem q541 : (Jvm.Cond.instantiable "CoatHoles$Nothing" (6 : Nat)) ∈ lw_all := lw_g (lw_at lw_m2 199 rfl) rfl
theorem q542 : (Jvm.Cond.castable "CoatHoles$Nothing" "CoatHoles$Nothing") ∈ lw_tbl := lw_at lw_m2 200 rfl
theorem q543 : (Jvm.Cond.selects "CoatHoles$Nothing" ({ cls := "java/lang/Throwable", name := "fillInStackTrace", desc := "(I)Ljava/lang/Throwable;" } : Jvm.MethodName) ({ cls := "java/lang/Throwable", name := "fillInStackTrace", desc := "(I)Ljava/lang/Throwable;" } : Jvm.MethodName)) ∈ lw_all := lw_g (lw_at lw_m2 201 rfl) rfl
theorem q544 : (Jvm.Cond.lays "CoatHoles$Nothing" "java/lang/Throwable" "cause" "Ljava/lang/Throwable;") ∈ lw_all := lw_g (lw_at lw_m2 202 rfl) rfl
theorem q545 : (Jvm.Cond.lays "CoatHoles$Nothing" "java/lang/Throwable" "stackTrace" "[Ljava/lang/StackTraceElement;") ∈ lw_all := lw_g (lw_at lw_m2 203 rfl) rfl
theorem q546 : (Jvm.Cond.lays "CoatHoles$Nothing" "java/lang/Throwable" "suppressedExceptions" "Ljava/util/List;") ∈ lw_all := lw_g (lw_at lw_m2 204 rfl) rfl
theorem q547 : (Jvm.Cond.lays "CoatHoles$Nothing" "java/lang/Throwable" "detailMessage" "Ljava/lang/String;") ∈ lw_all := lw_g (lw_at lw_m2 205 rfl) rfl
theorem q548 : (Jvm.Cond.lays "CoatHoles$Nothing" "java/lang/Throwable" "backtrace" "Ljava/lang/Object;") ∈ lw_all := lw_g (lw_at lw_m2 206 rfl) rfl
theorem q550 : (Jvm.Cond.instanceMethod ({ cls := "CoatHoles$Nothing", name := "<init>", desc := "()V" } : Jvm.MethodName)) ∈ lw_all := lw_g (lw_at lw_m2 208 rfl) rfl
theorem q551 : (Jvm.Cond.code ({ cls := "CoatHoles$Nothing", name := "<init>", desc := "()V" } : Jvm.MethodName) prog_19_method_1_code (1 : Nat) (Option.none : Option Jvm.ClassFile.FieldType)) ∈ lw_all := lw_g (lw_at lw_m2 209 rfl) rfl
theorem q552 : (Jvm.Cond.methodLink "CoatHoles$Nothing" (1 : Nat) ({ cls := "java/lang/RuntimeException", name := "<init>", desc := "(Ljava/lang/String;Ljava/lang/Throwable;ZZ)V" } : Jvm.MethodName)) ∈ lw_all := lw_g (lw_at lw_m2 210 rfl) rfl
theorem q553 : (Jvm.Cond.lays "CoatHoles$Nothing" "java/lang/Throwable" "depth" "I") ∈ lw_all := lw_g (lw_at lw_m2 211 rfl) rfl
theorem q554 : (Jvm.Cond.superclass "CoatHoles$Nothing" "java/lang/RuntimeException") ∈ lw_all := lw_g (lw_at lw_m2 212 rfl) rfl
theorem in_X19 : ∀ w ∈ wsX190, w ∈ lw_all := lw_in wsX190 [544, 545, 546, 547, 548, 553] (by decide +kernel) (by decide +kernel)

/-! CoatHoles$Shelf -/
set_option maxRecDepth 100000
def RX20 : String := "CoatHoles$Shelf"
def TX20 : u_T := fun k => match k with
  | 0 => ("CoatHoles$Shelf", "what", "I", false)
  | 1 => ("CoatHoles$Shelf", "number", "I", false)
  | _ => ("CoatHoles$Shelf", "row", "Ljava/lang/Object;", false)
def tyX20 : Nat → FieldType := fun k => match k with
  | 0 => .int
  | 1 => .int
  | _ => .object "java/lang/Object"
abbrev wsX200 : List Cond := u_ws RX20 TX20 3
theorem nmX20 : ∀ a, a < 3 → ∀ b, b < 3 → a ≠ b → (TX20 a).2.1 ≠ (TX20 b).2.1 := by decide +kernel
theorem tyX20_ok : ∀ k, k < 3 → parseFieldDescriptor (TX20 k).2.2.1 = some (tyX20 k) := by decide +kernel
abbrev cX20_init : ByteArray := prog_26_method_1_code
def yX20_init : MethodName := ⟨RX20, "<init>", "()V"⟩
def dkwX20_init_0 : List UInt8 := [42, 183, 0, 1, 42, 5, 181, 0, 7, 177]
abbrev dktX20_init_0 : List UInt8 := dkwX20_init_0 ++ []
theorem dksX20_init_0 : cX20_init.data.toList.drop 0 = dktX20_init_0 := by decide +kernel
theorem dX20_init_0 : decode cX20_init 0 = .ok (.aload_n 0, 1) := dk_42 (dk_at dksX20_init_0 0 rfl rfl)
theorem dX20_init_1 : decode cX20_init 1 = .ok (.invokespecial 1, 3) := dk_183 0 1 (dk_at dksX20_init_0 1 rfl rfl)
theorem dX20_init_4 : decode cX20_init 4 = .ok (.aload_n 0, 1) := dk_42 (dk_at dksX20_init_0 4 rfl rfl)
theorem dX20_init_5 : decode cX20_init 5 = .ok (.iconst 2, 1) := dk_5 (dk_at dksX20_init_0 5 rfl rfl)
theorem dX20_init_6 : decode cX20_init 6 = .ok (.putfield 7, 3) := dk_181 0 7 (dk_at dksX20_init_0 6 rfl rfl)
theorem dX20_init_9 : decode cX20_init 9 = .ok (.return_, 1) := dk_177 (dk_at dksX20_init_0 9 rfl rfl)
theorem q126 : (Jvm.Cond.initialized "CoatHoles$Shelf") ∈ lw_all := lw_g (lw_at lw_m1 24 rfl) rfl
theorem q557 : (Jvm.Cond.instantiable "CoatHoles$Shelf" (3 : Nat)) ∈ lw_all := lw_g (lw_at lw_m2 215 rfl) rfl
theorem q559 : (Jvm.Cond.instanceMethod ({ cls := "CoatHoles$Shelf", name := "<init>", desc := "()V" } : Jvm.MethodName)) ∈ lw_all := lw_g (lw_at lw_m2 217 rfl) rfl
theorem q560 : (Jvm.Cond.code ({ cls := "CoatHoles$Shelf", name := "<init>", desc := "()V" } : Jvm.MethodName) prog_26_method_1_code (1 : Nat) (Option.none : Option Jvm.ClassFile.FieldType)) ∈ lw_all := lw_g (lw_at lw_m2 218 rfl) rfl
theorem q561 : (Jvm.Cond.methodLink "CoatHoles$Shelf" (1 : Nat) ({ cls := "java/lang/Object", name := "<init>", desc := "()V" } : Jvm.MethodName)) ∈ lw_all := lw_g (lw_at lw_m2 219 rfl) rfl
theorem q562 : (Jvm.Cond.fieldLink "CoatHoles$Shelf" (7 : Nat) "CoatHoles$Shelf" "what" "I") ∈ lw_all := lw_g (lw_at lw_m2 220 rfl) rfl
theorem q566 : (Jvm.Cond.lays "CoatHoles$Shelf" "CoatHoles$Shelf" "what" "I") ∈ lw_all := lw_g (lw_at lw_m2 224 rfl) rfl
theorem q567 : (Jvm.Cond.soleField "CoatHoles$Shelf" "what") ∈ lw_all := lw_g (lw_at lw_m2 225 rfl) rfl
theorem q568 : (Jvm.Cond.lays "CoatHoles$Shelf" "CoatHoles$Shelf" "number" "I") ∈ lw_all := lw_g (lw_at lw_m2 226 rfl) rfl
theorem q569 : (Jvm.Cond.soleField "CoatHoles$Shelf" "number") ∈ lw_all := lw_g (lw_at lw_m2 227 rfl) rfl
theorem q570 : (Jvm.Cond.lays "CoatHoles$Shelf" "CoatHoles$Shelf" "row" "Ljava/lang/Object;") ∈ lw_all := lw_g (lw_at lw_m2 228 rfl) rfl
theorem q571 : (Jvm.Cond.soleField "CoatHoles$Shelf" "row") ∈ lw_all := lw_g (lw_at lw_m2 229 rfl) rfl
theorem q572 : (Jvm.Cond.superclass "CoatHoles$Shelf" "java/lang/Object") ∈ lw_all := lw_g (lw_at lw_m2 230 rfl) rfl
theorem in_X20 : ∀ w ∈ wsX200, w ∈ lw_all := lw_in wsX200 [566, 568, 570] (by decide +kernel) (by decide +kernel)

/-! CoatHoles$Row -/
set_option maxRecDepth 100000
def RX22 : String := "CoatHoles$Row"
def TX22 : u_T := fun k => match k with
  | _ => ("CoatHoles$Row", "told", "[I", true)
def tyX22 : Nat → FieldType := fun k => match k with
  | _ => .array .int
abbrev wsX220 : List Cond := u_ws RX22 TX22 1
theorem nmX22 : ∀ a, a < 1 → ∀ b, b < 1 → a ≠ b → (TX22 a).2.1 ≠ (TX22 b).2.1 := by decide +kernel
theorem tyX22_ok : ∀ k, k < 1 → parseFieldDescriptor (TX22 k).2.2.1 = some (tyX22 k) := by decide +kernel
abbrev cX22_init : ByteArray := prog_21_method_1_code
def yX22_init : MethodName := ⟨RX22, "<init>", "()V"⟩
def dkwX22_init_0 : List UInt8 := [42, 183, 0, 1, 42, 6, 188, 10, 181, 0, 7, 177]
abbrev dktX22_init_0 : List UInt8 := dkwX22_init_0 ++ []
theorem dksX22_init_0 : cX22_init.data.toList.drop 0 = dktX22_init_0 := by decide +kernel
theorem dX22_init_0 : decode cX22_init 0 = .ok (.aload_n 0, 1) := dk_42 (dk_at dksX22_init_0 0 rfl rfl)
theorem dX22_init_1 : decode cX22_init 1 = .ok (.invokespecial 1, 3) := dk_183 0 1 (dk_at dksX22_init_0 1 rfl rfl)
theorem dX22_init_4 : decode cX22_init 4 = .ok (.aload_n 0, 1) := dk_42 (dk_at dksX22_init_0 4 rfl rfl)
theorem dX22_init_5 : decode cX22_init 5 = .ok (.iconst 3, 1) := dk_6 (dk_at dksX22_init_0 5 rfl rfl)
theorem dX22_init_6 : decode cX22_init 6 = .ok (.newarray .int, 2) := dk_188_10 (dk_at dksX22_init_0 6 rfl rfl)
theorem dX22_init_8 : decode cX22_init 8 = .ok (.putfield 7, 3) := dk_181 0 7 (dk_at dksX22_init_0 8 rfl rfl)
theorem dX22_init_11 : decode cX22_init 11 = .ok (.return_, 1) := dk_177 (dk_at dksX22_init_0 11 rfl rfl)
theorem q134 : (Jvm.Cond.initialized "CoatHoles$Row") ∈ lw_all := lw_g (lw_at lw_m1 32 rfl) rfl
theorem q1093 : (Jvm.Cond.instantiable "CoatHoles$Row" (1 : Nat)) ∈ lw_all := lw_g (lw_at lw_m5 31 rfl) rfl
theorem q1095 : (Jvm.Cond.instanceMethod ({ cls := "CoatHoles$Row", name := "<init>", desc := "()V" } : Jvm.MethodName)) ∈ lw_all := lw_g (lw_at lw_m5 33 rfl) rfl
theorem q1096 : (Jvm.Cond.code ({ cls := "CoatHoles$Row", name := "<init>", desc := "()V" } : Jvm.MethodName) prog_21_method_1_code (1 : Nat) (Option.none : Option Jvm.ClassFile.FieldType)) ∈ lw_all := lw_g (lw_at lw_m5 34 rfl) rfl
theorem q1097 : (Jvm.Cond.methodLink "CoatHoles$Row" (1 : Nat) ({ cls := "java/lang/Object", name := "<init>", desc := "()V" } : Jvm.MethodName)) ∈ lw_all := lw_g (lw_at lw_m5 35 rfl) rfl
theorem q1098 : (Jvm.Cond.fieldLink "CoatHoles$Row" (7 : Nat) "CoatHoles$Row" "told" "[I") ∈ lw_all := lw_g (lw_at lw_m5 36 rfl) rfl
theorem q1100 : (Jvm.Cond.laysFinal "CoatHoles$Row" "CoatHoles$Row" "told" "[I") ∈ lw_all := lw_g (lw_at lw_m5 38 rfl) rfl
theorem q1101 : (Jvm.Cond.soleField "CoatHoles$Row" "told") ∈ lw_all := lw_g (lw_at lw_m5 39 rfl) rfl
theorem q1102 : (Jvm.Cond.superclass "CoatHoles$Row" "java/lang/Object") ∈ lw_all := lw_g (lw_at lw_m5 40 rfl) rfl
theorem in_X22 : ∀ w ∈ wsX220, w ∈ lw_all := lw_in wsX220 [1100] (by decide +kernel) (by decide +kernel)

/-! CoatHoles$AnyDoing -/
set_option maxRecDepth 100000
def RX23 : String := "CoatHoles$AnyDoing"
abbrev cX23_init : ByteArray := prog_2_method_1_code
def yX23_init : MethodName := ⟨RX23, "<init>", "(LCoatHoles;II)V"⟩
def dkwX23_init_0 : List UInt8 := [42, 43, 181, 0, 1, 42, 183, 0, 7, 42, 28, 181, 0, 13, 42, 29, 181, 0, 17, 177]
abbrev dktX23_init_0 : List UInt8 := dkwX23_init_0 ++ []
theorem dksX23_init_0 : cX23_init.data.toList.drop 0 = dktX23_init_0 := by decide +kernel
theorem dX23_init_0 : decode cX23_init 0 = .ok (.aload_n 0, 1) := dk_42 (dk_at dksX23_init_0 0 rfl rfl)
theorem dX23_init_1 : decode cX23_init 1 = .ok (.aload_n 1, 1) := dk_43 (dk_at dksX23_init_0 1 rfl rfl)
theorem dX23_init_2 : decode cX23_init 2 = .ok (.putfield 1, 3) := dk_181 0 1 (dk_at dksX23_init_0 2 rfl rfl)
theorem dX23_init_5 : decode cX23_init 5 = .ok (.aload_n 0, 1) := dk_42 (dk_at dksX23_init_0 5 rfl rfl)
theorem dX23_init_6 : decode cX23_init 6 = .ok (.invokespecial 7, 3) := dk_183 0 7 (dk_at dksX23_init_0 6 rfl rfl)
theorem dX23_init_9 : decode cX23_init 9 = .ok (.aload_n 0, 1) := dk_42 (dk_at dksX23_init_0 9 rfl rfl)
theorem dX23_init_10 : decode cX23_init 10 = .ok (.iload_n 2, 1) := dk_28 (dk_at dksX23_init_0 10 rfl rfl)
theorem dX23_init_11 : decode cX23_init 11 = .ok (.putfield 13, 3) := dk_181 0 13 (dk_at dksX23_init_0 11 rfl rfl)
theorem dX23_init_14 : decode cX23_init 14 = .ok (.aload_n 0, 1) := dk_42 (dk_at dksX23_init_0 14 rfl rfl)
theorem dX23_init_15 : decode cX23_init 15 = .ok (.iload_n 3, 1) := dk_29 (dk_at dksX23_init_0 15 rfl rfl)
theorem dX23_init_16 : decode cX23_init 16 = .ok (.putfield 17, 3) := dk_181 0 17 (dk_at dksX23_init_0 16 rfl rfl)
theorem dX23_init_19 : decode cX23_init 19 = .ok (.return_, 1) := dk_177 (dk_at dksX23_init_0 19 rfl rfl)
abbrev cX23_its : ByteArray := prog_2_method_2_code
def yX23_its : MethodName := ⟨RX23, "its", "()I"⟩
theorem dX23_its_0 : decode cX23_its 0 = .ok (.aload_n 0, 1) := by decide +kernel
theorem dX23_its_1 : decode cX23_its 1 = .ok (.getfield 13, 3) := by decide +kernel
theorem dX23_its_4 : decode cX23_its 4 = .ok (.ireturn, 1) := by decide +kernel
abbrev cX23_eats : ByteArray := prog_2_method_3_code
def yX23_eats : MethodName := ⟨RX23, "eats", "(I)I"⟩
def dkwX23_eats_0 : List UInt8 := [42, 180, 0, 1, 16, 10, 182, 0, 20, 27, 42, 180, 0, 13, 96, 172]
abbrev dktX23_eats_0 : List UInt8 := dkwX23_eats_0 ++ []
theorem dksX23_eats_0 : cX23_eats.data.toList.drop 0 = dktX23_eats_0 := by decide +kernel
theorem dX23_eats_0 : decode cX23_eats 0 = .ok (.aload_n 0, 1) := dk_42 (dk_at dksX23_eats_0 0 rfl rfl)
theorem dX23_eats_1 : decode cX23_eats 1 = .ok (.getfield 1, 3) := dk_180 0 1 (dk_at dksX23_eats_0 1 rfl rfl)
theorem dX23_eats_4 : decode cX23_eats 4 = .ok (.bipush 10, 2) := dk_16 10 (dk_at dksX23_eats_0 4 rfl rfl)
theorem dX23_eats_6 : decode cX23_eats 6 = .ok (.invokevirtual 20, 3) := dk_182 0 20 (dk_at dksX23_eats_0 6 rfl rfl)
theorem dX23_eats_9 : decode cX23_eats 9 = .ok (.iload_n 1, 1) := dk_27 (dk_at dksX23_eats_0 9 rfl rfl)
theorem dX23_eats_10 : decode cX23_eats 10 = .ok (.aload_n 0, 1) := dk_42 (dk_at dksX23_eats_0 10 rfl rfl)
theorem dX23_eats_11 : decode cX23_eats 11 = .ok (.getfield 13, 3) := dk_180 0 13 (dk_at dksX23_eats_0 11 rfl rfl)
theorem dX23_eats_14 : decode cX23_eats 14 = .ok (.iadd, 1) := dk_96 (dk_at dksX23_eats_0 14 rfl rfl)
theorem dX23_eats_15 : decode cX23_eats 15 = .ok (.ireturn, 1) := dk_172 (dk_at dksX23_eats_0 15 rfl rfl)
abbrev cX23_lays : ByteArray := prog_2_method_4_code
def yX23_lays : MethodName := ⟨RX23, "lays", "(I)I"⟩
def dkwX23_lays_0 : List UInt8 := [42, 180, 0, 1, 16, 11, 182, 0, 20, 42, 27, 183, 0, 26, 172]
abbrev dktX23_lays_0 : List UInt8 := dkwX23_lays_0 ++ []
theorem dksX23_lays_0 : cX23_lays.data.toList.drop 0 = dktX23_lays_0 := by decide +kernel
theorem dX23_lays_0 : decode cX23_lays 0 = .ok (.aload_n 0, 1) := dk_42 (dk_at dksX23_lays_0 0 rfl rfl)
theorem dX23_lays_1 : decode cX23_lays 1 = .ok (.getfield 1, 3) := dk_180 0 1 (dk_at dksX23_lays_0 1 rfl rfl)
theorem dX23_lays_4 : decode cX23_lays 4 = .ok (.bipush 11, 2) := dk_16 11 (dk_at dksX23_lays_0 4 rfl rfl)
theorem dX23_lays_6 : decode cX23_lays 6 = .ok (.invokevirtual 20, 3) := dk_182 0 20 (dk_at dksX23_lays_0 6 rfl rfl)
theorem dX23_lays_9 : decode cX23_lays 9 = .ok (.aload_n 0, 1) := dk_42 (dk_at dksX23_lays_0 9 rfl rfl)
theorem dX23_lays_10 : decode cX23_lays 10 = .ok (.iload_n 1, 1) := dk_27 (dk_at dksX23_lays_0 10 rfl rfl)
theorem dX23_lays_11 : decode cX23_lays 11 = .ok (.invokespecial 26, 3) := dk_183 0 26 (dk_at dksX23_lays_0 11 rfl rfl)
theorem dX23_lays_14 : decode cX23_lays 14 = .ok (.ireturn, 1) := dk_172 (dk_at dksX23_lays_0 14 rfl rfl)
abbrev cX23_shares : ByteArray := prog_2_method_5_code
def yX23_shares : MethodName := ⟨RX23, "shares", "(I)I"⟩
def dkwX23_shares_0 : List UInt8 := [42, 180, 0, 1, 16, 12, 182, 0, 20, 27, 42, 180, 0, 17, 42, 180, 0, 13, 100, 108, 172]
abbrev dktX23_shares_0 : List UInt8 := dkwX23_shares_0 ++ []
theorem dksX23_shares_0 : cX23_shares.data.toList.drop 0 = dktX23_shares_0 := by decide +kernel
theorem dX23_shares_0 : decode cX23_shares 0 = .ok (.aload_n 0, 1) := dk_42 (dk_at dksX23_shares_0 0 rfl rfl)
theorem dX23_shares_1 : decode cX23_shares 1 = .ok (.getfield 1, 3) := dk_180 0 1 (dk_at dksX23_shares_0 1 rfl rfl)
theorem dX23_shares_4 : decode cX23_shares 4 = .ok (.bipush 12, 2) := dk_16 12 (dk_at dksX23_shares_0 4 rfl rfl)
theorem dX23_shares_6 : decode cX23_shares 6 = .ok (.invokevirtual 20, 3) := dk_182 0 20 (dk_at dksX23_shares_0 6 rfl rfl)
theorem dX23_shares_9 : decode cX23_shares 9 = .ok (.iload_n 1, 1) := dk_27 (dk_at dksX23_shares_0 9 rfl rfl)
theorem dX23_shares_10 : decode cX23_shares 10 = .ok (.aload_n 0, 1) := dk_42 (dk_at dksX23_shares_0 10 rfl rfl)
theorem dX23_shares_11 : decode cX23_shares 11 = .ok (.getfield 17, 3) := dk_180 0 17 (dk_at dksX23_shares_0 11 rfl rfl)
theorem dX23_shares_14 : decode cX23_shares 14 = .ok (.aload_n 0, 1) := dk_42 (dk_at dksX23_shares_0 14 rfl rfl)
theorem dX23_shares_15 : decode cX23_shares 15 = .ok (.getfield 13, 3) := dk_180 0 13 (dk_at dksX23_shares_0 15 rfl rfl)
theorem dX23_shares_18 : decode cX23_shares 18 = .ok (.isub, 1) := dk_100 (dk_at dksX23_shares_0 18 rfl rfl)
theorem dX23_shares_19 : decode cX23_shares 19 = .ok (.idiv, 1) := dk_108 (dk_at dksX23_shares_0 19 rfl rfl)
theorem dX23_shares_20 : decode cX23_shares 20 = .ok (.ireturn, 1) := dk_172 (dk_at dksX23_shares_0 20 rfl rfl)
abbrev cX23_tells : ByteArray := prog_2_method_6_code
def yX23_tells : MethodName := ⟨RX23, "tells", "(I)I"⟩
def dkwX23_tells_0 : List UInt8 := [42, 180, 0, 1, 16, 13, 182, 0, 20, 42, 27, 182, 0, 32, 42, 180, 0, 17, 130, 172]
abbrev dktX23_tells_0 : List UInt8 := dkwX23_tells_0 ++ []
theorem dksX23_tells_0 : cX23_tells.data.toList.drop 0 = dktX23_tells_0 := by decide +kernel
theorem dX23_tells_0 : decode cX23_tells 0 = .ok (.aload_n 0, 1) := dk_42 (dk_at dksX23_tells_0 0 rfl rfl)
theorem dX23_tells_1 : decode cX23_tells 1 = .ok (.getfield 1, 3) := dk_180 0 1 (dk_at dksX23_tells_0 1 rfl rfl)
theorem dX23_tells_4 : decode cX23_tells 4 = .ok (.bipush 13, 2) := dk_16 13 (dk_at dksX23_tells_0 4 rfl rfl)
theorem dX23_tells_6 : decode cX23_tells 6 = .ok (.invokevirtual 20, 3) := dk_182 0 20 (dk_at dksX23_tells_0 6 rfl rfl)
theorem dX23_tells_9 : decode cX23_tells 9 = .ok (.aload_n 0, 1) := dk_42 (dk_at dksX23_tells_0 9 rfl rfl)
theorem dX23_tells_10 : decode cX23_tells 10 = .ok (.iload_n 1, 1) := dk_27 (dk_at dksX23_tells_0 10 rfl rfl)
theorem dX23_tells_11 : decode cX23_tells 11 = .ok (.invokevirtual 32, 3) := dk_182 0 32 (dk_at dksX23_tells_0 11 rfl rfl)
theorem dX23_tells_14 : decode cX23_tells 14 = .ok (.aload_n 0, 1) := dk_42 (dk_at dksX23_tells_0 14 rfl rfl)
theorem dX23_tells_15 : decode cX23_tells 15 = .ok (.getfield 17, 3) := dk_180 0 17 (dk_at dksX23_tells_0 15 rfl rfl)
theorem dX23_tells_18 : decode cX23_tells 18 = .ok (.ixor, 1) := dk_130 (dk_at dksX23_tells_0 18 rfl rfl)
theorem dX23_tells_19 : decode cX23_tells 19 = .ok (.ireturn, 1) := dk_172 (dk_at dksX23_tells_0 19 rfl rfl)
theorem q137 : (Jvm.Cond.initialized "CoatHoles$AnyDoing") ∈ lw_all := lw_g (lw_at lw_m1 35 rfl) rfl
theorem q1255 : (Jvm.Cond.instanceMethod ({ cls := "CoatHoles$AnyDoing", name := "<init>", desc := "(LCoatHoles;II)V" } : Jvm.MethodName)) ∈ lw_all := lw_g (lw_at lw_m5 193 rfl) rfl
theorem q1256 : (Jvm.Cond.code ({ cls := "CoatHoles$AnyDoing", name := "<init>", desc := "(LCoatHoles;II)V" } : Jvm.MethodName) prog_2_method_1_code (4 : Nat) (Option.none : Option Jvm.ClassFile.FieldType)) ∈ lw_all := lw_g (lw_at lw_m5 194 rfl) rfl
theorem q1257 : (Jvm.Cond.methodLink "CoatHoles$AnyDoing" (7 : Nat) ({ cls := "java/lang/Object", name := "<init>", desc := "()V" } : Jvm.MethodName)) ∈ lw_all := lw_g (lw_at lw_m5 195 rfl) rfl
theorem q1260 : (Jvm.Cond.fieldLink "CoatHoles$AnyDoing" (13 : Nat) "CoatHoles$AnyDoing" "number" "I") ∈ lw_all := lw_g (lw_at lw_m5 198 rfl) rfl
theorem q1267 : (Jvm.Cond.fieldLink "CoatHoles$AnyDoing" (17 : Nat) "CoatHoles$AnyDoing" "about" "I") ∈ lw_all := lw_g (lw_at lw_m5 205 rfl) rfl
theorem q1272 : (Jvm.Cond.fieldLink "CoatHoles$AnyDoing" (1 : Nat) "CoatHoles$AnyDoing" "this$0" "LCoatHoles;") ∈ lw_all := lw_g (lw_at lw_m5 210 rfl) rfl
theorem q1278 : (Jvm.Cond.soleField "CoatHoles$AnyDoing" "number") ∈ lw_all := lw_g (lw_at lw_m5 216 rfl) rfl
theorem q1280 : (Jvm.Cond.soleField "CoatHoles$AnyDoing" "about") ∈ lw_all := lw_g (lw_at lw_m5 218 rfl) rfl
theorem q1282 : (Jvm.Cond.soleField "CoatHoles$AnyDoing" "this$0") ∈ lw_all := lw_g (lw_at lw_m5 220 rfl) rfl
theorem q1350 : (Jvm.Cond.instanceMethod ({ cls := "CoatHoles$AnyDoing", name := "its", desc := "()I" } : Jvm.MethodName)) ∈ lw_all := lw_g (lw_at lw_m6 48 rfl) rfl
theorem q1351 : (Jvm.Cond.sameMethod "CoatHoles$AnyDoing" "CoatHoles$AnyDoing" "its" "()I") ∈ lw_all := lw_g (lw_at lw_m6 49 rfl) rfl
theorem q1357 : (Jvm.Cond.code ({ cls := "CoatHoles$AnyDoing", name := "its", desc := "()I" } : Jvm.MethodName) prog_2_method_2_code (1 : Nat) (Option.some Jvm.ClassFile.FieldType.int)) ∈ lw_all := lw_g (lw_at lw_m6 55 rfl) rfl
theorem q1361 : (Jvm.Cond.declares ({ cls := "CoatHoles$AnyDoing", name := "its", desc := "()I" } : Jvm.MethodName)) ∈ lw_tbl := lw_at lw_m6 59 rfl
theorem q1421 : (Jvm.Cond.instanceMethod ({ cls := "CoatHoles$AnyDoing", name := "eats", desc := "(I)I" } : Jvm.MethodName)) ∈ lw_all := lw_g (lw_at lw_m6 119 rfl) rfl
theorem q1422 : (Jvm.Cond.code ({ cls := "CoatHoles$AnyDoing", name := "eats", desc := "(I)I" } : Jvm.MethodName) prog_2_method_3_code (2 : Nat) (Option.some Jvm.ClassFile.FieldType.int)) ∈ lw_all := lw_g (lw_at lw_m6 120 rfl) rfl
theorem q1423 : (Jvm.Cond.methodLinkNest "CoatHoles$AnyDoing" (20 : Nat) ({ cls := "CoatHoles", name := "ran", desc := "(I)V" } : Jvm.MethodName) "CoatHoles") ∈ lw_tbl := lw_at lw_m6 121 rfl
theorem q1427 : (Jvm.Cond.publicMethod ({ cls := "CoatHoles$AnyDoing", name := "eats", desc := "(I)I" } : Jvm.MethodName)) ∈ lw_tbl := lw_at lw_m6 125 rfl
theorem q1437 : (Jvm.Cond.declares ({ cls := "CoatHoles$AnyDoing", name := "eats", desc := "(I)I" } : Jvm.MethodName)) ∈ lw_tbl := lw_at lw_m6 135 rfl
theorem q1454 : (Jvm.Cond.instanceMethod ({ cls := "CoatHoles$AnyDoing", name := "lays", desc := "(I)I" } : Jvm.MethodName)) ∈ lw_all := lw_g (lw_at lw_m6 152 rfl) rfl
theorem q1455 : (Jvm.Cond.publicMethod ({ cls := "CoatHoles$AnyDoing", name := "lays", desc := "(I)I" } : Jvm.MethodName)) ∈ lw_tbl := lw_at lw_m6 153 rfl
theorem q1456 : (Jvm.Cond.code ({ cls := "CoatHoles$AnyDoing", name := "lays", desc := "(I)I" } : Jvm.MethodName) prog_2_method_4_code (2 : Nat) (Option.some Jvm.ClassFile.FieldType.int)) ∈ lw_all := lw_g (lw_at lw_m6 154 rfl) rfl
theorem q1457 : (Jvm.Cond.superclass "CoatHoles$AnyDoing" "java/lang/Object") ∈ lw_all := lw_g (lw_at lw_m6 155 rfl) rfl
theorem q1497 : (Jvm.Cond.declares ({ cls := "CoatHoles$AnyDoing", name := "shares", desc := "(I)I" } : Jvm.MethodName)) ∈ lw_tbl := lw_at lw_m6 195 rfl
theorem q1498 : (Jvm.Cond.instanceMethod ({ cls := "CoatHoles$AnyDoing", name := "shares", desc := "(I)I" } : Jvm.MethodName)) ∈ lw_all := lw_g (lw_at lw_m6 196 rfl) rfl
theorem q1499 : (Jvm.Cond.code ({ cls := "CoatHoles$AnyDoing", name := "shares", desc := "(I)I" } : Jvm.MethodName) prog_2_method_5_code (2 : Nat) (Option.some Jvm.ClassFile.FieldType.int)) ∈ lw_all := lw_g (lw_at lw_m6 197 rfl) rfl
theorem q1506 : (Jvm.Cond.publicMethod ({ cls := "CoatHoles$AnyDoing", name := "shares", desc := "(I)I" } : Jvm.MethodName)) ∈ lw_tbl := lw_at lw_m6 204 rfl
theorem q1530 : (Jvm.Cond.instanceMethod ({ cls := "CoatHoles$AnyDoing", name := "tells", desc := "(I)I" } : Jvm.MethodName)) ∈ lw_all := lw_g (lw_at lw_m6 228 rfl) rfl
theorem q1531 : (Jvm.Cond.code ({ cls := "CoatHoles$AnyDoing", name := "tells", desc := "(I)I" } : Jvm.MethodName) prog_2_method_6_code (2 : Nat) (Option.some Jvm.ClassFile.FieldType.int)) ∈ lw_all := lw_g (lw_at lw_m6 229 rfl) rfl
theorem q1532 : (Jvm.Cond.methodLink "CoatHoles$AnyDoing" (32 : Nat) ({ cls := "CoatHoles$AnyDoing", name := "lays", desc := "(I)I" } : Jvm.MethodName)) ∈ lw_all := lw_g (lw_at lw_m6 230 rfl) rfl
theorem q1539 : (Jvm.Cond.publicMethod ({ cls := "CoatHoles$AnyDoing", name := "tells", desc := "(I)I" } : Jvm.MethodName)) ∈ lw_tbl := lw_at lw_m6 237 rfl
theorem q2141 : (Jvm.Cond.sameMethod "CoatHoles$AnyDoing" "CoatHoles$AnyDoing" "eats" "(I)I") ∈ lw_all := lw_g (lw_at lw_m9 119 rfl) rfl
theorem q2143 : (Jvm.Cond.sameMethod "CoatHoles$AnyDoing" "CoatHoles$AnyDoing" "lays" "(I)I") ∈ lw_all := lw_g (lw_at lw_m9 121 rfl) rfl
theorem q2147 : (Jvm.Cond.sameMethod "CoatHoles$AnyDoing" "CoatHoles$AnyDoing" "tells" "(I)I") ∈ lw_all := lw_g (lw_at lw_m9 125 rfl) rfl

/-! CoatHoles$ShakeDoing -/
set_option maxRecDepth 100000
def RX24 : String := "CoatHoles$ShakeDoing"
def TX24 : u_T := fun k => match k with
  | 0 => ("CoatHoles$AnyDoing", "number", "I", true)
  | 1 => ("CoatHoles$AnyDoing", "about", "I", true)
  | 2 => ("CoatHoles$AnyDoing", "this$0", "LCoatHoles;", true)
  | _ => ("CoatHoles$ShakeDoing", "this$0", "LCoatHoles;", true)
def tyX24 : Nat → FieldType := fun k => match k with
  | 0 => .int
  | 1 => .int
  | 2 => .object "CoatHoles"
  | _ => .object "CoatHoles"
abbrev wsX240 : List Cond := u_ws RX24 TX24 4
-- two fields of one name: no nmX24
theorem tyX24_ok : ∀ k, k < 4 → parseFieldDescriptor (TX24 k).2.2.1 = some (tyX24 k) := by decide +kernel
abbrev cX24_init : ByteArray := prog_23_method_1_code
def yX24_init : MethodName := ⟨RX24, "<init>", "(LCoatHoles;II)V"⟩
def dkwX24_init_0 : List UInt8 := [42, 43, 181, 0, 1, 42, 43, 28, 29, 183, 0, 7, 177]
abbrev dktX24_init_0 : List UInt8 := dkwX24_init_0 ++ []
theorem dksX24_init_0 : cX24_init.data.toList.drop 0 = dktX24_init_0 := by decide +kernel
theorem dX24_init_0 : decode cX24_init 0 = .ok (.aload_n 0, 1) := dk_42 (dk_at dksX24_init_0 0 rfl rfl)
theorem dX24_init_1 : decode cX24_init 1 = .ok (.aload_n 1, 1) := dk_43 (dk_at dksX24_init_0 1 rfl rfl)
theorem dX24_init_2 : decode cX24_init 2 = .ok (.putfield 1, 3) := dk_181 0 1 (dk_at dksX24_init_0 2 rfl rfl)
theorem dX24_init_5 : decode cX24_init 5 = .ok (.aload_n 0, 1) := dk_42 (dk_at dksX24_init_0 5 rfl rfl)
theorem dX24_init_6 : decode cX24_init 6 = .ok (.aload_n 1, 1) := dk_43 (dk_at dksX24_init_0 6 rfl rfl)
theorem dX24_init_7 : decode cX24_init 7 = .ok (.iload_n 2, 1) := dk_28 (dk_at dksX24_init_0 7 rfl rfl)
theorem dX24_init_8 : decode cX24_init 8 = .ok (.iload_n 3, 1) := dk_29 (dk_at dksX24_init_0 8 rfl rfl)
theorem dX24_init_9 : decode cX24_init 9 = .ok (.invokespecial 7, 3) := dk_183 0 7 (dk_at dksX24_init_0 9 rfl rfl)
theorem dX24_init_12 : decode cX24_init 12 = .ok (.return_, 1) := dk_177 (dk_at dksX24_init_0 12 rfl rfl)
abbrev cX24_eats : ByteArray := prog_23_method_2_code
def yX24_eats : MethodName := ⟨RX24, "eats", "(I)I"⟩
def dkwX24_eats_0 : List UInt8 := [42, 180, 0, 1, 16, 30, 182, 0, 13, 42, 27, 183, 0, 19, 6, 104, 172]
abbrev dktX24_eats_0 : List UInt8 := dkwX24_eats_0 ++ []
theorem dksX24_eats_0 : cX24_eats.data.toList.drop 0 = dktX24_eats_0 := by decide +kernel
theorem dX24_eats_0 : decode cX24_eats 0 = .ok (.aload_n 0, 1) := dk_42 (dk_at dksX24_eats_0 0 rfl rfl)
theorem dX24_eats_1 : decode cX24_eats 1 = .ok (.getfield 1, 3) := dk_180 0 1 (dk_at dksX24_eats_0 1 rfl rfl)
theorem dX24_eats_4 : decode cX24_eats 4 = .ok (.bipush 30, 2) := dk_16 30 (dk_at dksX24_eats_0 4 rfl rfl)
theorem dX24_eats_6 : decode cX24_eats 6 = .ok (.invokevirtual 13, 3) := dk_182 0 13 (dk_at dksX24_eats_0 6 rfl rfl)
theorem dX24_eats_9 : decode cX24_eats 9 = .ok (.aload_n 0, 1) := dk_42 (dk_at dksX24_eats_0 9 rfl rfl)
theorem dX24_eats_10 : decode cX24_eats 10 = .ok (.iload_n 1, 1) := dk_27 (dk_at dksX24_eats_0 10 rfl rfl)
theorem dX24_eats_11 : decode cX24_eats 11 = .ok (.invokespecial 19, 3) := dk_183 0 19 (dk_at dksX24_eats_0 11 rfl rfl)
theorem dX24_eats_14 : decode cX24_eats 14 = .ok (.iconst 3, 1) := dk_6 (dk_at dksX24_eats_0 14 rfl rfl)
theorem dX24_eats_15 : decode cX24_eats 15 = .ok (.imul, 1) := dk_104 (dk_at dksX24_eats_0 15 rfl rfl)
theorem dX24_eats_16 : decode cX24_eats 16 = .ok (.ireturn, 1) := dk_172 (dk_at dksX24_eats_0 16 rfl rfl)
abbrev cX24_tells : ByteArray := prog_23_method_3_code
def yX24_tells : MethodName := ⟨RX24, "tells", "(I)I"⟩
def dkwX24_tells_1 : List UInt8 := [96, 172]
abbrev dktX24_tells_1 : List UInt8 := dkwX24_tells_1 ++ []
def dkwX24_tells_0 : List UInt8 := [42, 180, 0, 1, 16, 31, 182, 0, 13, 42, 27, 183, 0, 23, 61, 28, 42, 42, 180, 0, 26, 182, 0, 30]
abbrev dktX24_tells_0 : List UInt8 := dkwX24_tells_0 ++ dktX24_tells_1
theorem dksX24_tells_0 : cX24_tells.data.toList.drop 0 = dktX24_tells_0 := by decide +kernel
theorem dksX24_tells_1 : cX24_tells.data.toList.drop 24 = dktX24_tells_1 := dk_seg dksX24_tells_0 24 rfl rfl
theorem dX24_tells_0 : decode cX24_tells 0 = .ok (.aload_n 0, 1) := dk_42 (dk_at dksX24_tells_0 0 rfl rfl)
theorem dX24_tells_1 : decode cX24_tells 1 = .ok (.getfield 1, 3) := dk_180 0 1 (dk_at dksX24_tells_0 1 rfl rfl)
theorem dX24_tells_4 : decode cX24_tells 4 = .ok (.bipush 31, 2) := dk_16 31 (dk_at dksX24_tells_0 4 rfl rfl)
theorem dX24_tells_6 : decode cX24_tells 6 = .ok (.invokevirtual 13, 3) := dk_182 0 13 (dk_at dksX24_tells_0 6 rfl rfl)
theorem dX24_tells_9 : decode cX24_tells 9 = .ok (.aload_n 0, 1) := dk_42 (dk_at dksX24_tells_0 9 rfl rfl)
theorem dX24_tells_10 : decode cX24_tells 10 = .ok (.iload_n 1, 1) := dk_27 (dk_at dksX24_tells_0 10 rfl rfl)
theorem dX24_tells_11 : decode cX24_tells 11 = .ok (.invokespecial 23, 3) := dk_183 0 23 (dk_at dksX24_tells_0 11 rfl rfl)
theorem dX24_tells_14 : decode cX24_tells 14 = .ok (.istore_n 2, 1) := dk_61 (dk_at dksX24_tells_0 14 rfl rfl)
theorem dX24_tells_15 : decode cX24_tells 15 = .ok (.iload_n 2, 1) := dk_28 (dk_at dksX24_tells_0 15 rfl rfl)
theorem dX24_tells_16 : decode cX24_tells 16 = .ok (.aload_n 0, 1) := dk_42 (dk_at dksX24_tells_0 16 rfl rfl)
theorem dX24_tells_17 : decode cX24_tells 17 = .ok (.aload_n 0, 1) := dk_42 (dk_at dksX24_tells_0 17 rfl rfl)
theorem dX24_tells_18 : decode cX24_tells 18 = .ok (.getfield 26, 3) := dk_180 0 26 (dk_at dksX24_tells_0 18 rfl rfl)
theorem dX24_tells_21 : decode cX24_tells 21 = .ok (.invokevirtual 30, 3) := dk_182 0 30 (dk_at dksX24_tells_0 21 rfl rfl)
theorem dX24_tells_24 : decode cX24_tells 24 = .ok (.iadd, 1) := dk_96 (dk_at dksX24_tells_1 0 rfl rfl)
theorem dX24_tells_25 : decode cX24_tells 25 = .ok (.ireturn, 1) := dk_172 (dk_at dksX24_tells_1 1 rfl rfl)
theorem q138 : (Jvm.Cond.initialized "CoatHoles$ShakeDoing") ∈ lw_all := lw_g (lw_at lw_m1 36 rfl) rfl
theorem q1252 : (Jvm.Cond.instanceMethod ({ cls := "CoatHoles$ShakeDoing", name := "<init>", desc := "(LCoatHoles;II)V" } : Jvm.MethodName)) ∈ lw_all := lw_g (lw_at lw_m5 190 rfl) rfl
theorem q1253 : (Jvm.Cond.code ({ cls := "CoatHoles$ShakeDoing", name := "<init>", desc := "(LCoatHoles;II)V" } : Jvm.MethodName) prog_23_method_1_code (4 : Nat) (Option.none : Option Jvm.ClassFile.FieldType)) ∈ lw_all := lw_g (lw_at lw_m5 191 rfl) rfl
theorem q1254 : (Jvm.Cond.methodLink "CoatHoles$ShakeDoing" (7 : Nat) ({ cls := "CoatHoles$AnyDoing", name := "<init>", desc := "(LCoatHoles;II)V" } : Jvm.MethodName)) ∈ lw_all := lw_g (lw_at lw_m5 192 rfl) rfl
theorem q1259 : (Jvm.Cond.fieldLink "CoatHoles$ShakeDoing" (1 : Nat) "CoatHoles$ShakeDoing" "this$0" "LCoatHoles;") ∈ lw_all := lw_g (lw_at lw_m5 197 rfl) rfl
theorem q1265 : (Jvm.Cond.fieldLink "CoatHoles$ShakeDoing" (26 : Nat) "CoatHoles$ShakeDoing" "number" "I") ∈ lw_all := lw_g (lw_at lw_m5 203 rfl) rfl
theorem q1266 : (Jvm.Cond.sameField "CoatHoles$ShakeDoing" "CoatHoles$AnyDoing" "number" "I") ∈ lw_all := lw_g (lw_at lw_m5 204 rfl) rfl
theorem q1276 : (Jvm.Cond.soleField "CoatHoles$ShakeDoing" "this$0") ∈ lw_all := lw_g (lw_at lw_m5 214 rfl) rfl
theorem q1321 : (Jvm.Cond.instantiable "CoatHoles$ShakeDoing" (4 : Nat)) ∈ lw_all := lw_g (lw_at lw_m6 19 rfl) rfl
theorem q1323 : (Jvm.Cond.laysFinal "CoatHoles$ShakeDoing" "CoatHoles$ShakeDoing" "this$0" "LCoatHoles;") ∈ lw_all := lw_g (lw_at lw_m6 21 rfl) rfl
theorem q1324 : (Jvm.Cond.laysFinal "CoatHoles$ShakeDoing" "CoatHoles$AnyDoing" "number" "I") ∈ lw_all := lw_g (lw_at lw_m6 22 rfl) rfl
theorem q1325 : (Jvm.Cond.laysFinal "CoatHoles$ShakeDoing" "CoatHoles$AnyDoing" "about" "I") ∈ lw_all := lw_g (lw_at lw_m6 23 rfl) rfl
theorem q1326 : (Jvm.Cond.laysFinal "CoatHoles$ShakeDoing" "CoatHoles$AnyDoing" "this$0" "LCoatHoles;") ∈ lw_all := lw_g (lw_at lw_m6 24 rfl) rfl
theorem q1327 : (Jvm.Cond.superclass "CoatHoles$ShakeDoing" "CoatHoles$AnyDoing") ∈ lw_all := lw_g (lw_at lw_m6 25 rfl) rfl
theorem q1355 : (Jvm.Cond.selects "CoatHoles$ShakeDoing" ({ cls := "CoatHoles$AnyDoing", name := "its", desc := "()I" } : Jvm.MethodName) ({ cls := "CoatHoles$AnyDoing", name := "its", desc := "()I" } : Jvm.MethodName)) ∈ lw_all := lw_g (lw_at lw_m6 53 rfl) rfl
theorem q1366 : (Jvm.Cond.sameMethod "CoatHoles$ShakeDoing" "CoatHoles$AnyDoing" "its" "()I") ∈ lw_all := lw_g (lw_at lw_m6 64 rfl) rfl
theorem q1368 : (Jvm.Cond.selects "CoatHoles$ShakeDoing" ({ cls := "CoatHoles$ShakeDoing", name := "its", desc := "()I" } : Jvm.MethodName) ({ cls := "CoatHoles$AnyDoing", name := "its", desc := "()I" } : Jvm.MethodName)) ∈ lw_all := lw_g (lw_at lw_m6 66 rfl) rfl
theorem q1413 : (Jvm.Cond.instanceMethod ({ cls := "CoatHoles$ShakeDoing", name := "eats", desc := "(I)I" } : Jvm.MethodName)) ∈ lw_all := lw_g (lw_at lw_m6 111 rfl) rfl
theorem q1414 : (Jvm.Cond.publicMethod ({ cls := "CoatHoles$ShakeDoing", name := "eats", desc := "(I)I" } : Jvm.MethodName)) ∈ lw_tbl := lw_at lw_m6 112 rfl
theorem q1415 : (Jvm.Cond.code ({ cls := "CoatHoles$ShakeDoing", name := "eats", desc := "(I)I" } : Jvm.MethodName) prog_23_method_2_code (2 : Nat) (Option.some Jvm.ClassFile.FieldType.int)) ∈ lw_all := lw_g (lw_at lw_m6 113 rfl) rfl
theorem q1416 : (Jvm.Cond.methodLinkNest "CoatHoles$ShakeDoing" (13 : Nat) ({ cls := "CoatHoles", name := "ran", desc := "(I)V" } : Jvm.MethodName) "CoatHoles") ∈ lw_tbl := lw_at lw_m6 114 rfl
theorem q1420 : (Jvm.Cond.methodLink "CoatHoles$ShakeDoing" (19 : Nat) ({ cls := "CoatHoles$AnyDoing", name := "eats", desc := "(I)I" } : Jvm.MethodName)) ∈ lw_all := lw_g (lw_at lw_m6 118 rfl) rfl
theorem q1438 : (Jvm.Cond.castable "CoatHoles$ShakeDoing" "CoatHoles$Tells") ∈ lw_tbl := lw_at lw_m6 136 rfl
theorem q1439 : (Jvm.Cond.selects "CoatHoles$ShakeDoing" ({ cls := "CoatHoles$EatsAct", name := "eats", desc := "(I)I" } : Jvm.MethodName) ({ cls := "CoatHoles$ShakeDoing", name := "eats", desc := "(I)I" } : Jvm.MethodName)) ∈ lw_all := lw_g (lw_at lw_m6 137 rfl) rfl
theorem q1440 : (Jvm.Cond.unhidden "CoatHoles$ShakeDoing" "eats" "(I)I") ∈ lw_tbl := lw_at lw_m6 138 rfl
theorem q1466 : (Jvm.Cond.castable "CoatHoles$ShakeDoing" "CoatHoles$EatsAct") ∈ lw_tbl := lw_at lw_m6 164 rfl
theorem q1482 : (Jvm.Cond.selects "CoatHoles$ShakeDoing" ({ cls := "CoatHoles$EatsAct", name := "lays", desc := "(I)I" } : Jvm.MethodName) ({ cls := "CoatHoles$AnyDoing", name := "lays", desc := "(I)I" } : Jvm.MethodName)) ∈ lw_all := lw_g (lw_at lw_m6 180 rfl) rfl
theorem q1483 : (Jvm.Cond.unhidden "CoatHoles$ShakeDoing" "lays" "(I)I") ∈ lw_tbl := lw_at lw_m6 181 rfl
theorem q1496 : (Jvm.Cond.sameMethod "CoatHoles$ShakeDoing" "CoatHoles$AnyDoing" "shares" "(I)I") ∈ lw_all := lw_g (lw_at lw_m6 194 rfl) rfl
theorem q1502 : (Jvm.Cond.declares ({ cls := "CoatHoles$ShakeDoing", name := "eats", desc := "(I)I" } : Jvm.MethodName)) ∈ lw_tbl := lw_at lw_m6 200 rfl
theorem q1509 : (Jvm.Cond.selects "CoatHoles$ShakeDoing" ({ cls := "CoatHoles$SharesAct", name := "shares", desc := "(I)I" } : Jvm.MethodName) ({ cls := "CoatHoles$AnyDoing", name := "shares", desc := "(I)I" } : Jvm.MethodName)) ∈ lw_all := lw_g (lw_at lw_m6 207 rfl) rfl
theorem q1510 : (Jvm.Cond.unhidden "CoatHoles$ShakeDoing" "shares" "(I)I") ∈ lw_tbl := lw_at lw_m6 208 rfl
theorem q1527 : (Jvm.Cond.instanceMethod ({ cls := "CoatHoles$ShakeDoing", name := "tells", desc := "(I)I" } : Jvm.MethodName)) ∈ lw_all := lw_g (lw_at lw_m6 225 rfl) rfl
theorem q1528 : (Jvm.Cond.code ({ cls := "CoatHoles$ShakeDoing", name := "tells", desc := "(I)I" } : Jvm.MethodName) prog_23_method_3_code (3 : Nat) (Option.some Jvm.ClassFile.FieldType.int)) ∈ lw_all := lw_g (lw_at lw_m6 226 rfl) rfl
theorem q1529 : (Jvm.Cond.methodLink "CoatHoles$ShakeDoing" (23 : Nat) ({ cls := "CoatHoles$AnyDoing", name := "tells", desc := "(I)I" } : Jvm.MethodName)) ∈ lw_all := lw_g (lw_at lw_m6 227 rfl) rfl
theorem q1533 : (Jvm.Cond.methodLink "CoatHoles$ShakeDoing" (30 : Nat) ({ cls := "CoatHoles$ShakeDoing", name := "shares", desc := "(I)I" } : Jvm.MethodName)) ∈ lw_all := lw_g (lw_at lw_m6 231 rfl) rfl
theorem q1535 : (Jvm.Cond.selects "CoatHoles$ShakeDoing" ({ cls := "CoatHoles$ShakeDoing", name := "shares", desc := "(I)I" } : Jvm.MethodName) ({ cls := "CoatHoles$AnyDoing", name := "shares", desc := "(I)I" } : Jvm.MethodName)) ∈ lw_all := lw_g (lw_at lw_m6 233 rfl) rfl
theorem q1542 : (Jvm.Cond.selects "CoatHoles$ShakeDoing" ({ cls := "CoatHoles$Tells", name := "tells", desc := "(I)I" } : Jvm.MethodName) ({ cls := "CoatHoles$ShakeDoing", name := "tells", desc := "(I)I" } : Jvm.MethodName)) ∈ lw_all := lw_g (lw_at lw_m7 0 rfl) rfl
theorem q1543 : (Jvm.Cond.unhidden "CoatHoles$ShakeDoing" "tells" "(I)I") ∈ lw_tbl := lw_at lw_m7 1 rfl
theorem q1544 : (Jvm.Cond.publicMethod ({ cls := "CoatHoles$ShakeDoing", name := "tells", desc := "(I)I" } : Jvm.MethodName)) ∈ lw_tbl := lw_at lw_m7 2 rfl
theorem q2142 : (Jvm.Cond.sameMethod "CoatHoles$ShakeDoing" "CoatHoles$ShakeDoing" "eats" "(I)I") ∈ lw_all := lw_g (lw_at lw_m9 120 rfl) rfl
theorem q2146 : (Jvm.Cond.sameMethod "CoatHoles$ShakeDoing" "CoatHoles$ShakeDoing" "tells" "(I)I") ∈ lw_all := lw_g (lw_at lw_m9 124 rfl) rfl
theorem q2151 : (Jvm.Cond.selects "CoatHoles$ShakeDoing" ({ cls := "CoatHoles$AnyDoing", name := "lays", desc := "(I)I" } : Jvm.MethodName) ({ cls := "CoatHoles$AnyDoing", name := "lays", desc := "(I)I" } : Jvm.MethodName)) ∈ lw_all := lw_g (lw_at lw_m9 129 rfl) rfl
theorem q2156 : (Jvm.Cond.castable "CoatHoles$ShakeDoing" "CoatHoles$AnyDoing") ∈ lw_tbl := lw_at lw_m9 134 rfl
theorem in_X24 : ∀ w ∈ wsX240, w ∈ lw_all := lw_in wsX240 [1324, 1325, 1326, 1323] (by decide +kernel) (by decide +kernel)

/-! CoatHoles$BeatDoing -/
set_option maxRecDepth 100000
def RX25 : String := "CoatHoles$BeatDoing"
def TX25 : u_T := fun k => match k with
  | 0 => ("CoatHoles$AnyDoing", "number", "I", true)
  | 1 => ("CoatHoles$AnyDoing", "about", "I", true)
  | 2 => ("CoatHoles$AnyDoing", "this$0", "LCoatHoles;", true)
  | 3 => ("CoatHoles$ShakeDoing", "this$0", "LCoatHoles;", true)
  | _ => ("CoatHoles$BeatDoing", "this$0", "LCoatHoles;", true)
def tyX25 : Nat → FieldType := fun k => match k with
  | 0 => .int
  | 1 => .int
  | 2 => .object "CoatHoles"
  | 3 => .object "CoatHoles"
  | _ => .object "CoatHoles"
abbrev wsX250 : List Cond := u_ws RX25 TX25 5
-- two fields of one name: no nmX25
theorem tyX25_ok : ∀ k, k < 5 → parseFieldDescriptor (TX25 k).2.2.1 = some (tyX25 k) := by decide +kernel
abbrev cX25_init : ByteArray := prog_4_method_1_code
def yX25_init : MethodName := ⟨RX25, "<init>", "(LCoatHoles;II)V"⟩
def dkwX25_init_0 : List UInt8 := [42, 43, 181, 0, 1, 42, 43, 28, 29, 183, 0, 7, 177]
abbrev dktX25_init_0 : List UInt8 := dkwX25_init_0 ++ []
theorem dksX25_init_0 : cX25_init.data.toList.drop 0 = dktX25_init_0 := by decide +kernel
theorem dX25_init_0 : decode cX25_init 0 = .ok (.aload_n 0, 1) := dk_42 (dk_at dksX25_init_0 0 rfl rfl)
theorem dX25_init_1 : decode cX25_init 1 = .ok (.aload_n 1, 1) := dk_43 (dk_at dksX25_init_0 1 rfl rfl)
theorem dX25_init_2 : decode cX25_init 2 = .ok (.putfield 1, 3) := dk_181 0 1 (dk_at dksX25_init_0 2 rfl rfl)
theorem dX25_init_5 : decode cX25_init 5 = .ok (.aload_n 0, 1) := dk_42 (dk_at dksX25_init_0 5 rfl rfl)
theorem dX25_init_6 : decode cX25_init 6 = .ok (.aload_n 1, 1) := dk_43 (dk_at dksX25_init_0 6 rfl rfl)
theorem dX25_init_7 : decode cX25_init 7 = .ok (.iload_n 2, 1) := dk_28 (dk_at dksX25_init_0 7 rfl rfl)
theorem dX25_init_8 : decode cX25_init 8 = .ok (.iload_n 3, 1) := dk_29 (dk_at dksX25_init_0 8 rfl rfl)
theorem dX25_init_9 : decode cX25_init 9 = .ok (.invokespecial 7, 3) := dk_183 0 7 (dk_at dksX25_init_0 9 rfl rfl)
theorem dX25_init_12 : decode cX25_init 12 = .ok (.return_, 1) := dk_177 (dk_at dksX25_init_0 12 rfl rfl)
abbrev cX25_shares : ByteArray := prog_4_method_3_code
def yX25_shares : MethodName := ⟨RX25, "shares", "(I)I"⟩
def dkwX25_shares_1 : List UInt8 := [96, 172]
abbrev dktX25_shares_1 : List UInt8 := dkwX25_shares_1 ++ []
def dkwX25_shares_0 : List UInt8 := [42, 180, 0, 1, 16, 61, 182, 0, 13, 42, 27, 183, 0, 23, 61, 28, 42, 42, 180, 0, 26, 182, 0, 30]
abbrev dktX25_shares_0 : List UInt8 := dkwX25_shares_0 ++ dktX25_shares_1
theorem dksX25_shares_0 : cX25_shares.data.toList.drop 0 = dktX25_shares_0 := by decide +kernel
theorem dksX25_shares_1 : cX25_shares.data.toList.drop 24 = dktX25_shares_1 := dk_seg dksX25_shares_0 24 rfl rfl
theorem dX25_shares_0 : decode cX25_shares 0 = .ok (.aload_n 0, 1) := dk_42 (dk_at dksX25_shares_0 0 rfl rfl)
theorem dX25_shares_1 : decode cX25_shares 1 = .ok (.getfield 1, 3) := dk_180 0 1 (dk_at dksX25_shares_0 1 rfl rfl)
theorem dX25_shares_4 : decode cX25_shares 4 = .ok (.bipush 61, 2) := dk_16 61 (dk_at dksX25_shares_0 4 rfl rfl)
theorem dX25_shares_6 : decode cX25_shares 6 = .ok (.invokevirtual 13, 3) := dk_182 0 13 (dk_at dksX25_shares_0 6 rfl rfl)
theorem dX25_shares_9 : decode cX25_shares 9 = .ok (.aload_n 0, 1) := dk_42 (dk_at dksX25_shares_0 9 rfl rfl)
theorem dX25_shares_10 : decode cX25_shares 10 = .ok (.iload_n 1, 1) := dk_27 (dk_at dksX25_shares_0 10 rfl rfl)
theorem dX25_shares_11 : decode cX25_shares 11 = .ok (.invokespecial 23, 3) := dk_183 0 23 (dk_at dksX25_shares_0 11 rfl rfl)
theorem dX25_shares_14 : decode cX25_shares 14 = .ok (.istore_n 2, 1) := dk_61 (dk_at dksX25_shares_0 14 rfl rfl)
theorem dX25_shares_15 : decode cX25_shares 15 = .ok (.iload_n 2, 1) := dk_28 (dk_at dksX25_shares_0 15 rfl rfl)
theorem dX25_shares_16 : decode cX25_shares 16 = .ok (.aload_n 0, 1) := dk_42 (dk_at dksX25_shares_0 16 rfl rfl)
theorem dX25_shares_17 : decode cX25_shares 17 = .ok (.aload_n 0, 1) := dk_42 (dk_at dksX25_shares_0 17 rfl rfl)
theorem dX25_shares_18 : decode cX25_shares 18 = .ok (.getfield 26, 3) := dk_180 0 26 (dk_at dksX25_shares_0 18 rfl rfl)
theorem dX25_shares_21 : decode cX25_shares 21 = .ok (.invokevirtual 30, 3) := dk_182 0 30 (dk_at dksX25_shares_0 21 rfl rfl)
theorem dX25_shares_24 : decode cX25_shares 24 = .ok (.iadd, 1) := dk_96 (dk_at dksX25_shares_1 0 rfl rfl)
theorem dX25_shares_25 : decode cX25_shares 25 = .ok (.ireturn, 1) := dk_172 (dk_at dksX25_shares_1 1 rfl rfl)
abbrev cX25_tells : ByteArray := prog_4_method_2_code
def yX25_tells : MethodName := ⟨RX25, "tells", "(I)I"⟩
def dkwX25_tells_0 : List UInt8 := [42, 180, 0, 1, 16, 60, 182, 0, 13, 42, 27, 183, 0, 19, 5, 104, 172]
abbrev dktX25_tells_0 : List UInt8 := dkwX25_tells_0 ++ []
theorem dksX25_tells_0 : cX25_tells.data.toList.drop 0 = dktX25_tells_0 := by decide +kernel
theorem dX25_tells_0 : decode cX25_tells 0 = .ok (.aload_n 0, 1) := dk_42 (dk_at dksX25_tells_0 0 rfl rfl)
theorem dX25_tells_1 : decode cX25_tells 1 = .ok (.getfield 1, 3) := dk_180 0 1 (dk_at dksX25_tells_0 1 rfl rfl)
theorem dX25_tells_4 : decode cX25_tells 4 = .ok (.bipush 60, 2) := dk_16 60 (dk_at dksX25_tells_0 4 rfl rfl)
theorem dX25_tells_6 : decode cX25_tells 6 = .ok (.invokevirtual 13, 3) := dk_182 0 13 (dk_at dksX25_tells_0 6 rfl rfl)
theorem dX25_tells_9 : decode cX25_tells 9 = .ok (.aload_n 0, 1) := dk_42 (dk_at dksX25_tells_0 9 rfl rfl)
theorem dX25_tells_10 : decode cX25_tells 10 = .ok (.iload_n 1, 1) := dk_27 (dk_at dksX25_tells_0 10 rfl rfl)
theorem dX25_tells_11 : decode cX25_tells 11 = .ok (.invokespecial 19, 3) := dk_183 0 19 (dk_at dksX25_tells_0 11 rfl rfl)
theorem dX25_tells_14 : decode cX25_tells 14 = .ok (.iconst 2, 1) := dk_5 (dk_at dksX25_tells_0 14 rfl rfl)
theorem dX25_tells_15 : decode cX25_tells 15 = .ok (.imul, 1) := dk_104 (dk_at dksX25_tells_0 15 rfl rfl)
theorem dX25_tells_16 : decode cX25_tells 16 = .ok (.ireturn, 1) := dk_172 (dk_at dksX25_tells_0 16 rfl rfl)
theorem q139 : (Jvm.Cond.initialized "CoatHoles$BeatDoing") ∈ lw_all := lw_g (lw_at lw_m1 37 rfl) rfl
theorem q1247 : (Jvm.Cond.instantiable "CoatHoles$BeatDoing" (5 : Nat)) ∈ lw_all := lw_g (lw_at lw_m5 185 rfl) rfl
theorem q1249 : (Jvm.Cond.instanceMethod ({ cls := "CoatHoles$BeatDoing", name := "<init>", desc := "(LCoatHoles;II)V" } : Jvm.MethodName)) ∈ lw_all := lw_g (lw_at lw_m5 187 rfl) rfl
theorem q1250 : (Jvm.Cond.code ({ cls := "CoatHoles$BeatDoing", name := "<init>", desc := "(LCoatHoles;II)V" } : Jvm.MethodName) prog_4_method_1_code (4 : Nat) (Option.none : Option Jvm.ClassFile.FieldType)) ∈ lw_all := lw_g (lw_at lw_m5 188 rfl) rfl
theorem q1251 : (Jvm.Cond.methodLink "CoatHoles$BeatDoing" (7 : Nat) ({ cls := "CoatHoles$ShakeDoing", name := "<init>", desc := "(LCoatHoles;II)V" } : Jvm.MethodName)) ∈ lw_all := lw_g (lw_at lw_m5 189 rfl) rfl
theorem q1258 : (Jvm.Cond.fieldLink "CoatHoles$BeatDoing" (1 : Nat) "CoatHoles$BeatDoing" "this$0" "LCoatHoles;") ∈ lw_all := lw_g (lw_at lw_m5 196 rfl) rfl
theorem q1270 : (Jvm.Cond.fieldLink "CoatHoles$BeatDoing" (26 : Nat) "CoatHoles$BeatDoing" "about" "I") ∈ lw_all := lw_g (lw_at lw_m5 208 rfl) rfl
theorem q1271 : (Jvm.Cond.sameField "CoatHoles$BeatDoing" "CoatHoles$AnyDoing" "about" "I") ∈ lw_all := lw_g (lw_at lw_m5 209 rfl) rfl
theorem q1273 : (Jvm.Cond.laysFinal "CoatHoles$BeatDoing" "CoatHoles$BeatDoing" "this$0" "LCoatHoles;") ∈ lw_all := lw_g (lw_at lw_m5 211 rfl) rfl
theorem q1274 : (Jvm.Cond.soleField "CoatHoles$BeatDoing" "this$0") ∈ lw_all := lw_g (lw_at lw_m5 212 rfl) rfl
theorem q1275 : (Jvm.Cond.laysFinal "CoatHoles$BeatDoing" "CoatHoles$ShakeDoing" "this$0" "LCoatHoles;") ∈ lw_all := lw_g (lw_at lw_m5 213 rfl) rfl
theorem q1277 : (Jvm.Cond.laysFinal "CoatHoles$BeatDoing" "CoatHoles$AnyDoing" "number" "I") ∈ lw_all := lw_g (lw_at lw_m5 215 rfl) rfl
theorem q1279 : (Jvm.Cond.laysFinal "CoatHoles$BeatDoing" "CoatHoles$AnyDoing" "about" "I") ∈ lw_all := lw_g (lw_at lw_m5 217 rfl) rfl
theorem q1281 : (Jvm.Cond.laysFinal "CoatHoles$BeatDoing" "CoatHoles$AnyDoing" "this$0" "LCoatHoles;") ∈ lw_all := lw_g (lw_at lw_m5 219 rfl) rfl
theorem q1283 : (Jvm.Cond.superclass "CoatHoles$BeatDoing" "CoatHoles$ShakeDoing") ∈ lw_all := lw_g (lw_at lw_m5 221 rfl) rfl
theorem q1352 : (Jvm.Cond.selects "CoatHoles$BeatDoing" ({ cls := "CoatHoles$AnyDoing", name := "its", desc := "()I" } : Jvm.MethodName) ({ cls := "CoatHoles$AnyDoing", name := "its", desc := "()I" } : Jvm.MethodName)) ∈ lw_all := lw_g (lw_at lw_m6 50 rfl) rfl
theorem q1367 : (Jvm.Cond.selects "CoatHoles$BeatDoing" ({ cls := "CoatHoles$ShakeDoing", name := "its", desc := "()I" } : Jvm.MethodName) ({ cls := "CoatHoles$AnyDoing", name := "its", desc := "()I" } : Jvm.MethodName)) ∈ lw_all := lw_g (lw_at lw_m6 65 rfl) rfl
theorem q1380 : (Jvm.Cond.sameMethod "CoatHoles$BeatDoing" "CoatHoles$AnyDoing" "its" "()I") ∈ lw_all := lw_g (lw_at lw_m6 78 rfl) rfl
theorem q1381 : (Jvm.Cond.selects "CoatHoles$BeatDoing" ({ cls := "CoatHoles$BeatDoing", name := "its", desc := "()I" } : Jvm.MethodName) ({ cls := "CoatHoles$AnyDoing", name := "its", desc := "()I" } : Jvm.MethodName)) ∈ lw_all := lw_g (lw_at lw_m6 79 rfl) rfl
theorem q1410 : (Jvm.Cond.castable "CoatHoles$BeatDoing" "CoatHoles$Tells") ∈ lw_tbl := lw_at lw_m6 108 rfl
theorem q1411 : (Jvm.Cond.selects "CoatHoles$BeatDoing" ({ cls := "CoatHoles$EatsAct", name := "eats", desc := "(I)I" } : Jvm.MethodName) ({ cls := "CoatHoles$ShakeDoing", name := "eats", desc := "(I)I" } : Jvm.MethodName)) ∈ lw_all := lw_g (lw_at lw_m6 109 rfl) rfl
theorem q1412 : (Jvm.Cond.unhidden "CoatHoles$BeatDoing" "eats" "(I)I") ∈ lw_tbl := lw_at lw_m6 110 rfl
theorem q1452 : (Jvm.Cond.selects "CoatHoles$BeatDoing" ({ cls := "CoatHoles$EatsAct", name := "lays", desc := "(I)I" } : Jvm.MethodName) ({ cls := "CoatHoles$AnyDoing", name := "lays", desc := "(I)I" } : Jvm.MethodName)) ∈ lw_all := lw_g (lw_at lw_m6 150 rfl) rfl
theorem q1453 : (Jvm.Cond.unhidden "CoatHoles$BeatDoing" "lays" "(I)I") ∈ lw_tbl := lw_at lw_m6 151 rfl
theorem q1463 : (Jvm.Cond.castable "CoatHoles$BeatDoing" "CoatHoles$EatsAct") ∈ lw_tbl := lw_at lw_m6 161 rfl
theorem q1489 : (Jvm.Cond.selects "CoatHoles$BeatDoing" ({ cls := "CoatHoles$SharesAct", name := "shares", desc := "(I)I" } : Jvm.MethodName) ({ cls := "CoatHoles$BeatDoing", name := "shares", desc := "(I)I" } : Jvm.MethodName)) ∈ lw_all := lw_g (lw_at lw_m6 187 rfl) rfl
theorem q1490 : (Jvm.Cond.unhidden "CoatHoles$BeatDoing" "shares" "(I)I") ∈ lw_tbl := lw_at lw_m6 188 rfl
theorem q1491 : (Jvm.Cond.instanceMethod ({ cls := "CoatHoles$BeatDoing", name := "shares", desc := "(I)I" } : Jvm.MethodName)) ∈ lw_all := lw_g (lw_at lw_m6 189 rfl) rfl
theorem q1492 : (Jvm.Cond.publicMethod ({ cls := "CoatHoles$BeatDoing", name := "shares", desc := "(I)I" } : Jvm.MethodName)) ∈ lw_tbl := lw_at lw_m6 190 rfl
theorem q1493 : (Jvm.Cond.code ({ cls := "CoatHoles$BeatDoing", name := "shares", desc := "(I)I" } : Jvm.MethodName) prog_4_method_3_code (3 : Nat) (Option.some Jvm.ClassFile.FieldType.int)) ∈ lw_all := lw_g (lw_at lw_m6 191 rfl) rfl
theorem q1494 : (Jvm.Cond.methodLinkNest "CoatHoles$BeatDoing" (13 : Nat) ({ cls := "CoatHoles", name := "ran", desc := "(I)V" } : Jvm.MethodName) "CoatHoles") ∈ lw_tbl := lw_at lw_m6 192 rfl
theorem q1495 : (Jvm.Cond.methodLink "CoatHoles$BeatDoing" (23 : Nat) ({ cls := "CoatHoles$ShakeDoing", name := "shares", desc := "(I)I" } : Jvm.MethodName)) ∈ lw_all := lw_g (lw_at lw_m6 193 rfl) rfl
theorem q1500 : (Jvm.Cond.methodLink "CoatHoles$BeatDoing" (30 : Nat) ({ cls := "CoatHoles$BeatDoing", name := "eats", desc := "(I)I" } : Jvm.MethodName)) ∈ lw_all := lw_g (lw_at lw_m6 198 rfl) rfl
theorem q1501 : (Jvm.Cond.sameMethod "CoatHoles$BeatDoing" "CoatHoles$ShakeDoing" "eats" "(I)I") ∈ lw_all := lw_g (lw_at lw_m6 199 rfl) rfl
theorem q1503 : (Jvm.Cond.selects "CoatHoles$BeatDoing" ({ cls := "CoatHoles$BeatDoing", name := "eats", desc := "(I)I" } : Jvm.MethodName) ({ cls := "CoatHoles$ShakeDoing", name := "eats", desc := "(I)I" } : Jvm.MethodName)) ∈ lw_all := lw_g (lw_at lw_m6 201 rfl) rfl
theorem q1521 : (Jvm.Cond.selects "CoatHoles$BeatDoing" ({ cls := "CoatHoles$Tells", name := "tells", desc := "(I)I" } : Jvm.MethodName) ({ cls := "CoatHoles$BeatDoing", name := "tells", desc := "(I)I" } : Jvm.MethodName)) ∈ lw_all := lw_g (lw_at lw_m6 219 rfl) rfl
theorem q1522 : (Jvm.Cond.unhidden "CoatHoles$BeatDoing" "tells" "(I)I") ∈ lw_tbl := lw_at lw_m6 220 rfl
theorem q1523 : (Jvm.Cond.instanceMethod ({ cls := "CoatHoles$BeatDoing", name := "tells", desc := "(I)I" } : Jvm.MethodName)) ∈ lw_all := lw_g (lw_at lw_m6 221 rfl) rfl
theorem q1524 : (Jvm.Cond.publicMethod ({ cls := "CoatHoles$BeatDoing", name := "tells", desc := "(I)I" } : Jvm.MethodName)) ∈ lw_tbl := lw_at lw_m6 222 rfl
theorem q1525 : (Jvm.Cond.code ({ cls := "CoatHoles$BeatDoing", name := "tells", desc := "(I)I" } : Jvm.MethodName) prog_4_method_2_code (2 : Nat) (Option.some Jvm.ClassFile.FieldType.int)) ∈ lw_all := lw_g (lw_at lw_m6 223 rfl) rfl
theorem q1526 : (Jvm.Cond.methodLink "CoatHoles$BeatDoing" (19 : Nat) ({ cls := "CoatHoles$ShakeDoing", name := "tells", desc := "(I)I" } : Jvm.MethodName)) ∈ lw_all := lw_g (lw_at lw_m6 224 rfl) rfl
theorem q1534 : (Jvm.Cond.selects "CoatHoles$BeatDoing" ({ cls := "CoatHoles$ShakeDoing", name := "shares", desc := "(I)I" } : Jvm.MethodName) ({ cls := "CoatHoles$BeatDoing", name := "shares", desc := "(I)I" } : Jvm.MethodName)) ∈ lw_all := lw_g (lw_at lw_m6 232 rfl) rfl
theorem q2148 : (Jvm.Cond.selects "CoatHoles$BeatDoing" ({ cls := "CoatHoles$AnyDoing", name := "lays", desc := "(I)I" } : Jvm.MethodName) ({ cls := "CoatHoles$AnyDoing", name := "lays", desc := "(I)I" } : Jvm.MethodName)) ∈ lw_all := lw_g (lw_at lw_m9 126 rfl) rfl
theorem q2153 : (Jvm.Cond.castable "CoatHoles$BeatDoing" "CoatHoles$AnyDoing") ∈ lw_tbl := lw_at lw_m9 131 rfl
theorem q2159 : (Jvm.Cond.castable "CoatHoles$BeatDoing" "CoatHoles$ShakeDoing") ∈ lw_tbl := lw_at lw_m9 137 rfl
theorem in_X25 : ∀ w ∈ wsX250, w ∈ lw_all := lw_in wsX250 [1277, 1279, 1281, 1275, 1273] (by decide +kernel) (by decide +kernel)

/-! CoatHoles$ColdDoing -/
set_option maxRecDepth 100000
def RX26 : String := "CoatHoles$ColdDoing"
def TX26 : u_T := fun k => match k with
  | 0 => ("CoatHoles$AnyDoing", "number", "I", true)
  | 1 => ("CoatHoles$AnyDoing", "about", "I", true)
  | 2 => ("CoatHoles$AnyDoing", "this$0", "LCoatHoles;", true)
  | _ => ("CoatHoles$ColdDoing", "this$0", "LCoatHoles;", true)
def tyX26 : Nat → FieldType := fun k => match k with
  | 0 => .int
  | 1 => .int
  | 2 => .object "CoatHoles"
  | _ => .object "CoatHoles"
abbrev wsX260 : List Cond := u_ws RX26 TX26 4
-- two fields of one name: no nmX26
theorem tyX26_ok : ∀ k, k < 4 → parseFieldDescriptor (TX26 k).2.2.1 = some (tyX26 k) := by decide +kernel
abbrev cX26_init : ByteArray := prog_8_method_1_code
def yX26_init : MethodName := ⟨RX26, "<init>", "(LCoatHoles;II)V"⟩
def dkwX26_init_0 : List UInt8 := [42, 43, 181, 0, 1, 42, 43, 28, 29, 183, 0, 7, 177]
abbrev dktX26_init_0 : List UInt8 := dkwX26_init_0 ++ []
theorem dksX26_init_0 : cX26_init.data.toList.drop 0 = dktX26_init_0 := by decide +kernel
theorem dX26_init_0 : decode cX26_init 0 = .ok (.aload_n 0, 1) := dk_42 (dk_at dksX26_init_0 0 rfl rfl)
theorem dX26_init_1 : decode cX26_init 1 = .ok (.aload_n 1, 1) := dk_43 (dk_at dksX26_init_0 1 rfl rfl)
theorem dX26_init_2 : decode cX26_init 2 = .ok (.putfield 1, 3) := dk_181 0 1 (dk_at dksX26_init_0 2 rfl rfl)
theorem dX26_init_5 : decode cX26_init 5 = .ok (.aload_n 0, 1) := dk_42 (dk_at dksX26_init_0 5 rfl rfl)
theorem dX26_init_6 : decode cX26_init 6 = .ok (.aload_n 1, 1) := dk_43 (dk_at dksX26_init_0 6 rfl rfl)
theorem dX26_init_7 : decode cX26_init 7 = .ok (.iload_n 2, 1) := dk_28 (dk_at dksX26_init_0 7 rfl rfl)
theorem dX26_init_8 : decode cX26_init 8 = .ok (.iload_n 3, 1) := dk_29 (dk_at dksX26_init_0 8 rfl rfl)
theorem dX26_init_9 : decode cX26_init 9 = .ok (.invokespecial 7, 3) := dk_183 0 7 (dk_at dksX26_init_0 9 rfl rfl)
theorem dX26_init_12 : decode cX26_init 12 = .ok (.return_, 1) := dk_177 (dk_at dksX26_init_0 12 rfl rfl)
abbrev cX26_lays : ByteArray := prog_8_method_2_code
def yX26_lays : MethodName := ⟨RX26, "lays", "(I)I"⟩
def dkwX26_lays_0 : List UInt8 := [42, 180, 0, 1, 16, 20, 182, 0, 13, 42, 27, 183, 0, 19, 42, 180, 0, 23, 100, 172]
abbrev dktX26_lays_0 : List UInt8 := dkwX26_lays_0 ++ []
theorem dksX26_lays_0 : cX26_lays.data.toList.drop 0 = dktX26_lays_0 := by decide +kernel
theorem dX26_lays_0 : decode cX26_lays 0 = .ok (.aload_n 0, 1) := dk_42 (dk_at dksX26_lays_0 0 rfl rfl)
theorem dX26_lays_1 : decode cX26_lays 1 = .ok (.getfield 1, 3) := dk_180 0 1 (dk_at dksX26_lays_0 1 rfl rfl)
theorem dX26_lays_4 : decode cX26_lays 4 = .ok (.bipush 20, 2) := dk_16 20 (dk_at dksX26_lays_0 4 rfl rfl)
theorem dX26_lays_6 : decode cX26_lays 6 = .ok (.invokevirtual 13, 3) := dk_182 0 13 (dk_at dksX26_lays_0 6 rfl rfl)
theorem dX26_lays_9 : decode cX26_lays 9 = .ok (.aload_n 0, 1) := dk_42 (dk_at dksX26_lays_0 9 rfl rfl)
theorem dX26_lays_10 : decode cX26_lays 10 = .ok (.iload_n 1, 1) := dk_27 (dk_at dksX26_lays_0 10 rfl rfl)
theorem dX26_lays_11 : decode cX26_lays 11 = .ok (.invokespecial 19, 3) := dk_183 0 19 (dk_at dksX26_lays_0 11 rfl rfl)
theorem dX26_lays_14 : decode cX26_lays 14 = .ok (.aload_n 0, 1) := dk_42 (dk_at dksX26_lays_0 14 rfl rfl)
theorem dX26_lays_15 : decode cX26_lays 15 = .ok (.getfield 23, 3) := dk_180 0 23 (dk_at dksX26_lays_0 15 rfl rfl)
theorem dX26_lays_18 : decode cX26_lays 18 = .ok (.isub, 1) := dk_100 (dk_at dksX26_lays_0 18 rfl rfl)
theorem dX26_lays_19 : decode cX26_lays 19 = .ok (.ireturn, 1) := dk_172 (dk_at dksX26_lays_0 19 rfl rfl)
theorem q140 : (Jvm.Cond.initialized "CoatHoles$ColdDoing") ∈ lw_all := lw_g (lw_at lw_m1 38 rfl) rfl
theorem q1268 : (Jvm.Cond.fieldLink "CoatHoles$ColdDoing" (23 : Nat) "CoatHoles$ColdDoing" "about" "I") ∈ lw_all := lw_g (lw_at lw_m5 206 rfl) rfl
theorem q1269 : (Jvm.Cond.sameField "CoatHoles$ColdDoing" "CoatHoles$AnyDoing" "about" "I") ∈ lw_all := lw_g (lw_at lw_m5 207 rfl) rfl
theorem q1288 : (Jvm.Cond.instantiable "CoatHoles$ColdDoing" (4 : Nat)) ∈ lw_all := lw_g (lw_at lw_m5 226 rfl) rfl
theorem q1290 : (Jvm.Cond.instanceMethod ({ cls := "CoatHoles$ColdDoing", name := "<init>", desc := "(LCoatHoles;II)V" } : Jvm.MethodName)) ∈ lw_all := lw_g (lw_at lw_m5 228 rfl) rfl
theorem q1291 : (Jvm.Cond.code ({ cls := "CoatHoles$ColdDoing", name := "<init>", desc := "(LCoatHoles;II)V" } : Jvm.MethodName) prog_8_method_1_code (4 : Nat) (Option.none : Option Jvm.ClassFile.FieldType)) ∈ lw_all := lw_g (lw_at lw_m5 229 rfl) rfl
theorem q1292 : (Jvm.Cond.methodLink "CoatHoles$ColdDoing" (7 : Nat) ({ cls := "CoatHoles$AnyDoing", name := "<init>", desc := "(LCoatHoles;II)V" } : Jvm.MethodName)) ∈ lw_all := lw_g (lw_at lw_m5 230 rfl) rfl
theorem q1293 : (Jvm.Cond.fieldLink "CoatHoles$ColdDoing" (1 : Nat) "CoatHoles$ColdDoing" "this$0" "LCoatHoles;") ∈ lw_all := lw_g (lw_at lw_m5 231 rfl) rfl
theorem q1294 : (Jvm.Cond.laysFinal "CoatHoles$ColdDoing" "CoatHoles$ColdDoing" "this$0" "LCoatHoles;") ∈ lw_all := lw_g (lw_at lw_m5 232 rfl) rfl
theorem q1295 : (Jvm.Cond.soleField "CoatHoles$ColdDoing" "this$0") ∈ lw_all := lw_g (lw_at lw_m5 233 rfl) rfl
theorem q1296 : (Jvm.Cond.laysFinal "CoatHoles$ColdDoing" "CoatHoles$AnyDoing" "number" "I") ∈ lw_all := lw_g (lw_at lw_m5 234 rfl) rfl
theorem q1297 : (Jvm.Cond.laysFinal "CoatHoles$ColdDoing" "CoatHoles$AnyDoing" "about" "I") ∈ lw_all := lw_g (lw_at lw_m5 235 rfl) rfl
theorem q1298 : (Jvm.Cond.laysFinal "CoatHoles$ColdDoing" "CoatHoles$AnyDoing" "this$0" "LCoatHoles;") ∈ lw_all := lw_g (lw_at lw_m5 236 rfl) rfl
theorem q1299 : (Jvm.Cond.superclass "CoatHoles$ColdDoing" "CoatHoles$AnyDoing") ∈ lw_all := lw_g (lw_at lw_m5 237 rfl) rfl
theorem q1353 : (Jvm.Cond.selects "CoatHoles$ColdDoing" ({ cls := "CoatHoles$AnyDoing", name := "its", desc := "()I" } : Jvm.MethodName) ({ cls := "CoatHoles$AnyDoing", name := "its", desc := "()I" } : Jvm.MethodName)) ∈ lw_all := lw_g (lw_at lw_m6 51 rfl) rfl
theorem q1360 : (Jvm.Cond.sameMethod "CoatHoles$ColdDoing" "CoatHoles$AnyDoing" "its" "()I") ∈ lw_all := lw_g (lw_at lw_m6 58 rfl) rfl
theorem q1362 : (Jvm.Cond.selects "CoatHoles$ColdDoing" ({ cls := "CoatHoles$ColdDoing", name := "its", desc := "()I" } : Jvm.MethodName) ({ cls := "CoatHoles$AnyDoing", name := "its", desc := "()I" } : Jvm.MethodName)) ∈ lw_all := lw_g (lw_at lw_m6 60 rfl) rfl
theorem q1424 : (Jvm.Cond.castable "CoatHoles$ColdDoing" "CoatHoles$Tells") ∈ lw_tbl := lw_at lw_m6 122 rfl
theorem q1425 : (Jvm.Cond.selects "CoatHoles$ColdDoing" ({ cls := "CoatHoles$EatsAct", name := "eats", desc := "(I)I" } : Jvm.MethodName) ({ cls := "CoatHoles$AnyDoing", name := "eats", desc := "(I)I" } : Jvm.MethodName)) ∈ lw_all := lw_g (lw_at lw_m6 123 rfl) rfl
theorem q1426 : (Jvm.Cond.unhidden "CoatHoles$ColdDoing" "eats" "(I)I") ∈ lw_tbl := lw_at lw_m6 124 rfl
theorem q1436 : (Jvm.Cond.sameMethod "CoatHoles$ColdDoing" "CoatHoles$AnyDoing" "eats" "(I)I") ∈ lw_all := lw_g (lw_at lw_m6 134 rfl) rfl
theorem q1464 : (Jvm.Cond.castable "CoatHoles$ColdDoing" "CoatHoles$EatsAct") ∈ lw_tbl := lw_at lw_m6 162 rfl
theorem q1468 : (Jvm.Cond.selects "CoatHoles$ColdDoing" ({ cls := "CoatHoles$EatsAct", name := "lays", desc := "(I)I" } : Jvm.MethodName) ({ cls := "CoatHoles$ColdDoing", name := "lays", desc := "(I)I" } : Jvm.MethodName)) ∈ lw_all := lw_g (lw_at lw_m6 166 rfl) rfl
theorem q1469 : (Jvm.Cond.unhidden "CoatHoles$ColdDoing" "lays" "(I)I") ∈ lw_tbl := lw_at lw_m6 167 rfl
theorem q1470 : (Jvm.Cond.instanceMethod ({ cls := "CoatHoles$ColdDoing", name := "lays", desc := "(I)I" } : Jvm.MethodName)) ∈ lw_all := lw_g (lw_at lw_m6 168 rfl) rfl
theorem q1471 : (Jvm.Cond.publicMethod ({ cls := "CoatHoles$ColdDoing", name := "lays", desc := "(I)I" } : Jvm.MethodName)) ∈ lw_tbl := lw_at lw_m6 169 rfl
theorem q1472 : (Jvm.Cond.code ({ cls := "CoatHoles$ColdDoing", name := "lays", desc := "(I)I" } : Jvm.MethodName) prog_8_method_2_code (2 : Nat) (Option.some Jvm.ClassFile.FieldType.int)) ∈ lw_all := lw_g (lw_at lw_m6 170 rfl) rfl
theorem q1473 : (Jvm.Cond.methodLinkNest "CoatHoles$ColdDoing" (13 : Nat) ({ cls := "CoatHoles", name := "ran", desc := "(I)V" } : Jvm.MethodName) "CoatHoles") ∈ lw_tbl := lw_at lw_m6 171 rfl
theorem q1474 : (Jvm.Cond.methodLink "CoatHoles$ColdDoing" (19 : Nat) ({ cls := "CoatHoles$AnyDoing", name := "lays", desc := "(I)I" } : Jvm.MethodName)) ∈ lw_all := lw_g (lw_at lw_m6 172 rfl) rfl
theorem q1504 : (Jvm.Cond.selects "CoatHoles$ColdDoing" ({ cls := "CoatHoles$SharesAct", name := "shares", desc := "(I)I" } : Jvm.MethodName) ({ cls := "CoatHoles$AnyDoing", name := "shares", desc := "(I)I" } : Jvm.MethodName)) ∈ lw_all := lw_g (lw_at lw_m6 202 rfl) rfl
theorem q1505 : (Jvm.Cond.unhidden "CoatHoles$ColdDoing" "shares" "(I)I") ∈ lw_tbl := lw_at lw_m6 203 rfl
theorem q1537 : (Jvm.Cond.selects "CoatHoles$ColdDoing" ({ cls := "CoatHoles$Tells", name := "tells", desc := "(I)I" } : Jvm.MethodName) ({ cls := "CoatHoles$AnyDoing", name := "tells", desc := "(I)I" } : Jvm.MethodName)) ∈ lw_all := lw_g (lw_at lw_m6 235 rfl) rfl
theorem q1538 : (Jvm.Cond.unhidden "CoatHoles$ColdDoing" "tells" "(I)I") ∈ lw_tbl := lw_at lw_m6 236 rfl
theorem q2144 : (Jvm.Cond.sameMethod "CoatHoles$ColdDoing" "CoatHoles$ColdDoing" "lays" "(I)I") ∈ lw_all := lw_g (lw_at lw_m9 122 rfl) rfl
theorem q2149 : (Jvm.Cond.selects "CoatHoles$ColdDoing" ({ cls := "CoatHoles$AnyDoing", name := "lays", desc := "(I)I" } : Jvm.MethodName) ({ cls := "CoatHoles$ColdDoing", name := "lays", desc := "(I)I" } : Jvm.MethodName)) ∈ lw_all := lw_g (lw_at lw_m9 127 rfl) rfl
theorem q2154 : (Jvm.Cond.castable "CoatHoles$ColdDoing" "CoatHoles$AnyDoing") ∈ lw_tbl := lw_at lw_m9 132 rfl
theorem in_X26 : ∀ w ∈ wsX260, w ∈ lw_all := lw_in wsX260 [1296, 1297, 1298, 1294] (by decide +kernel) (by decide +kernel)

/-! CoatHoles$HeatDoing -/
set_option maxRecDepth 100000
def RX27 : String := "CoatHoles$HeatDoing"
def TX27 : u_T := fun k => match k with
  | 0 => ("CoatHoles$AnyDoing", "number", "I", true)
  | 1 => ("CoatHoles$AnyDoing", "about", "I", true)
  | 2 => ("CoatHoles$AnyDoing", "this$0", "LCoatHoles;", true)
  | 3 => ("CoatHoles$ColdDoing", "this$0", "LCoatHoles;", true)
  | _ => ("CoatHoles$HeatDoing", "this$0", "LCoatHoles;", true)
def tyX27 : Nat → FieldType := fun k => match k with
  | 0 => .int
  | 1 => .int
  | 2 => .object "CoatHoles"
  | 3 => .object "CoatHoles"
  | _ => .object "CoatHoles"
abbrev wsX270 : List Cond := u_ws RX27 TX27 5
-- two fields of one name: no nmX27
theorem tyX27_ok : ∀ k, k < 5 → parseFieldDescriptor (TX27 k).2.2.1 = some (tyX27 k) := by decide +kernel
abbrev cX27_init : ByteArray := prog_16_method_1_code
def yX27_init : MethodName := ⟨RX27, "<init>", "(LCoatHoles;II)V"⟩
def dkwX27_init_0 : List UInt8 := [42, 43, 181, 0, 1, 42, 43, 28, 29, 183, 0, 7, 177]
abbrev dktX27_init_0 : List UInt8 := dkwX27_init_0 ++ []
theorem dksX27_init_0 : cX27_init.data.toList.drop 0 = dktX27_init_0 := by decide +kernel
theorem dX27_init_0 : decode cX27_init 0 = .ok (.aload_n 0, 1) := dk_42 (dk_at dksX27_init_0 0 rfl rfl)
theorem dX27_init_1 : decode cX27_init 1 = .ok (.aload_n 1, 1) := dk_43 (dk_at dksX27_init_0 1 rfl rfl)
theorem dX27_init_2 : decode cX27_init 2 = .ok (.putfield 1, 3) := dk_181 0 1 (dk_at dksX27_init_0 2 rfl rfl)
theorem dX27_init_5 : decode cX27_init 5 = .ok (.aload_n 0, 1) := dk_42 (dk_at dksX27_init_0 5 rfl rfl)
theorem dX27_init_6 : decode cX27_init 6 = .ok (.aload_n 1, 1) := dk_43 (dk_at dksX27_init_0 6 rfl rfl)
theorem dX27_init_7 : decode cX27_init 7 = .ok (.iload_n 2, 1) := dk_28 (dk_at dksX27_init_0 7 rfl rfl)
theorem dX27_init_8 : decode cX27_init 8 = .ok (.iload_n 3, 1) := dk_29 (dk_at dksX27_init_0 8 rfl rfl)
theorem dX27_init_9 : decode cX27_init 9 = .ok (.invokespecial 7, 3) := dk_183 0 7 (dk_at dksX27_init_0 9 rfl rfl)
theorem dX27_init_12 : decode cX27_init 12 = .ok (.return_, 1) := dk_177 (dk_at dksX27_init_0 12 rfl rfl)
abbrev cX27_eats : ByteArray := prog_16_method_2_code
def yX27_eats : MethodName := ⟨RX27, "eats", "(I)I"⟩
def dkwX27_eats_0 : List UInt8 := [42, 180, 0, 1, 16, 50, 182, 0, 13, 3, 42, 27, 183, 0, 19, 100, 172]
abbrev dktX27_eats_0 : List UInt8 := dkwX27_eats_0 ++ []
theorem dksX27_eats_0 : cX27_eats.data.toList.drop 0 = dktX27_eats_0 := by decide +kernel
theorem dX27_eats_0 : decode cX27_eats 0 = .ok (.aload_n 0, 1) := dk_42 (dk_at dksX27_eats_0 0 rfl rfl)
theorem dX27_eats_1 : decode cX27_eats 1 = .ok (.getfield 1, 3) := dk_180 0 1 (dk_at dksX27_eats_0 1 rfl rfl)
theorem dX27_eats_4 : decode cX27_eats 4 = .ok (.bipush 50, 2) := dk_16 50 (dk_at dksX27_eats_0 4 rfl rfl)
theorem dX27_eats_6 : decode cX27_eats 6 = .ok (.invokevirtual 13, 3) := dk_182 0 13 (dk_at dksX27_eats_0 6 rfl rfl)
theorem dX27_eats_9 : decode cX27_eats 9 = .ok (.iconst 0, 1) := dk_3 (dk_at dksX27_eats_0 9 rfl rfl)
theorem dX27_eats_10 : decode cX27_eats 10 = .ok (.aload_n 0, 1) := dk_42 (dk_at dksX27_eats_0 10 rfl rfl)
theorem dX27_eats_11 : decode cX27_eats 11 = .ok (.iload_n 1, 1) := dk_27 (dk_at dksX27_eats_0 11 rfl rfl)
theorem dX27_eats_12 : decode cX27_eats 12 = .ok (.invokespecial 19, 3) := dk_183 0 19 (dk_at dksX27_eats_0 12 rfl rfl)
theorem dX27_eats_15 : decode cX27_eats 15 = .ok (.isub, 1) := dk_100 (dk_at dksX27_eats_0 15 rfl rfl)
theorem dX27_eats_16 : decode cX27_eats 16 = .ok (.ireturn, 1) := dk_172 (dk_at dksX27_eats_0 16 rfl rfl)
abbrev cX27_lays : ByteArray := prog_16_method_3_code
def yX27_lays : MethodName := ⟨RX27, "lays", "(I)I"⟩
def dkwX27_lays_1 : List UInt8 := [96, 172]
abbrev dktX27_lays_1 : List UInt8 := dkwX27_lays_1 ++ []
def dkwX27_lays_0 : List UInt8 := [42, 180, 0, 1, 16, 51, 182, 0, 13, 42, 27, 183, 0, 23, 61, 28, 42, 42, 180, 0, 26, 182, 0, 30]
abbrev dktX27_lays_0 : List UInt8 := dkwX27_lays_0 ++ dktX27_lays_1
theorem dksX27_lays_0 : cX27_lays.data.toList.drop 0 = dktX27_lays_0 := by decide +kernel
theorem dksX27_lays_1 : cX27_lays.data.toList.drop 24 = dktX27_lays_1 := dk_seg dksX27_lays_0 24 rfl rfl
theorem dX27_lays_0 : decode cX27_lays 0 = .ok (.aload_n 0, 1) := dk_42 (dk_at dksX27_lays_0 0 rfl rfl)
theorem dX27_lays_1 : decode cX27_lays 1 = .ok (.getfield 1, 3) := dk_180 0 1 (dk_at dksX27_lays_0 1 rfl rfl)
theorem dX27_lays_4 : decode cX27_lays 4 = .ok (.bipush 51, 2) := dk_16 51 (dk_at dksX27_lays_0 4 rfl rfl)
theorem dX27_lays_6 : decode cX27_lays 6 = .ok (.invokevirtual 13, 3) := dk_182 0 13 (dk_at dksX27_lays_0 6 rfl rfl)
theorem dX27_lays_9 : decode cX27_lays 9 = .ok (.aload_n 0, 1) := dk_42 (dk_at dksX27_lays_0 9 rfl rfl)
theorem dX27_lays_10 : decode cX27_lays 10 = .ok (.iload_n 1, 1) := dk_27 (dk_at dksX27_lays_0 10 rfl rfl)
theorem dX27_lays_11 : decode cX27_lays 11 = .ok (.invokespecial 23, 3) := dk_183 0 23 (dk_at dksX27_lays_0 11 rfl rfl)
theorem dX27_lays_14 : decode cX27_lays 14 = .ok (.istore_n 2, 1) := dk_61 (dk_at dksX27_lays_0 14 rfl rfl)
theorem dX27_lays_15 : decode cX27_lays 15 = .ok (.iload_n 2, 1) := dk_28 (dk_at dksX27_lays_0 15 rfl rfl)
theorem dX27_lays_16 : decode cX27_lays 16 = .ok (.aload_n 0, 1) := dk_42 (dk_at dksX27_lays_0 16 rfl rfl)
theorem dX27_lays_17 : decode cX27_lays 17 = .ok (.aload_n 0, 1) := dk_42 (dk_at dksX27_lays_0 17 rfl rfl)
theorem dX27_lays_18 : decode cX27_lays 18 = .ok (.getfield 26, 3) := dk_180 0 26 (dk_at dksX27_lays_0 18 rfl rfl)
theorem dX27_lays_21 : decode cX27_lays 21 = .ok (.invokevirtual 30, 3) := dk_182 0 30 (dk_at dksX27_lays_0 21 rfl rfl)
theorem dX27_lays_24 : decode cX27_lays 24 = .ok (.iadd, 1) := dk_96 (dk_at dksX27_lays_1 0 rfl rfl)
theorem dX27_lays_25 : decode cX27_lays 25 = .ok (.ireturn, 1) := dk_172 (dk_at dksX27_lays_1 1 rfl rfl)
theorem q141 : (Jvm.Cond.initialized "CoatHoles$HeatDoing") ∈ lw_all := lw_g (lw_at lw_m1 39 rfl) rfl
theorem q1263 : (Jvm.Cond.fieldLink "CoatHoles$HeatDoing" (26 : Nat) "CoatHoles$HeatDoing" "number" "I") ∈ lw_all := lw_g (lw_at lw_m5 201 rfl) rfl
theorem q1264 : (Jvm.Cond.sameField "CoatHoles$HeatDoing" "CoatHoles$AnyDoing" "number" "I") ∈ lw_all := lw_g (lw_at lw_m5 202 rfl) rfl
theorem q1304 : (Jvm.Cond.instantiable "CoatHoles$HeatDoing" (5 : Nat)) ∈ lw_all := lw_g (lw_at lw_m6 2 rfl) rfl
theorem q1306 : (Jvm.Cond.instanceMethod ({ cls := "CoatHoles$HeatDoing", name := "<init>", desc := "(LCoatHoles;II)V" } : Jvm.MethodName)) ∈ lw_all := lw_g (lw_at lw_m6 4 rfl) rfl
theorem q1307 : (Jvm.Cond.code ({ cls := "CoatHoles$HeatDoing", name := "<init>", desc := "(LCoatHoles;II)V" } : Jvm.MethodName) prog_16_method_1_code (4 : Nat) (Option.none : Option Jvm.ClassFile.FieldType)) ∈ lw_all := lw_g (lw_at lw_m6 5 rfl) rfl
theorem q1308 : (Jvm.Cond.methodLink "CoatHoles$HeatDoing" (7 : Nat) ({ cls := "CoatHoles$ColdDoing", name := "<init>", desc := "(LCoatHoles;II)V" } : Jvm.MethodName)) ∈ lw_all := lw_g (lw_at lw_m6 6 rfl) rfl
theorem q1309 : (Jvm.Cond.fieldLink "CoatHoles$HeatDoing" (1 : Nat) "CoatHoles$HeatDoing" "this$0" "LCoatHoles;") ∈ lw_all := lw_g (lw_at lw_m6 7 rfl) rfl
theorem q1310 : (Jvm.Cond.laysFinal "CoatHoles$HeatDoing" "CoatHoles$HeatDoing" "this$0" "LCoatHoles;") ∈ lw_all := lw_g (lw_at lw_m6 8 rfl) rfl
theorem q1311 : (Jvm.Cond.soleField "CoatHoles$HeatDoing" "this$0") ∈ lw_all := lw_g (lw_at lw_m6 9 rfl) rfl
theorem q1312 : (Jvm.Cond.laysFinal "CoatHoles$HeatDoing" "CoatHoles$ColdDoing" "this$0" "LCoatHoles;") ∈ lw_all := lw_g (lw_at lw_m6 10 rfl) rfl
theorem q1313 : (Jvm.Cond.laysFinal "CoatHoles$HeatDoing" "CoatHoles$AnyDoing" "number" "I") ∈ lw_all := lw_g (lw_at lw_m6 11 rfl) rfl
theorem q1314 : (Jvm.Cond.laysFinal "CoatHoles$HeatDoing" "CoatHoles$AnyDoing" "about" "I") ∈ lw_all := lw_g (lw_at lw_m6 12 rfl) rfl
theorem q1315 : (Jvm.Cond.laysFinal "CoatHoles$HeatDoing" "CoatHoles$AnyDoing" "this$0" "LCoatHoles;") ∈ lw_all := lw_g (lw_at lw_m6 13 rfl) rfl
theorem q1316 : (Jvm.Cond.superclass "CoatHoles$HeatDoing" "CoatHoles$ColdDoing") ∈ lw_all := lw_g (lw_at lw_m6 14 rfl) rfl
theorem q1354 : (Jvm.Cond.selects "CoatHoles$HeatDoing" ({ cls := "CoatHoles$AnyDoing", name := "its", desc := "()I" } : Jvm.MethodName) ({ cls := "CoatHoles$AnyDoing", name := "its", desc := "()I" } : Jvm.MethodName)) ∈ lw_all := lw_g (lw_at lw_m6 52 rfl) rfl
theorem q1363 : (Jvm.Cond.selects "CoatHoles$HeatDoing" ({ cls := "CoatHoles$ColdDoing", name := "its", desc := "()I" } : Jvm.MethodName) ({ cls := "CoatHoles$AnyDoing", name := "its", desc := "()I" } : Jvm.MethodName)) ∈ lw_all := lw_g (lw_at lw_m6 61 rfl) rfl
theorem q1376 : (Jvm.Cond.sameMethod "CoatHoles$HeatDoing" "CoatHoles$AnyDoing" "its" "()I") ∈ lw_all := lw_g (lw_at lw_m6 74 rfl) rfl
theorem q1377 : (Jvm.Cond.selects "CoatHoles$HeatDoing" ({ cls := "CoatHoles$HeatDoing", name := "its", desc := "()I" } : Jvm.MethodName) ({ cls := "CoatHoles$AnyDoing", name := "its", desc := "()I" } : Jvm.MethodName)) ∈ lw_all := lw_g (lw_at lw_m6 75 rfl) rfl
theorem q1428 : (Jvm.Cond.castable "CoatHoles$HeatDoing" "CoatHoles$Tells") ∈ lw_tbl := lw_at lw_m6 126 rfl
theorem q1429 : (Jvm.Cond.selects "CoatHoles$HeatDoing" ({ cls := "CoatHoles$EatsAct", name := "eats", desc := "(I)I" } : Jvm.MethodName) ({ cls := "CoatHoles$HeatDoing", name := "eats", desc := "(I)I" } : Jvm.MethodName)) ∈ lw_all := lw_g (lw_at lw_m6 127 rfl) rfl
theorem q1430 : (Jvm.Cond.unhidden "CoatHoles$HeatDoing" "eats" "(I)I") ∈ lw_tbl := lw_at lw_m6 128 rfl
theorem q1431 : (Jvm.Cond.instanceMethod ({ cls := "CoatHoles$HeatDoing", name := "eats", desc := "(I)I" } : Jvm.MethodName)) ∈ lw_all := lw_g (lw_at lw_m6 129 rfl) rfl
theorem q1432 : (Jvm.Cond.publicMethod ({ cls := "CoatHoles$HeatDoing", name := "eats", desc := "(I)I" } : Jvm.MethodName)) ∈ lw_tbl := lw_at lw_m6 130 rfl
theorem q1433 : (Jvm.Cond.code ({ cls := "CoatHoles$HeatDoing", name := "eats", desc := "(I)I" } : Jvm.MethodName) prog_16_method_2_code (2 : Nat) (Option.some Jvm.ClassFile.FieldType.int)) ∈ lw_all := lw_g (lw_at lw_m6 131 rfl) rfl
theorem q1434 : (Jvm.Cond.methodLinkNest "CoatHoles$HeatDoing" (13 : Nat) ({ cls := "CoatHoles", name := "ran", desc := "(I)V" } : Jvm.MethodName) "CoatHoles") ∈ lw_tbl := lw_at lw_m6 132 rfl
theorem q1435 : (Jvm.Cond.methodLink "CoatHoles$HeatDoing" (19 : Nat) ({ cls := "CoatHoles$ColdDoing", name := "eats", desc := "(I)I" } : Jvm.MethodName)) ∈ lw_all := lw_g (lw_at lw_m6 133 rfl) rfl
theorem q1465 : (Jvm.Cond.castable "CoatHoles$HeatDoing" "CoatHoles$EatsAct") ∈ lw_tbl := lw_at lw_m6 163 rfl
theorem q1475 : (Jvm.Cond.selects "CoatHoles$HeatDoing" ({ cls := "CoatHoles$EatsAct", name := "lays", desc := "(I)I" } : Jvm.MethodName) ({ cls := "CoatHoles$HeatDoing", name := "lays", desc := "(I)I" } : Jvm.MethodName)) ∈ lw_all := lw_g (lw_at lw_m6 173 rfl) rfl
theorem q1476 : (Jvm.Cond.unhidden "CoatHoles$HeatDoing" "lays" "(I)I") ∈ lw_tbl := lw_at lw_m6 174 rfl
theorem q1477 : (Jvm.Cond.instanceMethod ({ cls := "CoatHoles$HeatDoing", name := "lays", desc := "(I)I" } : Jvm.MethodName)) ∈ lw_all := lw_g (lw_at lw_m6 175 rfl) rfl
theorem q1478 : (Jvm.Cond.publicMethod ({ cls := "CoatHoles$HeatDoing", name := "lays", desc := "(I)I" } : Jvm.MethodName)) ∈ lw_tbl := lw_at lw_m6 176 rfl
theorem q1479 : (Jvm.Cond.code ({ cls := "CoatHoles$HeatDoing", name := "lays", desc := "(I)I" } : Jvm.MethodName) prog_16_method_3_code (3 : Nat) (Option.some Jvm.ClassFile.FieldType.int)) ∈ lw_all := lw_g (lw_at lw_m6 177 rfl) rfl
theorem q1480 : (Jvm.Cond.methodLink "CoatHoles$HeatDoing" (23 : Nat) ({ cls := "CoatHoles$ColdDoing", name := "lays", desc := "(I)I" } : Jvm.MethodName)) ∈ lw_all := lw_g (lw_at lw_m6 178 rfl) rfl
theorem q1481 : (Jvm.Cond.methodLink "CoatHoles$HeatDoing" (30 : Nat) ({ cls := "CoatHoles$HeatDoing", name := "eats", desc := "(I)I" } : Jvm.MethodName)) ∈ lw_all := lw_g (lw_at lw_m6 179 rfl) rfl
theorem q1507 : (Jvm.Cond.selects "CoatHoles$HeatDoing" ({ cls := "CoatHoles$SharesAct", name := "shares", desc := "(I)I" } : Jvm.MethodName) ({ cls := "CoatHoles$AnyDoing", name := "shares", desc := "(I)I" } : Jvm.MethodName)) ∈ lw_all := lw_g (lw_at lw_m6 205 rfl) rfl
theorem q1508 : (Jvm.Cond.unhidden "CoatHoles$HeatDoing" "shares" "(I)I") ∈ lw_tbl := lw_at lw_m6 206 rfl
theorem q1540 : (Jvm.Cond.selects "CoatHoles$HeatDoing" ({ cls := "CoatHoles$Tells", name := "tells", desc := "(I)I" } : Jvm.MethodName) ({ cls := "CoatHoles$AnyDoing", name := "tells", desc := "(I)I" } : Jvm.MethodName)) ∈ lw_all := lw_g (lw_at lw_m6 238 rfl) rfl
theorem q1541 : (Jvm.Cond.unhidden "CoatHoles$HeatDoing" "tells" "(I)I") ∈ lw_tbl := lw_at lw_m6 239 rfl
theorem q2145 : (Jvm.Cond.selects "CoatHoles$HeatDoing" ({ cls := "CoatHoles$HeatDoing", name := "eats", desc := "(I)I" } : Jvm.MethodName) ({ cls := "CoatHoles$HeatDoing", name := "eats", desc := "(I)I" } : Jvm.MethodName)) ∈ lw_all := lw_g (lw_at lw_m9 123 rfl) rfl
theorem q2150 : (Jvm.Cond.selects "CoatHoles$HeatDoing" ({ cls := "CoatHoles$AnyDoing", name := "lays", desc := "(I)I" } : Jvm.MethodName) ({ cls := "CoatHoles$HeatDoing", name := "lays", desc := "(I)I" } : Jvm.MethodName)) ∈ lw_all := lw_g (lw_at lw_m9 128 rfl) rfl
theorem q2155 : (Jvm.Cond.castable "CoatHoles$HeatDoing" "CoatHoles$AnyDoing") ∈ lw_tbl := lw_at lw_m9 133 rfl
theorem q2158 : (Jvm.Cond.castable "CoatHoles$HeatDoing" "CoatHoles$ColdDoing") ∈ lw_tbl := lw_at lw_m9 136 rfl
theorem in_X27 : ∀ w ∈ wsX270, w ∈ lw_all := lw_in wsX270 [1313, 1314, 1315, 1312, 1310] (by decide +kernel) (by decide +kernel)

/-! CoatHoles$WashDoing -/
set_option maxRecDepth 100000
def RX28 : String := "CoatHoles$WashDoing"
def TX28 : u_T := fun k => match k with
  | 0 => ("CoatHoles$AnyDoing", "number", "I", true)
  | 1 => ("CoatHoles$AnyDoing", "about", "I", true)
  | 2 => ("CoatHoles$AnyDoing", "this$0", "LCoatHoles;", true)
  | 3 => ("CoatHoles$ShakeDoing", "this$0", "LCoatHoles;", true)
  | _ => ("CoatHoles$WashDoing", "this$0", "LCoatHoles;", true)
def tyX28 : Nat → FieldType := fun k => match k with
  | 0 => .int
  | 1 => .int
  | 2 => .object "CoatHoles"
  | 3 => .object "CoatHoles"
  | _ => .object "CoatHoles"
abbrev wsX280 : List Cond := u_ws RX28 TX28 5
-- two fields of one name: no nmX28
theorem tyX28_ok : ∀ k, k < 5 → parseFieldDescriptor (TX28 k).2.2.1 = some (tyX28 k) := by decide +kernel
abbrev cX28_init : ByteArray := prog_30_method_1_code
def yX28_init : MethodName := ⟨RX28, "<init>", "(LCoatHoles;II)V"⟩
def dkwX28_init_0 : List UInt8 := [42, 43, 181, 0, 1, 42, 43, 28, 29, 183, 0, 7, 177]
abbrev dktX28_init_0 : List UInt8 := dkwX28_init_0 ++ []
theorem dksX28_init_0 : cX28_init.data.toList.drop 0 = dktX28_init_0 := by decide +kernel
theorem dX28_init_0 : decode cX28_init 0 = .ok (.aload_n 0, 1) := dk_42 (dk_at dksX28_init_0 0 rfl rfl)
theorem dX28_init_1 : decode cX28_init 1 = .ok (.aload_n 1, 1) := dk_43 (dk_at dksX28_init_0 1 rfl rfl)
theorem dX28_init_2 : decode cX28_init 2 = .ok (.putfield 1, 3) := dk_181 0 1 (dk_at dksX28_init_0 2 rfl rfl)
theorem dX28_init_5 : decode cX28_init 5 = .ok (.aload_n 0, 1) := dk_42 (dk_at dksX28_init_0 5 rfl rfl)
theorem dX28_init_6 : decode cX28_init 6 = .ok (.aload_n 1, 1) := dk_43 (dk_at dksX28_init_0 6 rfl rfl)
theorem dX28_init_7 : decode cX28_init 7 = .ok (.iload_n 2, 1) := dk_28 (dk_at dksX28_init_0 7 rfl rfl)
theorem dX28_init_8 : decode cX28_init 8 = .ok (.iload_n 3, 1) := dk_29 (dk_at dksX28_init_0 8 rfl rfl)
theorem dX28_init_9 : decode cX28_init 9 = .ok (.invokespecial 7, 3) := dk_183 0 7 (dk_at dksX28_init_0 9 rfl rfl)
theorem dX28_init_12 : decode cX28_init 12 = .ok (.return_, 1) := dk_177 (dk_at dksX28_init_0 12 rfl rfl)
abbrev cX28_eats : ByteArray := prog_30_method_3_code
def yX28_eats : MethodName := ⟨RX28, "eats", "(I)I"⟩
def dkwX28_eats_0 : List UInt8 := [42, 180, 0, 1, 16, 41, 182, 0, 13, 42, 27, 183, 0, 23, 42, 180, 0, 26, 100, 172]
abbrev dktX28_eats_0 : List UInt8 := dkwX28_eats_0 ++ []
theorem dksX28_eats_0 : cX28_eats.data.toList.drop 0 = dktX28_eats_0 := by decide +kernel
theorem dX28_eats_0 : decode cX28_eats 0 = .ok (.aload_n 0, 1) := dk_42 (dk_at dksX28_eats_0 0 rfl rfl)
theorem dX28_eats_1 : decode cX28_eats 1 = .ok (.getfield 1, 3) := dk_180 0 1 (dk_at dksX28_eats_0 1 rfl rfl)
theorem dX28_eats_4 : decode cX28_eats 4 = .ok (.bipush 41, 2) := dk_16 41 (dk_at dksX28_eats_0 4 rfl rfl)
theorem dX28_eats_6 : decode cX28_eats 6 = .ok (.invokevirtual 13, 3) := dk_182 0 13 (dk_at dksX28_eats_0 6 rfl rfl)
theorem dX28_eats_9 : decode cX28_eats 9 = .ok (.aload_n 0, 1) := dk_42 (dk_at dksX28_eats_0 9 rfl rfl)
theorem dX28_eats_10 : decode cX28_eats 10 = .ok (.iload_n 1, 1) := dk_27 (dk_at dksX28_eats_0 10 rfl rfl)
theorem dX28_eats_11 : decode cX28_eats 11 = .ok (.invokespecial 23, 3) := dk_183 0 23 (dk_at dksX28_eats_0 11 rfl rfl)
theorem dX28_eats_14 : decode cX28_eats 14 = .ok (.aload_n 0, 1) := dk_42 (dk_at dksX28_eats_0 14 rfl rfl)
theorem dX28_eats_15 : decode cX28_eats 15 = .ok (.getfield 26, 3) := dk_180 0 26 (dk_at dksX28_eats_0 15 rfl rfl)
theorem dX28_eats_18 : decode cX28_eats 18 = .ok (.isub, 1) := dk_100 (dk_at dksX28_eats_0 18 rfl rfl)
theorem dX28_eats_19 : decode cX28_eats 19 = .ok (.ireturn, 1) := dk_172 (dk_at dksX28_eats_0 19 rfl rfl)
abbrev cX28_shares : ByteArray := prog_30_method_2_code
def yX28_shares : MethodName := ⟨RX28, "shares", "(I)I"⟩
def dkwX28_shares_0 : List UInt8 := [42, 180, 0, 1, 16, 40, 182, 0, 13, 42, 27, 5, 96, 183, 0, 19, 4, 130, 172]
abbrev dktX28_shares_0 : List UInt8 := dkwX28_shares_0 ++ []
theorem dksX28_shares_0 : cX28_shares.data.toList.drop 0 = dktX28_shares_0 := by decide +kernel
theorem dX28_shares_0 : decode cX28_shares 0 = .ok (.aload_n 0, 1) := dk_42 (dk_at dksX28_shares_0 0 rfl rfl)
theorem dX28_shares_1 : decode cX28_shares 1 = .ok (.getfield 1, 3) := dk_180 0 1 (dk_at dksX28_shares_0 1 rfl rfl)
theorem dX28_shares_4 : decode cX28_shares 4 = .ok (.bipush 40, 2) := dk_16 40 (dk_at dksX28_shares_0 4 rfl rfl)
theorem dX28_shares_6 : decode cX28_shares 6 = .ok (.invokevirtual 13, 3) := dk_182 0 13 (dk_at dksX28_shares_0 6 rfl rfl)
theorem dX28_shares_9 : decode cX28_shares 9 = .ok (.aload_n 0, 1) := dk_42 (dk_at dksX28_shares_0 9 rfl rfl)
theorem dX28_shares_10 : decode cX28_shares 10 = .ok (.iload_n 1, 1) := dk_27 (dk_at dksX28_shares_0 10 rfl rfl)
theorem dX28_shares_11 : decode cX28_shares 11 = .ok (.iconst 2, 1) := dk_5 (dk_at dksX28_shares_0 11 rfl rfl)
theorem dX28_shares_12 : decode cX28_shares 12 = .ok (.iadd, 1) := dk_96 (dk_at dksX28_shares_0 12 rfl rfl)
theorem dX28_shares_13 : decode cX28_shares 13 = .ok (.invokespecial 19, 3) := dk_183 0 19 (dk_at dksX28_shares_0 13 rfl rfl)
theorem dX28_shares_16 : decode cX28_shares 16 = .ok (.iconst 1, 1) := dk_4 (dk_at dksX28_shares_0 16 rfl rfl)
theorem dX28_shares_17 : decode cX28_shares 17 = .ok (.ixor, 1) := dk_130 (dk_at dksX28_shares_0 17 rfl rfl)
theorem dX28_shares_18 : decode cX28_shares 18 = .ok (.ireturn, 1) := dk_172 (dk_at dksX28_shares_0 18 rfl rfl)
theorem q142 : (Jvm.Cond.initialized "CoatHoles$WashDoing") ∈ lw_all := lw_g (lw_at lw_m1 40 rfl) rfl
theorem q1261 : (Jvm.Cond.fieldLink "CoatHoles$WashDoing" (26 : Nat) "CoatHoles$WashDoing" "number" "I") ∈ lw_all := lw_g (lw_at lw_m5 199 rfl) rfl
theorem q1262 : (Jvm.Cond.sameField "CoatHoles$WashDoing" "CoatHoles$AnyDoing" "number" "I") ∈ lw_all := lw_g (lw_at lw_m5 200 rfl) rfl
theorem q1332 : (Jvm.Cond.instantiable "CoatHoles$WashDoing" (5 : Nat)) ∈ lw_all := lw_g (lw_at lw_m6 30 rfl) rfl
theorem q1334 : (Jvm.Cond.instanceMethod ({ cls := "CoatHoles$WashDoing", name := "<init>", desc := "(LCoatHoles;II)V" } : Jvm.MethodName)) ∈ lw_all := lw_g (lw_at lw_m6 32 rfl) rfl
theorem q1335 : (Jvm.Cond.code ({ cls := "CoatHoles$WashDoing", name := "<init>", desc := "(LCoatHoles;II)V" } : Jvm.MethodName) prog_30_method_1_code (4 : Nat) (Option.none : Option Jvm.ClassFile.FieldType)) ∈ lw_all := lw_g (lw_at lw_m6 33 rfl) rfl
theorem q1336 : (Jvm.Cond.methodLink "CoatHoles$WashDoing" (7 : Nat) ({ cls := "CoatHoles$ShakeDoing", name := "<init>", desc := "(LCoatHoles;II)V" } : Jvm.MethodName)) ∈ lw_all := lw_g (lw_at lw_m6 34 rfl) rfl
theorem q1337 : (Jvm.Cond.fieldLink "CoatHoles$WashDoing" (1 : Nat) "CoatHoles$WashDoing" "this$0" "LCoatHoles;") ∈ lw_all := lw_g (lw_at lw_m6 35 rfl) rfl
theorem q1338 : (Jvm.Cond.laysFinal "CoatHoles$WashDoing" "CoatHoles$WashDoing" "this$0" "LCoatHoles;") ∈ lw_all := lw_g (lw_at lw_m6 36 rfl) rfl
theorem q1339 : (Jvm.Cond.soleField "CoatHoles$WashDoing" "this$0") ∈ lw_all := lw_g (lw_at lw_m6 37 rfl) rfl
theorem q1340 : (Jvm.Cond.laysFinal "CoatHoles$WashDoing" "CoatHoles$ShakeDoing" "this$0" "LCoatHoles;") ∈ lw_all := lw_g (lw_at lw_m6 38 rfl) rfl
theorem q1341 : (Jvm.Cond.laysFinal "CoatHoles$WashDoing" "CoatHoles$AnyDoing" "number" "I") ∈ lw_all := lw_g (lw_at lw_m6 39 rfl) rfl
theorem q1342 : (Jvm.Cond.laysFinal "CoatHoles$WashDoing" "CoatHoles$AnyDoing" "about" "I") ∈ lw_all := lw_g (lw_at lw_m6 40 rfl) rfl
theorem q1343 : (Jvm.Cond.laysFinal "CoatHoles$WashDoing" "CoatHoles$AnyDoing" "this$0" "LCoatHoles;") ∈ lw_all := lw_g (lw_at lw_m6 41 rfl) rfl
theorem q1344 : (Jvm.Cond.superclass "CoatHoles$WashDoing" "CoatHoles$ShakeDoing") ∈ lw_all := lw_g (lw_at lw_m6 42 rfl) rfl
theorem q1356 : (Jvm.Cond.selects "CoatHoles$WashDoing" ({ cls := "CoatHoles$AnyDoing", name := "its", desc := "()I" } : Jvm.MethodName) ({ cls := "CoatHoles$AnyDoing", name := "its", desc := "()I" } : Jvm.MethodName)) ∈ lw_all := lw_g (lw_at lw_m6 54 rfl) rfl
theorem q1369 : (Jvm.Cond.selects "CoatHoles$WashDoing" ({ cls := "CoatHoles$ShakeDoing", name := "its", desc := "()I" } : Jvm.MethodName) ({ cls := "CoatHoles$AnyDoing", name := "its", desc := "()I" } : Jvm.MethodName)) ∈ lw_all := lw_g (lw_at lw_m6 67 rfl) rfl
theorem q1372 : (Jvm.Cond.sameMethod "CoatHoles$WashDoing" "CoatHoles$AnyDoing" "its" "()I") ∈ lw_all := lw_g (lw_at lw_m6 70 rfl) rfl
theorem q1373 : (Jvm.Cond.selects "CoatHoles$WashDoing" ({ cls := "CoatHoles$WashDoing", name := "its", desc := "()I" } : Jvm.MethodName) ({ cls := "CoatHoles$AnyDoing", name := "its", desc := "()I" } : Jvm.MethodName)) ∈ lw_all := lw_g (lw_at lw_m6 71 rfl) rfl
theorem q1441 : (Jvm.Cond.castable "CoatHoles$WashDoing" "CoatHoles$Tells") ∈ lw_tbl := lw_at lw_m6 139 rfl
theorem q1442 : (Jvm.Cond.selects "CoatHoles$WashDoing" ({ cls := "CoatHoles$EatsAct", name := "eats", desc := "(I)I" } : Jvm.MethodName) ({ cls := "CoatHoles$WashDoing", name := "eats", desc := "(I)I" } : Jvm.MethodName)) ∈ lw_all := lw_g (lw_at lw_m6 140 rfl) rfl
theorem q1443 : (Jvm.Cond.unhidden "CoatHoles$WashDoing" "eats" "(I)I") ∈ lw_tbl := lw_at lw_m6 141 rfl
theorem q1444 : (Jvm.Cond.instanceMethod ({ cls := "CoatHoles$WashDoing", name := "eats", desc := "(I)I" } : Jvm.MethodName)) ∈ lw_all := lw_g (lw_at lw_m6 142 rfl) rfl
theorem q1445 : (Jvm.Cond.publicMethod ({ cls := "CoatHoles$WashDoing", name := "eats", desc := "(I)I" } : Jvm.MethodName)) ∈ lw_tbl := lw_at lw_m6 143 rfl
theorem q1446 : (Jvm.Cond.code ({ cls := "CoatHoles$WashDoing", name := "eats", desc := "(I)I" } : Jvm.MethodName) prog_30_method_3_code (2 : Nat) (Option.some Jvm.ClassFile.FieldType.int)) ∈ lw_all := lw_g (lw_at lw_m6 144 rfl) rfl
theorem q1447 : (Jvm.Cond.methodLinkNest "CoatHoles$WashDoing" (13 : Nat) ({ cls := "CoatHoles", name := "ran", desc := "(I)V" } : Jvm.MethodName) "CoatHoles") ∈ lw_tbl := lw_at lw_m6 145 rfl
theorem q1448 : (Jvm.Cond.methodLink "CoatHoles$WashDoing" (23 : Nat) ({ cls := "CoatHoles$ShakeDoing", name := "eats", desc := "(I)I" } : Jvm.MethodName)) ∈ lw_all := lw_g (lw_at lw_m6 146 rfl) rfl
theorem q1467 : (Jvm.Cond.castable "CoatHoles$WashDoing" "CoatHoles$EatsAct") ∈ lw_tbl := lw_at lw_m6 165 rfl
theorem q1484 : (Jvm.Cond.selects "CoatHoles$WashDoing" ({ cls := "CoatHoles$EatsAct", name := "lays", desc := "(I)I" } : Jvm.MethodName) ({ cls := "CoatHoles$AnyDoing", name := "lays", desc := "(I)I" } : Jvm.MethodName)) ∈ lw_all := lw_g (lw_at lw_m6 182 rfl) rfl
theorem q1485 : (Jvm.Cond.unhidden "CoatHoles$WashDoing" "lays" "(I)I") ∈ lw_tbl := lw_at lw_m6 183 rfl
theorem q1511 : (Jvm.Cond.selects "CoatHoles$WashDoing" ({ cls := "CoatHoles$SharesAct", name := "shares", desc := "(I)I" } : Jvm.MethodName) ({ cls := "CoatHoles$WashDoing", name := "shares", desc := "(I)I" } : Jvm.MethodName)) ∈ lw_all := lw_g (lw_at lw_m6 209 rfl) rfl
theorem q1512 : (Jvm.Cond.unhidden "CoatHoles$WashDoing" "shares" "(I)I") ∈ lw_tbl := lw_at lw_m6 210 rfl
theorem q1513 : (Jvm.Cond.instanceMethod ({ cls := "CoatHoles$WashDoing", name := "shares", desc := "(I)I" } : Jvm.MethodName)) ∈ lw_all := lw_g (lw_at lw_m6 211 rfl) rfl
theorem q1514 : (Jvm.Cond.publicMethod ({ cls := "CoatHoles$WashDoing", name := "shares", desc := "(I)I" } : Jvm.MethodName)) ∈ lw_tbl := lw_at lw_m6 212 rfl
theorem q1515 : (Jvm.Cond.code ({ cls := "CoatHoles$WashDoing", name := "shares", desc := "(I)I" } : Jvm.MethodName) prog_30_method_2_code (2 : Nat) (Option.some Jvm.ClassFile.FieldType.int)) ∈ lw_all := lw_g (lw_at lw_m6 213 rfl) rfl
theorem q1516 : (Jvm.Cond.methodLink "CoatHoles$WashDoing" (19 : Nat) ({ cls := "CoatHoles$ShakeDoing", name := "shares", desc := "(I)I" } : Jvm.MethodName)) ∈ lw_all := lw_g (lw_at lw_m6 214 rfl) rfl
theorem q1536 : (Jvm.Cond.selects "CoatHoles$WashDoing" ({ cls := "CoatHoles$ShakeDoing", name := "shares", desc := "(I)I" } : Jvm.MethodName) ({ cls := "CoatHoles$WashDoing", name := "shares", desc := "(I)I" } : Jvm.MethodName)) ∈ lw_all := lw_g (lw_at lw_m6 234 rfl) rfl
theorem q1545 : (Jvm.Cond.selects "CoatHoles$WashDoing" ({ cls := "CoatHoles$Tells", name := "tells", desc := "(I)I" } : Jvm.MethodName) ({ cls := "CoatHoles$ShakeDoing", name := "tells", desc := "(I)I" } : Jvm.MethodName)) ∈ lw_all := lw_g (lw_at lw_m7 3 rfl) rfl
theorem q1546 : (Jvm.Cond.unhidden "CoatHoles$WashDoing" "tells" "(I)I") ∈ lw_tbl := lw_at lw_m7 4 rfl
theorem q2152 : (Jvm.Cond.selects "CoatHoles$WashDoing" ({ cls := "CoatHoles$AnyDoing", name := "lays", desc := "(I)I" } : Jvm.MethodName) ({ cls := "CoatHoles$AnyDoing", name := "lays", desc := "(I)I" } : Jvm.MethodName)) ∈ lw_all := lw_g (lw_at lw_m9 130 rfl) rfl
theorem q2157 : (Jvm.Cond.castable "CoatHoles$WashDoing" "CoatHoles$AnyDoing") ∈ lw_tbl := lw_at lw_m9 135 rfl
theorem q2160 : (Jvm.Cond.castable "CoatHoles$WashDoing" "CoatHoles$ShakeDoing") ∈ lw_tbl := lw_at lw_m9 138 rfl
theorem in_X28 : ∀ w ∈ wsX280, w ∈ lw_all := lw_in wsX280 [1341, 1342, 1343, 1340, 1338] (by decide +kernel) (by decide +kernel)

/-! CoatHoles$EatsAct -/
set_option maxRecDepth 100000
def RX29 : String := "CoatHoles$EatsAct"
abbrev cX29_lays : ByteArray := prog_11_method_2_code
def yX29_lays : MethodName := ⟨RX29, "lays", "(I)I"⟩
def dkwX29_lays_0 : List UInt8 := [42, 27, 185, 0, 1, 2, 0, 5, 104, 172]
abbrev dktX29_lays_0 : List UInt8 := dkwX29_lays_0 ++ []
theorem dksX29_lays_0 : cX29_lays.data.toList.drop 0 = dktX29_lays_0 := by decide +kernel
theorem dX29_lays_0 : decode cX29_lays 0 = .ok (.aload_n 0, 1) := dk_42 (dk_at dksX29_lays_0 0 rfl rfl)
theorem dX29_lays_1 : decode cX29_lays 1 = .ok (.iload_n 1, 1) := dk_27 (dk_at dksX29_lays_0 1 rfl rfl)
theorem dX29_lays_2 : decode cX29_lays 2 = .ok (.invokeinterface 1 2, 5) := by decide +kernel
theorem dX29_lays_7 : decode cX29_lays 7 = .ok (.iconst 2, 1) := dk_5 (dk_at dksX29_lays_0 7 rfl rfl)
theorem dX29_lays_8 : decode cX29_lays 8 = .ok (.imul, 1) := dk_104 (dk_at dksX29_lays_0 8 rfl rfl)
theorem dX29_lays_9 : decode cX29_lays 9 = .ok (.ireturn, 1) := dk_172 (dk_at dksX29_lays_0 9 rfl rfl)
theorem q1408 : (Jvm.Cond.publicMethod ({ cls := "CoatHoles$EatsAct", name := "eats", desc := "(I)I" } : Jvm.MethodName)) ∈ lw_tbl := lw_at lw_m6 106 rfl
theorem q1409 : (Jvm.Cond.declares ({ cls := "CoatHoles$EatsAct", name := "eats", desc := "(I)I" } : Jvm.MethodName)) ∈ lw_tbl := lw_at lw_m6 107 rfl
theorem q1450 : (Jvm.Cond.publicMethod ({ cls := "CoatHoles$EatsAct", name := "lays", desc := "(I)I" } : Jvm.MethodName)) ∈ lw_tbl := lw_at lw_m6 148 rfl
theorem q1451 : (Jvm.Cond.declares ({ cls := "CoatHoles$EatsAct", name := "lays", desc := "(I)I" } : Jvm.MethodName)) ∈ lw_tbl := lw_at lw_m6 149 rfl
theorem q1458 : (Jvm.Cond.instanceMethod ({ cls := "CoatHoles$EatsAct", name := "lays", desc := "(I)I" } : Jvm.MethodName)) ∈ lw_all := lw_g (lw_at lw_m6 156 rfl) rfl
theorem q1459 : (Jvm.Cond.code ({ cls := "CoatHoles$EatsAct", name := "lays", desc := "(I)I" } : Jvm.MethodName) prog_11_method_2_code (2 : Nat) (Option.some Jvm.ClassFile.FieldType.int)) ∈ lw_all := lw_g (lw_at lw_m6 157 rfl) rfl
theorem q1460 : (Jvm.Cond.interfaceEntry "CoatHoles$EatsAct" (1 : Nat)) ∈ lw_tbl := lw_at lw_m6 158 rfl
theorem q1461 : (Jvm.Cond.methodLink "CoatHoles$EatsAct" (1 : Nat) ({ cls := "CoatHoles$EatsAct", name := "eats", desc := "(I)I" } : Jvm.MethodName)) ∈ lw_all := lw_g (lw_at lw_m6 159 rfl) rfl
theorem q1462 : (Jvm.Cond.interfaceMethod "CoatHoles$EatsAct" "CoatHoles$EatsAct" "eats" "(I)I") ∈ lw_tbl := lw_at lw_m6 160 rfl

theorem q153 : (Jvm.Cond.arrayOver (Jvm.ClassFile.FieldType.object "CoatHoles$Nature")) ∈ lw_tbl := lw_at lw_m1 51 rfl
set_option maxRecDepth 100000
theorem q224 : (Jvm.Cond.arrayOver (Jvm.ClassFile.FieldType.object "CoatHoles$Silk")) ∈ lw_tbl := lw_at lw_m1 122 rfl
theorem q267 : (Jvm.Cond.arrayOver (Jvm.ClassFile.FieldType.object "CoatHoles$Item")) ∈ lw_tbl := lw_at lw_m1 165 rfl
theorem q314 : (Jvm.Cond.arrayClass Jvm.ClassFile.FieldType.int) ∈ lw_all := lw_g (lw_at lw_m1 212 rfl) rfl
theorem q388 : (Jvm.Cond.arrayClass Jvm.ClassFile.FieldType.boolean) ∈ lw_all := lw_g (lw_at lw_m2 46 rfl) rfl
theorem q389 : (Jvm.Cond.arrayOver (Jvm.ClassFile.FieldType.object "CoatHoles$Cup")) ∈ lw_tbl := lw_at lw_m2 47 rfl
theorem q397 : (Jvm.Cond.arrayOver (Jvm.ClassFile.FieldType.object "java/lang/String")) ∈ lw_tbl := lw_at lw_m2 55 rfl
theorem q477 : (Jvm.Cond.arrayClass Jvm.ClassFile.FieldType.byte) ∈ lw_all := lw_g (lw_at lw_m2 135 rfl) rfl
theorem q501 : (Jvm.Cond.arrayOver (Jvm.ClassFile.FieldType.object "CoatHoles$Row")) ∈ lw_tbl := lw_at lw_m2 159 rfl
theorem q503 : (Jvm.Cond.arrayOver (Jvm.ClassFile.FieldType.object "CoatHoles$Sheet")) ∈ lw_tbl := lw_at lw_m2 161 rfl
theorem q556 : (Jvm.Cond.arrayOver (Jvm.ClassFile.FieldType.object "CoatHoles$Shelf")) ∈ lw_tbl := lw_at lw_m2 214 rfl
theorem q1185 : (Jvm.Cond.arrayClass Jvm.ClassFile.FieldType.short) ∈ lw_all := lw_g (lw_at lw_m5 123 rfl) rfl
theorem q1186 : (Jvm.Cond.arrayClass Jvm.ClassFile.FieldType.long) ∈ lw_all := lw_g (lw_at lw_m5 124 rfl) rfl

theorem q128 : (Jvm.Cond.initialized "java/lang/System") ∈ lw_all := lw_g (lw_at lw_m1 26 rfl) rfl
set_option maxRecDepth 100000
theorem q657 : (Jvm.Cond.static ({ cls := "java/lang/System", name := "arraycopy", desc := "(Ljava/lang/Object;ILjava/lang/Object;II)V" } : Jvm.MethodName)) ∈ lw_all := lw_g (lw_at lw_m3 75 rfl) rfl
theorem q658 : (Jvm.Cond.native ({ cls := "java/lang/System", name := "arraycopy", desc := "(Ljava/lang/Object;ILjava/lang/Object;II)V" } : Jvm.MethodName)) ∈ lw_all := lw_g (lw_at lw_m3 76 rfl) rfl

theorem q1487 : (Jvm.Cond.publicMethod ({ cls := "CoatHoles$SharesAct", name := "shares", desc := "(I)I" } : Jvm.MethodName)) ∈ lw_tbl := lw_at lw_m6 185 rfl
set_option maxRecDepth 100000
theorem q1488 : (Jvm.Cond.declares ({ cls := "CoatHoles$SharesAct", name := "shares", desc := "(I)I" } : Jvm.MethodName)) ∈ lw_tbl := lw_at lw_m6 186 rfl

theorem q1519 : (Jvm.Cond.interfaceMethod "CoatHoles$Tells" "CoatHoles$Tells" "tells" "(I)I") ∈ lw_tbl := lw_at lw_m6 217 rfl
set_option maxRecDepth 100000
theorem q1520 : (Jvm.Cond.declares ({ cls := "CoatHoles$Tells", name := "tells", desc := "(I)I" } : Jvm.MethodName)) ∈ lw_tbl := lw_at lw_m6 218 rfl
