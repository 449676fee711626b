/-! java/lang/Throwable -/
set_option maxRecDepth 100000
def RJ0 : String := "java/lang/Throwable"
def TJ0 : u_T := fun k => match k with
  | 0 => ("java/lang/Throwable", "cause", "Ljava/lang/Throwable;", false)
  | 1 => ("java/lang/Throwable", "stackTrace", "[Ljava/lang/StackTraceElement;", false)
  | 2 => ("java/lang/Throwable", "suppressedExceptions", "Ljava/util/List;", false)
  | 3 => ("java/lang/Throwable", "detailMessage", "Ljava/lang/String;", false)
  | _ => ("java/lang/Throwable", "backtrace", "Ljava/lang/Object;", false)
def tyJ0 : Nat → FieldType := fun k => match k with
  | 0 => .object "java/lang/Throwable"
  | 1 => .array (.object "java/lang/StackTraceElement")
  | 2 => .object "java/util/List"
  | 3 => .object "java/lang/String"
  | _ => .object "java/lang/Object"
abbrev wsJ00 : List Cond := u_ws RJ0 TJ0 5
theorem nmJ0 : ∀ a, a < 5 → ∀ b, b < 5 → a ≠ b → (TJ0 a).2.1 ≠ (TJ0 b).2.1 := by decide +kernel
theorem tyJ0_ok : ∀ k, k < 5 → parseFieldDescriptor (TJ0 k).2.2.1 = some (tyJ0 k) := by decide +kernel
abbrev cJ0_init : ByteArray := prog_37_method_1_code
def yJ0_init : MethodName := ⟨RJ0, "<init>", "()V"⟩
def dkwJ0_init_1 : List UInt8 := [182, 0, 27, 87, 177]
abbrev dktJ0_init_1 : List UInt8 := dkwJ0_init_1 ++ []
def dkwJ0_init_0 : List UInt8 := [42, 183, 0, 1, 42, 42, 181, 0, 7, 42, 178, 0, 13, 181, 0, 17, 42, 178, 0, 20, 181, 0, 24, 42]
abbrev dktJ0_init_0 : List UInt8 := dkwJ0_init_0 ++ dktJ0_init_1
theorem dksJ0_init_0 : cJ0_init.data.toList.drop 0 = dktJ0_init_0 := by decide +kernel
theorem dksJ0_init_1 : cJ0_init.data.toList.drop 24 = dktJ0_init_1 := dk_seg dksJ0_init_0 24 rfl rfl
theorem dJ0_init_0 : decode cJ0_init 0 = .ok (.aload_n 0, 1) := dk_42 (dk_at dksJ0_init_0 0 rfl rfl)
theorem dJ0_init_1 : decode cJ0_init 1 = .ok (.invokespecial 1, 3) := dk_183 0 1 (dk_at dksJ0_init_0 1 rfl rfl)
theorem dJ0_init_4 : decode cJ0_init 4 = .ok (.aload_n 0, 1) := dk_42 (dk_at dksJ0_init_0 4 rfl rfl)
theorem dJ0_init_5 : decode cJ0_init 5 = .ok (.aload_n 0, 1) := dk_42 (dk_at dksJ0_init_0 5 rfl rfl)
theorem dJ0_init_6 : decode cJ0_init 6 = .ok (.putfield 7, 3) := dk_181 0 7 (dk_at dksJ0_init_0 6 rfl rfl)
theorem dJ0_init_9 : decode cJ0_init 9 = .ok (.aload_n 0, 1) := dk_42 (dk_at dksJ0_init_0 9 rfl rfl)
theorem dJ0_init_10 : decode cJ0_init 10 = .ok (.getstatic 13, 3) := dk_178 0 13 (dk_at dksJ0_init_0 10 rfl rfl)
theorem dJ0_init_13 : decode cJ0_init 13 = .ok (.putfield 17, 3) := dk_181 0 17 (dk_at dksJ0_init_0 13 rfl rfl)
theorem dJ0_init_16 : decode cJ0_init 16 = .ok (.aload_n 0, 1) := dk_42 (dk_at dksJ0_init_0 16 rfl rfl)
theorem dJ0_init_17 : decode cJ0_init 17 = .ok (.getstatic 20, 3) := dk_178 0 20 (dk_at dksJ0_init_0 17 rfl rfl)
theorem dJ0_init_20 : decode cJ0_init 20 = .ok (.putfield 24, 3) := dk_181 0 24 (dk_at dksJ0_init_0 20 rfl rfl)
theorem dJ0_init_23 : decode cJ0_init 23 = .ok (.aload_n 0, 1) := dk_42 (dk_at dksJ0_init_0 23 rfl rfl)
theorem dJ0_init_24 : decode cJ0_init 24 = .ok (.invokevirtual 27, 3) := dk_182 0 27 (dk_at dksJ0_init_1 0 rfl rfl)
theorem dJ0_init_27 : decode cJ0_init 27 = .ok (.pop, 1) := dk_87 (dk_at dksJ0_init_1 3 rfl rfl)
theorem dJ0_init_28 : decode cJ0_init 28 = .ok (.return_, 1) := dk_177 (dk_at dksJ0_init_1 4 rfl rfl)
abbrev cJ0_init_2 : ByteArray := prog_37_method_2_code
def yJ0_init_2 : MethodName := ⟨RJ0, "<init>", "(Ljava/lang/String;)V"⟩
def dkwJ0_init_2_1 : List UInt8 := [182, 0, 27, 87, 42, 43, 181, 0, 31, 177]
abbrev dktJ0_init_2_1 : List UInt8 := dkwJ0_init_2_1 ++ []
def dkwJ0_init_2_0 : List UInt8 := [42, 183, 0, 1, 42, 42, 181, 0, 7, 42, 178, 0, 13, 181, 0, 17, 42, 178, 0, 20, 181, 0, 24, 42]
abbrev dktJ0_init_2_0 : List UInt8 := dkwJ0_init_2_0 ++ dktJ0_init_2_1
theorem dksJ0_init_2_0 : cJ0_init_2.data.toList.drop 0 = dktJ0_init_2_0 := by decide +kernel
theorem dksJ0_init_2_1 : cJ0_init_2.data.toList.drop 24 = dktJ0_init_2_1 := dk_seg dksJ0_init_2_0 24 rfl rfl
theorem dJ0_init_2_0 : decode cJ0_init_2 0 = .ok (.aload_n 0, 1) := dk_42 (dk_at dksJ0_init_2_0 0 rfl rfl)
theorem dJ0_init_2_1 : decode cJ0_init_2 1 = .ok (.invokespecial 1, 3) := dk_183 0 1 (dk_at dksJ0_init_2_0 1 rfl rfl)
theorem dJ0_init_2_4 : decode cJ0_init_2 4 = .ok (.aload_n 0, 1) := dk_42 (dk_at dksJ0_init_2_0 4 rfl rfl)
theorem dJ0_init_2_5 : decode cJ0_init_2 5 = .ok (.aload_n 0, 1) := dk_42 (dk_at dksJ0_init_2_0 5 rfl rfl)
theorem dJ0_init_2_6 : decode cJ0_init_2 6 = .ok (.putfield 7, 3) := dk_181 0 7 (dk_at dksJ0_init_2_0 6 rfl rfl)
theorem dJ0_init_2_9 : decode cJ0_init_2 9 = .ok (.aload_n 0, 1) := dk_42 (dk_at dksJ0_init_2_0 9 rfl rfl)
theorem dJ0_init_2_10 : decode cJ0_init_2 10 = .ok (.getstatic 13, 3) := dk_178 0 13 (dk_at dksJ0_init_2_0 10 rfl rfl)
theorem dJ0_init_2_13 : decode cJ0_init_2 13 = .ok (.putfield 17, 3) := dk_181 0 17 (dk_at dksJ0_init_2_0 13 rfl rfl)
theorem dJ0_init_2_16 : decode cJ0_init_2 16 = .ok (.aload_n 0, 1) := dk_42 (dk_at dksJ0_init_2_0 16 rfl rfl)
theorem dJ0_init_2_17 : decode cJ0_init_2 17 = .ok (.getstatic 20, 3) := dk_178 0 20 (dk_at dksJ0_init_2_0 17 rfl rfl)
theorem dJ0_init_2_20 : decode cJ0_init_2 20 = .ok (.putfield 24, 3) := dk_181 0 24 (dk_at dksJ0_init_2_0 20 rfl rfl)
theorem dJ0_init_2_23 : decode cJ0_init_2 23 = .ok (.aload_n 0, 1) := dk_42 (dk_at dksJ0_init_2_0 23 rfl rfl)
theorem dJ0_init_2_24 : decode cJ0_init_2 24 = .ok (.invokevirtual 27, 3) := dk_182 0 27 (dk_at dksJ0_init_2_1 0 rfl rfl)
theorem dJ0_init_2_27 : decode cJ0_init_2 27 = .ok (.pop, 1) := dk_87 (dk_at dksJ0_init_2_1 3 rfl rfl)
theorem dJ0_init_2_28 : decode cJ0_init_2 28 = .ok (.aload_n 0, 1) := dk_42 (dk_at dksJ0_init_2_1 4 rfl rfl)
theorem dJ0_init_2_29 : decode cJ0_init_2 29 = .ok (.aload_n 1, 1) := dk_43 (dk_at dksJ0_init_2_1 5 rfl rfl)
theorem dJ0_init_2_30 : decode cJ0_init_2 30 = .ok (.putfield 31, 3) := dk_181 0 31 (dk_at dksJ0_init_2_1 6 rfl rfl)
theorem dJ0_init_2_33 : decode cJ0_init_2 33 = .ok (.return_, 1) := dk_177 (dk_at dksJ0_init_2_1 9 rfl rfl)
abbrev cJ0_init_3 : ByteArray := prog_37_method_5_code
def yJ0_init_3 : MethodName := ⟨RJ0, "<init>", "(Ljava/lang/String;Ljava/lang/Throwable;ZZ)V"⟩
def dkwJ0_init_3_2 : List UInt8 := [44, 181, 0, 7, 29, 154, 0, 8, 42, 1, 181, 0, 24, 177]
abbrev dktJ0_init_3_2 : List UInt8 := dkwJ0_init_3_2 ++ []
def dkwJ0_init_3_1 : List UInt8 := [21, 4, 153, 0, 11, 42, 182, 0, 27, 87, 167, 0, 8, 42, 1, 181, 0, 17, 42, 43, 181, 0, 31, 42]
abbrev dktJ0_init_3_1 : List UInt8 := dkwJ0_init_3_1 ++ dktJ0_init_3_2
def dkwJ0_init_3_0 : List UInt8 := [42, 183, 0, 1, 42, 42, 181, 0, 7, 42, 178, 0, 13, 181, 0, 17, 42, 178, 0, 20, 181, 0, 24]
abbrev dktJ0_init_3_0 : List UInt8 := dkwJ0_init_3_0 ++ dktJ0_init_3_1
theorem dksJ0_init_3_0 : cJ0_init_3.data.toList.drop 0 = dktJ0_init_3_0 := by decide +kernel
theorem dksJ0_init_3_1 : cJ0_init_3.data.toList.drop 23 = dktJ0_init_3_1 := dk_seg dksJ0_init_3_0 23 rfl rfl
theorem dksJ0_init_3_2 : cJ0_init_3.data.toList.drop 47 = dktJ0_init_3_2 := dk_seg dksJ0_init_3_1 24 rfl rfl
theorem dJ0_init_3_0 : decode cJ0_init_3 0 = .ok (.aload_n 0, 1) := dk_42 (dk_at dksJ0_init_3_0 0 rfl rfl)
theorem dJ0_init_3_1 : decode cJ0_init_3 1 = .ok (.invokespecial 1, 3) := dk_183 0 1 (dk_at dksJ0_init_3_0 1 rfl rfl)
theorem dJ0_init_3_4 : decode cJ0_init_3 4 = .ok (.aload_n 0, 1) := dk_42 (dk_at dksJ0_init_3_0 4 rfl rfl)
theorem dJ0_init_3_5 : decode cJ0_init_3 5 = .ok (.aload_n 0, 1) := dk_42 (dk_at dksJ0_init_3_0 5 rfl rfl)
theorem dJ0_init_3_6 : decode cJ0_init_3 6 = .ok (.putfield 7, 3) := dk_181 0 7 (dk_at dksJ0_init_3_0 6 rfl rfl)
theorem dJ0_init_3_9 : decode cJ0_init_3 9 = .ok (.aload_n 0, 1) := dk_42 (dk_at dksJ0_init_3_0 9 rfl rfl)
theorem dJ0_init_3_10 : decode cJ0_init_3 10 = .ok (.getstatic 13, 3) := dk_178 0 13 (dk_at dksJ0_init_3_0 10 rfl rfl)
theorem dJ0_init_3_13 : decode cJ0_init_3 13 = .ok (.putfield 17, 3) := dk_181 0 17 (dk_at dksJ0_init_3_0 13 rfl rfl)
theorem dJ0_init_3_16 : decode cJ0_init_3 16 = .ok (.aload_n 0, 1) := dk_42 (dk_at dksJ0_init_3_0 16 rfl rfl)
theorem dJ0_init_3_17 : decode cJ0_init_3 17 = .ok (.getstatic 20, 3) := dk_178 0 20 (dk_at dksJ0_init_3_0 17 rfl rfl)
theorem dJ0_init_3_20 : decode cJ0_init_3 20 = .ok (.putfield 24, 3) := dk_181 0 24 (dk_at dksJ0_init_3_0 20 rfl rfl)
theorem dJ0_init_3_23 : decode cJ0_init_3 23 = .ok (.iload 4, 2) := dk_21 4 (dk_at dksJ0_init_3_1 0 rfl rfl)
theorem dJ0_init_3_25 : decode cJ0_init_3 25 = .ok (.ifCond .eq 11, 3) := dk_153 0 11 (dk_at dksJ0_init_3_1 2 rfl rfl)
theorem dJ0_init_3_28 : decode cJ0_init_3 28 = .ok (.aload_n 0, 1) := dk_42 (dk_at dksJ0_init_3_1 5 rfl rfl)
theorem dJ0_init_3_29 : decode cJ0_init_3 29 = .ok (.invokevirtual 27, 3) := dk_182 0 27 (dk_at dksJ0_init_3_1 6 rfl rfl)
theorem dJ0_init_3_32 : decode cJ0_init_3 32 = .ok (.pop, 1) := dk_87 (dk_at dksJ0_init_3_1 9 rfl rfl)
theorem dJ0_init_3_33 : decode cJ0_init_3 33 = .ok (.goto 8, 3) := dk_167 0 8 (dk_at dksJ0_init_3_1 10 rfl rfl)
theorem dJ0_init_3_36 : decode cJ0_init_3 36 = .ok (.aload_n 0, 1) := dk_42 (dk_at dksJ0_init_3_1 13 rfl rfl)
theorem dJ0_init_3_37 : decode cJ0_init_3 37 = .ok (.aconst_null, 1) := dk_1 (dk_at dksJ0_init_3_1 14 rfl rfl)
theorem dJ0_init_3_38 : decode cJ0_init_3 38 = .ok (.putfield 17, 3) := dk_181 0 17 (dk_at dksJ0_init_3_1 15 rfl rfl)
theorem dJ0_init_3_41 : decode cJ0_init_3 41 = .ok (.aload_n 0, 1) := dk_42 (dk_at dksJ0_init_3_1 18 rfl rfl)
theorem dJ0_init_3_42 : decode cJ0_init_3 42 = .ok (.aload_n 1, 1) := dk_43 (dk_at dksJ0_init_3_1 19 rfl rfl)
theorem dJ0_init_3_43 : decode cJ0_init_3 43 = .ok (.putfield 31, 3) := dk_181 0 31 (dk_at dksJ0_init_3_1 20 rfl rfl)
theorem dJ0_init_3_46 : decode cJ0_init_3 46 = .ok (.aload_n 0, 1) := dk_42 (dk_at dksJ0_init_3_1 23 rfl rfl)
theorem dJ0_init_3_47 : decode cJ0_init_3 47 = .ok (.aload_n 2, 1) := dk_44 (dk_at dksJ0_init_3_2 0 rfl rfl)
theorem dJ0_init_3_48 : decode cJ0_init_3 48 = .ok (.putfield 7, 3) := dk_181 0 7 (dk_at dksJ0_init_3_2 1 rfl rfl)
theorem dJ0_init_3_51 : decode cJ0_init_3 51 = .ok (.iload_n 3, 1) := dk_29 (dk_at dksJ0_init_3_2 4 rfl rfl)
theorem dJ0_init_3_52 : decode cJ0_init_3 52 = .ok (.ifCond .ne 8, 3) := dk_154 0 8 (dk_at dksJ0_init_3_2 5 rfl rfl)
theorem dJ0_init_3_55 : decode cJ0_init_3 55 = .ok (.aload_n 0, 1) := dk_42 (dk_at dksJ0_init_3_2 8 rfl rfl)
theorem dJ0_init_3_56 : decode cJ0_init_3 56 = .ok (.aconst_null, 1) := dk_1 (dk_at dksJ0_init_3_2 9 rfl rfl)
theorem dJ0_init_3_57 : decode cJ0_init_3 57 = .ok (.putfield 24, 3) := dk_181 0 24 (dk_at dksJ0_init_3_2 10 rfl rfl)
theorem dJ0_init_3_60 : decode cJ0_init_3 60 = .ok (.return_, 1) := dk_177 (dk_at dksJ0_init_3_2 13 rfl rfl)
theorem q81 : (Jvm.Cond.initialized "java/lang/Throwable") ∈ lw_all := lw_g (lw_at lw_m1 4 rfl) rfl
theorem q331 : (Jvm.Cond.declares ({ cls := "java/lang/Throwable", name := "<init>", desc := "()V" } : Jvm.MethodName)) ∈ lw_tbl := lw_at lw_m2 14 rfl
theorem q332 : (Jvm.Cond.declares ({ cls := "java/lang/Throwable", name := "<init>", desc := "(Ljava/lang/String;)V" } : Jvm.MethodName)) ∈ lw_tbl := lw_at lw_m2 15 rfl
theorem q336 : (Jvm.Cond.lays "java/lang/Throwable" "java/lang/Throwable" "cause" "Ljava/lang/Throwable;") ∈ lw_all := lw_g (lw_at lw_m2 19 rfl) rfl
theorem q338 : (Jvm.Cond.lays "java/lang/Throwable" "java/lang/Throwable" "stackTrace" "[Ljava/lang/StackTraceElement;") ∈ lw_all := lw_g (lw_at lw_m2 21 rfl) rfl
theorem q340 : (Jvm.Cond.lays "java/lang/Throwable" "java/lang/Throwable" "suppressedExceptions" "Ljava/util/List;") ∈ lw_all := lw_g (lw_at lw_m2 23 rfl) rfl
theorem q342 : (Jvm.Cond.lays "java/lang/Throwable" "java/lang/Throwable" "detailMessage" "Ljava/lang/String;") ∈ lw_all := lw_g (lw_at lw_m2 25 rfl) rfl
theorem q344 : (Jvm.Cond.lays "java/lang/Throwable" "java/lang/Throwable" "backtrace" "Ljava/lang/Object;") ∈ lw_all := lw_g (lw_at lw_m2 27 rfl) rfl
theorem q345 : (Jvm.Cond.fieldLink "java/lang/Throwable" (198 : Nat) "java/lang/Throwable" "backtrace" "Ljava/lang/Object;") ∈ lw_all := lw_g (lw_at lw_m2 28 rfl) rfl
theorem q346 : (Jvm.Cond.superclass "java/lang/Throwable" "java/lang/Object") ∈ lw_all := lw_g (lw_at lw_m2 29 rfl) rfl
theorem q347 : (Jvm.Cond.instanceMethod ({ cls := "java/lang/Throwable", name := "<init>", desc := "()V" } : Jvm.MethodName)) ∈ lw_all := lw_g (lw_at lw_m2 30 rfl) rfl
theorem q348 : (Jvm.Cond.code ({ cls := "java/lang/Throwable", name := "<init>", desc := "()V" } : Jvm.MethodName) prog_37_method_1_code (1 : Nat) (Option.none : Option Jvm.ClassFile.FieldType)) ∈ lw_all := lw_g (lw_at lw_m2 31 rfl) rfl
theorem q349 : (Jvm.Cond.methodLink "java/lang/Throwable" (1 : Nat) ({ cls := "java/lang/Object", name := "<init>", desc := "()V" } : Jvm.MethodName)) ∈ lw_all := lw_g (lw_at lw_m2 32 rfl) rfl
theorem q350 : (Jvm.Cond.fieldLink "java/lang/Throwable" (13 : Nat) "java/lang/Throwable" "UNASSIGNED_STACK" "[Ljava/lang/StackTraceElement;") ∈ lw_all := lw_g (lw_at lw_m2 33 rfl) rfl
theorem q351 : (Jvm.Cond.laysStatic "java/lang/Throwable" "UNASSIGNED_STACK" "[Ljava/lang/StackTraceElement;") ∈ lw_tbl := lw_at lw_m2 34 rfl
theorem q352 : (Jvm.Cond.fieldLink "java/lang/Throwable" (20 : Nat) "java/lang/Throwable" "SUPPRESSED_SENTINEL" "Ljava/util/List;") ∈ lw_all := lw_g (lw_at lw_m2 35 rfl) rfl
theorem q353 : (Jvm.Cond.laysStatic "java/lang/Throwable" "SUPPRESSED_SENTINEL" "Ljava/util/List;") ∈ lw_tbl := lw_at lw_m2 36 rfl
theorem q354 : (Jvm.Cond.methodLink "java/lang/Throwable" (27 : Nat) ({ cls := "java/lang/Throwable", name := "fillInStackTrace", desc := "()Ljava/lang/Throwable;" } : Jvm.MethodName)) ∈ lw_all := lw_g (lw_at lw_m2 37 rfl) rfl
theorem q355 : (Jvm.Cond.instanceMethod ({ cls := "java/lang/Throwable", name := "fillInStackTrace", desc := "()Ljava/lang/Throwable;" } : Jvm.MethodName)) ∈ lw_all := lw_g (lw_at lw_m2 38 rfl) rfl
theorem q356 : (Jvm.Cond.sameMethod "java/lang/Throwable" "java/lang/Throwable" "fillInStackTrace" "()Ljava/lang/Throwable;") ∈ lw_all := lw_g (lw_at lw_m2 39 rfl) rfl
theorem q364 : (Jvm.Cond.codeSync ({ cls := "java/lang/Throwable", name := "fillInStackTrace", desc := "()Ljava/lang/Throwable;" } : Jvm.MethodName) prog_37_method_18_code (1 : Nat) (Option.some (Jvm.ClassFile.FieldType.object "java/lang/Throwable"))) ∈ lw_all := lw_g (lw_at lw_m2 47 rfl) rfl
theorem q365 : (Jvm.Cond.methodLink "java/lang/Throwable" (202 : Nat) ({ cls := "java/lang/Throwable", name := "fillInStackTrace", desc := "(I)Ljava/lang/Throwable;" } : Jvm.MethodName)) ∈ lw_all := lw_g (lw_at lw_m2 48 rfl) rfl
theorem q366 : (Jvm.Cond.privateMethod ({ cls := "java/lang/Throwable", name := "fillInStackTrace", desc := "(I)Ljava/lang/Throwable;" } : Jvm.MethodName)) ∈ lw_tbl := lw_at lw_m2 49 rfl
theorem q367 : (Jvm.Cond.instanceMethod ({ cls := "java/lang/Throwable", name := "fillInStackTrace", desc := "(I)Ljava/lang/Throwable;" } : Jvm.MethodName)) ∈ lw_all := lw_g (lw_at lw_m2 50 rfl) rfl
theorem q368 : (Jvm.Cond.instantiable "java/lang/Throwable" (6 : Nat)) ∈ lw_all := lw_g (lw_at lw_m2 51 rfl) rfl
theorem q369 : (Jvm.Cond.native ({ cls := "java/lang/Throwable", name := "fillInStackTrace", desc := "(I)Ljava/lang/Throwable;" } : Jvm.MethodName)) ∈ lw_all := lw_g (lw_at lw_m2 52 rfl) rfl
theorem q381 : (Jvm.Cond.instanceMethod ({ cls := "java/lang/Throwable", name := "<init>", desc := "(Ljava/lang/String;)V" } : Jvm.MethodName)) ∈ lw_all := lw_g (lw_at lw_m2 64 rfl) rfl
theorem q382 : (Jvm.Cond.code ({ cls := "java/lang/Throwable", name := "<init>", desc := "(Ljava/lang/String;)V" } : Jvm.MethodName) prog_37_method_2_code (2 : Nat) (Option.none : Option Jvm.ClassFile.FieldType)) ∈ lw_all := lw_g (lw_at lw_m2 65 rfl) rfl
theorem q383 : (Jvm.Cond.fieldLink "java/lang/Throwable" (198 : Nat) "java/lang/Throwable" "backtrace" "Ljava/lang/Object;") ∈ lw_all := lw_g (lw_at lw_m2 66 rfl) rfl
theorem q384 : (Jvm.Cond.fieldLink "java/lang/Throwable" (31 : Nat) "java/lang/Throwable" "detailMessage" "Ljava/lang/String;") ∈ lw_all := lw_g (lw_at lw_m2 67 rfl) rfl
theorem q385 : (Jvm.Cond.fieldLink "java/lang/Throwable" (7 : Nat) "java/lang/Throwable" "cause" "Ljava/lang/Throwable;") ∈ lw_all := lw_g (lw_at lw_m2 68 rfl) rfl
theorem q386 : (Jvm.Cond.fieldLink "java/lang/Throwable" (17 : Nat) "java/lang/Throwable" "stackTrace" "[Ljava/lang/StackTraceElement;") ∈ lw_all := lw_g (lw_at lw_m2 69 rfl) rfl
theorem q387 : (Jvm.Cond.fieldLink "java/lang/Throwable" (24 : Nat) "java/lang/Throwable" "suppressedExceptions" "Ljava/util/List;") ∈ lw_all := lw_g (lw_at lw_m2 70 rfl) rfl
theorem q388 : (Jvm.Cond.soleField "java/lang/Throwable" "backtrace") ∈ lw_all := lw_g (lw_at lw_m2 71 rfl) rfl
theorem q389 : (Jvm.Cond.soleField "java/lang/Throwable" "detailMessage") ∈ lw_all := lw_g (lw_at lw_m2 72 rfl) rfl
theorem q390 : (Jvm.Cond.soleField "java/lang/Throwable" "cause") ∈ lw_all := lw_g (lw_at lw_m2 73 rfl) rfl
theorem q391 : (Jvm.Cond.soleField "java/lang/Throwable" "stackTrace") ∈ lw_all := lw_g (lw_at lw_m2 74 rfl) rfl
theorem q393 : (Jvm.Cond.soleField "java/lang/Throwable" "depth") ∈ lw_all := lw_g (lw_at lw_m2 76 rfl) rfl
theorem q394 : (Jvm.Cond.soleField "java/lang/Throwable" "suppressedExceptions") ∈ lw_all := lw_g (lw_at lw_m2 77 rfl) rfl
theorem q1194 : (Jvm.Cond.instanceMethod ({ cls := "java/lang/Throwable", name := "<init>", desc := "(Ljava/lang/String;Ljava/lang/Throwable;ZZ)V" } : Jvm.MethodName)) ∈ lw_all := lw_g (lw_at lw_m5 157 rfl) rfl
theorem q1195 : (Jvm.Cond.code ({ cls := "java/lang/Throwable", name := "<init>", desc := "(Ljava/lang/String;Ljava/lang/Throwable;ZZ)V" } : Jvm.MethodName) prog_37_method_5_code (5 : Nat) (Option.none : Option Jvm.ClassFile.FieldType)) ∈ lw_all := lw_g (lw_at lw_m5 158 rfl) rfl
theorem q2178 : (Jvm.Cond.sameMethod "java/lang/Throwable" "java/lang/Throwable" "fillInStackTrace" "(I)Ljava/lang/Throwable;") ∈ lw_all := lw_g (lw_at lw_m9 181 rfl) rfl
theorem q2213 : (Jvm.Cond.castable "java/lang/Throwable" "java/lang/Object") ∈ lw_tbl := lw_at lw_m9 216 rfl
theorem in_J0 : ∀ w ∈ wsJ00, w ∈ lw_all := lw_in wsJ00 [336, 338, 340, 342, 344] (by decide +kernel) (by decide +kernel)

/-! java/lang/Exception -/
set_option maxRecDepth 100000
def RJ1 : String := "java/lang/Exception"
abbrev cJ1_init : ByteArray := prog_21_method_2_code
def yJ1_init : MethodName := ⟨RJ1, "<init>", "(Ljava/lang/String;)V"⟩
def dkwJ1_init_0 : List UInt8 := [42, 43, 183, 0, 7, 177]
abbrev dktJ1_init_0 : List UInt8 := dkwJ1_init_0 ++ []
theorem dksJ1_init_0 : cJ1_init.data.toList.drop 0 = dktJ1_init_0 := by decide +kernel
theorem dJ1_init_0 : decode cJ1_init 0 = .ok (.aload_n 0, 1) := dk_42 (dk_at dksJ1_init_0 0 rfl rfl)
theorem dJ1_init_1 : decode cJ1_init 1 = .ok (.aload_n 1, 1) := dk_43 (dk_at dksJ1_init_0 1 rfl rfl)
theorem dJ1_init_2 : decode cJ1_init 2 = .ok (.invokespecial 7, 3) := dk_183 0 7 (dk_at dksJ1_init_0 2 rfl rfl)
theorem dJ1_init_5 : decode cJ1_init 5 = .ok (.return_, 1) := dk_177 (dk_at dksJ1_init_0 5 rfl rfl)
abbrev cJ1_init_2 : ByteArray := prog_21_method_1_code
def yJ1_init_2 : MethodName := ⟨RJ1, "<init>", "()V"⟩
theorem dJ1_init_2_0 : decode cJ1_init_2 0 = .ok (.aload_n 0, 1) := by decide +kernel
theorem dJ1_init_2_1 : decode cJ1_init_2 1 = .ok (.invokespecial 1, 3) := by decide +kernel
theorem dJ1_init_2_4 : decode cJ1_init_2 4 = .ok (.return_, 1) := by decide +kernel
abbrev cJ1_init_3 : ByteArray := prog_21_method_5_code
def yJ1_init_3 : MethodName := ⟨RJ1, "<init>", "(Ljava/lang/String;Ljava/lang/Throwable;ZZ)V"⟩
def dkwJ1_init_3_0 : List UInt8 := [42, 43, 44, 29, 21, 4, 183, 0, 16, 177]
abbrev dktJ1_init_3_0 : List UInt8 := dkwJ1_init_3_0 ++ []
theorem dksJ1_init_3_0 : cJ1_init_3.data.toList.drop 0 = dktJ1_init_3_0 := by decide +kernel
theorem dJ1_init_3_0 : decode cJ1_init_3 0 = .ok (.aload_n 0, 1) := dk_42 (dk_at dksJ1_init_3_0 0 rfl rfl)
theorem dJ1_init_3_1 : decode cJ1_init_3 1 = .ok (.aload_n 1, 1) := dk_43 (dk_at dksJ1_init_3_0 1 rfl rfl)
theorem dJ1_init_3_2 : decode cJ1_init_3 2 = .ok (.aload_n 2, 1) := dk_44 (dk_at dksJ1_init_3_0 2 rfl rfl)
theorem dJ1_init_3_3 : decode cJ1_init_3 3 = .ok (.iload_n 3, 1) := dk_29 (dk_at dksJ1_init_3_0 3 rfl rfl)
theorem dJ1_init_3_4 : decode cJ1_init_3 4 = .ok (.iload 4, 2) := dk_21 4 (dk_at dksJ1_init_3_0 4 rfl rfl)
theorem dJ1_init_3_6 : decode cJ1_init_3 6 = .ok (.invokespecial 16, 3) := dk_183 0 16 (dk_at dksJ1_init_3_0 6 rfl rfl)
theorem dJ1_init_3_9 : decode cJ1_init_3 9 = .ok (.return_, 1) := dk_177 (dk_at dksJ1_init_3_0 9 rfl rfl)
theorem q82 : (Jvm.Cond.initialized "java/lang/Exception") ∈ lw_all := lw_g (lw_at lw_m1 5 rfl) rfl
theorem q329 : (Jvm.Cond.declares ({ cls := "java/lang/Exception", name := "<init>", desc := "()V" } : Jvm.MethodName)) ∈ lw_tbl := lw_at lw_m2 12 rfl
theorem q330 : (Jvm.Cond.declares ({ cls := "java/lang/Exception", name := "<init>", desc := "(Ljava/lang/String;)V" } : Jvm.MethodName)) ∈ lw_tbl := lw_at lw_m2 13 rfl
theorem q378 : (Jvm.Cond.instanceMethod ({ cls := "java/lang/Exception", name := "<init>", desc := "(Ljava/lang/String;)V" } : Jvm.MethodName)) ∈ lw_all := lw_g (lw_at lw_m2 61 rfl) rfl
theorem q379 : (Jvm.Cond.code ({ cls := "java/lang/Exception", name := "<init>", desc := "(Ljava/lang/String;)V" } : Jvm.MethodName) prog_21_method_2_code (2 : Nat) (Option.none : Option Jvm.ClassFile.FieldType)) ∈ lw_all := lw_g (lw_at lw_m2 62 rfl) rfl
theorem q380 : (Jvm.Cond.methodLink "java/lang/Exception" (7 : Nat) ({ cls := "java/lang/Throwable", name := "<init>", desc := "(Ljava/lang/String;)V" } : Jvm.MethodName)) ∈ lw_all := lw_g (lw_at lw_m2 63 rfl) rfl
theorem q471 : (Jvm.Cond.instanceMethod ({ cls := "java/lang/Exception", name := "<init>", desc := "()V" } : Jvm.MethodName)) ∈ lw_all := lw_g (lw_at lw_m2 154 rfl) rfl
theorem q472 : (Jvm.Cond.code ({ cls := "java/lang/Exception", name := "<init>", desc := "()V" } : Jvm.MethodName) prog_21_method_1_code (1 : Nat) (Option.none : Option Jvm.ClassFile.FieldType)) ∈ lw_all := lw_g (lw_at lw_m2 155 rfl) rfl
theorem q473 : (Jvm.Cond.methodLink "java/lang/Exception" (1 : Nat) ({ cls := "java/lang/Throwable", name := "<init>", desc := "()V" } : Jvm.MethodName)) ∈ lw_all := lw_g (lw_at lw_m2 156 rfl) rfl
theorem q1191 : (Jvm.Cond.instanceMethod ({ cls := "java/lang/Exception", name := "<init>", desc := "(Ljava/lang/String;Ljava/lang/Throwable;ZZ)V" } : Jvm.MethodName)) ∈ lw_all := lw_g (lw_at lw_m5 154 rfl) rfl
theorem q1192 : (Jvm.Cond.code ({ cls := "java/lang/Exception", name := "<init>", desc := "(Ljava/lang/String;Ljava/lang/Throwable;ZZ)V" } : Jvm.MethodName) prog_21_method_5_code (5 : Nat) (Option.none : Option Jvm.ClassFile.FieldType)) ∈ lw_all := lw_g (lw_at lw_m5 155 rfl) rfl
theorem q1193 : (Jvm.Cond.methodLink "java/lang/Exception" (16 : Nat) ({ cls := "java/lang/Throwable", name := "<init>", desc := "(Ljava/lang/String;Ljava/lang/Throwable;ZZ)V" } : Jvm.MethodName)) ∈ lw_all := lw_g (lw_at lw_m5 156 rfl) rfl

/-! java/lang/RuntimeException -/
set_option maxRecDepth 100000
def RJ2 : String := "java/lang/RuntimeException"
abbrev cJ2_init : ByteArray := prog_31_method_2_code
def yJ2_init : MethodName := ⟨RJ2, "<init>", "(Ljava/lang/String;)V"⟩
def dkwJ2_init_0 : List UInt8 := [42, 43, 183, 0, 7, 177]
abbrev dktJ2_init_0 : List UInt8 := dkwJ2_init_0 ++ []
theorem dksJ2_init_0 : cJ2_init.data.toList.drop 0 = dktJ2_init_0 := by decide +kernel
theorem dJ2_init_0 : decode cJ2_init 0 = .ok (.aload_n 0, 1) := dk_42 (dk_at dksJ2_init_0 0 rfl rfl)
theorem dJ2_init_1 : decode cJ2_init 1 = .ok (.aload_n 1, 1) := dk_43 (dk_at dksJ2_init_0 1 rfl rfl)
theorem dJ2_init_2 : decode cJ2_init 2 = .ok (.invokespecial 7, 3) := dk_183 0 7 (dk_at dksJ2_init_0 2 rfl rfl)
theorem dJ2_init_5 : decode cJ2_init 5 = .ok (.return_, 1) := dk_177 (dk_at dksJ2_init_0 5 rfl rfl)
abbrev cJ2_init_2 : ByteArray := prog_31_method_1_code
def yJ2_init_2 : MethodName := ⟨RJ2, "<init>", "()V"⟩
theorem dJ2_init_2_0 : decode cJ2_init_2 0 = .ok (.aload_n 0, 1) := by decide +kernel
theorem dJ2_init_2_1 : decode cJ2_init_2 1 = .ok (.invokespecial 1, 3) := by decide +kernel
theorem dJ2_init_2_4 : decode cJ2_init_2 4 = .ok (.return_, 1) := by decide +kernel
theorem q83 : (Jvm.Cond.initialized "java/lang/RuntimeException") ∈ lw_all := lw_g (lw_at lw_m1 6 rfl) rfl
theorem q327 : (Jvm.Cond.declares ({ cls := "java/lang/RuntimeException", name := "<init>", desc := "()V" } : Jvm.MethodName)) ∈ lw_tbl := lw_at lw_m2 10 rfl
theorem q328 : (Jvm.Cond.declares ({ cls := "java/lang/RuntimeException", name := "<init>", desc := "(Ljava/lang/String;)V" } : Jvm.MethodName)) ∈ lw_tbl := lw_at lw_m2 11 rfl
theorem q375 : (Jvm.Cond.instanceMethod ({ cls := "java/lang/RuntimeException", name := "<init>", desc := "(Ljava/lang/String;)V" } : Jvm.MethodName)) ∈ lw_all := lw_g (lw_at lw_m2 58 rfl) rfl
theorem q376 : (Jvm.Cond.code ({ cls := "java/lang/RuntimeException", name := "<init>", desc := "(Ljava/lang/String;)V" } : Jvm.MethodName) prog_31_method_2_code (2 : Nat) (Option.none : Option Jvm.ClassFile.FieldType)) ∈ lw_all := lw_g (lw_at lw_m2 59 rfl) rfl
theorem q377 : (Jvm.Cond.methodLink "java/lang/RuntimeException" (7 : Nat) ({ cls := "java/lang/Exception", name := "<init>", desc := "(Ljava/lang/String;)V" } : Jvm.MethodName)) ∈ lw_all := lw_g (lw_at lw_m2 60 rfl) rfl
theorem q468 : (Jvm.Cond.instanceMethod ({ cls := "java/lang/RuntimeException", name := "<init>", desc := "()V" } : Jvm.MethodName)) ∈ lw_all := lw_g (lw_at lw_m2 151 rfl) rfl
theorem q469 : (Jvm.Cond.code ({ cls := "java/lang/RuntimeException", name := "<init>", desc := "()V" } : Jvm.MethodName) prog_31_method_1_code (1 : Nat) (Option.none : Option Jvm.ClassFile.FieldType)) ∈ lw_all := lw_g (lw_at lw_m2 152 rfl) rfl
theorem q470 : (Jvm.Cond.methodLink "java/lang/RuntimeException" (1 : Nat) ({ cls := "java/lang/Exception", name := "<init>", desc := "()V" } : Jvm.MethodName)) ∈ lw_all := lw_g (lw_at lw_m2 153 rfl) rfl

/-! java/lang/IllegalArgumentException -/
set_option maxRecDepth 100000
def RJ3 : String := "java/lang/IllegalArgumentException"
def TJ3 : u_T := fun k => match k with
  | 0 => ("java/lang/Throwable", "cause", "Ljava/lang/Throwable;", false)
  | 1 => ("java/lang/Throwable", "stackTrace", "[Ljava/lang/StackTraceElement;", false)
  | 2 => ("java/lang/Throwable", "suppressedExceptions", "Ljava/util/List;", false)
  | 3 => ("java/lang/Throwable", "detailMessage", "Ljava/lang/String;", false)
  | 4 => ("java/lang/Throwable", "backtrace", "Ljava/lang/Object;", false)
  | _ => ("java/lang/Throwable", "depth", "I", false)
def tyJ3 : Nat → FieldType := fun k => match k with
  | 0 => .object "java/lang/Throwable"
  | 1 => .array (.object "java/lang/StackTraceElement")
  | 2 => .object "java/util/List"
  | 3 => .object "java/lang/String"
  | 4 => .object "java/lang/Object"
  | _ => .int
abbrev wsJ30 : List Cond := u_ws RJ3 TJ3 6
theorem nmJ3 : ∀ a, a < 6 → ∀ b, b < 6 → a ≠ b → (TJ3 a).2.1 ≠ (TJ3 b).2.1 := by decide +kernel
theorem tyJ3_ok : ∀ k, k < 6 → parseFieldDescriptor (TJ3 k).2.2.1 = some (tyJ3 k) := by decide +kernel
abbrev cJ3_init : ByteArray := prog_22_method_2_code
def yJ3_init : MethodName := ⟨RJ3, "<init>", "(Ljava/lang/String;)V"⟩
def dkwJ3_init_0 : List UInt8 := [42, 43, 183, 0, 7, 177]
abbrev dktJ3_init_0 : List UInt8 := dkwJ3_init_0 ++ []
theorem dksJ3_init_0 : cJ3_init.data.toList.drop 0 = dktJ3_init_0 := by decide +kernel
theorem dJ3_init_0 : decode cJ3_init 0 = .ok (.aload_n 0, 1) := dk_42 (dk_at dksJ3_init_0 0 rfl rfl)
theorem dJ3_init_1 : decode cJ3_init 1 = .ok (.aload_n 1, 1) := dk_43 (dk_at dksJ3_init_0 1 rfl rfl)
theorem dJ3_init_2 : decode cJ3_init 2 = .ok (.invokespecial 7, 3) := dk_183 0 7 (dk_at dksJ3_init_0 2 rfl rfl)
theorem dJ3_init_5 : decode cJ3_init 5 = .ok (.return_, 1) := dk_177 (dk_at dksJ3_init_0 5 rfl rfl)
abbrev cJ3_init_2 : ByteArray := prog_22_method_1_code
def yJ3_init_2 : MethodName := ⟨RJ3, "<init>", "()V"⟩
theorem dJ3_init_2_0 : decode cJ3_init_2 0 = .ok (.aload_n 0, 1) := by decide +kernel
theorem dJ3_init_2_1 : decode cJ3_init_2 1 = .ok (.invokespecial 1, 3) := by decide +kernel
theorem dJ3_init_2_4 : decode cJ3_init_2 4 = .ok (.return_, 1) := by decide +kernel
theorem q84 : (Jvm.Cond.initialized "java/lang/IllegalArgumentException") ∈ lw_all := lw_g (lw_at lw_m1 7 rfl) rfl
theorem q360 : (Jvm.Cond.selects "java/lang/IllegalArgumentException" ({ cls := "java/lang/Throwable", name := "fillInStackTrace", desc := "()Ljava/lang/Throwable;" } : Jvm.MethodName) ({ cls := "java/lang/Throwable", name := "fillInStackTrace", desc := "()Ljava/lang/Throwable;" } : Jvm.MethodName)) ∈ lw_all := lw_g (lw_at lw_m2 43 rfl) rfl
theorem q416 : (Jvm.Cond.selects "java/lang/IllegalArgumentException" ({ cls := "java/lang/Object", name := "getClass", desc := "()Ljava/lang/Class;" } : Jvm.MethodName) ({ cls := "java/lang/Object", name := "getClass", desc := "()Ljava/lang/Class;" } : Jvm.MethodName)) ∈ lw_all := lw_g (lw_at lw_m2 99 rfl) rfl
theorem q710 : (Jvm.Cond.instantiable "java/lang/IllegalArgumentException" (6 : Nat)) ∈ lw_all := lw_g (lw_at lw_m3 153 rfl) rfl
theorem q711 : (Jvm.Cond.castable "java/lang/IllegalArgumentException" "java/lang/IllegalArgumentException") ∈ lw_tbl := lw_at lw_m3 154 rfl
theorem q712 : (Jvm.Cond.selects "java/lang/IllegalArgumentException" ({ cls := "java/lang/Throwable", name := "fillInStackTrace", desc := "(I)Ljava/lang/Throwable;" } : Jvm.MethodName) ({ cls := "java/lang/Throwable", name := "fillInStackTrace", desc := "(I)Ljava/lang/Throwable;" } : Jvm.MethodName)) ∈ lw_all := lw_g (lw_at lw_m3 155 rfl) rfl
theorem q713 : (Jvm.Cond.lays "java/lang/IllegalArgumentException" "java/lang/Throwable" "cause" "Ljava/lang/Throwable;") ∈ lw_all := lw_g (lw_at lw_m3 156 rfl) rfl
theorem q714 : (Jvm.Cond.lays "java/lang/IllegalArgumentException" "java/lang/Throwable" "stackTrace" "[Ljava/lang/StackTraceElement;") ∈ lw_all := lw_g (lw_at lw_m3 157 rfl) rfl
theorem q715 : (Jvm.Cond.lays "java/lang/IllegalArgumentException" "java/lang/Throwable" "suppressedExceptions" "Ljava/util/List;") ∈ lw_all := lw_g (lw_at lw_m3 158 rfl) rfl
theorem q716 : (Jvm.Cond.lays "java/lang/IllegalArgumentException" "java/lang/Throwable" "detailMessage" "Ljava/lang/String;") ∈ lw_all := lw_g (lw_at lw_m3 159 rfl) rfl
theorem q717 : (Jvm.Cond.lays "java/lang/IllegalArgumentException" "java/lang/Throwable" "backtrace" "Ljava/lang/Object;") ∈ lw_all := lw_g (lw_at lw_m3 160 rfl) rfl
theorem q725 : (Jvm.Cond.instanceMethod ({ cls := "java/lang/IllegalArgumentException", name := "<init>", desc := "(Ljava/lang/String;)V" } : Jvm.MethodName)) ∈ lw_all := lw_g (lw_at lw_m3 168 rfl) rfl
theorem q726 : (Jvm.Cond.code ({ cls := "java/lang/IllegalArgumentException", name := "<init>", desc := "(Ljava/lang/String;)V" } : Jvm.MethodName) prog_22_method_2_code (2 : Nat) (Option.none : Option Jvm.ClassFile.FieldType)) ∈ lw_all := lw_g (lw_at lw_m3 169 rfl) rfl
theorem q727 : (Jvm.Cond.methodLink "java/lang/IllegalArgumentException" (7 : Nat) ({ cls := "java/lang/RuntimeException", name := "<init>", desc := "(Ljava/lang/String;)V" } : Jvm.MethodName)) ∈ lw_all := lw_g (lw_at lw_m3 170 rfl) rfl
theorem q728 : (Jvm.Cond.lays "java/lang/IllegalArgumentException" "java/lang/Throwable" "depth" "I") ∈ lw_all := lw_g (lw_at lw_m3 171 rfl) rfl
theorem q729 : (Jvm.Cond.superclass "java/lang/IllegalArgumentException" "java/lang/RuntimeException") ∈ lw_all := lw_g (lw_at lw_m3 172 rfl) rfl
theorem q833 : (Jvm.Cond.selects "java/lang/IllegalArgumentException" ({ cls := "java/lang/Object", name := "equals", desc := "(Ljava/lang/Object;)Z" } : Jvm.MethodName) ({ cls := "java/lang/Object", name := "equals", desc := "(Ljava/lang/Object;)Z" } : Jvm.MethodName)) ∈ lw_all := lw_g (lw_at lw_m4 36 rfl) rfl
theorem q1150 : (Jvm.Cond.instanceMethod ({ cls := "java/lang/IllegalArgumentException", name := "<init>", desc := "()V" } : Jvm.MethodName)) ∈ lw_all := lw_g (lw_at lw_m5 113 rfl) rfl
theorem q1151 : (Jvm.Cond.code ({ cls := "java/lang/IllegalArgumentException", name := "<init>", desc := "()V" } : Jvm.MethodName) prog_22_method_1_code (1 : Nat) (Option.none : Option Jvm.ClassFile.FieldType)) ∈ lw_all := lw_g (lw_at lw_m5 114 rfl) rfl
theorem q1152 : (Jvm.Cond.methodLink "java/lang/IllegalArgumentException" (1 : Nat) ({ cls := "java/lang/RuntimeException", name := "<init>", desc := "()V" } : Jvm.MethodName)) ∈ lw_all := lw_g (lw_at lw_m5 115 rfl) rfl
theorem q2193 : (Jvm.Cond.castable "java/lang/IllegalArgumentException" "java/lang/Object") ∈ lw_tbl := lw_at lw_m9 196 rfl
theorem in_J3 : ∀ w ∈ wsJ30, w ∈ lw_all := lw_in wsJ30 [713, 714, 715, 716, 717, 728] (by decide +kernel) (by decide +kernel)

/-! java/lang/IllegalStateException -/
set_option maxRecDepth 100000
def RJ4 : String := "java/lang/IllegalStateException"
def TJ4 : u_T := fun k => match k with
  | 0 => ("java/lang/Throwable", "cause", "Ljava/lang/Throwable;", false)
  | 1 => ("java/lang/Throwable", "stackTrace", "[Ljava/lang/StackTraceElement;", false)
  | 2 => ("java/lang/Throwable", "suppressedExceptions", "Ljava/util/List;", false)
  | 3 => ("java/lang/Throwable", "detailMessage", "Ljava/lang/String;", false)
  | 4 => ("java/lang/Throwable", "backtrace", "Ljava/lang/Object;", false)
  | _ => ("java/lang/Throwable", "depth", "I", false)
def tyJ4 : Nat → FieldType := fun k => match k with
  | 0 => .object "java/lang/Throwable"
  | 1 => .array (.object "java/lang/StackTraceElement")
  | 2 => .object "java/util/List"
  | 3 => .object "java/lang/String"
  | 4 => .object "java/lang/Object"
  | _ => .int
abbrev wsJ40 : List Cond := u_ws RJ4 TJ4 6
theorem nmJ4 : ∀ a, a < 6 → ∀ b, b < 6 → a ≠ b → (TJ4 a).2.1 ≠ (TJ4 b).2.1 := by decide +kernel
theorem tyJ4_ok : ∀ k, k < 6 → parseFieldDescriptor (TJ4 k).2.2.1 = some (tyJ4 k) := by decide +kernel
abbrev cJ4_init : ByteArray := prog_23_method_2_code
def yJ4_init : MethodName := ⟨RJ4, "<init>", "(Ljava/lang/String;)V"⟩
def dkwJ4_init_0 : List UInt8 := [42, 43, 183, 0, 7, 177]
abbrev dktJ4_init_0 : List UInt8 := dkwJ4_init_0 ++ []
theorem dksJ4_init_0 : cJ4_init.data.toList.drop 0 = dktJ4_init_0 := by decide +kernel
theorem dJ4_init_0 : decode cJ4_init 0 = .ok (.aload_n 0, 1) := dk_42 (dk_at dksJ4_init_0 0 rfl rfl)
theorem dJ4_init_1 : decode cJ4_init 1 = .ok (.aload_n 1, 1) := dk_43 (dk_at dksJ4_init_0 1 rfl rfl)
theorem dJ4_init_2 : decode cJ4_init 2 = .ok (.invokespecial 7, 3) := dk_183 0 7 (dk_at dksJ4_init_0 2 rfl rfl)
theorem dJ4_init_5 : decode cJ4_init 5 = .ok (.return_, 1) := dk_177 (dk_at dksJ4_init_0 5 rfl rfl)
abbrev cJ4_init_2 : ByteArray := prog_23_method_1_code
def yJ4_init_2 : MethodName := ⟨RJ4, "<init>", "()V"⟩
theorem dJ4_init_2_0 : decode cJ4_init_2 0 = .ok (.aload_n 0, 1) := by decide +kernel
theorem dJ4_init_2_1 : decode cJ4_init_2 1 = .ok (.invokespecial 1, 3) := by decide +kernel
theorem dJ4_init_2_4 : decode cJ4_init_2 4 = .ok (.return_, 1) := by decide +kernel
theorem q85 : (Jvm.Cond.initialized "java/lang/IllegalStateException") ∈ lw_all := lw_g (lw_at lw_m1 8 rfl) rfl
theorem q325 : (Jvm.Cond.instantiable "java/lang/IllegalStateException" (6 : Nat)) ∈ lw_all := lw_g (lw_at lw_m2 8 rfl) rfl
theorem q326 : (Jvm.Cond.castable "java/lang/IllegalStateException" "java/lang/IllegalStateException") ∈ lw_tbl := lw_at lw_m2 9 rfl
theorem q333 : (Jvm.Cond.selects "java/lang/IllegalStateException" ({ cls := "java/lang/Throwable", name := "fillInStackTrace", desc := "(I)Ljava/lang/Throwable;" } : Jvm.MethodName) ({ cls := "java/lang/Throwable", name := "fillInStackTrace", desc := "(I)Ljava/lang/Throwable;" } : Jvm.MethodName)) ∈ lw_all := lw_g (lw_at lw_m2 16 rfl) rfl
theorem q334 : (Jvm.Cond.selects "java/lang/IllegalStateException" ({ cls := "java/lang/Throwable", name := "fillInStackTrace", desc := "()Ljava/lang/Throwable;" } : Jvm.MethodName) ({ cls := "java/lang/Throwable", name := "fillInStackTrace", desc := "()Ljava/lang/Throwable;" } : Jvm.MethodName)) ∈ lw_all := lw_g (lw_at lw_m2 17 rfl) rfl
theorem q335 : (Jvm.Cond.lays "java/lang/IllegalStateException" "java/lang/Throwable" "cause" "Ljava/lang/Throwable;") ∈ lw_all := lw_g (lw_at lw_m2 18 rfl) rfl
theorem q337 : (Jvm.Cond.lays "java/lang/IllegalStateException" "java/lang/Throwable" "stackTrace" "[Ljava/lang/StackTraceElement;") ∈ lw_all := lw_g (lw_at lw_m2 20 rfl) rfl
theorem q339 : (Jvm.Cond.lays "java/lang/IllegalStateException" "java/lang/Throwable" "suppressedExceptions" "Ljava/util/List;") ∈ lw_all := lw_g (lw_at lw_m2 22 rfl) rfl
theorem q341 : (Jvm.Cond.lays "java/lang/IllegalStateException" "java/lang/Throwable" "detailMessage" "Ljava/lang/String;") ∈ lw_all := lw_g (lw_at lw_m2 24 rfl) rfl
theorem q343 : (Jvm.Cond.lays "java/lang/IllegalStateException" "java/lang/Throwable" "backtrace" "Ljava/lang/Object;") ∈ lw_all := lw_g (lw_at lw_m2 26 rfl) rfl
theorem q372 : (Jvm.Cond.instanceMethod ({ cls := "java/lang/IllegalStateException", name := "<init>", desc := "(Ljava/lang/String;)V" } : Jvm.MethodName)) ∈ lw_all := lw_g (lw_at lw_m2 55 rfl) rfl
theorem q373 : (Jvm.Cond.code ({ cls := "java/lang/IllegalStateException", name := "<init>", desc := "(Ljava/lang/String;)V" } : Jvm.MethodName) prog_23_method_2_code (2 : Nat) (Option.none : Option Jvm.ClassFile.FieldType)) ∈ lw_all := lw_g (lw_at lw_m2 56 rfl) rfl
theorem q374 : (Jvm.Cond.methodLink "java/lang/IllegalStateException" (7 : Nat) ({ cls := "java/lang/RuntimeException", name := "<init>", desc := "(Ljava/lang/String;)V" } : Jvm.MethodName)) ∈ lw_all := lw_g (lw_at lw_m2 57 rfl) rfl
theorem q392 : (Jvm.Cond.lays "java/lang/IllegalStateException" "java/lang/Throwable" "depth" "I") ∈ lw_all := lw_g (lw_at lw_m2 75 rfl) rfl
theorem q395 : (Jvm.Cond.superclass "java/lang/IllegalStateException" "java/lang/RuntimeException") ∈ lw_all := lw_g (lw_at lw_m2 78 rfl) rfl
theorem q417 : (Jvm.Cond.selects "java/lang/IllegalStateException" ({ cls := "java/lang/Object", name := "getClass", desc := "()Ljava/lang/Class;" } : Jvm.MethodName) ({ cls := "java/lang/Object", name := "getClass", desc := "()Ljava/lang/Class;" } : Jvm.MethodName)) ∈ lw_all := lw_g (lw_at lw_m2 100 rfl) rfl
theorem q834 : (Jvm.Cond.selects "java/lang/IllegalStateException" ({ cls := "java/lang/Object", name := "equals", desc := "(Ljava/lang/Object;)Z" } : Jvm.MethodName) ({ cls := "java/lang/Object", name := "equals", desc := "(Ljava/lang/Object;)Z" } : Jvm.MethodName)) ∈ lw_all := lw_g (lw_at lw_m4 37 rfl) rfl
theorem q1158 : (Jvm.Cond.instanceMethod ({ cls := "java/lang/IllegalStateException", name := "<init>", desc := "()V" } : Jvm.MethodName)) ∈ lw_all := lw_g (lw_at lw_m5 121 rfl) rfl
theorem q1159 : (Jvm.Cond.code ({ cls := "java/lang/IllegalStateException", name := "<init>", desc := "()V" } : Jvm.MethodName) prog_23_method_1_code (1 : Nat) (Option.none : Option Jvm.ClassFile.FieldType)) ∈ lw_all := lw_g (lw_at lw_m5 122 rfl) rfl
theorem q1160 : (Jvm.Cond.methodLink "java/lang/IllegalStateException" (1 : Nat) ({ cls := "java/lang/RuntimeException", name := "<init>", desc := "()V" } : Jvm.MethodName)) ∈ lw_all := lw_g (lw_at lw_m5 123 rfl) rfl
theorem q2194 : (Jvm.Cond.castable "java/lang/IllegalStateException" "java/lang/Object") ∈ lw_tbl := lw_at lw_m9 197 rfl
theorem in_J4 : ∀ w ∈ wsJ40, w ∈ lw_all := lw_in wsJ40 [335, 337, 339, 341, 343, 392] (by decide +kernel) (by decide +kernel)

/-! java/util/AbstractCollection -/
set_option maxRecDepth 100000
def RJ5 : String := "java/util/AbstractCollection"
abbrev cJ5_init : ByteArray := prog_41_method_1_code
def yJ5_init : MethodName := ⟨RJ5, "<init>", "()V"⟩
theorem dJ5_init_0 : decode cJ5_init 0 = .ok (.aload_n 0, 1) := by decide +kernel
theorem dJ5_init_1 : decode cJ5_init 1 = .ok (.invokespecial 1, 3) := by decide +kernel
theorem dJ5_init_4 : decode cJ5_init 4 = .ok (.return_, 1) := by decide +kernel
theorem q86 : (Jvm.Cond.initialized "java/util/AbstractCollection") ∈ lw_all := lw_g (lw_at lw_m1 9 rfl) rfl
theorem q213 : (Jvm.Cond.instanceMethod ({ cls := "java/util/AbstractCollection", name := "<init>", desc := "()V" } : Jvm.MethodName)) ∈ lw_all := lw_g (lw_at lw_m1 136 rfl) rfl
theorem q214 : (Jvm.Cond.code ({ cls := "java/util/AbstractCollection", name := "<init>", desc := "()V" } : Jvm.MethodName) prog_41_method_1_code (1 : Nat) (Option.none : Option Jvm.ClassFile.FieldType)) ∈ lw_all := lw_g (lw_at lw_m1 137 rfl) rfl
theorem q215 : (Jvm.Cond.methodLink "java/util/AbstractCollection" (1 : Nat) ({ cls := "java/lang/Object", name := "<init>", desc := "()V" } : Jvm.MethodName)) ∈ lw_all := lw_g (lw_at lw_m1 138 rfl) rfl

/-! java/util/AbstractList -/
set_option maxRecDepth 100000
def RJ6 : String := "java/util/AbstractList"
abbrev cJ6_init : ByteArray := prog_42_method_1_code
def yJ6_init : MethodName := ⟨RJ6, "<init>", "()V"⟩
def dkwJ6_init_0 : List UInt8 := [42, 183, 0, 1, 42, 3, 181, 0, 7, 177]
abbrev dktJ6_init_0 : List UInt8 := dkwJ6_init_0 ++ []
theorem dksJ6_init_0 : cJ6_init.data.toList.drop 0 = dktJ6_init_0 := by decide +kernel
theorem dJ6_init_0 : decode cJ6_init 0 = .ok (.aload_n 0, 1) := dk_42 (dk_at dksJ6_init_0 0 rfl rfl)
theorem dJ6_init_1 : decode cJ6_init 1 = .ok (.invokespecial 1, 3) := dk_183 0 1 (dk_at dksJ6_init_0 1 rfl rfl)
theorem dJ6_init_4 : decode cJ6_init 4 = .ok (.aload_n 0, 1) := dk_42 (dk_at dksJ6_init_0 4 rfl rfl)
theorem dJ6_init_5 : decode cJ6_init 5 = .ok (.iconst 0, 1) := dk_3 (dk_at dksJ6_init_0 5 rfl rfl)
theorem dJ6_init_6 : decode cJ6_init 6 = .ok (.putfield 7, 3) := dk_181 0 7 (dk_at dksJ6_init_0 6 rfl rfl)
theorem dJ6_init_9 : decode cJ6_init 9 = .ok (.return_, 1) := dk_177 (dk_at dksJ6_init_0 9 rfl rfl)
theorem q87 : (Jvm.Cond.initialized "java/util/AbstractList") ∈ lw_all := lw_g (lw_at lw_m1 10 rfl) rfl
theorem q240 : (Jvm.Cond.instanceMethod ({ cls := "java/util/AbstractList", name := "<init>", desc := "()V" } : Jvm.MethodName)) ∈ lw_all := lw_g (lw_at lw_m1 163 rfl) rfl
theorem q241 : (Jvm.Cond.code ({ cls := "java/util/AbstractList", name := "<init>", desc := "()V" } : Jvm.MethodName) prog_42_method_1_code (1 : Nat) (Option.none : Option Jvm.ClassFile.FieldType)) ∈ lw_all := lw_g (lw_at lw_m1 164 rfl) rfl
theorem q242 : (Jvm.Cond.methodLink "java/util/AbstractList" (1 : Nat) ({ cls := "java/util/AbstractCollection", name := "<init>", desc := "()V" } : Jvm.MethodName)) ∈ lw_all := lw_g (lw_at lw_m1 165 rfl) rfl
theorem q247 : (Jvm.Cond.fieldLink "java/util/AbstractList" (7 : Nat) "java/util/AbstractList" "modCount" "I") ∈ lw_all := lw_g (lw_at lw_m1 170 rfl) rfl
theorem q255 : (Jvm.Cond.soleField "java/util/AbstractList" "modCount") ∈ lw_all := lw_g (lw_at lw_m1 178 rfl) rfl

/-! java/util/ArrayList -/
set_option maxRecDepth 100000
def RJ7 : String := "java/util/ArrayList"
def TJ7 : u_T := fun k => match k with
  | 0 => ("java/util/AbstractList", "modCount", "I", false)
  | 1 => ("java/util/ArrayList", "elementData", "[Ljava/lang/Object;", false)
  | _ => ("java/util/ArrayList", "size", "I", false)
def tyJ7 : Nat → FieldType := fun k => match k with
  | 0 => .int
  | 1 => .array (.object "java/lang/Object")
  | _ => .int
abbrev wsJ70 : List Cond := u_ws RJ7 TJ7 3
theorem nmJ7 : ∀ a, a < 3 → ∀ b, b < 3 → a ≠ b → (TJ7 a).2.1 ≠ (TJ7 b).2.1 := by decide +kernel
theorem tyJ7_ok : ∀ k, k < 3 → parseFieldDescriptor (TJ7 k).2.2.1 = some (tyJ7 k) := by decide +kernel
abbrev cJ7_init : ByteArray := prog_44_method_2_code
def yJ7_init : MethodName := ⟨RJ7, "<init>", "()V"⟩
def dkwJ7_init_0 : List UInt8 := [42, 183, 0, 1, 42, 178, 0, 39, 181, 0, 9, 177]
abbrev dktJ7_init_0 : List UInt8 := dkwJ7_init_0 ++ []
theorem dksJ7_init_0 : cJ7_init.data.toList.drop 0 = dktJ7_init_0 := by decide +kernel
theorem dJ7_init_0 : decode cJ7_init 0 = .ok (.aload_n 0, 1) := dk_42 (dk_at dksJ7_init_0 0 rfl rfl)
theorem dJ7_init_1 : decode cJ7_init 1 = .ok (.invokespecial 1, 3) := dk_183 0 1 (dk_at dksJ7_init_0 1 rfl rfl)
theorem dJ7_init_4 : decode cJ7_init 4 = .ok (.aload_n 0, 1) := dk_42 (dk_at dksJ7_init_0 4 rfl rfl)
theorem dJ7_init_5 : decode cJ7_init 5 = .ok (.getstatic 39, 3) := dk_178 0 39 (dk_at dksJ7_init_0 5 rfl rfl)
theorem dJ7_init_8 : decode cJ7_init 8 = .ok (.putfield 9, 3) := dk_181 0 9 (dk_at dksJ7_init_0 8 rfl rfl)
theorem dJ7_init_11 : decode cJ7_init 11 = .ok (.return_, 1) := dk_177 (dk_at dksJ7_init_0 11 rfl rfl)
abbrev cJ7_contains : ByteArray := prog_44_method_10_code
def yJ7_contains : MethodName := ⟨RJ7, "contains", "(Ljava/lang/Object;)Z"⟩
def dkwJ7_contains_0 : List UInt8 := [42, 43, 182, 0, 85, 155, 0, 7, 4, 167, 0, 4, 3, 172]
abbrev dktJ7_contains_0 : List UInt8 := dkwJ7_contains_0 ++ []
theorem dksJ7_contains_0 : cJ7_contains.data.toList.drop 0 = dktJ7_contains_0 := by decide +kernel
theorem dJ7_contains_0 : decode cJ7_contains 0 = .ok (.aload_n 0, 1) := dk_42 (dk_at dksJ7_contains_0 0 rfl rfl)
theorem dJ7_contains_1 : decode cJ7_contains 1 = .ok (.aload_n 1, 1) := dk_43 (dk_at dksJ7_contains_0 1 rfl rfl)
theorem dJ7_contains_2 : decode cJ7_contains 2 = .ok (.invokevirtual 85, 3) := dk_182 0 85 (dk_at dksJ7_contains_0 2 rfl rfl)
theorem dJ7_contains_5 : decode cJ7_contains 5 = .ok (.ifCond .lt 7, 3) := dk_155 0 7 (dk_at dksJ7_contains_0 5 rfl rfl)
theorem dJ7_contains_8 : decode cJ7_contains 8 = .ok (.iconst 1, 1) := dk_4 (dk_at dksJ7_contains_0 8 rfl rfl)
theorem dJ7_contains_9 : decode cJ7_contains 9 = .ok (.goto 4, 3) := dk_167 0 4 (dk_at dksJ7_contains_0 9 rfl rfl)
theorem dJ7_contains_12 : decode cJ7_contains 12 = .ok (.iconst 0, 1) := dk_3 (dk_at dksJ7_contains_0 12 rfl rfl)
theorem dJ7_contains_13 : decode cJ7_contains 13 = .ok (.ireturn, 1) := dk_172 (dk_at dksJ7_contains_0 13 rfl rfl)
abbrev cJ7_indexOf : ByteArray := prog_44_method_11_code
def yJ7_indexOf : MethodName := ⟨RJ7, "indexOf", "(Ljava/lang/Object;)I"⟩
def dkwJ7_indexOf_0 : List UInt8 := [42, 43, 3, 42, 180, 0, 48, 182, 0, 89, 172]
abbrev dktJ7_indexOf_0 : List UInt8 := dkwJ7_indexOf_0 ++ []
theorem dksJ7_indexOf_0 : cJ7_indexOf.data.toList.drop 0 = dktJ7_indexOf_0 := by decide +kernel
theorem dJ7_indexOf_0 : decode cJ7_indexOf 0 = .ok (.aload_n 0, 1) := dk_42 (dk_at dksJ7_indexOf_0 0 rfl rfl)
theorem dJ7_indexOf_1 : decode cJ7_indexOf 1 = .ok (.aload_n 1, 1) := dk_43 (dk_at dksJ7_indexOf_0 1 rfl rfl)
theorem dJ7_indexOf_2 : decode cJ7_indexOf 2 = .ok (.iconst 0, 1) := dk_3 (dk_at dksJ7_indexOf_0 2 rfl rfl)
theorem dJ7_indexOf_3 : decode cJ7_indexOf 3 = .ok (.aload_n 0, 1) := dk_42 (dk_at dksJ7_indexOf_0 3 rfl rfl)
theorem dJ7_indexOf_4 : decode cJ7_indexOf 4 = .ok (.getfield 48, 3) := dk_180 0 48 (dk_at dksJ7_indexOf_0 4 rfl rfl)
theorem dJ7_indexOf_7 : decode cJ7_indexOf 7 = .ok (.invokevirtual 89, 3) := dk_182 0 89 (dk_at dksJ7_indexOf_0 7 rfl rfl)
theorem dJ7_indexOf_10 : decode cJ7_indexOf 10 = .ok (.ireturn, 1) := dk_172 (dk_at dksJ7_indexOf_0 10 rfl rfl)
abbrev cJ7_indexOfRange : ByteArray := prog_44_method_12_code
def yJ7_indexOfRange : MethodName := ⟨RJ7, "indexOfRange", "(Ljava/lang/Object;II)I"⟩
def dkwJ7_indexOfRange_2 : List UInt8 := [43, 25, 4, 21, 5, 50, 182, 0, 93, 153, 0, 6, 21, 5, 172, 132, 5, 1, 167, 255, 232, 2, 172]
abbrev dktJ7_indexOfRange_2 : List UInt8 := dkwJ7_indexOfRange_2 ++ []
def dkwJ7_indexOfRange_1 : List UInt8 := [199, 0, 6, 21, 5, 172, 132, 5, 1, 167, 255, 236, 167, 0, 33, 28, 54, 5, 21, 5, 29, 162, 0, 24]
abbrev dktJ7_indexOfRange_1 : List UInt8 := dkwJ7_indexOfRange_1 ++ dktJ7_indexOfRange_2
def dkwJ7_indexOfRange_0 : List UInt8 := [42, 180, 0, 9, 58, 4, 43, 199, 0, 32, 28, 54, 5, 21, 5, 29, 162, 0, 20, 25, 4, 21, 5, 50]
abbrev dktJ7_indexOfRange_0 : List UInt8 := dkwJ7_indexOfRange_0 ++ dktJ7_indexOfRange_1
theorem dksJ7_indexOfRange_0 : cJ7_indexOfRange.data.toList.drop 0 = dktJ7_indexOfRange_0 := by decide +kernel
theorem dksJ7_indexOfRange_1 : cJ7_indexOfRange.data.toList.drop 24 = dktJ7_indexOfRange_1 := dk_seg dksJ7_indexOfRange_0 24 rfl rfl
theorem dksJ7_indexOfRange_2 : cJ7_indexOfRange.data.toList.drop 48 = dktJ7_indexOfRange_2 := dk_seg dksJ7_indexOfRange_1 24 rfl rfl
theorem dJ7_indexOfRange_0 : decode cJ7_indexOfRange 0 = .ok (.aload_n 0, 1) := dk_42 (dk_at dksJ7_indexOfRange_0 0 rfl rfl)
theorem dJ7_indexOfRange_1 : decode cJ7_indexOfRange 1 = .ok (.getfield 9, 3) := dk_180 0 9 (dk_at dksJ7_indexOfRange_0 1 rfl rfl)
theorem dJ7_indexOfRange_4 : decode cJ7_indexOfRange 4 = .ok (.astore 4, 2) := dk_58 4 (dk_at dksJ7_indexOfRange_0 4 rfl rfl)
theorem dJ7_indexOfRange_6 : decode cJ7_indexOfRange 6 = .ok (.aload_n 1, 1) := dk_43 (dk_at dksJ7_indexOfRange_0 6 rfl rfl)
theorem dJ7_indexOfRange_7 : decode cJ7_indexOfRange 7 = .ok (.ifnonnull 32, 3) := dk_199 0 32 (dk_at dksJ7_indexOfRange_0 7 rfl rfl)
theorem dJ7_indexOfRange_10 : decode cJ7_indexOfRange 10 = .ok (.iload_n 2, 1) := dk_28 (dk_at dksJ7_indexOfRange_0 10 rfl rfl)
theorem dJ7_indexOfRange_11 : decode cJ7_indexOfRange 11 = .ok (.istore 5, 2) := dk_54 5 (dk_at dksJ7_indexOfRange_0 11 rfl rfl)
theorem dJ7_indexOfRange_13 : decode cJ7_indexOfRange 13 = .ok (.iload 5, 2) := dk_21 5 (dk_at dksJ7_indexOfRange_0 13 rfl rfl)
theorem dJ7_indexOfRange_15 : decode cJ7_indexOfRange 15 = .ok (.iload_n 3, 1) := dk_29 (dk_at dksJ7_indexOfRange_0 15 rfl rfl)
theorem dJ7_indexOfRange_16 : decode cJ7_indexOfRange 16 = .ok (.if_icmp .ge 20, 3) := dk_162 0 20 (dk_at dksJ7_indexOfRange_0 16 rfl rfl)
theorem dJ7_indexOfRange_19 : decode cJ7_indexOfRange 19 = .ok (.aload 4, 2) := dk_25 4 (dk_at dksJ7_indexOfRange_0 19 rfl rfl)
theorem dJ7_indexOfRange_21 : decode cJ7_indexOfRange 21 = .ok (.iload 5, 2) := dk_21 5 (dk_at dksJ7_indexOfRange_0 21 rfl rfl)
theorem dJ7_indexOfRange_23 : decode cJ7_indexOfRange 23 = .ok (.aaload, 1) := dk_50 (dk_at dksJ7_indexOfRange_0 23 rfl rfl)
theorem dJ7_indexOfRange_24 : decode cJ7_indexOfRange 24 = .ok (.ifnonnull 6, 3) := dk_199 0 6 (dk_at dksJ7_indexOfRange_1 0 rfl rfl)
theorem dJ7_indexOfRange_27 : decode cJ7_indexOfRange 27 = .ok (.iload 5, 2) := dk_21 5 (dk_at dksJ7_indexOfRange_1 3 rfl rfl)
theorem dJ7_indexOfRange_29 : decode cJ7_indexOfRange 29 = .ok (.ireturn, 1) := dk_172 (dk_at dksJ7_indexOfRange_1 5 rfl rfl)
theorem dJ7_indexOfRange_30 : decode cJ7_indexOfRange 30 = .ok (.iinc 5 1, 3) := dk_132 5 1 (dk_at dksJ7_indexOfRange_1 6 rfl rfl)
theorem dJ7_indexOfRange_33 : decode cJ7_indexOfRange 33 = .ok (.goto (-20), 3) := dk_167 255 236 (dk_at dksJ7_indexOfRange_1 9 rfl rfl)
theorem dJ7_indexOfRange_36 : decode cJ7_indexOfRange 36 = .ok (.goto 33, 3) := dk_167 0 33 (dk_at dksJ7_indexOfRange_1 12 rfl rfl)
theorem dJ7_indexOfRange_39 : decode cJ7_indexOfRange 39 = .ok (.iload_n 2, 1) := dk_28 (dk_at dksJ7_indexOfRange_1 15 rfl rfl)
theorem dJ7_indexOfRange_40 : decode cJ7_indexOfRange 40 = .ok (.istore 5, 2) := dk_54 5 (dk_at dksJ7_indexOfRange_1 16 rfl rfl)
theorem dJ7_indexOfRange_42 : decode cJ7_indexOfRange 42 = .ok (.iload 5, 2) := dk_21 5 (dk_at dksJ7_indexOfRange_1 18 rfl rfl)
theorem dJ7_indexOfRange_44 : decode cJ7_indexOfRange 44 = .ok (.iload_n 3, 1) := dk_29 (dk_at dksJ7_indexOfRange_1 20 rfl rfl)
theorem dJ7_indexOfRange_45 : decode cJ7_indexOfRange 45 = .ok (.if_icmp .ge 24, 3) := dk_162 0 24 (dk_at dksJ7_indexOfRange_1 21 rfl rfl)
theorem dJ7_indexOfRange_48 : decode cJ7_indexOfRange 48 = .ok (.aload_n 1, 1) := dk_43 (dk_at dksJ7_indexOfRange_2 0 rfl rfl)
theorem dJ7_indexOfRange_49 : decode cJ7_indexOfRange 49 = .ok (.aload 4, 2) := dk_25 4 (dk_at dksJ7_indexOfRange_2 1 rfl rfl)
theorem dJ7_indexOfRange_51 : decode cJ7_indexOfRange 51 = .ok (.iload 5, 2) := dk_21 5 (dk_at dksJ7_indexOfRange_2 3 rfl rfl)
theorem dJ7_indexOfRange_53 : decode cJ7_indexOfRange 53 = .ok (.aaload, 1) := dk_50 (dk_at dksJ7_indexOfRange_2 5 rfl rfl)
theorem dJ7_indexOfRange_54 : decode cJ7_indexOfRange 54 = .ok (.invokevirtual 93, 3) := dk_182 0 93 (dk_at dksJ7_indexOfRange_2 6 rfl rfl)
theorem dJ7_indexOfRange_57 : decode cJ7_indexOfRange 57 = .ok (.ifCond .eq 6, 3) := dk_153 0 6 (dk_at dksJ7_indexOfRange_2 9 rfl rfl)
theorem dJ7_indexOfRange_60 : decode cJ7_indexOfRange 60 = .ok (.iload 5, 2) := dk_21 5 (dk_at dksJ7_indexOfRange_2 12 rfl rfl)
theorem dJ7_indexOfRange_62 : decode cJ7_indexOfRange 62 = .ok (.ireturn, 1) := dk_172 (dk_at dksJ7_indexOfRange_2 14 rfl rfl)
theorem dJ7_indexOfRange_63 : decode cJ7_indexOfRange 63 = .ok (.iinc 5 1, 3) := dk_132 5 1 (dk_at dksJ7_indexOfRange_2 15 rfl rfl)
theorem dJ7_indexOfRange_66 : decode cJ7_indexOfRange 66 = .ok (.goto (-24), 3) := dk_167 255 232 (dk_at dksJ7_indexOfRange_2 18 rfl rfl)
theorem dJ7_indexOfRange_69 : decode cJ7_indexOfRange 69 = .ok (.iconst (-1), 1) := dk_2 (dk_at dksJ7_indexOfRange_2 21 rfl rfl)
theorem dJ7_indexOfRange_70 : decode cJ7_indexOfRange 70 = .ok (.ireturn, 1) := dk_172 (dk_at dksJ7_indexOfRange_2 22 rfl rfl)
abbrev cJ7_add : ByteArray := prog_44_method_25_code
def yJ7_add : MethodName := ⟨RJ7, "add", "(Ljava/lang/Object;)Z"⟩
def dkwJ7_add_1 : List UInt8 := [172]
abbrev dktJ7_add_1 : List UInt8 := dkwJ7_add_1 ++ []
def dkwJ7_add_0 : List UInt8 := [42, 89, 180, 0, 63, 4, 96, 181, 0, 63, 42, 43, 42, 180, 0, 9, 42, 180, 0, 48, 182, 0, 131, 4]
abbrev dktJ7_add_0 : List UInt8 := dkwJ7_add_0 ++ dktJ7_add_1
theorem dksJ7_add_0 : cJ7_add.data.toList.drop 0 = dktJ7_add_0 := by decide +kernel
theorem dksJ7_add_1 : cJ7_add.data.toList.drop 24 = dktJ7_add_1 := dk_seg dksJ7_add_0 24 rfl rfl
theorem dJ7_add_0 : decode cJ7_add 0 = .ok (.aload_n 0, 1) := dk_42 (dk_at dksJ7_add_0 0 rfl rfl)
theorem dJ7_add_1 : decode cJ7_add 1 = .ok (.dup, 1) := dk_89 (dk_at dksJ7_add_0 1 rfl rfl)
theorem dJ7_add_2 : decode cJ7_add 2 = .ok (.getfield 63, 3) := dk_180 0 63 (dk_at dksJ7_add_0 2 rfl rfl)
theorem dJ7_add_5 : decode cJ7_add 5 = .ok (.iconst 1, 1) := dk_4 (dk_at dksJ7_add_0 5 rfl rfl)
theorem dJ7_add_6 : decode cJ7_add 6 = .ok (.iadd, 1) := dk_96 (dk_at dksJ7_add_0 6 rfl rfl)
theorem dJ7_add_7 : decode cJ7_add 7 = .ok (.putfield 63, 3) := dk_181 0 63 (dk_at dksJ7_add_0 7 rfl rfl)
theorem dJ7_add_10 : decode cJ7_add 10 = .ok (.aload_n 0, 1) := dk_42 (dk_at dksJ7_add_0 10 rfl rfl)
theorem dJ7_add_11 : decode cJ7_add 11 = .ok (.aload_n 1, 1) := dk_43 (dk_at dksJ7_add_0 11 rfl rfl)
theorem dJ7_add_12 : decode cJ7_add 12 = .ok (.aload_n 0, 1) := dk_42 (dk_at dksJ7_add_0 12 rfl rfl)
theorem dJ7_add_13 : decode cJ7_add 13 = .ok (.getfield 9, 3) := dk_180 0 9 (dk_at dksJ7_add_0 13 rfl rfl)
theorem dJ7_add_16 : decode cJ7_add 16 = .ok (.aload_n 0, 1) := dk_42 (dk_at dksJ7_add_0 16 rfl rfl)
theorem dJ7_add_17 : decode cJ7_add 17 = .ok (.getfield 48, 3) := dk_180 0 48 (dk_at dksJ7_add_0 17 rfl rfl)
theorem dJ7_add_20 : decode cJ7_add 20 = .ok (.invokevirtual 131, 3) := dk_182 0 131 (dk_at dksJ7_add_0 20 rfl rfl)
theorem dJ7_add_23 : decode cJ7_add 23 = .ok (.iconst 1, 1) := dk_4 (dk_at dksJ7_add_0 23 rfl rfl)
theorem dJ7_add_24 : decode cJ7_add 24 = .ok (.ireturn, 1) := dk_172 (dk_at dksJ7_add_1 0 rfl rfl)
abbrev cJ7_add_2 : ByteArray := prog_44_method_24_code
def yJ7_add_2 : MethodName := ⟨RJ7, "add", "(Ljava/lang/Object;[Ljava/lang/Object;I)V"⟩
def dkwJ7_add_2_0 : List UInt8 := [29, 44, 190, 160, 0, 8, 42, 182, 0, 129, 77, 44, 29, 43, 83, 42, 29, 4, 96, 181, 0, 48, 177]
abbrev dktJ7_add_2_0 : List UInt8 := dkwJ7_add_2_0 ++ []
theorem dksJ7_add_2_0 : cJ7_add_2.data.toList.drop 0 = dktJ7_add_2_0 := by decide +kernel
theorem dJ7_add_2_0 : decode cJ7_add_2 0 = .ok (.iload_n 3, 1) := dk_29 (dk_at dksJ7_add_2_0 0 rfl rfl)
theorem dJ7_add_2_1 : decode cJ7_add_2 1 = .ok (.aload_n 2, 1) := dk_44 (dk_at dksJ7_add_2_0 1 rfl rfl)
theorem dJ7_add_2_2 : decode cJ7_add_2 2 = .ok (.arraylength, 1) := dk_190 (dk_at dksJ7_add_2_0 2 rfl rfl)
theorem dJ7_add_2_3 : decode cJ7_add_2 3 = .ok (.if_icmp .ne 8, 3) := dk_160 0 8 (dk_at dksJ7_add_2_0 3 rfl rfl)
theorem dJ7_add_2_6 : decode cJ7_add_2 6 = .ok (.aload_n 0, 1) := dk_42 (dk_at dksJ7_add_2_0 6 rfl rfl)
theorem dJ7_add_2_7 : decode cJ7_add_2 7 = .ok (.invokevirtual 129, 3) := dk_182 0 129 (dk_at dksJ7_add_2_0 7 rfl rfl)
theorem dJ7_add_2_10 : decode cJ7_add_2 10 = .ok (.astore_n 2, 1) := dk_77 (dk_at dksJ7_add_2_0 10 rfl rfl)
theorem dJ7_add_2_11 : decode cJ7_add_2 11 = .ok (.aload_n 2, 1) := dk_44 (dk_at dksJ7_add_2_0 11 rfl rfl)
theorem dJ7_add_2_12 : decode cJ7_add_2 12 = .ok (.iload_n 3, 1) := dk_29 (dk_at dksJ7_add_2_0 12 rfl rfl)
theorem dJ7_add_2_13 : decode cJ7_add_2 13 = .ok (.aload_n 1, 1) := dk_43 (dk_at dksJ7_add_2_0 13 rfl rfl)
theorem dJ7_add_2_14 : decode cJ7_add_2 14 = .ok (.aastore, 1) := dk_83 (dk_at dksJ7_add_2_0 14 rfl rfl)
theorem dJ7_add_2_15 : decode cJ7_add_2 15 = .ok (.aload_n 0, 1) := dk_42 (dk_at dksJ7_add_2_0 15 rfl rfl)
theorem dJ7_add_2_16 : decode cJ7_add_2 16 = .ok (.iload_n 3, 1) := dk_29 (dk_at dksJ7_add_2_0 16 rfl rfl)
theorem dJ7_add_2_17 : decode cJ7_add_2 17 = .ok (.iconst 1, 1) := dk_4 (dk_at dksJ7_add_2_0 17 rfl rfl)
theorem dJ7_add_2_18 : decode cJ7_add_2 18 = .ok (.iadd, 1) := dk_96 (dk_at dksJ7_add_2_0 18 rfl rfl)
theorem dJ7_add_2_19 : decode cJ7_add_2 19 = .ok (.putfield 48, 3) := dk_181 0 48 (dk_at dksJ7_add_2_0 19 rfl rfl)
theorem dJ7_add_2_22 : decode cJ7_add_2 22 = .ok (.return_, 1) := dk_177 (dk_at dksJ7_add_2_0 22 rfl rfl)
abbrev cJ7_grow : ByteArray := prog_44_method_7_code
def yJ7_grow : MethodName := ⟨RJ7, "grow", "()[Ljava/lang/Object;"⟩
def dkwJ7_grow_0 : List UInt8 := [42, 42, 180, 0, 48, 4, 96, 182, 0, 69, 176]
abbrev dktJ7_grow_0 : List UInt8 := dkwJ7_grow_0 ++ []
theorem dksJ7_grow_0 : cJ7_grow.data.toList.drop 0 = dktJ7_grow_0 := by decide +kernel
theorem dJ7_grow_0 : decode cJ7_grow 0 = .ok (.aload_n 0, 1) := dk_42 (dk_at dksJ7_grow_0 0 rfl rfl)
theorem dJ7_grow_1 : decode cJ7_grow 1 = .ok (.aload_n 0, 1) := dk_42 (dk_at dksJ7_grow_0 1 rfl rfl)
theorem dJ7_grow_2 : decode cJ7_grow 2 = .ok (.getfield 48, 3) := dk_180 0 48 (dk_at dksJ7_grow_0 2 rfl rfl)
theorem dJ7_grow_5 : decode cJ7_grow 5 = .ok (.iconst 1, 1) := dk_4 (dk_at dksJ7_grow_0 5 rfl rfl)
theorem dJ7_grow_6 : decode cJ7_grow 6 = .ok (.iadd, 1) := dk_96 (dk_at dksJ7_grow_0 6 rfl rfl)
theorem dJ7_grow_7 : decode cJ7_grow 7 = .ok (.invokevirtual 69, 3) := dk_182 0 69 (dk_at dksJ7_grow_0 7 rfl rfl)
theorem dJ7_grow_10 : decode cJ7_grow 10 = .ok (.areturn, 1) := dk_176 (dk_at dksJ7_grow_0 10 rfl rfl)
abbrev cJ7_grow_2 : ByteArray := prog_44_method_6_code
def yJ7_grow_2 : MethodName := ⟨RJ7, "grow", "(I)[Ljava/lang/Object;"⟩
def dkwJ7_grow_2_2 : List UInt8 := [27, 184, 0, 79, 189, 0, 7, 90, 181, 0, 9, 176]
abbrev dktJ7_grow_2_2 : List UInt8 := dkwJ7_grow_2_2 ++ []
def dkwJ7_grow_2_1 : List UInt8 := [28, 4, 122, 184, 0, 73, 62, 42, 42, 180, 0, 9, 29, 184, 0, 66, 90, 181, 0, 9, 176, 42, 16, 10]
abbrev dktJ7_grow_2_1 : List UInt8 := dkwJ7_grow_2_1 ++ dktJ7_grow_2_2
def dkwJ7_grow_2_0 : List UInt8 := [42, 180, 0, 9, 190, 61, 28, 157, 0, 13, 42, 180, 0, 9, 178, 0, 39, 165, 0, 28, 28, 27, 28, 100]
abbrev dktJ7_grow_2_0 : List UInt8 := dkwJ7_grow_2_0 ++ dktJ7_grow_2_1
theorem dksJ7_grow_2_0 : cJ7_grow_2.data.toList.drop 0 = dktJ7_grow_2_0 := by decide +kernel
theorem dksJ7_grow_2_1 : cJ7_grow_2.data.toList.drop 24 = dktJ7_grow_2_1 := dk_seg dksJ7_grow_2_0 24 rfl rfl
theorem dksJ7_grow_2_2 : cJ7_grow_2.data.toList.drop 48 = dktJ7_grow_2_2 := dk_seg dksJ7_grow_2_1 24 rfl rfl
theorem dJ7_grow_2_0 : decode cJ7_grow_2 0 = .ok (.aload_n 0, 1) := dk_42 (dk_at dksJ7_grow_2_0 0 rfl rfl)
theorem dJ7_grow_2_1 : decode cJ7_grow_2 1 = .ok (.getfield 9, 3) := dk_180 0 9 (dk_at dksJ7_grow_2_0 1 rfl rfl)
theorem dJ7_grow_2_4 : decode cJ7_grow_2 4 = .ok (.arraylength, 1) := dk_190 (dk_at dksJ7_grow_2_0 4 rfl rfl)
theorem dJ7_grow_2_5 : decode cJ7_grow_2 5 = .ok (.istore_n 2, 1) := dk_61 (dk_at dksJ7_grow_2_0 5 rfl rfl)
theorem dJ7_grow_2_6 : decode cJ7_grow_2 6 = .ok (.iload_n 2, 1) := dk_28 (dk_at dksJ7_grow_2_0 6 rfl rfl)
theorem dJ7_grow_2_7 : decode cJ7_grow_2 7 = .ok (.ifCond .gt 13, 3) := dk_157 0 13 (dk_at dksJ7_grow_2_0 7 rfl rfl)
theorem dJ7_grow_2_10 : decode cJ7_grow_2 10 = .ok (.aload_n 0, 1) := dk_42 (dk_at dksJ7_grow_2_0 10 rfl rfl)
theorem dJ7_grow_2_11 : decode cJ7_grow_2 11 = .ok (.getfield 9, 3) := dk_180 0 9 (dk_at dksJ7_grow_2_0 11 rfl rfl)
theorem dJ7_grow_2_14 : decode cJ7_grow_2 14 = .ok (.getstatic 39, 3) := dk_178 0 39 (dk_at dksJ7_grow_2_0 14 rfl rfl)
theorem dJ7_grow_2_17 : decode cJ7_grow_2 17 = .ok (.if_acmp .eq 28, 3) := dk_165 0 28 (dk_at dksJ7_grow_2_0 17 rfl rfl)
theorem dJ7_grow_2_20 : decode cJ7_grow_2 20 = .ok (.iload_n 2, 1) := dk_28 (dk_at dksJ7_grow_2_0 20 rfl rfl)
theorem dJ7_grow_2_21 : decode cJ7_grow_2 21 = .ok (.iload_n 1, 1) := dk_27 (dk_at dksJ7_grow_2_0 21 rfl rfl)
theorem dJ7_grow_2_22 : decode cJ7_grow_2 22 = .ok (.iload_n 2, 1) := dk_28 (dk_at dksJ7_grow_2_0 22 rfl rfl)
theorem dJ7_grow_2_23 : decode cJ7_grow_2 23 = .ok (.isub, 1) := dk_100 (dk_at dksJ7_grow_2_0 23 rfl rfl)
theorem dJ7_grow_2_24 : decode cJ7_grow_2 24 = .ok (.iload_n 2, 1) := dk_28 (dk_at dksJ7_grow_2_1 0 rfl rfl)
theorem dJ7_grow_2_25 : decode cJ7_grow_2 25 = .ok (.iconst 1, 1) := dk_4 (dk_at dksJ7_grow_2_1 1 rfl rfl)
theorem dJ7_grow_2_26 : decode cJ7_grow_2 26 = .ok (.ishr, 1) := dk_122 (dk_at dksJ7_grow_2_1 2 rfl rfl)
theorem dJ7_grow_2_27 : decode cJ7_grow_2 27 = .ok (.invokestatic 73, 3) := dk_184 0 73 (dk_at dksJ7_grow_2_1 3 rfl rfl)
theorem dJ7_grow_2_30 : decode cJ7_grow_2 30 = .ok (.istore_n 3, 1) := dk_62 (dk_at dksJ7_grow_2_1 6 rfl rfl)
theorem dJ7_grow_2_31 : decode cJ7_grow_2 31 = .ok (.aload_n 0, 1) := dk_42 (dk_at dksJ7_grow_2_1 7 rfl rfl)
theorem dJ7_grow_2_32 : decode cJ7_grow_2 32 = .ok (.aload_n 0, 1) := dk_42 (dk_at dksJ7_grow_2_1 8 rfl rfl)
theorem dJ7_grow_2_33 : decode cJ7_grow_2 33 = .ok (.getfield 9, 3) := dk_180 0 9 (dk_at dksJ7_grow_2_1 9 rfl rfl)
theorem dJ7_grow_2_36 : decode cJ7_grow_2 36 = .ok (.iload_n 3, 1) := dk_29 (dk_at dksJ7_grow_2_1 12 rfl rfl)
theorem dJ7_grow_2_37 : decode cJ7_grow_2 37 = .ok (.invokestatic 66, 3) := dk_184 0 66 (dk_at dksJ7_grow_2_1 13 rfl rfl)
theorem dJ7_grow_2_40 : decode cJ7_grow_2 40 = .ok (.dup_x1, 1) := dk_90 (dk_at dksJ7_grow_2_1 16 rfl rfl)
theorem dJ7_grow_2_41 : decode cJ7_grow_2 41 = .ok (.putfield 9, 3) := dk_181 0 9 (dk_at dksJ7_grow_2_1 17 rfl rfl)
theorem dJ7_grow_2_44 : decode cJ7_grow_2 44 = .ok (.areturn, 1) := dk_176 (dk_at dksJ7_grow_2_1 20 rfl rfl)
theorem dJ7_grow_2_45 : decode cJ7_grow_2 45 = .ok (.aload_n 0, 1) := dk_42 (dk_at dksJ7_grow_2_1 21 rfl rfl)
theorem dJ7_grow_2_46 : decode cJ7_grow_2 46 = .ok (.bipush 10, 2) := dk_16 10 (dk_at dksJ7_grow_2_1 22 rfl rfl)
theorem dJ7_grow_2_48 : decode cJ7_grow_2 48 = .ok (.iload_n 1, 1) := dk_27 (dk_at dksJ7_grow_2_2 0 rfl rfl)
theorem dJ7_grow_2_49 : decode cJ7_grow_2 49 = .ok (.invokestatic 79, 3) := dk_184 0 79 (dk_at dksJ7_grow_2_2 1 rfl rfl)
theorem dJ7_grow_2_52 : decode cJ7_grow_2 52 = .ok (.anewarray 7, 3) := dk_189 0 7 (dk_at dksJ7_grow_2_2 4 rfl rfl)
theorem dJ7_grow_2_55 : decode cJ7_grow_2 55 = .ok (.dup_x1, 1) := dk_90 (dk_at dksJ7_grow_2_2 7 rfl rfl)
theorem dJ7_grow_2_56 : decode cJ7_grow_2 56 = .ok (.putfield 9, 3) := dk_181 0 9 (dk_at dksJ7_grow_2_2 8 rfl rfl)
theorem dJ7_grow_2_59 : decode cJ7_grow_2 59 = .ok (.areturn, 1) := dk_176 (dk_at dksJ7_grow_2_2 11 rfl rfl)
abbrev cJ7_size : ByteArray := prog_44_method_8_code
def yJ7_size : MethodName := ⟨RJ7, "size", "()I"⟩
theorem dJ7_size_0 : decode cJ7_size 0 = .ok (.aload_n 0, 1) := by decide +kernel
theorem dJ7_size_1 : decode cJ7_size 1 = .ok (.getfield 48, 3) := by decide +kernel
theorem dJ7_size_4 : decode cJ7_size 4 = .ok (.ireturn, 1) := by decide +kernel
abbrev cJ7_get : ByteArray := prog_44_method_20_code
def yJ7_get : MethodName := ⟨RJ7, "get", "(I)Ljava/lang/Object;"⟩
def dkwJ7_get_0 : List UInt8 := [27, 42, 180, 0, 48, 184, 0, 118, 87, 42, 27, 182, 0, 123, 176]
abbrev dktJ7_get_0 : List UInt8 := dkwJ7_get_0 ++ []
theorem dksJ7_get_0 : cJ7_get.data.toList.drop 0 = dktJ7_get_0 := by decide +kernel
theorem dJ7_get_0 : decode cJ7_get 0 = .ok (.iload_n 1, 1) := dk_27 (dk_at dksJ7_get_0 0 rfl rfl)
theorem dJ7_get_1 : decode cJ7_get 1 = .ok (.aload_n 0, 1) := dk_42 (dk_at dksJ7_get_0 1 rfl rfl)
theorem dJ7_get_2 : decode cJ7_get 2 = .ok (.getfield 48, 3) := dk_180 0 48 (dk_at dksJ7_get_0 2 rfl rfl)
theorem dJ7_get_5 : decode cJ7_get 5 = .ok (.invokestatic 118, 3) := dk_184 0 118 (dk_at dksJ7_get_0 5 rfl rfl)
theorem dJ7_get_8 : decode cJ7_get 8 = .ok (.pop, 1) := dk_87 (dk_at dksJ7_get_0 8 rfl rfl)
theorem dJ7_get_9 : decode cJ7_get 9 = .ok (.aload_n 0, 1) := dk_42 (dk_at dksJ7_get_0 9 rfl rfl)
theorem dJ7_get_10 : decode cJ7_get 10 = .ok (.iload_n 1, 1) := dk_27 (dk_at dksJ7_get_0 10 rfl rfl)
theorem dJ7_get_11 : decode cJ7_get 11 = .ok (.invokevirtual 123, 3) := dk_182 0 123 (dk_at dksJ7_get_0 11 rfl rfl)
theorem dJ7_get_14 : decode cJ7_get 14 = .ok (.areturn, 1) := dk_176 (dk_at dksJ7_get_0 14 rfl rfl)
abbrev cJ7_elementData : ByteArray := prog_44_method_18_code
def yJ7_elementData : MethodName := ⟨RJ7, "elementData", "(I)Ljava/lang/Object;"⟩
def dkwJ7_elementData_0 : List UInt8 := [42, 180, 0, 9, 27, 50, 176]
abbrev dktJ7_elementData_0 : List UInt8 := dkwJ7_elementData_0 ++ []
theorem dksJ7_elementData_0 : cJ7_elementData.data.toList.drop 0 = dktJ7_elementData_0 := by decide +kernel
theorem dJ7_elementData_0 : decode cJ7_elementData 0 = .ok (.aload_n 0, 1) := dk_42 (dk_at dksJ7_elementData_0 0 rfl rfl)
theorem dJ7_elementData_1 : decode cJ7_elementData 1 = .ok (.getfield 9, 3) := dk_180 0 9 (dk_at dksJ7_elementData_0 1 rfl rfl)
theorem dJ7_elementData_4 : decode cJ7_elementData 4 = .ok (.iload_n 1, 1) := dk_27 (dk_at dksJ7_elementData_0 4 rfl rfl)
theorem dJ7_elementData_5 : decode cJ7_elementData 5 = .ok (.aaload, 1) := dk_50 (dk_at dksJ7_elementData_0 5 rfl rfl)
theorem dJ7_elementData_6 : decode cJ7_elementData 6 = .ok (.areturn, 1) := dk_176 (dk_at dksJ7_elementData_0 6 rfl rfl)
theorem q88 : (Jvm.Cond.initialized "java/util/ArrayList") ∈ lw_all := lw_g (lw_at lw_m1 11 rfl) rfl
theorem q235 : (Jvm.Cond.instantiable "java/util/ArrayList" (3 : Nat)) ∈ lw_all := lw_g (lw_at lw_m1 158 rfl) rfl
theorem q237 : (Jvm.Cond.instanceMethod ({ cls := "java/util/ArrayList", name := "<init>", desc := "()V" } : Jvm.MethodName)) ∈ lw_all := lw_g (lw_at lw_m1 160 rfl) rfl
theorem q238 : (Jvm.Cond.code ({ cls := "java/util/ArrayList", name := "<init>", desc := "()V" } : Jvm.MethodName) prog_44_method_2_code (1 : Nat) (Option.none : Option Jvm.ClassFile.FieldType)) ∈ lw_all := lw_g (lw_at lw_m1 161 rfl) rfl
theorem q239 : (Jvm.Cond.methodLink "java/util/ArrayList" (1 : Nat) ({ cls := "java/util/AbstractList", name := "<init>", desc := "()V" } : Jvm.MethodName)) ∈ lw_all := lw_g (lw_at lw_m1 162 rfl) rfl
theorem q243 : (Jvm.Cond.fieldLink "java/util/ArrayList" (39 : Nat) "java/util/ArrayList" "DEFAULTCAPACITY_EMPTY_ELEMENTDATA" "[Ljava/lang/Object;") ∈ lw_all := lw_g (lw_at lw_m1 166 rfl) rfl
theorem q244 : (Jvm.Cond.laysStatic "java/util/ArrayList" "DEFAULTCAPACITY_EMPTY_ELEMENTDATA" "[Ljava/lang/Object;") ∈ lw_tbl := lw_at lw_m1 167 rfl
theorem q245 : (Jvm.Cond.fieldLink "java/util/ArrayList" (9 : Nat) "java/util/ArrayList" "elementData" "[Ljava/lang/Object;") ∈ lw_all := lw_g (lw_at lw_m1 168 rfl) rfl
theorem q246 : (Jvm.Cond.fieldLink "java/util/ArrayList" (48 : Nat) "java/util/ArrayList" "size" "I") ∈ lw_all := lw_g (lw_at lw_m1 169 rfl) rfl
theorem q248 : (Jvm.Cond.fieldLink "java/util/ArrayList" (63 : Nat) "java/util/ArrayList" "modCount" "I") ∈ lw_all := lw_g (lw_at lw_m1 171 rfl) rfl
theorem q249 : (Jvm.Cond.sameField "java/util/ArrayList" "java/util/AbstractList" "modCount" "I") ∈ lw_all := lw_g (lw_at lw_m1 172 rfl) rfl
theorem q250 : (Jvm.Cond.lays "java/util/ArrayList" "java/util/ArrayList" "elementData" "[Ljava/lang/Object;") ∈ lw_all := lw_g (lw_at lw_m1 173 rfl) rfl
theorem q251 : (Jvm.Cond.soleField "java/util/ArrayList" "elementData") ∈ lw_all := lw_g (lw_at lw_m1 174 rfl) rfl
theorem q252 : (Jvm.Cond.lays "java/util/ArrayList" "java/util/ArrayList" "size" "I") ∈ lw_all := lw_g (lw_at lw_m1 175 rfl) rfl
theorem q253 : (Jvm.Cond.soleField "java/util/ArrayList" "size") ∈ lw_all := lw_g (lw_at lw_m1 176 rfl) rfl
theorem q254 : (Jvm.Cond.lays "java/util/ArrayList" "java/util/AbstractList" "modCount" "I") ∈ lw_all := lw_g (lw_at lw_m1 177 rfl) rfl
theorem q256 : (Jvm.Cond.superclass "java/util/ArrayList" "java/util/AbstractList") ∈ lw_all := lw_g (lw_at lw_m1 179 rfl) rfl
theorem q424 : (Jvm.Cond.selects "java/util/ArrayList" ({ cls := "java/lang/Object", name := "getClass", desc := "()Ljava/lang/Class;" } : Jvm.MethodName) ({ cls := "java/lang/Object", name := "getClass", desc := "()Ljava/lang/Class;" } : Jvm.MethodName)) ∈ lw_all := lw_g (lw_at lw_m2 107 rfl) rfl
theorem q806 : (Jvm.Cond.instanceMethod ({ cls := "java/util/ArrayList", name := "contains", desc := "(Ljava/lang/Object;)Z" } : Jvm.MethodName)) ∈ lw_all := lw_g (lw_at lw_m4 9 rfl) rfl
theorem q807 : (Jvm.Cond.selects "java/util/ArrayList" ({ cls := "java/util/ArrayList", name := "contains", desc := "(Ljava/lang/Object;)Z" } : Jvm.MethodName) ({ cls := "java/util/ArrayList", name := "contains", desc := "(Ljava/lang/Object;)Z" } : Jvm.MethodName)) ∈ lw_all := lw_g (lw_at lw_m4 10 rfl) rfl
theorem q808 : (Jvm.Cond.code ({ cls := "java/util/ArrayList", name := "contains", desc := "(Ljava/lang/Object;)Z" } : Jvm.MethodName) prog_44_method_10_code (2 : Nat) (Option.some Jvm.ClassFile.FieldType.boolean)) ∈ lw_all := lw_g (lw_at lw_m4 11 rfl) rfl
theorem q809 : (Jvm.Cond.methodLink "java/util/ArrayList" (85 : Nat) ({ cls := "java/util/ArrayList", name := "indexOf", desc := "(Ljava/lang/Object;)I" } : Jvm.MethodName)) ∈ lw_all := lw_g (lw_at lw_m4 12 rfl) rfl
theorem q810 : (Jvm.Cond.instanceMethod ({ cls := "java/util/ArrayList", name := "indexOf", desc := "(Ljava/lang/Object;)I" } : Jvm.MethodName)) ∈ lw_all := lw_g (lw_at lw_m4 13 rfl) rfl
theorem q811 : (Jvm.Cond.selects "java/util/ArrayList" ({ cls := "java/util/ArrayList", name := "indexOf", desc := "(Ljava/lang/Object;)I" } : Jvm.MethodName) ({ cls := "java/util/ArrayList", name := "indexOf", desc := "(Ljava/lang/Object;)I" } : Jvm.MethodName)) ∈ lw_all := lw_g (lw_at lw_m4 14 rfl) rfl
theorem q812 : (Jvm.Cond.code ({ cls := "java/util/ArrayList", name := "indexOf", desc := "(Ljava/lang/Object;)I" } : Jvm.MethodName) prog_44_method_11_code (2 : Nat) (Option.some Jvm.ClassFile.FieldType.int)) ∈ lw_all := lw_g (lw_at lw_m4 15 rfl) rfl
theorem q813 : (Jvm.Cond.methodLink "java/util/ArrayList" (89 : Nat) ({ cls := "java/util/ArrayList", name := "indexOfRange", desc := "(Ljava/lang/Object;II)I" } : Jvm.MethodName)) ∈ lw_all := lw_g (lw_at lw_m4 16 rfl) rfl
theorem q814 : (Jvm.Cond.instanceMethod ({ cls := "java/util/ArrayList", name := "indexOfRange", desc := "(Ljava/lang/Object;II)I" } : Jvm.MethodName)) ∈ lw_all := lw_g (lw_at lw_m4 17 rfl) rfl
theorem q815 : (Jvm.Cond.selects "java/util/ArrayList" ({ cls := "java/util/ArrayList", name := "indexOfRange", desc := "(Ljava/lang/Object;II)I" } : Jvm.MethodName) ({ cls := "java/util/ArrayList", name := "indexOfRange", desc := "(Ljava/lang/Object;II)I" } : Jvm.MethodName)) ∈ lw_all := lw_g (lw_at lw_m4 18 rfl) rfl
theorem q816 : (Jvm.Cond.code ({ cls := "java/util/ArrayList", name := "indexOfRange", desc := "(Ljava/lang/Object;II)I" } : Jvm.MethodName) prog_44_method_12_code (6 : Nat) (Option.some Jvm.ClassFile.FieldType.int)) ∈ lw_all := lw_g (lw_at lw_m4 19 rfl) rfl
theorem q818 : (Jvm.Cond.methodLink "java/util/ArrayList" (93 : Nat) ({ cls := "java/lang/Object", name := "equals", desc := "(Ljava/lang/Object;)Z" } : Jvm.MethodName)) ∈ lw_all := lw_g (lw_at lw_m4 21 rfl) rfl
theorem q851 : (Jvm.Cond.instanceMethod ({ cls := "java/util/ArrayList", name := "add", desc := "(Ljava/lang/Object;)Z" } : Jvm.MethodName)) ∈ lw_all := lw_g (lw_at lw_m4 54 rfl) rfl
theorem q852 : (Jvm.Cond.selects "java/util/ArrayList" ({ cls := "java/util/ArrayList", name := "add", desc := "(Ljava/lang/Object;)Z" } : Jvm.MethodName) ({ cls := "java/util/ArrayList", name := "add", desc := "(Ljava/lang/Object;)Z" } : Jvm.MethodName)) ∈ lw_all := lw_g (lw_at lw_m4 55 rfl) rfl
theorem q853 : (Jvm.Cond.code ({ cls := "java/util/ArrayList", name := "add", desc := "(Ljava/lang/Object;)Z" } : Jvm.MethodName) prog_44_method_25_code (2 : Nat) (Option.some Jvm.ClassFile.FieldType.boolean)) ∈ lw_all := lw_g (lw_at lw_m4 56 rfl) rfl
theorem q854 : (Jvm.Cond.methodLink "java/util/ArrayList" (131 : Nat) ({ cls := "java/util/ArrayList", name := "add", desc := "(Ljava/lang/Object;[Ljava/lang/Object;I)V" } : Jvm.MethodName)) ∈ lw_all := lw_g (lw_at lw_m4 57 rfl) rfl
theorem q855 : (Jvm.Cond.privateMethod ({ cls := "java/util/ArrayList", name := "add", desc := "(Ljava/lang/Object;[Ljava/lang/Object;I)V" } : Jvm.MethodName)) ∈ lw_tbl := lw_at lw_m4 58 rfl
theorem q856 : (Jvm.Cond.instanceMethod ({ cls := "java/util/ArrayList", name := "add", desc := "(Ljava/lang/Object;[Ljava/lang/Object;I)V" } : Jvm.MethodName)) ∈ lw_all := lw_g (lw_at lw_m4 59 rfl) rfl
theorem q857 : (Jvm.Cond.code ({ cls := "java/util/ArrayList", name := "add", desc := "(Ljava/lang/Object;[Ljava/lang/Object;I)V" } : Jvm.MethodName) prog_44_method_24_code (4 : Nat) (Option.none : Option Jvm.ClassFile.FieldType)) ∈ lw_all := lw_g (lw_at lw_m4 60 rfl) rfl
theorem q858 : (Jvm.Cond.methodLink "java/util/ArrayList" (129 : Nat) ({ cls := "java/util/ArrayList", name := "grow", desc := "()[Ljava/lang/Object;" } : Jvm.MethodName)) ∈ lw_all := lw_g (lw_at lw_m4 61 rfl) rfl
theorem q859 : (Jvm.Cond.privateMethod ({ cls := "java/util/ArrayList", name := "grow", desc := "()[Ljava/lang/Object;" } : Jvm.MethodName)) ∈ lw_tbl := lw_at lw_m4 62 rfl
theorem q860 : (Jvm.Cond.instanceMethod ({ cls := "java/util/ArrayList", name := "grow", desc := "()[Ljava/lang/Object;" } : Jvm.MethodName)) ∈ lw_all := lw_g (lw_at lw_m4 63 rfl) rfl
theorem q861 : (Jvm.Cond.code ({ cls := "java/util/ArrayList", name := "grow", desc := "()[Ljava/lang/Object;" } : Jvm.MethodName) prog_44_method_7_code (1 : Nat) (Option.some (Jvm.ClassFile.FieldType.array (Jvm.ClassFile.FieldType.object "java/lang/Object")))) ∈ lw_all := lw_g (lw_at lw_m4 64 rfl) rfl
theorem q862 : (Jvm.Cond.methodLink "java/util/ArrayList" (69 : Nat) ({ cls := "java/util/ArrayList", name := "grow", desc := "(I)[Ljava/lang/Object;" } : Jvm.MethodName)) ∈ lw_all := lw_g (lw_at lw_m4 65 rfl) rfl
theorem q863 : (Jvm.Cond.privateMethod ({ cls := "java/util/ArrayList", name := "grow", desc := "(I)[Ljava/lang/Object;" } : Jvm.MethodName)) ∈ lw_tbl := lw_at lw_m4 66 rfl
theorem q864 : (Jvm.Cond.instanceMethod ({ cls := "java/util/ArrayList", name := "grow", desc := "(I)[Ljava/lang/Object;" } : Jvm.MethodName)) ∈ lw_all := lw_g (lw_at lw_m4 67 rfl) rfl
theorem q865 : (Jvm.Cond.code ({ cls := "java/util/ArrayList", name := "grow", desc := "(I)[Ljava/lang/Object;" } : Jvm.MethodName) prog_44_method_6_code (4 : Nat) (Option.some (Jvm.ClassFile.FieldType.array (Jvm.ClassFile.FieldType.object "java/lang/Object")))) ∈ lw_all := lw_g (lw_at lw_m4 68 rfl) rfl
theorem q866 : (Jvm.Cond.methodLink "java/util/ArrayList" (73 : Nat) ({ cls := "jdk/internal/util/ArraysSupport", name := "newLength", desc := "(III)I" } : Jvm.MethodName)) ∈ lw_all := lw_g (lw_at lw_m4 69 rfl) rfl
theorem q867 : (Jvm.Cond.methodLink "java/util/ArrayList" (66 : Nat) ({ cls := "java/util/Arrays", name := "copyOf", desc := "([Ljava/lang/Object;I)[Ljava/lang/Object;" } : Jvm.MethodName)) ∈ lw_all := lw_g (lw_at lw_m4 70 rfl) rfl
theorem q868 : (Jvm.Cond.methodLink "java/util/ArrayList" (79 : Nat) ({ cls := "java/lang/Math", name := "max", desc := "(II)I" } : Jvm.MethodName)) ∈ lw_all := lw_g (lw_at lw_m4 71 rfl) rfl
theorem q869 : (Jvm.Cond.classLink "java/util/ArrayList" (7 : Nat) "java/lang/Object") ∈ lw_all := lw_g (lw_at lw_m4 72 rfl) rfl
theorem q969 : (Jvm.Cond.castable "java/util/ArrayList" "java/util/List") ∈ lw_tbl := lw_at lw_m4 172 rfl
theorem q970 : (Jvm.Cond.selects "java/util/ArrayList" ({ cls := "java/util/List", name := "size", desc := "()I" } : Jvm.MethodName) ({ cls := "java/util/ArrayList", name := "size", desc := "()I" } : Jvm.MethodName)) ∈ lw_all := lw_g (lw_at lw_m4 173 rfl) rfl
theorem q971 : (Jvm.Cond.unhidden "java/util/ArrayList" "size" "()I") ∈ lw_tbl := lw_at lw_m4 174 rfl
theorem q972 : (Jvm.Cond.instanceMethod ({ cls := "java/util/ArrayList", name := "size", desc := "()I" } : Jvm.MethodName)) ∈ lw_all := lw_g (lw_at lw_m4 175 rfl) rfl
theorem q973 : (Jvm.Cond.publicMethod ({ cls := "java/util/ArrayList", name := "size", desc := "()I" } : Jvm.MethodName)) ∈ lw_tbl := lw_at lw_m4 176 rfl
theorem q974 : (Jvm.Cond.code ({ cls := "java/util/ArrayList", name := "size", desc := "()I" } : Jvm.MethodName) prog_44_method_8_code (1 : Nat) (Option.some Jvm.ClassFile.FieldType.int)) ∈ lw_all := lw_g (lw_at lw_m4 177 rfl) rfl
theorem q979 : (Jvm.Cond.selects "java/util/ArrayList" ({ cls := "java/util/List", name := "get", desc := "(I)Ljava/lang/Object;" } : Jvm.MethodName) ({ cls := "java/util/ArrayList", name := "get", desc := "(I)Ljava/lang/Object;" } : Jvm.MethodName)) ∈ lw_all := lw_g (lw_at lw_m4 182 rfl) rfl
theorem q980 : (Jvm.Cond.unhidden "java/util/ArrayList" "get" "(I)Ljava/lang/Object;") ∈ lw_tbl := lw_at lw_m4 183 rfl
theorem q981 : (Jvm.Cond.instanceMethod ({ cls := "java/util/ArrayList", name := "get", desc := "(I)Ljava/lang/Object;" } : Jvm.MethodName)) ∈ lw_all := lw_g (lw_at lw_m4 184 rfl) rfl
theorem q982 : (Jvm.Cond.publicMethod ({ cls := "java/util/ArrayList", name := "get", desc := "(I)Ljava/lang/Object;" } : Jvm.MethodName)) ∈ lw_tbl := lw_at lw_m4 185 rfl
theorem q983 : (Jvm.Cond.code ({ cls := "java/util/ArrayList", name := "get", desc := "(I)Ljava/lang/Object;" } : Jvm.MethodName) prog_44_method_20_code (2 : Nat) (Option.some (Jvm.ClassFile.FieldType.object "java/lang/Object"))) ∈ lw_all := lw_g (lw_at lw_m4 186 rfl) rfl
theorem q984 : (Jvm.Cond.methodLink "java/util/ArrayList" (118 : Nat) ({ cls := "java/util/Objects", name := "checkIndex", desc := "(II)I" } : Jvm.MethodName)) ∈ lw_all := lw_g (lw_at lw_m4 187 rfl) rfl
theorem q990 : (Jvm.Cond.methodLink "java/util/ArrayList" (123 : Nat) ({ cls := "java/util/ArrayList", name := "elementData", desc := "(I)Ljava/lang/Object;" } : Jvm.MethodName)) ∈ lw_all := lw_g (lw_at lw_m4 193 rfl) rfl
theorem q991 : (Jvm.Cond.instanceMethod ({ cls := "java/util/ArrayList", name := "elementData", desc := "(I)Ljava/lang/Object;" } : Jvm.MethodName)) ∈ lw_all := lw_g (lw_at lw_m4 194 rfl) rfl
theorem q992 : (Jvm.Cond.selects "java/util/ArrayList" ({ cls := "java/util/ArrayList", name := "elementData", desc := "(I)Ljava/lang/Object;" } : Jvm.MethodName) ({ cls := "java/util/ArrayList", name := "elementData", desc := "(I)Ljava/lang/Object;" } : Jvm.MethodName)) ∈ lw_all := lw_g (lw_at lw_m4 195 rfl) rfl
theorem q993 : (Jvm.Cond.code ({ cls := "java/util/ArrayList", name := "elementData", desc := "(I)Ljava/lang/Object;" } : Jvm.MethodName) prog_44_method_18_code (2 : Nat) (Option.some (Jvm.ClassFile.FieldType.object "java/lang/Object"))) ∈ lw_all := lw_g (lw_at lw_m4 196 rfl) rfl
theorem q2187 : (Jvm.Cond.selects "java/util/ArrayList" ({ cls := "java/util/ArrayList", name := "size", desc := "()I" } : Jvm.MethodName) ({ cls := "java/util/ArrayList", name := "size", desc := "()I" } : Jvm.MethodName)) ∈ lw_all := lw_g (lw_at lw_m9 190 rfl) rfl
theorem q2188 : (Jvm.Cond.selects "java/util/ArrayList" ({ cls := "java/util/ArrayList", name := "get", desc := "(I)Ljava/lang/Object;" } : Jvm.MethodName) ({ cls := "java/util/ArrayList", name := "get", desc := "(I)Ljava/lang/Object;" } : Jvm.MethodName)) ∈ lw_all := lw_g (lw_at lw_m9 191 rfl) rfl
theorem q2195 : (Jvm.Cond.castable "java/util/ArrayList" "java/lang/Object") ∈ lw_tbl := lw_at lw_m9 198 rfl
theorem in_J7 : ∀ w ∈ wsJ70, w ∈ lw_all := lw_in wsJ70 [254, 250, 252] (by decide +kernel) (by decide +kernel)

/-! java/lang/Number -/
set_option maxRecDepth 100000
def RJ8 : String := "java/lang/Number"
abbrev cJ8_init : ByteArray := prog_30_method_1_code
def yJ8_init : MethodName := ⟨RJ8, "<init>", "()V"⟩
theorem dJ8_init_0 : decode cJ8_init 0 = .ok (.aload_n 0, 1) := by decide +kernel
theorem dJ8_init_1 : decode cJ8_init 1 = .ok (.invokespecial 1, 3) := by decide +kernel
theorem dJ8_init_4 : decode cJ8_init 4 = .ok (.return_, 1) := by decide +kernel
theorem q90 : (Jvm.Cond.initialized "java/lang/Number") ∈ lw_all := lw_g (lw_at lw_m1 13 rfl) rfl
theorem q301 : (Jvm.Cond.instanceMethod ({ cls := "java/lang/Number", name := "<init>", desc := "()V" } : Jvm.MethodName)) ∈ lw_all := lw_g (lw_at lw_m1 224 rfl) rfl
theorem q302 : (Jvm.Cond.code ({ cls := "java/lang/Number", name := "<init>", desc := "()V" } : Jvm.MethodName) prog_30_method_1_code (1 : Nat) (Option.none : Option Jvm.ClassFile.FieldType)) ∈ lw_all := lw_g (lw_at lw_m1 225 rfl) rfl
theorem q303 : (Jvm.Cond.methodLink "java/lang/Number" (1 : Nat) ({ cls := "java/lang/Object", name := "<init>", desc := "()V" } : Jvm.MethodName)) ∈ lw_all := lw_g (lw_at lw_m1 226 rfl) rfl

/-! java/lang/Integer -/
set_option maxRecDepth 100000
def RJ9 : String := "java/lang/Integer"
def TJ9 : u_T := fun k => match k with
  | _ => ("java/lang/Integer", "value", "I", true)
def tyJ9 : Nat → FieldType := fun k => match k with
  | _ => .int
abbrev wsJ90 : List Cond := u_ws RJ9 TJ9 1
theorem nmJ9 : ∀ a, a < 1 → ∀ b, b < 1 → a ≠ b → (TJ9 a).2.1 ≠ (TJ9 b).2.1 := by decide +kernel
theorem tyJ9_ok : ∀ k, k < 1 → parseFieldDescriptor (TJ9 k).2.2.1 = some (tyJ9 k) := by decide +kernel
abbrev cJ9_valueOf : ByteArray := prog_25_method_22_code
def yJ9_valueOf : MethodName := ⟨RJ9, "valueOf", "(I)Ljava/lang/Integer;"⟩
def dkwJ9_valueOf_1 : List UInt8 := [187, 0, 1, 89, 26, 183, 0, 199, 176]
abbrev dktJ9_valueOf_1 : List UInt8 := dkwJ9_valueOf_1 ++ []
def dkwJ9_valueOf_0 : List UInt8 := [26, 16, 128, 161, 0, 20, 26, 178, 0, 191, 163, 0, 13, 178, 0, 195, 26, 17, 0, 128, 96, 50, 176]
abbrev dktJ9_valueOf_0 : List UInt8 := dkwJ9_valueOf_0 ++ dktJ9_valueOf_1
theorem dksJ9_valueOf_0 : cJ9_valueOf.data.toList.drop 0 = dktJ9_valueOf_0 := by decide +kernel
theorem dksJ9_valueOf_1 : cJ9_valueOf.data.toList.drop 23 = dktJ9_valueOf_1 := dk_seg dksJ9_valueOf_0 23 rfl rfl
theorem dJ9_valueOf_0 : decode cJ9_valueOf 0 = .ok (.iload_n 0, 1) := dk_26 (dk_at dksJ9_valueOf_0 0 rfl rfl)
theorem dJ9_valueOf_1 : decode cJ9_valueOf 1 = .ok (.bipush (-128), 2) := dk_16 128 (dk_at dksJ9_valueOf_0 1 rfl rfl)
theorem dJ9_valueOf_3 : decode cJ9_valueOf 3 = .ok (.if_icmp .lt 20, 3) := dk_161 0 20 (dk_at dksJ9_valueOf_0 3 rfl rfl)
theorem dJ9_valueOf_6 : decode cJ9_valueOf 6 = .ok (.iload_n 0, 1) := dk_26 (dk_at dksJ9_valueOf_0 6 rfl rfl)
theorem dJ9_valueOf_7 : decode cJ9_valueOf 7 = .ok (.getstatic 191, 3) := dk_178 0 191 (dk_at dksJ9_valueOf_0 7 rfl rfl)
theorem dJ9_valueOf_10 : decode cJ9_valueOf 10 = .ok (.if_icmp .gt 13, 3) := dk_163 0 13 (dk_at dksJ9_valueOf_0 10 rfl rfl)
theorem dJ9_valueOf_13 : decode cJ9_valueOf 13 = .ok (.getstatic 195, 3) := dk_178 0 195 (dk_at dksJ9_valueOf_0 13 rfl rfl)
theorem dJ9_valueOf_16 : decode cJ9_valueOf 16 = .ok (.iload_n 0, 1) := dk_26 (dk_at dksJ9_valueOf_0 16 rfl rfl)
theorem dJ9_valueOf_17 : decode cJ9_valueOf 17 = .ok (.sipush 128, 3) := dk_17 0 128 (dk_at dksJ9_valueOf_0 17 rfl rfl)
theorem dJ9_valueOf_20 : decode cJ9_valueOf 20 = .ok (.iadd, 1) := dk_96 (dk_at dksJ9_valueOf_0 20 rfl rfl)
theorem dJ9_valueOf_21 : decode cJ9_valueOf 21 = .ok (.aaload, 1) := dk_50 (dk_at dksJ9_valueOf_0 21 rfl rfl)
theorem dJ9_valueOf_22 : decode cJ9_valueOf 22 = .ok (.areturn, 1) := dk_176 (dk_at dksJ9_valueOf_0 22 rfl rfl)
theorem dJ9_valueOf_23 : decode cJ9_valueOf 23 = .ok (.new 1, 3) := dk_187 0 1 (dk_at dksJ9_valueOf_1 0 rfl rfl)
theorem dJ9_valueOf_26 : decode cJ9_valueOf 26 = .ok (.dup, 1) := dk_89 (dk_at dksJ9_valueOf_1 3 rfl rfl)
theorem dJ9_valueOf_27 : decode cJ9_valueOf 27 = .ok (.iload_n 0, 1) := dk_26 (dk_at dksJ9_valueOf_1 4 rfl rfl)
theorem dJ9_valueOf_28 : decode cJ9_valueOf 28 = .ok (.invokespecial 199, 3) := dk_183 0 199 (dk_at dksJ9_valueOf_1 5 rfl rfl)
theorem dJ9_valueOf_31 : decode cJ9_valueOf 31 = .ok (.areturn, 1) := dk_176 (dk_at dksJ9_valueOf_1 8 rfl rfl)
abbrev cJ9_init : ByteArray := prog_25_method_23_code
def yJ9_init : MethodName := ⟨RJ9, "<init>", "(I)V"⟩
def dkwJ9_init_0 : List UInt8 := [42, 183, 0, 202, 42, 27, 181, 0, 205, 177]
abbrev dktJ9_init_0 : List UInt8 := dkwJ9_init_0 ++ []
theorem dksJ9_init_0 : cJ9_init.data.toList.drop 0 = dktJ9_init_0 := by decide +kernel
theorem dJ9_init_0 : decode cJ9_init 0 = .ok (.aload_n 0, 1) := dk_42 (dk_at dksJ9_init_0 0 rfl rfl)
theorem dJ9_init_1 : decode cJ9_init 1 = .ok (.invokespecial 202, 3) := dk_183 0 202 (dk_at dksJ9_init_0 1 rfl rfl)
theorem dJ9_init_4 : decode cJ9_init 4 = .ok (.aload_n 0, 1) := dk_42 (dk_at dksJ9_init_0 4 rfl rfl)
theorem dJ9_init_5 : decode cJ9_init 5 = .ok (.iload_n 1, 1) := dk_27 (dk_at dksJ9_init_0 5 rfl rfl)
theorem dJ9_init_6 : decode cJ9_init 6 = .ok (.putfield 205, 3) := dk_181 0 205 (dk_at dksJ9_init_0 6 rfl rfl)
theorem dJ9_init_9 : decode cJ9_init 9 = .ok (.return_, 1) := dk_177 (dk_at dksJ9_init_0 9 rfl rfl)
abbrev cJ9_intValue : ByteArray := prog_25_method_27_code
def yJ9_intValue : MethodName := ⟨RJ9, "intValue", "()I"⟩
theorem dJ9_intValue_0 : decode cJ9_intValue 0 = .ok (.aload_n 0, 1) := by decide +kernel
theorem dJ9_intValue_1 : decode cJ9_intValue 1 = .ok (.getfield 205, 3) := by decide +kernel
theorem dJ9_intValue_4 : decode cJ9_intValue 4 = .ok (.ireturn, 1) := by decide +kernel
abbrev cJ9_stringSize : ByteArray := prog_25_method_13_code
def yJ9_stringSize : MethodName := ⟨RJ9, "stringSize", "(I)I"⟩
def dkwJ9_stringSize_1 : List UInt8 := [164, 0, 7, 29, 27, 96, 172, 16, 10, 28, 104, 61, 132, 3, 1, 167, 255, 233, 16, 10, 27, 96, 172]
abbrev dktJ9_stringSize_1 : List UInt8 := dkwJ9_stringSize_1 ++ []
def dkwJ9_stringSize_0 : List UInt8 := [4, 60, 26, 155, 0, 8, 3, 60, 26, 116, 59, 16, 246, 61, 4, 62, 29, 16, 10, 162, 0, 23, 26, 28]
abbrev dktJ9_stringSize_0 : List UInt8 := dkwJ9_stringSize_0 ++ dktJ9_stringSize_1
theorem dksJ9_stringSize_0 : cJ9_stringSize.data.toList.drop 0 = dktJ9_stringSize_0 := by decide +kernel
theorem dksJ9_stringSize_1 : cJ9_stringSize.data.toList.drop 24 = dktJ9_stringSize_1 := dk_seg dksJ9_stringSize_0 24 rfl rfl
theorem dJ9_stringSize_0 : decode cJ9_stringSize 0 = .ok (.iconst 1, 1) := dk_4 (dk_at dksJ9_stringSize_0 0 rfl rfl)
theorem dJ9_stringSize_1 : decode cJ9_stringSize 1 = .ok (.istore_n 1, 1) := dk_60 (dk_at dksJ9_stringSize_0 1 rfl rfl)
theorem dJ9_stringSize_2 : decode cJ9_stringSize 2 = .ok (.iload_n 0, 1) := dk_26 (dk_at dksJ9_stringSize_0 2 rfl rfl)
theorem dJ9_stringSize_3 : decode cJ9_stringSize 3 = .ok (.ifCond .lt 8, 3) := dk_155 0 8 (dk_at dksJ9_stringSize_0 3 rfl rfl)
theorem dJ9_stringSize_6 : decode cJ9_stringSize 6 = .ok (.iconst 0, 1) := dk_3 (dk_at dksJ9_stringSize_0 6 rfl rfl)
theorem dJ9_stringSize_7 : decode cJ9_stringSize 7 = .ok (.istore_n 1, 1) := dk_60 (dk_at dksJ9_stringSize_0 7 rfl rfl)
theorem dJ9_stringSize_8 : decode cJ9_stringSize 8 = .ok (.iload_n 0, 1) := dk_26 (dk_at dksJ9_stringSize_0 8 rfl rfl)
theorem dJ9_stringSize_9 : decode cJ9_stringSize 9 = .ok (.ineg, 1) := dk_116 (dk_at dksJ9_stringSize_0 9 rfl rfl)
theorem dJ9_stringSize_10 : decode cJ9_stringSize 10 = .ok (.istore_n 0, 1) := dk_59 (dk_at dksJ9_stringSize_0 10 rfl rfl)
theorem dJ9_stringSize_11 : decode cJ9_stringSize 11 = .ok (.bipush (-10), 2) := dk_16 246 (dk_at dksJ9_stringSize_0 11 rfl rfl)
theorem dJ9_stringSize_13 : decode cJ9_stringSize 13 = .ok (.istore_n 2, 1) := dk_61 (dk_at dksJ9_stringSize_0 13 rfl rfl)
theorem dJ9_stringSize_14 : decode cJ9_stringSize 14 = .ok (.iconst 1, 1) := dk_4 (dk_at dksJ9_stringSize_0 14 rfl rfl)
theorem dJ9_stringSize_15 : decode cJ9_stringSize 15 = .ok (.istore_n 3, 1) := dk_62 (dk_at dksJ9_stringSize_0 15 rfl rfl)
theorem dJ9_stringSize_16 : decode cJ9_stringSize 16 = .ok (.iload_n 3, 1) := dk_29 (dk_at dksJ9_stringSize_0 16 rfl rfl)
theorem dJ9_stringSize_17 : decode cJ9_stringSize 17 = .ok (.bipush 10, 2) := dk_16 10 (dk_at dksJ9_stringSize_0 17 rfl rfl)
theorem dJ9_stringSize_19 : decode cJ9_stringSize 19 = .ok (.if_icmp .ge 23, 3) := dk_162 0 23 (dk_at dksJ9_stringSize_0 19 rfl rfl)
theorem dJ9_stringSize_22 : decode cJ9_stringSize 22 = .ok (.iload_n 0, 1) := dk_26 (dk_at dksJ9_stringSize_0 22 rfl rfl)
theorem dJ9_stringSize_23 : decode cJ9_stringSize 23 = .ok (.iload_n 2, 1) := dk_28 (dk_at dksJ9_stringSize_0 23 rfl rfl)
theorem dJ9_stringSize_24 : decode cJ9_stringSize 24 = .ok (.if_icmp .le 7, 3) := dk_164 0 7 (dk_at dksJ9_stringSize_1 0 rfl rfl)
theorem dJ9_stringSize_27 : decode cJ9_stringSize 27 = .ok (.iload_n 3, 1) := dk_29 (dk_at dksJ9_stringSize_1 3 rfl rfl)
theorem dJ9_stringSize_28 : decode cJ9_stringSize 28 = .ok (.iload_n 1, 1) := dk_27 (dk_at dksJ9_stringSize_1 4 rfl rfl)
theorem dJ9_stringSize_29 : decode cJ9_stringSize 29 = .ok (.iadd, 1) := dk_96 (dk_at dksJ9_stringSize_1 5 rfl rfl)
theorem dJ9_stringSize_30 : decode cJ9_stringSize 30 = .ok (.ireturn, 1) := dk_172 (dk_at dksJ9_stringSize_1 6 rfl rfl)
theorem dJ9_stringSize_31 : decode cJ9_stringSize 31 = .ok (.bipush 10, 2) := dk_16 10 (dk_at dksJ9_stringSize_1 7 rfl rfl)
theorem dJ9_stringSize_33 : decode cJ9_stringSize 33 = .ok (.iload_n 2, 1) := dk_28 (dk_at dksJ9_stringSize_1 9 rfl rfl)
theorem dJ9_stringSize_34 : decode cJ9_stringSize 34 = .ok (.imul, 1) := dk_104 (dk_at dksJ9_stringSize_1 10 rfl rfl)
theorem dJ9_stringSize_35 : decode cJ9_stringSize 35 = .ok (.istore_n 2, 1) := dk_61 (dk_at dksJ9_stringSize_1 11 rfl rfl)
theorem dJ9_stringSize_36 : decode cJ9_stringSize 36 = .ok (.iinc 3 1, 3) := dk_132 3 1 (dk_at dksJ9_stringSize_1 12 rfl rfl)
theorem dJ9_stringSize_39 : decode cJ9_stringSize 39 = .ok (.goto (-23), 3) := dk_167 255 233 (dk_at dksJ9_stringSize_1 15 rfl rfl)
theorem dJ9_stringSize_42 : decode cJ9_stringSize 42 = .ok (.bipush 10, 2) := dk_16 10 (dk_at dksJ9_stringSize_1 18 rfl rfl)
theorem dJ9_stringSize_44 : decode cJ9_stringSize 44 = .ok (.iload_n 1, 1) := dk_27 (dk_at dksJ9_stringSize_1 20 rfl rfl)
theorem dJ9_stringSize_45 : decode cJ9_stringSize 45 = .ok (.iadd, 1) := dk_96 (dk_at dksJ9_stringSize_1 21 rfl rfl)
theorem dJ9_stringSize_46 : decode cJ9_stringSize 46 = .ok (.ireturn, 1) := dk_172 (dk_at dksJ9_stringSize_1 22 rfl rfl)
abbrev cJ9_getChars : ByteArray := prog_25_method_12_code
def yJ9_getChars : MethodName := ⟨RJ9, "getChars", "(II[B)I"⟩
def dkwJ9_getChars_5 : List UInt8 := [16, 45, 84, 21, 5, 172]
abbrev dktJ9_getChars_5 : List UInt8 := dkwJ9_getChars_5 ++ []
def dkwJ9_getChars_4 : List UInt8 := [132, 5, 255, 21, 5, 178, 0, 87, 26, 116, 51, 84, 21, 6, 153, 0, 12, 44, 132, 5, 255, 21, 5]
abbrev dktJ9_getChars_4 : List UInt8 := dkwJ9_getChars_4 ++ dktJ9_getChars_5
def dkwJ9_getChars_3 : List UInt8 := [167, 255, 209, 44, 132, 5, 255, 21, 5, 178, 0, 83, 26, 116, 51, 84, 26, 16, 247, 162, 0, 16, 44]
abbrev dktJ9_getChars_3 : List UInt8 := dkwJ9_getChars_3 ++ dktJ9_getChars_4
def dkwJ9_getChars_2 : List UInt8 := [21, 5, 178, 0, 83, 21, 4, 51, 84, 44, 132, 5, 255, 21, 5, 178, 0, 87, 21, 4, 51, 84]
abbrev dktJ9_getChars_2 : List UInt8 := dkwJ9_getChars_2 ++ dktJ9_getChars_3
def dkwJ9_getChars_1 : List UInt8 := [16, 156, 163, 0, 47, 26, 16, 100, 108, 62, 29, 16, 100, 104, 26, 100, 54, 4, 29, 59, 44, 132, 5, 255]
abbrev dktJ9_getChars_1 : List UInt8 := dkwJ9_getChars_1 ++ dktJ9_getChars_2
def dkwJ9_getChars_0 : List UInt8 := [27, 54, 5, 26, 156, 0, 7, 4, 167, 0, 4, 3, 54, 6, 21, 6, 154, 0, 6, 26, 116, 59, 26]
abbrev dktJ9_getChars_0 : List UInt8 := dkwJ9_getChars_0 ++ dktJ9_getChars_1
theorem dksJ9_getChars_0 : cJ9_getChars.data.toList.drop 0 = dktJ9_getChars_0 := by decide +kernel
theorem dksJ9_getChars_1 : cJ9_getChars.data.toList.drop 23 = dktJ9_getChars_1 := dk_seg dksJ9_getChars_0 23 rfl rfl
theorem dksJ9_getChars_2 : cJ9_getChars.data.toList.drop 47 = dktJ9_getChars_2 := dk_seg dksJ9_getChars_1 24 rfl rfl
theorem dksJ9_getChars_3 : cJ9_getChars.data.toList.drop 69 = dktJ9_getChars_3 := dk_seg dksJ9_getChars_2 22 rfl rfl
theorem dksJ9_getChars_4 : cJ9_getChars.data.toList.drop 92 = dktJ9_getChars_4 := dk_seg dksJ9_getChars_3 23 rfl rfl
theorem dksJ9_getChars_5 : cJ9_getChars.data.toList.drop 115 = dktJ9_getChars_5 := dk_seg dksJ9_getChars_4 23 rfl rfl
theorem dJ9_getChars_0 : decode cJ9_getChars 0 = .ok (.iload_n 1, 1) := dk_27 (dk_at dksJ9_getChars_0 0 rfl rfl)
theorem dJ9_getChars_1 : decode cJ9_getChars 1 = .ok (.istore 5, 2) := dk_54 5 (dk_at dksJ9_getChars_0 1 rfl rfl)
theorem dJ9_getChars_3 : decode cJ9_getChars 3 = .ok (.iload_n 0, 1) := dk_26 (dk_at dksJ9_getChars_0 3 rfl rfl)
theorem dJ9_getChars_4 : decode cJ9_getChars 4 = .ok (.ifCond .ge 7, 3) := dk_156 0 7 (dk_at dksJ9_getChars_0 4 rfl rfl)
theorem dJ9_getChars_7 : decode cJ9_getChars 7 = .ok (.iconst 1, 1) := dk_4 (dk_at dksJ9_getChars_0 7 rfl rfl)
theorem dJ9_getChars_8 : decode cJ9_getChars 8 = .ok (.goto 4, 3) := dk_167 0 4 (dk_at dksJ9_getChars_0 8 rfl rfl)
theorem dJ9_getChars_11 : decode cJ9_getChars 11 = .ok (.iconst 0, 1) := dk_3 (dk_at dksJ9_getChars_0 11 rfl rfl)
theorem dJ9_getChars_12 : decode cJ9_getChars 12 = .ok (.istore 6, 2) := dk_54 6 (dk_at dksJ9_getChars_0 12 rfl rfl)
theorem dJ9_getChars_14 : decode cJ9_getChars 14 = .ok (.iload 6, 2) := dk_21 6 (dk_at dksJ9_getChars_0 14 rfl rfl)
theorem dJ9_getChars_16 : decode cJ9_getChars 16 = .ok (.ifCond .ne 6, 3) := dk_154 0 6 (dk_at dksJ9_getChars_0 16 rfl rfl)
theorem dJ9_getChars_19 : decode cJ9_getChars 19 = .ok (.iload_n 0, 1) := dk_26 (dk_at dksJ9_getChars_0 19 rfl rfl)
theorem dJ9_getChars_20 : decode cJ9_getChars 20 = .ok (.ineg, 1) := dk_116 (dk_at dksJ9_getChars_0 20 rfl rfl)
theorem dJ9_getChars_21 : decode cJ9_getChars 21 = .ok (.istore_n 0, 1) := dk_59 (dk_at dksJ9_getChars_0 21 rfl rfl)
theorem dJ9_getChars_22 : decode cJ9_getChars 22 = .ok (.iload_n 0, 1) := dk_26 (dk_at dksJ9_getChars_0 22 rfl rfl)
theorem dJ9_getChars_23 : decode cJ9_getChars 23 = .ok (.bipush (-100), 2) := dk_16 156 (dk_at dksJ9_getChars_1 0 rfl rfl)
theorem dJ9_getChars_25 : decode cJ9_getChars 25 = .ok (.if_icmp .gt 47, 3) := dk_163 0 47 (dk_at dksJ9_getChars_1 2 rfl rfl)
theorem dJ9_getChars_28 : decode cJ9_getChars 28 = .ok (.iload_n 0, 1) := dk_26 (dk_at dksJ9_getChars_1 5 rfl rfl)
theorem dJ9_getChars_29 : decode cJ9_getChars 29 = .ok (.bipush 100, 2) := dk_16 100 (dk_at dksJ9_getChars_1 6 rfl rfl)
theorem dJ9_getChars_31 : decode cJ9_getChars 31 = .ok (.idiv, 1) := dk_108 (dk_at dksJ9_getChars_1 8 rfl rfl)
theorem dJ9_getChars_32 : decode cJ9_getChars 32 = .ok (.istore_n 3, 1) := dk_62 (dk_at dksJ9_getChars_1 9 rfl rfl)
theorem dJ9_getChars_33 : decode cJ9_getChars 33 = .ok (.iload_n 3, 1) := dk_29 (dk_at dksJ9_getChars_1 10 rfl rfl)
theorem dJ9_getChars_34 : decode cJ9_getChars 34 = .ok (.bipush 100, 2) := dk_16 100 (dk_at dksJ9_getChars_1 11 rfl rfl)
theorem dJ9_getChars_36 : decode cJ9_getChars 36 = .ok (.imul, 1) := dk_104 (dk_at dksJ9_getChars_1 13 rfl rfl)
theorem dJ9_getChars_37 : decode cJ9_getChars 37 = .ok (.iload_n 0, 1) := dk_26 (dk_at dksJ9_getChars_1 14 rfl rfl)
theorem dJ9_getChars_38 : decode cJ9_getChars 38 = .ok (.isub, 1) := dk_100 (dk_at dksJ9_getChars_1 15 rfl rfl)
theorem dJ9_getChars_39 : decode cJ9_getChars 39 = .ok (.istore 4, 2) := dk_54 4 (dk_at dksJ9_getChars_1 16 rfl rfl)
theorem dJ9_getChars_41 : decode cJ9_getChars 41 = .ok (.iload_n 3, 1) := dk_29 (dk_at dksJ9_getChars_1 18 rfl rfl)
theorem dJ9_getChars_42 : decode cJ9_getChars 42 = .ok (.istore_n 0, 1) := dk_59 (dk_at dksJ9_getChars_1 19 rfl rfl)
theorem dJ9_getChars_43 : decode cJ9_getChars 43 = .ok (.aload_n 2, 1) := dk_44 (dk_at dksJ9_getChars_1 20 rfl rfl)
theorem dJ9_getChars_44 : decode cJ9_getChars 44 = .ok (.iinc 5 (-1), 3) := dk_132 5 255 (dk_at dksJ9_getChars_1 21 rfl rfl)
theorem dJ9_getChars_47 : decode cJ9_getChars 47 = .ok (.iload 5, 2) := dk_21 5 (dk_at dksJ9_getChars_2 0 rfl rfl)
theorem dJ9_getChars_49 : decode cJ9_getChars 49 = .ok (.getstatic 83, 3) := dk_178 0 83 (dk_at dksJ9_getChars_2 2 rfl rfl)
theorem dJ9_getChars_52 : decode cJ9_getChars 52 = .ok (.iload 4, 2) := dk_21 4 (dk_at dksJ9_getChars_2 5 rfl rfl)
theorem dJ9_getChars_54 : decode cJ9_getChars 54 = .ok (.baload, 1) := dk_51 (dk_at dksJ9_getChars_2 7 rfl rfl)
theorem dJ9_getChars_55 : decode cJ9_getChars 55 = .ok (.bastore, 1) := dk_84 (dk_at dksJ9_getChars_2 8 rfl rfl)
theorem dJ9_getChars_56 : decode cJ9_getChars 56 = .ok (.aload_n 2, 1) := dk_44 (dk_at dksJ9_getChars_2 9 rfl rfl)
theorem dJ9_getChars_57 : decode cJ9_getChars 57 = .ok (.iinc 5 (-1), 3) := dk_132 5 255 (dk_at dksJ9_getChars_2 10 rfl rfl)
theorem dJ9_getChars_60 : decode cJ9_getChars 60 = .ok (.iload 5, 2) := dk_21 5 (dk_at dksJ9_getChars_2 13 rfl rfl)
theorem dJ9_getChars_62 : decode cJ9_getChars 62 = .ok (.getstatic 87, 3) := dk_178 0 87 (dk_at dksJ9_getChars_2 15 rfl rfl)
theorem dJ9_getChars_65 : decode cJ9_getChars 65 = .ok (.iload 4, 2) := dk_21 4 (dk_at dksJ9_getChars_2 18 rfl rfl)
theorem dJ9_getChars_67 : decode cJ9_getChars 67 = .ok (.baload, 1) := dk_51 (dk_at dksJ9_getChars_2 20 rfl rfl)
theorem dJ9_getChars_68 : decode cJ9_getChars 68 = .ok (.bastore, 1) := dk_84 (dk_at dksJ9_getChars_2 21 rfl rfl)
theorem dJ9_getChars_69 : decode cJ9_getChars 69 = .ok (.goto (-47), 3) := dk_167 255 209 (dk_at dksJ9_getChars_3 0 rfl rfl)
theorem dJ9_getChars_72 : decode cJ9_getChars 72 = .ok (.aload_n 2, 1) := dk_44 (dk_at dksJ9_getChars_3 3 rfl rfl)
theorem dJ9_getChars_73 : decode cJ9_getChars 73 = .ok (.iinc 5 (-1), 3) := dk_132 5 255 (dk_at dksJ9_getChars_3 4 rfl rfl)
theorem dJ9_getChars_76 : decode cJ9_getChars 76 = .ok (.iload 5, 2) := dk_21 5 (dk_at dksJ9_getChars_3 7 rfl rfl)
theorem dJ9_getChars_78 : decode cJ9_getChars 78 = .ok (.getstatic 83, 3) := dk_178 0 83 (dk_at dksJ9_getChars_3 9 rfl rfl)
theorem dJ9_getChars_81 : decode cJ9_getChars 81 = .ok (.iload_n 0, 1) := dk_26 (dk_at dksJ9_getChars_3 12 rfl rfl)
theorem dJ9_getChars_82 : decode cJ9_getChars 82 = .ok (.ineg, 1) := dk_116 (dk_at dksJ9_getChars_3 13 rfl rfl)
theorem dJ9_getChars_83 : decode cJ9_getChars 83 = .ok (.baload, 1) := dk_51 (dk_at dksJ9_getChars_3 14 rfl rfl)
theorem dJ9_getChars_84 : decode cJ9_getChars 84 = .ok (.bastore, 1) := dk_84 (dk_at dksJ9_getChars_3 15 rfl rfl)
theorem dJ9_getChars_85 : decode cJ9_getChars 85 = .ok (.iload_n 0, 1) := dk_26 (dk_at dksJ9_getChars_3 16 rfl rfl)
theorem dJ9_getChars_86 : decode cJ9_getChars 86 = .ok (.bipush (-9), 2) := dk_16 247 (dk_at dksJ9_getChars_3 17 rfl rfl)
theorem dJ9_getChars_88 : decode cJ9_getChars 88 = .ok (.if_icmp .ge 16, 3) := dk_162 0 16 (dk_at dksJ9_getChars_3 19 rfl rfl)
theorem dJ9_getChars_91 : decode cJ9_getChars 91 = .ok (.aload_n 2, 1) := dk_44 (dk_at dksJ9_getChars_3 22 rfl rfl)
theorem dJ9_getChars_92 : decode cJ9_getChars 92 = .ok (.iinc 5 (-1), 3) := dk_132 5 255 (dk_at dksJ9_getChars_4 0 rfl rfl)
theorem dJ9_getChars_95 : decode cJ9_getChars 95 = .ok (.iload 5, 2) := dk_21 5 (dk_at dksJ9_getChars_4 3 rfl rfl)
theorem dJ9_getChars_97 : decode cJ9_getChars 97 = .ok (.getstatic 87, 3) := dk_178 0 87 (dk_at dksJ9_getChars_4 5 rfl rfl)
theorem dJ9_getChars_100 : decode cJ9_getChars 100 = .ok (.iload_n 0, 1) := dk_26 (dk_at dksJ9_getChars_4 8 rfl rfl)
theorem dJ9_getChars_101 : decode cJ9_getChars 101 = .ok (.ineg, 1) := dk_116 (dk_at dksJ9_getChars_4 9 rfl rfl)
theorem dJ9_getChars_102 : decode cJ9_getChars 102 = .ok (.baload, 1) := dk_51 (dk_at dksJ9_getChars_4 10 rfl rfl)
theorem dJ9_getChars_103 : decode cJ9_getChars 103 = .ok (.bastore, 1) := dk_84 (dk_at dksJ9_getChars_4 11 rfl rfl)
theorem dJ9_getChars_104 : decode cJ9_getChars 104 = .ok (.iload 6, 2) := dk_21 6 (dk_at dksJ9_getChars_4 12 rfl rfl)
theorem dJ9_getChars_106 : decode cJ9_getChars 106 = .ok (.ifCond .eq 12, 3) := dk_153 0 12 (dk_at dksJ9_getChars_4 14 rfl rfl)
theorem dJ9_getChars_109 : decode cJ9_getChars 109 = .ok (.aload_n 2, 1) := dk_44 (dk_at dksJ9_getChars_4 17 rfl rfl)
theorem dJ9_getChars_110 : decode cJ9_getChars 110 = .ok (.iinc 5 (-1), 3) := dk_132 5 255 (dk_at dksJ9_getChars_4 18 rfl rfl)
theorem dJ9_getChars_113 : decode cJ9_getChars 113 = .ok (.iload 5, 2) := dk_21 5 (dk_at dksJ9_getChars_4 21 rfl rfl)
theorem dJ9_getChars_115 : decode cJ9_getChars 115 = .ok (.bipush 45, 2) := dk_16 45 (dk_at dksJ9_getChars_5 0 rfl rfl)
theorem dJ9_getChars_117 : decode cJ9_getChars 117 = .ok (.bastore, 1) := dk_84 (dk_at dksJ9_getChars_5 2 rfl rfl)
theorem dJ9_getChars_118 : decode cJ9_getChars 118 = .ok (.iload 5, 2) := dk_21 5 (dk_at dksJ9_getChars_5 3 rfl rfl)
theorem dJ9_getChars_120 : decode cJ9_getChars 120 = .ok (.ireturn, 1) := dk_172 (dk_at dksJ9_getChars_5 5 rfl rfl)
abbrev cJ9_equals : ByteArray := prog_25_method_34_code
def yJ9_equals : MethodName := ⟨RJ9, "equals", "(Ljava/lang/Object;)Z"⟩
def dkwJ9_equals_1 : List UInt8 := [167, 0, 4, 3, 172, 3, 172]
abbrev dktJ9_equals_1 : List UInt8 := dkwJ9_equals_1 ++ []
def dkwJ9_equals_0 : List UInt8 := [43, 193, 0, 1, 153, 0, 23, 42, 180, 0, 205, 43, 192, 0, 1, 182, 0, 211, 160, 0, 7, 4]
abbrev dktJ9_equals_0 : List UInt8 := dkwJ9_equals_0 ++ dktJ9_equals_1
theorem dksJ9_equals_0 : cJ9_equals.data.toList.drop 0 = dktJ9_equals_0 := by decide +kernel
theorem dksJ9_equals_1 : cJ9_equals.data.toList.drop 22 = dktJ9_equals_1 := dk_seg dksJ9_equals_0 22 rfl rfl
theorem dJ9_equals_0 : decode cJ9_equals 0 = .ok (.aload_n 1, 1) := dk_43 (dk_at dksJ9_equals_0 0 rfl rfl)
theorem dJ9_equals_1 : decode cJ9_equals 1 = .ok (.instanceof 1, 3) := dk_193 0 1 (dk_at dksJ9_equals_0 1 rfl rfl)
theorem dJ9_equals_4 : decode cJ9_equals 4 = .ok (.ifCond .eq 23, 3) := dk_153 0 23 (dk_at dksJ9_equals_0 4 rfl rfl)
theorem dJ9_equals_7 : decode cJ9_equals 7 = .ok (.aload_n 0, 1) := dk_42 (dk_at dksJ9_equals_0 7 rfl rfl)
theorem dJ9_equals_8 : decode cJ9_equals 8 = .ok (.getfield 205, 3) := dk_180 0 205 (dk_at dksJ9_equals_0 8 rfl rfl)
theorem dJ9_equals_11 : decode cJ9_equals 11 = .ok (.aload_n 1, 1) := dk_43 (dk_at dksJ9_equals_0 11 rfl rfl)
theorem dJ9_equals_12 : decode cJ9_equals 12 = .ok (.checkcast 1, 3) := dk_192 0 1 (dk_at dksJ9_equals_0 12 rfl rfl)
theorem dJ9_equals_15 : decode cJ9_equals 15 = .ok (.invokevirtual 211, 3) := dk_182 0 211 (dk_at dksJ9_equals_0 15 rfl rfl)
theorem dJ9_equals_18 : decode cJ9_equals 18 = .ok (.if_icmp .ne 7, 3) := dk_160 0 7 (dk_at dksJ9_equals_0 18 rfl rfl)
theorem dJ9_equals_21 : decode cJ9_equals 21 = .ok (.iconst 1, 1) := dk_4 (dk_at dksJ9_equals_0 21 rfl rfl)
theorem dJ9_equals_22 : decode cJ9_equals 22 = .ok (.goto 4, 3) := dk_167 0 4 (dk_at dksJ9_equals_1 0 rfl rfl)
theorem dJ9_equals_25 : decode cJ9_equals 25 = .ok (.iconst 0, 1) := dk_3 (dk_at dksJ9_equals_1 3 rfl rfl)
theorem dJ9_equals_26 : decode cJ9_equals 26 = .ok (.ireturn, 1) := dk_172 (dk_at dksJ9_equals_1 4 rfl rfl)
theorem dJ9_equals_27 : decode cJ9_equals 27 = .ok (.iconst 0, 1) := dk_3 (dk_at dksJ9_equals_1 5 rfl rfl)
theorem dJ9_equals_28 : decode cJ9_equals 28 = .ok (.ireturn, 1) := dk_172 (dk_at dksJ9_equals_1 6 rfl rfl)
abbrev cJ9_numberOfTrailingZeros : ByteArray := prog_25_method_48_code
def yJ9_numberOfTrailingZeros : MethodName := ⟨RJ9, "numberOfTrailingZeros", "(I)I"⟩
def dkwJ9_numberOfTrailingZeros_3 : List UInt8 := [5, 124, 59, 27, 26, 4, 124, 96, 172]
abbrev dktJ9_numberOfTrailingZeros_3 : List UInt8 := dkwJ9_numberOfTrailingZeros_3 ++ []
def dkwJ9_numberOfTrailingZeros_2 : List UInt8 := [124, 59, 26, 16, 16, 164, 0, 10, 132, 1, 4, 26, 7, 124, 59, 26, 7, 164, 0, 10, 132, 1, 2, 26]
abbrev dktJ9_numberOfTrailingZeros_2 : List UInt8 := dkwJ9_numberOfTrailingZeros_2 ++ dktJ9_numberOfTrailingZeros_3
def dkwJ9_numberOfTrailingZeros_1 : List UInt8 := [164, 0, 11, 132, 1, 16, 26, 16, 16, 124, 59, 26, 17, 1, 0, 164, 0, 11, 132, 1, 8, 26, 16, 8]
abbrev dktJ9_numberOfTrailingZeros_1 : List UInt8 := dkwJ9_numberOfTrailingZeros_1 ++ dktJ9_numberOfTrailingZeros_2
def dkwJ9_numberOfTrailingZeros_0 : List UInt8 := [26, 2, 130, 26, 4, 100, 126, 59, 26, 157, 0, 8, 26, 16, 32, 126, 172, 4, 60, 26, 19, 1, 8]
abbrev dktJ9_numberOfTrailingZeros_0 : List UInt8 := dkwJ9_numberOfTrailingZeros_0 ++ dktJ9_numberOfTrailingZeros_1
theorem dksJ9_numberOfTrailingZeros_0 : cJ9_numberOfTrailingZeros.data.toList.drop 0 = dktJ9_numberOfTrailingZeros_0 := by decide +kernel
theorem dksJ9_numberOfTrailingZeros_1 : cJ9_numberOfTrailingZeros.data.toList.drop 23 = dktJ9_numberOfTrailingZeros_1 := dk_seg dksJ9_numberOfTrailingZeros_0 23 rfl rfl
theorem dksJ9_numberOfTrailingZeros_2 : cJ9_numberOfTrailingZeros.data.toList.drop 47 = dktJ9_numberOfTrailingZeros_2 := dk_seg dksJ9_numberOfTrailingZeros_1 24 rfl rfl
theorem dksJ9_numberOfTrailingZeros_3 : cJ9_numberOfTrailingZeros.data.toList.drop 71 = dktJ9_numberOfTrailingZeros_3 := dk_seg dksJ9_numberOfTrailingZeros_2 24 rfl rfl
theorem dJ9_numberOfTrailingZeros_0 : decode cJ9_numberOfTrailingZeros 0 = .ok (.iload_n 0, 1) := dk_26 (dk_at dksJ9_numberOfTrailingZeros_0 0 rfl rfl)
theorem dJ9_numberOfTrailingZeros_1 : decode cJ9_numberOfTrailingZeros 1 = .ok (.iconst (-1), 1) := dk_2 (dk_at dksJ9_numberOfTrailingZeros_0 1 rfl rfl)
theorem dJ9_numberOfTrailingZeros_2 : decode cJ9_numberOfTrailingZeros 2 = .ok (.ixor, 1) := dk_130 (dk_at dksJ9_numberOfTrailingZeros_0 2 rfl rfl)
theorem dJ9_numberOfTrailingZeros_3 : decode cJ9_numberOfTrailingZeros 3 = .ok (.iload_n 0, 1) := dk_26 (dk_at dksJ9_numberOfTrailingZeros_0 3 rfl rfl)
theorem dJ9_numberOfTrailingZeros_4 : decode cJ9_numberOfTrailingZeros 4 = .ok (.iconst 1, 1) := dk_4 (dk_at dksJ9_numberOfTrailingZeros_0 4 rfl rfl)
theorem dJ9_numberOfTrailingZeros_5 : decode cJ9_numberOfTrailingZeros 5 = .ok (.isub, 1) := dk_100 (dk_at dksJ9_numberOfTrailingZeros_0 5 rfl rfl)
theorem dJ9_numberOfTrailingZeros_6 : decode cJ9_numberOfTrailingZeros 6 = .ok (.iand, 1) := dk_126 (dk_at dksJ9_numberOfTrailingZeros_0 6 rfl rfl)
theorem dJ9_numberOfTrailingZeros_7 : decode cJ9_numberOfTrailingZeros 7 = .ok (.istore_n 0, 1) := dk_59 (dk_at dksJ9_numberOfTrailingZeros_0 7 rfl rfl)
theorem dJ9_numberOfTrailingZeros_8 : decode cJ9_numberOfTrailingZeros 8 = .ok (.iload_n 0, 1) := dk_26 (dk_at dksJ9_numberOfTrailingZeros_0 8 rfl rfl)
theorem dJ9_numberOfTrailingZeros_9 : decode cJ9_numberOfTrailingZeros 9 = .ok (.ifCond .gt 8, 3) := dk_157 0 8 (dk_at dksJ9_numberOfTrailingZeros_0 9 rfl rfl)
theorem dJ9_numberOfTrailingZeros_12 : decode cJ9_numberOfTrailingZeros 12 = .ok (.iload_n 0, 1) := dk_26 (dk_at dksJ9_numberOfTrailingZeros_0 12 rfl rfl)
theorem dJ9_numberOfTrailingZeros_13 : decode cJ9_numberOfTrailingZeros 13 = .ok (.bipush 32, 2) := dk_16 32 (dk_at dksJ9_numberOfTrailingZeros_0 13 rfl rfl)
theorem dJ9_numberOfTrailingZeros_15 : decode cJ9_numberOfTrailingZeros 15 = .ok (.iand, 1) := dk_126 (dk_at dksJ9_numberOfTrailingZeros_0 15 rfl rfl)
theorem dJ9_numberOfTrailingZeros_16 : decode cJ9_numberOfTrailingZeros 16 = .ok (.ireturn, 1) := dk_172 (dk_at dksJ9_numberOfTrailingZeros_0 16 rfl rfl)
theorem dJ9_numberOfTrailingZeros_17 : decode cJ9_numberOfTrailingZeros 17 = .ok (.iconst 1, 1) := dk_4 (dk_at dksJ9_numberOfTrailingZeros_0 17 rfl rfl)
theorem dJ9_numberOfTrailingZeros_18 : decode cJ9_numberOfTrailingZeros 18 = .ok (.istore_n 1, 1) := dk_60 (dk_at dksJ9_numberOfTrailingZeros_0 18 rfl rfl)
theorem dJ9_numberOfTrailingZeros_19 : decode cJ9_numberOfTrailingZeros 19 = .ok (.iload_n 0, 1) := dk_26 (dk_at dksJ9_numberOfTrailingZeros_0 19 rfl rfl)
theorem dJ9_numberOfTrailingZeros_20 : decode cJ9_numberOfTrailingZeros 20 = .ok (.ldc_w 264, 3) := dk_19 1 8 (dk_at dksJ9_numberOfTrailingZeros_0 20 rfl rfl)
theorem dJ9_numberOfTrailingZeros_23 : decode cJ9_numberOfTrailingZeros 23 = .ok (.if_icmp .le 11, 3) := dk_164 0 11 (dk_at dksJ9_numberOfTrailingZeros_1 0 rfl rfl)
theorem dJ9_numberOfTrailingZeros_26 : decode cJ9_numberOfTrailingZeros 26 = .ok (.iinc 1 16, 3) := dk_132 1 16 (dk_at dksJ9_numberOfTrailingZeros_1 3 rfl rfl)
theorem dJ9_numberOfTrailingZeros_29 : decode cJ9_numberOfTrailingZeros 29 = .ok (.iload_n 0, 1) := dk_26 (dk_at dksJ9_numberOfTrailingZeros_1 6 rfl rfl)
theorem dJ9_numberOfTrailingZeros_30 : decode cJ9_numberOfTrailingZeros 30 = .ok (.bipush 16, 2) := dk_16 16 (dk_at dksJ9_numberOfTrailingZeros_1 7 rfl rfl)
theorem dJ9_numberOfTrailingZeros_32 : decode cJ9_numberOfTrailingZeros 32 = .ok (.iushr, 1) := dk_124 (dk_at dksJ9_numberOfTrailingZeros_1 9 rfl rfl)
theorem dJ9_numberOfTrailingZeros_33 : decode cJ9_numberOfTrailingZeros 33 = .ok (.istore_n 0, 1) := dk_59 (dk_at dksJ9_numberOfTrailingZeros_1 10 rfl rfl)
theorem dJ9_numberOfTrailingZeros_34 : decode cJ9_numberOfTrailingZeros 34 = .ok (.iload_n 0, 1) := dk_26 (dk_at dksJ9_numberOfTrailingZeros_1 11 rfl rfl)
theorem dJ9_numberOfTrailingZeros_35 : decode cJ9_numberOfTrailingZeros 35 = .ok (.sipush 256, 3) := dk_17 1 0 (dk_at dksJ9_numberOfTrailingZeros_1 12 rfl rfl)
theorem dJ9_numberOfTrailingZeros_38 : decode cJ9_numberOfTrailingZeros 38 = .ok (.if_icmp .le 11, 3) := dk_164 0 11 (dk_at dksJ9_numberOfTrailingZeros_1 15 rfl rfl)
theorem dJ9_numberOfTrailingZeros_41 : decode cJ9_numberOfTrailingZeros 41 = .ok (.iinc 1 8, 3) := dk_132 1 8 (dk_at dksJ9_numberOfTrailingZeros_1 18 rfl rfl)
theorem dJ9_numberOfTrailingZeros_44 : decode cJ9_numberOfTrailingZeros 44 = .ok (.iload_n 0, 1) := dk_26 (dk_at dksJ9_numberOfTrailingZeros_1 21 rfl rfl)
theorem dJ9_numberOfTrailingZeros_45 : decode cJ9_numberOfTrailingZeros 45 = .ok (.bipush 8, 2) := dk_16 8 (dk_at dksJ9_numberOfTrailingZeros_1 22 rfl rfl)
theorem dJ9_numberOfTrailingZeros_47 : decode cJ9_numberOfTrailingZeros 47 = .ok (.iushr, 1) := dk_124 (dk_at dksJ9_numberOfTrailingZeros_2 0 rfl rfl)
theorem dJ9_numberOfTrailingZeros_48 : decode cJ9_numberOfTrailingZeros 48 = .ok (.istore_n 0, 1) := dk_59 (dk_at dksJ9_numberOfTrailingZeros_2 1 rfl rfl)
theorem dJ9_numberOfTrailingZeros_49 : decode cJ9_numberOfTrailingZeros 49 = .ok (.iload_n 0, 1) := dk_26 (dk_at dksJ9_numberOfTrailingZeros_2 2 rfl rfl)
theorem dJ9_numberOfTrailingZeros_50 : decode cJ9_numberOfTrailingZeros 50 = .ok (.bipush 16, 2) := dk_16 16 (dk_at dksJ9_numberOfTrailingZeros_2 3 rfl rfl)
theorem dJ9_numberOfTrailingZeros_52 : decode cJ9_numberOfTrailingZeros 52 = .ok (.if_icmp .le 10, 3) := dk_164 0 10 (dk_at dksJ9_numberOfTrailingZeros_2 5 rfl rfl)
theorem dJ9_numberOfTrailingZeros_55 : decode cJ9_numberOfTrailingZeros 55 = .ok (.iinc 1 4, 3) := dk_132 1 4 (dk_at dksJ9_numberOfTrailingZeros_2 8 rfl rfl)
theorem dJ9_numberOfTrailingZeros_58 : decode cJ9_numberOfTrailingZeros 58 = .ok (.iload_n 0, 1) := dk_26 (dk_at dksJ9_numberOfTrailingZeros_2 11 rfl rfl)
theorem dJ9_numberOfTrailingZeros_59 : decode cJ9_numberOfTrailingZeros 59 = .ok (.iconst 4, 1) := dk_7 (dk_at dksJ9_numberOfTrailingZeros_2 12 rfl rfl)
theorem dJ9_numberOfTrailingZeros_60 : decode cJ9_numberOfTrailingZeros 60 = .ok (.iushr, 1) := dk_124 (dk_at dksJ9_numberOfTrailingZeros_2 13 rfl rfl)
theorem dJ9_numberOfTrailingZeros_61 : decode cJ9_numberOfTrailingZeros 61 = .ok (.istore_n 0, 1) := dk_59 (dk_at dksJ9_numberOfTrailingZeros_2 14 rfl rfl)
theorem dJ9_numberOfTrailingZeros_62 : decode cJ9_numberOfTrailingZeros 62 = .ok (.iload_n 0, 1) := dk_26 (dk_at dksJ9_numberOfTrailingZeros_2 15 rfl rfl)
theorem dJ9_numberOfTrailingZeros_63 : decode cJ9_numberOfTrailingZeros 63 = .ok (.iconst 4, 1) := dk_7 (dk_at dksJ9_numberOfTrailingZeros_2 16 rfl rfl)
theorem dJ9_numberOfTrailingZeros_64 : decode cJ9_numberOfTrailingZeros 64 = .ok (.if_icmp .le 10, 3) := dk_164 0 10 (dk_at dksJ9_numberOfTrailingZeros_2 17 rfl rfl)
theorem dJ9_numberOfTrailingZeros_67 : decode cJ9_numberOfTrailingZeros 67 = .ok (.iinc 1 2, 3) := dk_132 1 2 (dk_at dksJ9_numberOfTrailingZeros_2 20 rfl rfl)
theorem dJ9_numberOfTrailingZeros_70 : decode cJ9_numberOfTrailingZeros 70 = .ok (.iload_n 0, 1) := dk_26 (dk_at dksJ9_numberOfTrailingZeros_2 23 rfl rfl)
theorem dJ9_numberOfTrailingZeros_71 : decode cJ9_numberOfTrailingZeros 71 = .ok (.iconst 2, 1) := dk_5 (dk_at dksJ9_numberOfTrailingZeros_3 0 rfl rfl)
theorem dJ9_numberOfTrailingZeros_72 : decode cJ9_numberOfTrailingZeros 72 = .ok (.iushr, 1) := dk_124 (dk_at dksJ9_numberOfTrailingZeros_3 1 rfl rfl)
theorem dJ9_numberOfTrailingZeros_73 : decode cJ9_numberOfTrailingZeros 73 = .ok (.istore_n 0, 1) := dk_59 (dk_at dksJ9_numberOfTrailingZeros_3 2 rfl rfl)
theorem dJ9_numberOfTrailingZeros_74 : decode cJ9_numberOfTrailingZeros 74 = .ok (.iload_n 1, 1) := dk_27 (dk_at dksJ9_numberOfTrailingZeros_3 3 rfl rfl)
theorem dJ9_numberOfTrailingZeros_75 : decode cJ9_numberOfTrailingZeros 75 = .ok (.iload_n 0, 1) := dk_26 (dk_at dksJ9_numberOfTrailingZeros_3 4 rfl rfl)
theorem dJ9_numberOfTrailingZeros_76 : decode cJ9_numberOfTrailingZeros 76 = .ok (.iconst 1, 1) := dk_4 (dk_at dksJ9_numberOfTrailingZeros_3 5 rfl rfl)
theorem dJ9_numberOfTrailingZeros_77 : decode cJ9_numberOfTrailingZeros 77 = .ok (.iushr, 1) := dk_124 (dk_at dksJ9_numberOfTrailingZeros_3 6 rfl rfl)
theorem dJ9_numberOfTrailingZeros_78 : decode cJ9_numberOfTrailingZeros 78 = .ok (.iadd, 1) := dk_96 (dk_at dksJ9_numberOfTrailingZeros_3 7 rfl rfl)
theorem dJ9_numberOfTrailingZeros_79 : decode cJ9_numberOfTrailingZeros 79 = .ok (.ireturn, 1) := dk_172 (dk_at dksJ9_numberOfTrailingZeros_3 8 rfl rfl)
theorem q91 : (Jvm.Cond.initialized "java/lang/Integer") ∈ lw_all := lw_g (lw_at lw_m1 14 rfl) rfl
theorem q289 : (Jvm.Cond.static ({ cls := "java/lang/Integer", name := "valueOf", desc := "(I)Ljava/lang/Integer;" } : Jvm.MethodName)) ∈ lw_all := lw_g (lw_at lw_m1 212 rfl) rfl
theorem q290 : (Jvm.Cond.code ({ cls := "java/lang/Integer", name := "valueOf", desc := "(I)Ljava/lang/Integer;" } : Jvm.MethodName) prog_25_method_22_code (1 : Nat) (Option.some (Jvm.ClassFile.FieldType.object "java/lang/Integer"))) ∈ lw_all := lw_g (lw_at lw_m1 213 rfl) rfl
theorem q291 : (Jvm.Cond.fieldLink "java/lang/Integer" (191 : Nat) "java/lang/Integer$IntegerCache" "high" "I") ∈ lw_all := lw_g (lw_at lw_m1 214 rfl) rfl
theorem q293 : (Jvm.Cond.fieldLink "java/lang/Integer" (195 : Nat) "java/lang/Integer$IntegerCache" "cache" "[Ljava/lang/Integer;") ∈ lw_all := lw_g (lw_at lw_m1 216 rfl) rfl
theorem q295 : (Jvm.Cond.classLink "java/lang/Integer" (1 : Nat) "java/lang/Integer") ∈ lw_all := lw_g (lw_at lw_m1 218 rfl) rfl
theorem q296 : (Jvm.Cond.instantiable "java/lang/Integer" (1 : Nat)) ∈ lw_all := lw_g (lw_at lw_m1 219 rfl) rfl
theorem q297 : (Jvm.Cond.methodLink "java/lang/Integer" (199 : Nat) ({ cls := "java/lang/Integer", name := "<init>", desc := "(I)V" } : Jvm.MethodName)) ∈ lw_all := lw_g (lw_at lw_m1 220 rfl) rfl
theorem q298 : (Jvm.Cond.instanceMethod ({ cls := "java/lang/Integer", name := "<init>", desc := "(I)V" } : Jvm.MethodName)) ∈ lw_all := lw_g (lw_at lw_m1 221 rfl) rfl
theorem q299 : (Jvm.Cond.code ({ cls := "java/lang/Integer", name := "<init>", desc := "(I)V" } : Jvm.MethodName) prog_25_method_23_code (2 : Nat) (Option.none : Option Jvm.ClassFile.FieldType)) ∈ lw_all := lw_g (lw_at lw_m1 222 rfl) rfl
theorem q300 : (Jvm.Cond.methodLink "java/lang/Integer" (202 : Nat) ({ cls := "java/lang/Number", name := "<init>", desc := "()V" } : Jvm.MethodName)) ∈ lw_all := lw_g (lw_at lw_m1 223 rfl) rfl
theorem q304 : (Jvm.Cond.fieldLink "java/lang/Integer" (205 : Nat) "java/lang/Integer" "value" "I") ∈ lw_all := lw_g (lw_at lw_m1 227 rfl) rfl
theorem q305 : (Jvm.Cond.laysFinal "java/lang/Integer" "java/lang/Integer" "value" "I") ∈ lw_all := lw_g (lw_at lw_m1 228 rfl) rfl
theorem q306 : (Jvm.Cond.soleField "java/lang/Integer" "value") ∈ lw_all := lw_g (lw_at lw_m1 229 rfl) rfl
theorem q307 : (Jvm.Cond.superclass "java/lang/Integer" "java/lang/Number") ∈ lw_all := lw_g (lw_at lw_m1 230 rfl) rfl
theorem q419 : (Jvm.Cond.selects "java/lang/Integer" ({ cls := "java/lang/Object", name := "getClass", desc := "()Ljava/lang/Class;" } : Jvm.MethodName) ({ cls := "java/lang/Object", name := "getClass", desc := "()Ljava/lang/Class;" } : Jvm.MethodName)) ∈ lw_all := lw_g (lw_at lw_m2 102 rfl) rfl
theorem q478 : (Jvm.Cond.instanceMethod ({ cls := "java/lang/Integer", name := "intValue", desc := "()I" } : Jvm.MethodName)) ∈ lw_all := lw_g (lw_at lw_m2 161 rfl) rfl
theorem q479 : (Jvm.Cond.selects "java/lang/Integer" ({ cls := "java/lang/Integer", name := "intValue", desc := "()I" } : Jvm.MethodName) ({ cls := "java/lang/Integer", name := "intValue", desc := "()I" } : Jvm.MethodName)) ∈ lw_all := lw_g (lw_at lw_m2 162 rfl) rfl
theorem q480 : (Jvm.Cond.code ({ cls := "java/lang/Integer", name := "intValue", desc := "()I" } : Jvm.MethodName) prog_25_method_27_code (1 : Nat) (Option.some Jvm.ClassFile.FieldType.int)) ∈ lw_all := lw_g (lw_at lw_m2 163 rfl) rfl
theorem q656 : (Jvm.Cond.static ({ cls := "java/lang/Integer", name := "stringSize", desc := "(I)I" } : Jvm.MethodName)) ∈ lw_all := lw_g (lw_at lw_m3 99 rfl) rfl
theorem q657 : (Jvm.Cond.code ({ cls := "java/lang/Integer", name := "stringSize", desc := "(I)I" } : Jvm.MethodName) prog_25_method_13_code (4 : Nat) (Option.some Jvm.ClassFile.FieldType.int)) ∈ lw_all := lw_g (lw_at lw_m3 100 rfl) rfl
theorem q659 : (Jvm.Cond.static ({ cls := "java/lang/Integer", name := "getChars", desc := "(II[B)I" } : Jvm.MethodName)) ∈ lw_all := lw_g (lw_at lw_m3 102 rfl) rfl
theorem q660 : (Jvm.Cond.code ({ cls := "java/lang/Integer", name := "getChars", desc := "(II[B)I" } : Jvm.MethodName) prog_25_method_12_code (7 : Nat) (Option.some Jvm.ClassFile.FieldType.int)) ∈ lw_all := lw_g (lw_at lw_m3 103 rfl) rfl
theorem q661 : (Jvm.Cond.fieldLink "java/lang/Integer" (83 : Nat) "java/lang/Integer" "DigitOnes" "[B") ∈ lw_all := lw_g (lw_at lw_m3 104 rfl) rfl
theorem q662 : (Jvm.Cond.laysStatic "java/lang/Integer" "DigitOnes" "[B") ∈ lw_tbl := lw_at lw_m3 105 rfl
theorem q663 : (Jvm.Cond.fieldLink "java/lang/Integer" (87 : Nat) "java/lang/Integer" "DigitTens" "[B") ∈ lw_all := lw_g (lw_at lw_m3 106 rfl) rfl
theorem q664 : (Jvm.Cond.laysStatic "java/lang/Integer" "DigitTens" "[B") ∈ lw_tbl := lw_at lw_m3 107 rfl
theorem q836 : (Jvm.Cond.selects "java/lang/Integer" ({ cls := "java/lang/Object", name := "equals", desc := "(Ljava/lang/Object;)Z" } : Jvm.MethodName) ({ cls := "java/lang/Integer", name := "equals", desc := "(Ljava/lang/Object;)Z" } : Jvm.MethodName)) ∈ lw_all := lw_g (lw_at lw_m4 39 rfl) rfl
theorem q837 : (Jvm.Cond.instanceMethod ({ cls := "java/lang/Integer", name := "equals", desc := "(Ljava/lang/Object;)Z" } : Jvm.MethodName)) ∈ lw_all := lw_g (lw_at lw_m4 40 rfl) rfl
theorem q838 : (Jvm.Cond.code ({ cls := "java/lang/Integer", name := "equals", desc := "(Ljava/lang/Object;)Z" } : Jvm.MethodName) prog_25_method_34_code (2 : Nat) (Option.some Jvm.ClassFile.FieldType.boolean)) ∈ lw_all := lw_g (lw_at lw_m4 41 rfl) rfl
theorem q839 : (Jvm.Cond.methodLink "java/lang/Integer" (211 : Nat) ({ cls := "java/lang/Integer", name := "intValue", desc := "()I" } : Jvm.MethodName)) ∈ lw_all := lw_g (lw_at lw_m4 42 rfl) rfl
theorem q1040 : (Jvm.Cond.static ({ cls := "java/lang/Integer", name := "numberOfTrailingZeros", desc := "(I)I" } : Jvm.MethodName)) ∈ lw_all := lw_g (lw_at lw_m5 3 rfl) rfl
theorem q1041 : (Jvm.Cond.code ({ cls := "java/lang/Integer", name := "numberOfTrailingZeros", desc := "(I)I" } : Jvm.MethodName) prog_25_method_48_code (2 : Nat) (Option.some Jvm.ClassFile.FieldType.int)) ∈ lw_all := lw_g (lw_at lw_m5 4 rfl) rfl
theorem q1042 : (Jvm.Cond.constant "java/lang/Integer" (264 : Nat) (65536 : Int32)) ∈ lw_all := lw_g (lw_at lw_m5 5 rfl) rfl
theorem q2197 : (Jvm.Cond.castable "java/lang/Integer" "java/lang/Object") ∈ lw_tbl := lw_at lw_m9 200 rfl
theorem in_J9 : ∀ w ∈ wsJ90, w ∈ lw_all := lw_in wsJ90 [305] (by decide +kernel) (by decide +kernel)

/-! jdk/internal/util/ArraysSupport -/
set_option maxRecDepth 100000
def RJ10 : String := "jdk/internal/util/ArraysSupport"
abbrev cJ10_newLength : ByteArray := prog_55_method_27_code
def yJ10_newLength : MethodName := ⟨RJ10, "newLength", "(III)I"⟩
def dkwJ10_newLength_1 : List UInt8 := [184, 0, 201, 172]
abbrev dktJ10_newLength_1 : List UInt8 := dkwJ10_newLength_1 ++ []
def dkwJ10_newLength_0 : List UInt8 := [26, 27, 28, 184, 0, 194, 96, 62, 3, 29, 162, 0, 11, 29, 18, 200, 163, 0, 5, 29, 172, 26, 27]
abbrev dktJ10_newLength_0 : List UInt8 := dkwJ10_newLength_0 ++ dktJ10_newLength_1
theorem dksJ10_newLength_0 : cJ10_newLength.data.toList.drop 0 = dktJ10_newLength_0 := by decide +kernel
theorem dksJ10_newLength_1 : cJ10_newLength.data.toList.drop 23 = dktJ10_newLength_1 := dk_seg dksJ10_newLength_0 23 rfl rfl
theorem dJ10_newLength_0 : decode cJ10_newLength 0 = .ok (.iload_n 0, 1) := dk_26 (dk_at dksJ10_newLength_0 0 rfl rfl)
theorem dJ10_newLength_1 : decode cJ10_newLength 1 = .ok (.iload_n 1, 1) := dk_27 (dk_at dksJ10_newLength_0 1 rfl rfl)
theorem dJ10_newLength_2 : decode cJ10_newLength 2 = .ok (.iload_n 2, 1) := dk_28 (dk_at dksJ10_newLength_0 2 rfl rfl)
theorem dJ10_newLength_3 : decode cJ10_newLength 3 = .ok (.invokestatic 194, 3) := dk_184 0 194 (dk_at dksJ10_newLength_0 3 rfl rfl)
theorem dJ10_newLength_6 : decode cJ10_newLength 6 = .ok (.iadd, 1) := dk_96 (dk_at dksJ10_newLength_0 6 rfl rfl)
theorem dJ10_newLength_7 : decode cJ10_newLength 7 = .ok (.istore_n 3, 1) := dk_62 (dk_at dksJ10_newLength_0 7 rfl rfl)
theorem dJ10_newLength_8 : decode cJ10_newLength 8 = .ok (.iconst 0, 1) := dk_3 (dk_at dksJ10_newLength_0 8 rfl rfl)
theorem dJ10_newLength_9 : decode cJ10_newLength 9 = .ok (.iload_n 3, 1) := dk_29 (dk_at dksJ10_newLength_0 9 rfl rfl)
theorem dJ10_newLength_10 : decode cJ10_newLength 10 = .ok (.if_icmp .ge 11, 3) := dk_162 0 11 (dk_at dksJ10_newLength_0 10 rfl rfl)
theorem dJ10_newLength_13 : decode cJ10_newLength 13 = .ok (.iload_n 3, 1) := dk_29 (dk_at dksJ10_newLength_0 13 rfl rfl)
theorem dJ10_newLength_14 : decode cJ10_newLength 14 = .ok (.ldc 200, 2) := dk_18 200 (dk_at dksJ10_newLength_0 14 rfl rfl)
theorem dJ10_newLength_16 : decode cJ10_newLength 16 = .ok (.if_icmp .gt 5, 3) := dk_163 0 5 (dk_at dksJ10_newLength_0 16 rfl rfl)
theorem dJ10_newLength_19 : decode cJ10_newLength 19 = .ok (.iload_n 3, 1) := dk_29 (dk_at dksJ10_newLength_0 19 rfl rfl)
theorem dJ10_newLength_20 : decode cJ10_newLength 20 = .ok (.ireturn, 1) := dk_172 (dk_at dksJ10_newLength_0 20 rfl rfl)
theorem dJ10_newLength_21 : decode cJ10_newLength 21 = .ok (.iload_n 0, 1) := dk_26 (dk_at dksJ10_newLength_0 21 rfl rfl)
theorem dJ10_newLength_22 : decode cJ10_newLength 22 = .ok (.iload_n 1, 1) := dk_27 (dk_at dksJ10_newLength_0 22 rfl rfl)
theorem dJ10_newLength_23 : decode cJ10_newLength 23 = .ok (.invokestatic 201, 3) := dk_184 0 201 (dk_at dksJ10_newLength_1 0 rfl rfl)
theorem dJ10_newLength_26 : decode cJ10_newLength 26 = .ok (.ireturn, 1) := dk_172 (dk_at dksJ10_newLength_1 3 rfl rfl)
abbrev cJ10_hugeLength : ByteArray := prog_55_method_28_code
def yJ10_hugeLength : MethodName := ⟨RJ10, "hugeLength", "(II)I"⟩
def dkwJ10_hugeLength_2 : List UInt8 := [191, 28, 18, 200, 163, 0, 6, 18, 200, 172, 28, 172]
abbrev dktJ10_hugeLength_2 : List UInt8 := dkwJ10_hugeLength_2 ++ []
def dkwJ10_hugeLength_1 : List UInt8 := [26, 182, 0, 98, 18, 208, 182, 0, 94, 27, 182, 0, 98, 18, 210, 182, 0, 94, 182, 0, 101, 183, 0, 212]
abbrev dktJ10_hugeLength_1 : List UInt8 := dkwJ10_hugeLength_1 ++ dktJ10_hugeLength_2
def dkwJ10_hugeLength_0 : List UInt8 := [26, 27, 96, 61, 28, 156, 0, 44, 187, 0, 204, 89, 187, 0, 89, 89, 183, 0, 91, 18, 206, 182, 0, 94]
abbrev dktJ10_hugeLength_0 : List UInt8 := dkwJ10_hugeLength_0 ++ dktJ10_hugeLength_1
theorem dksJ10_hugeLength_0 : cJ10_hugeLength.data.toList.drop 0 = dktJ10_hugeLength_0 := by decide +kernel
theorem dksJ10_hugeLength_1 : cJ10_hugeLength.data.toList.drop 24 = dktJ10_hugeLength_1 := dk_seg dksJ10_hugeLength_0 24 rfl rfl
theorem dksJ10_hugeLength_2 : cJ10_hugeLength.data.toList.drop 48 = dktJ10_hugeLength_2 := dk_seg dksJ10_hugeLength_1 24 rfl rfl
theorem dJ10_hugeLength_0 : decode cJ10_hugeLength 0 = .ok (.iload_n 0, 1) := dk_26 (dk_at dksJ10_hugeLength_0 0 rfl rfl)
theorem dJ10_hugeLength_1 : decode cJ10_hugeLength 1 = .ok (.iload_n 1, 1) := dk_27 (dk_at dksJ10_hugeLength_0 1 rfl rfl)
theorem dJ10_hugeLength_2 : decode cJ10_hugeLength 2 = .ok (.iadd, 1) := dk_96 (dk_at dksJ10_hugeLength_0 2 rfl rfl)
theorem dJ10_hugeLength_3 : decode cJ10_hugeLength 3 = .ok (.istore_n 2, 1) := dk_61 (dk_at dksJ10_hugeLength_0 3 rfl rfl)
theorem dJ10_hugeLength_4 : decode cJ10_hugeLength 4 = .ok (.iload_n 2, 1) := dk_28 (dk_at dksJ10_hugeLength_0 4 rfl rfl)
theorem dJ10_hugeLength_5 : decode cJ10_hugeLength 5 = .ok (.ifCond .ge 44, 3) := dk_156 0 44 (dk_at dksJ10_hugeLength_0 5 rfl rfl)
theorem dJ10_hugeLength_8 : decode cJ10_hugeLength 8 = .ok (.new 204, 3) := dk_187 0 204 (dk_at dksJ10_hugeLength_0 8 rfl rfl)
theorem dJ10_hugeLength_11 : decode cJ10_hugeLength 11 = .ok (.dup, 1) := dk_89 (dk_at dksJ10_hugeLength_0 11 rfl rfl)
theorem dJ10_hugeLength_12 : decode cJ10_hugeLength 12 = .ok (.new 89, 3) := dk_187 0 89 (dk_at dksJ10_hugeLength_0 12 rfl rfl)
theorem dJ10_hugeLength_15 : decode cJ10_hugeLength 15 = .ok (.dup, 1) := dk_89 (dk_at dksJ10_hugeLength_0 15 rfl rfl)
theorem dJ10_hugeLength_16 : decode cJ10_hugeLength 16 = .ok (.invokespecial 91, 3) := dk_183 0 91 (dk_at dksJ10_hugeLength_0 16 rfl rfl)
theorem dJ10_hugeLength_19 : decode cJ10_hugeLength 19 = .ok (.ldc 206, 2) := dk_18 206 (dk_at dksJ10_hugeLength_0 19 rfl rfl)
theorem dJ10_hugeLength_21 : decode cJ10_hugeLength 21 = .ok (.invokevirtual 94, 3) := dk_182 0 94 (dk_at dksJ10_hugeLength_0 21 rfl rfl)
theorem dJ10_hugeLength_24 : decode cJ10_hugeLength 24 = .ok (.iload_n 0, 1) := dk_26 (dk_at dksJ10_hugeLength_1 0 rfl rfl)
theorem dJ10_hugeLength_25 : decode cJ10_hugeLength 25 = .ok (.invokevirtual 98, 3) := dk_182 0 98 (dk_at dksJ10_hugeLength_1 1 rfl rfl)
theorem dJ10_hugeLength_28 : decode cJ10_hugeLength 28 = .ok (.ldc 208, 2) := dk_18 208 (dk_at dksJ10_hugeLength_1 4 rfl rfl)
theorem dJ10_hugeLength_30 : decode cJ10_hugeLength 30 = .ok (.invokevirtual 94, 3) := dk_182 0 94 (dk_at dksJ10_hugeLength_1 6 rfl rfl)
theorem dJ10_hugeLength_33 : decode cJ10_hugeLength 33 = .ok (.iload_n 1, 1) := dk_27 (dk_at dksJ10_hugeLength_1 9 rfl rfl)
theorem dJ10_hugeLength_34 : decode cJ10_hugeLength 34 = .ok (.invokevirtual 98, 3) := dk_182 0 98 (dk_at dksJ10_hugeLength_1 10 rfl rfl)
theorem dJ10_hugeLength_37 : decode cJ10_hugeLength 37 = .ok (.ldc 210, 2) := dk_18 210 (dk_at dksJ10_hugeLength_1 13 rfl rfl)
theorem dJ10_hugeLength_39 : decode cJ10_hugeLength 39 = .ok (.invokevirtual 94, 3) := dk_182 0 94 (dk_at dksJ10_hugeLength_1 15 rfl rfl)
theorem dJ10_hugeLength_42 : decode cJ10_hugeLength 42 = .ok (.invokevirtual 101, 3) := dk_182 0 101 (dk_at dksJ10_hugeLength_1 18 rfl rfl)
theorem dJ10_hugeLength_45 : decode cJ10_hugeLength 45 = .ok (.invokespecial 212, 3) := dk_183 0 212 (dk_at dksJ10_hugeLength_1 21 rfl rfl)
theorem dJ10_hugeLength_48 : decode cJ10_hugeLength 48 = .ok (.athrow, 1) := dk_191 (dk_at dksJ10_hugeLength_2 0 rfl rfl)
theorem dJ10_hugeLength_49 : decode cJ10_hugeLength 49 = .ok (.iload_n 2, 1) := dk_28 (dk_at dksJ10_hugeLength_2 1 rfl rfl)
theorem dJ10_hugeLength_50 : decode cJ10_hugeLength 50 = .ok (.ldc 200, 2) := dk_18 200 (dk_at dksJ10_hugeLength_2 2 rfl rfl)
theorem dJ10_hugeLength_52 : decode cJ10_hugeLength 52 = .ok (.if_icmp .gt 6, 3) := dk_163 0 6 (dk_at dksJ10_hugeLength_2 4 rfl rfl)
theorem dJ10_hugeLength_55 : decode cJ10_hugeLength 55 = .ok (.ldc 200, 2) := dk_18 200 (dk_at dksJ10_hugeLength_2 7 rfl rfl)
theorem dJ10_hugeLength_57 : decode cJ10_hugeLength 57 = .ok (.ireturn, 1) := dk_172 (dk_at dksJ10_hugeLength_2 9 rfl rfl)
theorem dJ10_hugeLength_58 : decode cJ10_hugeLength 58 = .ok (.iload_n 2, 1) := dk_28 (dk_at dksJ10_hugeLength_2 10 rfl rfl)
theorem dJ10_hugeLength_59 : decode cJ10_hugeLength 59 = .ok (.ireturn, 1) := dk_172 (dk_at dksJ10_hugeLength_2 11 rfl rfl)
theorem q93 : (Jvm.Cond.initialized "jdk/internal/util/ArraysSupport") ∈ lw_all := lw_g (lw_at lw_m1 16 rfl) rfl
theorem q554 : (Jvm.Cond.static ({ cls := "jdk/internal/util/ArraysSupport", name := "newLength", desc := "(III)I" } : Jvm.MethodName)) ∈ lw_all := lw_g (lw_at lw_m2 237 rfl) rfl
theorem q555 : (Jvm.Cond.code ({ cls := "jdk/internal/util/ArraysSupport", name := "newLength", desc := "(III)I" } : Jvm.MethodName) prog_55_method_27_code (4 : Nat) (Option.some Jvm.ClassFile.FieldType.int)) ∈ lw_all := lw_g (lw_at lw_m2 238 rfl) rfl
theorem q556 : (Jvm.Cond.methodLink "jdk/internal/util/ArraysSupport" (194 : Nat) ({ cls := "java/lang/Math", name := "max", desc := "(II)I" } : Jvm.MethodName)) ∈ lw_all := lw_g (lw_at lw_m2 239 rfl) rfl
theorem q559 : (Jvm.Cond.constant "jdk/internal/util/ArraysSupport" (200 : Nat) (2147483639 : Int32)) ∈ lw_all := lw_g (lw_at lw_m3 2 rfl) rfl
theorem q560 : (Jvm.Cond.methodLink "jdk/internal/util/ArraysSupport" (201 : Nat) ({ cls := "jdk/internal/util/ArraysSupport", name := "hugeLength", desc := "(II)I" } : Jvm.MethodName)) ∈ lw_all := lw_g (lw_at lw_m3 3 rfl) rfl
theorem q561 : (Jvm.Cond.static ({ cls := "jdk/internal/util/ArraysSupport", name := "hugeLength", desc := "(II)I" } : Jvm.MethodName)) ∈ lw_all := lw_g (lw_at lw_m3 4 rfl) rfl
theorem q562 : (Jvm.Cond.code ({ cls := "jdk/internal/util/ArraysSupport", name := "hugeLength", desc := "(II)I" } : Jvm.MethodName) prog_55_method_28_code (3 : Nat) (Option.some Jvm.ClassFile.FieldType.int)) ∈ lw_all := lw_g (lw_at lw_m3 5 rfl) rfl

/-! java/lang/Math -/
set_option maxRecDepth 100000
def RJ11 : String := "java/lang/Math"
abbrev cJ11_min : ByteArray := prog_29_method_69_code
def yJ11_min : MethodName := ⟨RJ11, "min", "(II)I"⟩
def dkwJ11_min_0 : List UInt8 := [26, 27, 163, 0, 7, 26, 167, 0, 4, 27, 172]
abbrev dktJ11_min_0 : List UInt8 := dkwJ11_min_0 ++ []
theorem dksJ11_min_0 : cJ11_min.data.toList.drop 0 = dktJ11_min_0 := by decide +kernel
theorem dJ11_min_0 : decode cJ11_min 0 = .ok (.iload_n 0, 1) := dk_26 (dk_at dksJ11_min_0 0 rfl rfl)
theorem dJ11_min_1 : decode cJ11_min 1 = .ok (.iload_n 1, 1) := dk_27 (dk_at dksJ11_min_0 1 rfl rfl)
theorem dJ11_min_2 : decode cJ11_min 2 = .ok (.if_icmp .gt 7, 3) := dk_163 0 7 (dk_at dksJ11_min_0 2 rfl rfl)
theorem dJ11_min_5 : decode cJ11_min 5 = .ok (.iload_n 0, 1) := dk_26 (dk_at dksJ11_min_0 5 rfl rfl)
theorem dJ11_min_6 : decode cJ11_min 6 = .ok (.goto 4, 3) := dk_167 0 4 (dk_at dksJ11_min_0 6 rfl rfl)
theorem dJ11_min_9 : decode cJ11_min 9 = .ok (.iload_n 1, 1) := dk_27 (dk_at dksJ11_min_0 9 rfl rfl)
theorem dJ11_min_10 : decode cJ11_min 10 = .ok (.ireturn, 1) := dk_172 (dk_at dksJ11_min_0 10 rfl rfl)
abbrev cJ11_max : ByteArray := prog_29_method_65_code
def yJ11_max : MethodName := ⟨RJ11, "max", "(II)I"⟩
def dkwJ11_max_0 : List UInt8 := [26, 27, 161, 0, 7, 26, 167, 0, 4, 27, 172]
abbrev dktJ11_max_0 : List UInt8 := dkwJ11_max_0 ++ []
theorem dksJ11_max_0 : cJ11_max.data.toList.drop 0 = dktJ11_max_0 := by decide +kernel
theorem dJ11_max_0 : decode cJ11_max 0 = .ok (.iload_n 0, 1) := dk_26 (dk_at dksJ11_max_0 0 rfl rfl)
theorem dJ11_max_1 : decode cJ11_max 1 = .ok (.iload_n 1, 1) := dk_27 (dk_at dksJ11_max_0 1 rfl rfl)
theorem dJ11_max_2 : decode cJ11_max 2 = .ok (.if_icmp .lt 7, 3) := dk_161 0 7 (dk_at dksJ11_max_0 2 rfl rfl)
theorem dJ11_max_5 : decode cJ11_max 5 = .ok (.iload_n 0, 1) := dk_26 (dk_at dksJ11_max_0 5 rfl rfl)
theorem dJ11_max_6 : decode cJ11_max 6 = .ok (.goto 4, 3) := dk_167 0 4 (dk_at dksJ11_max_0 6 rfl rfl)
theorem dJ11_max_9 : decode cJ11_max 9 = .ok (.iload_n 1, 1) := dk_27 (dk_at dksJ11_max_0 9 rfl rfl)
theorem dJ11_max_10 : decode cJ11_max 10 = .ok (.ireturn, 1) := dk_172 (dk_at dksJ11_max_0 10 rfl rfl)
theorem q94 : (Jvm.Cond.initialized "java/lang/Math") ∈ lw_all := lw_g (lw_at lw_m1 17 rfl) rfl
theorem q434 : (Jvm.Cond.static ({ cls := "java/lang/Math", name := "min", desc := "(II)I" } : Jvm.MethodName)) ∈ lw_all := lw_g (lw_at lw_m2 117 rfl) rfl
theorem q435 : (Jvm.Cond.code ({ cls := "java/lang/Math", name := "min", desc := "(II)I" } : Jvm.MethodName) prog_29_method_69_code (2 : Nat) (Option.some Jvm.ClassFile.FieldType.int)) ∈ lw_all := lw_g (lw_at lw_m2 118 rfl) rfl
theorem q557 : (Jvm.Cond.static ({ cls := "java/lang/Math", name := "max", desc := "(II)I" } : Jvm.MethodName)) ∈ lw_all := lw_g (lw_at lw_m3 0 rfl) rfl
theorem q558 : (Jvm.Cond.code ({ cls := "java/lang/Math", name := "max", desc := "(II)I" } : Jvm.MethodName) prog_29_method_65_code (2 : Nat) (Option.some Jvm.ClassFile.FieldType.int)) ∈ lw_all := lw_g (lw_at lw_m3 1 rfl) rfl

/-! java/util/Arrays -/
set_option maxRecDepth 100000
def RJ12 : String := "java/util/Arrays"
abbrev cJ12_copyOf : ByteArray := prog_45_method_119_code
def yJ12_copyOf : MethodName := ⟨RJ12, "copyOf", "([Ljava/lang/Object;I)[Ljava/lang/Object;"⟩
def dkwJ12_copyOf_0 : List UInt8 := [42, 27, 42, 182, 0, 86, 184, 1, 44, 176]
abbrev dktJ12_copyOf_0 : List UInt8 := dkwJ12_copyOf_0 ++ []
theorem dksJ12_copyOf_0 : cJ12_copyOf.data.toList.drop 0 = dktJ12_copyOf_0 := by decide +kernel
theorem dJ12_copyOf_0 : decode cJ12_copyOf 0 = .ok (.aload_n 0, 1) := dk_42 (dk_at dksJ12_copyOf_0 0 rfl rfl)
theorem dJ12_copyOf_1 : decode cJ12_copyOf 1 = .ok (.iload_n 1, 1) := dk_27 (dk_at dksJ12_copyOf_0 1 rfl rfl)
theorem dJ12_copyOf_2 : decode cJ12_copyOf 2 = .ok (.aload_n 0, 1) := dk_42 (dk_at dksJ12_copyOf_0 2 rfl rfl)
theorem dJ12_copyOf_3 : decode cJ12_copyOf 3 = .ok (.invokevirtual 86, 3) := dk_182 0 86 (dk_at dksJ12_copyOf_0 3 rfl rfl)
theorem dJ12_copyOf_6 : decode cJ12_copyOf 6 = .ok (.invokestatic 300, 3) := dk_184 1 44 (dk_at dksJ12_copyOf_0 6 rfl rfl)
theorem dJ12_copyOf_9 : decode cJ12_copyOf 9 = .ok (.areturn, 1) := dk_176 (dk_at dksJ12_copyOf_0 9 rfl rfl)
abbrev cJ12_copyOf_2 : ByteArray := prog_45_method_120_code
def yJ12_copyOf_2 : MethodName := ⟨RJ12, "copyOf", "([Ljava/lang/Object;ILjava/lang/Class;)[Ljava/lang/Object;"⟩
def dkwJ12_copyOf_2_1 : List UInt8 := [78, 42, 3, 45, 3, 42, 190, 27, 184, 1, 48, 184, 0, 150, 45, 176]
abbrev dktJ12_copyOf_2_1 : List UInt8 := dkwJ12_copyOf_2_1 ++ []
def dkwJ12_copyOf_2_0 : List UInt8 := [44, 18, 110, 166, 0, 10, 27, 189, 0, 2, 167, 0, 14, 44, 182, 0, 90, 27, 184, 0, 95, 192, 0, 110]
abbrev dktJ12_copyOf_2_0 : List UInt8 := dkwJ12_copyOf_2_0 ++ dktJ12_copyOf_2_1
theorem dksJ12_copyOf_2_0 : cJ12_copyOf_2.data.toList.drop 0 = dktJ12_copyOf_2_0 := by decide +kernel
theorem dksJ12_copyOf_2_1 : cJ12_copyOf_2.data.toList.drop 24 = dktJ12_copyOf_2_1 := dk_seg dksJ12_copyOf_2_0 24 rfl rfl
theorem dJ12_copyOf_2_0 : decode cJ12_copyOf_2 0 = .ok (.aload_n 2, 1) := dk_44 (dk_at dksJ12_copyOf_2_0 0 rfl rfl)
theorem dJ12_copyOf_2_1 : decode cJ12_copyOf_2 1 = .ok (.ldc 110, 2) := dk_18 110 (dk_at dksJ12_copyOf_2_0 1 rfl rfl)
theorem dJ12_copyOf_2_3 : decode cJ12_copyOf_2 3 = .ok (.if_acmp .ne 10, 3) := dk_166 0 10 (dk_at dksJ12_copyOf_2_0 3 rfl rfl)
theorem dJ12_copyOf_2_6 : decode cJ12_copyOf_2 6 = .ok (.iload_n 1, 1) := dk_27 (dk_at dksJ12_copyOf_2_0 6 rfl rfl)
theorem dJ12_copyOf_2_7 : decode cJ12_copyOf_2 7 = .ok (.anewarray 2, 3) := dk_189 0 2 (dk_at dksJ12_copyOf_2_0 7 rfl rfl)
theorem dJ12_copyOf_2_10 : decode cJ12_copyOf_2 10 = .ok (.goto 14, 3) := dk_167 0 14 (dk_at dksJ12_copyOf_2_0 10 rfl rfl)
theorem dJ12_copyOf_2_13 : decode cJ12_copyOf_2 13 = .ok (.aload_n 2, 1) := dk_44 (dk_at dksJ12_copyOf_2_0 13 rfl rfl)
theorem dJ12_copyOf_2_14 : decode cJ12_copyOf_2 14 = .ok (.invokevirtual 90, 3) := dk_182 0 90 (dk_at dksJ12_copyOf_2_0 14 rfl rfl)
theorem dJ12_copyOf_2_17 : decode cJ12_copyOf_2 17 = .ok (.iload_n 1, 1) := dk_27 (dk_at dksJ12_copyOf_2_0 17 rfl rfl)
theorem dJ12_copyOf_2_18 : decode cJ12_copyOf_2 18 = .ok (.invokestatic 95, 3) := dk_184 0 95 (dk_at dksJ12_copyOf_2_0 18 rfl rfl)
theorem dJ12_copyOf_2_21 : decode cJ12_copyOf_2 21 = .ok (.checkcast 110, 3) := dk_192 0 110 (dk_at dksJ12_copyOf_2_0 21 rfl rfl)
theorem dJ12_copyOf_2_24 : decode cJ12_copyOf_2 24 = .ok (.astore_n 3, 1) := dk_78 (dk_at dksJ12_copyOf_2_1 0 rfl rfl)
theorem dJ12_copyOf_2_25 : decode cJ12_copyOf_2 25 = .ok (.aload_n 0, 1) := dk_42 (dk_at dksJ12_copyOf_2_1 1 rfl rfl)
theorem dJ12_copyOf_2_26 : decode cJ12_copyOf_2 26 = .ok (.iconst 0, 1) := dk_3 (dk_at dksJ12_copyOf_2_1 2 rfl rfl)
theorem dJ12_copyOf_2_27 : decode cJ12_copyOf_2 27 = .ok (.aload_n 3, 1) := dk_45 (dk_at dksJ12_copyOf_2_1 3 rfl rfl)
theorem dJ12_copyOf_2_28 : decode cJ12_copyOf_2 28 = .ok (.iconst 0, 1) := dk_3 (dk_at dksJ12_copyOf_2_1 4 rfl rfl)
theorem dJ12_copyOf_2_29 : decode cJ12_copyOf_2 29 = .ok (.aload_n 0, 1) := dk_42 (dk_at dksJ12_copyOf_2_1 5 rfl rfl)
theorem dJ12_copyOf_2_30 : decode cJ12_copyOf_2 30 = .ok (.arraylength, 1) := dk_190 (dk_at dksJ12_copyOf_2_1 6 rfl rfl)
theorem dJ12_copyOf_2_31 : decode cJ12_copyOf_2 31 = .ok (.iload_n 1, 1) := dk_27 (dk_at dksJ12_copyOf_2_1 7 rfl rfl)
theorem dJ12_copyOf_2_32 : decode cJ12_copyOf_2 32 = .ok (.invokestatic 304, 3) := dk_184 1 48 (dk_at dksJ12_copyOf_2_1 8 rfl rfl)
theorem dJ12_copyOf_2_35 : decode cJ12_copyOf_2 35 = .ok (.invokestatic 150, 3) := dk_184 0 150 (dk_at dksJ12_copyOf_2_1 11 rfl rfl)
theorem dJ12_copyOf_2_38 : decode cJ12_copyOf_2 38 = .ok (.aload_n 3, 1) := dk_45 (dk_at dksJ12_copyOf_2_1 14 rfl rfl)
theorem dJ12_copyOf_2_39 : decode cJ12_copyOf_2 39 = .ok (.areturn, 1) := dk_176 (dk_at dksJ12_copyOf_2_1 15 rfl rfl)
abbrev cJ12_copyOf_3 : ByteArray := prog_45_method_121_code
def yJ12_copyOf_3 : MethodName := ⟨RJ12, "copyOf", "([BI)[B"⟩
def dkwJ12_copyOf_3_1 : List UInt8 := [27, 184, 1, 48, 184, 0, 150, 44, 176]
abbrev dktJ12_copyOf_3_1 : List UInt8 := dkwJ12_copyOf_3_1 ++ []
def dkwJ12_copyOf_3_0 : List UInt8 := [27, 42, 190, 160, 0, 11, 42, 182, 1, 54, 192, 1, 55, 176, 27, 188, 8, 77, 42, 3, 44, 3, 42, 190]
abbrev dktJ12_copyOf_3_0 : List UInt8 := dkwJ12_copyOf_3_0 ++ dktJ12_copyOf_3_1
theorem dksJ12_copyOf_3_0 : cJ12_copyOf_3.data.toList.drop 0 = dktJ12_copyOf_3_0 := by decide +kernel
theorem dksJ12_copyOf_3_1 : cJ12_copyOf_3.data.toList.drop 24 = dktJ12_copyOf_3_1 := dk_seg dksJ12_copyOf_3_0 24 rfl rfl
theorem dJ12_copyOf_3_0 : decode cJ12_copyOf_3 0 = .ok (.iload_n 1, 1) := dk_27 (dk_at dksJ12_copyOf_3_0 0 rfl rfl)
theorem dJ12_copyOf_3_1 : decode cJ12_copyOf_3 1 = .ok (.aload_n 0, 1) := dk_42 (dk_at dksJ12_copyOf_3_0 1 rfl rfl)
theorem dJ12_copyOf_3_2 : decode cJ12_copyOf_3 2 = .ok (.arraylength, 1) := dk_190 (dk_at dksJ12_copyOf_3_0 2 rfl rfl)
theorem dJ12_copyOf_3_3 : decode cJ12_copyOf_3 3 = .ok (.if_icmp .ne 11, 3) := dk_160 0 11 (dk_at dksJ12_copyOf_3_0 3 rfl rfl)
theorem dJ12_copyOf_3_6 : decode cJ12_copyOf_3 6 = .ok (.aload_n 0, 1) := dk_42 (dk_at dksJ12_copyOf_3_0 6 rfl rfl)
theorem dJ12_copyOf_3_7 : decode cJ12_copyOf_3 7 = .ok (.invokevirtual 310, 3) := dk_182 1 54 (dk_at dksJ12_copyOf_3_0 7 rfl rfl)
theorem dJ12_copyOf_3_10 : decode cJ12_copyOf_3 10 = .ok (.checkcast 311, 3) := dk_192 1 55 (dk_at dksJ12_copyOf_3_0 10 rfl rfl)
theorem dJ12_copyOf_3_13 : decode cJ12_copyOf_3 13 = .ok (.areturn, 1) := dk_176 (dk_at dksJ12_copyOf_3_0 13 rfl rfl)
theorem dJ12_copyOf_3_14 : decode cJ12_copyOf_3 14 = .ok (.iload_n 1, 1) := dk_27 (dk_at dksJ12_copyOf_3_0 14 rfl rfl)
theorem dJ12_copyOf_3_15 : decode cJ12_copyOf_3 15 = .ok (.newarray .byte, 2) := dk_188_8 (dk_at dksJ12_copyOf_3_0 15 rfl rfl)
theorem dJ12_copyOf_3_17 : decode cJ12_copyOf_3 17 = .ok (.astore_n 2, 1) := dk_77 (dk_at dksJ12_copyOf_3_0 17 rfl rfl)
theorem dJ12_copyOf_3_18 : decode cJ12_copyOf_3 18 = .ok (.aload_n 0, 1) := dk_42 (dk_at dksJ12_copyOf_3_0 18 rfl rfl)
theorem dJ12_copyOf_3_19 : decode cJ12_copyOf_3 19 = .ok (.iconst 0, 1) := dk_3 (dk_at dksJ12_copyOf_3_0 19 rfl rfl)
theorem dJ12_copyOf_3_20 : decode cJ12_copyOf_3 20 = .ok (.aload_n 2, 1) := dk_44 (dk_at dksJ12_copyOf_3_0 20 rfl rfl)
theorem dJ12_copyOf_3_21 : decode cJ12_copyOf_3 21 = .ok (.iconst 0, 1) := dk_3 (dk_at dksJ12_copyOf_3_0 21 rfl rfl)
theorem dJ12_copyOf_3_22 : decode cJ12_copyOf_3 22 = .ok (.aload_n 0, 1) := dk_42 (dk_at dksJ12_copyOf_3_0 22 rfl rfl)
theorem dJ12_copyOf_3_23 : decode cJ12_copyOf_3 23 = .ok (.arraylength, 1) := dk_190 (dk_at dksJ12_copyOf_3_0 23 rfl rfl)
theorem dJ12_copyOf_3_24 : decode cJ12_copyOf_3 24 = .ok (.iload_n 1, 1) := dk_27 (dk_at dksJ12_copyOf_3_1 0 rfl rfl)
theorem dJ12_copyOf_3_25 : decode cJ12_copyOf_3 25 = .ok (.invokestatic 304, 3) := dk_184 1 48 (dk_at dksJ12_copyOf_3_1 1 rfl rfl)
theorem dJ12_copyOf_3_28 : decode cJ12_copyOf_3 28 = .ok (.invokestatic 150, 3) := dk_184 0 150 (dk_at dksJ12_copyOf_3_1 4 rfl rfl)
theorem dJ12_copyOf_3_31 : decode cJ12_copyOf_3 31 = .ok (.aload_n 2, 1) := dk_44 (dk_at dksJ12_copyOf_3_1 7 rfl rfl)
theorem dJ12_copyOf_3_32 : decode cJ12_copyOf_3 32 = .ok (.areturn, 1) := dk_176 (dk_at dksJ12_copyOf_3_1 8 rfl rfl)
abbrev cJ12_copyOfRange : ByteArray := prog_45_method_132_code
def yJ12_copyOfRange : MethodName := ⟨RJ12, "copyOfRange", "([BII)[B"⟩
def dkwJ12_copyOfRange_1 : List UInt8 := [176]
abbrev dktJ12_copyOfRange_1 : List UInt8 := dkwJ12_copyOfRange_1 ++ []
def dkwJ12_copyOfRange_0 : List UInt8 := [27, 154, 0, 9, 28, 42, 190, 159, 0, 10, 42, 27, 28, 184, 1, 83, 176, 42, 182, 1, 54, 192, 1, 55]
abbrev dktJ12_copyOfRange_0 : List UInt8 := dkwJ12_copyOfRange_0 ++ dktJ12_copyOfRange_1
theorem dksJ12_copyOfRange_0 : cJ12_copyOfRange.data.toList.drop 0 = dktJ12_copyOfRange_0 := by decide +kernel
theorem dksJ12_copyOfRange_1 : cJ12_copyOfRange.data.toList.drop 24 = dktJ12_copyOfRange_1 := dk_seg dksJ12_copyOfRange_0 24 rfl rfl
theorem dJ12_copyOfRange_0 : decode cJ12_copyOfRange 0 = .ok (.iload_n 1, 1) := dk_27 (dk_at dksJ12_copyOfRange_0 0 rfl rfl)
theorem dJ12_copyOfRange_1 : decode cJ12_copyOfRange 1 = .ok (.ifCond .ne 9, 3) := dk_154 0 9 (dk_at dksJ12_copyOfRange_0 1 rfl rfl)
theorem dJ12_copyOfRange_4 : decode cJ12_copyOfRange 4 = .ok (.iload_n 2, 1) := dk_28 (dk_at dksJ12_copyOfRange_0 4 rfl rfl)
theorem dJ12_copyOfRange_5 : decode cJ12_copyOfRange 5 = .ok (.aload_n 0, 1) := dk_42 (dk_at dksJ12_copyOfRange_0 5 rfl rfl)
theorem dJ12_copyOfRange_6 : decode cJ12_copyOfRange 6 = .ok (.arraylength, 1) := dk_190 (dk_at dksJ12_copyOfRange_0 6 rfl rfl)
theorem dJ12_copyOfRange_7 : decode cJ12_copyOfRange 7 = .ok (.if_icmp .eq 10, 3) := dk_159 0 10 (dk_at dksJ12_copyOfRange_0 7 rfl rfl)
theorem dJ12_copyOfRange_10 : decode cJ12_copyOfRange 10 = .ok (.aload_n 0, 1) := dk_42 (dk_at dksJ12_copyOfRange_0 10 rfl rfl)
theorem dJ12_copyOfRange_11 : decode cJ12_copyOfRange 11 = .ok (.iload_n 1, 1) := dk_27 (dk_at dksJ12_copyOfRange_0 11 rfl rfl)
theorem dJ12_copyOfRange_12 : decode cJ12_copyOfRange 12 = .ok (.iload_n 2, 1) := dk_28 (dk_at dksJ12_copyOfRange_0 12 rfl rfl)
theorem dJ12_copyOfRange_13 : decode cJ12_copyOfRange 13 = .ok (.invokestatic 339, 3) := dk_184 1 83 (dk_at dksJ12_copyOfRange_0 13 rfl rfl)
theorem dJ12_copyOfRange_16 : decode cJ12_copyOfRange 16 = .ok (.areturn, 1) := dk_176 (dk_at dksJ12_copyOfRange_0 16 rfl rfl)
theorem dJ12_copyOfRange_17 : decode cJ12_copyOfRange 17 = .ok (.aload_n 0, 1) := dk_42 (dk_at dksJ12_copyOfRange_0 17 rfl rfl)
theorem dJ12_copyOfRange_18 : decode cJ12_copyOfRange 18 = .ok (.invokevirtual 310, 3) := dk_182 1 54 (dk_at dksJ12_copyOfRange_0 18 rfl rfl)
theorem dJ12_copyOfRange_21 : decode cJ12_copyOfRange 21 = .ok (.checkcast 311, 3) := dk_192 1 55 (dk_at dksJ12_copyOfRange_0 21 rfl rfl)
theorem dJ12_copyOfRange_24 : decode cJ12_copyOfRange 24 = .ok (.areturn, 1) := dk_176 (dk_at dksJ12_copyOfRange_1 0 rfl rfl)
abbrev cJ12_copyOfRangeByte : ByteArray := prog_45_method_133_code
def yJ12_copyOfRangeByte : MethodName := ⟨RJ12, "copyOfRangeByte", "([BII)[B"⟩
def dkwJ12_copyOfRangeByte_1 : List UInt8 := [184, 1, 48, 184, 0, 150, 25, 4, 176]
abbrev dktJ12_copyOfRangeByte_1 : List UInt8 := dkwJ12_copyOfRangeByte_1 ++ []
def dkwJ12_copyOfRangeByte_0 : List UInt8 := [27, 28, 184, 1, 87, 28, 27, 100, 62, 29, 188, 8, 58, 4, 42, 27, 25, 4, 3, 42, 190, 27, 100, 29]
abbrev dktJ12_copyOfRangeByte_0 : List UInt8 := dkwJ12_copyOfRangeByte_0 ++ dktJ12_copyOfRangeByte_1
theorem dksJ12_copyOfRangeByte_0 : cJ12_copyOfRangeByte.data.toList.drop 0 = dktJ12_copyOfRangeByte_0 := by decide +kernel
theorem dksJ12_copyOfRangeByte_1 : cJ12_copyOfRangeByte.data.toList.drop 24 = dktJ12_copyOfRangeByte_1 := dk_seg dksJ12_copyOfRangeByte_0 24 rfl rfl
theorem dJ12_copyOfRangeByte_0 : decode cJ12_copyOfRangeByte 0 = .ok (.iload_n 1, 1) := dk_27 (dk_at dksJ12_copyOfRangeByte_0 0 rfl rfl)
theorem dJ12_copyOfRangeByte_1 : decode cJ12_copyOfRangeByte 1 = .ok (.iload_n 2, 1) := dk_28 (dk_at dksJ12_copyOfRangeByte_0 1 rfl rfl)
theorem dJ12_copyOfRangeByte_2 : decode cJ12_copyOfRangeByte 2 = .ok (.invokestatic 343, 3) := dk_184 1 87 (dk_at dksJ12_copyOfRangeByte_0 2 rfl rfl)
theorem dJ12_copyOfRangeByte_5 : decode cJ12_copyOfRangeByte 5 = .ok (.iload_n 2, 1) := dk_28 (dk_at dksJ12_copyOfRangeByte_0 5 rfl rfl)
theorem dJ12_copyOfRangeByte_6 : decode cJ12_copyOfRangeByte 6 = .ok (.iload_n 1, 1) := dk_27 (dk_at dksJ12_copyOfRangeByte_0 6 rfl rfl)
theorem dJ12_copyOfRangeByte_7 : decode cJ12_copyOfRangeByte 7 = .ok (.isub, 1) := dk_100 (dk_at dksJ12_copyOfRangeByte_0 7 rfl rfl)
theorem dJ12_copyOfRangeByte_8 : decode cJ12_copyOfRangeByte 8 = .ok (.istore_n 3, 1) := dk_62 (dk_at dksJ12_copyOfRangeByte_0 8 rfl rfl)
theorem dJ12_copyOfRangeByte_9 : decode cJ12_copyOfRangeByte 9 = .ok (.iload_n 3, 1) := dk_29 (dk_at dksJ12_copyOfRangeByte_0 9 rfl rfl)
theorem dJ12_copyOfRangeByte_10 : decode cJ12_copyOfRangeByte 10 = .ok (.newarray .byte, 2) := dk_188_8 (dk_at dksJ12_copyOfRangeByte_0 10 rfl rfl)
theorem dJ12_copyOfRangeByte_12 : decode cJ12_copyOfRangeByte 12 = .ok (.astore 4, 2) := dk_58 4 (dk_at dksJ12_copyOfRangeByte_0 12 rfl rfl)
theorem dJ12_copyOfRangeByte_14 : decode cJ12_copyOfRangeByte 14 = .ok (.aload_n 0, 1) := dk_42 (dk_at dksJ12_copyOfRangeByte_0 14 rfl rfl)
theorem dJ12_copyOfRangeByte_15 : decode cJ12_copyOfRangeByte 15 = .ok (.iload_n 1, 1) := dk_27 (dk_at dksJ12_copyOfRangeByte_0 15 rfl rfl)
theorem dJ12_copyOfRangeByte_16 : decode cJ12_copyOfRangeByte 16 = .ok (.aload 4, 2) := dk_25 4 (dk_at dksJ12_copyOfRangeByte_0 16 rfl rfl)
theorem dJ12_copyOfRangeByte_18 : decode cJ12_copyOfRangeByte 18 = .ok (.iconst 0, 1) := dk_3 (dk_at dksJ12_copyOfRangeByte_0 18 rfl rfl)
theorem dJ12_copyOfRangeByte_19 : decode cJ12_copyOfRangeByte 19 = .ok (.aload_n 0, 1) := dk_42 (dk_at dksJ12_copyOfRangeByte_0 19 rfl rfl)
theorem dJ12_copyOfRangeByte_20 : decode cJ12_copyOfRangeByte 20 = .ok (.arraylength, 1) := dk_190 (dk_at dksJ12_copyOfRangeByte_0 20 rfl rfl)
theorem dJ12_copyOfRangeByte_21 : decode cJ12_copyOfRangeByte 21 = .ok (.iload_n 1, 1) := dk_27 (dk_at dksJ12_copyOfRangeByte_0 21 rfl rfl)
theorem dJ12_copyOfRangeByte_22 : decode cJ12_copyOfRangeByte 22 = .ok (.isub, 1) := dk_100 (dk_at dksJ12_copyOfRangeByte_0 22 rfl rfl)
theorem dJ12_copyOfRangeByte_23 : decode cJ12_copyOfRangeByte 23 = .ok (.iload_n 3, 1) := dk_29 (dk_at dksJ12_copyOfRangeByte_0 23 rfl rfl)
theorem dJ12_copyOfRangeByte_24 : decode cJ12_copyOfRangeByte 24 = .ok (.invokestatic 304, 3) := dk_184 1 48 (dk_at dksJ12_copyOfRangeByte_1 0 rfl rfl)
theorem dJ12_copyOfRangeByte_27 : decode cJ12_copyOfRangeByte 27 = .ok (.invokestatic 150, 3) := dk_184 0 150 (dk_at dksJ12_copyOfRangeByte_1 3 rfl rfl)
theorem dJ12_copyOfRangeByte_30 : decode cJ12_copyOfRangeByte 30 = .ok (.aload 4, 2) := dk_25 4 (dk_at dksJ12_copyOfRangeByte_1 6 rfl rfl)
theorem dJ12_copyOfRangeByte_32 : decode cJ12_copyOfRangeByte 32 = .ok (.areturn, 1) := dk_176 (dk_at dksJ12_copyOfRangeByte_1 8 rfl rfl)
abbrev cJ12_checkLength : ByteArray := prog_45_method_131_code
def yJ12_checkLength : MethodName := ⟨RJ12, "checkLength", "(II)V"⟩
def dkwJ12_checkLength_1 : List UInt8 := [182, 0, 50, 27, 182, 0, 54, 182, 0, 61, 183, 0, 65, 191, 177]
abbrev dktJ12_checkLength_1 : List UInt8 := dkwJ12_checkLength_1 ++ []
def dkwJ12_checkLength_0 : List UInt8 := [27, 26, 162, 0, 35, 187, 0, 43, 89, 187, 0, 45, 89, 183, 0, 47, 26, 182, 0, 54, 19, 1, 81]
abbrev dktJ12_checkLength_0 : List UInt8 := dkwJ12_checkLength_0 ++ dktJ12_checkLength_1
theorem dksJ12_checkLength_0 : cJ12_checkLength.data.toList.drop 0 = dktJ12_checkLength_0 := by decide +kernel
theorem dksJ12_checkLength_1 : cJ12_checkLength.data.toList.drop 23 = dktJ12_checkLength_1 := dk_seg dksJ12_checkLength_0 23 rfl rfl
theorem dJ12_checkLength_0 : decode cJ12_checkLength 0 = .ok (.iload_n 1, 1) := dk_27 (dk_at dksJ12_checkLength_0 0 rfl rfl)
theorem dJ12_checkLength_1 : decode cJ12_checkLength 1 = .ok (.iload_n 0, 1) := dk_26 (dk_at dksJ12_checkLength_0 1 rfl rfl)
theorem dJ12_checkLength_2 : decode cJ12_checkLength 2 = .ok (.if_icmp .ge 35, 3) := dk_162 0 35 (dk_at dksJ12_checkLength_0 2 rfl rfl)
theorem dJ12_checkLength_5 : decode cJ12_checkLength 5 = .ok (.new 43, 3) := dk_187 0 43 (dk_at dksJ12_checkLength_0 5 rfl rfl)
theorem dJ12_checkLength_8 : decode cJ12_checkLength 8 = .ok (.dup, 1) := dk_89 (dk_at dksJ12_checkLength_0 8 rfl rfl)
theorem dJ12_checkLength_9 : decode cJ12_checkLength 9 = .ok (.new 45, 3) := dk_187 0 45 (dk_at dksJ12_checkLength_0 9 rfl rfl)
theorem dJ12_checkLength_12 : decode cJ12_checkLength 12 = .ok (.dup, 1) := dk_89 (dk_at dksJ12_checkLength_0 12 rfl rfl)
theorem dJ12_checkLength_13 : decode cJ12_checkLength 13 = .ok (.invokespecial 47, 3) := dk_183 0 47 (dk_at dksJ12_checkLength_0 13 rfl rfl)
theorem dJ12_checkLength_16 : decode cJ12_checkLength 16 = .ok (.iload_n 0, 1) := dk_26 (dk_at dksJ12_checkLength_0 16 rfl rfl)
theorem dJ12_checkLength_17 : decode cJ12_checkLength 17 = .ok (.invokevirtual 54, 3) := dk_182 0 54 (dk_at dksJ12_checkLength_0 17 rfl rfl)
theorem dJ12_checkLength_20 : decode cJ12_checkLength 20 = .ok (.ldc_w 337, 3) := dk_19 1 81 (dk_at dksJ12_checkLength_0 20 rfl rfl)
theorem dJ12_checkLength_23 : decode cJ12_checkLength 23 = .ok (.invokevirtual 50, 3) := dk_182 0 50 (dk_at dksJ12_checkLength_1 0 rfl rfl)
theorem dJ12_checkLength_26 : decode cJ12_checkLength 26 = .ok (.iload_n 1, 1) := dk_27 (dk_at dksJ12_checkLength_1 3 rfl rfl)
theorem dJ12_checkLength_27 : decode cJ12_checkLength 27 = .ok (.invokevirtual 54, 3) := dk_182 0 54 (dk_at dksJ12_checkLength_1 4 rfl rfl)
theorem dJ12_checkLength_30 : decode cJ12_checkLength 30 = .ok (.invokevirtual 61, 3) := dk_182 0 61 (dk_at dksJ12_checkLength_1 7 rfl rfl)
theorem dJ12_checkLength_33 : decode cJ12_checkLength 33 = .ok (.invokespecial 65, 3) := dk_183 0 65 (dk_at dksJ12_checkLength_1 10 rfl rfl)
theorem dJ12_checkLength_36 : decode cJ12_checkLength 36 = .ok (.athrow, 1) := dk_191 (dk_at dksJ12_checkLength_1 13 rfl rfl)
theorem dJ12_checkLength_37 : decode cJ12_checkLength 37 = .ok (.return_, 1) := dk_177 (dk_at dksJ12_checkLength_1 14 rfl rfl)
abbrev cJ12_copyOf_4 : ByteArray := prog_45_method_124_code
def yJ12_copyOf_4 : MethodName := ⟨RJ12, "copyOf", "([JI)[J"⟩
def dkwJ12_copyOf_4_1 : List UInt8 := [27, 184, 1, 48, 184, 0, 150, 44, 176]
abbrev dktJ12_copyOf_4_1 : List UInt8 := dkwJ12_copyOf_4_1 ++ []
def dkwJ12_copyOf_4_0 : List UInt8 := [27, 42, 190, 160, 0, 11, 42, 182, 1, 63, 192, 1, 64, 176, 27, 188, 11, 77, 42, 3, 44, 3, 42, 190]
abbrev dktJ12_copyOf_4_0 : List UInt8 := dkwJ12_copyOf_4_0 ++ dktJ12_copyOf_4_1
theorem dksJ12_copyOf_4_0 : cJ12_copyOf_4.data.toList.drop 0 = dktJ12_copyOf_4_0 := by decide +kernel
theorem dksJ12_copyOf_4_1 : cJ12_copyOf_4.data.toList.drop 24 = dktJ12_copyOf_4_1 := dk_seg dksJ12_copyOf_4_0 24 rfl rfl
theorem dJ12_copyOf_4_0 : decode cJ12_copyOf_4 0 = .ok (.iload_n 1, 1) := dk_27 (dk_at dksJ12_copyOf_4_0 0 rfl rfl)
theorem dJ12_copyOf_4_1 : decode cJ12_copyOf_4 1 = .ok (.aload_n 0, 1) := dk_42 (dk_at dksJ12_copyOf_4_0 1 rfl rfl)
theorem dJ12_copyOf_4_2 : decode cJ12_copyOf_4 2 = .ok (.arraylength, 1) := dk_190 (dk_at dksJ12_copyOf_4_0 2 rfl rfl)
theorem dJ12_copyOf_4_3 : decode cJ12_copyOf_4 3 = .ok (.if_icmp .ne 11, 3) := dk_160 0 11 (dk_at dksJ12_copyOf_4_0 3 rfl rfl)
theorem dJ12_copyOf_4_6 : decode cJ12_copyOf_4 6 = .ok (.aload_n 0, 1) := dk_42 (dk_at dksJ12_copyOf_4_0 6 rfl rfl)
theorem dJ12_copyOf_4_7 : decode cJ12_copyOf_4 7 = .ok (.invokevirtual 319, 3) := dk_182 1 63 (dk_at dksJ12_copyOf_4_0 7 rfl rfl)
theorem dJ12_copyOf_4_10 : decode cJ12_copyOf_4 10 = .ok (.checkcast 320, 3) := dk_192 1 64 (dk_at dksJ12_copyOf_4_0 10 rfl rfl)
theorem dJ12_copyOf_4_13 : decode cJ12_copyOf_4 13 = .ok (.areturn, 1) := dk_176 (dk_at dksJ12_copyOf_4_0 13 rfl rfl)
theorem dJ12_copyOf_4_14 : decode cJ12_copyOf_4 14 = .ok (.iload_n 1, 1) := dk_27 (dk_at dksJ12_copyOf_4_0 14 rfl rfl)
theorem dJ12_copyOf_4_15 : decode cJ12_copyOf_4 15 = .ok (.newarray .long, 2) := dk_188_11 (dk_at dksJ12_copyOf_4_0 15 rfl rfl)
theorem dJ12_copyOf_4_17 : decode cJ12_copyOf_4 17 = .ok (.astore_n 2, 1) := dk_77 (dk_at dksJ12_copyOf_4_0 17 rfl rfl)
theorem dJ12_copyOf_4_18 : decode cJ12_copyOf_4 18 = .ok (.aload_n 0, 1) := dk_42 (dk_at dksJ12_copyOf_4_0 18 rfl rfl)
theorem dJ12_copyOf_4_19 : decode cJ12_copyOf_4 19 = .ok (.iconst 0, 1) := dk_3 (dk_at dksJ12_copyOf_4_0 19 rfl rfl)
theorem dJ12_copyOf_4_20 : decode cJ12_copyOf_4 20 = .ok (.aload_n 2, 1) := dk_44 (dk_at dksJ12_copyOf_4_0 20 rfl rfl)
theorem dJ12_copyOf_4_21 : decode cJ12_copyOf_4 21 = .ok (.iconst 0, 1) := dk_3 (dk_at dksJ12_copyOf_4_0 21 rfl rfl)
theorem dJ12_copyOf_4_22 : decode cJ12_copyOf_4 22 = .ok (.aload_n 0, 1) := dk_42 (dk_at dksJ12_copyOf_4_0 22 rfl rfl)
theorem dJ12_copyOf_4_23 : decode cJ12_copyOf_4 23 = .ok (.arraylength, 1) := dk_190 (dk_at dksJ12_copyOf_4_0 23 rfl rfl)
theorem dJ12_copyOf_4_24 : decode cJ12_copyOf_4 24 = .ok (.iload_n 1, 1) := dk_27 (dk_at dksJ12_copyOf_4_1 0 rfl rfl)
theorem dJ12_copyOf_4_25 : decode cJ12_copyOf_4 25 = .ok (.invokestatic 304, 3) := dk_184 1 48 (dk_at dksJ12_copyOf_4_1 1 rfl rfl)
theorem dJ12_copyOf_4_28 : decode cJ12_copyOf_4 28 = .ok (.invokestatic 150, 3) := dk_184 0 150 (dk_at dksJ12_copyOf_4_1 4 rfl rfl)
theorem dJ12_copyOf_4_31 : decode cJ12_copyOf_4 31 = .ok (.aload_n 2, 1) := dk_44 (dk_at dksJ12_copyOf_4_1 7 rfl rfl)
theorem dJ12_copyOf_4_32 : decode cJ12_copyOf_4 32 = .ok (.areturn, 1) := dk_176 (dk_at dksJ12_copyOf_4_1 8 rfl rfl)
theorem q95 : (Jvm.Cond.initialized "java/util/Arrays") ∈ lw_all := lw_g (lw_at lw_m1 18 rfl) rfl
theorem q399 : (Jvm.Cond.static ({ cls := "java/util/Arrays", name := "copyOf", desc := "([Ljava/lang/Object;I)[Ljava/lang/Object;" } : Jvm.MethodName)) ∈ lw_all := lw_g (lw_at lw_m2 82 rfl) rfl
theorem q400 : (Jvm.Cond.code ({ cls := "java/util/Arrays", name := "copyOf", desc := "([Ljava/lang/Object;I)[Ljava/lang/Object;" } : Jvm.MethodName) prog_45_method_119_code (2 : Nat) (Option.some (Jvm.ClassFile.FieldType.array (Jvm.ClassFile.FieldType.object "java/lang/Object")))) ∈ lw_all := lw_g (lw_at lw_m2 83 rfl) rfl
theorem q401 : (Jvm.Cond.methodLink "java/util/Arrays" (86 : Nat) ({ cls := "java/lang/Object", name := "getClass", desc := "()Ljava/lang/Class;" } : Jvm.MethodName)) ∈ lw_all := lw_g (lw_at lw_m2 84 rfl) rfl
theorem q428 : (Jvm.Cond.methodLink "java/util/Arrays" (300 : Nat) ({ cls := "java/util/Arrays", name := "copyOf", desc := "([Ljava/lang/Object;ILjava/lang/Class;)[Ljava/lang/Object;" } : Jvm.MethodName)) ∈ lw_all := lw_g (lw_at lw_m2 111 rfl) rfl
theorem q429 : (Jvm.Cond.static ({ cls := "java/util/Arrays", name := "copyOf", desc := "([Ljava/lang/Object;ILjava/lang/Class;)[Ljava/lang/Object;" } : Jvm.MethodName)) ∈ lw_all := lw_g (lw_at lw_m2 112 rfl) rfl
theorem q430 : (Jvm.Cond.code ({ cls := "java/util/Arrays", name := "copyOf", desc := "([Ljava/lang/Object;ILjava/lang/Class;)[Ljava/lang/Object;" } : Jvm.MethodName) prog_45_method_120_code (4 : Nat) (Option.some (Jvm.ClassFile.FieldType.array (Jvm.ClassFile.FieldType.object "java/lang/Object")))) ∈ lw_all := lw_g (lw_at lw_m2 113 rfl) rfl
theorem q431 : (Jvm.Cond.classLink "java/util/Arrays" (110 : Nat) "[Ljava/lang/Object;") ∈ lw_all := lw_g (lw_at lw_m2 114 rfl) rfl
theorem q432 : (Jvm.Cond.classLink "java/util/Arrays" (2 : Nat) "java/lang/Object") ∈ lw_all := lw_g (lw_at lw_m2 115 rfl) rfl
theorem q433 : (Jvm.Cond.methodLink "java/util/Arrays" (304 : Nat) ({ cls := "java/lang/Math", name := "min", desc := "(II)I" } : Jvm.MethodName)) ∈ lw_all := lw_g (lw_at lw_m2 116 rfl) rfl
theorem q436 : (Jvm.Cond.methodLink "java/util/Arrays" (150 : Nat) ({ cls := "java/lang/System", name := "arraycopy", desc := "(Ljava/lang/Object;ILjava/lang/Object;II)V" } : Jvm.MethodName)) ∈ lw_all := lw_g (lw_at lw_m2 119 rfl) rfl
theorem q565 : (Jvm.Cond.static ({ cls := "java/util/Arrays", name := "copyOf", desc := "([BI)[B" } : Jvm.MethodName)) ∈ lw_all := lw_g (lw_at lw_m3 8 rfl) rfl
theorem q566 : (Jvm.Cond.code ({ cls := "java/util/Arrays", name := "copyOf", desc := "([BI)[B" } : Jvm.MethodName) prog_45_method_121_code (3 : Nat) (Option.some (Jvm.ClassFile.FieldType.array Jvm.ClassFile.FieldType.byte))) ∈ lw_all := lw_g (lw_at lw_m3 9 rfl) rfl
theorem q567 : (Jvm.Cond.methodLink "java/util/Arrays" (310 : Nat) ({ cls := "[B", name := "clone", desc := "()Ljava/lang/Object;" } : Jvm.MethodName)) ∈ lw_all := lw_g (lw_at lw_m3 10 rfl) rfl
theorem q573 : (Jvm.Cond.classLink "java/util/Arrays" (311 : Nat) "[B") ∈ lw_all := lw_g (lw_at lw_m3 16 rfl) rfl
theorem q701 : (Jvm.Cond.static ({ cls := "java/util/Arrays", name := "copyOfRange", desc := "([BII)[B" } : Jvm.MethodName)) ∈ lw_all := lw_g (lw_at lw_m3 144 rfl) rfl
theorem q702 : (Jvm.Cond.code ({ cls := "java/util/Arrays", name := "copyOfRange", desc := "([BII)[B" } : Jvm.MethodName) prog_45_method_132_code (3 : Nat) (Option.some (Jvm.ClassFile.FieldType.array Jvm.ClassFile.FieldType.byte))) ∈ lw_all := lw_g (lw_at lw_m3 145 rfl) rfl
theorem q703 : (Jvm.Cond.methodLink "java/util/Arrays" (339 : Nat) ({ cls := "java/util/Arrays", name := "copyOfRangeByte", desc := "([BII)[B" } : Jvm.MethodName)) ∈ lw_all := lw_g (lw_at lw_m3 146 rfl) rfl
theorem q704 : (Jvm.Cond.static ({ cls := "java/util/Arrays", name := "copyOfRangeByte", desc := "([BII)[B" } : Jvm.MethodName)) ∈ lw_all := lw_g (lw_at lw_m3 147 rfl) rfl
theorem q705 : (Jvm.Cond.code ({ cls := "java/util/Arrays", name := "copyOfRangeByte", desc := "([BII)[B" } : Jvm.MethodName) prog_45_method_133_code (5 : Nat) (Option.some (Jvm.ClassFile.FieldType.array Jvm.ClassFile.FieldType.byte))) ∈ lw_all := lw_g (lw_at lw_m3 148 rfl) rfl
theorem q706 : (Jvm.Cond.methodLink "java/util/Arrays" (343 : Nat) ({ cls := "java/util/Arrays", name := "checkLength", desc := "(II)V" } : Jvm.MethodName)) ∈ lw_all := lw_g (lw_at lw_m3 149 rfl) rfl
theorem q707 : (Jvm.Cond.static ({ cls := "java/util/Arrays", name := "checkLength", desc := "(II)V" } : Jvm.MethodName)) ∈ lw_all := lw_g (lw_at lw_m3 150 rfl) rfl
theorem q708 : (Jvm.Cond.code ({ cls := "java/util/Arrays", name := "checkLength", desc := "(II)V" } : Jvm.MethodName) prog_45_method_131_code (2 : Nat) (Option.none : Option Jvm.ClassFile.FieldType)) ∈ lw_all := lw_g (lw_at lw_m3 151 rfl) rfl
theorem q709 : (Jvm.Cond.classLink "java/util/Arrays" (43 : Nat) "java/lang/IllegalArgumentException") ∈ lw_all := lw_g (lw_at lw_m3 152 rfl) rfl
theorem q718 : (Jvm.Cond.classLink "java/util/Arrays" (45 : Nat) "java/lang/StringBuilder") ∈ lw_all := lw_g (lw_at lw_m3 161 rfl) rfl
theorem q719 : (Jvm.Cond.methodLink "java/util/Arrays" (47 : Nat) ({ cls := "java/lang/StringBuilder", name := "<init>", desc := "()V" } : Jvm.MethodName)) ∈ lw_all := lw_g (lw_at lw_m3 162 rfl) rfl
theorem q720 : (Jvm.Cond.methodLink "java/util/Arrays" (54 : Nat) ({ cls := "java/lang/StringBuilder", name := "append", desc := "(I)Ljava/lang/StringBuilder;" } : Jvm.MethodName)) ∈ lw_all := lw_g (lw_at lw_m3 163 rfl) rfl
theorem q721 : (Jvm.Cond.stringRef "java/util/Arrays" (337 : Nat) " > ") ∈ lw_tbl := lw_at lw_m3 164 rfl
theorem q722 : (Jvm.Cond.methodLink "java/util/Arrays" (50 : Nat) ({ cls := "java/lang/StringBuilder", name := "append", desc := "(Ljava/lang/String;)Ljava/lang/StringBuilder;" } : Jvm.MethodName)) ∈ lw_all := lw_g (lw_at lw_m3 165 rfl) rfl
theorem q723 : (Jvm.Cond.methodLink "java/util/Arrays" (61 : Nat) ({ cls := "java/lang/StringBuilder", name := "toString", desc := "()Ljava/lang/String;" } : Jvm.MethodName)) ∈ lw_all := lw_g (lw_at lw_m3 166 rfl) rfl
theorem q724 : (Jvm.Cond.methodLink "java/util/Arrays" (65 : Nat) ({ cls := "java/lang/IllegalArgumentException", name := "<init>", desc := "(Ljava/lang/String;)V" } : Jvm.MethodName)) ∈ lw_all := lw_g (lw_at lw_m3 167 rfl) rfl
theorem q889 : (Jvm.Cond.static ({ cls := "java/util/Arrays", name := "copyOf", desc := "([JI)[J" } : Jvm.MethodName)) ∈ lw_all := lw_g (lw_at lw_m4 92 rfl) rfl
theorem q890 : (Jvm.Cond.code ({ cls := "java/util/Arrays", name := "copyOf", desc := "([JI)[J" } : Jvm.MethodName) prog_45_method_124_code (3 : Nat) (Option.some (Jvm.ClassFile.FieldType.array Jvm.ClassFile.FieldType.long))) ∈ lw_all := lw_g (lw_at lw_m4 93 rfl) rfl
theorem q891 : (Jvm.Cond.methodLink "java/util/Arrays" (319 : Nat) ({ cls := "[J", name := "clone", desc := "()Ljava/lang/Object;" } : Jvm.MethodName)) ∈ lw_all := lw_g (lw_at lw_m4 94 rfl) rfl
theorem q895 : (Jvm.Cond.classLink "java/util/Arrays" (320 : Nat) "[J") ∈ lw_all := lw_g (lw_at lw_m4 98 rfl) rfl

/-! java/util/Objects -/
set_option maxRecDepth 100000
def RJ13 : String := "java/util/Objects"
abbrev cJ13_checkIndex : ByteArray := prog_51_method_17_code
def yJ13_checkIndex : MethodName := ⟨RJ13, "checkIndex", "(II)I"⟩
def dkwJ13_checkIndex_0 : List UInt8 := [26, 27, 1, 184, 0, 105, 172]
abbrev dktJ13_checkIndex_0 : List UInt8 := dkwJ13_checkIndex_0 ++ []
theorem dksJ13_checkIndex_0 : cJ13_checkIndex.data.toList.drop 0 = dktJ13_checkIndex_0 := by decide +kernel
theorem dJ13_checkIndex_0 : decode cJ13_checkIndex 0 = .ok (.iload_n 0, 1) := dk_26 (dk_at dksJ13_checkIndex_0 0 rfl rfl)
theorem dJ13_checkIndex_1 : decode cJ13_checkIndex 1 = .ok (.iload_n 1, 1) := dk_27 (dk_at dksJ13_checkIndex_0 1 rfl rfl)
theorem dJ13_checkIndex_2 : decode cJ13_checkIndex 2 = .ok (.aconst_null, 1) := dk_1 (dk_at dksJ13_checkIndex_0 2 rfl rfl)
theorem dJ13_checkIndex_3 : decode cJ13_checkIndex 3 = .ok (.invokestatic 105, 3) := dk_184 0 105 (dk_at dksJ13_checkIndex_0 3 rfl rfl)
theorem dJ13_checkIndex_6 : decode cJ13_checkIndex 6 = .ok (.ireturn, 1) := dk_172 (dk_at dksJ13_checkIndex_0 6 rfl rfl)
theorem q97 : (Jvm.Cond.initialized "java/util/Objects") ∈ lw_all := lw_g (lw_at lw_m1 20 rfl) rfl
theorem q985 : (Jvm.Cond.static ({ cls := "java/util/Objects", name := "checkIndex", desc := "(II)I" } : Jvm.MethodName)) ∈ lw_all := lw_g (lw_at lw_m4 188 rfl) rfl
theorem q986 : (Jvm.Cond.code ({ cls := "java/util/Objects", name := "checkIndex", desc := "(II)I" } : Jvm.MethodName) prog_51_method_17_code (2 : Nat) (Option.some Jvm.ClassFile.FieldType.int)) ∈ lw_all := lw_g (lw_at lw_m4 189 rfl) rfl
theorem q987 : (Jvm.Cond.methodLink "java/util/Objects" (105 : Nat) ({ cls := "jdk/internal/util/Preconditions", name := "checkIndex", desc := "(IILjava/util/function/BiFunction;)I" } : Jvm.MethodName)) ∈ lw_all := lw_g (lw_at lw_m4 190 rfl) rfl

/-! jdk/internal/util/Preconditions -/
set_option maxRecDepth 100000
def RJ14 : String := "jdk/internal/util/Preconditions"
abbrev cJ14_checkFromToIndex : ByteArray := prog_56_method_12_code
def yJ14_checkFromToIndex : MethodName := ⟨RJ14, "checkFromToIndex", "(IIILjava/util/function/BiFunction;)I"⟩
def dkwJ14_checkFromToIndex_0 : List UInt8 := [26, 155, 0, 13, 26, 27, 163, 0, 8, 27, 28, 164, 0, 11, 45, 26, 27, 28, 184, 0, 99, 191, 26, 172]
abbrev dktJ14_checkFromToIndex_0 : List UInt8 := dkwJ14_checkFromToIndex_0 ++ []
theorem dksJ14_checkFromToIndex_0 : cJ14_checkFromToIndex.data.toList.drop 0 = dktJ14_checkFromToIndex_0 := by decide +kernel
theorem dJ14_checkFromToIndex_0 : decode cJ14_checkFromToIndex 0 = .ok (.iload_n 0, 1) := dk_26 (dk_at dksJ14_checkFromToIndex_0 0 rfl rfl)
theorem dJ14_checkFromToIndex_1 : decode cJ14_checkFromToIndex 1 = .ok (.ifCond .lt 13, 3) := dk_155 0 13 (dk_at dksJ14_checkFromToIndex_0 1 rfl rfl)
theorem dJ14_checkFromToIndex_4 : decode cJ14_checkFromToIndex 4 = .ok (.iload_n 0, 1) := dk_26 (dk_at dksJ14_checkFromToIndex_0 4 rfl rfl)
theorem dJ14_checkFromToIndex_5 : decode cJ14_checkFromToIndex 5 = .ok (.iload_n 1, 1) := dk_27 (dk_at dksJ14_checkFromToIndex_0 5 rfl rfl)
theorem dJ14_checkFromToIndex_6 : decode cJ14_checkFromToIndex 6 = .ok (.if_icmp .gt 8, 3) := dk_163 0 8 (dk_at dksJ14_checkFromToIndex_0 6 rfl rfl)
theorem dJ14_checkFromToIndex_9 : decode cJ14_checkFromToIndex 9 = .ok (.iload_n 1, 1) := dk_27 (dk_at dksJ14_checkFromToIndex_0 9 rfl rfl)
theorem dJ14_checkFromToIndex_10 : decode cJ14_checkFromToIndex 10 = .ok (.iload_n 2, 1) := dk_28 (dk_at dksJ14_checkFromToIndex_0 10 rfl rfl)
theorem dJ14_checkFromToIndex_11 : decode cJ14_checkFromToIndex 11 = .ok (.if_icmp .le 11, 3) := dk_164 0 11 (dk_at dksJ14_checkFromToIndex_0 11 rfl rfl)
theorem dJ14_checkFromToIndex_14 : decode cJ14_checkFromToIndex 14 = .ok (.aload_n 3, 1) := dk_45 (dk_at dksJ14_checkFromToIndex_0 14 rfl rfl)
theorem dJ14_checkFromToIndex_15 : decode cJ14_checkFromToIndex 15 = .ok (.iload_n 0, 1) := dk_26 (dk_at dksJ14_checkFromToIndex_0 15 rfl rfl)
theorem dJ14_checkFromToIndex_16 : decode cJ14_checkFromToIndex 16 = .ok (.iload_n 1, 1) := dk_27 (dk_at dksJ14_checkFromToIndex_0 16 rfl rfl)
theorem dJ14_checkFromToIndex_17 : decode cJ14_checkFromToIndex 17 = .ok (.iload_n 2, 1) := dk_28 (dk_at dksJ14_checkFromToIndex_0 17 rfl rfl)
theorem dJ14_checkFromToIndex_18 : decode cJ14_checkFromToIndex 18 = .ok (.invokestatic 99, 3) := dk_184 0 99 (dk_at dksJ14_checkFromToIndex_0 18 rfl rfl)
theorem dJ14_checkFromToIndex_21 : decode cJ14_checkFromToIndex 21 = .ok (.athrow, 1) := dk_191 (dk_at dksJ14_checkFromToIndex_0 21 rfl rfl)
theorem dJ14_checkFromToIndex_22 : decode cJ14_checkFromToIndex 22 = .ok (.iload_n 0, 1) := dk_26 (dk_at dksJ14_checkFromToIndex_0 22 rfl rfl)
theorem dJ14_checkFromToIndex_23 : decode cJ14_checkFromToIndex 23 = .ok (.ireturn, 1) := dk_172 (dk_at dksJ14_checkFromToIndex_0 23 rfl rfl)
abbrev cJ14_checkFromIndexSize : ByteArray := prog_56_method_13_code
def yJ14_checkFromIndexSize : MethodName := ⟨RJ14, "checkFromIndexSize", "(IIILjava/util/function/BiFunction;)I"⟩
def dkwJ14_checkFromIndexSize_1 : List UInt8 := [172]
abbrev dktJ14_checkFromIndexSize_1 : List UInt8 := dkwJ14_checkFromIndexSize_1 ++ []
def dkwJ14_checkFromIndexSize_0 : List UInt8 := [28, 26, 128, 27, 128, 155, 0, 10, 27, 28, 26, 100, 164, 0, 11, 45, 26, 27, 28, 184, 0, 103, 191, 26]
abbrev dktJ14_checkFromIndexSize_0 : List UInt8 := dkwJ14_checkFromIndexSize_0 ++ dktJ14_checkFromIndexSize_1
theorem dksJ14_checkFromIndexSize_0 : cJ14_checkFromIndexSize.data.toList.drop 0 = dktJ14_checkFromIndexSize_0 := by decide +kernel
theorem dksJ14_checkFromIndexSize_1 : cJ14_checkFromIndexSize.data.toList.drop 24 = dktJ14_checkFromIndexSize_1 := dk_seg dksJ14_checkFromIndexSize_0 24 rfl rfl
theorem dJ14_checkFromIndexSize_0 : decode cJ14_checkFromIndexSize 0 = .ok (.iload_n 2, 1) := dk_28 (dk_at dksJ14_checkFromIndexSize_0 0 rfl rfl)
theorem dJ14_checkFromIndexSize_1 : decode cJ14_checkFromIndexSize 1 = .ok (.iload_n 0, 1) := dk_26 (dk_at dksJ14_checkFromIndexSize_0 1 rfl rfl)
theorem dJ14_checkFromIndexSize_2 : decode cJ14_checkFromIndexSize 2 = .ok (.ior, 1) := dk_128 (dk_at dksJ14_checkFromIndexSize_0 2 rfl rfl)
theorem dJ14_checkFromIndexSize_3 : decode cJ14_checkFromIndexSize 3 = .ok (.iload_n 1, 1) := dk_27 (dk_at dksJ14_checkFromIndexSize_0 3 rfl rfl)
theorem dJ14_checkFromIndexSize_4 : decode cJ14_checkFromIndexSize 4 = .ok (.ior, 1) := dk_128 (dk_at dksJ14_checkFromIndexSize_0 4 rfl rfl)
theorem dJ14_checkFromIndexSize_5 : decode cJ14_checkFromIndexSize 5 = .ok (.ifCond .lt 10, 3) := dk_155 0 10 (dk_at dksJ14_checkFromIndexSize_0 5 rfl rfl)
theorem dJ14_checkFromIndexSize_8 : decode cJ14_checkFromIndexSize 8 = .ok (.iload_n 1, 1) := dk_27 (dk_at dksJ14_checkFromIndexSize_0 8 rfl rfl)
theorem dJ14_checkFromIndexSize_9 : decode cJ14_checkFromIndexSize 9 = .ok (.iload_n 2, 1) := dk_28 (dk_at dksJ14_checkFromIndexSize_0 9 rfl rfl)
theorem dJ14_checkFromIndexSize_10 : decode cJ14_checkFromIndexSize 10 = .ok (.iload_n 0, 1) := dk_26 (dk_at dksJ14_checkFromIndexSize_0 10 rfl rfl)
theorem dJ14_checkFromIndexSize_11 : decode cJ14_checkFromIndexSize 11 = .ok (.isub, 1) := dk_100 (dk_at dksJ14_checkFromIndexSize_0 11 rfl rfl)
theorem dJ14_checkFromIndexSize_12 : decode cJ14_checkFromIndexSize 12 = .ok (.if_icmp .le 11, 3) := dk_164 0 11 (dk_at dksJ14_checkFromIndexSize_0 12 rfl rfl)
theorem dJ14_checkFromIndexSize_15 : decode cJ14_checkFromIndexSize 15 = .ok (.aload_n 3, 1) := dk_45 (dk_at dksJ14_checkFromIndexSize_0 15 rfl rfl)
theorem dJ14_checkFromIndexSize_16 : decode cJ14_checkFromIndexSize 16 = .ok (.iload_n 0, 1) := dk_26 (dk_at dksJ14_checkFromIndexSize_0 16 rfl rfl)
theorem dJ14_checkFromIndexSize_17 : decode cJ14_checkFromIndexSize 17 = .ok (.iload_n 1, 1) := dk_27 (dk_at dksJ14_checkFromIndexSize_0 17 rfl rfl)
theorem dJ14_checkFromIndexSize_18 : decode cJ14_checkFromIndexSize 18 = .ok (.iload_n 2, 1) := dk_28 (dk_at dksJ14_checkFromIndexSize_0 18 rfl rfl)
theorem dJ14_checkFromIndexSize_19 : decode cJ14_checkFromIndexSize 19 = .ok (.invokestatic 103, 3) := dk_184 0 103 (dk_at dksJ14_checkFromIndexSize_0 19 rfl rfl)
theorem dJ14_checkFromIndexSize_22 : decode cJ14_checkFromIndexSize 22 = .ok (.athrow, 1) := dk_191 (dk_at dksJ14_checkFromIndexSize_0 22 rfl rfl)
theorem dJ14_checkFromIndexSize_23 : decode cJ14_checkFromIndexSize 23 = .ok (.iload_n 0, 1) := dk_26 (dk_at dksJ14_checkFromIndexSize_0 23 rfl rfl)
theorem dJ14_checkFromIndexSize_24 : decode cJ14_checkFromIndexSize 24 = .ok (.ireturn, 1) := dk_172 (dk_at dksJ14_checkFromIndexSize_1 0 rfl rfl)
abbrev cJ14_checkIndex : ByteArray := prog_56_method_11_code
def yJ14_checkIndex : MethodName := ⟨RJ14, "checkIndex", "(IILjava/util/function/BiFunction;)I"⟩
def dkwJ14_checkIndex_0 : List UInt8 := [26, 155, 0, 8, 26, 27, 161, 0, 10, 44, 26, 27, 184, 0, 95, 191, 26, 172]
abbrev dktJ14_checkIndex_0 : List UInt8 := dkwJ14_checkIndex_0 ++ []
theorem dksJ14_checkIndex_0 : cJ14_checkIndex.data.toList.drop 0 = dktJ14_checkIndex_0 := by decide +kernel
theorem dJ14_checkIndex_0 : decode cJ14_checkIndex 0 = .ok (.iload_n 0, 1) := dk_26 (dk_at dksJ14_checkIndex_0 0 rfl rfl)
theorem dJ14_checkIndex_1 : decode cJ14_checkIndex 1 = .ok (.ifCond .lt 8, 3) := dk_155 0 8 (dk_at dksJ14_checkIndex_0 1 rfl rfl)
theorem dJ14_checkIndex_4 : decode cJ14_checkIndex 4 = .ok (.iload_n 0, 1) := dk_26 (dk_at dksJ14_checkIndex_0 4 rfl rfl)
theorem dJ14_checkIndex_5 : decode cJ14_checkIndex 5 = .ok (.iload_n 1, 1) := dk_27 (dk_at dksJ14_checkIndex_0 5 rfl rfl)
theorem dJ14_checkIndex_6 : decode cJ14_checkIndex 6 = .ok (.if_icmp .lt 10, 3) := dk_161 0 10 (dk_at dksJ14_checkIndex_0 6 rfl rfl)
theorem dJ14_checkIndex_9 : decode cJ14_checkIndex 9 = .ok (.aload_n 2, 1) := dk_44 (dk_at dksJ14_checkIndex_0 9 rfl rfl)
theorem dJ14_checkIndex_10 : decode cJ14_checkIndex 10 = .ok (.iload_n 0, 1) := dk_26 (dk_at dksJ14_checkIndex_0 10 rfl rfl)
theorem dJ14_checkIndex_11 : decode cJ14_checkIndex 11 = .ok (.iload_n 1, 1) := dk_27 (dk_at dksJ14_checkIndex_0 11 rfl rfl)
theorem dJ14_checkIndex_12 : decode cJ14_checkIndex 12 = .ok (.invokestatic 95, 3) := dk_184 0 95 (dk_at dksJ14_checkIndex_0 12 rfl rfl)
theorem dJ14_checkIndex_15 : decode cJ14_checkIndex 15 = .ok (.athrow, 1) := dk_191 (dk_at dksJ14_checkIndex_0 15 rfl rfl)
theorem dJ14_checkIndex_16 : decode cJ14_checkIndex 16 = .ok (.iload_n 0, 1) := dk_26 (dk_at dksJ14_checkIndex_0 16 rfl rfl)
theorem dJ14_checkIndex_17 : decode cJ14_checkIndex 17 = .ok (.ireturn, 1) := dk_172 (dk_at dksJ14_checkIndex_0 17 rfl rfl)
theorem q98 : (Jvm.Cond.initialized "jdk/internal/util/Preconditions") ∈ lw_all := lw_g (lw_at lw_m1 21 rfl) rfl
theorem q592 : (Jvm.Cond.laysStatic "jdk/internal/util/Preconditions" "SIOOBE_FORMATTER" "Ljava/util/function/BiFunction;") ∈ lw_tbl := lw_at lw_m3 35 rfl
theorem q594 : (Jvm.Cond.static ({ cls := "jdk/internal/util/Preconditions", name := "checkFromToIndex", desc := "(IIILjava/util/function/BiFunction;)I" } : Jvm.MethodName)) ∈ lw_all := lw_g (lw_at lw_m3 37 rfl) rfl
theorem q595 : (Jvm.Cond.code ({ cls := "jdk/internal/util/Preconditions", name := "checkFromToIndex", desc := "(IIILjava/util/function/BiFunction;)I" } : Jvm.MethodName) prog_56_method_12_code (4 : Nat) (Option.some Jvm.ClassFile.FieldType.int)) ∈ lw_all := lw_g (lw_at lw_m3 38 rfl) rfl
theorem q640 : (Jvm.Cond.static ({ cls := "jdk/internal/util/Preconditions", name := "checkFromIndexSize", desc := "(IIILjava/util/function/BiFunction;)I" } : Jvm.MethodName)) ∈ lw_all := lw_g (lw_at lw_m3 83 rfl) rfl
theorem q641 : (Jvm.Cond.code ({ cls := "jdk/internal/util/Preconditions", name := "checkFromIndexSize", desc := "(IIILjava/util/function/BiFunction;)I" } : Jvm.MethodName) prog_56_method_13_code (4 : Nat) (Option.some Jvm.ClassFile.FieldType.int)) ∈ lw_all := lw_g (lw_at lw_m3 84 rfl) rfl
theorem q988 : (Jvm.Cond.static ({ cls := "jdk/internal/util/Preconditions", name := "checkIndex", desc := "(IILjava/util/function/BiFunction;)I" } : Jvm.MethodName)) ∈ lw_all := lw_g (lw_at lw_m4 191 rfl) rfl
theorem q989 : (Jvm.Cond.code ({ cls := "jdk/internal/util/Preconditions", name := "checkIndex", desc := "(IILjava/util/function/BiFunction;)I" } : Jvm.MethodName) prog_56_method_11_code (3 : Nat) (Option.some Jvm.ClassFile.FieldType.int)) ∈ lw_all := lw_g (lw_at lw_m4 192 rfl) rfl

/-! java/lang/IndexOutOfBoundsException -/
set_option maxRecDepth 100000
def RJ15 : String := "java/lang/IndexOutOfBoundsException"
def TJ15 : u_T := fun k => match k with
  | 0 => ("java/lang/Throwable", "cause", "Ljava/lang/Throwable;", false)
  | 1 => ("java/lang/Throwable", "stackTrace", "[Ljava/lang/StackTraceElement;", false)
  | 2 => ("java/lang/Throwable", "suppressedExceptions", "Ljava/util/List;", false)
  | 3 => ("java/lang/Throwable", "detailMessage", "Ljava/lang/String;", false)
  | 4 => ("java/lang/Throwable", "backtrace", "Ljava/lang/Object;", false)
  | _ => ("java/lang/Throwable", "depth", "I", false)
def tyJ15 : Nat → FieldType := fun k => match k with
  | 0 => .object "java/lang/Throwable"
  | 1 => .array (.object "java/lang/StackTraceElement")
  | 2 => .object "java/util/List"
  | 3 => .object "java/lang/String"
  | 4 => .object "java/lang/Object"
  | _ => .int
abbrev wsJ150 : List Cond := u_ws RJ15 TJ15 6
theorem nmJ15 : ∀ a, a < 6 → ∀ b, b < 6 → a ≠ b → (TJ15 a).2.1 ≠ (TJ15 b).2.1 := by decide +kernel
theorem tyJ15_ok : ∀ k, k < 6 → parseFieldDescriptor (TJ15 k).2.2.1 = some (tyJ15 k) := by decide +kernel
abbrev cJ15_init : ByteArray := prog_24_method_2_code
def yJ15_init : MethodName := ⟨RJ15, "<init>", "(Ljava/lang/String;)V"⟩
def dkwJ15_init_0 : List UInt8 := [42, 43, 183, 0, 7, 177]
abbrev dktJ15_init_0 : List UInt8 := dkwJ15_init_0 ++ []
theorem dksJ15_init_0 : cJ15_init.data.toList.drop 0 = dktJ15_init_0 := by decide +kernel
theorem dJ15_init_0 : decode cJ15_init 0 = .ok (.aload_n 0, 1) := dk_42 (dk_at dksJ15_init_0 0 rfl rfl)
theorem dJ15_init_1 : decode cJ15_init 1 = .ok (.aload_n 1, 1) := dk_43 (dk_at dksJ15_init_0 1 rfl rfl)
theorem dJ15_init_2 : decode cJ15_init 2 = .ok (.invokespecial 7, 3) := dk_183 0 7 (dk_at dksJ15_init_0 2 rfl rfl)
theorem dJ15_init_5 : decode cJ15_init 5 = .ok (.return_, 1) := dk_177 (dk_at dksJ15_init_0 5 rfl rfl)
abbrev cJ15_init_2 : ByteArray := prog_24_method_1_code
def yJ15_init_2 : MethodName := ⟨RJ15, "<init>", "()V"⟩
theorem dJ15_init_2_0 : decode cJ15_init_2 0 = .ok (.aload_n 0, 1) := by decide +kernel
theorem dJ15_init_2_1 : decode cJ15_init_2 1 = .ok (.invokespecial 1, 3) := by decide +kernel
theorem dJ15_init_2_4 : decode cJ15_init_2 4 = .ok (.return_, 1) := by decide +kernel
theorem q99 : (Jvm.Cond.initialized "java/lang/IndexOutOfBoundsException") ∈ lw_all := lw_g (lw_at lw_m1 22 rfl) rfl
theorem q361 : (Jvm.Cond.selects "java/lang/IndexOutOfBoundsException" ({ cls := "java/lang/Throwable", name := "fillInStackTrace", desc := "()Ljava/lang/Throwable;" } : Jvm.MethodName) ({ cls := "java/lang/Throwable", name := "fillInStackTrace", desc := "()Ljava/lang/Throwable;" } : Jvm.MethodName)) ∈ lw_all := lw_g (lw_at lw_m2 44 rfl) rfl
theorem q418 : (Jvm.Cond.selects "java/lang/IndexOutOfBoundsException" ({ cls := "java/lang/Object", name := "getClass", desc := "()Ljava/lang/Class;" } : Jvm.MethodName) ({ cls := "java/lang/Object", name := "getClass", desc := "()Ljava/lang/Class;" } : Jvm.MethodName)) ∈ lw_all := lw_g (lw_at lw_m2 101 rfl) rfl
theorem q494 : (Jvm.Cond.instantiable "java/lang/IndexOutOfBoundsException" (6 : Nat)) ∈ lw_all := lw_g (lw_at lw_m2 177 rfl) rfl
theorem q495 : (Jvm.Cond.castable "java/lang/IndexOutOfBoundsException" "java/lang/IndexOutOfBoundsException") ∈ lw_tbl := lw_at lw_m2 178 rfl
theorem q496 : (Jvm.Cond.selects "java/lang/IndexOutOfBoundsException" ({ cls := "java/lang/Throwable", name := "fillInStackTrace", desc := "(I)Ljava/lang/Throwable;" } : Jvm.MethodName) ({ cls := "java/lang/Throwable", name := "fillInStackTrace", desc := "(I)Ljava/lang/Throwable;" } : Jvm.MethodName)) ∈ lw_all := lw_g (lw_at lw_m2 179 rfl) rfl
theorem q497 : (Jvm.Cond.lays "java/lang/IndexOutOfBoundsException" "java/lang/Throwable" "cause" "Ljava/lang/Throwable;") ∈ lw_all := lw_g (lw_at lw_m2 180 rfl) rfl
theorem q498 : (Jvm.Cond.lays "java/lang/IndexOutOfBoundsException" "java/lang/Throwable" "stackTrace" "[Ljava/lang/StackTraceElement;") ∈ lw_all := lw_g (lw_at lw_m2 181 rfl) rfl
theorem q499 : (Jvm.Cond.lays "java/lang/IndexOutOfBoundsException" "java/lang/Throwable" "suppressedExceptions" "Ljava/util/List;") ∈ lw_all := lw_g (lw_at lw_m2 182 rfl) rfl
theorem q500 : (Jvm.Cond.lays "java/lang/IndexOutOfBoundsException" "java/lang/Throwable" "detailMessage" "Ljava/lang/String;") ∈ lw_all := lw_g (lw_at lw_m2 183 rfl) rfl
theorem q501 : (Jvm.Cond.lays "java/lang/IndexOutOfBoundsException" "java/lang/Throwable" "backtrace" "Ljava/lang/Object;") ∈ lw_all := lw_g (lw_at lw_m2 184 rfl) rfl
theorem q755 : (Jvm.Cond.instanceMethod ({ cls := "java/lang/IndexOutOfBoundsException", name := "<init>", desc := "(Ljava/lang/String;)V" } : Jvm.MethodName)) ∈ lw_all := lw_g (lw_at lw_m3 198 rfl) rfl
theorem q756 : (Jvm.Cond.code ({ cls := "java/lang/IndexOutOfBoundsException", name := "<init>", desc := "(Ljava/lang/String;)V" } : Jvm.MethodName) prog_24_method_2_code (2 : Nat) (Option.none : Option Jvm.ClassFile.FieldType)) ∈ lw_all := lw_g (lw_at lw_m3 199 rfl) rfl
theorem q757 : (Jvm.Cond.methodLink "java/lang/IndexOutOfBoundsException" (7 : Nat) ({ cls := "java/lang/RuntimeException", name := "<init>", desc := "(Ljava/lang/String;)V" } : Jvm.MethodName)) ∈ lw_all := lw_g (lw_at lw_m3 200 rfl) rfl
theorem q758 : (Jvm.Cond.lays "java/lang/IndexOutOfBoundsException" "java/lang/Throwable" "depth" "I") ∈ lw_all := lw_g (lw_at lw_m3 201 rfl) rfl
theorem q759 : (Jvm.Cond.superclass "java/lang/IndexOutOfBoundsException" "java/lang/RuntimeException") ∈ lw_all := lw_g (lw_at lw_m3 202 rfl) rfl
theorem q835 : (Jvm.Cond.selects "java/lang/IndexOutOfBoundsException" ({ cls := "java/lang/Object", name := "equals", desc := "(Ljava/lang/Object;)Z" } : Jvm.MethodName) ({ cls := "java/lang/Object", name := "equals", desc := "(Ljava/lang/Object;)Z" } : Jvm.MethodName)) ∈ lw_all := lw_g (lw_at lw_m4 38 rfl) rfl
theorem q1225 : (Jvm.Cond.declares ({ cls := "java/lang/IndexOutOfBoundsException", name := "<init>", desc := "()V" } : Jvm.MethodName)) ∈ lw_tbl := lw_at lw_m5 188 rfl
theorem q1226 : (Jvm.Cond.declares ({ cls := "java/lang/IndexOutOfBoundsException", name := "<init>", desc := "(Ljava/lang/String;)V" } : Jvm.MethodName)) ∈ lw_tbl := lw_at lw_m5 189 rfl
theorem q1242 : (Jvm.Cond.instanceMethod ({ cls := "java/lang/IndexOutOfBoundsException", name := "<init>", desc := "()V" } : Jvm.MethodName)) ∈ lw_all := lw_g (lw_at lw_m5 205 rfl) rfl
theorem q1243 : (Jvm.Cond.code ({ cls := "java/lang/IndexOutOfBoundsException", name := "<init>", desc := "()V" } : Jvm.MethodName) prog_24_method_1_code (1 : Nat) (Option.none : Option Jvm.ClassFile.FieldType)) ∈ lw_all := lw_g (lw_at lw_m5 206 rfl) rfl
theorem q1244 : (Jvm.Cond.methodLink "java/lang/IndexOutOfBoundsException" (1 : Nat) ({ cls := "java/lang/RuntimeException", name := "<init>", desc := "()V" } : Jvm.MethodName)) ∈ lw_all := lw_g (lw_at lw_m5 207 rfl) rfl
theorem q2199 : (Jvm.Cond.castable "java/lang/IndexOutOfBoundsException" "java/lang/Object") ∈ lw_tbl := lw_at lw_m9 202 rfl
theorem in_J15 : ∀ w ∈ wsJ150, w ∈ lw_all := lw_in wsJ150 [497, 498, 499, 500, 501, 758] (by decide +kernel) (by decide +kernel)

/-! java/lang/ArrayIndexOutOfBoundsException -/
set_option maxRecDepth 100000
def RJ16 : String := "java/lang/ArrayIndexOutOfBoundsException"
def TJ16 : u_T := fun k => match k with
  | 0 => ("java/lang/Throwable", "backtrace", "Ljava/lang/Object;", false)
  | 1 => ("java/lang/Throwable", "detailMessage", "Ljava/lang/String;", false)
  | 2 => ("java/lang/Throwable", "cause", "Ljava/lang/Throwable;", false)
  | 3 => ("java/lang/Throwable", "stackTrace", "[Ljava/lang/StackTraceElement;", false)
  | 4 => ("java/lang/Throwable", "depth", "I", false)
  | _ => ("java/lang/Throwable", "suppressedExceptions", "Ljava/util/List;", false)
def tyJ16 : Nat → FieldType := fun k => match k with
  | 0 => .object "java/lang/Object"
  | 1 => .object "java/lang/String"
  | 2 => .object "java/lang/Throwable"
  | 3 => .array (.object "java/lang/StackTraceElement")
  | 4 => .int
  | _ => .object "java/util/List"
abbrev wsJ160 : List Cond := u_ws RJ16 TJ16 6
theorem nmJ16 : ∀ a, a < 6 → ∀ b, b < 6 → a ≠ b → (TJ16 a).2.1 ≠ (TJ16 b).2.1 := by decide +kernel
theorem tyJ16_ok : ∀ k, k < 6 → parseFieldDescriptor (TJ16 k).2.2.1 = some (tyJ16 k) := by decide +kernel
abbrev cJ16_init : ByteArray := prog_17_method_2_code
def yJ16_init : MethodName := ⟨RJ16, "<init>", "(Ljava/lang/String;)V"⟩
def dkwJ16_init_0 : List UInt8 := [42, 43, 183, 0, 7, 177]
abbrev dktJ16_init_0 : List UInt8 := dkwJ16_init_0 ++ []
theorem dksJ16_init_0 : cJ16_init.data.toList.drop 0 = dktJ16_init_0 := by decide +kernel
theorem dJ16_init_0 : decode cJ16_init 0 = .ok (.aload_n 0, 1) := dk_42 (dk_at dksJ16_init_0 0 rfl rfl)
theorem dJ16_init_1 : decode cJ16_init 1 = .ok (.aload_n 1, 1) := dk_43 (dk_at dksJ16_init_0 1 rfl rfl)
theorem dJ16_init_2 : decode cJ16_init 2 = .ok (.invokespecial 7, 3) := dk_183 0 7 (dk_at dksJ16_init_0 2 rfl rfl)
theorem dJ16_init_5 : decode cJ16_init 5 = .ok (.return_, 1) := dk_177 (dk_at dksJ16_init_0 5 rfl rfl)
theorem q100 : (Jvm.Cond.initialized "java/lang/ArrayIndexOutOfBoundsException") ∈ lw_all := lw_g (lw_at lw_m1 23 rfl) rfl
theorem q359 : (Jvm.Cond.selects "java/lang/ArrayIndexOutOfBoundsException" ({ cls := "java/lang/Throwable", name := "fillInStackTrace", desc := "()Ljava/lang/Throwable;" } : Jvm.MethodName) ({ cls := "java/lang/Throwable", name := "fillInStackTrace", desc := "()Ljava/lang/Throwable;" } : Jvm.MethodName)) ∈ lw_all := lw_g (lw_at lw_m2 42 rfl) rfl
theorem q415 : (Jvm.Cond.selects "java/lang/ArrayIndexOutOfBoundsException" ({ cls := "java/lang/Object", name := "getClass", desc := "()Ljava/lang/Class;" } : Jvm.MethodName) ({ cls := "java/lang/Object", name := "getClass", desc := "()Ljava/lang/Class;" } : Jvm.MethodName)) ∈ lw_all := lw_g (lw_at lw_m2 98 rfl) rfl
theorem q832 : (Jvm.Cond.selects "java/lang/ArrayIndexOutOfBoundsException" ({ cls := "java/lang/Object", name := "equals", desc := "(Ljava/lang/Object;)Z" } : Jvm.MethodName) ({ cls := "java/lang/Object", name := "equals", desc := "(Ljava/lang/Object;)Z" } : Jvm.MethodName)) ∈ lw_all := lw_g (lw_at lw_m4 35 rfl) rfl
theorem q1213 : (Jvm.Cond.instantiable "java/lang/ArrayIndexOutOfBoundsException" (6 : Nat)) ∈ lw_all := lw_g (lw_at lw_m5 176 rfl) rfl
theorem q1214 : (Jvm.Cond.instanceMethod ({ cls := "java/lang/ArrayIndexOutOfBoundsException", name := "<init>", desc := "(Ljava/lang/String;)V" } : Jvm.MethodName)) ∈ lw_all := lw_g (lw_at lw_m5 177 rfl) rfl
theorem q1215 : (Jvm.Cond.code ({ cls := "java/lang/ArrayIndexOutOfBoundsException", name := "<init>", desc := "(Ljava/lang/String;)V" } : Jvm.MethodName) prog_17_method_2_code (2 : Nat) (Option.none : Option Jvm.ClassFile.FieldType)) ∈ lw_all := lw_g (lw_at lw_m5 178 rfl) rfl
theorem q1216 : (Jvm.Cond.methodLink "java/lang/ArrayIndexOutOfBoundsException" (7 : Nat) ({ cls := "java/lang/IndexOutOfBoundsException", name := "<init>", desc := "(Ljava/lang/String;)V" } : Jvm.MethodName)) ∈ lw_all := lw_g (lw_at lw_m5 179 rfl) rfl
theorem q1217 : (Jvm.Cond.lays "java/lang/ArrayIndexOutOfBoundsException" "java/lang/Throwable" "backtrace" "Ljava/lang/Object;") ∈ lw_all := lw_g (lw_at lw_m5 180 rfl) rfl
theorem q1218 : (Jvm.Cond.lays "java/lang/ArrayIndexOutOfBoundsException" "java/lang/Throwable" "detailMessage" "Ljava/lang/String;") ∈ lw_all := lw_g (lw_at lw_m5 181 rfl) rfl
theorem q1219 : (Jvm.Cond.lays "java/lang/ArrayIndexOutOfBoundsException" "java/lang/Throwable" "cause" "Ljava/lang/Throwable;") ∈ lw_all := lw_g (lw_at lw_m5 182 rfl) rfl
theorem q1220 : (Jvm.Cond.lays "java/lang/ArrayIndexOutOfBoundsException" "java/lang/Throwable" "stackTrace" "[Ljava/lang/StackTraceElement;") ∈ lw_all := lw_g (lw_at lw_m5 183 rfl) rfl
theorem q1221 : (Jvm.Cond.lays "java/lang/ArrayIndexOutOfBoundsException" "java/lang/Throwable" "depth" "I") ∈ lw_all := lw_g (lw_at lw_m5 184 rfl) rfl
theorem q1222 : (Jvm.Cond.lays "java/lang/ArrayIndexOutOfBoundsException" "java/lang/Throwable" "suppressedExceptions" "Ljava/util/List;") ∈ lw_all := lw_g (lw_at lw_m5 185 rfl) rfl
theorem q1223 : (Jvm.Cond.superclass "java/lang/ArrayIndexOutOfBoundsException" "java/lang/IndexOutOfBoundsException") ∈ lw_all := lw_g (lw_at lw_m5 186 rfl) rfl
theorem q1224 : (Jvm.Cond.castable "java/lang/ArrayIndexOutOfBoundsException" "java/lang/ArrayIndexOutOfBoundsException") ∈ lw_tbl := lw_at lw_m5 187 rfl
theorem q1227 : (Jvm.Cond.selects "java/lang/ArrayIndexOutOfBoundsException" ({ cls := "java/lang/Throwable", name := "fillInStackTrace", desc := "(I)Ljava/lang/Throwable;" } : Jvm.MethodName) ({ cls := "java/lang/Throwable", name := "fillInStackTrace", desc := "(I)Ljava/lang/Throwable;" } : Jvm.MethodName)) ∈ lw_all := lw_g (lw_at lw_m5 190 rfl) rfl
theorem q2189 : (Jvm.Cond.castable "java/lang/ArrayIndexOutOfBoundsException" "java/lang/IndexOutOfBoundsException") ∈ lw_tbl := lw_at lw_m9 192 rfl
theorem q2198 : (Jvm.Cond.castable "java/lang/ArrayIndexOutOfBoundsException" "java/lang/Object") ∈ lw_tbl := lw_at lw_m9 201 rfl
theorem in_J16 : ∀ w ∈ wsJ160, w ∈ lw_all := lw_in wsJ160 [1217, 1218, 1219, 1220, 1221, 1222] (by decide +kernel) (by decide +kernel)

/-! java/lang/UnsupportedOperationException -/
set_option maxRecDepth 100000
def RJ18 : String := "java/lang/UnsupportedOperationException"
def TJ18 : u_T := fun k => match k with
  | 0 => ("java/lang/Throwable", "cause", "Ljava/lang/Throwable;", false)
  | 1 => ("java/lang/Throwable", "stackTrace", "[Ljava/lang/StackTraceElement;", false)
  | 2 => ("java/lang/Throwable", "suppressedExceptions", "Ljava/util/List;", false)
  | 3 => ("java/lang/Throwable", "detailMessage", "Ljava/lang/String;", false)
  | 4 => ("java/lang/Throwable", "backtrace", "Ljava/lang/Object;", false)
  | _ => ("java/lang/Throwable", "depth", "I", false)
def tyJ18 : Nat → FieldType := fun k => match k with
  | 0 => .object "java/lang/Throwable"
  | 1 => .array (.object "java/lang/StackTraceElement")
  | 2 => .object "java/util/List"
  | 3 => .object "java/lang/String"
  | 4 => .object "java/lang/Object"
  | _ => .int
abbrev wsJ180 : List Cond := u_ws RJ18 TJ18 6
theorem nmJ18 : ∀ a, a < 6 → ∀ b, b < 6 → a ≠ b → (TJ18 a).2.1 ≠ (TJ18 b).2.1 := by decide +kernel
theorem tyJ18_ok : ∀ k, k < 6 → parseFieldDescriptor (TJ18 k).2.2.1 = some (tyJ18 k) := by decide +kernel
abbrev cJ18_init : ByteArray := prog_38_method_1_code
def yJ18_init : MethodName := ⟨RJ18, "<init>", "()V"⟩
theorem dJ18_init_0 : decode cJ18_init 0 = .ok (.aload_n 0, 1) := by decide +kernel
theorem dJ18_init_1 : decode cJ18_init 1 = .ok (.invokespecial 1, 3) := by decide +kernel
theorem dJ18_init_4 : decode cJ18_init 4 = .ok (.return_, 1) := by decide +kernel
theorem q102 : (Jvm.Cond.initialized "java/lang/UnsupportedOperationException") ∈ lw_all := lw_g (lw_at lw_m1 25 rfl) rfl
theorem q362 : (Jvm.Cond.selects "java/lang/UnsupportedOperationException" ({ cls := "java/lang/Throwable", name := "fillInStackTrace", desc := "()Ljava/lang/Throwable;" } : Jvm.MethodName) ({ cls := "java/lang/Throwable", name := "fillInStackTrace", desc := "()Ljava/lang/Throwable;" } : Jvm.MethodName)) ∈ lw_all := lw_g (lw_at lw_m2 45 rfl) rfl
theorem q422 : (Jvm.Cond.selects "java/lang/UnsupportedOperationException" ({ cls := "java/lang/Object", name := "getClass", desc := "()Ljava/lang/Class;" } : Jvm.MethodName) ({ cls := "java/lang/Object", name := "getClass", desc := "()Ljava/lang/Class;" } : Jvm.MethodName)) ∈ lw_all := lw_g (lw_at lw_m2 105 rfl) rfl
theorem q848 : (Jvm.Cond.selects "java/lang/UnsupportedOperationException" ({ cls := "java/lang/Object", name := "equals", desc := "(Ljava/lang/Object;)Z" } : Jvm.MethodName) ({ cls := "java/lang/Object", name := "equals", desc := "(Ljava/lang/Object;)Z" } : Jvm.MethodName)) ∈ lw_all := lw_g (lw_at lw_m4 51 rfl) rfl
theorem q1302 : (Jvm.Cond.instantiable "java/lang/UnsupportedOperationException" (6 : Nat)) ∈ lw_all := lw_g (lw_at lw_m6 25 rfl) rfl
theorem q1303 : (Jvm.Cond.castable "java/lang/UnsupportedOperationException" "java/lang/UnsupportedOperationException") ∈ lw_tbl := lw_at lw_m6 26 rfl
theorem q1304 : (Jvm.Cond.selects "java/lang/UnsupportedOperationException" ({ cls := "java/lang/Throwable", name := "fillInStackTrace", desc := "(I)Ljava/lang/Throwable;" } : Jvm.MethodName) ({ cls := "java/lang/Throwable", name := "fillInStackTrace", desc := "(I)Ljava/lang/Throwable;" } : Jvm.MethodName)) ∈ lw_all := lw_g (lw_at lw_m6 27 rfl) rfl
theorem q1305 : (Jvm.Cond.lays "java/lang/UnsupportedOperationException" "java/lang/Throwable" "cause" "Ljava/lang/Throwable;") ∈ lw_all := lw_g (lw_at lw_m6 28 rfl) rfl
theorem q1306 : (Jvm.Cond.lays "java/lang/UnsupportedOperationException" "java/lang/Throwable" "stackTrace" "[Ljava/lang/StackTraceElement;") ∈ lw_all := lw_g (lw_at lw_m6 29 rfl) rfl
theorem q1307 : (Jvm.Cond.lays "java/lang/UnsupportedOperationException" "java/lang/Throwable" "suppressedExceptions" "Ljava/util/List;") ∈ lw_all := lw_g (lw_at lw_m6 30 rfl) rfl
theorem q1308 : (Jvm.Cond.lays "java/lang/UnsupportedOperationException" "java/lang/Throwable" "detailMessage" "Ljava/lang/String;") ∈ lw_all := lw_g (lw_at lw_m6 31 rfl) rfl
theorem q1309 : (Jvm.Cond.lays "java/lang/UnsupportedOperationException" "java/lang/Throwable" "backtrace" "Ljava/lang/Object;") ∈ lw_all := lw_g (lw_at lw_m6 32 rfl) rfl
theorem q1311 : (Jvm.Cond.instanceMethod ({ cls := "java/lang/UnsupportedOperationException", name := "<init>", desc := "()V" } : Jvm.MethodName)) ∈ lw_all := lw_g (lw_at lw_m6 34 rfl) rfl
theorem q1312 : (Jvm.Cond.code ({ cls := "java/lang/UnsupportedOperationException", name := "<init>", desc := "()V" } : Jvm.MethodName) prog_38_method_1_code (1 : Nat) (Option.none : Option Jvm.ClassFile.FieldType)) ∈ lw_all := lw_g (lw_at lw_m6 35 rfl) rfl
theorem q1313 : (Jvm.Cond.methodLink "java/lang/UnsupportedOperationException" (1 : Nat) ({ cls := "java/lang/RuntimeException", name := "<init>", desc := "()V" } : Jvm.MethodName)) ∈ lw_all := lw_g (lw_at lw_m6 36 rfl) rfl
theorem q1314 : (Jvm.Cond.lays "java/lang/UnsupportedOperationException" "java/lang/Throwable" "depth" "I") ∈ lw_all := lw_g (lw_at lw_m6 37 rfl) rfl
theorem q1315 : (Jvm.Cond.superclass "java/lang/UnsupportedOperationException" "java/lang/RuntimeException") ∈ lw_all := lw_g (lw_at lw_m6 38 rfl) rfl
theorem q2200 : (Jvm.Cond.castable "java/lang/UnsupportedOperationException" "java/lang/Object") ∈ lw_tbl := lw_at lw_m9 203 rfl
theorem in_J18 : ∀ w ∈ wsJ180, w ∈ lw_all := lw_in wsJ180 [1305, 1306, 1307, 1308, 1309, 1314] (by decide +kernel) (by decide +kernel)

/-! java/util/ArrayDeque -/
set_option maxRecDepth 100000
def RJ19 : String := "java/util/ArrayDeque"
def TJ19 : u_T := fun k => match k with
  | 0 => ("java/util/ArrayDeque", "elements", "[Ljava/lang/Object;", false)
  | 1 => ("java/util/ArrayDeque", "head", "I", false)
  | _ => ("java/util/ArrayDeque", "tail", "I", false)
def tyJ19 : Nat → FieldType := fun k => match k with
  | 0 => .array (.object "java/lang/Object")
  | 1 => .int
  | _ => .int
abbrev wsJ190 : List Cond := u_ws RJ19 TJ19 3
theorem nmJ19 : ∀ a, a < 3 → ∀ b, b < 3 → a ≠ b → (TJ19 a).2.1 ≠ (TJ19 b).2.1 := by decide +kernel
theorem tyJ19_ok : ∀ k, k < 3 → parseFieldDescriptor (TJ19 k).2.2.1 = some (tyJ19 k) := by decide +kernel
abbrev cJ19_init : ByteArray := prog_43_method_3_code
def yJ19_init : MethodName := ⟨RJ19, "<init>", "()V"⟩
def dkwJ19_init_0 : List UInt8 := [42, 183, 0, 42, 42, 16, 17, 189, 0, 47, 181, 0, 3, 177]
abbrev dktJ19_init_0 : List UInt8 := dkwJ19_init_0 ++ []
theorem dksJ19_init_0 : cJ19_init.data.toList.drop 0 = dktJ19_init_0 := by decide +kernel
theorem dJ19_init_0 : decode cJ19_init 0 = .ok (.aload_n 0, 1) := dk_42 (dk_at dksJ19_init_0 0 rfl rfl)
theorem dJ19_init_1 : decode cJ19_init 1 = .ok (.invokespecial 42, 3) := dk_183 0 42 (dk_at dksJ19_init_0 1 rfl rfl)
theorem dJ19_init_4 : decode cJ19_init 4 = .ok (.aload_n 0, 1) := dk_42 (dk_at dksJ19_init_0 4 rfl rfl)
theorem dJ19_init_5 : decode cJ19_init 5 = .ok (.bipush 17, 2) := dk_16 17 (dk_at dksJ19_init_0 5 rfl rfl)
theorem dJ19_init_7 : decode cJ19_init 7 = .ok (.anewarray 47, 3) := dk_189 0 47 (dk_at dksJ19_init_0 7 rfl rfl)
theorem dJ19_init_10 : decode cJ19_init 10 = .ok (.putfield 3, 3) := dk_181 0 3 (dk_at dksJ19_init_0 10 rfl rfl)
theorem dJ19_init_13 : decode cJ19_init 13 = .ok (.return_, 1) := dk_177 (dk_at dksJ19_init_0 13 rfl rfl)
abbrev cJ19_addLast : ByteArray := prog_43_method_13_code
def yJ19_addLast : MethodName := ⟨RJ19, "addLast", "(Ljava/lang/Object;)V"⟩
def dkwJ19_addLast_2 : List UInt8 := [182, 0, 71, 177]
abbrev dktJ19_addLast_2 : List UInt8 := dkwJ19_addLast_2 ++ []
def dkwJ19_addLast_1 : List UInt8 := [42, 180, 0, 24, 42, 42, 180, 0, 20, 44, 190, 184, 0, 74, 90, 181, 0, 20, 160, 0, 8, 42, 4]
abbrev dktJ19_addLast_1 : List UInt8 := dkwJ19_addLast_1 ++ dktJ19_addLast_2
def dkwJ19_addLast_0 : List UInt8 := [43, 199, 0, 11, 187, 0, 65, 89, 183, 0, 67, 191, 42, 180, 0, 3, 77, 44, 42, 180, 0, 20, 43, 83]
abbrev dktJ19_addLast_0 : List UInt8 := dkwJ19_addLast_0 ++ dktJ19_addLast_1
theorem dksJ19_addLast_0 : cJ19_addLast.data.toList.drop 0 = dktJ19_addLast_0 := by decide +kernel
theorem dksJ19_addLast_1 : cJ19_addLast.data.toList.drop 24 = dktJ19_addLast_1 := dk_seg dksJ19_addLast_0 24 rfl rfl
theorem dksJ19_addLast_2 : cJ19_addLast.data.toList.drop 47 = dktJ19_addLast_2 := dk_seg dksJ19_addLast_1 23 rfl rfl
theorem dJ19_addLast_0 : decode cJ19_addLast 0 = .ok (.aload_n 1, 1) := dk_43 (dk_at dksJ19_addLast_0 0 rfl rfl)
theorem dJ19_addLast_1 : decode cJ19_addLast 1 = .ok (.ifnonnull 11, 3) := dk_199 0 11 (dk_at dksJ19_addLast_0 1 rfl rfl)
theorem dJ19_addLast_4 : decode cJ19_addLast 4 = .ok (.new 65, 3) := dk_187 0 65 (dk_at dksJ19_addLast_0 4 rfl rfl)
theorem dJ19_addLast_7 : decode cJ19_addLast 7 = .ok (.dup, 1) := dk_89 (dk_at dksJ19_addLast_0 7 rfl rfl)
theorem dJ19_addLast_8 : decode cJ19_addLast 8 = .ok (.invokespecial 67, 3) := dk_183 0 67 (dk_at dksJ19_addLast_0 8 rfl rfl)
theorem dJ19_addLast_11 : decode cJ19_addLast 11 = .ok (.athrow, 1) := dk_191 (dk_at dksJ19_addLast_0 11 rfl rfl)
theorem dJ19_addLast_12 : decode cJ19_addLast 12 = .ok (.aload_n 0, 1) := dk_42 (dk_at dksJ19_addLast_0 12 rfl rfl)
theorem dJ19_addLast_13 : decode cJ19_addLast 13 = .ok (.getfield 3, 3) := dk_180 0 3 (dk_at dksJ19_addLast_0 13 rfl rfl)
theorem dJ19_addLast_16 : decode cJ19_addLast 16 = .ok (.astore_n 2, 1) := dk_77 (dk_at dksJ19_addLast_0 16 rfl rfl)
theorem dJ19_addLast_17 : decode cJ19_addLast 17 = .ok (.aload_n 2, 1) := dk_44 (dk_at dksJ19_addLast_0 17 rfl rfl)
theorem dJ19_addLast_18 : decode cJ19_addLast 18 = .ok (.aload_n 0, 1) := dk_42 (dk_at dksJ19_addLast_0 18 rfl rfl)
theorem dJ19_addLast_19 : decode cJ19_addLast 19 = .ok (.getfield 20, 3) := dk_180 0 20 (dk_at dksJ19_addLast_0 19 rfl rfl)
theorem dJ19_addLast_22 : decode cJ19_addLast 22 = .ok (.aload_n 1, 1) := dk_43 (dk_at dksJ19_addLast_0 22 rfl rfl)
theorem dJ19_addLast_23 : decode cJ19_addLast 23 = .ok (.aastore, 1) := dk_83 (dk_at dksJ19_addLast_0 23 rfl rfl)
theorem dJ19_addLast_24 : decode cJ19_addLast 24 = .ok (.aload_n 0, 1) := dk_42 (dk_at dksJ19_addLast_1 0 rfl rfl)
theorem dJ19_addLast_25 : decode cJ19_addLast 25 = .ok (.getfield 24, 3) := dk_180 0 24 (dk_at dksJ19_addLast_1 1 rfl rfl)
theorem dJ19_addLast_28 : decode cJ19_addLast 28 = .ok (.aload_n 0, 1) := dk_42 (dk_at dksJ19_addLast_1 4 rfl rfl)
theorem dJ19_addLast_29 : decode cJ19_addLast 29 = .ok (.aload_n 0, 1) := dk_42 (dk_at dksJ19_addLast_1 5 rfl rfl)
theorem dJ19_addLast_30 : decode cJ19_addLast 30 = .ok (.getfield 20, 3) := dk_180 0 20 (dk_at dksJ19_addLast_1 6 rfl rfl)
theorem dJ19_addLast_33 : decode cJ19_addLast 33 = .ok (.aload_n 2, 1) := dk_44 (dk_at dksJ19_addLast_1 9 rfl rfl)
theorem dJ19_addLast_34 : decode cJ19_addLast 34 = .ok (.arraylength, 1) := dk_190 (dk_at dksJ19_addLast_1 10 rfl rfl)
theorem dJ19_addLast_35 : decode cJ19_addLast 35 = .ok (.invokestatic 74, 3) := dk_184 0 74 (dk_at dksJ19_addLast_1 11 rfl rfl)
theorem dJ19_addLast_38 : decode cJ19_addLast 38 = .ok (.dup_x1, 1) := dk_90 (dk_at dksJ19_addLast_1 14 rfl rfl)
theorem dJ19_addLast_39 : decode cJ19_addLast 39 = .ok (.putfield 20, 3) := dk_181 0 20 (dk_at dksJ19_addLast_1 15 rfl rfl)
theorem dJ19_addLast_42 : decode cJ19_addLast 42 = .ok (.if_icmp .ne 8, 3) := dk_160 0 8 (dk_at dksJ19_addLast_1 18 rfl rfl)
theorem dJ19_addLast_45 : decode cJ19_addLast 45 = .ok (.aload_n 0, 1) := dk_42 (dk_at dksJ19_addLast_1 21 rfl rfl)
theorem dJ19_addLast_46 : decode cJ19_addLast 46 = .ok (.iconst 1, 1) := dk_4 (dk_at dksJ19_addLast_1 22 rfl rfl)
theorem dJ19_addLast_47 : decode cJ19_addLast 47 = .ok (.invokevirtual 71, 3) := dk_182 0 71 (dk_at dksJ19_addLast_2 0 rfl rfl)
theorem dJ19_addLast_50 : decode cJ19_addLast 50 = .ok (.return_, 1) := dk_177 (dk_at dksJ19_addLast_2 3 rfl rfl)
abbrev cJ19_inc : ByteArray := prog_43_method_6_code
def yJ19_inc : MethodName := ⟨RJ19, "inc", "(II)I"⟩
def dkwJ19_inc_0 : List UInt8 := [132, 0, 1, 26, 27, 161, 0, 5, 3, 59, 26, 172]
abbrev dktJ19_inc_0 : List UInt8 := dkwJ19_inc_0 ++ []
theorem dksJ19_inc_0 : cJ19_inc.data.toList.drop 0 = dktJ19_inc_0 := by decide +kernel
theorem dJ19_inc_0 : decode cJ19_inc 0 = .ok (.iinc 0 1, 3) := dk_132 0 1 (dk_at dksJ19_inc_0 0 rfl rfl)
theorem dJ19_inc_3 : decode cJ19_inc 3 = .ok (.iload_n 0, 1) := dk_26 (dk_at dksJ19_inc_0 3 rfl rfl)
theorem dJ19_inc_4 : decode cJ19_inc 4 = .ok (.iload_n 1, 1) := dk_27 (dk_at dksJ19_inc_0 4 rfl rfl)
theorem dJ19_inc_5 : decode cJ19_inc 5 = .ok (.if_icmp .lt 5, 3) := dk_161 0 5 (dk_at dksJ19_inc_0 5 rfl rfl)
theorem dJ19_inc_8 : decode cJ19_inc 8 = .ok (.iconst 0, 1) := dk_3 (dk_at dksJ19_inc_0 8 rfl rfl)
theorem dJ19_inc_9 : decode cJ19_inc 9 = .ok (.istore_n 0, 1) := dk_59 (dk_at dksJ19_inc_0 9 rfl rfl)
theorem dJ19_inc_10 : decode cJ19_inc 10 = .ok (.iload_n 0, 1) := dk_26 (dk_at dksJ19_inc_0 10 rfl rfl)
theorem dJ19_inc_11 : decode cJ19_inc 11 = .ok (.ireturn, 1) := dk_172 (dk_at dksJ19_inc_0 11 rfl rfl)
abbrev cJ19_grow : ByteArray := prog_43_method_1_code
def yJ19_grow : MethodName := ⟨RJ19, "grow", "(I)V"⟩
def dkwJ19_grow_7 : List UInt8 := [177]
abbrev dktJ19_grow_7 : List UInt8 := dkwJ19_grow_7 ++ []
def dkwJ19_grow_6 : List UInt8 := [181, 0, 24, 54, 8, 21, 7, 21, 8, 162, 0, 15, 25, 5, 21, 7, 1, 83, 132, 7, 1, 167, 255, 240]
abbrev dktJ19_grow_6 : List UInt8 := dkwJ19_grow_6 ++ dktJ19_grow_7
def dkwJ19_grow_5 : List UInt8 := [42, 180, 0, 24, 100, 184, 0, 27, 42, 180, 0, 24, 54, 7, 42, 89, 180, 0, 24, 21, 6, 96, 90]
abbrev dktJ19_grow_5 : List UInt8 := dkwJ19_grow_5 ++ dktJ19_grow_6
def dkwJ19_grow_4 : List UInt8 := [198, 0, 71, 29, 28, 100, 54, 6, 25, 5, 42, 180, 0, 24, 25, 5, 42, 180, 0, 24, 21, 6, 96, 28]
abbrev dktJ19_grow_4 : List UInt8 := dkwJ19_grow_4 ++ dktJ19_grow_5
def dkwJ19_grow_3 : List UInt8 := [180, 0, 24, 161, 0, 24, 42, 180, 0, 20, 42, 180, 0, 24, 160, 0, 81, 25, 5, 42, 180, 0, 24, 50]
abbrev dktJ19_grow_3 : List UInt8 := dkwJ19_grow_3 ++ dktJ19_grow_4
def dkwJ19_grow_2 : List UInt8 := [182, 0, 10, 62, 42, 42, 180, 0, 3, 29, 184, 0, 14, 90, 181, 0, 3, 58, 5, 42, 180, 0, 20, 42]
abbrev dktJ19_grow_2 : List UInt8 := dkwJ19_grow_2 ++ dktJ19_grow_3
def dkwJ19_grow_1 : List UInt8 := [21, 4, 27, 161, 0, 15, 28, 21, 4, 96, 89, 62, 18, 9, 100, 158, 0, 11, 42, 27, 21, 4]
abbrev dktJ19_grow_1 : List UInt8 := dkwJ19_grow_1 ++ dktJ19_grow_2
def dkwJ19_grow_0 : List UInt8 := [42, 180, 0, 3, 190, 61, 28, 16, 64, 162, 0, 9, 28, 5, 96, 167, 0, 6, 28, 4, 122, 54, 4]
abbrev dktJ19_grow_0 : List UInt8 := dkwJ19_grow_0 ++ dktJ19_grow_1
theorem dksJ19_grow_0 : cJ19_grow.data.toList.drop 0 = dktJ19_grow_0 := by decide +kernel
theorem dksJ19_grow_1 : cJ19_grow.data.toList.drop 23 = dktJ19_grow_1 := dk_seg dksJ19_grow_0 23 rfl rfl
theorem dksJ19_grow_2 : cJ19_grow.data.toList.drop 45 = dktJ19_grow_2 := dk_seg dksJ19_grow_1 22 rfl rfl
theorem dksJ19_grow_3 : cJ19_grow.data.toList.drop 69 = dktJ19_grow_3 := dk_seg dksJ19_grow_2 24 rfl rfl
theorem dksJ19_grow_4 : cJ19_grow.data.toList.drop 93 = dktJ19_grow_4 := dk_seg dksJ19_grow_3 24 rfl rfl
theorem dksJ19_grow_5 : cJ19_grow.data.toList.drop 117 = dktJ19_grow_5 := dk_seg dksJ19_grow_4 24 rfl rfl
theorem dksJ19_grow_6 : cJ19_grow.data.toList.drop 140 = dktJ19_grow_6 := dk_seg dksJ19_grow_5 23 rfl rfl
theorem dksJ19_grow_7 : cJ19_grow.data.toList.drop 164 = dktJ19_grow_7 := dk_seg dksJ19_grow_6 24 rfl rfl
theorem dJ19_grow_0 : decode cJ19_grow 0 = .ok (.aload_n 0, 1) := dk_42 (dk_at dksJ19_grow_0 0 rfl rfl)
theorem dJ19_grow_1 : decode cJ19_grow 1 = .ok (.getfield 3, 3) := dk_180 0 3 (dk_at dksJ19_grow_0 1 rfl rfl)
theorem dJ19_grow_4 : decode cJ19_grow 4 = .ok (.arraylength, 1) := dk_190 (dk_at dksJ19_grow_0 4 rfl rfl)
theorem dJ19_grow_5 : decode cJ19_grow 5 = .ok (.istore_n 2, 1) := dk_61 (dk_at dksJ19_grow_0 5 rfl rfl)
theorem dJ19_grow_6 : decode cJ19_grow 6 = .ok (.iload_n 2, 1) := dk_28 (dk_at dksJ19_grow_0 6 rfl rfl)
theorem dJ19_grow_7 : decode cJ19_grow 7 = .ok (.bipush 64, 2) := dk_16 64 (dk_at dksJ19_grow_0 7 rfl rfl)
theorem dJ19_grow_9 : decode cJ19_grow 9 = .ok (.if_icmp .ge 9, 3) := dk_162 0 9 (dk_at dksJ19_grow_0 9 rfl rfl)
theorem dJ19_grow_12 : decode cJ19_grow 12 = .ok (.iload_n 2, 1) := dk_28 (dk_at dksJ19_grow_0 12 rfl rfl)
theorem dJ19_grow_13 : decode cJ19_grow 13 = .ok (.iconst 2, 1) := dk_5 (dk_at dksJ19_grow_0 13 rfl rfl)
theorem dJ19_grow_14 : decode cJ19_grow 14 = .ok (.iadd, 1) := dk_96 (dk_at dksJ19_grow_0 14 rfl rfl)
theorem dJ19_grow_15 : decode cJ19_grow 15 = .ok (.goto 6, 3) := dk_167 0 6 (dk_at dksJ19_grow_0 15 rfl rfl)
theorem dJ19_grow_18 : decode cJ19_grow 18 = .ok (.iload_n 2, 1) := dk_28 (dk_at dksJ19_grow_0 18 rfl rfl)
theorem dJ19_grow_19 : decode cJ19_grow 19 = .ok (.iconst 1, 1) := dk_4 (dk_at dksJ19_grow_0 19 rfl rfl)
theorem dJ19_grow_20 : decode cJ19_grow 20 = .ok (.ishr, 1) := dk_122 (dk_at dksJ19_grow_0 20 rfl rfl)
theorem dJ19_grow_21 : decode cJ19_grow 21 = .ok (.istore 4, 2) := dk_54 4 (dk_at dksJ19_grow_0 21 rfl rfl)
theorem dJ19_grow_23 : decode cJ19_grow 23 = .ok (.iload 4, 2) := dk_21 4 (dk_at dksJ19_grow_1 0 rfl rfl)
theorem dJ19_grow_25 : decode cJ19_grow 25 = .ok (.iload_n 1, 1) := dk_27 (dk_at dksJ19_grow_1 2 rfl rfl)
theorem dJ19_grow_26 : decode cJ19_grow 26 = .ok (.if_icmp .lt 15, 3) := dk_161 0 15 (dk_at dksJ19_grow_1 3 rfl rfl)
theorem dJ19_grow_29 : decode cJ19_grow 29 = .ok (.iload_n 2, 1) := dk_28 (dk_at dksJ19_grow_1 6 rfl rfl)
theorem dJ19_grow_30 : decode cJ19_grow 30 = .ok (.iload 4, 2) := dk_21 4 (dk_at dksJ19_grow_1 7 rfl rfl)
theorem dJ19_grow_32 : decode cJ19_grow 32 = .ok (.iadd, 1) := dk_96 (dk_at dksJ19_grow_1 9 rfl rfl)
theorem dJ19_grow_33 : decode cJ19_grow 33 = .ok (.dup, 1) := dk_89 (dk_at dksJ19_grow_1 10 rfl rfl)
theorem dJ19_grow_34 : decode cJ19_grow 34 = .ok (.istore_n 3, 1) := dk_62 (dk_at dksJ19_grow_1 11 rfl rfl)
theorem dJ19_grow_35 : decode cJ19_grow 35 = .ok (.ldc 9, 2) := dk_18 9 (dk_at dksJ19_grow_1 12 rfl rfl)
theorem dJ19_grow_37 : decode cJ19_grow 37 = .ok (.isub, 1) := dk_100 (dk_at dksJ19_grow_1 14 rfl rfl)
theorem dJ19_grow_38 : decode cJ19_grow 38 = .ok (.ifCond .le 11, 3) := dk_158 0 11 (dk_at dksJ19_grow_1 15 rfl rfl)
theorem dJ19_grow_41 : decode cJ19_grow 41 = .ok (.aload_n 0, 1) := dk_42 (dk_at dksJ19_grow_1 18 rfl rfl)
theorem dJ19_grow_42 : decode cJ19_grow 42 = .ok (.iload_n 1, 1) := dk_27 (dk_at dksJ19_grow_1 19 rfl rfl)
theorem dJ19_grow_43 : decode cJ19_grow 43 = .ok (.iload 4, 2) := dk_21 4 (dk_at dksJ19_grow_1 20 rfl rfl)
theorem dJ19_grow_45 : decode cJ19_grow 45 = .ok (.invokevirtual 10, 3) := dk_182 0 10 (dk_at dksJ19_grow_2 0 rfl rfl)
theorem dJ19_grow_48 : decode cJ19_grow 48 = .ok (.istore_n 3, 1) := dk_62 (dk_at dksJ19_grow_2 3 rfl rfl)
theorem dJ19_grow_49 : decode cJ19_grow 49 = .ok (.aload_n 0, 1) := dk_42 (dk_at dksJ19_grow_2 4 rfl rfl)
theorem dJ19_grow_50 : decode cJ19_grow 50 = .ok (.aload_n 0, 1) := dk_42 (dk_at dksJ19_grow_2 5 rfl rfl)
theorem dJ19_grow_51 : decode cJ19_grow 51 = .ok (.getfield 3, 3) := dk_180 0 3 (dk_at dksJ19_grow_2 6 rfl rfl)
theorem dJ19_grow_54 : decode cJ19_grow 54 = .ok (.iload_n 3, 1) := dk_29 (dk_at dksJ19_grow_2 9 rfl rfl)
theorem dJ19_grow_55 : decode cJ19_grow 55 = .ok (.invokestatic 14, 3) := dk_184 0 14 (dk_at dksJ19_grow_2 10 rfl rfl)
theorem dJ19_grow_58 : decode cJ19_grow 58 = .ok (.dup_x1, 1) := dk_90 (dk_at dksJ19_grow_2 13 rfl rfl)
theorem dJ19_grow_59 : decode cJ19_grow 59 = .ok (.putfield 3, 3) := dk_181 0 3 (dk_at dksJ19_grow_2 14 rfl rfl)
theorem dJ19_grow_62 : decode cJ19_grow 62 = .ok (.astore 5, 2) := dk_58 5 (dk_at dksJ19_grow_2 17 rfl rfl)
theorem dJ19_grow_64 : decode cJ19_grow 64 = .ok (.aload_n 0, 1) := dk_42 (dk_at dksJ19_grow_2 19 rfl rfl)
theorem dJ19_grow_65 : decode cJ19_grow 65 = .ok (.getfield 20, 3) := dk_180 0 20 (dk_at dksJ19_grow_2 20 rfl rfl)
theorem dJ19_grow_68 : decode cJ19_grow 68 = .ok (.aload_n 0, 1) := dk_42 (dk_at dksJ19_grow_2 23 rfl rfl)
theorem dJ19_grow_69 : decode cJ19_grow 69 = .ok (.getfield 24, 3) := dk_180 0 24 (dk_at dksJ19_grow_3 0 rfl rfl)
theorem dJ19_grow_72 : decode cJ19_grow 72 = .ok (.if_icmp .lt 24, 3) := dk_161 0 24 (dk_at dksJ19_grow_3 3 rfl rfl)
theorem dJ19_grow_75 : decode cJ19_grow 75 = .ok (.aload_n 0, 1) := dk_42 (dk_at dksJ19_grow_3 6 rfl rfl)
theorem dJ19_grow_76 : decode cJ19_grow 76 = .ok (.getfield 20, 3) := dk_180 0 20 (dk_at dksJ19_grow_3 7 rfl rfl)
theorem dJ19_grow_79 : decode cJ19_grow 79 = .ok (.aload_n 0, 1) := dk_42 (dk_at dksJ19_grow_3 10 rfl rfl)
theorem dJ19_grow_80 : decode cJ19_grow 80 = .ok (.getfield 24, 3) := dk_180 0 24 (dk_at dksJ19_grow_3 11 rfl rfl)
theorem dJ19_grow_83 : decode cJ19_grow 83 = .ok (.if_icmp .ne 81, 3) := dk_160 0 81 (dk_at dksJ19_grow_3 14 rfl rfl)
theorem dJ19_grow_86 : decode cJ19_grow 86 = .ok (.aload 5, 2) := dk_25 5 (dk_at dksJ19_grow_3 17 rfl rfl)
theorem dJ19_grow_88 : decode cJ19_grow 88 = .ok (.aload_n 0, 1) := dk_42 (dk_at dksJ19_grow_3 19 rfl rfl)
theorem dJ19_grow_89 : decode cJ19_grow 89 = .ok (.getfield 24, 3) := dk_180 0 24 (dk_at dksJ19_grow_3 20 rfl rfl)
theorem dJ19_grow_92 : decode cJ19_grow 92 = .ok (.aaload, 1) := dk_50 (dk_at dksJ19_grow_3 23 rfl rfl)
theorem dJ19_grow_93 : decode cJ19_grow 93 = .ok (.ifnull 71, 3) := dk_198 0 71 (dk_at dksJ19_grow_4 0 rfl rfl)
theorem dJ19_grow_96 : decode cJ19_grow 96 = .ok (.iload_n 3, 1) := dk_29 (dk_at dksJ19_grow_4 3 rfl rfl)
theorem dJ19_grow_97 : decode cJ19_grow 97 = .ok (.iload_n 2, 1) := dk_28 (dk_at dksJ19_grow_4 4 rfl rfl)
theorem dJ19_grow_98 : decode cJ19_grow 98 = .ok (.isub, 1) := dk_100 (dk_at dksJ19_grow_4 5 rfl rfl)
theorem dJ19_grow_99 : decode cJ19_grow 99 = .ok (.istore 6, 2) := dk_54 6 (dk_at dksJ19_grow_4 6 rfl rfl)
theorem dJ19_grow_101 : decode cJ19_grow 101 = .ok (.aload 5, 2) := dk_25 5 (dk_at dksJ19_grow_4 8 rfl rfl)
theorem dJ19_grow_103 : decode cJ19_grow 103 = .ok (.aload_n 0, 1) := dk_42 (dk_at dksJ19_grow_4 10 rfl rfl)
theorem dJ19_grow_104 : decode cJ19_grow 104 = .ok (.getfield 24, 3) := dk_180 0 24 (dk_at dksJ19_grow_4 11 rfl rfl)
theorem dJ19_grow_107 : decode cJ19_grow 107 = .ok (.aload 5, 2) := dk_25 5 (dk_at dksJ19_grow_4 14 rfl rfl)
theorem dJ19_grow_109 : decode cJ19_grow 109 = .ok (.aload_n 0, 1) := dk_42 (dk_at dksJ19_grow_4 16 rfl rfl)
theorem dJ19_grow_110 : decode cJ19_grow 110 = .ok (.getfield 24, 3) := dk_180 0 24 (dk_at dksJ19_grow_4 17 rfl rfl)
theorem dJ19_grow_113 : decode cJ19_grow 113 = .ok (.iload 6, 2) := dk_21 6 (dk_at dksJ19_grow_4 20 rfl rfl)
theorem dJ19_grow_115 : decode cJ19_grow 115 = .ok (.iadd, 1) := dk_96 (dk_at dksJ19_grow_4 22 rfl rfl)
theorem dJ19_grow_116 : decode cJ19_grow 116 = .ok (.iload_n 2, 1) := dk_28 (dk_at dksJ19_grow_4 23 rfl rfl)
theorem dJ19_grow_117 : decode cJ19_grow 117 = .ok (.aload_n 0, 1) := dk_42 (dk_at dksJ19_grow_5 0 rfl rfl)
theorem dJ19_grow_118 : decode cJ19_grow 118 = .ok (.getfield 24, 3) := dk_180 0 24 (dk_at dksJ19_grow_5 1 rfl rfl)
theorem dJ19_grow_121 : decode cJ19_grow 121 = .ok (.isub, 1) := dk_100 (dk_at dksJ19_grow_5 4 rfl rfl)
theorem dJ19_grow_122 : decode cJ19_grow 122 = .ok (.invokestatic 27, 3) := dk_184 0 27 (dk_at dksJ19_grow_5 5 rfl rfl)
theorem dJ19_grow_125 : decode cJ19_grow 125 = .ok (.aload_n 0, 1) := dk_42 (dk_at dksJ19_grow_5 8 rfl rfl)
theorem dJ19_grow_126 : decode cJ19_grow 126 = .ok (.getfield 24, 3) := dk_180 0 24 (dk_at dksJ19_grow_5 9 rfl rfl)
theorem dJ19_grow_129 : decode cJ19_grow 129 = .ok (.istore 7, 2) := dk_54 7 (dk_at dksJ19_grow_5 12 rfl rfl)
theorem dJ19_grow_131 : decode cJ19_grow 131 = .ok (.aload_n 0, 1) := dk_42 (dk_at dksJ19_grow_5 14 rfl rfl)
theorem dJ19_grow_132 : decode cJ19_grow 132 = .ok (.dup, 1) := dk_89 (dk_at dksJ19_grow_5 15 rfl rfl)
theorem dJ19_grow_133 : decode cJ19_grow 133 = .ok (.getfield 24, 3) := dk_180 0 24 (dk_at dksJ19_grow_5 16 rfl rfl)
theorem dJ19_grow_136 : decode cJ19_grow 136 = .ok (.iload 6, 2) := dk_21 6 (dk_at dksJ19_grow_5 19 rfl rfl)
theorem dJ19_grow_138 : decode cJ19_grow 138 = .ok (.iadd, 1) := dk_96 (dk_at dksJ19_grow_5 21 rfl rfl)
theorem dJ19_grow_139 : decode cJ19_grow 139 = .ok (.dup_x1, 1) := dk_90 (dk_at dksJ19_grow_5 22 rfl rfl)
theorem dJ19_grow_140 : decode cJ19_grow 140 = .ok (.putfield 24, 3) := dk_181 0 24 (dk_at dksJ19_grow_6 0 rfl rfl)
theorem dJ19_grow_143 : decode cJ19_grow 143 = .ok (.istore 8, 2) := dk_54 8 (dk_at dksJ19_grow_6 3 rfl rfl)
theorem dJ19_grow_145 : decode cJ19_grow 145 = .ok (.iload 7, 2) := dk_21 7 (dk_at dksJ19_grow_6 5 rfl rfl)
theorem dJ19_grow_147 : decode cJ19_grow 147 = .ok (.iload 8, 2) := dk_21 8 (dk_at dksJ19_grow_6 7 rfl rfl)
theorem dJ19_grow_149 : decode cJ19_grow 149 = .ok (.if_icmp .ge 15, 3) := dk_162 0 15 (dk_at dksJ19_grow_6 9 rfl rfl)
theorem dJ19_grow_152 : decode cJ19_grow 152 = .ok (.aload 5, 2) := dk_25 5 (dk_at dksJ19_grow_6 12 rfl rfl)
theorem dJ19_grow_154 : decode cJ19_grow 154 = .ok (.iload 7, 2) := dk_21 7 (dk_at dksJ19_grow_6 14 rfl rfl)
theorem dJ19_grow_156 : decode cJ19_grow 156 = .ok (.aconst_null, 1) := dk_1 (dk_at dksJ19_grow_6 16 rfl rfl)
theorem dJ19_grow_157 : decode cJ19_grow 157 = .ok (.aastore, 1) := dk_83 (dk_at dksJ19_grow_6 17 rfl rfl)
theorem dJ19_grow_158 : decode cJ19_grow 158 = .ok (.iinc 7 1, 3) := dk_132 7 1 (dk_at dksJ19_grow_6 18 rfl rfl)
theorem dJ19_grow_161 : decode cJ19_grow 161 = .ok (.goto (-16), 3) := dk_167 255 240 (dk_at dksJ19_grow_6 21 rfl rfl)
theorem dJ19_grow_164 : decode cJ19_grow 164 = .ok (.return_, 1) := dk_177 (dk_at dksJ19_grow_7 0 rfl rfl)
abbrev cJ19_newCapacity : ByteArray := prog_43_method_2_code
def yJ19_newCapacity : MethodName := ⟨RJ19, "newCapacity", "(II)I"⟩
def dkwJ19_newCapacity_2 : List UInt8 := [18, 9, 100, 156, 0, 9, 29, 28, 96, 167, 0, 5, 18, 9, 172]
abbrev dktJ19_newCapacity_2 : List UInt8 := dkwJ19_newCapacity_2 ++ []
def dkwJ19_newCapacity_1 : List UInt8 := [187, 0, 33, 89, 18, 35, 183, 0, 37, 191, 18, 41, 172, 27, 28, 164, 0, 6, 21, 4, 172, 29, 28, 96]
abbrev dktJ19_newCapacity_1 : List UInt8 := dkwJ19_newCapacity_1 ++ dktJ19_newCapacity_2
def dkwJ19_newCapacity_0 : List UInt8 := [42, 180, 0, 3, 190, 62, 29, 27, 96, 89, 54, 4, 18, 9, 100, 158, 0, 21, 21, 4, 156, 0, 13]
abbrev dktJ19_newCapacity_0 : List UInt8 := dkwJ19_newCapacity_0 ++ dktJ19_newCapacity_1
theorem dksJ19_newCapacity_0 : cJ19_newCapacity.data.toList.drop 0 = dktJ19_newCapacity_0 := by decide +kernel
theorem dksJ19_newCapacity_1 : cJ19_newCapacity.data.toList.drop 23 = dktJ19_newCapacity_1 := dk_seg dksJ19_newCapacity_0 23 rfl rfl
theorem dksJ19_newCapacity_2 : cJ19_newCapacity.data.toList.drop 47 = dktJ19_newCapacity_2 := dk_seg dksJ19_newCapacity_1 24 rfl rfl
theorem dJ19_newCapacity_0 : decode cJ19_newCapacity 0 = .ok (.aload_n 0, 1) := dk_42 (dk_at dksJ19_newCapacity_0 0 rfl rfl)
theorem dJ19_newCapacity_1 : decode cJ19_newCapacity 1 = .ok (.getfield 3, 3) := dk_180 0 3 (dk_at dksJ19_newCapacity_0 1 rfl rfl)
theorem dJ19_newCapacity_4 : decode cJ19_newCapacity 4 = .ok (.arraylength, 1) := dk_190 (dk_at dksJ19_newCapacity_0 4 rfl rfl)
theorem dJ19_newCapacity_5 : decode cJ19_newCapacity 5 = .ok (.istore_n 3, 1) := dk_62 (dk_at dksJ19_newCapacity_0 5 rfl rfl)
theorem dJ19_newCapacity_6 : decode cJ19_newCapacity 6 = .ok (.iload_n 3, 1) := dk_29 (dk_at dksJ19_newCapacity_0 6 rfl rfl)
theorem dJ19_newCapacity_7 : decode cJ19_newCapacity 7 = .ok (.iload_n 1, 1) := dk_27 (dk_at dksJ19_newCapacity_0 7 rfl rfl)
theorem dJ19_newCapacity_8 : decode cJ19_newCapacity 8 = .ok (.iadd, 1) := dk_96 (dk_at dksJ19_newCapacity_0 8 rfl rfl)
theorem dJ19_newCapacity_9 : decode cJ19_newCapacity 9 = .ok (.dup, 1) := dk_89 (dk_at dksJ19_newCapacity_0 9 rfl rfl)
theorem dJ19_newCapacity_10 : decode cJ19_newCapacity 10 = .ok (.istore 4, 2) := dk_54 4 (dk_at dksJ19_newCapacity_0 10 rfl rfl)
theorem dJ19_newCapacity_12 : decode cJ19_newCapacity 12 = .ok (.ldc 9, 2) := dk_18 9 (dk_at dksJ19_newCapacity_0 12 rfl rfl)
theorem dJ19_newCapacity_14 : decode cJ19_newCapacity 14 = .ok (.isub, 1) := dk_100 (dk_at dksJ19_newCapacity_0 14 rfl rfl)
theorem dJ19_newCapacity_15 : decode cJ19_newCapacity 15 = .ok (.ifCond .le 21, 3) := dk_158 0 21 (dk_at dksJ19_newCapacity_0 15 rfl rfl)
theorem dJ19_newCapacity_18 : decode cJ19_newCapacity 18 = .ok (.iload 4, 2) := dk_21 4 (dk_at dksJ19_newCapacity_0 18 rfl rfl)
theorem dJ19_newCapacity_20 : decode cJ19_newCapacity 20 = .ok (.ifCond .ge 13, 3) := dk_156 0 13 (dk_at dksJ19_newCapacity_0 20 rfl rfl)
theorem dJ19_newCapacity_23 : decode cJ19_newCapacity 23 = .ok (.new 33, 3) := dk_187 0 33 (dk_at dksJ19_newCapacity_1 0 rfl rfl)
theorem dJ19_newCapacity_26 : decode cJ19_newCapacity 26 = .ok (.dup, 1) := dk_89 (dk_at dksJ19_newCapacity_1 3 rfl rfl)
theorem dJ19_newCapacity_27 : decode cJ19_newCapacity 27 = .ok (.ldc 35, 2) := dk_18 35 (dk_at dksJ19_newCapacity_1 4 rfl rfl)
theorem dJ19_newCapacity_29 : decode cJ19_newCapacity 29 = .ok (.invokespecial 37, 3) := dk_183 0 37 (dk_at dksJ19_newCapacity_1 6 rfl rfl)
theorem dJ19_newCapacity_32 : decode cJ19_newCapacity 32 = .ok (.athrow, 1) := dk_191 (dk_at dksJ19_newCapacity_1 9 rfl rfl)
theorem dJ19_newCapacity_33 : decode cJ19_newCapacity 33 = .ok (.ldc 41, 2) := dk_18 41 (dk_at dksJ19_newCapacity_1 10 rfl rfl)
theorem dJ19_newCapacity_35 : decode cJ19_newCapacity 35 = .ok (.ireturn, 1) := dk_172 (dk_at dksJ19_newCapacity_1 12 rfl rfl)
theorem dJ19_newCapacity_36 : decode cJ19_newCapacity 36 = .ok (.iload_n 1, 1) := dk_27 (dk_at dksJ19_newCapacity_1 13 rfl rfl)
theorem dJ19_newCapacity_37 : decode cJ19_newCapacity 37 = .ok (.iload_n 2, 1) := dk_28 (dk_at dksJ19_newCapacity_1 14 rfl rfl)
theorem dJ19_newCapacity_38 : decode cJ19_newCapacity 38 = .ok (.if_icmp .le 6, 3) := dk_164 0 6 (dk_at dksJ19_newCapacity_1 15 rfl rfl)
theorem dJ19_newCapacity_41 : decode cJ19_newCapacity 41 = .ok (.iload 4, 2) := dk_21 4 (dk_at dksJ19_newCapacity_1 18 rfl rfl)
theorem dJ19_newCapacity_43 : decode cJ19_newCapacity 43 = .ok (.ireturn, 1) := dk_172 (dk_at dksJ19_newCapacity_1 20 rfl rfl)
theorem dJ19_newCapacity_44 : decode cJ19_newCapacity 44 = .ok (.iload_n 3, 1) := dk_29 (dk_at dksJ19_newCapacity_1 21 rfl rfl)
theorem dJ19_newCapacity_45 : decode cJ19_newCapacity 45 = .ok (.iload_n 2, 1) := dk_28 (dk_at dksJ19_newCapacity_1 22 rfl rfl)
theorem dJ19_newCapacity_46 : decode cJ19_newCapacity 46 = .ok (.iadd, 1) := dk_96 (dk_at dksJ19_newCapacity_1 23 rfl rfl)
theorem dJ19_newCapacity_47 : decode cJ19_newCapacity 47 = .ok (.ldc 9, 2) := dk_18 9 (dk_at dksJ19_newCapacity_2 0 rfl rfl)
theorem dJ19_newCapacity_49 : decode cJ19_newCapacity 49 = .ok (.isub, 1) := dk_100 (dk_at dksJ19_newCapacity_2 2 rfl rfl)
theorem dJ19_newCapacity_50 : decode cJ19_newCapacity 50 = .ok (.ifCond .ge 9, 3) := dk_156 0 9 (dk_at dksJ19_newCapacity_2 3 rfl rfl)
theorem dJ19_newCapacity_53 : decode cJ19_newCapacity 53 = .ok (.iload_n 3, 1) := dk_29 (dk_at dksJ19_newCapacity_2 6 rfl rfl)
theorem dJ19_newCapacity_54 : decode cJ19_newCapacity 54 = .ok (.iload_n 2, 1) := dk_28 (dk_at dksJ19_newCapacity_2 7 rfl rfl)
theorem dJ19_newCapacity_55 : decode cJ19_newCapacity 55 = .ok (.iadd, 1) := dk_96 (dk_at dksJ19_newCapacity_2 8 rfl rfl)
theorem dJ19_newCapacity_56 : decode cJ19_newCapacity 56 = .ok (.goto 5, 3) := dk_167 0 5 (dk_at dksJ19_newCapacity_2 9 rfl rfl)
theorem dJ19_newCapacity_59 : decode cJ19_newCapacity 59 = .ok (.ldc 9, 2) := dk_18 9 (dk_at dksJ19_newCapacity_2 12 rfl rfl)
theorem dJ19_newCapacity_61 : decode cJ19_newCapacity 61 = .ok (.ireturn, 1) := dk_172 (dk_at dksJ19_newCapacity_2 14 rfl rfl)
abbrev cJ19_isEmpty : ByteArray := prog_43_method_38_code
def yJ19_isEmpty : MethodName := ⟨RJ19, "isEmpty", "()Z"⟩
def dkwJ19_isEmpty_0 : List UInt8 := [42, 180, 0, 24, 42, 180, 0, 20, 160, 0, 7, 4, 167, 0, 4, 3, 172]
abbrev dktJ19_isEmpty_0 : List UInt8 := dkwJ19_isEmpty_0 ++ []
theorem dksJ19_isEmpty_0 : cJ19_isEmpty.data.toList.drop 0 = dktJ19_isEmpty_0 := by decide +kernel
theorem dJ19_isEmpty_0 : decode cJ19_isEmpty 0 = .ok (.aload_n 0, 1) := dk_42 (dk_at dksJ19_isEmpty_0 0 rfl rfl)
theorem dJ19_isEmpty_1 : decode cJ19_isEmpty 1 = .ok (.getfield 24, 3) := dk_180 0 24 (dk_at dksJ19_isEmpty_0 1 rfl rfl)
theorem dJ19_isEmpty_4 : decode cJ19_isEmpty 4 = .ok (.aload_n 0, 1) := dk_42 (dk_at dksJ19_isEmpty_0 4 rfl rfl)
theorem dJ19_isEmpty_5 : decode cJ19_isEmpty 5 = .ok (.getfield 20, 3) := dk_180 0 20 (dk_at dksJ19_isEmpty_0 5 rfl rfl)
theorem dJ19_isEmpty_8 : decode cJ19_isEmpty 8 = .ok (.if_icmp .ne 7, 3) := dk_160 0 7 (dk_at dksJ19_isEmpty_0 8 rfl rfl)
theorem dJ19_isEmpty_11 : decode cJ19_isEmpty 11 = .ok (.iconst 1, 1) := dk_4 (dk_at dksJ19_isEmpty_0 11 rfl rfl)
theorem dJ19_isEmpty_12 : decode cJ19_isEmpty 12 = .ok (.goto 4, 3) := dk_167 0 4 (dk_at dksJ19_isEmpty_0 12 rfl rfl)
theorem dJ19_isEmpty_15 : decode cJ19_isEmpty 15 = .ok (.iconst 0, 1) := dk_3 (dk_at dksJ19_isEmpty_0 15 rfl rfl)
theorem dJ19_isEmpty_16 : decode cJ19_isEmpty 16 = .ok (.ireturn, 1) := dk_172 (dk_at dksJ19_isEmpty_0 16 rfl rfl)
abbrev cJ19_removeFirst : ByteArray := prog_43_method_18_code
def yJ19_removeFirst : MethodName := ⟨RJ19, "removeFirst", "()Ljava/lang/Object;"⟩
def dkwJ19_removeFirst_0 : List UInt8 := [42, 182, 0, 93, 76, 43, 199, 0, 11, 187, 0, 97, 89, 183, 0, 99, 191, 43, 176]
abbrev dktJ19_removeFirst_0 : List UInt8 := dkwJ19_removeFirst_0 ++ []
theorem dksJ19_removeFirst_0 : cJ19_removeFirst.data.toList.drop 0 = dktJ19_removeFirst_0 := by decide +kernel
theorem dJ19_removeFirst_0 : decode cJ19_removeFirst 0 = .ok (.aload_n 0, 1) := dk_42 (dk_at dksJ19_removeFirst_0 0 rfl rfl)
theorem dJ19_removeFirst_1 : decode cJ19_removeFirst 1 = .ok (.invokevirtual 93, 3) := dk_182 0 93 (dk_at dksJ19_removeFirst_0 1 rfl rfl)
theorem dJ19_removeFirst_4 : decode cJ19_removeFirst 4 = .ok (.astore_n 1, 1) := dk_76 (dk_at dksJ19_removeFirst_0 4 rfl rfl)
theorem dJ19_removeFirst_5 : decode cJ19_removeFirst 5 = .ok (.aload_n 1, 1) := dk_43 (dk_at dksJ19_removeFirst_0 5 rfl rfl)
theorem dJ19_removeFirst_6 : decode cJ19_removeFirst 6 = .ok (.ifnonnull 11, 3) := dk_199 0 11 (dk_at dksJ19_removeFirst_0 6 rfl rfl)
theorem dJ19_removeFirst_9 : decode cJ19_removeFirst 9 = .ok (.new 97, 3) := dk_187 0 97 (dk_at dksJ19_removeFirst_0 9 rfl rfl)
theorem dJ19_removeFirst_12 : decode cJ19_removeFirst 12 = .ok (.dup, 1) := dk_89 (dk_at dksJ19_removeFirst_0 12 rfl rfl)
theorem dJ19_removeFirst_13 : decode cJ19_removeFirst 13 = .ok (.invokespecial 99, 3) := dk_183 0 99 (dk_at dksJ19_removeFirst_0 13 rfl rfl)
theorem dJ19_removeFirst_16 : decode cJ19_removeFirst 16 = .ok (.athrow, 1) := dk_191 (dk_at dksJ19_removeFirst_0 16 rfl rfl)
theorem dJ19_removeFirst_17 : decode cJ19_removeFirst 17 = .ok (.aload_n 1, 1) := dk_43 (dk_at dksJ19_removeFirst_0 17 rfl rfl)
theorem dJ19_removeFirst_18 : decode cJ19_removeFirst 18 = .ok (.areturn, 1) := dk_176 (dk_at dksJ19_removeFirst_0 18 rfl rfl)
abbrev cJ19_pollFirst : ByteArray := prog_43_method_20_code
def yJ19_pollFirst : MethodName := ⟨RJ19, "pollFirst", "()Ljava/lang/Object;"⟩
def dkwJ19_pollFirst_1 : List UInt8 := [42, 28, 43, 190, 184, 0, 74, 181, 0, 24, 45, 176]
abbrev dktJ19_pollFirst_1 : List UInt8 := dkwJ19_pollFirst_1 ++ []
def dkwJ19_pollFirst_0 : List UInt8 := [42, 180, 0, 3, 89, 76, 42, 180, 0, 24, 89, 61, 184, 0, 103, 78, 45, 198, 0, 17, 43, 28, 1, 83]
abbrev dktJ19_pollFirst_0 : List UInt8 := dkwJ19_pollFirst_0 ++ dktJ19_pollFirst_1
theorem dksJ19_pollFirst_0 : cJ19_pollFirst.data.toList.drop 0 = dktJ19_pollFirst_0 := by decide +kernel
theorem dksJ19_pollFirst_1 : cJ19_pollFirst.data.toList.drop 24 = dktJ19_pollFirst_1 := dk_seg dksJ19_pollFirst_0 24 rfl rfl
theorem dJ19_pollFirst_0 : decode cJ19_pollFirst 0 = .ok (.aload_n 0, 1) := dk_42 (dk_at dksJ19_pollFirst_0 0 rfl rfl)
theorem dJ19_pollFirst_1 : decode cJ19_pollFirst 1 = .ok (.getfield 3, 3) := dk_180 0 3 (dk_at dksJ19_pollFirst_0 1 rfl rfl)
theorem dJ19_pollFirst_4 : decode cJ19_pollFirst 4 = .ok (.dup, 1) := dk_89 (dk_at dksJ19_pollFirst_0 4 rfl rfl)
theorem dJ19_pollFirst_5 : decode cJ19_pollFirst 5 = .ok (.astore_n 1, 1) := dk_76 (dk_at dksJ19_pollFirst_0 5 rfl rfl)
theorem dJ19_pollFirst_6 : decode cJ19_pollFirst 6 = .ok (.aload_n 0, 1) := dk_42 (dk_at dksJ19_pollFirst_0 6 rfl rfl)
theorem dJ19_pollFirst_7 : decode cJ19_pollFirst 7 = .ok (.getfield 24, 3) := dk_180 0 24 (dk_at dksJ19_pollFirst_0 7 rfl rfl)
theorem dJ19_pollFirst_10 : decode cJ19_pollFirst 10 = .ok (.dup, 1) := dk_89 (dk_at dksJ19_pollFirst_0 10 rfl rfl)
theorem dJ19_pollFirst_11 : decode cJ19_pollFirst 11 = .ok (.istore_n 2, 1) := dk_61 (dk_at dksJ19_pollFirst_0 11 rfl rfl)
theorem dJ19_pollFirst_12 : decode cJ19_pollFirst 12 = .ok (.invokestatic 103, 3) := dk_184 0 103 (dk_at dksJ19_pollFirst_0 12 rfl rfl)
theorem dJ19_pollFirst_15 : decode cJ19_pollFirst 15 = .ok (.astore_n 3, 1) := dk_78 (dk_at dksJ19_pollFirst_0 15 rfl rfl)
theorem dJ19_pollFirst_16 : decode cJ19_pollFirst 16 = .ok (.aload_n 3, 1) := dk_45 (dk_at dksJ19_pollFirst_0 16 rfl rfl)
theorem dJ19_pollFirst_17 : decode cJ19_pollFirst 17 = .ok (.ifnull 17, 3) := dk_198 0 17 (dk_at dksJ19_pollFirst_0 17 rfl rfl)
theorem dJ19_pollFirst_20 : decode cJ19_pollFirst 20 = .ok (.aload_n 1, 1) := dk_43 (dk_at dksJ19_pollFirst_0 20 rfl rfl)
theorem dJ19_pollFirst_21 : decode cJ19_pollFirst 21 = .ok (.iload_n 2, 1) := dk_28 (dk_at dksJ19_pollFirst_0 21 rfl rfl)
theorem dJ19_pollFirst_22 : decode cJ19_pollFirst 22 = .ok (.aconst_null, 1) := dk_1 (dk_at dksJ19_pollFirst_0 22 rfl rfl)
theorem dJ19_pollFirst_23 : decode cJ19_pollFirst 23 = .ok (.aastore, 1) := dk_83 (dk_at dksJ19_pollFirst_0 23 rfl rfl)
theorem dJ19_pollFirst_24 : decode cJ19_pollFirst 24 = .ok (.aload_n 0, 1) := dk_42 (dk_at dksJ19_pollFirst_1 0 rfl rfl)
theorem dJ19_pollFirst_25 : decode cJ19_pollFirst 25 = .ok (.iload_n 2, 1) := dk_28 (dk_at dksJ19_pollFirst_1 1 rfl rfl)
theorem dJ19_pollFirst_26 : decode cJ19_pollFirst 26 = .ok (.aload_n 1, 1) := dk_43 (dk_at dksJ19_pollFirst_1 2 rfl rfl)
theorem dJ19_pollFirst_27 : decode cJ19_pollFirst 27 = .ok (.arraylength, 1) := dk_190 (dk_at dksJ19_pollFirst_1 3 rfl rfl)
theorem dJ19_pollFirst_28 : decode cJ19_pollFirst 28 = .ok (.invokestatic 74, 3) := dk_184 0 74 (dk_at dksJ19_pollFirst_1 4 rfl rfl)
theorem dJ19_pollFirst_31 : decode cJ19_pollFirst 31 = .ok (.putfield 24, 3) := dk_181 0 24 (dk_at dksJ19_pollFirst_1 7 rfl rfl)
theorem dJ19_pollFirst_34 : decode cJ19_pollFirst 34 = .ok (.aload_n 3, 1) := dk_45 (dk_at dksJ19_pollFirst_1 10 rfl rfl)
theorem dJ19_pollFirst_35 : decode cJ19_pollFirst 35 = .ok (.areturn, 1) := dk_176 (dk_at dksJ19_pollFirst_1 11 rfl rfl)
abbrev cJ19_elementAt : ByteArray := prog_43_method_10_code
def yJ19_elementAt : MethodName := ⟨RJ19, "elementAt", "([Ljava/lang/Object;I)Ljava/lang/Object;"⟩
def dkwJ19_elementAt_0 : List UInt8 := [42, 27, 50, 176]
abbrev dktJ19_elementAt_0 : List UInt8 := dkwJ19_elementAt_0 ++ []
theorem dksJ19_elementAt_0 : cJ19_elementAt.data.toList.drop 0 = dktJ19_elementAt_0 := by decide +kernel
theorem dJ19_elementAt_0 : decode cJ19_elementAt 0 = .ok (.aload_n 0, 1) := dk_42 (dk_at dksJ19_elementAt_0 0 rfl rfl)
theorem dJ19_elementAt_1 : decode cJ19_elementAt 1 = .ok (.iload_n 1, 1) := dk_27 (dk_at dksJ19_elementAt_0 1 rfl rfl)
theorem dJ19_elementAt_2 : decode cJ19_elementAt 2 = .ok (.aaload, 1) := dk_50 (dk_at dksJ19_elementAt_0 2 rfl rfl)
theorem dJ19_elementAt_3 : decode cJ19_elementAt 3 = .ok (.areturn, 1) := dk_176 (dk_at dksJ19_elementAt_0 3 rfl rfl)
abbrev cJ19_size : ByteArray := prog_43_method_37_code
def yJ19_size : MethodName := ⟨RJ19, "size", "()I"⟩
def dkwJ19_size_0 : List UInt8 := [42, 180, 0, 20, 42, 180, 0, 24, 42, 180, 0, 3, 190, 184, 0, 127, 172]
abbrev dktJ19_size_0 : List UInt8 := dkwJ19_size_0 ++ []
theorem dksJ19_size_0 : cJ19_size.data.toList.drop 0 = dktJ19_size_0 := by decide +kernel
theorem dJ19_size_0 : decode cJ19_size 0 = .ok (.aload_n 0, 1) := dk_42 (dk_at dksJ19_size_0 0 rfl rfl)
theorem dJ19_size_1 : decode cJ19_size 1 = .ok (.getfield 20, 3) := dk_180 0 20 (dk_at dksJ19_size_0 1 rfl rfl)
theorem dJ19_size_4 : decode cJ19_size 4 = .ok (.aload_n 0, 1) := dk_42 (dk_at dksJ19_size_0 4 rfl rfl)
theorem dJ19_size_5 : decode cJ19_size 5 = .ok (.getfield 24, 3) := dk_180 0 24 (dk_at dksJ19_size_0 5 rfl rfl)
theorem dJ19_size_8 : decode cJ19_size 8 = .ok (.aload_n 0, 1) := dk_42 (dk_at dksJ19_size_0 8 rfl rfl)
theorem dJ19_size_9 : decode cJ19_size 9 = .ok (.getfield 3, 3) := dk_180 0 3 (dk_at dksJ19_size_0 9 rfl rfl)
theorem dJ19_size_12 : decode cJ19_size 12 = .ok (.arraylength, 1) := dk_190 (dk_at dksJ19_size_0 12 rfl rfl)
theorem dJ19_size_13 : decode cJ19_size 13 = .ok (.invokestatic 127, 3) := dk_184 0 127 (dk_at dksJ19_size_0 13 rfl rfl)
theorem dJ19_size_16 : decode cJ19_size 16 = .ok (.ireturn, 1) := dk_172 (dk_at dksJ19_size_0 16 rfl rfl)
abbrev cJ19_sub : ByteArray := prog_43_method_9_code
def yJ19_sub : MethodName := ⟨RJ19, "sub", "(III)I"⟩
def dkwJ19_sub_0 : List UInt8 := [26, 27, 100, 89, 59, 156, 0, 7, 26, 28, 96, 59, 26, 172]
abbrev dktJ19_sub_0 : List UInt8 := dkwJ19_sub_0 ++ []
theorem dksJ19_sub_0 : cJ19_sub.data.toList.drop 0 = dktJ19_sub_0 := by decide +kernel
theorem dJ19_sub_0 : decode cJ19_sub 0 = .ok (.iload_n 0, 1) := dk_26 (dk_at dksJ19_sub_0 0 rfl rfl)
theorem dJ19_sub_1 : decode cJ19_sub 1 = .ok (.iload_n 1, 1) := dk_27 (dk_at dksJ19_sub_0 1 rfl rfl)
theorem dJ19_sub_2 : decode cJ19_sub 2 = .ok (.isub, 1) := dk_100 (dk_at dksJ19_sub_0 2 rfl rfl)
theorem dJ19_sub_3 : decode cJ19_sub 3 = .ok (.dup, 1) := dk_89 (dk_at dksJ19_sub_0 3 rfl rfl)
theorem dJ19_sub_4 : decode cJ19_sub 4 = .ok (.istore_n 0, 1) := dk_59 (dk_at dksJ19_sub_0 4 rfl rfl)
theorem dJ19_sub_5 : decode cJ19_sub 5 = .ok (.ifCond .ge 7, 3) := dk_156 0 7 (dk_at dksJ19_sub_0 5 rfl rfl)
theorem dJ19_sub_8 : decode cJ19_sub 8 = .ok (.iload_n 0, 1) := dk_26 (dk_at dksJ19_sub_0 8 rfl rfl)
theorem dJ19_sub_9 : decode cJ19_sub 9 = .ok (.iload_n 2, 1) := dk_28 (dk_at dksJ19_sub_0 9 rfl rfl)
theorem dJ19_sub_10 : decode cJ19_sub 10 = .ok (.iadd, 1) := dk_96 (dk_at dksJ19_sub_0 10 rfl rfl)
theorem dJ19_sub_11 : decode cJ19_sub 11 = .ok (.istore_n 0, 1) := dk_59 (dk_at dksJ19_sub_0 11 rfl rfl)
theorem dJ19_sub_12 : decode cJ19_sub 12 = .ok (.iload_n 0, 1) := dk_26 (dk_at dksJ19_sub_0 12 rfl rfl)
theorem dJ19_sub_13 : decode cJ19_sub 13 = .ok (.ireturn, 1) := dk_172 (dk_at dksJ19_sub_0 13 rfl rfl)
abbrev cJ19_removeLast : ByteArray := prog_43_method_19_code
def yJ19_removeLast : MethodName := ⟨RJ19, "removeLast", "()Ljava/lang/Object;"⟩
def dkwJ19_removeLast_0 : List UInt8 := [42, 182, 0, 100, 76, 43, 199, 0, 11, 187, 0, 97, 89, 183, 0, 99, 191, 43, 176]
abbrev dktJ19_removeLast_0 : List UInt8 := dkwJ19_removeLast_0 ++ []
theorem dksJ19_removeLast_0 : cJ19_removeLast.data.toList.drop 0 = dktJ19_removeLast_0 := by decide +kernel
theorem dJ19_removeLast_0 : decode cJ19_removeLast 0 = .ok (.aload_n 0, 1) := dk_42 (dk_at dksJ19_removeLast_0 0 rfl rfl)
theorem dJ19_removeLast_1 : decode cJ19_removeLast 1 = .ok (.invokevirtual 100, 3) := dk_182 0 100 (dk_at dksJ19_removeLast_0 1 rfl rfl)
theorem dJ19_removeLast_4 : decode cJ19_removeLast 4 = .ok (.astore_n 1, 1) := dk_76 (dk_at dksJ19_removeLast_0 4 rfl rfl)
theorem dJ19_removeLast_5 : decode cJ19_removeLast 5 = .ok (.aload_n 1, 1) := dk_43 (dk_at dksJ19_removeLast_0 5 rfl rfl)
theorem dJ19_removeLast_6 : decode cJ19_removeLast 6 = .ok (.ifnonnull 11, 3) := dk_199 0 11 (dk_at dksJ19_removeLast_0 6 rfl rfl)
theorem dJ19_removeLast_9 : decode cJ19_removeLast 9 = .ok (.new 97, 3) := dk_187 0 97 (dk_at dksJ19_removeLast_0 9 rfl rfl)
theorem dJ19_removeLast_12 : decode cJ19_removeLast 12 = .ok (.dup, 1) := dk_89 (dk_at dksJ19_removeLast_0 12 rfl rfl)
theorem dJ19_removeLast_13 : decode cJ19_removeLast 13 = .ok (.invokespecial 99, 3) := dk_183 0 99 (dk_at dksJ19_removeLast_0 13 rfl rfl)
theorem dJ19_removeLast_16 : decode cJ19_removeLast 16 = .ok (.athrow, 1) := dk_191 (dk_at dksJ19_removeLast_0 16 rfl rfl)
theorem dJ19_removeLast_17 : decode cJ19_removeLast 17 = .ok (.aload_n 1, 1) := dk_43 (dk_at dksJ19_removeLast_0 17 rfl rfl)
theorem dJ19_removeLast_18 : decode cJ19_removeLast 18 = .ok (.areturn, 1) := dk_176 (dk_at dksJ19_removeLast_0 18 rfl rfl)
abbrev cJ19_pollLast : ByteArray := prog_43_method_21_code
def yJ19_pollLast : MethodName := ⟨RJ19, "pollLast", "()Ljava/lang/Object;"⟩
def dkwJ19_pollLast_1 : List UInt8 := [198, 0, 12, 43, 42, 28, 90, 181, 0, 20, 1, 83, 45, 176]
abbrev dktJ19_pollLast_1 : List UInt8 := dkwJ19_pollLast_1 ++ []
def dkwJ19_pollLast_0 : List UInt8 := [42, 180, 0, 3, 89, 76, 42, 180, 0, 20, 43, 190, 184, 0, 68, 89, 61, 184, 0, 103, 78, 45]
abbrev dktJ19_pollLast_0 : List UInt8 := dkwJ19_pollLast_0 ++ dktJ19_pollLast_1
theorem dksJ19_pollLast_0 : cJ19_pollLast.data.toList.drop 0 = dktJ19_pollLast_0 := by decide +kernel
theorem dksJ19_pollLast_1 : cJ19_pollLast.data.toList.drop 22 = dktJ19_pollLast_1 := dk_seg dksJ19_pollLast_0 22 rfl rfl
theorem dJ19_pollLast_0 : decode cJ19_pollLast 0 = .ok (.aload_n 0, 1) := dk_42 (dk_at dksJ19_pollLast_0 0 rfl rfl)
theorem dJ19_pollLast_1 : decode cJ19_pollLast 1 = .ok (.getfield 3, 3) := dk_180 0 3 (dk_at dksJ19_pollLast_0 1 rfl rfl)
theorem dJ19_pollLast_4 : decode cJ19_pollLast 4 = .ok (.dup, 1) := dk_89 (dk_at dksJ19_pollLast_0 4 rfl rfl)
theorem dJ19_pollLast_5 : decode cJ19_pollLast 5 = .ok (.astore_n 1, 1) := dk_76 (dk_at dksJ19_pollLast_0 5 rfl rfl)
theorem dJ19_pollLast_6 : decode cJ19_pollLast 6 = .ok (.aload_n 0, 1) := dk_42 (dk_at dksJ19_pollLast_0 6 rfl rfl)
theorem dJ19_pollLast_7 : decode cJ19_pollLast 7 = .ok (.getfield 20, 3) := dk_180 0 20 (dk_at dksJ19_pollLast_0 7 rfl rfl)
theorem dJ19_pollLast_10 : decode cJ19_pollLast 10 = .ok (.aload_n 1, 1) := dk_43 (dk_at dksJ19_pollLast_0 10 rfl rfl)
theorem dJ19_pollLast_11 : decode cJ19_pollLast 11 = .ok (.arraylength, 1) := dk_190 (dk_at dksJ19_pollLast_0 11 rfl rfl)
theorem dJ19_pollLast_12 : decode cJ19_pollLast 12 = .ok (.invokestatic 68, 3) := dk_184 0 68 (dk_at dksJ19_pollLast_0 12 rfl rfl)
theorem dJ19_pollLast_15 : decode cJ19_pollLast 15 = .ok (.dup, 1) := dk_89 (dk_at dksJ19_pollLast_0 15 rfl rfl)
theorem dJ19_pollLast_16 : decode cJ19_pollLast 16 = .ok (.istore_n 2, 1) := dk_61 (dk_at dksJ19_pollLast_0 16 rfl rfl)
theorem dJ19_pollLast_17 : decode cJ19_pollLast 17 = .ok (.invokestatic 103, 3) := dk_184 0 103 (dk_at dksJ19_pollLast_0 17 rfl rfl)
theorem dJ19_pollLast_20 : decode cJ19_pollLast 20 = .ok (.astore_n 3, 1) := dk_78 (dk_at dksJ19_pollLast_0 20 rfl rfl)
theorem dJ19_pollLast_21 : decode cJ19_pollLast 21 = .ok (.aload_n 3, 1) := dk_45 (dk_at dksJ19_pollLast_0 21 rfl rfl)
theorem dJ19_pollLast_22 : decode cJ19_pollLast 22 = .ok (.ifnull 12, 3) := dk_198 0 12 (dk_at dksJ19_pollLast_1 0 rfl rfl)
theorem dJ19_pollLast_25 : decode cJ19_pollLast 25 = .ok (.aload_n 1, 1) := dk_43 (dk_at dksJ19_pollLast_1 3 rfl rfl)
theorem dJ19_pollLast_26 : decode cJ19_pollLast 26 = .ok (.aload_n 0, 1) := dk_42 (dk_at dksJ19_pollLast_1 4 rfl rfl)
theorem dJ19_pollLast_27 : decode cJ19_pollLast 27 = .ok (.iload_n 2, 1) := dk_28 (dk_at dksJ19_pollLast_1 5 rfl rfl)
theorem dJ19_pollLast_28 : decode cJ19_pollLast 28 = .ok (.dup_x1, 1) := dk_90 (dk_at dksJ19_pollLast_1 6 rfl rfl)
theorem dJ19_pollLast_29 : decode cJ19_pollLast 29 = .ok (.putfield 20, 3) := dk_181 0 20 (dk_at dksJ19_pollLast_1 7 rfl rfl)
theorem dJ19_pollLast_32 : decode cJ19_pollLast 32 = .ok (.aconst_null, 1) := dk_1 (dk_at dksJ19_pollLast_1 10 rfl rfl)
theorem dJ19_pollLast_33 : decode cJ19_pollLast 33 = .ok (.aastore, 1) := dk_83 (dk_at dksJ19_pollLast_1 11 rfl rfl)
theorem dJ19_pollLast_34 : decode cJ19_pollLast 34 = .ok (.aload_n 3, 1) := dk_45 (dk_at dksJ19_pollLast_1 12 rfl rfl)
theorem dJ19_pollLast_35 : decode cJ19_pollLast 35 = .ok (.areturn, 1) := dk_176 (dk_at dksJ19_pollLast_1 13 rfl rfl)
abbrev cJ19_dec : ByteArray := prog_43_method_7_code
def yJ19_dec : MethodName := ⟨RJ19, "dec", "(II)I"⟩
def dkwJ19_dec_0 : List UInt8 := [132, 0, 255, 26, 156, 0, 7, 27, 4, 100, 59, 26, 172]
abbrev dktJ19_dec_0 : List UInt8 := dkwJ19_dec_0 ++ []
theorem dksJ19_dec_0 : cJ19_dec.data.toList.drop 0 = dktJ19_dec_0 := by decide +kernel
theorem dJ19_dec_0 : decode cJ19_dec 0 = .ok (.iinc 0 (-1), 3) := dk_132 0 255 (dk_at dksJ19_dec_0 0 rfl rfl)
theorem dJ19_dec_3 : decode cJ19_dec 3 = .ok (.iload_n 0, 1) := dk_26 (dk_at dksJ19_dec_0 3 rfl rfl)
theorem dJ19_dec_4 : decode cJ19_dec 4 = .ok (.ifCond .ge 7, 3) := dk_156 0 7 (dk_at dksJ19_dec_0 4 rfl rfl)
theorem dJ19_dec_7 : decode cJ19_dec 7 = .ok (.iload_n 1, 1) := dk_27 (dk_at dksJ19_dec_0 7 rfl rfl)
theorem dJ19_dec_8 : decode cJ19_dec 8 = .ok (.iconst 1, 1) := dk_4 (dk_at dksJ19_dec_0 8 rfl rfl)
theorem dJ19_dec_9 : decode cJ19_dec 9 = .ok (.isub, 1) := dk_100 (dk_at dksJ19_dec_0 9 rfl rfl)
theorem dJ19_dec_10 : decode cJ19_dec 10 = .ok (.istore_n 0, 1) := dk_59 (dk_at dksJ19_dec_0 10 rfl rfl)
theorem dJ19_dec_11 : decode cJ19_dec 11 = .ok (.iload_n 0, 1) := dk_26 (dk_at dksJ19_dec_0 11 rfl rfl)
theorem dJ19_dec_12 : decode cJ19_dec 12 = .ok (.ireturn, 1) := dk_172 (dk_at dksJ19_dec_0 12 rfl rfl)
theorem q104 : (Jvm.Cond.initialized "java/util/ArrayDeque") ∈ lw_all := lw_g (lw_at lw_m1 27 rfl) rfl
theorem q208 : (Jvm.Cond.instantiable "java/util/ArrayDeque" (3 : Nat)) ∈ lw_all := lw_g (lw_at lw_m1 131 rfl) rfl
theorem q210 : (Jvm.Cond.instanceMethod ({ cls := "java/util/ArrayDeque", name := "<init>", desc := "()V" } : Jvm.MethodName)) ∈ lw_all := lw_g (lw_at lw_m1 133 rfl) rfl
theorem q211 : (Jvm.Cond.code ({ cls := "java/util/ArrayDeque", name := "<init>", desc := "()V" } : Jvm.MethodName) prog_43_method_3_code (1 : Nat) (Option.none : Option Jvm.ClassFile.FieldType)) ∈ lw_all := lw_g (lw_at lw_m1 134 rfl) rfl
theorem q212 : (Jvm.Cond.methodLink "java/util/ArrayDeque" (42 : Nat) ({ cls := "java/util/AbstractCollection", name := "<init>", desc := "()V" } : Jvm.MethodName)) ∈ lw_all := lw_g (lw_at lw_m1 135 rfl) rfl
theorem q216 : (Jvm.Cond.classLink "java/util/ArrayDeque" (47 : Nat) "java/lang/Object") ∈ lw_all := lw_g (lw_at lw_m1 139 rfl) rfl
theorem q218 : (Jvm.Cond.fieldLink "java/util/ArrayDeque" (3 : Nat) "java/util/ArrayDeque" "elements" "[Ljava/lang/Object;") ∈ lw_all := lw_g (lw_at lw_m1 141 rfl) rfl
theorem q219 : (Jvm.Cond.fieldLink "java/util/ArrayDeque" (24 : Nat) "java/util/ArrayDeque" "head" "I") ∈ lw_all := lw_g (lw_at lw_m1 142 rfl) rfl
theorem q220 : (Jvm.Cond.fieldLink "java/util/ArrayDeque" (20 : Nat) "java/util/ArrayDeque" "tail" "I") ∈ lw_all := lw_g (lw_at lw_m1 143 rfl) rfl
theorem q221 : (Jvm.Cond.lays "java/util/ArrayDeque" "java/util/ArrayDeque" "elements" "[Ljava/lang/Object;") ∈ lw_all := lw_g (lw_at lw_m1 144 rfl) rfl
theorem q222 : (Jvm.Cond.soleField "java/util/ArrayDeque" "elements") ∈ lw_all := lw_g (lw_at lw_m1 145 rfl) rfl
theorem q223 : (Jvm.Cond.lays "java/util/ArrayDeque" "java/util/ArrayDeque" "head" "I") ∈ lw_all := lw_g (lw_at lw_m1 146 rfl) rfl
theorem q224 : (Jvm.Cond.soleField "java/util/ArrayDeque" "head") ∈ lw_all := lw_g (lw_at lw_m1 147 rfl) rfl
theorem q225 : (Jvm.Cond.lays "java/util/ArrayDeque" "java/util/ArrayDeque" "tail" "I") ∈ lw_all := lw_g (lw_at lw_m1 148 rfl) rfl
theorem q226 : (Jvm.Cond.soleField "java/util/ArrayDeque" "tail") ∈ lw_all := lw_g (lw_at lw_m1 149 rfl) rfl
theorem q227 : (Jvm.Cond.superclass "java/util/ArrayDeque" "java/util/AbstractCollection") ∈ lw_all := lw_g (lw_at lw_m1 150 rfl) rfl
theorem q309 : (Jvm.Cond.instanceMethod ({ cls := "java/util/ArrayDeque", name := "addLast", desc := "(Ljava/lang/Object;)V" } : Jvm.MethodName)) ∈ lw_all := lw_g (lw_at lw_m1 232 rfl) rfl
theorem q310 : (Jvm.Cond.selects "java/util/ArrayDeque" ({ cls := "java/util/ArrayDeque", name := "addLast", desc := "(Ljava/lang/Object;)V" } : Jvm.MethodName) ({ cls := "java/util/ArrayDeque", name := "addLast", desc := "(Ljava/lang/Object;)V" } : Jvm.MethodName)) ∈ lw_all := lw_g (lw_at lw_m1 233 rfl) rfl
theorem q311 : (Jvm.Cond.code ({ cls := "java/util/ArrayDeque", name := "addLast", desc := "(Ljava/lang/Object;)V" } : Jvm.MethodName) prog_43_method_13_code (3 : Nat) (Option.none : Option Jvm.ClassFile.FieldType)) ∈ lw_all := lw_g (lw_at lw_m1 234 rfl) rfl
theorem q312 : (Jvm.Cond.methodLink "java/util/ArrayDeque" (74 : Nat) ({ cls := "java/util/ArrayDeque", name := "inc", desc := "(II)I" } : Jvm.MethodName)) ∈ lw_all := lw_g (lw_at lw_m1 235 rfl) rfl
theorem q313 : (Jvm.Cond.static ({ cls := "java/util/ArrayDeque", name := "inc", desc := "(II)I" } : Jvm.MethodName)) ∈ lw_all := lw_g (lw_at lw_m1 236 rfl) rfl
theorem q314 : (Jvm.Cond.code ({ cls := "java/util/ArrayDeque", name := "inc", desc := "(II)I" } : Jvm.MethodName) prog_43_method_6_code (2 : Nat) (Option.some Jvm.ClassFile.FieldType.int)) ∈ lw_all := lw_g (lw_at lw_m1 237 rfl) rfl
theorem q315 : (Jvm.Cond.methodLink "java/util/ArrayDeque" (71 : Nat) ({ cls := "java/util/ArrayDeque", name := "grow", desc := "(I)V" } : Jvm.MethodName)) ∈ lw_all := lw_g (lw_at lw_m1 238 rfl) rfl
theorem q316 : (Jvm.Cond.privateMethod ({ cls := "java/util/ArrayDeque", name := "grow", desc := "(I)V" } : Jvm.MethodName)) ∈ lw_tbl := lw_at lw_m1 239 rfl
theorem q317 : (Jvm.Cond.instanceMethod ({ cls := "java/util/ArrayDeque", name := "grow", desc := "(I)V" } : Jvm.MethodName)) ∈ lw_all := lw_g (lw_at lw_m2 0 rfl) rfl
theorem q318 : (Jvm.Cond.code ({ cls := "java/util/ArrayDeque", name := "grow", desc := "(I)V" } : Jvm.MethodName) prog_43_method_1_code (9 : Nat) (Option.none : Option Jvm.ClassFile.FieldType)) ∈ lw_all := lw_g (lw_at lw_m2 1 rfl) rfl
theorem q319 : (Jvm.Cond.constant "java/util/ArrayDeque" (9 : Nat) (2147483639 : Int32)) ∈ lw_all := lw_g (lw_at lw_m2 2 rfl) rfl
theorem q320 : (Jvm.Cond.methodLink "java/util/ArrayDeque" (10 : Nat) ({ cls := "java/util/ArrayDeque", name := "newCapacity", desc := "(II)I" } : Jvm.MethodName)) ∈ lw_all := lw_g (lw_at lw_m2 3 rfl) rfl
theorem q321 : (Jvm.Cond.privateMethod ({ cls := "java/util/ArrayDeque", name := "newCapacity", desc := "(II)I" } : Jvm.MethodName)) ∈ lw_tbl := lw_at lw_m2 4 rfl
theorem q322 : (Jvm.Cond.instanceMethod ({ cls := "java/util/ArrayDeque", name := "newCapacity", desc := "(II)I" } : Jvm.MethodName)) ∈ lw_all := lw_g (lw_at lw_m2 5 rfl) rfl
theorem q323 : (Jvm.Cond.code ({ cls := "java/util/ArrayDeque", name := "newCapacity", desc := "(II)I" } : Jvm.MethodName) prog_43_method_2_code (5 : Nat) (Option.some Jvm.ClassFile.FieldType.int)) ∈ lw_all := lw_g (lw_at lw_m2 6 rfl) rfl
theorem q324 : (Jvm.Cond.classLink "java/util/ArrayDeque" (33 : Nat) "java/lang/IllegalStateException") ∈ lw_all := lw_g (lw_at lw_m2 7 rfl) rfl
theorem q370 : (Jvm.Cond.stringRef "java/util/ArrayDeque" (35 : Nat) "Sorry, deque too big") ∈ lw_tbl := lw_at lw_m2 53 rfl
theorem q371 : (Jvm.Cond.methodLink "java/util/ArrayDeque" (37 : Nat) ({ cls := "java/lang/IllegalStateException", name := "<init>", desc := "(Ljava/lang/String;)V" } : Jvm.MethodName)) ∈ lw_all := lw_g (lw_at lw_m2 54 rfl) rfl
theorem q397 : (Jvm.Cond.constant "java/util/ArrayDeque" (41 : Nat) (2147483647 : Int32)) ∈ lw_all := lw_g (lw_at lw_m2 80 rfl) rfl
theorem q398 : (Jvm.Cond.methodLink "java/util/ArrayDeque" (14 : Nat) ({ cls := "java/util/Arrays", name := "copyOf", desc := "([Ljava/lang/Object;I)[Ljava/lang/Object;" } : Jvm.MethodName)) ∈ lw_all := lw_g (lw_at lw_m2 81 rfl) rfl
theorem q423 : (Jvm.Cond.selects "java/util/ArrayDeque" ({ cls := "java/lang/Object", name := "getClass", desc := "()Ljava/lang/Class;" } : Jvm.MethodName) ({ cls := "java/lang/Object", name := "getClass", desc := "()Ljava/lang/Class;" } : Jvm.MethodName)) ∈ lw_all := lw_g (lw_at lw_m2 106 rfl) rfl
theorem q439 : (Jvm.Cond.methodLink "java/util/ArrayDeque" (27 : Nat) ({ cls := "java/lang/System", name := "arraycopy", desc := "(Ljava/lang/Object;ILjava/lang/Object;II)V" } : Jvm.MethodName)) ∈ lw_all := lw_g (lw_at lw_m2 122 rfl) rfl
theorem q441 : (Jvm.Cond.instanceMethod ({ cls := "java/util/ArrayDeque", name := "isEmpty", desc := "()Z" } : Jvm.MethodName)) ∈ lw_all := lw_g (lw_at lw_m2 124 rfl) rfl
theorem q442 : (Jvm.Cond.selects "java/util/ArrayDeque" ({ cls := "java/util/ArrayDeque", name := "isEmpty", desc := "()Z" } : Jvm.MethodName) ({ cls := "java/util/ArrayDeque", name := "isEmpty", desc := "()Z" } : Jvm.MethodName)) ∈ lw_all := lw_g (lw_at lw_m2 125 rfl) rfl
theorem q443 : (Jvm.Cond.code ({ cls := "java/util/ArrayDeque", name := "isEmpty", desc := "()Z" } : Jvm.MethodName) prog_43_method_38_code (1 : Nat) (Option.some Jvm.ClassFile.FieldType.boolean)) ∈ lw_all := lw_g (lw_at lw_m2 126 rfl) rfl
theorem q445 : (Jvm.Cond.instanceMethod ({ cls := "java/util/ArrayDeque", name := "removeFirst", desc := "()Ljava/lang/Object;" } : Jvm.MethodName)) ∈ lw_all := lw_g (lw_at lw_m2 128 rfl) rfl
theorem q446 : (Jvm.Cond.selects "java/util/ArrayDeque" ({ cls := "java/util/ArrayDeque", name := "removeFirst", desc := "()Ljava/lang/Object;" } : Jvm.MethodName) ({ cls := "java/util/ArrayDeque", name := "removeFirst", desc := "()Ljava/lang/Object;" } : Jvm.MethodName)) ∈ lw_all := lw_g (lw_at lw_m2 129 rfl) rfl
theorem q447 : (Jvm.Cond.code ({ cls := "java/util/ArrayDeque", name := "removeFirst", desc := "()Ljava/lang/Object;" } : Jvm.MethodName) prog_43_method_18_code (2 : Nat) (Option.some (Jvm.ClassFile.FieldType.object "java/lang/Object"))) ∈ lw_all := lw_g (lw_at lw_m2 130 rfl) rfl
theorem q448 : (Jvm.Cond.methodLink "java/util/ArrayDeque" (93 : Nat) ({ cls := "java/util/ArrayDeque", name := "pollFirst", desc := "()Ljava/lang/Object;" } : Jvm.MethodName)) ∈ lw_all := lw_g (lw_at lw_m2 131 rfl) rfl
theorem q449 : (Jvm.Cond.instanceMethod ({ cls := "java/util/ArrayDeque", name := "pollFirst", desc := "()Ljava/lang/Object;" } : Jvm.MethodName)) ∈ lw_all := lw_g (lw_at lw_m2 132 rfl) rfl
theorem q450 : (Jvm.Cond.selects "java/util/ArrayDeque" ({ cls := "java/util/ArrayDeque", name := "pollFirst", desc := "()Ljava/lang/Object;" } : Jvm.MethodName) ({ cls := "java/util/ArrayDeque", name := "pollFirst", desc := "()Ljava/lang/Object;" } : Jvm.MethodName)) ∈ lw_all := lw_g (lw_at lw_m2 133 rfl) rfl
theorem q451 : (Jvm.Cond.code ({ cls := "java/util/ArrayDeque", name := "pollFirst", desc := "()Ljava/lang/Object;" } : Jvm.MethodName) prog_43_method_20_code (4 : Nat) (Option.some (Jvm.ClassFile.FieldType.object "java/lang/Object"))) ∈ lw_all := lw_g (lw_at lw_m2 134 rfl) rfl
theorem q452 : (Jvm.Cond.methodLink "java/util/ArrayDeque" (103 : Nat) ({ cls := "java/util/ArrayDeque", name := "elementAt", desc := "([Ljava/lang/Object;I)Ljava/lang/Object;" } : Jvm.MethodName)) ∈ lw_all := lw_g (lw_at lw_m2 135 rfl) rfl
theorem q453 : (Jvm.Cond.static ({ cls := "java/util/ArrayDeque", name := "elementAt", desc := "([Ljava/lang/Object;I)Ljava/lang/Object;" } : Jvm.MethodName)) ∈ lw_all := lw_g (lw_at lw_m2 136 rfl) rfl
theorem q454 : (Jvm.Cond.code ({ cls := "java/util/ArrayDeque", name := "elementAt", desc := "([Ljava/lang/Object;I)Ljava/lang/Object;" } : Jvm.MethodName) prog_43_method_10_code (2 : Nat) (Option.some (Jvm.ClassFile.FieldType.object "java/lang/Object"))) ∈ lw_all := lw_g (lw_at lw_m2 137 rfl) rfl
theorem q455 : (Jvm.Cond.classLink "java/util/ArrayDeque" (97 : Nat) "java/util/NoSuchElementException") ∈ lw_all := lw_g (lw_at lw_m2 138 rfl) rfl
theorem q464 : (Jvm.Cond.methodLink "java/util/ArrayDeque" (99 : Nat) ({ cls := "java/util/NoSuchElementException", name := "<init>", desc := "()V" } : Jvm.MethodName)) ∈ lw_all := lw_g (lw_at lw_m2 147 rfl) rfl
theorem q1546 : (Jvm.Cond.instanceMethod ({ cls := "java/util/ArrayDeque", name := "size", desc := "()I" } : Jvm.MethodName)) ∈ lw_all := lw_g (lw_at lw_m7 29 rfl) rfl
theorem q1547 : (Jvm.Cond.selects "java/util/ArrayDeque" ({ cls := "java/util/ArrayDeque", name := "size", desc := "()I" } : Jvm.MethodName) ({ cls := "java/util/ArrayDeque", name := "size", desc := "()I" } : Jvm.MethodName)) ∈ lw_all := lw_g (lw_at lw_m7 30 rfl) rfl
theorem q1548 : (Jvm.Cond.code ({ cls := "java/util/ArrayDeque", name := "size", desc := "()I" } : Jvm.MethodName) prog_43_method_37_code (1 : Nat) (Option.some Jvm.ClassFile.FieldType.int)) ∈ lw_all := lw_g (lw_at lw_m7 31 rfl) rfl
theorem q1549 : (Jvm.Cond.methodLink "java/util/ArrayDeque" (127 : Nat) ({ cls := "java/util/ArrayDeque", name := "sub", desc := "(III)I" } : Jvm.MethodName)) ∈ lw_all := lw_g (lw_at lw_m7 32 rfl) rfl
theorem q1550 : (Jvm.Cond.static ({ cls := "java/util/ArrayDeque", name := "sub", desc := "(III)I" } : Jvm.MethodName)) ∈ lw_all := lw_g (lw_at lw_m7 33 rfl) rfl
theorem q1551 : (Jvm.Cond.code ({ cls := "java/util/ArrayDeque", name := "sub", desc := "(III)I" } : Jvm.MethodName) prog_43_method_9_code (3 : Nat) (Option.some Jvm.ClassFile.FieldType.int)) ∈ lw_all := lw_g (lw_at lw_m7 34 rfl) rfl
theorem q1556 : (Jvm.Cond.instanceMethod ({ cls := "java/util/ArrayDeque", name := "removeLast", desc := "()Ljava/lang/Object;" } : Jvm.MethodName)) ∈ lw_all := lw_g (lw_at lw_m7 39 rfl) rfl
theorem q1557 : (Jvm.Cond.selects "java/util/ArrayDeque" ({ cls := "java/util/ArrayDeque", name := "removeLast", desc := "()Ljava/lang/Object;" } : Jvm.MethodName) ({ cls := "java/util/ArrayDeque", name := "removeLast", desc := "()Ljava/lang/Object;" } : Jvm.MethodName)) ∈ lw_all := lw_g (lw_at lw_m7 40 rfl) rfl
theorem q1558 : (Jvm.Cond.code ({ cls := "java/util/ArrayDeque", name := "removeLast", desc := "()Ljava/lang/Object;" } : Jvm.MethodName) prog_43_method_19_code (2 : Nat) (Option.some (Jvm.ClassFile.FieldType.object "java/lang/Object"))) ∈ lw_all := lw_g (lw_at lw_m7 41 rfl) rfl
theorem q1559 : (Jvm.Cond.methodLink "java/util/ArrayDeque" (100 : Nat) ({ cls := "java/util/ArrayDeque", name := "pollLast", desc := "()Ljava/lang/Object;" } : Jvm.MethodName)) ∈ lw_all := lw_g (lw_at lw_m7 42 rfl) rfl
theorem q1560 : (Jvm.Cond.instanceMethod ({ cls := "java/util/ArrayDeque", name := "pollLast", desc := "()Ljava/lang/Object;" } : Jvm.MethodName)) ∈ lw_all := lw_g (lw_at lw_m7 43 rfl) rfl
theorem q1561 : (Jvm.Cond.selects "java/util/ArrayDeque" ({ cls := "java/util/ArrayDeque", name := "pollLast", desc := "()Ljava/lang/Object;" } : Jvm.MethodName) ({ cls := "java/util/ArrayDeque", name := "pollLast", desc := "()Ljava/lang/Object;" } : Jvm.MethodName)) ∈ lw_all := lw_g (lw_at lw_m7 44 rfl) rfl
theorem q1562 : (Jvm.Cond.code ({ cls := "java/util/ArrayDeque", name := "pollLast", desc := "()Ljava/lang/Object;" } : Jvm.MethodName) prog_43_method_21_code (4 : Nat) (Option.some (Jvm.ClassFile.FieldType.object "java/lang/Object"))) ∈ lw_all := lw_g (lw_at lw_m7 45 rfl) rfl
theorem q1563 : (Jvm.Cond.methodLink "java/util/ArrayDeque" (68 : Nat) ({ cls := "java/util/ArrayDeque", name := "dec", desc := "(II)I" } : Jvm.MethodName)) ∈ lw_all := lw_g (lw_at lw_m7 46 rfl) rfl
theorem q1564 : (Jvm.Cond.static ({ cls := "java/util/ArrayDeque", name := "dec", desc := "(II)I" } : Jvm.MethodName)) ∈ lw_all := lw_g (lw_at lw_m7 47 rfl) rfl
theorem q1565 : (Jvm.Cond.code ({ cls := "java/util/ArrayDeque", name := "dec", desc := "(II)I" } : Jvm.MethodName) prog_43_method_7_code (2 : Nat) (Option.some Jvm.ClassFile.FieldType.int)) ∈ lw_all := lw_g (lw_at lw_m7 48 rfl) rfl
theorem q2202 : (Jvm.Cond.castable "java/util/ArrayDeque" "java/lang/Object") ∈ lw_tbl := lw_at lw_m9 205 rfl
theorem in_J19 : ∀ w ∈ wsJ190, w ∈ lw_all := lw_in wsJ190 [221, 223, 225] (by decide +kernel) (by decide +kernel)

/-! java/util/BitSet -/
set_option maxRecDepth 100000
def RJ20 : String := "java/util/BitSet"
def TJ20 : u_T := fun k => match k with
  | 0 => ("java/util/BitSet", "words", "[J", false)
  | 1 => ("java/util/BitSet", "wordsInUse", "I", false)
  | _ => ("java/util/BitSet", "sizeIsSticky", "Z", false)
def tyJ20 : Nat → FieldType := fun k => match k with
  | 0 => .array .long
  | 1 => .int
  | _ => .boolean
abbrev wsJ200 : List Cond := u_ws RJ20 TJ20 3
theorem nmJ20 : ∀ a, a < 3 → ∀ b, b < 3 → a ≠ b → (TJ20 a).2.1 ≠ (TJ20 b).2.1 := by decide +kernel
theorem tyJ20_ok : ∀ k, k < 3 → parseFieldDescriptor (TJ20 k).2.2.1 = some (tyJ20 k) := by decide +kernel
abbrev cJ20_init : ByteArray := prog_46_method_4_code
def yJ20_init : MethodName := ⟨RJ20, "<init>", "()V"⟩
def dkwJ20_init_1 : List UInt8 := [181, 0, 24, 177]
abbrev dktJ20_init_1 : List UInt8 := dkwJ20_init_1 ++ []
def dkwJ20_init_0 : List UInt8 := [42, 183, 0, 21, 42, 3, 181, 0, 7, 42, 3, 181, 0, 24, 42, 16, 64, 182, 0, 27, 42, 3]
abbrev dktJ20_init_0 : List UInt8 := dkwJ20_init_0 ++ dktJ20_init_1
theorem dksJ20_init_0 : cJ20_init.data.toList.drop 0 = dktJ20_init_0 := by decide +kernel
theorem dksJ20_init_1 : cJ20_init.data.toList.drop 22 = dktJ20_init_1 := dk_seg dksJ20_init_0 22 rfl rfl
theorem dJ20_init_0 : decode cJ20_init 0 = .ok (.aload_n 0, 1) := dk_42 (dk_at dksJ20_init_0 0 rfl rfl)
theorem dJ20_init_1 : decode cJ20_init 1 = .ok (.invokespecial 21, 3) := dk_183 0 21 (dk_at dksJ20_init_0 1 rfl rfl)
theorem dJ20_init_4 : decode cJ20_init 4 = .ok (.aload_n 0, 1) := dk_42 (dk_at dksJ20_init_0 4 rfl rfl)
theorem dJ20_init_5 : decode cJ20_init 5 = .ok (.iconst 0, 1) := dk_3 (dk_at dksJ20_init_0 5 rfl rfl)
theorem dJ20_init_6 : decode cJ20_init 6 = .ok (.putfield 7, 3) := dk_181 0 7 (dk_at dksJ20_init_0 6 rfl rfl)
theorem dJ20_init_9 : decode cJ20_init 9 = .ok (.aload_n 0, 1) := dk_42 (dk_at dksJ20_init_0 9 rfl rfl)
theorem dJ20_init_10 : decode cJ20_init 10 = .ok (.iconst 0, 1) := dk_3 (dk_at dksJ20_init_0 10 rfl rfl)
theorem dJ20_init_11 : decode cJ20_init 11 = .ok (.putfield 24, 3) := dk_181 0 24 (dk_at dksJ20_init_0 11 rfl rfl)
theorem dJ20_init_14 : decode cJ20_init 14 = .ok (.aload_n 0, 1) := dk_42 (dk_at dksJ20_init_0 14 rfl rfl)
theorem dJ20_init_15 : decode cJ20_init 15 = .ok (.bipush 64, 2) := dk_16 64 (dk_at dksJ20_init_0 15 rfl rfl)
theorem dJ20_init_17 : decode cJ20_init 17 = .ok (.invokevirtual 27, 3) := dk_182 0 27 (dk_at dksJ20_init_0 17 rfl rfl)
theorem dJ20_init_20 : decode cJ20_init 20 = .ok (.aload_n 0, 1) := dk_42 (dk_at dksJ20_init_0 20 rfl rfl)
theorem dJ20_init_21 : decode cJ20_init 21 = .ok (.iconst 0, 1) := dk_3 (dk_at dksJ20_init_0 21 rfl rfl)
theorem dJ20_init_22 : decode cJ20_init 22 = .ok (.putfield 24, 3) := dk_181 0 24 (dk_at dksJ20_init_1 0 rfl rfl)
theorem dJ20_init_25 : decode cJ20_init 25 = .ok (.return_, 1) := dk_177 (dk_at dksJ20_init_1 3 rfl rfl)
abbrev cJ20_initWords : ByteArray := prog_46_method_6_code
def yJ20_initWords : MethodName := ⟨RJ20, "initWords", "(I)V"⟩
def dkwJ20_initWords_0 : List UInt8 := [42, 27, 4, 100, 184, 0, 52, 4, 96, 188, 11, 181, 0, 11, 177]
abbrev dktJ20_initWords_0 : List UInt8 := dkwJ20_initWords_0 ++ []
theorem dksJ20_initWords_0 : cJ20_initWords.data.toList.drop 0 = dktJ20_initWords_0 := by decide +kernel
theorem dJ20_initWords_0 : decode cJ20_initWords 0 = .ok (.aload_n 0, 1) := dk_42 (dk_at dksJ20_initWords_0 0 rfl rfl)
theorem dJ20_initWords_1 : decode cJ20_initWords 1 = .ok (.iload_n 1, 1) := dk_27 (dk_at dksJ20_initWords_0 1 rfl rfl)
theorem dJ20_initWords_2 : decode cJ20_initWords 2 = .ok (.iconst 1, 1) := dk_4 (dk_at dksJ20_initWords_0 2 rfl rfl)
theorem dJ20_initWords_3 : decode cJ20_initWords 3 = .ok (.isub, 1) := dk_100 (dk_at dksJ20_initWords_0 3 rfl rfl)
theorem dJ20_initWords_4 : decode cJ20_initWords 4 = .ok (.invokestatic 52, 3) := dk_184 0 52 (dk_at dksJ20_initWords_0 4 rfl rfl)
theorem dJ20_initWords_7 : decode cJ20_initWords 7 = .ok (.iconst 1, 1) := dk_4 (dk_at dksJ20_initWords_0 7 rfl rfl)
theorem dJ20_initWords_8 : decode cJ20_initWords 8 = .ok (.iadd, 1) := dk_96 (dk_at dksJ20_initWords_0 8 rfl rfl)
theorem dJ20_initWords_9 : decode cJ20_initWords 9 = .ok (.newarray .long, 2) := dk_188_11 (dk_at dksJ20_initWords_0 9 rfl rfl)
theorem dJ20_initWords_11 : decode cJ20_initWords 11 = .ok (.putfield 11, 3) := dk_181 0 11 (dk_at dksJ20_initWords_0 11 rfl rfl)
theorem dJ20_initWords_14 : decode cJ20_initWords 14 = .ok (.return_, 1) := dk_177 (dk_at dksJ20_initWords_0 14 rfl rfl)
abbrev cJ20_wordIndex : ByteArray := prog_46_method_1_code
def yJ20_wordIndex : MethodName := ⟨RJ20, "wordIndex", "(I)I"⟩
def dkwJ20_wordIndex_0 : List UInt8 := [26, 16, 6, 122, 172]
abbrev dktJ20_wordIndex_0 : List UInt8 := dkwJ20_wordIndex_0 ++ []
theorem dksJ20_wordIndex_0 : cJ20_wordIndex.data.toList.drop 0 = dktJ20_wordIndex_0 := by decide +kernel
theorem dJ20_wordIndex_0 : decode cJ20_wordIndex 0 = .ok (.iload_n 0, 1) := dk_26 (dk_at dksJ20_wordIndex_0 0 rfl rfl)
theorem dJ20_wordIndex_1 : decode cJ20_wordIndex 1 = .ok (.bipush 6, 2) := dk_16 6 (dk_at dksJ20_wordIndex_0 1 rfl rfl)
theorem dJ20_wordIndex_3 : decode cJ20_wordIndex 3 = .ok (.ishr, 1) := dk_122 (dk_at dksJ20_wordIndex_0 3 rfl rfl)
theorem dJ20_wordIndex_4 : decode cJ20_wordIndex 4 = .ok (.ireturn, 1) := dk_172 (dk_at dksJ20_wordIndex_0 4 rfl rfl)
abbrev cJ20_get : ByteArray := prog_46_method_26_code
def yJ20_get : MethodName := ⟨RJ20, "get", "(I)Z"⟩
def dkwJ20_get_2 : List UInt8 := [42, 180, 0, 11, 28, 47, 10, 27, 121, 127, 9, 148, 153, 0, 7, 4, 167, 0, 4, 3, 172]
abbrev dktJ20_get_2 : List UInt8 := dkwJ20_get_2 ++ []
def dkwJ20_get_1 : List UInt8 := [182, 0, 45, 183, 0, 146, 191, 42, 182, 0, 56, 27, 184, 0, 52, 61, 28, 42, 180, 0, 7, 162, 0, 22]
abbrev dktJ20_get_1 : List UInt8 := dkwJ20_get_1 ++ dktJ20_get_2
def dkwJ20_get_0 : List UInt8 := [27, 156, 0, 30, 187, 0, 142, 89, 187, 0, 33, 89, 183, 0, 35, 18, 153, 182, 0, 38, 27, 182, 0, 42]
abbrev dktJ20_get_0 : List UInt8 := dkwJ20_get_0 ++ dktJ20_get_1
theorem dksJ20_get_0 : cJ20_get.data.toList.drop 0 = dktJ20_get_0 := by decide +kernel
theorem dksJ20_get_1 : cJ20_get.data.toList.drop 24 = dktJ20_get_1 := dk_seg dksJ20_get_0 24 rfl rfl
theorem dksJ20_get_2 : cJ20_get.data.toList.drop 48 = dktJ20_get_2 := dk_seg dksJ20_get_1 24 rfl rfl
theorem dJ20_get_0 : decode cJ20_get 0 = .ok (.iload_n 1, 1) := dk_27 (dk_at dksJ20_get_0 0 rfl rfl)
theorem dJ20_get_1 : decode cJ20_get 1 = .ok (.ifCond .ge 30, 3) := dk_156 0 30 (dk_at dksJ20_get_0 1 rfl rfl)
theorem dJ20_get_4 : decode cJ20_get 4 = .ok (.new 142, 3) := dk_187 0 142 (dk_at dksJ20_get_0 4 rfl rfl)
theorem dJ20_get_7 : decode cJ20_get 7 = .ok (.dup, 1) := dk_89 (dk_at dksJ20_get_0 7 rfl rfl)
theorem dJ20_get_8 : decode cJ20_get 8 = .ok (.new 33, 3) := dk_187 0 33 (dk_at dksJ20_get_0 8 rfl rfl)
theorem dJ20_get_11 : decode cJ20_get 11 = .ok (.dup, 1) := dk_89 (dk_at dksJ20_get_0 11 rfl rfl)
theorem dJ20_get_12 : decode cJ20_get 12 = .ok (.invokespecial 35, 3) := dk_183 0 35 (dk_at dksJ20_get_0 12 rfl rfl)
theorem dJ20_get_15 : decode cJ20_get 15 = .ok (.ldc 153, 2) := dk_18 153 (dk_at dksJ20_get_0 15 rfl rfl)
theorem dJ20_get_17 : decode cJ20_get 17 = .ok (.invokevirtual 38, 3) := dk_182 0 38 (dk_at dksJ20_get_0 17 rfl rfl)
theorem dJ20_get_20 : decode cJ20_get 20 = .ok (.iload_n 1, 1) := dk_27 (dk_at dksJ20_get_0 20 rfl rfl)
theorem dJ20_get_21 : decode cJ20_get 21 = .ok (.invokevirtual 42, 3) := dk_182 0 42 (dk_at dksJ20_get_0 21 rfl rfl)
theorem dJ20_get_24 : decode cJ20_get 24 = .ok (.invokevirtual 45, 3) := dk_182 0 45 (dk_at dksJ20_get_1 0 rfl rfl)
theorem dJ20_get_27 : decode cJ20_get 27 = .ok (.invokespecial 146, 3) := dk_183 0 146 (dk_at dksJ20_get_1 3 rfl rfl)
theorem dJ20_get_30 : decode cJ20_get 30 = .ok (.athrow, 1) := dk_191 (dk_at dksJ20_get_1 6 rfl rfl)
theorem dJ20_get_31 : decode cJ20_get 31 = .ok (.aload_n 0, 1) := dk_42 (dk_at dksJ20_get_1 7 rfl rfl)
theorem dJ20_get_32 : decode cJ20_get 32 = .ok (.invokevirtual 56, 3) := dk_182 0 56 (dk_at dksJ20_get_1 8 rfl rfl)
theorem dJ20_get_35 : decode cJ20_get 35 = .ok (.iload_n 1, 1) := dk_27 (dk_at dksJ20_get_1 11 rfl rfl)
theorem dJ20_get_36 : decode cJ20_get 36 = .ok (.invokestatic 52, 3) := dk_184 0 52 (dk_at dksJ20_get_1 12 rfl rfl)
theorem dJ20_get_39 : decode cJ20_get 39 = .ok (.istore_n 2, 1) := dk_61 (dk_at dksJ20_get_1 15 rfl rfl)
theorem dJ20_get_40 : decode cJ20_get 40 = .ok (.iload_n 2, 1) := dk_28 (dk_at dksJ20_get_1 16 rfl rfl)
theorem dJ20_get_41 : decode cJ20_get 41 = .ok (.aload_n 0, 1) := dk_42 (dk_at dksJ20_get_1 17 rfl rfl)
theorem dJ20_get_42 : decode cJ20_get 42 = .ok (.getfield 7, 3) := dk_180 0 7 (dk_at dksJ20_get_1 18 rfl rfl)
theorem dJ20_get_45 : decode cJ20_get 45 = .ok (.if_icmp .ge 22, 3) := dk_162 0 22 (dk_at dksJ20_get_1 21 rfl rfl)
theorem dJ20_get_48 : decode cJ20_get 48 = .ok (.aload_n 0, 1) := dk_42 (dk_at dksJ20_get_2 0 rfl rfl)
theorem dJ20_get_49 : decode cJ20_get 49 = .ok (.getfield 11, 3) := dk_180 0 11 (dk_at dksJ20_get_2 1 rfl rfl)
theorem dJ20_get_52 : decode cJ20_get 52 = .ok (.iload_n 2, 1) := dk_28 (dk_at dksJ20_get_2 4 rfl rfl)
theorem dJ20_get_53 : decode cJ20_get 53 = .ok (.laload, 1) := dk_47 (dk_at dksJ20_get_2 5 rfl rfl)
theorem dJ20_get_54 : decode cJ20_get 54 = .ok (.lconst 1, 1) := dk_10 (dk_at dksJ20_get_2 6 rfl rfl)
theorem dJ20_get_55 : decode cJ20_get 55 = .ok (.iload_n 1, 1) := dk_27 (dk_at dksJ20_get_2 7 rfl rfl)
theorem dJ20_get_56 : decode cJ20_get 56 = .ok (.lshl, 1) := dk_121 (dk_at dksJ20_get_2 8 rfl rfl)
theorem dJ20_get_57 : decode cJ20_get 57 = .ok (.land, 1) := dk_127 (dk_at dksJ20_get_2 9 rfl rfl)
theorem dJ20_get_58 : decode cJ20_get 58 = .ok (.lconst 0, 1) := dk_9 (dk_at dksJ20_get_2 10 rfl rfl)
theorem dJ20_get_59 : decode cJ20_get 59 = .ok (.lcmp, 1) := dk_148 (dk_at dksJ20_get_2 11 rfl rfl)
theorem dJ20_get_60 : decode cJ20_get 60 = .ok (.ifCond .eq 7, 3) := dk_153 0 7 (dk_at dksJ20_get_2 12 rfl rfl)
theorem dJ20_get_63 : decode cJ20_get 63 = .ok (.iconst 1, 1) := dk_4 (dk_at dksJ20_get_2 15 rfl rfl)
theorem dJ20_get_64 : decode cJ20_get 64 = .ok (.goto 4, 3) := dk_167 0 4 (dk_at dksJ20_get_2 16 rfl rfl)
theorem dJ20_get_67 : decode cJ20_get 67 = .ok (.iconst 0, 1) := dk_3 (dk_at dksJ20_get_2 19 rfl rfl)
theorem dJ20_get_68 : decode cJ20_get 68 = .ok (.ireturn, 1) := dk_172 (dk_at dksJ20_get_2 20 rfl rfl)
abbrev cJ20_checkInvariants : ByteArray := prog_46_method_2_code
def yJ20_checkInvariants : MethodName := ⟨RJ20, "checkInvariants", "()V"⟩
def dkwJ20_checkInvariants_4 : List UInt8 := [180, 0, 7, 47, 9, 148, 153, 0, 11, 187, 0, 15, 89, 183, 0, 17, 191, 177]
abbrev dktJ20_checkInvariants_4 : List UInt8 := dkwJ20_checkInvariants_4 ++ []
def dkwJ20_checkInvariants_3 : List UInt8 := [178, 0, 3, 154, 0, 37, 42, 180, 0, 7, 42, 180, 0, 11, 190, 159, 0, 25, 42, 180, 0, 11, 42]
abbrev dktJ20_checkInvariants_3 : List UInt8 := dkwJ20_checkInvariants_3 ++ dktJ20_checkInvariants_4
def dkwJ20_checkInvariants_2 : List UInt8 := [155, 0, 15, 42, 180, 0, 7, 42, 180, 0, 11, 190, 164, 0, 11, 187, 0, 15, 89, 183, 0, 17, 191]
abbrev dktJ20_checkInvariants_2 : List UInt8 := dkwJ20_checkInvariants_2 ++ dktJ20_checkInvariants_3
def dkwJ20_checkInvariants_1 : List UInt8 := [9, 148, 154, 0, 11, 187, 0, 15, 89, 183, 0, 17, 191, 178, 0, 3, 154, 0, 30, 42, 180, 0, 7]
abbrev dktJ20_checkInvariants_1 : List UInt8 := dkwJ20_checkInvariants_1 ++ dktJ20_checkInvariants_2
def dkwJ20_checkInvariants_0 : List UInt8 := [178, 0, 3, 154, 0, 34, 42, 180, 0, 7, 153, 0, 27, 42, 180, 0, 11, 42, 180, 0, 7, 4, 100, 47]
abbrev dktJ20_checkInvariants_0 : List UInt8 := dkwJ20_checkInvariants_0 ++ dktJ20_checkInvariants_1
theorem dksJ20_checkInvariants_0 : cJ20_checkInvariants.data.toList.drop 0 = dktJ20_checkInvariants_0 := by decide +kernel
theorem dksJ20_checkInvariants_1 : cJ20_checkInvariants.data.toList.drop 24 = dktJ20_checkInvariants_1 := dk_seg dksJ20_checkInvariants_0 24 rfl rfl
theorem dksJ20_checkInvariants_2 : cJ20_checkInvariants.data.toList.drop 47 = dktJ20_checkInvariants_2 := dk_seg dksJ20_checkInvariants_1 23 rfl rfl
theorem dksJ20_checkInvariants_3 : cJ20_checkInvariants.data.toList.drop 70 = dktJ20_checkInvariants_3 := dk_seg dksJ20_checkInvariants_2 23 rfl rfl
theorem dksJ20_checkInvariants_4 : cJ20_checkInvariants.data.toList.drop 93 = dktJ20_checkInvariants_4 := dk_seg dksJ20_checkInvariants_3 23 rfl rfl
theorem dJ20_checkInvariants_0 : decode cJ20_checkInvariants 0 = .ok (.getstatic 3, 3) := dk_178 0 3 (dk_at dksJ20_checkInvariants_0 0 rfl rfl)
theorem dJ20_checkInvariants_3 : decode cJ20_checkInvariants 3 = .ok (.ifCond .ne 34, 3) := dk_154 0 34 (dk_at dksJ20_checkInvariants_0 3 rfl rfl)
theorem dJ20_checkInvariants_6 : decode cJ20_checkInvariants 6 = .ok (.aload_n 0, 1) := dk_42 (dk_at dksJ20_checkInvariants_0 6 rfl rfl)
theorem dJ20_checkInvariants_7 : decode cJ20_checkInvariants 7 = .ok (.getfield 7, 3) := dk_180 0 7 (dk_at dksJ20_checkInvariants_0 7 rfl rfl)
theorem dJ20_checkInvariants_10 : decode cJ20_checkInvariants 10 = .ok (.ifCond .eq 27, 3) := dk_153 0 27 (dk_at dksJ20_checkInvariants_0 10 rfl rfl)
theorem dJ20_checkInvariants_13 : decode cJ20_checkInvariants 13 = .ok (.aload_n 0, 1) := dk_42 (dk_at dksJ20_checkInvariants_0 13 rfl rfl)
theorem dJ20_checkInvariants_14 : decode cJ20_checkInvariants 14 = .ok (.getfield 11, 3) := dk_180 0 11 (dk_at dksJ20_checkInvariants_0 14 rfl rfl)
theorem dJ20_checkInvariants_17 : decode cJ20_checkInvariants 17 = .ok (.aload_n 0, 1) := dk_42 (dk_at dksJ20_checkInvariants_0 17 rfl rfl)
theorem dJ20_checkInvariants_18 : decode cJ20_checkInvariants 18 = .ok (.getfield 7, 3) := dk_180 0 7 (dk_at dksJ20_checkInvariants_0 18 rfl rfl)
theorem dJ20_checkInvariants_21 : decode cJ20_checkInvariants 21 = .ok (.iconst 1, 1) := dk_4 (dk_at dksJ20_checkInvariants_0 21 rfl rfl)
theorem dJ20_checkInvariants_22 : decode cJ20_checkInvariants 22 = .ok (.isub, 1) := dk_100 (dk_at dksJ20_checkInvariants_0 22 rfl rfl)
theorem dJ20_checkInvariants_23 : decode cJ20_checkInvariants 23 = .ok (.laload, 1) := dk_47 (dk_at dksJ20_checkInvariants_0 23 rfl rfl)
theorem dJ20_checkInvariants_24 : decode cJ20_checkInvariants 24 = .ok (.lconst 0, 1) := dk_9 (dk_at dksJ20_checkInvariants_1 0 rfl rfl)
theorem dJ20_checkInvariants_25 : decode cJ20_checkInvariants 25 = .ok (.lcmp, 1) := dk_148 (dk_at dksJ20_checkInvariants_1 1 rfl rfl)
theorem dJ20_checkInvariants_26 : decode cJ20_checkInvariants 26 = .ok (.ifCond .ne 11, 3) := dk_154 0 11 (dk_at dksJ20_checkInvariants_1 2 rfl rfl)
theorem dJ20_checkInvariants_29 : decode cJ20_checkInvariants 29 = .ok (.new 15, 3) := dk_187 0 15 (dk_at dksJ20_checkInvariants_1 5 rfl rfl)
theorem dJ20_checkInvariants_32 : decode cJ20_checkInvariants 32 = .ok (.dup, 1) := dk_89 (dk_at dksJ20_checkInvariants_1 8 rfl rfl)
theorem dJ20_checkInvariants_33 : decode cJ20_checkInvariants 33 = .ok (.invokespecial 17, 3) := dk_183 0 17 (dk_at dksJ20_checkInvariants_1 9 rfl rfl)
theorem dJ20_checkInvariants_36 : decode cJ20_checkInvariants 36 = .ok (.athrow, 1) := dk_191 (dk_at dksJ20_checkInvariants_1 12 rfl rfl)
theorem dJ20_checkInvariants_37 : decode cJ20_checkInvariants 37 = .ok (.getstatic 3, 3) := dk_178 0 3 (dk_at dksJ20_checkInvariants_1 13 rfl rfl)
theorem dJ20_checkInvariants_40 : decode cJ20_checkInvariants 40 = .ok (.ifCond .ne 30, 3) := dk_154 0 30 (dk_at dksJ20_checkInvariants_1 16 rfl rfl)
theorem dJ20_checkInvariants_43 : decode cJ20_checkInvariants 43 = .ok (.aload_n 0, 1) := dk_42 (dk_at dksJ20_checkInvariants_1 19 rfl rfl)
theorem dJ20_checkInvariants_44 : decode cJ20_checkInvariants 44 = .ok (.getfield 7, 3) := dk_180 0 7 (dk_at dksJ20_checkInvariants_1 20 rfl rfl)
theorem dJ20_checkInvariants_47 : decode cJ20_checkInvariants 47 = .ok (.ifCond .lt 15, 3) := dk_155 0 15 (dk_at dksJ20_checkInvariants_2 0 rfl rfl)
theorem dJ20_checkInvariants_50 : decode cJ20_checkInvariants 50 = .ok (.aload_n 0, 1) := dk_42 (dk_at dksJ20_checkInvariants_2 3 rfl rfl)
theorem dJ20_checkInvariants_51 : decode cJ20_checkInvariants 51 = .ok (.getfield 7, 3) := dk_180 0 7 (dk_at dksJ20_checkInvariants_2 4 rfl rfl)
theorem dJ20_checkInvariants_54 : decode cJ20_checkInvariants 54 = .ok (.aload_n 0, 1) := dk_42 (dk_at dksJ20_checkInvariants_2 7 rfl rfl)
theorem dJ20_checkInvariants_55 : decode cJ20_checkInvariants 55 = .ok (.getfield 11, 3) := dk_180 0 11 (dk_at dksJ20_checkInvariants_2 8 rfl rfl)
theorem dJ20_checkInvariants_58 : decode cJ20_checkInvariants 58 = .ok (.arraylength, 1) := dk_190 (dk_at dksJ20_checkInvariants_2 11 rfl rfl)
theorem dJ20_checkInvariants_59 : decode cJ20_checkInvariants 59 = .ok (.if_icmp .le 11, 3) := dk_164 0 11 (dk_at dksJ20_checkInvariants_2 12 rfl rfl)
theorem dJ20_checkInvariants_62 : decode cJ20_checkInvariants 62 = .ok (.new 15, 3) := dk_187 0 15 (dk_at dksJ20_checkInvariants_2 15 rfl rfl)
theorem dJ20_checkInvariants_65 : decode cJ20_checkInvariants 65 = .ok (.dup, 1) := dk_89 (dk_at dksJ20_checkInvariants_2 18 rfl rfl)
theorem dJ20_checkInvariants_66 : decode cJ20_checkInvariants 66 = .ok (.invokespecial 17, 3) := dk_183 0 17 (dk_at dksJ20_checkInvariants_2 19 rfl rfl)
theorem dJ20_checkInvariants_69 : decode cJ20_checkInvariants 69 = .ok (.athrow, 1) := dk_191 (dk_at dksJ20_checkInvariants_2 22 rfl rfl)
theorem dJ20_checkInvariants_70 : decode cJ20_checkInvariants 70 = .ok (.getstatic 3, 3) := dk_178 0 3 (dk_at dksJ20_checkInvariants_3 0 rfl rfl)
theorem dJ20_checkInvariants_73 : decode cJ20_checkInvariants 73 = .ok (.ifCond .ne 37, 3) := dk_154 0 37 (dk_at dksJ20_checkInvariants_3 3 rfl rfl)
theorem dJ20_checkInvariants_76 : decode cJ20_checkInvariants 76 = .ok (.aload_n 0, 1) := dk_42 (dk_at dksJ20_checkInvariants_3 6 rfl rfl)
theorem dJ20_checkInvariants_77 : decode cJ20_checkInvariants 77 = .ok (.getfield 7, 3) := dk_180 0 7 (dk_at dksJ20_checkInvariants_3 7 rfl rfl)
theorem dJ20_checkInvariants_80 : decode cJ20_checkInvariants 80 = .ok (.aload_n 0, 1) := dk_42 (dk_at dksJ20_checkInvariants_3 10 rfl rfl)
theorem dJ20_checkInvariants_81 : decode cJ20_checkInvariants 81 = .ok (.getfield 11, 3) := dk_180 0 11 (dk_at dksJ20_checkInvariants_3 11 rfl rfl)
theorem dJ20_checkInvariants_84 : decode cJ20_checkInvariants 84 = .ok (.arraylength, 1) := dk_190 (dk_at dksJ20_checkInvariants_3 14 rfl rfl)
theorem dJ20_checkInvariants_85 : decode cJ20_checkInvariants 85 = .ok (.if_icmp .eq 25, 3) := dk_159 0 25 (dk_at dksJ20_checkInvariants_3 15 rfl rfl)
theorem dJ20_checkInvariants_88 : decode cJ20_checkInvariants 88 = .ok (.aload_n 0, 1) := dk_42 (dk_at dksJ20_checkInvariants_3 18 rfl rfl)
theorem dJ20_checkInvariants_89 : decode cJ20_checkInvariants 89 = .ok (.getfield 11, 3) := dk_180 0 11 (dk_at dksJ20_checkInvariants_3 19 rfl rfl)
theorem dJ20_checkInvariants_92 : decode cJ20_checkInvariants 92 = .ok (.aload_n 0, 1) := dk_42 (dk_at dksJ20_checkInvariants_3 22 rfl rfl)
theorem dJ20_checkInvariants_93 : decode cJ20_checkInvariants 93 = .ok (.getfield 7, 3) := dk_180 0 7 (dk_at dksJ20_checkInvariants_4 0 rfl rfl)
theorem dJ20_checkInvariants_96 : decode cJ20_checkInvariants 96 = .ok (.laload, 1) := dk_47 (dk_at dksJ20_checkInvariants_4 3 rfl rfl)
theorem dJ20_checkInvariants_97 : decode cJ20_checkInvariants 97 = .ok (.lconst 0, 1) := dk_9 (dk_at dksJ20_checkInvariants_4 4 rfl rfl)
theorem dJ20_checkInvariants_98 : decode cJ20_checkInvariants 98 = .ok (.lcmp, 1) := dk_148 (dk_at dksJ20_checkInvariants_4 5 rfl rfl)
theorem dJ20_checkInvariants_99 : decode cJ20_checkInvariants 99 = .ok (.ifCond .eq 11, 3) := dk_153 0 11 (dk_at dksJ20_checkInvariants_4 6 rfl rfl)
theorem dJ20_checkInvariants_102 : decode cJ20_checkInvariants 102 = .ok (.new 15, 3) := dk_187 0 15 (dk_at dksJ20_checkInvariants_4 9 rfl rfl)
theorem dJ20_checkInvariants_105 : decode cJ20_checkInvariants 105 = .ok (.dup, 1) := dk_89 (dk_at dksJ20_checkInvariants_4 12 rfl rfl)
theorem dJ20_checkInvariants_106 : decode cJ20_checkInvariants 106 = .ok (.invokespecial 17, 3) := dk_183 0 17 (dk_at dksJ20_checkInvariants_4 13 rfl rfl)
theorem dJ20_checkInvariants_109 : decode cJ20_checkInvariants 109 = .ok (.athrow, 1) := dk_191 (dk_at dksJ20_checkInvariants_4 16 rfl rfl)
theorem dJ20_checkInvariants_110 : decode cJ20_checkInvariants 110 = .ok (.return_, 1) := dk_177 (dk_at dksJ20_checkInvariants_4 17 rfl rfl)
abbrev cJ20_set : ByteArray := prog_46_method_19_code
def yJ20_set : MethodName := ⟨RJ20, "set", "(I)V"⟩
def dkwJ20_set_2 : List UInt8 := [10, 27, 121, 129, 80, 42, 182, 0, 56, 177]
abbrev dktJ20_set_2 : List UInt8 := dkwJ20_set_2 ++ []
def dkwJ20_set_1 : List UInt8 := [182, 0, 45, 183, 0, 146, 191, 27, 184, 0, 52, 61, 42, 28, 182, 0, 155, 42, 180, 0, 11, 28, 92, 47]
abbrev dktJ20_set_1 : List UInt8 := dkwJ20_set_1 ++ dktJ20_set_2
def dkwJ20_set_0 : List UInt8 := [27, 156, 0, 30, 187, 0, 142, 89, 187, 0, 33, 89, 183, 0, 35, 18, 153, 182, 0, 38, 27, 182, 0, 42]
abbrev dktJ20_set_0 : List UInt8 := dkwJ20_set_0 ++ dktJ20_set_1
theorem dksJ20_set_0 : cJ20_set.data.toList.drop 0 = dktJ20_set_0 := by decide +kernel
theorem dksJ20_set_1 : cJ20_set.data.toList.drop 24 = dktJ20_set_1 := dk_seg dksJ20_set_0 24 rfl rfl
theorem dksJ20_set_2 : cJ20_set.data.toList.drop 48 = dktJ20_set_2 := dk_seg dksJ20_set_1 24 rfl rfl
theorem dJ20_set_0 : decode cJ20_set 0 = .ok (.iload_n 1, 1) := dk_27 (dk_at dksJ20_set_0 0 rfl rfl)
theorem dJ20_set_1 : decode cJ20_set 1 = .ok (.ifCond .ge 30, 3) := dk_156 0 30 (dk_at dksJ20_set_0 1 rfl rfl)
theorem dJ20_set_4 : decode cJ20_set 4 = .ok (.new 142, 3) := dk_187 0 142 (dk_at dksJ20_set_0 4 rfl rfl)
theorem dJ20_set_7 : decode cJ20_set 7 = .ok (.dup, 1) := dk_89 (dk_at dksJ20_set_0 7 rfl rfl)
theorem dJ20_set_8 : decode cJ20_set 8 = .ok (.new 33, 3) := dk_187 0 33 (dk_at dksJ20_set_0 8 rfl rfl)
theorem dJ20_set_11 : decode cJ20_set 11 = .ok (.dup, 1) := dk_89 (dk_at dksJ20_set_0 11 rfl rfl)
theorem dJ20_set_12 : decode cJ20_set 12 = .ok (.invokespecial 35, 3) := dk_183 0 35 (dk_at dksJ20_set_0 12 rfl rfl)
theorem dJ20_set_15 : decode cJ20_set 15 = .ok (.ldc 153, 2) := dk_18 153 (dk_at dksJ20_set_0 15 rfl rfl)
theorem dJ20_set_17 : decode cJ20_set 17 = .ok (.invokevirtual 38, 3) := dk_182 0 38 (dk_at dksJ20_set_0 17 rfl rfl)
theorem dJ20_set_20 : decode cJ20_set 20 = .ok (.iload_n 1, 1) := dk_27 (dk_at dksJ20_set_0 20 rfl rfl)
theorem dJ20_set_21 : decode cJ20_set 21 = .ok (.invokevirtual 42, 3) := dk_182 0 42 (dk_at dksJ20_set_0 21 rfl rfl)
theorem dJ20_set_24 : decode cJ20_set 24 = .ok (.invokevirtual 45, 3) := dk_182 0 45 (dk_at dksJ20_set_1 0 rfl rfl)
theorem dJ20_set_27 : decode cJ20_set 27 = .ok (.invokespecial 146, 3) := dk_183 0 146 (dk_at dksJ20_set_1 3 rfl rfl)
theorem dJ20_set_30 : decode cJ20_set 30 = .ok (.athrow, 1) := dk_191 (dk_at dksJ20_set_1 6 rfl rfl)
theorem dJ20_set_31 : decode cJ20_set 31 = .ok (.iload_n 1, 1) := dk_27 (dk_at dksJ20_set_1 7 rfl rfl)
theorem dJ20_set_32 : decode cJ20_set 32 = .ok (.invokestatic 52, 3) := dk_184 0 52 (dk_at dksJ20_set_1 8 rfl rfl)
theorem dJ20_set_35 : decode cJ20_set 35 = .ok (.istore_n 2, 1) := dk_61 (dk_at dksJ20_set_1 11 rfl rfl)
theorem dJ20_set_36 : decode cJ20_set 36 = .ok (.aload_n 0, 1) := dk_42 (dk_at dksJ20_set_1 12 rfl rfl)
theorem dJ20_set_37 : decode cJ20_set 37 = .ok (.iload_n 2, 1) := dk_28 (dk_at dksJ20_set_1 13 rfl rfl)
theorem dJ20_set_38 : decode cJ20_set 38 = .ok (.invokevirtual 155, 3) := dk_182 0 155 (dk_at dksJ20_set_1 14 rfl rfl)
theorem dJ20_set_41 : decode cJ20_set 41 = .ok (.aload_n 0, 1) := dk_42 (dk_at dksJ20_set_1 17 rfl rfl)
theorem dJ20_set_42 : decode cJ20_set 42 = .ok (.getfield 11, 3) := dk_180 0 11 (dk_at dksJ20_set_1 18 rfl rfl)
theorem dJ20_set_45 : decode cJ20_set 45 = .ok (.iload_n 2, 1) := dk_28 (dk_at dksJ20_set_1 21 rfl rfl)
theorem dJ20_set_46 : decode cJ20_set 46 = .ok (.dup2, 1) := dk_92 (dk_at dksJ20_set_1 22 rfl rfl)
theorem dJ20_set_47 : decode cJ20_set 47 = .ok (.laload, 1) := dk_47 (dk_at dksJ20_set_1 23 rfl rfl)
theorem dJ20_set_48 : decode cJ20_set 48 = .ok (.lconst 1, 1) := dk_10 (dk_at dksJ20_set_2 0 rfl rfl)
theorem dJ20_set_49 : decode cJ20_set 49 = .ok (.iload_n 1, 1) := dk_27 (dk_at dksJ20_set_2 1 rfl rfl)
theorem dJ20_set_50 : decode cJ20_set 50 = .ok (.lshl, 1) := dk_121 (dk_at dksJ20_set_2 2 rfl rfl)
theorem dJ20_set_51 : decode cJ20_set 51 = .ok (.lor, 1) := dk_129 (dk_at dksJ20_set_2 3 rfl rfl)
theorem dJ20_set_52 : decode cJ20_set 52 = .ok (.lastore, 1) := dk_80 (dk_at dksJ20_set_2 4 rfl rfl)
theorem dJ20_set_53 : decode cJ20_set 53 = .ok (.aload_n 0, 1) := dk_42 (dk_at dksJ20_set_2 5 rfl rfl)
theorem dJ20_set_54 : decode cJ20_set 54 = .ok (.invokevirtual 56, 3) := dk_182 0 56 (dk_at dksJ20_set_2 6 rfl rfl)
theorem dJ20_set_57 : decode cJ20_set 57 = .ok (.return_, 1) := dk_177 (dk_at dksJ20_set_2 9 rfl rfl)
abbrev cJ20_expandTo : ByteArray := prog_46_method_15_code
def yJ20_expandTo : MethodName := ⟨RJ20, "expandTo", "(I)V"⟩
def dkwJ20_expandTo_0 : List UInt8 := [27, 4, 96, 61, 42, 180, 0, 7, 28, 162, 0, 13, 42, 28, 182, 0, 139, 42, 28, 181, 0, 7, 177]
abbrev dktJ20_expandTo_0 : List UInt8 := dkwJ20_expandTo_0 ++ []
theorem dksJ20_expandTo_0 : cJ20_expandTo.data.toList.drop 0 = dktJ20_expandTo_0 := by decide +kernel
theorem dJ20_expandTo_0 : decode cJ20_expandTo 0 = .ok (.iload_n 1, 1) := dk_27 (dk_at dksJ20_expandTo_0 0 rfl rfl)
theorem dJ20_expandTo_1 : decode cJ20_expandTo 1 = .ok (.iconst 1, 1) := dk_4 (dk_at dksJ20_expandTo_0 1 rfl rfl)
theorem dJ20_expandTo_2 : decode cJ20_expandTo 2 = .ok (.iadd, 1) := dk_96 (dk_at dksJ20_expandTo_0 2 rfl rfl)
theorem dJ20_expandTo_3 : decode cJ20_expandTo 3 = .ok (.istore_n 2, 1) := dk_61 (dk_at dksJ20_expandTo_0 3 rfl rfl)
theorem dJ20_expandTo_4 : decode cJ20_expandTo 4 = .ok (.aload_n 0, 1) := dk_42 (dk_at dksJ20_expandTo_0 4 rfl rfl)
theorem dJ20_expandTo_5 : decode cJ20_expandTo 5 = .ok (.getfield 7, 3) := dk_180 0 7 (dk_at dksJ20_expandTo_0 5 rfl rfl)
theorem dJ20_expandTo_8 : decode cJ20_expandTo 8 = .ok (.iload_n 2, 1) := dk_28 (dk_at dksJ20_expandTo_0 8 rfl rfl)
theorem dJ20_expandTo_9 : decode cJ20_expandTo 9 = .ok (.if_icmp .ge 13, 3) := dk_162 0 13 (dk_at dksJ20_expandTo_0 9 rfl rfl)
theorem dJ20_expandTo_12 : decode cJ20_expandTo 12 = .ok (.aload_n 0, 1) := dk_42 (dk_at dksJ20_expandTo_0 12 rfl rfl)
theorem dJ20_expandTo_13 : decode cJ20_expandTo 13 = .ok (.iload_n 2, 1) := dk_28 (dk_at dksJ20_expandTo_0 13 rfl rfl)
theorem dJ20_expandTo_14 : decode cJ20_expandTo 14 = .ok (.invokevirtual 139, 3) := dk_182 0 139 (dk_at dksJ20_expandTo_0 14 rfl rfl)
theorem dJ20_expandTo_17 : decode cJ20_expandTo 17 = .ok (.aload_n 0, 1) := dk_42 (dk_at dksJ20_expandTo_0 17 rfl rfl)
theorem dJ20_expandTo_18 : decode cJ20_expandTo 18 = .ok (.iload_n 2, 1) := dk_28 (dk_at dksJ20_expandTo_0 18 rfl rfl)
theorem dJ20_expandTo_19 : decode cJ20_expandTo 19 = .ok (.putfield 7, 3) := dk_181 0 7 (dk_at dksJ20_expandTo_0 19 rfl rfl)
theorem dJ20_expandTo_22 : decode cJ20_expandTo 22 = .ok (.return_, 1) := dk_177 (dk_at dksJ20_expandTo_0 22 rfl rfl)
abbrev cJ20_ensureCapacity : ByteArray := prog_46_method_14_code
def yJ20_ensureCapacity : MethodName := ⟨RJ20, "ensureCapacity", "(I)V"⟩
def dkwJ20_ensureCapacity_1 : List UInt8 := [180, 0, 11, 28, 184, 0, 59, 181, 0, 11, 42, 3, 181, 0, 24, 177]
abbrev dktJ20_ensureCapacity_1 : List UInt8 := dkwJ20_ensureCapacity_1 ++ []
def dkwJ20_ensureCapacity_0 : List UInt8 := [42, 180, 0, 11, 190, 27, 162, 0, 32, 5, 42, 180, 0, 11, 190, 104, 27, 184, 0, 133, 61, 42, 42]
abbrev dktJ20_ensureCapacity_0 : List UInt8 := dkwJ20_ensureCapacity_0 ++ dktJ20_ensureCapacity_1
theorem dksJ20_ensureCapacity_0 : cJ20_ensureCapacity.data.toList.drop 0 = dktJ20_ensureCapacity_0 := by decide +kernel
theorem dksJ20_ensureCapacity_1 : cJ20_ensureCapacity.data.toList.drop 23 = dktJ20_ensureCapacity_1 := dk_seg dksJ20_ensureCapacity_0 23 rfl rfl
theorem dJ20_ensureCapacity_0 : decode cJ20_ensureCapacity 0 = .ok (.aload_n 0, 1) := dk_42 (dk_at dksJ20_ensureCapacity_0 0 rfl rfl)
theorem dJ20_ensureCapacity_1 : decode cJ20_ensureCapacity 1 = .ok (.getfield 11, 3) := dk_180 0 11 (dk_at dksJ20_ensureCapacity_0 1 rfl rfl)
theorem dJ20_ensureCapacity_4 : decode cJ20_ensureCapacity 4 = .ok (.arraylength, 1) := dk_190 (dk_at dksJ20_ensureCapacity_0 4 rfl rfl)
theorem dJ20_ensureCapacity_5 : decode cJ20_ensureCapacity 5 = .ok (.iload_n 1, 1) := dk_27 (dk_at dksJ20_ensureCapacity_0 5 rfl rfl)
theorem dJ20_ensureCapacity_6 : decode cJ20_ensureCapacity 6 = .ok (.if_icmp .ge 32, 3) := dk_162 0 32 (dk_at dksJ20_ensureCapacity_0 6 rfl rfl)
theorem dJ20_ensureCapacity_9 : decode cJ20_ensureCapacity 9 = .ok (.iconst 2, 1) := dk_5 (dk_at dksJ20_ensureCapacity_0 9 rfl rfl)
theorem dJ20_ensureCapacity_10 : decode cJ20_ensureCapacity 10 = .ok (.aload_n 0, 1) := dk_42 (dk_at dksJ20_ensureCapacity_0 10 rfl rfl)
theorem dJ20_ensureCapacity_11 : decode cJ20_ensureCapacity 11 = .ok (.getfield 11, 3) := dk_180 0 11 (dk_at dksJ20_ensureCapacity_0 11 rfl rfl)
theorem dJ20_ensureCapacity_14 : decode cJ20_ensureCapacity 14 = .ok (.arraylength, 1) := dk_190 (dk_at dksJ20_ensureCapacity_0 14 rfl rfl)
theorem dJ20_ensureCapacity_15 : decode cJ20_ensureCapacity 15 = .ok (.imul, 1) := dk_104 (dk_at dksJ20_ensureCapacity_0 15 rfl rfl)
theorem dJ20_ensureCapacity_16 : decode cJ20_ensureCapacity 16 = .ok (.iload_n 1, 1) := dk_27 (dk_at dksJ20_ensureCapacity_0 16 rfl rfl)
theorem dJ20_ensureCapacity_17 : decode cJ20_ensureCapacity 17 = .ok (.invokestatic 133, 3) := dk_184 0 133 (dk_at dksJ20_ensureCapacity_0 17 rfl rfl)
theorem dJ20_ensureCapacity_20 : decode cJ20_ensureCapacity 20 = .ok (.istore_n 2, 1) := dk_61 (dk_at dksJ20_ensureCapacity_0 20 rfl rfl)
theorem dJ20_ensureCapacity_21 : decode cJ20_ensureCapacity 21 = .ok (.aload_n 0, 1) := dk_42 (dk_at dksJ20_ensureCapacity_0 21 rfl rfl)
theorem dJ20_ensureCapacity_22 : decode cJ20_ensureCapacity 22 = .ok (.aload_n 0, 1) := dk_42 (dk_at dksJ20_ensureCapacity_0 22 rfl rfl)
theorem dJ20_ensureCapacity_23 : decode cJ20_ensureCapacity 23 = .ok (.getfield 11, 3) := dk_180 0 11 (dk_at dksJ20_ensureCapacity_1 0 rfl rfl)
theorem dJ20_ensureCapacity_26 : decode cJ20_ensureCapacity 26 = .ok (.iload_n 2, 1) := dk_28 (dk_at dksJ20_ensureCapacity_1 3 rfl rfl)
theorem dJ20_ensureCapacity_27 : decode cJ20_ensureCapacity 27 = .ok (.invokestatic 59, 3) := dk_184 0 59 (dk_at dksJ20_ensureCapacity_1 4 rfl rfl)
theorem dJ20_ensureCapacity_30 : decode cJ20_ensureCapacity 30 = .ok (.putfield 11, 3) := dk_181 0 11 (dk_at dksJ20_ensureCapacity_1 7 rfl rfl)
theorem dJ20_ensureCapacity_33 : decode cJ20_ensureCapacity 33 = .ok (.aload_n 0, 1) := dk_42 (dk_at dksJ20_ensureCapacity_1 10 rfl rfl)
theorem dJ20_ensureCapacity_34 : decode cJ20_ensureCapacity 34 = .ok (.iconst 0, 1) := dk_3 (dk_at dksJ20_ensureCapacity_1 11 rfl rfl)
theorem dJ20_ensureCapacity_35 : decode cJ20_ensureCapacity 35 = .ok (.putfield 24, 3) := dk_181 0 24 (dk_at dksJ20_ensureCapacity_1 12 rfl rfl)
theorem dJ20_ensureCapacity_38 : decode cJ20_ensureCapacity 38 = .ok (.return_, 1) := dk_177 (dk_at dksJ20_ensureCapacity_1 15 rfl rfl)
abbrev cJ20_nextSetBit : ByteArray := prog_46_method_28_code
def yJ20_nextSetBit : MethodName := ⟨RJ20, "nextSetBit", "(I)I"⟩
def dkwJ20_nextSetBit_4 : List UInt8 := [28, 47, 66, 167, 255, 220]
abbrev dktJ20_nextSetBit_4 : List UInt8 := dkwJ20_nextSetBit_4 ++ []
def dkwJ20_nextSetBit_3 : List UInt8 := [104, 33, 184, 0, 182, 96, 172, 132, 2, 1, 28, 42, 180, 0, 7, 160, 0, 5, 2, 172, 42, 180, 0, 11]
abbrev dktJ20_nextSetBit_3 : List UInt8 := dkwJ20_nextSetBit_3 ++ dktJ20_nextSetBit_4
def dkwJ20_nextSetBit_2 : List UInt8 := [2, 172, 42, 180, 0, 11, 28, 47, 20, 0, 165, 27, 121, 127, 66, 33, 9, 148, 153, 0, 13, 28, 16, 64]
abbrev dktJ20_nextSetBit_2 : List UInt8 := dkwJ20_nextSetBit_2 ++ dktJ20_nextSetBit_3
def dkwJ20_nextSetBit_1 : List UInt8 := [182, 0, 45, 183, 0, 146, 191, 42, 182, 0, 56, 27, 184, 0, 52, 61, 28, 42, 180, 0, 7, 161, 0, 5]
abbrev dktJ20_nextSetBit_1 : List UInt8 := dkwJ20_nextSetBit_1 ++ dktJ20_nextSetBit_2
def dkwJ20_nextSetBit_0 : List UInt8 := [27, 156, 0, 30, 187, 0, 142, 89, 187, 0, 33, 89, 183, 0, 35, 18, 144, 182, 0, 38, 27, 182, 0, 42]
abbrev dktJ20_nextSetBit_0 : List UInt8 := dkwJ20_nextSetBit_0 ++ dktJ20_nextSetBit_1
theorem dksJ20_nextSetBit_0 : cJ20_nextSetBit.data.toList.drop 0 = dktJ20_nextSetBit_0 := by decide +kernel
theorem dksJ20_nextSetBit_1 : cJ20_nextSetBit.data.toList.drop 24 = dktJ20_nextSetBit_1 := dk_seg dksJ20_nextSetBit_0 24 rfl rfl
theorem dksJ20_nextSetBit_2 : cJ20_nextSetBit.data.toList.drop 48 = dktJ20_nextSetBit_2 := dk_seg dksJ20_nextSetBit_1 24 rfl rfl
theorem dksJ20_nextSetBit_3 : cJ20_nextSetBit.data.toList.drop 72 = dktJ20_nextSetBit_3 := dk_seg dksJ20_nextSetBit_2 24 rfl rfl
theorem dksJ20_nextSetBit_4 : cJ20_nextSetBit.data.toList.drop 96 = dktJ20_nextSetBit_4 := dk_seg dksJ20_nextSetBit_3 24 rfl rfl
theorem dJ20_nextSetBit_0 : decode cJ20_nextSetBit 0 = .ok (.iload_n 1, 1) := dk_27 (dk_at dksJ20_nextSetBit_0 0 rfl rfl)
theorem dJ20_nextSetBit_1 : decode cJ20_nextSetBit 1 = .ok (.ifCond .ge 30, 3) := dk_156 0 30 (dk_at dksJ20_nextSetBit_0 1 rfl rfl)
theorem dJ20_nextSetBit_4 : decode cJ20_nextSetBit 4 = .ok (.new 142, 3) := dk_187 0 142 (dk_at dksJ20_nextSetBit_0 4 rfl rfl)
theorem dJ20_nextSetBit_7 : decode cJ20_nextSetBit 7 = .ok (.dup, 1) := dk_89 (dk_at dksJ20_nextSetBit_0 7 rfl rfl)
theorem dJ20_nextSetBit_8 : decode cJ20_nextSetBit 8 = .ok (.new 33, 3) := dk_187 0 33 (dk_at dksJ20_nextSetBit_0 8 rfl rfl)
theorem dJ20_nextSetBit_11 : decode cJ20_nextSetBit 11 = .ok (.dup, 1) := dk_89 (dk_at dksJ20_nextSetBit_0 11 rfl rfl)
theorem dJ20_nextSetBit_12 : decode cJ20_nextSetBit 12 = .ok (.invokespecial 35, 3) := dk_183 0 35 (dk_at dksJ20_nextSetBit_0 12 rfl rfl)
theorem dJ20_nextSetBit_15 : decode cJ20_nextSetBit 15 = .ok (.ldc 144, 2) := dk_18 144 (dk_at dksJ20_nextSetBit_0 15 rfl rfl)
theorem dJ20_nextSetBit_17 : decode cJ20_nextSetBit 17 = .ok (.invokevirtual 38, 3) := dk_182 0 38 (dk_at dksJ20_nextSetBit_0 17 rfl rfl)
theorem dJ20_nextSetBit_20 : decode cJ20_nextSetBit 20 = .ok (.iload_n 1, 1) := dk_27 (dk_at dksJ20_nextSetBit_0 20 rfl rfl)
theorem dJ20_nextSetBit_21 : decode cJ20_nextSetBit 21 = .ok (.invokevirtual 42, 3) := dk_182 0 42 (dk_at dksJ20_nextSetBit_0 21 rfl rfl)
theorem dJ20_nextSetBit_24 : decode cJ20_nextSetBit 24 = .ok (.invokevirtual 45, 3) := dk_182 0 45 (dk_at dksJ20_nextSetBit_1 0 rfl rfl)
theorem dJ20_nextSetBit_27 : decode cJ20_nextSetBit 27 = .ok (.invokespecial 146, 3) := dk_183 0 146 (dk_at dksJ20_nextSetBit_1 3 rfl rfl)
theorem dJ20_nextSetBit_30 : decode cJ20_nextSetBit 30 = .ok (.athrow, 1) := dk_191 (dk_at dksJ20_nextSetBit_1 6 rfl rfl)
theorem dJ20_nextSetBit_31 : decode cJ20_nextSetBit 31 = .ok (.aload_n 0, 1) := dk_42 (dk_at dksJ20_nextSetBit_1 7 rfl rfl)
theorem dJ20_nextSetBit_32 : decode cJ20_nextSetBit 32 = .ok (.invokevirtual 56, 3) := dk_182 0 56 (dk_at dksJ20_nextSetBit_1 8 rfl rfl)
theorem dJ20_nextSetBit_35 : decode cJ20_nextSetBit 35 = .ok (.iload_n 1, 1) := dk_27 (dk_at dksJ20_nextSetBit_1 11 rfl rfl)
theorem dJ20_nextSetBit_36 : decode cJ20_nextSetBit 36 = .ok (.invokestatic 52, 3) := dk_184 0 52 (dk_at dksJ20_nextSetBit_1 12 rfl rfl)
theorem dJ20_nextSetBit_39 : decode cJ20_nextSetBit 39 = .ok (.istore_n 2, 1) := dk_61 (dk_at dksJ20_nextSetBit_1 15 rfl rfl)
theorem dJ20_nextSetBit_40 : decode cJ20_nextSetBit 40 = .ok (.iload_n 2, 1) := dk_28 (dk_at dksJ20_nextSetBit_1 16 rfl rfl)
theorem dJ20_nextSetBit_41 : decode cJ20_nextSetBit 41 = .ok (.aload_n 0, 1) := dk_42 (dk_at dksJ20_nextSetBit_1 17 rfl rfl)
theorem dJ20_nextSetBit_42 : decode cJ20_nextSetBit 42 = .ok (.getfield 7, 3) := dk_180 0 7 (dk_at dksJ20_nextSetBit_1 18 rfl rfl)
theorem dJ20_nextSetBit_45 : decode cJ20_nextSetBit 45 = .ok (.if_icmp .lt 5, 3) := dk_161 0 5 (dk_at dksJ20_nextSetBit_1 21 rfl rfl)
theorem dJ20_nextSetBit_48 : decode cJ20_nextSetBit 48 = .ok (.iconst (-1), 1) := dk_2 (dk_at dksJ20_nextSetBit_2 0 rfl rfl)
theorem dJ20_nextSetBit_49 : decode cJ20_nextSetBit 49 = .ok (.ireturn, 1) := dk_172 (dk_at dksJ20_nextSetBit_2 1 rfl rfl)
theorem dJ20_nextSetBit_50 : decode cJ20_nextSetBit 50 = .ok (.aload_n 0, 1) := dk_42 (dk_at dksJ20_nextSetBit_2 2 rfl rfl)
theorem dJ20_nextSetBit_51 : decode cJ20_nextSetBit 51 = .ok (.getfield 11, 3) := dk_180 0 11 (dk_at dksJ20_nextSetBit_2 3 rfl rfl)
theorem dJ20_nextSetBit_54 : decode cJ20_nextSetBit 54 = .ok (.iload_n 2, 1) := dk_28 (dk_at dksJ20_nextSetBit_2 6 rfl rfl)
theorem dJ20_nextSetBit_55 : decode cJ20_nextSetBit 55 = .ok (.laload, 1) := dk_47 (dk_at dksJ20_nextSetBit_2 7 rfl rfl)
theorem dJ20_nextSetBit_56 : decode cJ20_nextSetBit 56 = .ok (.ldc2_w 165, 3) := dk_20 0 165 (dk_at dksJ20_nextSetBit_2 8 rfl rfl)
theorem dJ20_nextSetBit_59 : decode cJ20_nextSetBit 59 = .ok (.iload_n 1, 1) := dk_27 (dk_at dksJ20_nextSetBit_2 11 rfl rfl)
theorem dJ20_nextSetBit_60 : decode cJ20_nextSetBit 60 = .ok (.lshl, 1) := dk_121 (dk_at dksJ20_nextSetBit_2 12 rfl rfl)
theorem dJ20_nextSetBit_61 : decode cJ20_nextSetBit 61 = .ok (.land, 1) := dk_127 (dk_at dksJ20_nextSetBit_2 13 rfl rfl)
theorem dJ20_nextSetBit_62 : decode cJ20_nextSetBit 62 = .ok (.lstore_n 3, 1) := dk_66 (dk_at dksJ20_nextSetBit_2 14 rfl rfl)
theorem dJ20_nextSetBit_63 : decode cJ20_nextSetBit 63 = .ok (.lload_n 3, 1) := dk_33 (dk_at dksJ20_nextSetBit_2 15 rfl rfl)
theorem dJ20_nextSetBit_64 : decode cJ20_nextSetBit 64 = .ok (.lconst 0, 1) := dk_9 (dk_at dksJ20_nextSetBit_2 16 rfl rfl)
theorem dJ20_nextSetBit_65 : decode cJ20_nextSetBit 65 = .ok (.lcmp, 1) := dk_148 (dk_at dksJ20_nextSetBit_2 17 rfl rfl)
theorem dJ20_nextSetBit_66 : decode cJ20_nextSetBit 66 = .ok (.ifCond .eq 13, 3) := dk_153 0 13 (dk_at dksJ20_nextSetBit_2 18 rfl rfl)
theorem dJ20_nextSetBit_69 : decode cJ20_nextSetBit 69 = .ok (.iload_n 2, 1) := dk_28 (dk_at dksJ20_nextSetBit_2 21 rfl rfl)
theorem dJ20_nextSetBit_70 : decode cJ20_nextSetBit 70 = .ok (.bipush 64, 2) := dk_16 64 (dk_at dksJ20_nextSetBit_2 22 rfl rfl)
theorem dJ20_nextSetBit_72 : decode cJ20_nextSetBit 72 = .ok (.imul, 1) := dk_104 (dk_at dksJ20_nextSetBit_3 0 rfl rfl)
theorem dJ20_nextSetBit_73 : decode cJ20_nextSetBit 73 = .ok (.lload_n 3, 1) := dk_33 (dk_at dksJ20_nextSetBit_3 1 rfl rfl)
theorem dJ20_nextSetBit_74 : decode cJ20_nextSetBit 74 = .ok (.invokestatic 182, 3) := dk_184 0 182 (dk_at dksJ20_nextSetBit_3 2 rfl rfl)
theorem dJ20_nextSetBit_77 : decode cJ20_nextSetBit 77 = .ok (.iadd, 1) := dk_96 (dk_at dksJ20_nextSetBit_3 5 rfl rfl)
theorem dJ20_nextSetBit_78 : decode cJ20_nextSetBit 78 = .ok (.ireturn, 1) := dk_172 (dk_at dksJ20_nextSetBit_3 6 rfl rfl)
theorem dJ20_nextSetBit_79 : decode cJ20_nextSetBit 79 = .ok (.iinc 2 1, 3) := dk_132 2 1 (dk_at dksJ20_nextSetBit_3 7 rfl rfl)
theorem dJ20_nextSetBit_82 : decode cJ20_nextSetBit 82 = .ok (.iload_n 2, 1) := dk_28 (dk_at dksJ20_nextSetBit_3 10 rfl rfl)
theorem dJ20_nextSetBit_83 : decode cJ20_nextSetBit 83 = .ok (.aload_n 0, 1) := dk_42 (dk_at dksJ20_nextSetBit_3 11 rfl rfl)
theorem dJ20_nextSetBit_84 : decode cJ20_nextSetBit 84 = .ok (.getfield 7, 3) := dk_180 0 7 (dk_at dksJ20_nextSetBit_3 12 rfl rfl)
theorem dJ20_nextSetBit_87 : decode cJ20_nextSetBit 87 = .ok (.if_icmp .ne 5, 3) := dk_160 0 5 (dk_at dksJ20_nextSetBit_3 15 rfl rfl)
theorem dJ20_nextSetBit_90 : decode cJ20_nextSetBit 90 = .ok (.iconst (-1), 1) := dk_2 (dk_at dksJ20_nextSetBit_3 18 rfl rfl)
theorem dJ20_nextSetBit_91 : decode cJ20_nextSetBit 91 = .ok (.ireturn, 1) := dk_172 (dk_at dksJ20_nextSetBit_3 19 rfl rfl)
theorem dJ20_nextSetBit_92 : decode cJ20_nextSetBit 92 = .ok (.aload_n 0, 1) := dk_42 (dk_at dksJ20_nextSetBit_3 20 rfl rfl)
theorem dJ20_nextSetBit_93 : decode cJ20_nextSetBit 93 = .ok (.getfield 11, 3) := dk_180 0 11 (dk_at dksJ20_nextSetBit_3 21 rfl rfl)
theorem dJ20_nextSetBit_96 : decode cJ20_nextSetBit 96 = .ok (.iload_n 2, 1) := dk_28 (dk_at dksJ20_nextSetBit_4 0 rfl rfl)
theorem dJ20_nextSetBit_97 : decode cJ20_nextSetBit 97 = .ok (.laload, 1) := dk_47 (dk_at dksJ20_nextSetBit_4 1 rfl rfl)
theorem dJ20_nextSetBit_98 : decode cJ20_nextSetBit 98 = .ok (.lstore_n 3, 1) := dk_66 (dk_at dksJ20_nextSetBit_4 2 rfl rfl)
theorem dJ20_nextSetBit_99 : decode cJ20_nextSetBit 99 = .ok (.goto (-36), 3) := dk_167 255 220 (dk_at dksJ20_nextSetBit_4 3 rfl rfl)
abbrev cJ20_and : ByteArray := prog_46_method_36_code
def yJ20_and : MethodName := ⟨RJ20, "and", "(Ljava/util/BitSet;)V"⟩
def dkwJ20_and_3 : List UInt8 := [182, 0, 158, 42, 182, 0, 56, 177]
abbrev dktJ20_and_3 : List UInt8 := dkwJ20_and_3 ++ []
def dkwJ20_and_2 : List UInt8 := [42, 180, 0, 11, 28, 92, 47, 43, 180, 0, 11, 28, 47, 127, 80, 132, 2, 1, 167, 255, 230, 42]
abbrev dktJ20_and_2 : List UInt8 := dkwJ20_and_2 ++ dktJ20_and_3
def dkwJ20_and_1 : List UInt8 := [180, 0, 7, 4, 100, 90, 181, 0, 7, 9, 80, 167, 255, 228, 3, 61, 28, 42, 180, 0, 7, 162, 0, 24]
abbrev dktJ20_and_1 : List UInt8 := dkwJ20_and_1 ++ dktJ20_and_2
def dkwJ20_and_0 : List UInt8 := [42, 43, 166, 0, 4, 177, 42, 180, 0, 7, 43, 180, 0, 7, 164, 0, 23, 42, 180, 0, 11, 42, 89]
abbrev dktJ20_and_0 : List UInt8 := dkwJ20_and_0 ++ dktJ20_and_1
theorem dksJ20_and_0 : cJ20_and.data.toList.drop 0 = dktJ20_and_0 := by decide +kernel
theorem dksJ20_and_1 : cJ20_and.data.toList.drop 23 = dktJ20_and_1 := dk_seg dksJ20_and_0 23 rfl rfl
theorem dksJ20_and_2 : cJ20_and.data.toList.drop 47 = dktJ20_and_2 := dk_seg dksJ20_and_1 24 rfl rfl
theorem dksJ20_and_3 : cJ20_and.data.toList.drop 69 = dktJ20_and_3 := dk_seg dksJ20_and_2 22 rfl rfl
theorem dJ20_and_0 : decode cJ20_and 0 = .ok (.aload_n 0, 1) := dk_42 (dk_at dksJ20_and_0 0 rfl rfl)
theorem dJ20_and_1 : decode cJ20_and 1 = .ok (.aload_n 1, 1) := dk_43 (dk_at dksJ20_and_0 1 rfl rfl)
theorem dJ20_and_2 : decode cJ20_and 2 = .ok (.if_acmp .ne 4, 3) := dk_166 0 4 (dk_at dksJ20_and_0 2 rfl rfl)
theorem dJ20_and_5 : decode cJ20_and 5 = .ok (.return_, 1) := dk_177 (dk_at dksJ20_and_0 5 rfl rfl)
theorem dJ20_and_6 : decode cJ20_and 6 = .ok (.aload_n 0, 1) := dk_42 (dk_at dksJ20_and_0 6 rfl rfl)
theorem dJ20_and_7 : decode cJ20_and 7 = .ok (.getfield 7, 3) := dk_180 0 7 (dk_at dksJ20_and_0 7 rfl rfl)
theorem dJ20_and_10 : decode cJ20_and 10 = .ok (.aload_n 1, 1) := dk_43 (dk_at dksJ20_and_0 10 rfl rfl)
theorem dJ20_and_11 : decode cJ20_and 11 = .ok (.getfield 7, 3) := dk_180 0 7 (dk_at dksJ20_and_0 11 rfl rfl)
theorem dJ20_and_14 : decode cJ20_and 14 = .ok (.if_icmp .le 23, 3) := dk_164 0 23 (dk_at dksJ20_and_0 14 rfl rfl)
theorem dJ20_and_17 : decode cJ20_and 17 = .ok (.aload_n 0, 1) := dk_42 (dk_at dksJ20_and_0 17 rfl rfl)
theorem dJ20_and_18 : decode cJ20_and 18 = .ok (.getfield 11, 3) := dk_180 0 11 (dk_at dksJ20_and_0 18 rfl rfl)
theorem dJ20_and_21 : decode cJ20_and 21 = .ok (.aload_n 0, 1) := dk_42 (dk_at dksJ20_and_0 21 rfl rfl)
theorem dJ20_and_22 : decode cJ20_and 22 = .ok (.dup, 1) := dk_89 (dk_at dksJ20_and_0 22 rfl rfl)
theorem dJ20_and_23 : decode cJ20_and 23 = .ok (.getfield 7, 3) := dk_180 0 7 (dk_at dksJ20_and_1 0 rfl rfl)
theorem dJ20_and_26 : decode cJ20_and 26 = .ok (.iconst 1, 1) := dk_4 (dk_at dksJ20_and_1 3 rfl rfl)
theorem dJ20_and_27 : decode cJ20_and 27 = .ok (.isub, 1) := dk_100 (dk_at dksJ20_and_1 4 rfl rfl)
theorem dJ20_and_28 : decode cJ20_and 28 = .ok (.dup_x1, 1) := dk_90 (dk_at dksJ20_and_1 5 rfl rfl)
theorem dJ20_and_29 : decode cJ20_and 29 = .ok (.putfield 7, 3) := dk_181 0 7 (dk_at dksJ20_and_1 6 rfl rfl)
theorem dJ20_and_32 : decode cJ20_and 32 = .ok (.lconst 0, 1) := dk_9 (dk_at dksJ20_and_1 9 rfl rfl)
theorem dJ20_and_33 : decode cJ20_and 33 = .ok (.lastore, 1) := dk_80 (dk_at dksJ20_and_1 10 rfl rfl)
theorem dJ20_and_34 : decode cJ20_and 34 = .ok (.goto (-28), 3) := dk_167 255 228 (dk_at dksJ20_and_1 11 rfl rfl)
theorem dJ20_and_37 : decode cJ20_and 37 = .ok (.iconst 0, 1) := dk_3 (dk_at dksJ20_and_1 14 rfl rfl)
theorem dJ20_and_38 : decode cJ20_and 38 = .ok (.istore_n 2, 1) := dk_61 (dk_at dksJ20_and_1 15 rfl rfl)
theorem dJ20_and_39 : decode cJ20_and 39 = .ok (.iload_n 2, 1) := dk_28 (dk_at dksJ20_and_1 16 rfl rfl)
theorem dJ20_and_40 : decode cJ20_and 40 = .ok (.aload_n 0, 1) := dk_42 (dk_at dksJ20_and_1 17 rfl rfl)
theorem dJ20_and_41 : decode cJ20_and 41 = .ok (.getfield 7, 3) := dk_180 0 7 (dk_at dksJ20_and_1 18 rfl rfl)
theorem dJ20_and_44 : decode cJ20_and 44 = .ok (.if_icmp .ge 24, 3) := dk_162 0 24 (dk_at dksJ20_and_1 21 rfl rfl)
theorem dJ20_and_47 : decode cJ20_and 47 = .ok (.aload_n 0, 1) := dk_42 (dk_at dksJ20_and_2 0 rfl rfl)
theorem dJ20_and_48 : decode cJ20_and 48 = .ok (.getfield 11, 3) := dk_180 0 11 (dk_at dksJ20_and_2 1 rfl rfl)
theorem dJ20_and_51 : decode cJ20_and 51 = .ok (.iload_n 2, 1) := dk_28 (dk_at dksJ20_and_2 4 rfl rfl)
theorem dJ20_and_52 : decode cJ20_and 52 = .ok (.dup2, 1) := dk_92 (dk_at dksJ20_and_2 5 rfl rfl)
theorem dJ20_and_53 : decode cJ20_and 53 = .ok (.laload, 1) := dk_47 (dk_at dksJ20_and_2 6 rfl rfl)
theorem dJ20_and_54 : decode cJ20_and 54 = .ok (.aload_n 1, 1) := dk_43 (dk_at dksJ20_and_2 7 rfl rfl)
theorem dJ20_and_55 : decode cJ20_and 55 = .ok (.getfield 11, 3) := dk_180 0 11 (dk_at dksJ20_and_2 8 rfl rfl)
theorem dJ20_and_58 : decode cJ20_and 58 = .ok (.iload_n 2, 1) := dk_28 (dk_at dksJ20_and_2 11 rfl rfl)
theorem dJ20_and_59 : decode cJ20_and 59 = .ok (.laload, 1) := dk_47 (dk_at dksJ20_and_2 12 rfl rfl)
theorem dJ20_and_60 : decode cJ20_and 60 = .ok (.land, 1) := dk_127 (dk_at dksJ20_and_2 13 rfl rfl)
theorem dJ20_and_61 : decode cJ20_and 61 = .ok (.lastore, 1) := dk_80 (dk_at dksJ20_and_2 14 rfl rfl)
theorem dJ20_and_62 : decode cJ20_and 62 = .ok (.iinc 2 1, 3) := dk_132 2 1 (dk_at dksJ20_and_2 15 rfl rfl)
theorem dJ20_and_65 : decode cJ20_and 65 = .ok (.goto (-26), 3) := dk_167 255 230 (dk_at dksJ20_and_2 18 rfl rfl)
theorem dJ20_and_68 : decode cJ20_and 68 = .ok (.aload_n 0, 1) := dk_42 (dk_at dksJ20_and_2 21 rfl rfl)
theorem dJ20_and_69 : decode cJ20_and 69 = .ok (.invokevirtual 158, 3) := dk_182 0 158 (dk_at dksJ20_and_3 0 rfl rfl)
theorem dJ20_and_72 : decode cJ20_and 72 = .ok (.aload_n 0, 1) := dk_42 (dk_at dksJ20_and_3 3 rfl rfl)
theorem dJ20_and_73 : decode cJ20_and 73 = .ok (.invokevirtual 56, 3) := dk_182 0 56 (dk_at dksJ20_and_3 4 rfl rfl)
theorem dJ20_and_76 : decode cJ20_and 76 = .ok (.return_, 1) := dk_177 (dk_at dksJ20_and_3 7 rfl rfl)
abbrev cJ20_recalculateWordsInUse : ByteArray := prog_46_method_3_code
def yJ20_recalculateWordsInUse : MethodName := ⟨RJ20, "recalculateWordsInUse", "()V"⟩
def dkwJ20_recalculateWordsInUse_1 : List UInt8 := [167, 0, 9, 132, 1, 255, 167, 255, 235, 42, 27, 4, 96, 181, 0, 7, 177]
abbrev dktJ20_recalculateWordsInUse_1 : List UInt8 := dkwJ20_recalculateWordsInUse_1 ++ []
def dkwJ20_recalculateWordsInUse_0 : List UInt8 := [42, 180, 0, 7, 4, 100, 60, 27, 155, 0, 23, 42, 180, 0, 11, 27, 47, 9, 148, 153, 0, 6]
abbrev dktJ20_recalculateWordsInUse_0 : List UInt8 := dkwJ20_recalculateWordsInUse_0 ++ dktJ20_recalculateWordsInUse_1
theorem dksJ20_recalculateWordsInUse_0 : cJ20_recalculateWordsInUse.data.toList.drop 0 = dktJ20_recalculateWordsInUse_0 := by decide +kernel
theorem dksJ20_recalculateWordsInUse_1 : cJ20_recalculateWordsInUse.data.toList.drop 22 = dktJ20_recalculateWordsInUse_1 := dk_seg dksJ20_recalculateWordsInUse_0 22 rfl rfl
theorem dJ20_recalculateWordsInUse_0 : decode cJ20_recalculateWordsInUse 0 = .ok (.aload_n 0, 1) := dk_42 (dk_at dksJ20_recalculateWordsInUse_0 0 rfl rfl)
theorem dJ20_recalculateWordsInUse_1 : decode cJ20_recalculateWordsInUse 1 = .ok (.getfield 7, 3) := dk_180 0 7 (dk_at dksJ20_recalculateWordsInUse_0 1 rfl rfl)
theorem dJ20_recalculateWordsInUse_4 : decode cJ20_recalculateWordsInUse 4 = .ok (.iconst 1, 1) := dk_4 (dk_at dksJ20_recalculateWordsInUse_0 4 rfl rfl)
theorem dJ20_recalculateWordsInUse_5 : decode cJ20_recalculateWordsInUse 5 = .ok (.isub, 1) := dk_100 (dk_at dksJ20_recalculateWordsInUse_0 5 rfl rfl)
theorem dJ20_recalculateWordsInUse_6 : decode cJ20_recalculateWordsInUse 6 = .ok (.istore_n 1, 1) := dk_60 (dk_at dksJ20_recalculateWordsInUse_0 6 rfl rfl)
theorem dJ20_recalculateWordsInUse_7 : decode cJ20_recalculateWordsInUse 7 = .ok (.iload_n 1, 1) := dk_27 (dk_at dksJ20_recalculateWordsInUse_0 7 rfl rfl)
theorem dJ20_recalculateWordsInUse_8 : decode cJ20_recalculateWordsInUse 8 = .ok (.ifCond .lt 23, 3) := dk_155 0 23 (dk_at dksJ20_recalculateWordsInUse_0 8 rfl rfl)
theorem dJ20_recalculateWordsInUse_11 : decode cJ20_recalculateWordsInUse 11 = .ok (.aload_n 0, 1) := dk_42 (dk_at dksJ20_recalculateWordsInUse_0 11 rfl rfl)
theorem dJ20_recalculateWordsInUse_12 : decode cJ20_recalculateWordsInUse 12 = .ok (.getfield 11, 3) := dk_180 0 11 (dk_at dksJ20_recalculateWordsInUse_0 12 rfl rfl)
theorem dJ20_recalculateWordsInUse_15 : decode cJ20_recalculateWordsInUse 15 = .ok (.iload_n 1, 1) := dk_27 (dk_at dksJ20_recalculateWordsInUse_0 15 rfl rfl)
theorem dJ20_recalculateWordsInUse_16 : decode cJ20_recalculateWordsInUse 16 = .ok (.laload, 1) := dk_47 (dk_at dksJ20_recalculateWordsInUse_0 16 rfl rfl)
theorem dJ20_recalculateWordsInUse_17 : decode cJ20_recalculateWordsInUse 17 = .ok (.lconst 0, 1) := dk_9 (dk_at dksJ20_recalculateWordsInUse_0 17 rfl rfl)
theorem dJ20_recalculateWordsInUse_18 : decode cJ20_recalculateWordsInUse 18 = .ok (.lcmp, 1) := dk_148 (dk_at dksJ20_recalculateWordsInUse_0 18 rfl rfl)
theorem dJ20_recalculateWordsInUse_19 : decode cJ20_recalculateWordsInUse 19 = .ok (.ifCond .eq 6, 3) := dk_153 0 6 (dk_at dksJ20_recalculateWordsInUse_0 19 rfl rfl)
theorem dJ20_recalculateWordsInUse_22 : decode cJ20_recalculateWordsInUse 22 = .ok (.goto 9, 3) := dk_167 0 9 (dk_at dksJ20_recalculateWordsInUse_1 0 rfl rfl)
theorem dJ20_recalculateWordsInUse_25 : decode cJ20_recalculateWordsInUse 25 = .ok (.iinc 1 (-1), 3) := dk_132 1 255 (dk_at dksJ20_recalculateWordsInUse_1 3 rfl rfl)
theorem dJ20_recalculateWordsInUse_28 : decode cJ20_recalculateWordsInUse 28 = .ok (.goto (-21), 3) := dk_167 255 235 (dk_at dksJ20_recalculateWordsInUse_1 6 rfl rfl)
theorem dJ20_recalculateWordsInUse_31 : decode cJ20_recalculateWordsInUse 31 = .ok (.aload_n 0, 1) := dk_42 (dk_at dksJ20_recalculateWordsInUse_1 9 rfl rfl)
theorem dJ20_recalculateWordsInUse_32 : decode cJ20_recalculateWordsInUse 32 = .ok (.iload_n 1, 1) := dk_27 (dk_at dksJ20_recalculateWordsInUse_1 10 rfl rfl)
theorem dJ20_recalculateWordsInUse_33 : decode cJ20_recalculateWordsInUse 33 = .ok (.iconst 1, 1) := dk_4 (dk_at dksJ20_recalculateWordsInUse_1 11 rfl rfl)
theorem dJ20_recalculateWordsInUse_34 : decode cJ20_recalculateWordsInUse 34 = .ok (.iadd, 1) := dk_96 (dk_at dksJ20_recalculateWordsInUse_1 12 rfl rfl)
theorem dJ20_recalculateWordsInUse_35 : decode cJ20_recalculateWordsInUse 35 = .ok (.putfield 7, 3) := dk_181 0 7 (dk_at dksJ20_recalculateWordsInUse_1 13 rfl rfl)
theorem dJ20_recalculateWordsInUse_38 : decode cJ20_recalculateWordsInUse 38 = .ok (.return_, 1) := dk_177 (dk_at dksJ20_recalculateWordsInUse_1 16 rfl rfl)
abbrev cJ20_cardinality : ByteArray := prog_46_method_35_code
def yJ20_cardinality : MethodName := ⟨RJ20, "cardinality", "()I"⟩
def dkwJ20_cardinality_1 : List UInt8 := [132, 2, 1, 167, 255, 233, 27, 172]
abbrev dktJ20_cardinality_1 : List UInt8 := dkwJ20_cardinality_1 ++ []
def dkwJ20_cardinality_0 : List UInt8 := [3, 60, 3, 61, 28, 42, 180, 0, 7, 162, 0, 21, 27, 42, 180, 0, 11, 28, 47, 184, 0, 196, 96, 60]
abbrev dktJ20_cardinality_0 : List UInt8 := dkwJ20_cardinality_0 ++ dktJ20_cardinality_1
theorem dksJ20_cardinality_0 : cJ20_cardinality.data.toList.drop 0 = dktJ20_cardinality_0 := by decide +kernel
theorem dksJ20_cardinality_1 : cJ20_cardinality.data.toList.drop 24 = dktJ20_cardinality_1 := dk_seg dksJ20_cardinality_0 24 rfl rfl
theorem dJ20_cardinality_0 : decode cJ20_cardinality 0 = .ok (.iconst 0, 1) := dk_3 (dk_at dksJ20_cardinality_0 0 rfl rfl)
theorem dJ20_cardinality_1 : decode cJ20_cardinality 1 = .ok (.istore_n 1, 1) := dk_60 (dk_at dksJ20_cardinality_0 1 rfl rfl)
theorem dJ20_cardinality_2 : decode cJ20_cardinality 2 = .ok (.iconst 0, 1) := dk_3 (dk_at dksJ20_cardinality_0 2 rfl rfl)
theorem dJ20_cardinality_3 : decode cJ20_cardinality 3 = .ok (.istore_n 2, 1) := dk_61 (dk_at dksJ20_cardinality_0 3 rfl rfl)
theorem dJ20_cardinality_4 : decode cJ20_cardinality 4 = .ok (.iload_n 2, 1) := dk_28 (dk_at dksJ20_cardinality_0 4 rfl rfl)
theorem dJ20_cardinality_5 : decode cJ20_cardinality 5 = .ok (.aload_n 0, 1) := dk_42 (dk_at dksJ20_cardinality_0 5 rfl rfl)
theorem dJ20_cardinality_6 : decode cJ20_cardinality 6 = .ok (.getfield 7, 3) := dk_180 0 7 (dk_at dksJ20_cardinality_0 6 rfl rfl)
theorem dJ20_cardinality_9 : decode cJ20_cardinality 9 = .ok (.if_icmp .ge 21, 3) := dk_162 0 21 (dk_at dksJ20_cardinality_0 9 rfl rfl)
theorem dJ20_cardinality_12 : decode cJ20_cardinality 12 = .ok (.iload_n 1, 1) := dk_27 (dk_at dksJ20_cardinality_0 12 rfl rfl)
theorem dJ20_cardinality_13 : decode cJ20_cardinality 13 = .ok (.aload_n 0, 1) := dk_42 (dk_at dksJ20_cardinality_0 13 rfl rfl)
theorem dJ20_cardinality_14 : decode cJ20_cardinality 14 = .ok (.getfield 11, 3) := dk_180 0 11 (dk_at dksJ20_cardinality_0 14 rfl rfl)
theorem dJ20_cardinality_17 : decode cJ20_cardinality 17 = .ok (.iload_n 2, 1) := dk_28 (dk_at dksJ20_cardinality_0 17 rfl rfl)
theorem dJ20_cardinality_18 : decode cJ20_cardinality 18 = .ok (.laload, 1) := dk_47 (dk_at dksJ20_cardinality_0 18 rfl rfl)
theorem dJ20_cardinality_19 : decode cJ20_cardinality 19 = .ok (.invokestatic 196, 3) := dk_184 0 196 (dk_at dksJ20_cardinality_0 19 rfl rfl)
theorem dJ20_cardinality_22 : decode cJ20_cardinality 22 = .ok (.iadd, 1) := dk_96 (dk_at dksJ20_cardinality_0 22 rfl rfl)
theorem dJ20_cardinality_23 : decode cJ20_cardinality 23 = .ok (.istore_n 1, 1) := dk_60 (dk_at dksJ20_cardinality_0 23 rfl rfl)
theorem dJ20_cardinality_24 : decode cJ20_cardinality 24 = .ok (.iinc 2 1, 3) := dk_132 2 1 (dk_at dksJ20_cardinality_1 0 rfl rfl)
theorem dJ20_cardinality_27 : decode cJ20_cardinality 27 = .ok (.goto (-23), 3) := dk_167 255 233 (dk_at dksJ20_cardinality_1 3 rfl rfl)
theorem dJ20_cardinality_30 : decode cJ20_cardinality 30 = .ok (.iload_n 1, 1) := dk_27 (dk_at dksJ20_cardinality_1 6 rfl rfl)
theorem dJ20_cardinality_31 : decode cJ20_cardinality 31 = .ok (.ireturn, 1) := dk_172 (dk_at dksJ20_cardinality_1 7 rfl rfl)
theorem q106 : (Jvm.Cond.initialized "java/util/BitSet") ∈ lw_all := lw_g (lw_at lw_m1 29 rfl) rfl
theorem q264 : (Jvm.Cond.instantiable "java/util/BitSet" (3 : Nat)) ∈ lw_all := lw_g (lw_at lw_m1 187 rfl) rfl
theorem q266 : (Jvm.Cond.instanceMethod ({ cls := "java/util/BitSet", name := "<init>", desc := "()V" } : Jvm.MethodName)) ∈ lw_all := lw_g (lw_at lw_m1 189 rfl) rfl
theorem q267 : (Jvm.Cond.code ({ cls := "java/util/BitSet", name := "<init>", desc := "()V" } : Jvm.MethodName) prog_46_method_4_code (1 : Nat) (Option.none : Option Jvm.ClassFile.FieldType)) ∈ lw_all := lw_g (lw_at lw_m1 190 rfl) rfl
theorem q268 : (Jvm.Cond.methodLink "java/util/BitSet" (21 : Nat) ({ cls := "java/lang/Object", name := "<init>", desc := "()V" } : Jvm.MethodName)) ∈ lw_all := lw_g (lw_at lw_m1 191 rfl) rfl
theorem q269 : (Jvm.Cond.methodLink "java/util/BitSet" (27 : Nat) ({ cls := "java/util/BitSet", name := "initWords", desc := "(I)V" } : Jvm.MethodName)) ∈ lw_all := lw_g (lw_at lw_m1 192 rfl) rfl
theorem q270 : (Jvm.Cond.privateMethod ({ cls := "java/util/BitSet", name := "initWords", desc := "(I)V" } : Jvm.MethodName)) ∈ lw_tbl := lw_at lw_m1 193 rfl
theorem q271 : (Jvm.Cond.instanceMethod ({ cls := "java/util/BitSet", name := "initWords", desc := "(I)V" } : Jvm.MethodName)) ∈ lw_all := lw_g (lw_at lw_m1 194 rfl) rfl
theorem q272 : (Jvm.Cond.code ({ cls := "java/util/BitSet", name := "initWords", desc := "(I)V" } : Jvm.MethodName) prog_46_method_6_code (2 : Nat) (Option.none : Option Jvm.ClassFile.FieldType)) ∈ lw_all := lw_g (lw_at lw_m1 195 rfl) rfl
theorem q273 : (Jvm.Cond.methodLink "java/util/BitSet" (52 : Nat) ({ cls := "java/util/BitSet", name := "wordIndex", desc := "(I)I" } : Jvm.MethodName)) ∈ lw_all := lw_g (lw_at lw_m1 196 rfl) rfl
theorem q274 : (Jvm.Cond.static ({ cls := "java/util/BitSet", name := "wordIndex", desc := "(I)I" } : Jvm.MethodName)) ∈ lw_all := lw_g (lw_at lw_m1 197 rfl) rfl
theorem q275 : (Jvm.Cond.code ({ cls := "java/util/BitSet", name := "wordIndex", desc := "(I)I" } : Jvm.MethodName) prog_46_method_1_code (1 : Nat) (Option.some Jvm.ClassFile.FieldType.int)) ∈ lw_all := lw_g (lw_at lw_m1 198 rfl) rfl
theorem q276 : (Jvm.Cond.fieldLink "java/util/BitSet" (11 : Nat) "java/util/BitSet" "words" "[J") ∈ lw_all := lw_g (lw_at lw_m1 199 rfl) rfl
theorem q277 : (Jvm.Cond.fieldLink "java/util/BitSet" (7 : Nat) "java/util/BitSet" "wordsInUse" "I") ∈ lw_all := lw_g (lw_at lw_m1 200 rfl) rfl
theorem q278 : (Jvm.Cond.fieldLink "java/util/BitSet" (24 : Nat) "java/util/BitSet" "sizeIsSticky" "Z") ∈ lw_all := lw_g (lw_at lw_m1 201 rfl) rfl
theorem q279 : (Jvm.Cond.lays "java/util/BitSet" "java/util/BitSet" "words" "[J") ∈ lw_all := lw_g (lw_at lw_m1 202 rfl) rfl
theorem q280 : (Jvm.Cond.soleField "java/util/BitSet" "words") ∈ lw_all := lw_g (lw_at lw_m1 203 rfl) rfl
theorem q281 : (Jvm.Cond.lays "java/util/BitSet" "java/util/BitSet" "wordsInUse" "I") ∈ lw_all := lw_g (lw_at lw_m1 204 rfl) rfl
theorem q282 : (Jvm.Cond.soleField "java/util/BitSet" "wordsInUse") ∈ lw_all := lw_g (lw_at lw_m1 205 rfl) rfl
theorem q283 : (Jvm.Cond.lays "java/util/BitSet" "java/util/BitSet" "sizeIsSticky" "Z") ∈ lw_all := lw_g (lw_at lw_m1 206 rfl) rfl
theorem q284 : (Jvm.Cond.soleField "java/util/BitSet" "sizeIsSticky") ∈ lw_all := lw_g (lw_at lw_m1 207 rfl) rfl
theorem q285 : (Jvm.Cond.superclass "java/util/BitSet" "java/lang/Object") ∈ lw_all := lw_g (lw_at lw_m1 208 rfl) rfl
theorem q425 : (Jvm.Cond.selects "java/util/BitSet" ({ cls := "java/lang/Object", name := "getClass", desc := "()Ljava/lang/Class;" } : Jvm.MethodName) ({ cls := "java/lang/Object", name := "getClass", desc := "()Ljava/lang/Class;" } : Jvm.MethodName)) ∈ lw_all := lw_g (lw_at lw_m2 108 rfl) rfl
theorem q490 : (Jvm.Cond.instanceMethod ({ cls := "java/util/BitSet", name := "get", desc := "(I)Z" } : Jvm.MethodName)) ∈ lw_all := lw_g (lw_at lw_m2 173 rfl) rfl
theorem q491 : (Jvm.Cond.selects "java/util/BitSet" ({ cls := "java/util/BitSet", name := "get", desc := "(I)Z" } : Jvm.MethodName) ({ cls := "java/util/BitSet", name := "get", desc := "(I)Z" } : Jvm.MethodName)) ∈ lw_all := lw_g (lw_at lw_m2 174 rfl) rfl
theorem q492 : (Jvm.Cond.code ({ cls := "java/util/BitSet", name := "get", desc := "(I)Z" } : Jvm.MethodName) prog_46_method_26_code (3 : Nat) (Option.some Jvm.ClassFile.FieldType.boolean)) ∈ lw_all := lw_g (lw_at lw_m2 175 rfl) rfl
theorem q493 : (Jvm.Cond.classLink "java/util/BitSet" (142 : Nat) "java/lang/IndexOutOfBoundsException") ∈ lw_all := lw_g (lw_at lw_m2 176 rfl) rfl
theorem q502 : (Jvm.Cond.classLink "java/util/BitSet" (33 : Nat) "java/lang/StringBuilder") ∈ lw_all := lw_g (lw_at lw_m2 185 rfl) rfl
theorem q504 : (Jvm.Cond.methodLink "java/util/BitSet" (35 : Nat) ({ cls := "java/lang/StringBuilder", name := "<init>", desc := "()V" } : Jvm.MethodName)) ∈ lw_all := lw_g (lw_at lw_m2 187 rfl) rfl
theorem q533 : (Jvm.Cond.stringRef "java/util/BitSet" (153 : Nat) "bitIndex < 0: ") ∈ lw_tbl := lw_at lw_m2 216 rfl
theorem q534 : (Jvm.Cond.methodLink "java/util/BitSet" (38 : Nat) ({ cls := "java/lang/StringBuilder", name := "append", desc := "(Ljava/lang/String;)Ljava/lang/StringBuilder;" } : Jvm.MethodName)) ∈ lw_all := lw_g (lw_at lw_m2 217 rfl) rfl
theorem q648 : (Jvm.Cond.methodLink "java/util/BitSet" (42 : Nat) ({ cls := "java/lang/StringBuilder", name := "append", desc := "(I)Ljava/lang/StringBuilder;" } : Jvm.MethodName)) ∈ lw_all := lw_g (lw_at lw_m3 91 rfl) rfl
theorem q673 : (Jvm.Cond.methodLink "java/util/BitSet" (45 : Nat) ({ cls := "java/lang/StringBuilder", name := "toString", desc := "()Ljava/lang/String;" } : Jvm.MethodName)) ∈ lw_all := lw_g (lw_at lw_m3 116 rfl) rfl
theorem q754 : (Jvm.Cond.methodLink "java/util/BitSet" (146 : Nat) ({ cls := "java/lang/IndexOutOfBoundsException", name := "<init>", desc := "(Ljava/lang/String;)V" } : Jvm.MethodName)) ∈ lw_all := lw_g (lw_at lw_m3 197 rfl) rfl
theorem q760 : (Jvm.Cond.methodLink "java/util/BitSet" (56 : Nat) ({ cls := "java/util/BitSet", name := "checkInvariants", desc := "()V" } : Jvm.MethodName)) ∈ lw_all := lw_g (lw_at lw_m3 203 rfl) rfl
theorem q761 : (Jvm.Cond.privateMethod ({ cls := "java/util/BitSet", name := "checkInvariants", desc := "()V" } : Jvm.MethodName)) ∈ lw_tbl := lw_at lw_m3 204 rfl
theorem q762 : (Jvm.Cond.instanceMethod ({ cls := "java/util/BitSet", name := "checkInvariants", desc := "()V" } : Jvm.MethodName)) ∈ lw_all := lw_g (lw_at lw_m3 205 rfl) rfl
theorem q763 : (Jvm.Cond.code ({ cls := "java/util/BitSet", name := "checkInvariants", desc := "()V" } : Jvm.MethodName) prog_46_method_2_code (1 : Nat) (Option.none : Option Jvm.ClassFile.FieldType)) ∈ lw_all := lw_g (lw_at lw_m3 206 rfl) rfl
theorem q764 : (Jvm.Cond.fieldLink "java/util/BitSet" (3 : Nat) "java/util/BitSet" "$assertionsDisabled" "Z") ∈ lw_all := lw_g (lw_at lw_m3 207 rfl) rfl
theorem q765 : (Jvm.Cond.laysStatic "java/util/BitSet" "$assertionsDisabled" "Z") ∈ lw_tbl := lw_at lw_m3 208 rfl
theorem q876 : (Jvm.Cond.instanceMethod ({ cls := "java/util/BitSet", name := "set", desc := "(I)V" } : Jvm.MethodName)) ∈ lw_all := lw_g (lw_at lw_m4 79 rfl) rfl
theorem q877 : (Jvm.Cond.selects "java/util/BitSet" ({ cls := "java/util/BitSet", name := "set", desc := "(I)V" } : Jvm.MethodName) ({ cls := "java/util/BitSet", name := "set", desc := "(I)V" } : Jvm.MethodName)) ∈ lw_all := lw_g (lw_at lw_m4 80 rfl) rfl
theorem q878 : (Jvm.Cond.code ({ cls := "java/util/BitSet", name := "set", desc := "(I)V" } : Jvm.MethodName) prog_46_method_19_code (3 : Nat) (Option.none : Option Jvm.ClassFile.FieldType)) ∈ lw_all := lw_g (lw_at lw_m4 81 rfl) rfl
theorem q879 : (Jvm.Cond.methodLink "java/util/BitSet" (155 : Nat) ({ cls := "java/util/BitSet", name := "expandTo", desc := "(I)V" } : Jvm.MethodName)) ∈ lw_all := lw_g (lw_at lw_m4 82 rfl) rfl
theorem q880 : (Jvm.Cond.privateMethod ({ cls := "java/util/BitSet", name := "expandTo", desc := "(I)V" } : Jvm.MethodName)) ∈ lw_tbl := lw_at lw_m4 83 rfl
theorem q881 : (Jvm.Cond.instanceMethod ({ cls := "java/util/BitSet", name := "expandTo", desc := "(I)V" } : Jvm.MethodName)) ∈ lw_all := lw_g (lw_at lw_m4 84 rfl) rfl
theorem q882 : (Jvm.Cond.code ({ cls := "java/util/BitSet", name := "expandTo", desc := "(I)V" } : Jvm.MethodName) prog_46_method_15_code (3 : Nat) (Option.none : Option Jvm.ClassFile.FieldType)) ∈ lw_all := lw_g (lw_at lw_m4 85 rfl) rfl
theorem q883 : (Jvm.Cond.methodLink "java/util/BitSet" (139 : Nat) ({ cls := "java/util/BitSet", name := "ensureCapacity", desc := "(I)V" } : Jvm.MethodName)) ∈ lw_all := lw_g (lw_at lw_m4 86 rfl) rfl
theorem q884 : (Jvm.Cond.privateMethod ({ cls := "java/util/BitSet", name := "ensureCapacity", desc := "(I)V" } : Jvm.MethodName)) ∈ lw_tbl := lw_at lw_m4 87 rfl
theorem q885 : (Jvm.Cond.instanceMethod ({ cls := "java/util/BitSet", name := "ensureCapacity", desc := "(I)V" } : Jvm.MethodName)) ∈ lw_all := lw_g (lw_at lw_m4 88 rfl) rfl
theorem q886 : (Jvm.Cond.code ({ cls := "java/util/BitSet", name := "ensureCapacity", desc := "(I)V" } : Jvm.MethodName) prog_46_method_14_code (3 : Nat) (Option.none : Option Jvm.ClassFile.FieldType)) ∈ lw_all := lw_g (lw_at lw_m4 89 rfl) rfl
theorem q887 : (Jvm.Cond.methodLink "java/util/BitSet" (133 : Nat) ({ cls := "java/lang/Math", name := "max", desc := "(II)I" } : Jvm.MethodName)) ∈ lw_all := lw_g (lw_at lw_m4 90 rfl) rfl
theorem q888 : (Jvm.Cond.methodLink "java/util/BitSet" (59 : Nat) ({ cls := "java/util/Arrays", name := "copyOf", desc := "([JI)[J" } : Jvm.MethodName)) ∈ lw_all := lw_g (lw_at lw_m4 91 rfl) rfl
theorem q1031 : (Jvm.Cond.instanceMethod ({ cls := "java/util/BitSet", name := "nextSetBit", desc := "(I)I" } : Jvm.MethodName)) ∈ lw_all := lw_g (lw_at lw_m4 234 rfl) rfl
theorem q1032 : (Jvm.Cond.selects "java/util/BitSet" ({ cls := "java/util/BitSet", name := "nextSetBit", desc := "(I)I" } : Jvm.MethodName) ({ cls := "java/util/BitSet", name := "nextSetBit", desc := "(I)I" } : Jvm.MethodName)) ∈ lw_all := lw_g (lw_at lw_m4 235 rfl) rfl
theorem q1033 : (Jvm.Cond.code ({ cls := "java/util/BitSet", name := "nextSetBit", desc := "(I)I" } : Jvm.MethodName) prog_46_method_28_code (5 : Nat) (Option.some Jvm.ClassFile.FieldType.int)) ∈ lw_all := lw_g (lw_at lw_m4 236 rfl) rfl
theorem q1034 : (Jvm.Cond.stringRef "java/util/BitSet" (144 : Nat) "fromIndex < 0: ") ∈ lw_tbl := lw_at lw_m4 237 rfl
theorem q1035 : (Jvm.Cond.constantLong "java/util/BitSet" (165 : Nat) (-1 : Int64)) ∈ lw_all := lw_g (lw_at lw_m4 238 rfl) rfl
theorem q1036 : (Jvm.Cond.methodLink "java/util/BitSet" (182 : Nat) ({ cls := "java/lang/Long", name := "numberOfTrailingZeros", desc := "(J)I" } : Jvm.MethodName)) ∈ lw_all := lw_g (lw_at lw_m4 239 rfl) rfl
theorem q1061 : (Jvm.Cond.instanceMethod ({ cls := "java/util/BitSet", name := "and", desc := "(Ljava/util/BitSet;)V" } : Jvm.MethodName)) ∈ lw_all := lw_g (lw_at lw_m5 24 rfl) rfl
theorem q1062 : (Jvm.Cond.selects "java/util/BitSet" ({ cls := "java/util/BitSet", name := "and", desc := "(Ljava/util/BitSet;)V" } : Jvm.MethodName) ({ cls := "java/util/BitSet", name := "and", desc := "(Ljava/util/BitSet;)V" } : Jvm.MethodName)) ∈ lw_all := lw_g (lw_at lw_m5 25 rfl) rfl
theorem q1063 : (Jvm.Cond.code ({ cls := "java/util/BitSet", name := "and", desc := "(Ljava/util/BitSet;)V" } : Jvm.MethodName) prog_46_method_36_code (3 : Nat) (Option.none : Option Jvm.ClassFile.FieldType)) ∈ lw_all := lw_g (lw_at lw_m5 26 rfl) rfl
theorem q1064 : (Jvm.Cond.methodLink "java/util/BitSet" (158 : Nat) ({ cls := "java/util/BitSet", name := "recalculateWordsInUse", desc := "()V" } : Jvm.MethodName)) ∈ lw_all := lw_g (lw_at lw_m5 27 rfl) rfl
theorem q1065 : (Jvm.Cond.privateMethod ({ cls := "java/util/BitSet", name := "recalculateWordsInUse", desc := "()V" } : Jvm.MethodName)) ∈ lw_tbl := lw_at lw_m5 28 rfl
theorem q1066 : (Jvm.Cond.instanceMethod ({ cls := "java/util/BitSet", name := "recalculateWordsInUse", desc := "()V" } : Jvm.MethodName)) ∈ lw_all := lw_g (lw_at lw_m5 29 rfl) rfl
theorem q1067 : (Jvm.Cond.code ({ cls := "java/util/BitSet", name := "recalculateWordsInUse", desc := "()V" } : Jvm.MethodName) prog_46_method_3_code (2 : Nat) (Option.none : Option Jvm.ClassFile.FieldType)) ∈ lw_all := lw_g (lw_at lw_m5 30 rfl) rfl
theorem q1122 : (Jvm.Cond.instanceMethod ({ cls := "java/util/BitSet", name := "cardinality", desc := "()I" } : Jvm.MethodName)) ∈ lw_all := lw_g (lw_at lw_m5 85 rfl) rfl
theorem q1123 : (Jvm.Cond.selects "java/util/BitSet" ({ cls := "java/util/BitSet", name := "cardinality", desc := "()I" } : Jvm.MethodName) ({ cls := "java/util/BitSet", name := "cardinality", desc := "()I" } : Jvm.MethodName)) ∈ lw_all := lw_g (lw_at lw_m5 86 rfl) rfl
theorem q1124 : (Jvm.Cond.code ({ cls := "java/util/BitSet", name := "cardinality", desc := "()I" } : Jvm.MethodName) prog_46_method_35_code (3 : Nat) (Option.some Jvm.ClassFile.FieldType.int)) ∈ lw_all := lw_g (lw_at lw_m5 87 rfl) rfl
theorem q1125 : (Jvm.Cond.methodLink "java/util/BitSet" (196 : Nat) ({ cls := "java/lang/Long", name := "bitCount", desc := "(J)I" } : Jvm.MethodName)) ∈ lw_all := lw_g (lw_at lw_m5 88 rfl) rfl
theorem q2204 : (Jvm.Cond.castable "java/util/BitSet" "java/lang/Object") ∈ lw_tbl := lw_at lw_m9 207 rfl
theorem in_J20 : ∀ w ∈ wsJ200, w ∈ lw_all := lw_in wsJ200 [279, 281, 283] (by decide +kernel) (by decide +kernel)

/-! java/util/NoSuchElementException -/
set_option maxRecDepth 100000
def RJ21 : String := "java/util/NoSuchElementException"
def TJ21 : u_T := fun k => match k with
  | 0 => ("java/lang/Throwable", "cause", "Ljava/lang/Throwable;", false)
  | 1 => ("java/lang/Throwable", "stackTrace", "[Ljava/lang/StackTraceElement;", false)
  | 2 => ("java/lang/Throwable", "suppressedExceptions", "Ljava/util/List;", false)
  | 3 => ("java/lang/Throwable", "detailMessage", "Ljava/lang/String;", false)
  | 4 => ("java/lang/Throwable", "backtrace", "Ljava/lang/Object;", false)
  | _ => ("java/lang/Throwable", "depth", "I", false)
def tyJ21 : Nat → FieldType := fun k => match k with
  | 0 => .object "java/lang/Throwable"
  | 1 => .array (.object "java/lang/StackTraceElement")
  | 2 => .object "java/util/List"
  | 3 => .object "java/lang/String"
  | 4 => .object "java/lang/Object"
  | _ => .int
abbrev wsJ210 : List Cond := u_ws RJ21 TJ21 6
theorem nmJ21 : ∀ a, a < 6 → ∀ b, b < 6 → a ≠ b → (TJ21 a).2.1 ≠ (TJ21 b).2.1 := by decide +kernel
theorem tyJ21_ok : ∀ k, k < 6 → parseFieldDescriptor (TJ21 k).2.2.1 = some (tyJ21 k) := by decide +kernel
abbrev cJ21_init : ByteArray := prog_50_method_1_code
def yJ21_init : MethodName := ⟨RJ21, "<init>", "()V"⟩
theorem dJ21_init_0 : decode cJ21_init 0 = .ok (.aload_n 0, 1) := by decide +kernel
theorem dJ21_init_1 : decode cJ21_init 1 = .ok (.invokespecial 1, 3) := by decide +kernel
theorem dJ21_init_4 : decode cJ21_init 4 = .ok (.return_, 1) := by decide +kernel
theorem q107 : (Jvm.Cond.initialized "java/util/NoSuchElementException") ∈ lw_all := lw_g (lw_at lw_m1 30 rfl) rfl
theorem q363 : (Jvm.Cond.selects "java/util/NoSuchElementException" ({ cls := "java/lang/Throwable", name := "fillInStackTrace", desc := "()Ljava/lang/Throwable;" } : Jvm.MethodName) ({ cls := "java/lang/Throwable", name := "fillInStackTrace", desc := "()Ljava/lang/Throwable;" } : Jvm.MethodName)) ∈ lw_all := lw_g (lw_at lw_m2 46 rfl) rfl
theorem q426 : (Jvm.Cond.selects "java/util/NoSuchElementException" ({ cls := "java/lang/Object", name := "getClass", desc := "()Ljava/lang/Class;" } : Jvm.MethodName) ({ cls := "java/lang/Object", name := "getClass", desc := "()Ljava/lang/Class;" } : Jvm.MethodName)) ∈ lw_all := lw_g (lw_at lw_m2 109 rfl) rfl
theorem q456 : (Jvm.Cond.instantiable "java/util/NoSuchElementException" (6 : Nat)) ∈ lw_all := lw_g (lw_at lw_m2 139 rfl) rfl
theorem q457 : (Jvm.Cond.castable "java/util/NoSuchElementException" "java/util/NoSuchElementException") ∈ lw_tbl := lw_at lw_m2 140 rfl
theorem q458 : (Jvm.Cond.selects "java/util/NoSuchElementException" ({ cls := "java/lang/Throwable", name := "fillInStackTrace", desc := "(I)Ljava/lang/Throwable;" } : Jvm.MethodName) ({ cls := "java/lang/Throwable", name := "fillInStackTrace", desc := "(I)Ljava/lang/Throwable;" } : Jvm.MethodName)) ∈ lw_all := lw_g (lw_at lw_m2 141 rfl) rfl
theorem q459 : (Jvm.Cond.lays "java/util/NoSuchElementException" "java/lang/Throwable" "cause" "Ljava/lang/Throwable;") ∈ lw_all := lw_g (lw_at lw_m2 142 rfl) rfl
theorem q460 : (Jvm.Cond.lays "java/util/NoSuchElementException" "java/lang/Throwable" "stackTrace" "[Ljava/lang/StackTraceElement;") ∈ lw_all := lw_g (lw_at lw_m2 143 rfl) rfl
theorem q461 : (Jvm.Cond.lays "java/util/NoSuchElementException" "java/lang/Throwable" "suppressedExceptions" "Ljava/util/List;") ∈ lw_all := lw_g (lw_at lw_m2 144 rfl) rfl
theorem q462 : (Jvm.Cond.lays "java/util/NoSuchElementException" "java/lang/Throwable" "detailMessage" "Ljava/lang/String;") ∈ lw_all := lw_g (lw_at lw_m2 145 rfl) rfl
theorem q463 : (Jvm.Cond.lays "java/util/NoSuchElementException" "java/lang/Throwable" "backtrace" "Ljava/lang/Object;") ∈ lw_all := lw_g (lw_at lw_m2 146 rfl) rfl
theorem q465 : (Jvm.Cond.instanceMethod ({ cls := "java/util/NoSuchElementException", name := "<init>", desc := "()V" } : Jvm.MethodName)) ∈ lw_all := lw_g (lw_at lw_m2 148 rfl) rfl
theorem q466 : (Jvm.Cond.code ({ cls := "java/util/NoSuchElementException", name := "<init>", desc := "()V" } : Jvm.MethodName) prog_50_method_1_code (1 : Nat) (Option.none : Option Jvm.ClassFile.FieldType)) ∈ lw_all := lw_g (lw_at lw_m2 149 rfl) rfl
theorem q467 : (Jvm.Cond.methodLink "java/util/NoSuchElementException" (1 : Nat) ({ cls := "java/lang/RuntimeException", name := "<init>", desc := "()V" } : Jvm.MethodName)) ∈ lw_all := lw_g (lw_at lw_m2 150 rfl) rfl
theorem q474 : (Jvm.Cond.lays "java/util/NoSuchElementException" "java/lang/Throwable" "depth" "I") ∈ lw_all := lw_g (lw_at lw_m2 157 rfl) rfl
theorem q475 : (Jvm.Cond.superclass "java/util/NoSuchElementException" "java/lang/RuntimeException") ∈ lw_all := lw_g (lw_at lw_m2 158 rfl) rfl
theorem q2205 : (Jvm.Cond.castable "java/util/NoSuchElementException" "java/lang/Object") ∈ lw_tbl := lw_at lw_m9 208 rfl
theorem in_J21 : ∀ w ∈ wsJ210, w ∈ lw_all := lw_in wsJ210 [459, 460, 461, 462, 463, 474] (by decide +kernel) (by decide +kernel)

/-! java/lang/Long -/
set_option maxRecDepth 100000
def RJ26 : String := "java/lang/Long"
abbrev cJ26_numberOfTrailingZeros : ByteArray := prog_28_method_49_code
def yJ26_numberOfTrailingZeros : MethodName := ⟨RJ26, "numberOfTrailingZeros", "(J)I"⟩
def dkwJ26_numberOfTrailingZeros_1 : List UInt8 := [184, 1, 55, 172]
abbrev dktJ26_numberOfTrailingZeros_1 : List UInt8 := dkwJ26_numberOfTrailingZeros_1 ++ []
def dkwJ26_numberOfTrailingZeros_0 : List UInt8 := [30, 136, 61, 28, 154, 0, 17, 16, 32, 30, 16, 32, 125, 136, 184, 1, 55, 96, 167, 0, 7, 28]
abbrev dktJ26_numberOfTrailingZeros_0 : List UInt8 := dkwJ26_numberOfTrailingZeros_0 ++ dktJ26_numberOfTrailingZeros_1
theorem dksJ26_numberOfTrailingZeros_0 : cJ26_numberOfTrailingZeros.data.toList.drop 0 = dktJ26_numberOfTrailingZeros_0 := by decide +kernel
theorem dksJ26_numberOfTrailingZeros_1 : cJ26_numberOfTrailingZeros.data.toList.drop 22 = dktJ26_numberOfTrailingZeros_1 := dk_seg dksJ26_numberOfTrailingZeros_0 22 rfl rfl
theorem dJ26_numberOfTrailingZeros_0 : decode cJ26_numberOfTrailingZeros 0 = .ok (.lload_n 0, 1) := dk_30 (dk_at dksJ26_numberOfTrailingZeros_0 0 rfl rfl)
theorem dJ26_numberOfTrailingZeros_1 : decode cJ26_numberOfTrailingZeros 1 = .ok (.l2i, 1) := dk_136 (dk_at dksJ26_numberOfTrailingZeros_0 1 rfl rfl)
theorem dJ26_numberOfTrailingZeros_2 : decode cJ26_numberOfTrailingZeros 2 = .ok (.istore_n 2, 1) := dk_61 (dk_at dksJ26_numberOfTrailingZeros_0 2 rfl rfl)
theorem dJ26_numberOfTrailingZeros_3 : decode cJ26_numberOfTrailingZeros 3 = .ok (.iload_n 2, 1) := dk_28 (dk_at dksJ26_numberOfTrailingZeros_0 3 rfl rfl)
theorem dJ26_numberOfTrailingZeros_4 : decode cJ26_numberOfTrailingZeros 4 = .ok (.ifCond .ne 17, 3) := dk_154 0 17 (dk_at dksJ26_numberOfTrailingZeros_0 4 rfl rfl)
theorem dJ26_numberOfTrailingZeros_7 : decode cJ26_numberOfTrailingZeros 7 = .ok (.bipush 32, 2) := dk_16 32 (dk_at dksJ26_numberOfTrailingZeros_0 7 rfl rfl)
theorem dJ26_numberOfTrailingZeros_9 : decode cJ26_numberOfTrailingZeros 9 = .ok (.lload_n 0, 1) := dk_30 (dk_at dksJ26_numberOfTrailingZeros_0 9 rfl rfl)
theorem dJ26_numberOfTrailingZeros_10 : decode cJ26_numberOfTrailingZeros 10 = .ok (.bipush 32, 2) := dk_16 32 (dk_at dksJ26_numberOfTrailingZeros_0 10 rfl rfl)
theorem dJ26_numberOfTrailingZeros_12 : decode cJ26_numberOfTrailingZeros 12 = .ok (.lushr, 1) := dk_125 (dk_at dksJ26_numberOfTrailingZeros_0 12 rfl rfl)
theorem dJ26_numberOfTrailingZeros_13 : decode cJ26_numberOfTrailingZeros 13 = .ok (.l2i, 1) := dk_136 (dk_at dksJ26_numberOfTrailingZeros_0 13 rfl rfl)
theorem dJ26_numberOfTrailingZeros_14 : decode cJ26_numberOfTrailingZeros 14 = .ok (.invokestatic 311, 3) := dk_184 1 55 (dk_at dksJ26_numberOfTrailingZeros_0 14 rfl rfl)
theorem dJ26_numberOfTrailingZeros_17 : decode cJ26_numberOfTrailingZeros 17 = .ok (.iadd, 1) := dk_96 (dk_at dksJ26_numberOfTrailingZeros_0 17 rfl rfl)
theorem dJ26_numberOfTrailingZeros_18 : decode cJ26_numberOfTrailingZeros 18 = .ok (.goto 7, 3) := dk_167 0 7 (dk_at dksJ26_numberOfTrailingZeros_0 18 rfl rfl)
theorem dJ26_numberOfTrailingZeros_21 : decode cJ26_numberOfTrailingZeros 21 = .ok (.iload_n 2, 1) := dk_28 (dk_at dksJ26_numberOfTrailingZeros_0 21 rfl rfl)
theorem dJ26_numberOfTrailingZeros_22 : decode cJ26_numberOfTrailingZeros 22 = .ok (.invokestatic 311, 3) := dk_184 1 55 (dk_at dksJ26_numberOfTrailingZeros_1 0 rfl rfl)
theorem dJ26_numberOfTrailingZeros_25 : decode cJ26_numberOfTrailingZeros 25 = .ok (.ireturn, 1) := dk_172 (dk_at dksJ26_numberOfTrailingZeros_1 3 rfl rfl)
abbrev cJ26_bitCount : ByteArray := prog_28_method_50_code
def yJ26_bitCount : MethodName := ⟨RJ26, "bitCount", "(J)I"⟩
def dkwJ26_bitCount_2 : List UInt8 := [30, 30, 16, 32, 125, 97, 63, 30, 136, 16, 127, 126, 172]
abbrev dktJ26_bitCount_2 : List UInt8 := dkwJ26_bitCount_2 ++ []
def dkwJ26_bitCount_1 : List UInt8 := [30, 30, 7, 125, 97, 20, 1, 62, 127, 63, 30, 30, 16, 8, 125, 97, 63, 30, 30, 16, 16, 125, 97, 63]
abbrev dktJ26_bitCount_1 : List UInt8 := dkwJ26_bitCount_1 ++ dktJ26_bitCount_2
def dkwJ26_bitCount_0 : List UInt8 := [30, 30, 4, 125, 20, 1, 58, 127, 101, 63, 30, 20, 1, 60, 127, 30, 5, 125, 20, 1, 60, 127, 97, 63]
abbrev dktJ26_bitCount_0 : List UInt8 := dkwJ26_bitCount_0 ++ dktJ26_bitCount_1
theorem dksJ26_bitCount_0 : cJ26_bitCount.data.toList.drop 0 = dktJ26_bitCount_0 := by decide +kernel
theorem dksJ26_bitCount_1 : cJ26_bitCount.data.toList.drop 24 = dktJ26_bitCount_1 := dk_seg dksJ26_bitCount_0 24 rfl rfl
theorem dksJ26_bitCount_2 : cJ26_bitCount.data.toList.drop 48 = dktJ26_bitCount_2 := dk_seg dksJ26_bitCount_1 24 rfl rfl
theorem dJ26_bitCount_0 : decode cJ26_bitCount 0 = .ok (.lload_n 0, 1) := dk_30 (dk_at dksJ26_bitCount_0 0 rfl rfl)
theorem dJ26_bitCount_1 : decode cJ26_bitCount 1 = .ok (.lload_n 0, 1) := dk_30 (dk_at dksJ26_bitCount_0 1 rfl rfl)
theorem dJ26_bitCount_2 : decode cJ26_bitCount 2 = .ok (.iconst 1, 1) := dk_4 (dk_at dksJ26_bitCount_0 2 rfl rfl)
theorem dJ26_bitCount_3 : decode cJ26_bitCount 3 = .ok (.lushr, 1) := dk_125 (dk_at dksJ26_bitCount_0 3 rfl rfl)
theorem dJ26_bitCount_4 : decode cJ26_bitCount 4 = .ok (.ldc2_w 314, 3) := dk_20 1 58 (dk_at dksJ26_bitCount_0 4 rfl rfl)
theorem dJ26_bitCount_7 : decode cJ26_bitCount 7 = .ok (.land, 1) := dk_127 (dk_at dksJ26_bitCount_0 7 rfl rfl)
theorem dJ26_bitCount_8 : decode cJ26_bitCount 8 = .ok (.lsub, 1) := dk_101 (dk_at dksJ26_bitCount_0 8 rfl rfl)
theorem dJ26_bitCount_9 : decode cJ26_bitCount 9 = .ok (.lstore_n 0, 1) := dk_63 (dk_at dksJ26_bitCount_0 9 rfl rfl)
theorem dJ26_bitCount_10 : decode cJ26_bitCount 10 = .ok (.lload_n 0, 1) := dk_30 (dk_at dksJ26_bitCount_0 10 rfl rfl)
theorem dJ26_bitCount_11 : decode cJ26_bitCount 11 = .ok (.ldc2_w 316, 3) := dk_20 1 60 (dk_at dksJ26_bitCount_0 11 rfl rfl)
theorem dJ26_bitCount_14 : decode cJ26_bitCount 14 = .ok (.land, 1) := dk_127 (dk_at dksJ26_bitCount_0 14 rfl rfl)
theorem dJ26_bitCount_15 : decode cJ26_bitCount 15 = .ok (.lload_n 0, 1) := dk_30 (dk_at dksJ26_bitCount_0 15 rfl rfl)
theorem dJ26_bitCount_16 : decode cJ26_bitCount 16 = .ok (.iconst 2, 1) := dk_5 (dk_at dksJ26_bitCount_0 16 rfl rfl)
theorem dJ26_bitCount_17 : decode cJ26_bitCount 17 = .ok (.lushr, 1) := dk_125 (dk_at dksJ26_bitCount_0 17 rfl rfl)
theorem dJ26_bitCount_18 : decode cJ26_bitCount 18 = .ok (.ldc2_w 316, 3) := dk_20 1 60 (dk_at dksJ26_bitCount_0 18 rfl rfl)
theorem dJ26_bitCount_21 : decode cJ26_bitCount 21 = .ok (.land, 1) := dk_127 (dk_at dksJ26_bitCount_0 21 rfl rfl)
theorem dJ26_bitCount_22 : decode cJ26_bitCount 22 = .ok (.ladd, 1) := dk_97 (dk_at dksJ26_bitCount_0 22 rfl rfl)
theorem dJ26_bitCount_23 : decode cJ26_bitCount 23 = .ok (.lstore_n 0, 1) := dk_63 (dk_at dksJ26_bitCount_0 23 rfl rfl)
theorem dJ26_bitCount_24 : decode cJ26_bitCount 24 = .ok (.lload_n 0, 1) := dk_30 (dk_at dksJ26_bitCount_1 0 rfl rfl)
theorem dJ26_bitCount_25 : decode cJ26_bitCount 25 = .ok (.lload_n 0, 1) := dk_30 (dk_at dksJ26_bitCount_1 1 rfl rfl)
theorem dJ26_bitCount_26 : decode cJ26_bitCount 26 = .ok (.iconst 4, 1) := dk_7 (dk_at dksJ26_bitCount_1 2 rfl rfl)
theorem dJ26_bitCount_27 : decode cJ26_bitCount 27 = .ok (.lushr, 1) := dk_125 (dk_at dksJ26_bitCount_1 3 rfl rfl)
theorem dJ26_bitCount_28 : decode cJ26_bitCount 28 = .ok (.ladd, 1) := dk_97 (dk_at dksJ26_bitCount_1 4 rfl rfl)
theorem dJ26_bitCount_29 : decode cJ26_bitCount 29 = .ok (.ldc2_w 318, 3) := dk_20 1 62 (dk_at dksJ26_bitCount_1 5 rfl rfl)
theorem dJ26_bitCount_32 : decode cJ26_bitCount 32 = .ok (.land, 1) := dk_127 (dk_at dksJ26_bitCount_1 8 rfl rfl)
theorem dJ26_bitCount_33 : decode cJ26_bitCount 33 = .ok (.lstore_n 0, 1) := dk_63 (dk_at dksJ26_bitCount_1 9 rfl rfl)
theorem dJ26_bitCount_34 : decode cJ26_bitCount 34 = .ok (.lload_n 0, 1) := dk_30 (dk_at dksJ26_bitCount_1 10 rfl rfl)
theorem dJ26_bitCount_35 : decode cJ26_bitCount 35 = .ok (.lload_n 0, 1) := dk_30 (dk_at dksJ26_bitCount_1 11 rfl rfl)
theorem dJ26_bitCount_36 : decode cJ26_bitCount 36 = .ok (.bipush 8, 2) := dk_16 8 (dk_at dksJ26_bitCount_1 12 rfl rfl)
theorem dJ26_bitCount_38 : decode cJ26_bitCount 38 = .ok (.lushr, 1) := dk_125 (dk_at dksJ26_bitCount_1 14 rfl rfl)
theorem dJ26_bitCount_39 : decode cJ26_bitCount 39 = .ok (.ladd, 1) := dk_97 (dk_at dksJ26_bitCount_1 15 rfl rfl)
theorem dJ26_bitCount_40 : decode cJ26_bitCount 40 = .ok (.lstore_n 0, 1) := dk_63 (dk_at dksJ26_bitCount_1 16 rfl rfl)
theorem dJ26_bitCount_41 : decode cJ26_bitCount 41 = .ok (.lload_n 0, 1) := dk_30 (dk_at dksJ26_bitCount_1 17 rfl rfl)
theorem dJ26_bitCount_42 : decode cJ26_bitCount 42 = .ok (.lload_n 0, 1) := dk_30 (dk_at dksJ26_bitCount_1 18 rfl rfl)
theorem dJ26_bitCount_43 : decode cJ26_bitCount 43 = .ok (.bipush 16, 2) := dk_16 16 (dk_at dksJ26_bitCount_1 19 rfl rfl)
theorem dJ26_bitCount_45 : decode cJ26_bitCount 45 = .ok (.lushr, 1) := dk_125 (dk_at dksJ26_bitCount_1 21 rfl rfl)
theorem dJ26_bitCount_46 : decode cJ26_bitCount 46 = .ok (.ladd, 1) := dk_97 (dk_at dksJ26_bitCount_1 22 rfl rfl)
theorem dJ26_bitCount_47 : decode cJ26_bitCount 47 = .ok (.lstore_n 0, 1) := dk_63 (dk_at dksJ26_bitCount_1 23 rfl rfl)
theorem dJ26_bitCount_48 : decode cJ26_bitCount 48 = .ok (.lload_n 0, 1) := dk_30 (dk_at dksJ26_bitCount_2 0 rfl rfl)
theorem dJ26_bitCount_49 : decode cJ26_bitCount 49 = .ok (.lload_n 0, 1) := dk_30 (dk_at dksJ26_bitCount_2 1 rfl rfl)
theorem dJ26_bitCount_50 : decode cJ26_bitCount 50 = .ok (.bipush 32, 2) := dk_16 32 (dk_at dksJ26_bitCount_2 2 rfl rfl)
theorem dJ26_bitCount_52 : decode cJ26_bitCount 52 = .ok (.lushr, 1) := dk_125 (dk_at dksJ26_bitCount_2 4 rfl rfl)
theorem dJ26_bitCount_53 : decode cJ26_bitCount 53 = .ok (.ladd, 1) := dk_97 (dk_at dksJ26_bitCount_2 5 rfl rfl)
theorem dJ26_bitCount_54 : decode cJ26_bitCount 54 = .ok (.lstore_n 0, 1) := dk_63 (dk_at dksJ26_bitCount_2 6 rfl rfl)
theorem dJ26_bitCount_55 : decode cJ26_bitCount 55 = .ok (.lload_n 0, 1) := dk_30 (dk_at dksJ26_bitCount_2 7 rfl rfl)
theorem dJ26_bitCount_56 : decode cJ26_bitCount 56 = .ok (.l2i, 1) := dk_136 (dk_at dksJ26_bitCount_2 8 rfl rfl)
theorem dJ26_bitCount_57 : decode cJ26_bitCount 57 = .ok (.bipush 127, 2) := dk_16 127 (dk_at dksJ26_bitCount_2 9 rfl rfl)
theorem dJ26_bitCount_59 : decode cJ26_bitCount 59 = .ok (.iand, 1) := dk_126 (dk_at dksJ26_bitCount_2 11 rfl rfl)
theorem dJ26_bitCount_60 : decode cJ26_bitCount 60 = .ok (.ireturn, 1) := dk_172 (dk_at dksJ26_bitCount_2 12 rfl rfl)
theorem q114 : (Jvm.Cond.initialized "java/lang/Long") ∈ lw_all := lw_g (lw_at lw_m1 37 rfl) rfl
theorem q1037 : (Jvm.Cond.static ({ cls := "java/lang/Long", name := "numberOfTrailingZeros", desc := "(J)I" } : Jvm.MethodName)) ∈ lw_all := lw_g (lw_at lw_m5 0 rfl) rfl
theorem q1038 : (Jvm.Cond.code ({ cls := "java/lang/Long", name := "numberOfTrailingZeros", desc := "(J)I" } : Jvm.MethodName) prog_28_method_49_code (3 : Nat) (Option.some Jvm.ClassFile.FieldType.int)) ∈ lw_all := lw_g (lw_at lw_m5 1 rfl) rfl
theorem q1039 : (Jvm.Cond.methodLink "java/lang/Long" (311 : Nat) ({ cls := "java/lang/Integer", name := "numberOfTrailingZeros", desc := "(I)I" } : Jvm.MethodName)) ∈ lw_all := lw_g (lw_at lw_m5 2 rfl) rfl
theorem q1126 : (Jvm.Cond.static ({ cls := "java/lang/Long", name := "bitCount", desc := "(J)I" } : Jvm.MethodName)) ∈ lw_all := lw_g (lw_at lw_m5 89 rfl) rfl
theorem q1127 : (Jvm.Cond.code ({ cls := "java/lang/Long", name := "bitCount", desc := "(J)I" } : Jvm.MethodName) prog_28_method_50_code (2 : Nat) (Option.some Jvm.ClassFile.FieldType.int)) ∈ lw_all := lw_g (lw_at lw_m5 90 rfl) rfl
theorem q1128 : (Jvm.Cond.constantLong "java/lang/Long" (314 : Nat) (6148914691236517205 : Int64)) ∈ lw_all := lw_g (lw_at lw_m5 91 rfl) rfl
theorem q1129 : (Jvm.Cond.constantLong "java/lang/Long" (316 : Nat) (3689348814741910323 : Int64)) ∈ lw_all := lw_g (lw_at lw_m5 92 rfl) rfl
theorem q1130 : (Jvm.Cond.constantLong "java/lang/Long" (318 : Nat) (1085102592571150095 : Int64)) ∈ lw_all := lw_g (lw_at lw_m5 93 rfl) rfl

/-! java/lang/ArithmeticException -/
set_option maxRecDepth 100000
def RJ27 : String := "java/lang/ArithmeticException"
def TJ27 : u_T := fun k => match k with
  | 0 => ("java/lang/Throwable", "backtrace", "Ljava/lang/Object;", false)
  | 1 => ("java/lang/Throwable", "detailMessage", "Ljava/lang/String;", false)
  | 2 => ("java/lang/Throwable", "cause", "Ljava/lang/Throwable;", false)
  | 3 => ("java/lang/Throwable", "stackTrace", "[Ljava/lang/StackTraceElement;", false)
  | 4 => ("java/lang/Throwable", "depth", "I", false)
  | _ => ("java/lang/Throwable", "suppressedExceptions", "Ljava/util/List;", false)
def tyJ27 : Nat → FieldType := fun k => match k with
  | 0 => .object "java/lang/Object"
  | 1 => .object "java/lang/String"
  | 2 => .object "java/lang/Throwable"
  | 3 => .array (.object "java/lang/StackTraceElement")
  | 4 => .int
  | _ => .object "java/util/List"
abbrev wsJ270 : List Cond := u_ws RJ27 TJ27 6
theorem nmJ27 : ∀ a, a < 6 → ∀ b, b < 6 → a ≠ b → (TJ27 a).2.1 ≠ (TJ27 b).2.1 := by decide +kernel
theorem tyJ27_ok : ∀ k, k < 6 → parseFieldDescriptor (TJ27 k).2.2.1 = some (tyJ27 k) := by decide +kernel
abbrev cJ27_init : ByteArray := prog_16_method_2_code
def yJ27_init : MethodName := ⟨RJ27, "<init>", "(Ljava/lang/String;)V"⟩
def dkwJ27_init_0 : List UInt8 := [42, 43, 183, 0, 7, 177]
abbrev dktJ27_init_0 : List UInt8 := dkwJ27_init_0 ++ []
theorem dksJ27_init_0 : cJ27_init.data.toList.drop 0 = dktJ27_init_0 := by decide +kernel
theorem dJ27_init_0 : decode cJ27_init 0 = .ok (.aload_n 0, 1) := dk_42 (dk_at dksJ27_init_0 0 rfl rfl)
theorem dJ27_init_1 : decode cJ27_init 1 = .ok (.aload_n 1, 1) := dk_43 (dk_at dksJ27_init_0 1 rfl rfl)
theorem dJ27_init_2 : decode cJ27_init 2 = .ok (.invokespecial 7, 3) := dk_183 0 7 (dk_at dksJ27_init_0 2 rfl rfl)
theorem dJ27_init_5 : decode cJ27_init 5 = .ok (.return_, 1) := dk_177 (dk_at dksJ27_init_0 5 rfl rfl)
abbrev cJ27_init_2 : ByteArray := prog_16_method_1_code
def yJ27_init_2 : MethodName := ⟨RJ27, "<init>", "()V"⟩
theorem dJ27_init_2_0 : decode cJ27_init_2 0 = .ok (.aload_n 0, 1) := by decide +kernel
theorem dJ27_init_2_1 : decode cJ27_init_2 1 = .ok (.invokespecial 1, 3) := by decide +kernel
theorem dJ27_init_2_4 : decode cJ27_init_2 4 = .ok (.return_, 1) := by decide +kernel
theorem q117 : (Jvm.Cond.initialized "java/lang/ArithmeticException") ∈ lw_all := lw_g (lw_at lw_m1 40 rfl) rfl
theorem q358 : (Jvm.Cond.selects "java/lang/ArithmeticException" ({ cls := "java/lang/Throwable", name := "fillInStackTrace", desc := "()Ljava/lang/Throwable;" } : Jvm.MethodName) ({ cls := "java/lang/Throwable", name := "fillInStackTrace", desc := "()Ljava/lang/Throwable;" } : Jvm.MethodName)) ∈ lw_all := lw_g (lw_at lw_m2 41 rfl) rfl
theorem q414 : (Jvm.Cond.selects "java/lang/ArithmeticException" ({ cls := "java/lang/Object", name := "getClass", desc := "()Ljava/lang/Class;" } : Jvm.MethodName) ({ cls := "java/lang/Object", name := "getClass", desc := "()Ljava/lang/Class;" } : Jvm.MethodName)) ∈ lw_all := lw_g (lw_at lw_m2 97 rfl) rfl
theorem q831 : (Jvm.Cond.selects "java/lang/ArithmeticException" ({ cls := "java/lang/Object", name := "equals", desc := "(Ljava/lang/Object;)Z" } : Jvm.MethodName) ({ cls := "java/lang/Object", name := "equals", desc := "(Ljava/lang/Object;)Z" } : Jvm.MethodName)) ∈ lw_all := lw_g (lw_at lw_m4 34 rfl) rfl
theorem q1631 : (Jvm.Cond.instantiable "java/lang/ArithmeticException" (6 : Nat)) ∈ lw_all := lw_g (lw_at lw_m7 114 rfl) rfl
theorem q1632 : (Jvm.Cond.instanceMethod ({ cls := "java/lang/ArithmeticException", name := "<init>", desc := "(Ljava/lang/String;)V" } : Jvm.MethodName)) ∈ lw_all := lw_g (lw_at lw_m7 115 rfl) rfl
theorem q1633 : (Jvm.Cond.code ({ cls := "java/lang/ArithmeticException", name := "<init>", desc := "(Ljava/lang/String;)V" } : Jvm.MethodName) prog_16_method_2_code (2 : Nat) (Option.none : Option Jvm.ClassFile.FieldType)) ∈ lw_all := lw_g (lw_at lw_m7 116 rfl) rfl
theorem q1634 : (Jvm.Cond.methodLink "java/lang/ArithmeticException" (7 : Nat) ({ cls := "java/lang/RuntimeException", name := "<init>", desc := "(Ljava/lang/String;)V" } : Jvm.MethodName)) ∈ lw_all := lw_g (lw_at lw_m7 117 rfl) rfl
theorem q1635 : (Jvm.Cond.lays "java/lang/ArithmeticException" "java/lang/Throwable" "backtrace" "Ljava/lang/Object;") ∈ lw_all := lw_g (lw_at lw_m7 118 rfl) rfl
theorem q1636 : (Jvm.Cond.lays "java/lang/ArithmeticException" "java/lang/Throwable" "detailMessage" "Ljava/lang/String;") ∈ lw_all := lw_g (lw_at lw_m7 119 rfl) rfl
theorem q1637 : (Jvm.Cond.lays "java/lang/ArithmeticException" "java/lang/Throwable" "cause" "Ljava/lang/Throwable;") ∈ lw_all := lw_g (lw_at lw_m7 120 rfl) rfl
theorem q1638 : (Jvm.Cond.lays "java/lang/ArithmeticException" "java/lang/Throwable" "stackTrace" "[Ljava/lang/StackTraceElement;") ∈ lw_all := lw_g (lw_at lw_m7 121 rfl) rfl
theorem q1639 : (Jvm.Cond.lays "java/lang/ArithmeticException" "java/lang/Throwable" "depth" "I") ∈ lw_all := lw_g (lw_at lw_m7 122 rfl) rfl
theorem q1640 : (Jvm.Cond.lays "java/lang/ArithmeticException" "java/lang/Throwable" "suppressedExceptions" "Ljava/util/List;") ∈ lw_all := lw_g (lw_at lw_m7 123 rfl) rfl
theorem q1641 : (Jvm.Cond.superclass "java/lang/ArithmeticException" "java/lang/RuntimeException") ∈ lw_all := lw_g (lw_at lw_m7 124 rfl) rfl
theorem q1642 : (Jvm.Cond.castable "java/lang/ArithmeticException" "java/lang/ArithmeticException") ∈ lw_tbl := lw_at lw_m7 125 rfl
theorem q1643 : (Jvm.Cond.selects "java/lang/ArithmeticException" ({ cls := "java/lang/Throwable", name := "fillInStackTrace", desc := "(I)Ljava/lang/Throwable;" } : Jvm.MethodName) ({ cls := "java/lang/Throwable", name := "fillInStackTrace", desc := "(I)Ljava/lang/Throwable;" } : Jvm.MethodName)) ∈ lw_all := lw_g (lw_at lw_m7 126 rfl) rfl
theorem q1653 : (Jvm.Cond.instanceMethod ({ cls := "java/lang/ArithmeticException", name := "<init>", desc := "()V" } : Jvm.MethodName)) ∈ lw_all := lw_g (lw_at lw_m7 136 rfl) rfl
theorem q1654 : (Jvm.Cond.code ({ cls := "java/lang/ArithmeticException", name := "<init>", desc := "()V" } : Jvm.MethodName) prog_16_method_1_code (1 : Nat) (Option.none : Option Jvm.ClassFile.FieldType)) ∈ lw_all := lw_g (lw_at lw_m7 137 rfl) rfl
theorem q1655 : (Jvm.Cond.methodLink "java/lang/ArithmeticException" (1 : Nat) ({ cls := "java/lang/RuntimeException", name := "<init>", desc := "()V" } : Jvm.MethodName)) ∈ lw_all := lw_g (lw_at lw_m7 138 rfl) rfl
theorem q2212 : (Jvm.Cond.castable "java/lang/ArithmeticException" "java/lang/Object") ∈ lw_tbl := lw_at lw_m9 215 rfl
theorem in_J27 : ∀ w ∈ wsJ270, w ∈ lw_all := lw_in wsJ270 [1635, 1636, 1637, 1638, 1639, 1640] (by decide +kernel) (by decide +kernel)

/-! java/lang/Object -/
set_option maxRecDepth 100000
def RJ28 : String := "java/lang/Object"
abbrev cJ28_init : ByteArray := object_method_1_code
def yJ28_init : MethodName := ⟨RJ28, "<init>", "()V"⟩
theorem dJ28_init_0 : decode cJ28_init 0 = .ok (.return_, 1) := by decide +kernel
abbrev cJ28_equals : ByteArray := object_method_4_code
def yJ28_equals : MethodName := ⟨RJ28, "equals", "(Ljava/lang/Object;)Z"⟩
def dkwJ28_equals_0 : List UInt8 := [42, 43, 166, 0, 7, 4, 167, 0, 4, 3, 172]
abbrev dktJ28_equals_0 : List UInt8 := dkwJ28_equals_0 ++ []
theorem dksJ28_equals_0 : cJ28_equals.data.toList.drop 0 = dktJ28_equals_0 := by decide +kernel
theorem dJ28_equals_0 : decode cJ28_equals 0 = .ok (.aload_n 0, 1) := dk_42 (dk_at dksJ28_equals_0 0 rfl rfl)
theorem dJ28_equals_1 : decode cJ28_equals 1 = .ok (.aload_n 1, 1) := dk_43 (dk_at dksJ28_equals_0 1 rfl rfl)
theorem dJ28_equals_2 : decode cJ28_equals 2 = .ok (.if_acmp .ne 7, 3) := dk_166 0 7 (dk_at dksJ28_equals_0 2 rfl rfl)
theorem dJ28_equals_5 : decode cJ28_equals 5 = .ok (.iconst 1, 1) := dk_4 (dk_at dksJ28_equals_0 5 rfl rfl)
theorem dJ28_equals_6 : decode cJ28_equals 6 = .ok (.goto 4, 3) := dk_167 0 4 (dk_at dksJ28_equals_0 6 rfl rfl)
theorem dJ28_equals_9 : decode cJ28_equals 9 = .ok (.iconst 0, 1) := dk_3 (dk_at dksJ28_equals_0 9 rfl rfl)
theorem dJ28_equals_10 : decode cJ28_equals 10 = .ok (.ireturn, 1) := dk_172 (dk_at dksJ28_equals_0 10 rfl rfl)
theorem q124 : (Jvm.Cond.instanceMethod ({ cls := "java/lang/Object", name := "<init>", desc := "()V" } : Jvm.MethodName)) ∈ lw_all := lw_g (lw_at lw_m1 47 rfl) rfl
theorem q125 : (Jvm.Cond.code ({ cls := "java/lang/Object", name := "<init>", desc := "()V" } : Jvm.MethodName) object_method_1_code (1 : Nat) (Option.none : Option Jvm.ClassFile.FieldType)) ∈ lw_all := lw_g (lw_at lw_m1 48 rfl) rfl
theorem q402 : (Jvm.Cond.instanceMethod ({ cls := "java/lang/Object", name := "getClass", desc := "()Ljava/lang/Class;" } : Jvm.MethodName)) ∈ lw_all := lw_g (lw_at lw_m2 85 rfl) rfl
theorem q403 : (Jvm.Cond.sameMethod "java/lang/Object" "java/lang/Object" "getClass" "()Ljava/lang/Class;") ∈ lw_all := lw_g (lw_at lw_m2 86 rfl) rfl
theorem q427 : (Jvm.Cond.native ({ cls := "java/lang/Object", name := "getClass", desc := "()Ljava/lang/Class;" } : Jvm.MethodName)) ∈ lw_all := lw_g (lw_at lw_m2 110 rfl) rfl
theorem q569 : (Jvm.Cond.native ({ cls := "java/lang/Object", name := "clone", desc := "()Ljava/lang/Object;" } : Jvm.MethodName)) ∈ lw_all := lw_g (lw_at lw_m3 12 rfl) rfl
theorem q570 : (Jvm.Cond.instanceMethod ({ cls := "java/lang/Object", name := "clone", desc := "()Ljava/lang/Object;" } : Jvm.MethodName)) ∈ lw_all := lw_g (lw_at lw_m3 13 rfl) rfl
theorem q817 : (Jvm.Cond.declares ({ cls := "java/lang/Object", name := "equals", desc := "(Ljava/lang/Object;)Z" } : Jvm.MethodName)) ∈ lw_tbl := lw_at lw_m4 20 rfl
theorem q819 : (Jvm.Cond.instanceMethod ({ cls := "java/lang/Object", name := "equals", desc := "(Ljava/lang/Object;)Z" } : Jvm.MethodName)) ∈ lw_all := lw_g (lw_at lw_m4 22 rfl) rfl
theorem q820 : (Jvm.Cond.sameMethod "java/lang/Object" "java/lang/Object" "equals" "(Ljava/lang/Object;)Z") ∈ lw_all := lw_g (lw_at lw_m4 23 rfl) rfl
theorem q849 : (Jvm.Cond.code ({ cls := "java/lang/Object", name := "equals", desc := "(Ljava/lang/Object;)Z" } : Jvm.MethodName) object_method_4_code (2 : Nat) (Option.some Jvm.ClassFile.FieldType.boolean)) ∈ lw_all := lw_g (lw_at lw_m4 52 rfl) rfl
theorem q2216 : (Jvm.Cond.declares ({ cls := "java/lang/Object", name := "getClass", desc := "()Ljava/lang/Class;" } : Jvm.MethodName)) ∈ lw_tbl := lw_at lw_m9 219 rfl

theorem q1406 : (Jvm.Cond.interfaceMethod "CodeRecovery$Parts" "CodeRecovery$Parts" "part" "(I)I") ∈ lw_tbl := lw_at lw_m6 129 rfl
set_option maxRecDepth 100000
theorem q1407 : (Jvm.Cond.declares ({ cls := "CodeRecovery$Parts", name := "part", desc := "(I)I" } : Jvm.MethodName)) ∈ lw_tbl := lw_at lw_m6 130 rfl

theorem q568 : (Jvm.Cond.sameMethod "[B" "java/lang/Object" "clone" "()Ljava/lang/Object;") ∈ lw_all := lw_g (lw_at lw_m3 11 rfl) rfl
set_option maxRecDepth 100000
theorem q571 : (Jvm.Cond.selects "[B" ({ cls := "[B", name := "clone", desc := "()Ljava/lang/Object;" } : Jvm.MethodName) ({ cls := "java/lang/Object", name := "clone", desc := "()Ljava/lang/Object;" } : Jvm.MethodName)) ∈ lw_all := lw_g (lw_at lw_m3 14 rfl) rfl
theorem q572 : (Jvm.Cond.castable "[B" "java/lang/Cloneable") ∈ lw_tbl := lw_at lw_m3 15 rfl
theorem q2221 : (Jvm.Cond.castable "[B" "java/lang/Object") ∈ lw_tbl := lw_at lw_m9 224 rfl

theorem q2218 : (Jvm.Cond.castable "[C" "java/lang/Object") ∈ lw_tbl := lw_at lw_m9 221 rfl
set_option maxRecDepth 100000

theorem q2223 : (Jvm.Cond.castable "[D" "java/lang/Object") ∈ lw_tbl := lw_at lw_m9 226 rfl
set_option maxRecDepth 100000

theorem q1246 : (Jvm.Cond.sameMethod "[I" "java/lang/Object" "clone" "()Ljava/lang/Object;") ∈ lw_all := lw_g (lw_at lw_m5 209 rfl) rfl
set_option maxRecDepth 100000
theorem q1247 : (Jvm.Cond.selects "[I" ({ cls := "[I", name := "clone", desc := "()Ljava/lang/Object;" } : Jvm.MethodName) ({ cls := "java/lang/Object", name := "clone", desc := "()Ljava/lang/Object;" } : Jvm.MethodName)) ∈ lw_all := lw_g (lw_at lw_m5 210 rfl) rfl
theorem q1248 : (Jvm.Cond.castable "[I" "java/lang/Cloneable") ∈ lw_tbl := lw_at lw_m5 211 rfl
theorem q2217 : (Jvm.Cond.castable "[I" "java/lang/Object") ∈ lw_tbl := lw_at lw_m9 220 rfl

theorem q892 : (Jvm.Cond.sameMethod "[J" "java/lang/Object" "clone" "()Ljava/lang/Object;") ∈ lw_all := lw_g (lw_at lw_m4 95 rfl) rfl
set_option maxRecDepth 100000
theorem q893 : (Jvm.Cond.selects "[J" ({ cls := "[J", name := "clone", desc := "()Ljava/lang/Object;" } : Jvm.MethodName) ({ cls := "java/lang/Object", name := "clone", desc := "()Ljava/lang/Object;" } : Jvm.MethodName)) ∈ lw_all := lw_g (lw_at lw_m4 96 rfl) rfl
theorem q894 : (Jvm.Cond.castable "[J" "java/lang/Cloneable") ∈ lw_tbl := lw_at lw_m4 97 rfl
theorem q2220 : (Jvm.Cond.castable "[J" "java/lang/Object") ∈ lw_tbl := lw_at lw_m9 223 rfl

theorem q2214 : (Jvm.Cond.sameMethod "[Ljava/lang/Object;" "java/lang/Object" "getClass" "()Ljava/lang/Class;") ∈ lw_all := lw_g (lw_at lw_m9 217 rfl) rfl
set_option maxRecDepth 100000
theorem q2215 : (Jvm.Cond.selects "[Ljava/lang/Object;" ({ cls := "java/lang/Object", name := "getClass", desc := "()Ljava/lang/Class;" } : Jvm.MethodName) ({ cls := "java/lang/Object", name := "getClass", desc := "()Ljava/lang/Class;" } : Jvm.MethodName)) ∈ lw_all := lw_g (lw_at lw_m9 218 rfl) rfl
theorem q2219 : (Jvm.Cond.castable "[Ljava/lang/Object;" "java/lang/Object") ∈ lw_tbl := lw_at lw_m9 222 rfl

theorem q2222 : (Jvm.Cond.castable "[Z" "java/lang/Object") ∈ lw_tbl := lw_at lw_m9 225 rfl
set_option maxRecDepth 100000

theorem q92 : (Jvm.Cond.initialized "java/lang/Integer$IntegerCache") ∈ lw_all := lw_g (lw_at lw_m1 15 rfl) rfl
set_option maxRecDepth 100000
theorem q292 : (Jvm.Cond.laysStatic "java/lang/Integer$IntegerCache" "high" "I") ∈ lw_tbl := lw_at lw_m1 215 rfl
theorem q294 : (Jvm.Cond.laysStatic "java/lang/Integer$IntegerCache" "cache" "[Ljava/lang/Integer;") ∈ lw_tbl := lw_at lw_m1 217 rfl

theorem q96 : (Jvm.Cond.initialized "java/lang/System") ∈ lw_all := lw_g (lw_at lw_m1 19 rfl) rfl
set_option maxRecDepth 100000
theorem q437 : (Jvm.Cond.static ({ cls := "java/lang/System", name := "arraycopy", desc := "(Ljava/lang/Object;ILjava/lang/Object;II)V" } : Jvm.MethodName)) ∈ lw_all := lw_g (lw_at lw_m2 120 rfl) rfl
theorem q438 : (Jvm.Cond.native ({ cls := "java/lang/System", name := "arraycopy", desc := "(Ljava/lang/Object;ILjava/lang/Object;II)V" } : Jvm.MethodName)) ∈ lw_all := lw_g (lw_at lw_m2 121 rfl) rfl

theorem q967 : (Jvm.Cond.interfaceMethod "java/util/List" "java/util/List" "size" "()I") ∈ lw_tbl := lw_at lw_m4 170 rfl
set_option maxRecDepth 100000
theorem q968 : (Jvm.Cond.declares ({ cls := "java/util/List", name := "size", desc := "()I" } : Jvm.MethodName)) ∈ lw_tbl := lw_at lw_m4 171 rfl
theorem q977 : (Jvm.Cond.interfaceMethod "java/util/List" "java/util/List" "get" "(I)Ljava/lang/Object;") ∈ lw_tbl := lw_at lw_m4 180 rfl
theorem q978 : (Jvm.Cond.declares ({ cls := "java/util/List", name := "get", desc := "(I)Ljava/lang/Object;" } : Jvm.MethodName)) ∈ lw_tbl := lw_at lw_m4 181 rfl

theorem q149 : (Jvm.Cond.arrayClass Jvm.ClassFile.FieldType.int) ∈ lw_all := lw_g (lw_at lw_m1 72 rfl) rfl
set_option maxRecDepth 100000
theorem q172 : (Jvm.Cond.arrayClass Jvm.ClassFile.FieldType.char) ∈ lw_all := lw_g (lw_at lw_m1 95 rfl) rfl
theorem q217 : (Jvm.Cond.arrayOver (Jvm.ClassFile.FieldType.object "java/lang/Object")) ∈ lw_tbl := lw_at lw_m1 140 rfl
theorem q286 : (Jvm.Cond.arrayClass Jvm.ClassFile.FieldType.long) ∈ lw_all := lw_g (lw_at lw_m1 209 rfl) rfl
theorem q396 : (Jvm.Cond.arrayClass Jvm.ClassFile.FieldType.byte) ∈ lw_all := lw_g (lw_at lw_m2 79 rfl) rfl
theorem q1835 : (Jvm.Cond.arrayClass Jvm.ClassFile.FieldType.boolean) ∈ lw_all := lw_g (lw_at lw_m8 78 rfl) rfl
theorem q2177 : (Jvm.Cond.arrayClass Jvm.ClassFile.FieldType.double) ∈ lw_all := lw_g (lw_at lw_m9 180 rfl) rfl
