/-! java/lang/Throwable -/
set_option maxRecDepth 100000
def RJ0 : String := "java/lang/Throwable"
def TJ0 : u_T := fun k => match k with
  | 0 => ("java/lang/Throwable", "cause", "Ljava/lang/Throwable;", false)
  | 1 => ("java/lang/Throwable", "stackTrace", "[Ljava/lang/StackTraceElement;", false)
  | 2 => ("java/lang/Throwable", "suppressedExceptions", "Ljava/util/List;", false)
  | 3 => ("java/lang/Throwable", "detailMessage", "Ljava/lang/String;", false)
  | _ => ("java/lang/Throwable", "backtrace", "Ljava/lang/Object;", false)
def tyJ0 : Nat → FieldType := fun k => match k with
  | 0 => .object "java/lang/Throwable"
  | 1 => .array (.object "java/lang/StackTraceElement")
  | 2 => .object "java/util/List"
  | 3 => .object "java/lang/String"
  | _ => .object "java/lang/Object"
abbrev wsJ00 : List Cond := u_ws RJ0 TJ0 5
theorem nmJ0 : ∀ a, a < 5 → ∀ b, b < 5 → a ≠ b → (TJ0 a).2.1 ≠ (TJ0 b).2.1 := by decide +kernel
theorem tyJ0_ok : ∀ k, k < 5 → parseFieldDescriptor (TJ0 k).2.2.1 = some (tyJ0 k) := by decide +kernel
abbrev cJ0_init : ByteArray := prog_46_method_2_code
def yJ0_init : MethodName := ⟨RJ0, "<init>", "(Ljava/lang/String;)V"⟩
def dkwJ0_init_1 : List UInt8 := [182, 0, 27, 87, 42, 43, 181, 0, 31, 177]
abbrev dktJ0_init_1 : List UInt8 := dkwJ0_init_1 ++ []
def dkwJ0_init_0 : List UInt8 := [42, 183, 0, 1, 42, 42, 181, 0, 7, 42, 178, 0, 13, 181, 0, 17, 42, 178, 0, 20, 181, 0, 24, 42]
abbrev dktJ0_init_0 : List UInt8 := dkwJ0_init_0 ++ dktJ0_init_1
theorem dksJ0_init_0 : cJ0_init.data.toList.drop 0 = dktJ0_init_0 := by decide +kernel
theorem dksJ0_init_1 : cJ0_init.data.toList.drop 24 = dktJ0_init_1 := dk_seg dksJ0_init_0 24 rfl rfl
theorem dJ0_init_0 : decode cJ0_init 0 = .ok (.aload_n 0, 1) := dk_42 (dk_at dksJ0_init_0 0 rfl rfl)
theorem dJ0_init_1 : decode cJ0_init 1 = .ok (.invokespecial 1, 3) := dk_183 0 1 (dk_at dksJ0_init_0 1 rfl rfl)
theorem dJ0_init_4 : decode cJ0_init 4 = .ok (.aload_n 0, 1) := dk_42 (dk_at dksJ0_init_0 4 rfl rfl)
theorem dJ0_init_5 : decode cJ0_init 5 = .ok (.aload_n 0, 1) := dk_42 (dk_at dksJ0_init_0 5 rfl rfl)
theorem dJ0_init_6 : decode cJ0_init 6 = .ok (.putfield 7, 3) := dk_181 0 7 (dk_at dksJ0_init_0 6 rfl rfl)
theorem dJ0_init_9 : decode cJ0_init 9 = .ok (.aload_n 0, 1) := dk_42 (dk_at dksJ0_init_0 9 rfl rfl)
theorem dJ0_init_10 : decode cJ0_init 10 = .ok (.getstatic 13, 3) := dk_178 0 13 (dk_at dksJ0_init_0 10 rfl rfl)
theorem dJ0_init_13 : decode cJ0_init 13 = .ok (.putfield 17, 3) := dk_181 0 17 (dk_at dksJ0_init_0 13 rfl rfl)
theorem dJ0_init_16 : decode cJ0_init 16 = .ok (.aload_n 0, 1) := dk_42 (dk_at dksJ0_init_0 16 rfl rfl)
theorem dJ0_init_17 : decode cJ0_init 17 = .ok (.getstatic 20, 3) := dk_178 0 20 (dk_at dksJ0_init_0 17 rfl rfl)
theorem dJ0_init_20 : decode cJ0_init 20 = .ok (.putfield 24, 3) := dk_181 0 24 (dk_at dksJ0_init_0 20 rfl rfl)
theorem dJ0_init_23 : decode cJ0_init 23 = .ok (.aload_n 0, 1) := dk_42 (dk_at dksJ0_init_0 23 rfl rfl)
theorem dJ0_init_24 : decode cJ0_init 24 = .ok (.invokevirtual 27, 3) := dk_182 0 27 (dk_at dksJ0_init_1 0 rfl rfl)
theorem dJ0_init_27 : decode cJ0_init 27 = .ok (.pop, 1) := dk_87 (dk_at dksJ0_init_1 3 rfl rfl)
theorem dJ0_init_28 : decode cJ0_init 28 = .ok (.aload_n 0, 1) := dk_42 (dk_at dksJ0_init_1 4 rfl rfl)
theorem dJ0_init_29 : decode cJ0_init 29 = .ok (.aload_n 1, 1) := dk_43 (dk_at dksJ0_init_1 5 rfl rfl)
theorem dJ0_init_30 : decode cJ0_init 30 = .ok (.putfield 31, 3) := dk_181 0 31 (dk_at dksJ0_init_1 6 rfl rfl)
theorem dJ0_init_33 : decode cJ0_init 33 = .ok (.return_, 1) := dk_177 (dk_at dksJ0_init_1 9 rfl rfl)
abbrev cJ0_init_2 : ByteArray := prog_46_method_1_code
def yJ0_init_2 : MethodName := ⟨RJ0, "<init>", "()V"⟩
def dkwJ0_init_2_1 : List UInt8 := [182, 0, 27, 87, 177]
abbrev dktJ0_init_2_1 : List UInt8 := dkwJ0_init_2_1 ++ []
def dkwJ0_init_2_0 : List UInt8 := [42, 183, 0, 1, 42, 42, 181, 0, 7, 42, 178, 0, 13, 181, 0, 17, 42, 178, 0, 20, 181, 0, 24, 42]
abbrev dktJ0_init_2_0 : List UInt8 := dkwJ0_init_2_0 ++ dktJ0_init_2_1
theorem dksJ0_init_2_0 : cJ0_init_2.data.toList.drop 0 = dktJ0_init_2_0 := by decide +kernel
theorem dksJ0_init_2_1 : cJ0_init_2.data.toList.drop 24 = dktJ0_init_2_1 := dk_seg dksJ0_init_2_0 24 rfl rfl
theorem dJ0_init_2_0 : decode cJ0_init_2 0 = .ok (.aload_n 0, 1) := dk_42 (dk_at dksJ0_init_2_0 0 rfl rfl)
theorem dJ0_init_2_1 : decode cJ0_init_2 1 = .ok (.invokespecial 1, 3) := dk_183 0 1 (dk_at dksJ0_init_2_0 1 rfl rfl)
theorem dJ0_init_2_4 : decode cJ0_init_2 4 = .ok (.aload_n 0, 1) := dk_42 (dk_at dksJ0_init_2_0 4 rfl rfl)
theorem dJ0_init_2_5 : decode cJ0_init_2 5 = .ok (.aload_n 0, 1) := dk_42 (dk_at dksJ0_init_2_0 5 rfl rfl)
theorem dJ0_init_2_6 : decode cJ0_init_2 6 = .ok (.putfield 7, 3) := dk_181 0 7 (dk_at dksJ0_init_2_0 6 rfl rfl)
theorem dJ0_init_2_9 : decode cJ0_init_2 9 = .ok (.aload_n 0, 1) := dk_42 (dk_at dksJ0_init_2_0 9 rfl rfl)
theorem dJ0_init_2_10 : decode cJ0_init_2 10 = .ok (.getstatic 13, 3) := dk_178 0 13 (dk_at dksJ0_init_2_0 10 rfl rfl)
theorem dJ0_init_2_13 : decode cJ0_init_2 13 = .ok (.putfield 17, 3) := dk_181 0 17 (dk_at dksJ0_init_2_0 13 rfl rfl)
theorem dJ0_init_2_16 : decode cJ0_init_2 16 = .ok (.aload_n 0, 1) := dk_42 (dk_at dksJ0_init_2_0 16 rfl rfl)
theorem dJ0_init_2_17 : decode cJ0_init_2 17 = .ok (.getstatic 20, 3) := dk_178 0 20 (dk_at dksJ0_init_2_0 17 rfl rfl)
theorem dJ0_init_2_20 : decode cJ0_init_2 20 = .ok (.putfield 24, 3) := dk_181 0 24 (dk_at dksJ0_init_2_0 20 rfl rfl)
theorem dJ0_init_2_23 : decode cJ0_init_2 23 = .ok (.aload_n 0, 1) := dk_42 (dk_at dksJ0_init_2_0 23 rfl rfl)
theorem dJ0_init_2_24 : decode cJ0_init_2 24 = .ok (.invokevirtual 27, 3) := dk_182 0 27 (dk_at dksJ0_init_2_1 0 rfl rfl)
theorem dJ0_init_2_27 : decode cJ0_init_2 27 = .ok (.pop, 1) := dk_87 (dk_at dksJ0_init_2_1 3 rfl rfl)
theorem dJ0_init_2_28 : decode cJ0_init_2 28 = .ok (.return_, 1) := dk_177 (dk_at dksJ0_init_2_1 4 rfl rfl)
theorem q96 : (Jvm.Cond.initialized "java/lang/Throwable") ∈ lw_all := lw_g (lw_at lw_m1 5 rfl) rfl
theorem q347 : (Jvm.Cond.instanceMethod ({ cls := "java/lang/Throwable", name := "<init>", desc := "(Ljava/lang/String;)V" } : Jvm.MethodName)) ∈ lw_all := lw_g (lw_at lw_m2 16 rfl) rfl
theorem q348 : (Jvm.Cond.code ({ cls := "java/lang/Throwable", name := "<init>", desc := "(Ljava/lang/String;)V" } : Jvm.MethodName) prog_46_method_2_code (2 : Nat) (Option.none : Option Jvm.ClassFile.FieldType)) ∈ lw_all := lw_g (lw_at lw_m2 17 rfl) rfl
theorem q349 : (Jvm.Cond.methodLink "java/lang/Throwable" (1 : Nat) ({ cls := "java/lang/Object", name := "<init>", desc := "()V" } : Jvm.MethodName)) ∈ lw_all := lw_g (lw_at lw_m2 18 rfl) rfl
theorem q350 : (Jvm.Cond.fieldLink "java/lang/Throwable" (13 : Nat) "java/lang/Throwable" "UNASSIGNED_STACK" "[Ljava/lang/StackTraceElement;") ∈ lw_all := lw_g (lw_at lw_m2 19 rfl) rfl
theorem q351 : (Jvm.Cond.laysStatic "java/lang/Throwable" "UNASSIGNED_STACK" "[Ljava/lang/StackTraceElement;") ∈ lw_tbl := lw_at lw_m2 20 rfl
theorem q352 : (Jvm.Cond.fieldLink "java/lang/Throwable" (20 : Nat) "java/lang/Throwable" "SUPPRESSED_SENTINEL" "Ljava/util/List;") ∈ lw_all := lw_g (lw_at lw_m2 21 rfl) rfl
theorem q353 : (Jvm.Cond.laysStatic "java/lang/Throwable" "SUPPRESSED_SENTINEL" "Ljava/util/List;") ∈ lw_tbl := lw_at lw_m2 22 rfl
theorem q354 : (Jvm.Cond.methodLink "java/lang/Throwable" (27 : Nat) ({ cls := "java/lang/Throwable", name := "fillInStackTrace", desc := "()Ljava/lang/Throwable;" } : Jvm.MethodName)) ∈ lw_all := lw_g (lw_at lw_m2 23 rfl) rfl
theorem q355 : (Jvm.Cond.instanceMethod ({ cls := "java/lang/Throwable", name := "fillInStackTrace", desc := "()Ljava/lang/Throwable;" } : Jvm.MethodName)) ∈ lw_all := lw_g (lw_at lw_m2 24 rfl) rfl
theorem q356 : (Jvm.Cond.sameMethod "java/lang/Throwable" "java/lang/Throwable" "fillInStackTrace" "()Ljava/lang/Throwable;") ∈ lw_all := lw_g (lw_at lw_m2 25 rfl) rfl
theorem q370 : (Jvm.Cond.declares ({ cls := "java/lang/Throwable", name := "fillInStackTrace", desc := "()Ljava/lang/Throwable;" } : Jvm.MethodName)) ∈ lw_tbl := lw_at lw_m2 39 rfl
theorem q374 : (Jvm.Cond.codeSync ({ cls := "java/lang/Throwable", name := "fillInStackTrace", desc := "()Ljava/lang/Throwable;" } : Jvm.MethodName) prog_46_method_18_code (1 : Nat) (Option.some (Jvm.ClassFile.FieldType.object "java/lang/Throwable"))) ∈ lw_all := lw_g (lw_at lw_m2 43 rfl) rfl
theorem q375 : (Jvm.Cond.methodLink "java/lang/Throwable" (202 : Nat) ({ cls := "java/lang/Throwable", name := "fillInStackTrace", desc := "(I)Ljava/lang/Throwable;" } : Jvm.MethodName)) ∈ lw_all := lw_g (lw_at lw_m2 44 rfl) rfl
theorem q376 : (Jvm.Cond.privateMethod ({ cls := "java/lang/Throwable", name := "fillInStackTrace", desc := "(I)Ljava/lang/Throwable;" } : Jvm.MethodName)) ∈ lw_tbl := lw_at lw_m2 45 rfl
theorem q377 : (Jvm.Cond.instanceMethod ({ cls := "java/lang/Throwable", name := "fillInStackTrace", desc := "(I)Ljava/lang/Throwable;" } : Jvm.MethodName)) ∈ lw_all := lw_g (lw_at lw_m2 46 rfl) rfl
theorem q378 : (Jvm.Cond.instantiable "java/lang/Throwable" (6 : Nat)) ∈ lw_all := lw_g (lw_at lw_m2 47 rfl) rfl
theorem q379 : (Jvm.Cond.native ({ cls := "java/lang/Throwable", name := "fillInStackTrace", desc := "(I)Ljava/lang/Throwable;" } : Jvm.MethodName)) ∈ lw_all := lw_g (lw_at lw_m2 48 rfl) rfl
theorem q380 : (Jvm.Cond.fieldLink "java/lang/Throwable" (198 : Nat) "java/lang/Throwable" "backtrace" "Ljava/lang/Object;") ∈ lw_all := lw_g (lw_at lw_m2 49 rfl) rfl
theorem q381 : (Jvm.Cond.fieldLink "java/lang/Throwable" (31 : Nat) "java/lang/Throwable" "detailMessage" "Ljava/lang/String;") ∈ lw_all := lw_g (lw_at lw_m2 50 rfl) rfl
theorem q382 : (Jvm.Cond.fieldLink "java/lang/Throwable" (7 : Nat) "java/lang/Throwable" "cause" "Ljava/lang/Throwable;") ∈ lw_all := lw_g (lw_at lw_m2 51 rfl) rfl
theorem q383 : (Jvm.Cond.fieldLink "java/lang/Throwable" (17 : Nat) "java/lang/Throwable" "stackTrace" "[Ljava/lang/StackTraceElement;") ∈ lw_all := lw_g (lw_at lw_m2 52 rfl) rfl
theorem q384 : (Jvm.Cond.fieldLink "java/lang/Throwable" (24 : Nat) "java/lang/Throwable" "suppressedExceptions" "Ljava/util/List;") ∈ lw_all := lw_g (lw_at lw_m2 53 rfl) rfl
theorem q386 : (Jvm.Cond.soleField "java/lang/Throwable" "backtrace") ∈ lw_all := lw_g (lw_at lw_m2 55 rfl) rfl
theorem q388 : (Jvm.Cond.soleField "java/lang/Throwable" "detailMessage") ∈ lw_all := lw_g (lw_at lw_m2 57 rfl) rfl
theorem q390 : (Jvm.Cond.soleField "java/lang/Throwable" "cause") ∈ lw_all := lw_g (lw_at lw_m2 59 rfl) rfl
theorem q392 : (Jvm.Cond.soleField "java/lang/Throwable" "stackTrace") ∈ lw_all := lw_g (lw_at lw_m2 61 rfl) rfl
theorem q394 : (Jvm.Cond.soleField "java/lang/Throwable" "depth") ∈ lw_all := lw_g (lw_at lw_m2 63 rfl) rfl
theorem q396 : (Jvm.Cond.soleField "java/lang/Throwable" "suppressedExceptions") ∈ lw_all := lw_g (lw_at lw_m2 65 rfl) rfl
theorem q403 : (Jvm.Cond.declares ({ cls := "java/lang/Throwable", name := "<init>", desc := "()V" } : Jvm.MethodName)) ∈ lw_tbl := lw_at lw_m2 72 rfl
theorem q404 : (Jvm.Cond.declares ({ cls := "java/lang/Throwable", name := "<init>", desc := "(Ljava/lang/String;)V" } : Jvm.MethodName)) ∈ lw_tbl := lw_at lw_m2 73 rfl
theorem q406 : (Jvm.Cond.lays "java/lang/Throwable" "java/lang/Throwable" "cause" "Ljava/lang/Throwable;") ∈ lw_all := lw_g (lw_at lw_m2 75 rfl) rfl
theorem q407 : (Jvm.Cond.lays "java/lang/Throwable" "java/lang/Throwable" "stackTrace" "[Ljava/lang/StackTraceElement;") ∈ lw_all := lw_g (lw_at lw_m2 76 rfl) rfl
theorem q408 : (Jvm.Cond.lays "java/lang/Throwable" "java/lang/Throwable" "suppressedExceptions" "Ljava/util/List;") ∈ lw_all := lw_g (lw_at lw_m2 77 rfl) rfl
theorem q409 : (Jvm.Cond.lays "java/lang/Throwable" "java/lang/Throwable" "detailMessage" "Ljava/lang/String;") ∈ lw_all := lw_g (lw_at lw_m2 78 rfl) rfl
theorem q410 : (Jvm.Cond.lays "java/lang/Throwable" "java/lang/Throwable" "backtrace" "Ljava/lang/Object;") ∈ lw_all := lw_g (lw_at lw_m2 79 rfl) rfl
theorem q411 : (Jvm.Cond.fieldLink "java/lang/Throwable" (198 : Nat) "java/lang/Throwable" "backtrace" "Ljava/lang/Object;") ∈ lw_all := lw_g (lw_at lw_m2 80 rfl) rfl
theorem q412 : (Jvm.Cond.superclass "java/lang/Throwable" "java/lang/Object") ∈ lw_all := lw_g (lw_at lw_m2 81 rfl) rfl
theorem q413 : (Jvm.Cond.instanceMethod ({ cls := "java/lang/Throwable", name := "<init>", desc := "()V" } : Jvm.MethodName)) ∈ lw_all := lw_g (lw_at lw_m2 82 rfl) rfl
theorem q414 : (Jvm.Cond.code ({ cls := "java/lang/Throwable", name := "<init>", desc := "()V" } : Jvm.MethodName) prog_46_method_1_code (1 : Nat) (Option.none : Option Jvm.ClassFile.FieldType)) ∈ lw_all := lw_g (lw_at lw_m2 83 rfl) rfl
theorem q2041 : (Jvm.Cond.sameMethod "java/lang/Throwable" "java/lang/Throwable" "fillInStackTrace" "(I)Ljava/lang/Throwable;") ∈ lw_all := lw_g (lw_at lw_m9 30 rfl) rfl
theorem in_J0 : ∀ w ∈ wsJ00, w ∈ lw_all := lw_in wsJ00 [406, 407, 408, 409, 410] (by decide +kernel) (by decide +kernel)
/-! java/lang/Exception -/
set_option maxRecDepth 100000
def RJ1 : String := "java/lang/Exception"
abbrev cJ1_init : ByteArray := prog_35_method_2_code
def yJ1_init : MethodName := ⟨RJ1, "<init>", "(Ljava/lang/String;)V"⟩
def dkwJ1_init_0 : List UInt8 := [42, 43, 183, 0, 7, 177]
abbrev dktJ1_init_0 : List UInt8 := dkwJ1_init_0 ++ []
theorem dksJ1_init_0 : cJ1_init.data.toList.drop 0 = dktJ1_init_0 := by decide +kernel
theorem dJ1_init_0 : decode cJ1_init 0 = .ok (.aload_n 0, 1) := dk_42 (dk_at dksJ1_init_0 0 rfl rfl)
theorem dJ1_init_1 : decode cJ1_init 1 = .ok (.aload_n 1, 1) := dk_43 (dk_at dksJ1_init_0 1 rfl rfl)
theorem dJ1_init_2 : decode cJ1_init 2 = .ok (.invokespecial 7, 3) := dk_183 0 7 (dk_at dksJ1_init_0 2 rfl rfl)
theorem dJ1_init_5 : decode cJ1_init 5 = .ok (.return_, 1) := dk_177 (dk_at dksJ1_init_0 5 rfl rfl)
abbrev cJ1_init_2 : ByteArray := prog_35_method_1_code
def yJ1_init_2 : MethodName := ⟨RJ1, "<init>", "()V"⟩
theorem dJ1_init_2_0 : decode cJ1_init_2 0 = .ok (.aload_n 0, 1) := by decide +kernel
theorem dJ1_init_2_1 : decode cJ1_init_2 1 = .ok (.invokespecial 1, 3) := by decide +kernel
theorem dJ1_init_2_4 : decode cJ1_init_2 4 = .ok (.return_, 1) := by decide +kernel
theorem q97 : (Jvm.Cond.initialized "java/lang/Exception") ∈ lw_all := lw_g (lw_at lw_m1 6 rfl) rfl
theorem q344 : (Jvm.Cond.instanceMethod ({ cls := "java/lang/Exception", name := "<init>", desc := "(Ljava/lang/String;)V" } : Jvm.MethodName)) ∈ lw_all := lw_g (lw_at lw_m2 13 rfl) rfl
theorem q345 : (Jvm.Cond.code ({ cls := "java/lang/Exception", name := "<init>", desc := "(Ljava/lang/String;)V" } : Jvm.MethodName) prog_35_method_2_code (2 : Nat) (Option.none : Option Jvm.ClassFile.FieldType)) ∈ lw_all := lw_g (lw_at lw_m2 14 rfl) rfl
theorem q346 : (Jvm.Cond.methodLink "java/lang/Exception" (7 : Nat) ({ cls := "java/lang/Throwable", name := "<init>", desc := "(Ljava/lang/String;)V" } : Jvm.MethodName)) ∈ lw_all := lw_g (lw_at lw_m2 15 rfl) rfl
theorem q373 : (Jvm.Cond.superclass "java/lang/Exception" "java/lang/Throwable") ∈ lw_all := lw_g (lw_at lw_m2 42 rfl) rfl
theorem q401 : (Jvm.Cond.declares ({ cls := "java/lang/Exception", name := "<init>", desc := "()V" } : Jvm.MethodName)) ∈ lw_tbl := lw_at lw_m2 70 rfl
theorem q402 : (Jvm.Cond.declares ({ cls := "java/lang/Exception", name := "<init>", desc := "(Ljava/lang/String;)V" } : Jvm.MethodName)) ∈ lw_tbl := lw_at lw_m2 71 rfl
theorem q427 : (Jvm.Cond.instanceMethod ({ cls := "java/lang/Exception", name := "<init>", desc := "()V" } : Jvm.MethodName)) ∈ lw_all := lw_g (lw_at lw_m2 96 rfl) rfl
theorem q428 : (Jvm.Cond.code ({ cls := "java/lang/Exception", name := "<init>", desc := "()V" } : Jvm.MethodName) prog_35_method_1_code (1 : Nat) (Option.none : Option Jvm.ClassFile.FieldType)) ∈ lw_all := lw_g (lw_at lw_m2 97 rfl) rfl
theorem q429 : (Jvm.Cond.methodLink "java/lang/Exception" (1 : Nat) ({ cls := "java/lang/Throwable", name := "<init>", desc := "()V" } : Jvm.MethodName)) ∈ lw_all := lw_g (lw_at lw_m2 98 rfl) rfl
/-! java/lang/RuntimeException -/
set_option maxRecDepth 100000
def RJ2 : String := "java/lang/RuntimeException"
abbrev cJ2_init : ByteArray := prog_41_method_2_code
def yJ2_init : MethodName := ⟨RJ2, "<init>", "(Ljava/lang/String;)V"⟩
def dkwJ2_init_0 : List UInt8 := [42, 43, 183, 0, 7, 177]
abbrev dktJ2_init_0 : List UInt8 := dkwJ2_init_0 ++ []
theorem dksJ2_init_0 : cJ2_init.data.toList.drop 0 = dktJ2_init_0 := by decide +kernel
theorem dJ2_init_0 : decode cJ2_init 0 = .ok (.aload_n 0, 1) := dk_42 (dk_at dksJ2_init_0 0 rfl rfl)
theorem dJ2_init_1 : decode cJ2_init 1 = .ok (.aload_n 1, 1) := dk_43 (dk_at dksJ2_init_0 1 rfl rfl)
theorem dJ2_init_2 : decode cJ2_init 2 = .ok (.invokespecial 7, 3) := dk_183 0 7 (dk_at dksJ2_init_0 2 rfl rfl)
theorem dJ2_init_5 : decode cJ2_init 5 = .ok (.return_, 1) := dk_177 (dk_at dksJ2_init_0 5 rfl rfl)
abbrev cJ2_init_2 : ByteArray := prog_41_method_1_code
def yJ2_init_2 : MethodName := ⟨RJ2, "<init>", "()V"⟩
theorem dJ2_init_2_0 : decode cJ2_init_2 0 = .ok (.aload_n 0, 1) := by decide +kernel
theorem dJ2_init_2_1 : decode cJ2_init_2 1 = .ok (.invokespecial 1, 3) := by decide +kernel
theorem dJ2_init_2_4 : decode cJ2_init_2 4 = .ok (.return_, 1) := by decide +kernel
theorem q98 : (Jvm.Cond.initialized "java/lang/RuntimeException") ∈ lw_all := lw_g (lw_at lw_m1 7 rfl) rfl
theorem q341 : (Jvm.Cond.instanceMethod ({ cls := "java/lang/RuntimeException", name := "<init>", desc := "(Ljava/lang/String;)V" } : Jvm.MethodName)) ∈ lw_all := lw_g (lw_at lw_m2 10 rfl) rfl
theorem q342 : (Jvm.Cond.code ({ cls := "java/lang/RuntimeException", name := "<init>", desc := "(Ljava/lang/String;)V" } : Jvm.MethodName) prog_41_method_2_code (2 : Nat) (Option.none : Option Jvm.ClassFile.FieldType)) ∈ lw_all := lw_g (lw_at lw_m2 11 rfl) rfl
theorem q343 : (Jvm.Cond.methodLink "java/lang/RuntimeException" (7 : Nat) ({ cls := "java/lang/Exception", name := "<init>", desc := "(Ljava/lang/String;)V" } : Jvm.MethodName)) ∈ lw_all := lw_g (lw_at lw_m2 12 rfl) rfl
theorem q369 : (Jvm.Cond.sameMethod "java/lang/RuntimeException" "java/lang/Throwable" "fillInStackTrace" "()Ljava/lang/Throwable;") ∈ lw_all := lw_g (lw_at lw_m2 38 rfl) rfl
theorem q372 : (Jvm.Cond.superclass "java/lang/RuntimeException" "java/lang/Exception") ∈ lw_all := lw_g (lw_at lw_m2 41 rfl) rfl
theorem q399 : (Jvm.Cond.declares ({ cls := "java/lang/RuntimeException", name := "<init>", desc := "()V" } : Jvm.MethodName)) ∈ lw_tbl := lw_at lw_m2 68 rfl
theorem q400 : (Jvm.Cond.declares ({ cls := "java/lang/RuntimeException", name := "<init>", desc := "(Ljava/lang/String;)V" } : Jvm.MethodName)) ∈ lw_tbl := lw_at lw_m2 69 rfl
theorem q424 : (Jvm.Cond.instanceMethod ({ cls := "java/lang/RuntimeException", name := "<init>", desc := "()V" } : Jvm.MethodName)) ∈ lw_all := lw_g (lw_at lw_m2 93 rfl) rfl
theorem q425 : (Jvm.Cond.code ({ cls := "java/lang/RuntimeException", name := "<init>", desc := "()V" } : Jvm.MethodName) prog_41_method_1_code (1 : Nat) (Option.none : Option Jvm.ClassFile.FieldType)) ∈ lw_all := lw_g (lw_at lw_m2 94 rfl) rfl
theorem q426 : (Jvm.Cond.methodLink "java/lang/RuntimeException" (1 : Nat) ({ cls := "java/lang/Exception", name := "<init>", desc := "()V" } : Jvm.MethodName)) ∈ lw_all := lw_g (lw_at lw_m2 95 rfl) rfl
theorem q444 : (Jvm.Cond.castable "java/lang/RuntimeException" "java/lang/Throwable") ∈ lw_tbl := lw_at lw_m2 113 rfl
/-! java/lang/ClassCastException -/
set_option maxRecDepth 100000
def RJ3 : String := "java/lang/ClassCastException"
def TJ3 : u_T := fun k => match k with
  | 0 => ("java/lang/Throwable", "backtrace", "Ljava/lang/Object;", false)
  | 1 => ("java/lang/Throwable", "detailMessage", "Ljava/lang/String;", false)
  | 2 => ("java/lang/Throwable", "cause", "Ljava/lang/Throwable;", false)
  | 3 => ("java/lang/Throwable", "stackTrace", "[Ljava/lang/StackTraceElement;", false)
  | 4 => ("java/lang/Throwable", "depth", "I", false)
  | _ => ("java/lang/Throwable", "suppressedExceptions", "Ljava/util/List;", false)
def tyJ3 : Nat → FieldType := fun k => match k with
  | 0 => .object "java/lang/Object"
  | 1 => .object "java/lang/String"
  | 2 => .object "java/lang/Throwable"
  | 3 => .array (.object "java/lang/StackTraceElement")
  | 4 => .int
  | _ => .object "java/util/List"
abbrev wsJ30 : List Cond := u_ws RJ3 TJ3 6
theorem nmJ3 : ∀ a, a < 6 → ∀ b, b < 6 → a ≠ b → (TJ3 a).2.1 ≠ (TJ3 b).2.1 := by decide +kernel
theorem tyJ3_ok : ∀ k, k < 6 → parseFieldDescriptor (TJ3 k).2.2.1 = some (tyJ3 k) := by decide +kernel
abbrev cJ3_init : ByteArray := prog_34_method_2_code
def yJ3_init : MethodName := ⟨RJ3, "<init>", "(Ljava/lang/String;)V"⟩
def dkwJ3_init_0 : List UInt8 := [42, 43, 183, 0, 7, 177]
abbrev dktJ3_init_0 : List UInt8 := dkwJ3_init_0 ++ []
theorem dksJ3_init_0 : cJ3_init.data.toList.drop 0 = dktJ3_init_0 := by decide +kernel
theorem dJ3_init_0 : decode cJ3_init 0 = .ok (.aload_n 0, 1) := dk_42 (dk_at dksJ3_init_0 0 rfl rfl)
theorem dJ3_init_1 : decode cJ3_init 1 = .ok (.aload_n 1, 1) := dk_43 (dk_at dksJ3_init_0 1 rfl rfl)
theorem dJ3_init_2 : decode cJ3_init 2 = .ok (.invokespecial 7, 3) := dk_183 0 7 (dk_at dksJ3_init_0 2 rfl rfl)
theorem dJ3_init_5 : decode cJ3_init 5 = .ok (.return_, 1) := dk_177 (dk_at dksJ3_init_0 5 rfl rfl)
theorem q99 : (Jvm.Cond.initialized "java/lang/ClassCastException") ∈ lw_all := lw_g (lw_at lw_m1 8 rfl) rfl
theorem q337 : (Jvm.Cond.instantiable "java/lang/ClassCastException" (6 : Nat)) ∈ lw_all := lw_g (lw_at lw_m2 6 rfl) rfl
theorem q338 : (Jvm.Cond.instanceMethod ({ cls := "java/lang/ClassCastException", name := "<init>", desc := "(Ljava/lang/String;)V" } : Jvm.MethodName)) ∈ lw_all := lw_g (lw_at lw_m2 7 rfl) rfl
theorem q339 : (Jvm.Cond.code ({ cls := "java/lang/ClassCastException", name := "<init>", desc := "(Ljava/lang/String;)V" } : Jvm.MethodName) prog_34_method_2_code (2 : Nat) (Option.none : Option Jvm.ClassFile.FieldType)) ∈ lw_all := lw_g (lw_at lw_m2 8 rfl) rfl
theorem q340 : (Jvm.Cond.methodLink "java/lang/ClassCastException" (7 : Nat) ({ cls := "java/lang/RuntimeException", name := "<init>", desc := "(Ljava/lang/String;)V" } : Jvm.MethodName)) ∈ lw_all := lw_g (lw_at lw_m2 9 rfl) rfl
theorem q358 : (Jvm.Cond.selects "java/lang/ClassCastException" ({ cls := "java/lang/Throwable", name := "fillInStackTrace", desc := "()Ljava/lang/Throwable;" } : Jvm.MethodName) ({ cls := "java/lang/Throwable", name := "fillInStackTrace", desc := "()Ljava/lang/Throwable;" } : Jvm.MethodName)) ∈ lw_all := lw_g (lw_at lw_m2 27 rfl) rfl
theorem q385 : (Jvm.Cond.lays "java/lang/ClassCastException" "java/lang/Throwable" "backtrace" "Ljava/lang/Object;") ∈ lw_all := lw_g (lw_at lw_m2 54 rfl) rfl
theorem q387 : (Jvm.Cond.lays "java/lang/ClassCastException" "java/lang/Throwable" "detailMessage" "Ljava/lang/String;") ∈ lw_all := lw_g (lw_at lw_m2 56 rfl) rfl
theorem q389 : (Jvm.Cond.lays "java/lang/ClassCastException" "java/lang/Throwable" "cause" "Ljava/lang/Throwable;") ∈ lw_all := lw_g (lw_at lw_m2 58 rfl) rfl
theorem q391 : (Jvm.Cond.lays "java/lang/ClassCastException" "java/lang/Throwable" "stackTrace" "[Ljava/lang/StackTraceElement;") ∈ lw_all := lw_g (lw_at lw_m2 60 rfl) rfl
theorem q393 : (Jvm.Cond.lays "java/lang/ClassCastException" "java/lang/Throwable" "depth" "I") ∈ lw_all := lw_g (lw_at lw_m2 62 rfl) rfl
theorem q395 : (Jvm.Cond.lays "java/lang/ClassCastException" "java/lang/Throwable" "suppressedExceptions" "Ljava/util/List;") ∈ lw_all := lw_g (lw_at lw_m2 64 rfl) rfl
theorem q397 : (Jvm.Cond.superclass "java/lang/ClassCastException" "java/lang/RuntimeException") ∈ lw_all := lw_g (lw_at lw_m2 66 rfl) rfl
theorem q398 : (Jvm.Cond.castable "java/lang/ClassCastException" "java/lang/ClassCastException") ∈ lw_tbl := lw_at lw_m2 67 rfl
theorem q405 : (Jvm.Cond.selects "java/lang/ClassCastException" ({ cls := "java/lang/Throwable", name := "fillInStackTrace", desc := "(I)Ljava/lang/Throwable;" } : Jvm.MethodName) ({ cls := "java/lang/Throwable", name := "fillInStackTrace", desc := "(I)Ljava/lang/Throwable;" } : Jvm.MethodName)) ∈ lw_all := lw_g (lw_at lw_m2 74 rfl) rfl
theorem in_J3 : ∀ w ∈ wsJ30, w ∈ lw_all := lw_in wsJ30 [385, 387, 389, 391, 393, 395] (by decide +kernel) (by decide +kernel)
/-! java/lang/String -/
set_option maxRecDepth 100000
def RJ4 : String := "java/lang/String"
def TJ4 : u_T := fun k => match k with
  | 0 => ("java/lang/String", "value", "[B", true)
  | _ => ("java/lang/String", "coder", "B", true)
def tyJ4 : Nat → FieldType := fun k => match k with
  | 0 => .array .byte
  | _ => .byte
abbrev wsJ40 : List Cond := u_ws RJ4 TJ4 2
theorem nmJ4 : ∀ a, a < 2 → ∀ b, b < 2 → a ≠ b → (TJ4 a).2.1 ≠ (TJ4 b).2.1 := by decide +kernel
theorem tyJ4_ok : ∀ k, k < 2 → parseFieldDescriptor (TJ4 k).2.2.1 = some (tyJ4 k) := by decide +kernel
abbrev cJ4_indexOf : ByteArray := prog_42_method_79_code
def yJ4_indexOf : MethodName := ⟨RJ4, "indexOf", "(I)I"⟩
def dkwJ4_indexOf_0 : List UInt8 := [42, 27, 3, 182, 2, 121, 172]
abbrev dktJ4_indexOf_0 : List UInt8 := dkwJ4_indexOf_0 ++ []
theorem dksJ4_indexOf_0 : cJ4_indexOf.data.toList.drop 0 = dktJ4_indexOf_0 := by decide +kernel
theorem dJ4_indexOf_0 : decode cJ4_indexOf 0 = .ok (.aload_n 0, 1) := dk_42 (dk_at dksJ4_indexOf_0 0 rfl rfl)
theorem dJ4_indexOf_1 : decode cJ4_indexOf 1 = .ok (.iload_n 1, 1) := dk_27 (dk_at dksJ4_indexOf_0 1 rfl rfl)
theorem dJ4_indexOf_2 : decode cJ4_indexOf 2 = .ok (.iconst 0, 1) := dk_3 (dk_at dksJ4_indexOf_0 2 rfl rfl)
theorem dJ4_indexOf_3 : decode cJ4_indexOf 3 = .ok (.invokevirtual 633, 3) := dk_182 2 121 (dk_at dksJ4_indexOf_0 3 rfl rfl)
theorem dJ4_indexOf_6 : decode cJ4_indexOf 6 = .ok (.ireturn, 1) := dk_172 (dk_at dksJ4_indexOf_0 6 rfl rfl)
abbrev cJ4_indexOf_2 : ByteArray := prog_42_method_80_code
def yJ4_indexOf_2 : MethodName := ⟨RJ4, "indexOf", "(II)I"⟩
def dkwJ4_indexOf_2_1 : List UInt8 := [180, 0, 9, 27, 28, 42, 182, 1, 249, 184, 2, 128, 172]
abbrev dktJ4_indexOf_2_1 : List UInt8 := dkwJ4_indexOf_2_1 ++ []
def dkwJ4_indexOf_2_0 : List UInt8 := [42, 182, 1, 236, 153, 0, 19, 42, 180, 0, 9, 27, 28, 42, 182, 1, 249, 184, 2, 125, 167, 0, 16, 42]
abbrev dktJ4_indexOf_2_0 : List UInt8 := dkwJ4_indexOf_2_0 ++ dktJ4_indexOf_2_1
theorem dksJ4_indexOf_2_0 : cJ4_indexOf_2.data.toList.drop 0 = dktJ4_indexOf_2_0 := by decide +kernel
theorem dksJ4_indexOf_2_1 : cJ4_indexOf_2.data.toList.drop 24 = dktJ4_indexOf_2_1 := dk_seg dksJ4_indexOf_2_0 24 rfl rfl
theorem dJ4_indexOf_2_0 : decode cJ4_indexOf_2 0 = .ok (.aload_n 0, 1) := dk_42 (dk_at dksJ4_indexOf_2_0 0 rfl rfl)
theorem dJ4_indexOf_2_1 : decode cJ4_indexOf_2 1 = .ok (.invokevirtual 492, 3) := dk_182 1 236 (dk_at dksJ4_indexOf_2_0 1 rfl rfl)
theorem dJ4_indexOf_2_4 : decode cJ4_indexOf_2 4 = .ok (.ifCond .eq 19, 3) := dk_153 0 19 (dk_at dksJ4_indexOf_2_0 4 rfl rfl)
theorem dJ4_indexOf_2_7 : decode cJ4_indexOf_2 7 = .ok (.aload_n 0, 1) := dk_42 (dk_at dksJ4_indexOf_2_0 7 rfl rfl)
theorem dJ4_indexOf_2_8 : decode cJ4_indexOf_2 8 = .ok (.getfield 9, 3) := dk_180 0 9 (dk_at dksJ4_indexOf_2_0 8 rfl rfl)
theorem dJ4_indexOf_2_11 : decode cJ4_indexOf_2 11 = .ok (.iload_n 1, 1) := dk_27 (dk_at dksJ4_indexOf_2_0 11 rfl rfl)
theorem dJ4_indexOf_2_12 : decode cJ4_indexOf_2 12 = .ok (.iload_n 2, 1) := dk_28 (dk_at dksJ4_indexOf_2_0 12 rfl rfl)
theorem dJ4_indexOf_2_13 : decode cJ4_indexOf_2 13 = .ok (.aload_n 0, 1) := dk_42 (dk_at dksJ4_indexOf_2_0 13 rfl rfl)
theorem dJ4_indexOf_2_14 : decode cJ4_indexOf_2 14 = .ok (.invokevirtual 505, 3) := dk_182 1 249 (dk_at dksJ4_indexOf_2_0 14 rfl rfl)
theorem dJ4_indexOf_2_17 : decode cJ4_indexOf_2 17 = .ok (.invokestatic 637, 3) := dk_184 2 125 (dk_at dksJ4_indexOf_2_0 17 rfl rfl)
theorem dJ4_indexOf_2_20 : decode cJ4_indexOf_2 20 = .ok (.goto 16, 3) := dk_167 0 16 (dk_at dksJ4_indexOf_2_0 20 rfl rfl)
theorem dJ4_indexOf_2_23 : decode cJ4_indexOf_2 23 = .ok (.aload_n 0, 1) := dk_42 (dk_at dksJ4_indexOf_2_0 23 rfl rfl)
theorem dJ4_indexOf_2_24 : decode cJ4_indexOf_2 24 = .ok (.getfield 9, 3) := dk_180 0 9 (dk_at dksJ4_indexOf_2_1 0 rfl rfl)
theorem dJ4_indexOf_2_27 : decode cJ4_indexOf_2 27 = .ok (.iload_n 1, 1) := dk_27 (dk_at dksJ4_indexOf_2_1 3 rfl rfl)
theorem dJ4_indexOf_2_28 : decode cJ4_indexOf_2 28 = .ok (.iload_n 2, 1) := dk_28 (dk_at dksJ4_indexOf_2_1 4 rfl rfl)
theorem dJ4_indexOf_2_29 : decode cJ4_indexOf_2 29 = .ok (.aload_n 0, 1) := dk_42 (dk_at dksJ4_indexOf_2_1 5 rfl rfl)
theorem dJ4_indexOf_2_30 : decode cJ4_indexOf_2 30 = .ok (.invokevirtual 505, 3) := dk_182 1 249 (dk_at dksJ4_indexOf_2_1 6 rfl rfl)
theorem dJ4_indexOf_2_33 : decode cJ4_indexOf_2 33 = .ok (.invokestatic 640, 3) := dk_184 2 128 (dk_at dksJ4_indexOf_2_1 9 rfl rfl)
theorem dJ4_indexOf_2_36 : decode cJ4_indexOf_2 36 = .ok (.ireturn, 1) := dk_172 (dk_at dksJ4_indexOf_2_1 12 rfl rfl)
abbrev cJ4_isLatin1 : ByteArray := prog_42_method_154_code
def yJ4_isLatin1 : MethodName := ⟨RJ4, "isLatin1", "()Z"⟩
def dkwJ4_isLatin1_0 : List UInt8 := [178, 0, 38, 153, 0, 14, 42, 180, 0, 15, 154, 0, 7, 4, 167, 0, 4, 3, 172]
abbrev dktJ4_isLatin1_0 : List UInt8 := dkwJ4_isLatin1_0 ++ []
theorem dksJ4_isLatin1_0 : cJ4_isLatin1.data.toList.drop 0 = dktJ4_isLatin1_0 := by decide +kernel
theorem dJ4_isLatin1_0 : decode cJ4_isLatin1 0 = .ok (.getstatic 38, 3) := dk_178 0 38 (dk_at dksJ4_isLatin1_0 0 rfl rfl)
theorem dJ4_isLatin1_3 : decode cJ4_isLatin1 3 = .ok (.ifCond .eq 14, 3) := dk_153 0 14 (dk_at dksJ4_isLatin1_0 3 rfl rfl)
theorem dJ4_isLatin1_6 : decode cJ4_isLatin1 6 = .ok (.aload_n 0, 1) := dk_42 (dk_at dksJ4_isLatin1_0 6 rfl rfl)
theorem dJ4_isLatin1_7 : decode cJ4_isLatin1 7 = .ok (.getfield 15, 3) := dk_180 0 15 (dk_at dksJ4_isLatin1_0 7 rfl rfl)
theorem dJ4_isLatin1_10 : decode cJ4_isLatin1 10 = .ok (.ifCond .ne 7, 3) := dk_154 0 7 (dk_at dksJ4_isLatin1_0 10 rfl rfl)
theorem dJ4_isLatin1_13 : decode cJ4_isLatin1 13 = .ok (.iconst 1, 1) := dk_4 (dk_at dksJ4_isLatin1_0 13 rfl rfl)
theorem dJ4_isLatin1_14 : decode cJ4_isLatin1 14 = .ok (.goto 4, 3) := dk_167 0 4 (dk_at dksJ4_isLatin1_0 14 rfl rfl)
theorem dJ4_isLatin1_17 : decode cJ4_isLatin1 17 = .ok (.iconst 0, 1) := dk_3 (dk_at dksJ4_isLatin1_0 17 rfl rfl)
theorem dJ4_isLatin1_18 : decode cJ4_isLatin1 18 = .ok (.ireturn, 1) := dk_172 (dk_at dksJ4_isLatin1_0 18 rfl rfl)
abbrev cJ4_length : ByteArray := prog_42_method_54_code
def yJ4_length : MethodName := ⟨RJ4, "length", "()I"⟩
def dkwJ4_length_0 : List UInt8 := [42, 180, 0, 9, 190, 42, 182, 1, 79, 122, 172]
abbrev dktJ4_length_0 : List UInt8 := dkwJ4_length_0 ++ []
theorem dksJ4_length_0 : cJ4_length.data.toList.drop 0 = dktJ4_length_0 := by decide +kernel
theorem dJ4_length_0 : decode cJ4_length 0 = .ok (.aload_n 0, 1) := dk_42 (dk_at dksJ4_length_0 0 rfl rfl)
theorem dJ4_length_1 : decode cJ4_length 1 = .ok (.getfield 9, 3) := dk_180 0 9 (dk_at dksJ4_length_0 1 rfl rfl)
theorem dJ4_length_4 : decode cJ4_length 4 = .ok (.arraylength, 1) := dk_190 (dk_at dksJ4_length_0 4 rfl rfl)
theorem dJ4_length_5 : decode cJ4_length 5 = .ok (.aload_n 0, 1) := dk_42 (dk_at dksJ4_length_0 5 rfl rfl)
theorem dJ4_length_6 : decode cJ4_length 6 = .ok (.invokevirtual 335, 3) := dk_182 1 79 (dk_at dksJ4_length_0 6 rfl rfl)
theorem dJ4_length_9 : decode cJ4_length 9 = .ok (.ishr, 1) := dk_122 (dk_at dksJ4_length_0 9 rfl rfl)
theorem dJ4_length_10 : decode cJ4_length 10 = .ok (.ireturn, 1) := dk_172 (dk_at dksJ4_length_0 10 rfl rfl)
abbrev cJ4_coder : ByteArray := prog_42_method_152_code
def yJ4_coder : MethodName := ⟨RJ4, "coder", "()B"⟩
def dkwJ4_coder_0 : List UInt8 := [178, 0, 38, 153, 0, 10, 42, 180, 0, 15, 167, 0, 4, 4, 172]
abbrev dktJ4_coder_0 : List UInt8 := dkwJ4_coder_0 ++ []
theorem dksJ4_coder_0 : cJ4_coder.data.toList.drop 0 = dktJ4_coder_0 := by decide +kernel
theorem dJ4_coder_0 : decode cJ4_coder 0 = .ok (.getstatic 38, 3) := dk_178 0 38 (dk_at dksJ4_coder_0 0 rfl rfl)
theorem dJ4_coder_3 : decode cJ4_coder 3 = .ok (.ifCond .eq 10, 3) := dk_153 0 10 (dk_at dksJ4_coder_0 3 rfl rfl)
theorem dJ4_coder_6 : decode cJ4_coder 6 = .ok (.aload_n 0, 1) := dk_42 (dk_at dksJ4_coder_0 6 rfl rfl)
theorem dJ4_coder_7 : decode cJ4_coder 7 = .ok (.getfield 15, 3) := dk_180 0 15 (dk_at dksJ4_coder_0 7 rfl rfl)
theorem dJ4_coder_10 : decode cJ4_coder 10 = .ok (.goto 4, 3) := dk_167 0 4 (dk_at dksJ4_coder_0 10 rfl rfl)
theorem dJ4_coder_13 : decode cJ4_coder 13 = .ok (.iconst 1, 1) := dk_4 (dk_at dksJ4_coder_0 13 rfl rfl)
theorem dJ4_coder_14 : decode cJ4_coder 14 = .ok (.ireturn, 1) := dk_172 (dk_at dksJ4_coder_0 14 rfl rfl)
abbrev cJ4_checkBoundsBeginEnd : ByteArray := prog_42_method_158_code
def yJ4_checkBoundsBeginEnd : MethodName := ⟨RJ4, "checkBoundsBeginEnd", "(III)V"⟩
def dkwJ4_checkBoundsBeginEnd_0 : List UInt8 := [26, 27, 28, 178, 4, 29, 184, 4, 38, 87, 177]
abbrev dktJ4_checkBoundsBeginEnd_0 : List UInt8 := dkwJ4_checkBoundsBeginEnd_0 ++ []
theorem dksJ4_checkBoundsBeginEnd_0 : cJ4_checkBoundsBeginEnd.data.toList.drop 0 = dktJ4_checkBoundsBeginEnd_0 := by decide +kernel
theorem dJ4_checkBoundsBeginEnd_0 : decode cJ4_checkBoundsBeginEnd 0 = .ok (.iload_n 0, 1) := dk_26 (dk_at dksJ4_checkBoundsBeginEnd_0 0 rfl rfl)
theorem dJ4_checkBoundsBeginEnd_1 : decode cJ4_checkBoundsBeginEnd 1 = .ok (.iload_n 1, 1) := dk_27 (dk_at dksJ4_checkBoundsBeginEnd_0 1 rfl rfl)
theorem dJ4_checkBoundsBeginEnd_2 : decode cJ4_checkBoundsBeginEnd 2 = .ok (.iload_n 2, 1) := dk_28 (dk_at dksJ4_checkBoundsBeginEnd_0 2 rfl rfl)
theorem dJ4_checkBoundsBeginEnd_3 : decode cJ4_checkBoundsBeginEnd 3 = .ok (.getstatic 1053, 3) := dk_178 4 29 (dk_at dksJ4_checkBoundsBeginEnd_0 3 rfl rfl)
theorem dJ4_checkBoundsBeginEnd_6 : decode cJ4_checkBoundsBeginEnd 6 = .ok (.invokestatic 1062, 3) := dk_184 4 38 (dk_at dksJ4_checkBoundsBeginEnd_0 6 rfl rfl)
theorem dJ4_checkBoundsBeginEnd_9 : decode cJ4_checkBoundsBeginEnd 9 = .ok (.pop, 1) := dk_87 (dk_at dksJ4_checkBoundsBeginEnd_0 9 rfl rfl)
theorem dJ4_checkBoundsBeginEnd_10 : decode cJ4_checkBoundsBeginEnd 10 = .ok (.return_, 1) := dk_177 (dk_at dksJ4_checkBoundsBeginEnd_0 10 rfl rfl)
theorem q100 : (Jvm.Cond.initialized "java/lang/String") ∈ lw_all := lw_g (lw_at lw_m1 9 rfl) rfl
theorem q415 : (Jvm.Cond.instantiable "java/lang/String" (4 : Nat)) ∈ lw_all := lw_g (lw_at lw_m2 84 rfl) rfl
theorem q416 : (Jvm.Cond.laysFinal "java/lang/String" "java/lang/String" "value" "[B") ∈ lw_all := lw_g (lw_at lw_m2 85 rfl) rfl
theorem q417 : (Jvm.Cond.soleField "java/lang/String" "value") ∈ lw_all := lw_g (lw_at lw_m2 86 rfl) rfl
theorem q418 : (Jvm.Cond.laysFinal "java/lang/String" "java/lang/String" "coder" "B") ∈ lw_all := lw_g (lw_at lw_m2 87 rfl) rfl
theorem q419 : (Jvm.Cond.soleField "java/lang/String" "coder") ∈ lw_all := lw_g (lw_at lw_m2 88 rfl) rfl
theorem q631 : (Jvm.Cond.instanceMethod ({ cls := "java/lang/String", name := "indexOf", desc := "(I)I" } : Jvm.MethodName)) ∈ lw_all := lw_g (lw_at lw_m3 60 rfl) rfl
theorem q632 : (Jvm.Cond.selects "java/lang/String" ({ cls := "java/lang/String", name := "indexOf", desc := "(I)I" } : Jvm.MethodName) ({ cls := "java/lang/String", name := "indexOf", desc := "(I)I" } : Jvm.MethodName)) ∈ lw_all := lw_g (lw_at lw_m3 61 rfl) rfl
theorem q633 : (Jvm.Cond.code ({ cls := "java/lang/String", name := "indexOf", desc := "(I)I" } : Jvm.MethodName) prog_42_method_79_code (2 : Nat) (Option.some Jvm.ClassFile.FieldType.int)) ∈ lw_all := lw_g (lw_at lw_m3 62 rfl) rfl
theorem q634 : (Jvm.Cond.methodLink "java/lang/String" (633 : Nat) ({ cls := "java/lang/String", name := "indexOf", desc := "(II)I" } : Jvm.MethodName)) ∈ lw_all := lw_g (lw_at lw_m3 63 rfl) rfl
theorem q635 : (Jvm.Cond.instanceMethod ({ cls := "java/lang/String", name := "indexOf", desc := "(II)I" } : Jvm.MethodName)) ∈ lw_all := lw_g (lw_at lw_m3 64 rfl) rfl
theorem q636 : (Jvm.Cond.selects "java/lang/String" ({ cls := "java/lang/String", name := "indexOf", desc := "(II)I" } : Jvm.MethodName) ({ cls := "java/lang/String", name := "indexOf", desc := "(II)I" } : Jvm.MethodName)) ∈ lw_all := lw_g (lw_at lw_m3 65 rfl) rfl
theorem q637 : (Jvm.Cond.code ({ cls := "java/lang/String", name := "indexOf", desc := "(II)I" } : Jvm.MethodName) prog_42_method_80_code (3 : Nat) (Option.some Jvm.ClassFile.FieldType.int)) ∈ lw_all := lw_g (lw_at lw_m3 66 rfl) rfl
theorem q638 : (Jvm.Cond.methodLink "java/lang/String" (492 : Nat) ({ cls := "java/lang/String", name := "isLatin1", desc := "()Z" } : Jvm.MethodName)) ∈ lw_all := lw_g (lw_at lw_m3 67 rfl) rfl
theorem q639 : (Jvm.Cond.instanceMethod ({ cls := "java/lang/String", name := "isLatin1", desc := "()Z" } : Jvm.MethodName)) ∈ lw_all := lw_g (lw_at lw_m3 68 rfl) rfl
theorem q640 : (Jvm.Cond.selects "java/lang/String" ({ cls := "java/lang/String", name := "isLatin1", desc := "()Z" } : Jvm.MethodName) ({ cls := "java/lang/String", name := "isLatin1", desc := "()Z" } : Jvm.MethodName)) ∈ lw_all := lw_g (lw_at lw_m3 69 rfl) rfl
theorem q641 : (Jvm.Cond.code ({ cls := "java/lang/String", name := "isLatin1", desc := "()Z" } : Jvm.MethodName) prog_42_method_154_code (1 : Nat) (Option.some Jvm.ClassFile.FieldType.boolean)) ∈ lw_all := lw_g (lw_at lw_m3 70 rfl) rfl
theorem q642 : (Jvm.Cond.fieldLink "java/lang/String" (38 : Nat) "java/lang/String" "COMPACT_STRINGS" "Z") ∈ lw_all := lw_g (lw_at lw_m3 71 rfl) rfl
theorem q643 : (Jvm.Cond.laysStatic "java/lang/String" "COMPACT_STRINGS" "Z") ∈ lw_tbl := lw_at lw_m3 72 rfl
theorem q644 : (Jvm.Cond.methodLink "java/lang/String" (505 : Nat) ({ cls := "java/lang/String", name := "length", desc := "()I" } : Jvm.MethodName)) ∈ lw_all := lw_g (lw_at lw_m3 73 rfl) rfl
theorem q645 : (Jvm.Cond.instanceMethod ({ cls := "java/lang/String", name := "length", desc := "()I" } : Jvm.MethodName)) ∈ lw_all := lw_g (lw_at lw_m3 74 rfl) rfl
theorem q646 : (Jvm.Cond.selects "java/lang/String" ({ cls := "java/lang/String", name := "length", desc := "()I" } : Jvm.MethodName) ({ cls := "java/lang/String", name := "length", desc := "()I" } : Jvm.MethodName)) ∈ lw_all := lw_g (lw_at lw_m3 75 rfl) rfl
theorem q647 : (Jvm.Cond.code ({ cls := "java/lang/String", name := "length", desc := "()I" } : Jvm.MethodName) prog_42_method_54_code (1 : Nat) (Option.some Jvm.ClassFile.FieldType.int)) ∈ lw_all := lw_g (lw_at lw_m3 76 rfl) rfl
theorem q648 : (Jvm.Cond.methodLink "java/lang/String" (335 : Nat) ({ cls := "java/lang/String", name := "coder", desc := "()B" } : Jvm.MethodName)) ∈ lw_all := lw_g (lw_at lw_m3 77 rfl) rfl
theorem q649 : (Jvm.Cond.instanceMethod ({ cls := "java/lang/String", name := "coder", desc := "()B" } : Jvm.MethodName)) ∈ lw_all := lw_g (lw_at lw_m3 78 rfl) rfl
theorem q650 : (Jvm.Cond.selects "java/lang/String" ({ cls := "java/lang/String", name := "coder", desc := "()B" } : Jvm.MethodName) ({ cls := "java/lang/String", name := "coder", desc := "()B" } : Jvm.MethodName)) ∈ lw_all := lw_g (lw_at lw_m3 79 rfl) rfl
theorem q651 : (Jvm.Cond.code ({ cls := "java/lang/String", name := "coder", desc := "()B" } : Jvm.MethodName) prog_42_method_152_code (1 : Nat) (Option.some Jvm.ClassFile.FieldType.byte)) ∈ lw_all := lw_g (lw_at lw_m3 80 rfl) rfl
theorem q652 : (Jvm.Cond.methodLink "java/lang/String" (637 : Nat) ({ cls := "java/lang/StringLatin1", name := "indexOf", desc := "([BIII)I" } : Jvm.MethodName)) ∈ lw_all := lw_g (lw_at lw_m3 81 rfl) rfl
theorem q667 : (Jvm.Cond.methodLink "java/lang/String" (640 : Nat) ({ cls := "java/lang/StringUTF16", name := "indexOf", desc := "([BIII)I" } : Jvm.MethodName)) ∈ lw_all := lw_g (lw_at lw_m3 96 rfl) rfl
theorem q683 : (Jvm.Cond.static ({ cls := "java/lang/String", name := "checkBoundsBeginEnd", desc := "(III)V" } : Jvm.MethodName)) ∈ lw_all := lw_g (lw_at lw_m3 112 rfl) rfl
theorem q684 : (Jvm.Cond.code ({ cls := "java/lang/String", name := "checkBoundsBeginEnd", desc := "(III)V" } : Jvm.MethodName) prog_42_method_158_code (3 : Nat) (Option.none : Option Jvm.ClassFile.FieldType)) ∈ lw_all := lw_g (lw_at lw_m3 113 rfl) rfl
theorem q685 : (Jvm.Cond.fieldLink "java/lang/String" (1053 : Nat) "jdk/internal/util/Preconditions" "SIOOBE_FORMATTER" "Ljava/util/function/BiFunction;") ∈ lw_all := lw_g (lw_at lw_m3 114 rfl) rfl
theorem q687 : (Jvm.Cond.methodLink "java/lang/String" (1062 : Nat) ({ cls := "jdk/internal/util/Preconditions", name := "checkFromToIndex", desc := "(IIILjava/util/function/BiFunction;)I" } : Jvm.MethodName)) ∈ lw_all := lw_g (lw_at lw_m3 116 rfl) rfl
theorem q2089 : (Jvm.Cond.fieldLink "java/lang/String" (15 : Nat) "java/lang/String" "coder" "B") ∈ lw_all := lw_g (lw_at lw_m9 78 rfl) rfl
theorem q2090 : (Jvm.Cond.fieldLink "java/lang/String" (9 : Nat) "java/lang/String" "value" "[B") ∈ lw_all := lw_g (lw_at lw_m9 79 rfl) rfl
theorem in_J4 : ∀ w ∈ wsJ40, w ∈ lw_all := lw_in wsJ40 [416, 418] (by decide +kernel) (by decide +kernel)
/-! java/lang/NullPointerException -/
set_option maxRecDepth 100000
def RJ5 : String := "java/lang/NullPointerException"
def TJ5 : u_T := fun k => match k with
  | 0 => ("java/lang/Throwable", "backtrace", "Ljava/lang/Object;", false)
  | 1 => ("java/lang/Throwable", "detailMessage", "Ljava/lang/String;", false)
  | 2 => ("java/lang/Throwable", "cause", "Ljava/lang/Throwable;", false)
  | 3 => ("java/lang/Throwable", "stackTrace", "[Ljava/lang/StackTraceElement;", false)
  | 4 => ("java/lang/Throwable", "depth", "I", false)
  | 5 => ("java/lang/Throwable", "suppressedExceptions", "Ljava/util/List;", false)
  | 6 => ("java/lang/NullPointerException", "extendedMessageState", "I", false)
  | _ => ("java/lang/NullPointerException", "extendedMessage", "Ljava/lang/String;", false)
def tyJ5 : Nat → FieldType := fun k => match k with
  | 0 => .object "java/lang/Object"
  | 1 => .object "java/lang/String"
  | 2 => .object "java/lang/Throwable"
  | 3 => .array (.object "java/lang/StackTraceElement")
  | 4 => .int
  | 5 => .object "java/util/List"
  | 6 => .int
  | _ => .object "java/lang/String"
abbrev wsJ50 : List Cond := u_ws RJ5 TJ5 8
theorem nmJ5 : ∀ a, a < 8 → ∀ b, b < 8 → a ≠ b → (TJ5 a).2.1 ≠ (TJ5 b).2.1 := by decide +kernel
theorem tyJ5_ok : ∀ k, k < 8 → parseFieldDescriptor (TJ5 k).2.2.1 = some (tyJ5 k) := by decide +kernel
abbrev cJ5_init : ByteArray := prog_40_method_1_code
def yJ5_init : MethodName := ⟨RJ5, "<init>", "()V"⟩
theorem dJ5_init_0 : decode cJ5_init 0 = .ok (.aload_n 0, 1) := by decide +kernel
theorem dJ5_init_1 : decode cJ5_init 1 = .ok (.invokespecial 1, 3) := by decide +kernel
theorem dJ5_init_4 : decode cJ5_init 4 = .ok (.return_, 1) := by decide +kernel
theorem q101 : (Jvm.Cond.initialized "java/lang/NullPointerException") ∈ lw_all := lw_g (lw_at lw_m1 10 rfl) rfl
theorem q360 : (Jvm.Cond.selects "java/lang/NullPointerException" ({ cls := "java/lang/Throwable", name := "fillInStackTrace", desc := "()Ljava/lang/Throwable;" } : Jvm.MethodName) ({ cls := "java/lang/NullPointerException", name := "fillInStackTrace", desc := "()Ljava/lang/Throwable;" } : Jvm.MethodName)) ∈ lw_all := lw_g (lw_at lw_m2 29 rfl) rfl
theorem q361 : (Jvm.Cond.instanceMethod ({ cls := "java/lang/NullPointerException", name := "fillInStackTrace", desc := "()Ljava/lang/Throwable;" } : Jvm.MethodName)) ∈ lw_all := lw_g (lw_at lw_m2 30 rfl) rfl
theorem q362 : (Jvm.Cond.codeSync ({ cls := "java/lang/NullPointerException", name := "fillInStackTrace", desc := "()Ljava/lang/Throwable;" } : Jvm.MethodName) prog_40_method_3_code (1 : Nat) (Option.some (Jvm.ClassFile.FieldType.object "java/lang/Throwable"))) ∈ lw_all := lw_g (lw_at lw_m2 31 rfl) rfl
theorem q363 : (Jvm.Cond.methodLink "java/lang/NullPointerException" (16 : Nat) ({ cls := "java/lang/NullPointerException", name := "getExtendedNPEMessage", desc := "()Ljava/lang/String;" } : Jvm.MethodName)) ∈ lw_all := lw_g (lw_at lw_m2 32 rfl) rfl
theorem q364 : (Jvm.Cond.privateMethod ({ cls := "java/lang/NullPointerException", name := "getExtendedNPEMessage", desc := "()Ljava/lang/String;" } : Jvm.MethodName)) ∈ lw_tbl := lw_at lw_m2 33 rfl
theorem q365 : (Jvm.Cond.instanceMethod ({ cls := "java/lang/NullPointerException", name := "getExtendedNPEMessage", desc := "()Ljava/lang/String;" } : Jvm.MethodName)) ∈ lw_all := lw_g (lw_at lw_m2 34 rfl) rfl
theorem q366 : (Jvm.Cond.instantiable "java/lang/NullPointerException" (8 : Nat)) ∈ lw_all := lw_g (lw_at lw_m2 35 rfl) rfl
theorem q367 : (Jvm.Cond.native ({ cls := "java/lang/NullPointerException", name := "getExtendedNPEMessage", desc := "()Ljava/lang/String;" } : Jvm.MethodName)) ∈ lw_all := lw_g (lw_at lw_m2 36 rfl) rfl
theorem q368 : (Jvm.Cond.methodLink "java/lang/NullPointerException" (24 : Nat) ({ cls := "java/lang/RuntimeException", name := "fillInStackTrace", desc := "()Ljava/lang/Throwable;" } : Jvm.MethodName)) ∈ lw_all := lw_g (lw_at lw_m2 37 rfl) rfl
theorem q371 : (Jvm.Cond.superclass "java/lang/NullPointerException" "java/lang/RuntimeException") ∈ lw_all := lw_g (lw_at lw_m2 40 rfl) rfl
theorem q421 : (Jvm.Cond.instanceMethod ({ cls := "java/lang/NullPointerException", name := "<init>", desc := "()V" } : Jvm.MethodName)) ∈ lw_all := lw_g (lw_at lw_m2 90 rfl) rfl
theorem q422 : (Jvm.Cond.code ({ cls := "java/lang/NullPointerException", name := "<init>", desc := "()V" } : Jvm.MethodName) prog_40_method_1_code (1 : Nat) (Option.none : Option Jvm.ClassFile.FieldType)) ∈ lw_all := lw_g (lw_at lw_m2 91 rfl) rfl
theorem q423 : (Jvm.Cond.methodLink "java/lang/NullPointerException" (1 : Nat) ({ cls := "java/lang/RuntimeException", name := "<init>", desc := "()V" } : Jvm.MethodName)) ∈ lw_all := lw_g (lw_at lw_m2 92 rfl) rfl
theorem q430 : (Jvm.Cond.fieldLink "java/lang/NullPointerException" (10 : Nat) "java/lang/NullPointerException" "extendedMessageState" "I") ∈ lw_all := lw_g (lw_at lw_m2 99 rfl) rfl
theorem q431 : (Jvm.Cond.fieldLink "java/lang/NullPointerException" (20 : Nat) "java/lang/NullPointerException" "extendedMessage" "Ljava/lang/String;") ∈ lw_all := lw_g (lw_at lw_m2 100 rfl) rfl
theorem q432 : (Jvm.Cond.lays "java/lang/NullPointerException" "java/lang/NullPointerException" "extendedMessageState" "I") ∈ lw_all := lw_g (lw_at lw_m2 101 rfl) rfl
theorem q433 : (Jvm.Cond.soleField "java/lang/NullPointerException" "extendedMessageState") ∈ lw_all := lw_g (lw_at lw_m2 102 rfl) rfl
theorem q434 : (Jvm.Cond.lays "java/lang/NullPointerException" "java/lang/NullPointerException" "extendedMessage" "Ljava/lang/String;") ∈ lw_all := lw_g (lw_at lw_m2 103 rfl) rfl
theorem q435 : (Jvm.Cond.soleField "java/lang/NullPointerException" "extendedMessage") ∈ lw_all := lw_g (lw_at lw_m2 104 rfl) rfl
theorem q436 : (Jvm.Cond.lays "java/lang/NullPointerException" "java/lang/Throwable" "backtrace" "Ljava/lang/Object;") ∈ lw_all := lw_g (lw_at lw_m2 105 rfl) rfl
theorem q437 : (Jvm.Cond.lays "java/lang/NullPointerException" "java/lang/Throwable" "detailMessage" "Ljava/lang/String;") ∈ lw_all := lw_g (lw_at lw_m2 106 rfl) rfl
theorem q438 : (Jvm.Cond.lays "java/lang/NullPointerException" "java/lang/Throwable" "cause" "Ljava/lang/Throwable;") ∈ lw_all := lw_g (lw_at lw_m2 107 rfl) rfl
theorem q439 : (Jvm.Cond.lays "java/lang/NullPointerException" "java/lang/Throwable" "stackTrace" "[Ljava/lang/StackTraceElement;") ∈ lw_all := lw_g (lw_at lw_m2 108 rfl) rfl
theorem q440 : (Jvm.Cond.lays "java/lang/NullPointerException" "java/lang/Throwable" "depth" "I") ∈ lw_all := lw_g (lw_at lw_m2 109 rfl) rfl
theorem q441 : (Jvm.Cond.lays "java/lang/NullPointerException" "java/lang/Throwable" "suppressedExceptions" "Ljava/util/List;") ∈ lw_all := lw_g (lw_at lw_m2 110 rfl) rfl
theorem q442 : (Jvm.Cond.castable "java/lang/NullPointerException" "java/lang/NullPointerException") ∈ lw_tbl := lw_at lw_m2 111 rfl
theorem q443 : (Jvm.Cond.selects "java/lang/NullPointerException" ({ cls := "java/lang/Throwable", name := "fillInStackTrace", desc := "(I)Ljava/lang/Throwable;" } : Jvm.MethodName) ({ cls := "java/lang/Throwable", name := "fillInStackTrace", desc := "(I)Ljava/lang/Throwable;" } : Jvm.MethodName)) ∈ lw_all := lw_g (lw_at lw_m2 112 rfl) rfl
theorem in_J5 : ∀ w ∈ wsJ50, w ∈ lw_all := lw_in wsJ50 [436, 437, 438, 439, 440, 441, 432, 434] (by decide +kernel) (by decide +kernel)
/-! java/lang/IndexOutOfBoundsException -/
set_option maxRecDepth 100000
def RJ6 : String := "java/lang/IndexOutOfBoundsException"
abbrev cJ6_init : ByteArray := prog_36_method_2_code
def yJ6_init : MethodName := ⟨RJ6, "<init>", "(Ljava/lang/String;)V"⟩
def dkwJ6_init_0 : List UInt8 := [42, 43, 183, 0, 7, 177]
abbrev dktJ6_init_0 : List UInt8 := dkwJ6_init_0 ++ []
theorem dksJ6_init_0 : cJ6_init.data.toList.drop 0 = dktJ6_init_0 := by decide +kernel
theorem dJ6_init_0 : decode cJ6_init 0 = .ok (.aload_n 0, 1) := dk_42 (dk_at dksJ6_init_0 0 rfl rfl)
theorem dJ6_init_1 : decode cJ6_init 1 = .ok (.aload_n 1, 1) := dk_43 (dk_at dksJ6_init_0 1 rfl rfl)
theorem dJ6_init_2 : decode cJ6_init 2 = .ok (.invokespecial 7, 3) := dk_183 0 7 (dk_at dksJ6_init_0 2 rfl rfl)
theorem dJ6_init_5 : decode cJ6_init 5 = .ok (.return_, 1) := dk_177 (dk_at dksJ6_init_0 5 rfl rfl)
theorem q102 : (Jvm.Cond.initialized "java/lang/IndexOutOfBoundsException") ∈ lw_all := lw_g (lw_at lw_m1 11 rfl) rfl
theorem q450 : (Jvm.Cond.instanceMethod ({ cls := "java/lang/IndexOutOfBoundsException", name := "<init>", desc := "(Ljava/lang/String;)V" } : Jvm.MethodName)) ∈ lw_all := lw_g (lw_at lw_m2 119 rfl) rfl
theorem q451 : (Jvm.Cond.code ({ cls := "java/lang/IndexOutOfBoundsException", name := "<init>", desc := "(Ljava/lang/String;)V" } : Jvm.MethodName) prog_36_method_2_code (2 : Nat) (Option.none : Option Jvm.ClassFile.FieldType)) ∈ lw_all := lw_g (lw_at lw_m2 120 rfl) rfl
theorem q452 : (Jvm.Cond.methodLink "java/lang/IndexOutOfBoundsException" (7 : Nat) ({ cls := "java/lang/RuntimeException", name := "<init>", desc := "(Ljava/lang/String;)V" } : Jvm.MethodName)) ∈ lw_all := lw_g (lw_at lw_m2 121 rfl) rfl
theorem q461 : (Jvm.Cond.declares ({ cls := "java/lang/IndexOutOfBoundsException", name := "<init>", desc := "()V" } : Jvm.MethodName)) ∈ lw_tbl := lw_at lw_m2 130 rfl
theorem q462 : (Jvm.Cond.declares ({ cls := "java/lang/IndexOutOfBoundsException", name := "<init>", desc := "(Ljava/lang/String;)V" } : Jvm.MethodName)) ∈ lw_tbl := lw_at lw_m2 131 rfl
/-! java/lang/ArrayIndexOutOfBoundsException -/
set_option maxRecDepth 100000
def RJ7 : String := "java/lang/ArrayIndexOutOfBoundsException"
def TJ7 : u_T := fun k => match k with
  | 0 => ("java/lang/Throwable", "backtrace", "Ljava/lang/Object;", false)
  | 1 => ("java/lang/Throwable", "detailMessage", "Ljava/lang/String;", false)
  | 2 => ("java/lang/Throwable", "cause", "Ljava/lang/Throwable;", false)
  | 3 => ("java/lang/Throwable", "stackTrace", "[Ljava/lang/StackTraceElement;", false)
  | 4 => ("java/lang/Throwable", "depth", "I", false)
  | _ => ("java/lang/Throwable", "suppressedExceptions", "Ljava/util/List;", false)
def tyJ7 : Nat → FieldType := fun k => match k with
  | 0 => .object "java/lang/Object"
  | 1 => .object "java/lang/String"
  | 2 => .object "java/lang/Throwable"
  | 3 => .array (.object "java/lang/StackTraceElement")
  | 4 => .int
  | _ => .object "java/util/List"
abbrev wsJ70 : List Cond := u_ws RJ7 TJ7 6
theorem nmJ7 : ∀ a, a < 6 → ∀ b, b < 6 → a ≠ b → (TJ7 a).2.1 ≠ (TJ7 b).2.1 := by decide +kernel
theorem tyJ7_ok : ∀ k, k < 6 → parseFieldDescriptor (TJ7 k).2.2.1 = some (tyJ7 k) := by decide +kernel
abbrev cJ7_init : ByteArray := prog_32_method_2_code
def yJ7_init : MethodName := ⟨RJ7, "<init>", "(Ljava/lang/String;)V"⟩
def dkwJ7_init_0 : List UInt8 := [42, 43, 183, 0, 7, 177]
abbrev dktJ7_init_0 : List UInt8 := dkwJ7_init_0 ++ []
theorem dksJ7_init_0 : cJ7_init.data.toList.drop 0 = dktJ7_init_0 := by decide +kernel
theorem dJ7_init_0 : decode cJ7_init 0 = .ok (.aload_n 0, 1) := dk_42 (dk_at dksJ7_init_0 0 rfl rfl)
theorem dJ7_init_1 : decode cJ7_init 1 = .ok (.aload_n 1, 1) := dk_43 (dk_at dksJ7_init_0 1 rfl rfl)
theorem dJ7_init_2 : decode cJ7_init 2 = .ok (.invokespecial 7, 3) := dk_183 0 7 (dk_at dksJ7_init_0 2 rfl rfl)
theorem dJ7_init_5 : decode cJ7_init 5 = .ok (.return_, 1) := dk_177 (dk_at dksJ7_init_0 5 rfl rfl)
theorem q103 : (Jvm.Cond.initialized "java/lang/ArrayIndexOutOfBoundsException") ∈ lw_all := lw_g (lw_at lw_m1 12 rfl) rfl
theorem q357 : (Jvm.Cond.selects "java/lang/ArrayIndexOutOfBoundsException" ({ cls := "java/lang/Throwable", name := "fillInStackTrace", desc := "()Ljava/lang/Throwable;" } : Jvm.MethodName) ({ cls := "java/lang/Throwable", name := "fillInStackTrace", desc := "()Ljava/lang/Throwable;" } : Jvm.MethodName)) ∈ lw_all := lw_g (lw_at lw_m2 26 rfl) rfl
theorem q446 : (Jvm.Cond.instantiable "java/lang/ArrayIndexOutOfBoundsException" (6 : Nat)) ∈ lw_all := lw_g (lw_at lw_m2 115 rfl) rfl
theorem q447 : (Jvm.Cond.instanceMethod ({ cls := "java/lang/ArrayIndexOutOfBoundsException", name := "<init>", desc := "(Ljava/lang/String;)V" } : Jvm.MethodName)) ∈ lw_all := lw_g (lw_at lw_m2 116 rfl) rfl
theorem q448 : (Jvm.Cond.code ({ cls := "java/lang/ArrayIndexOutOfBoundsException", name := "<init>", desc := "(Ljava/lang/String;)V" } : Jvm.MethodName) prog_32_method_2_code (2 : Nat) (Option.none : Option Jvm.ClassFile.FieldType)) ∈ lw_all := lw_g (lw_at lw_m2 117 rfl) rfl
theorem q449 : (Jvm.Cond.methodLink "java/lang/ArrayIndexOutOfBoundsException" (7 : Nat) ({ cls := "java/lang/IndexOutOfBoundsException", name := "<init>", desc := "(Ljava/lang/String;)V" } : Jvm.MethodName)) ∈ lw_all := lw_g (lw_at lw_m2 118 rfl) rfl
theorem q453 : (Jvm.Cond.lays "java/lang/ArrayIndexOutOfBoundsException" "java/lang/Throwable" "backtrace" "Ljava/lang/Object;") ∈ lw_all := lw_g (lw_at lw_m2 122 rfl) rfl
theorem q454 : (Jvm.Cond.lays "java/lang/ArrayIndexOutOfBoundsException" "java/lang/Throwable" "detailMessage" "Ljava/lang/String;") ∈ lw_all := lw_g (lw_at lw_m2 123 rfl) rfl
theorem q455 : (Jvm.Cond.lays "java/lang/ArrayIndexOutOfBoundsException" "java/lang/Throwable" "cause" "Ljava/lang/Throwable;") ∈ lw_all := lw_g (lw_at lw_m2 124 rfl) rfl
theorem q456 : (Jvm.Cond.lays "java/lang/ArrayIndexOutOfBoundsException" "java/lang/Throwable" "stackTrace" "[Ljava/lang/StackTraceElement;") ∈ lw_all := lw_g (lw_at lw_m2 125 rfl) rfl
theorem q457 : (Jvm.Cond.lays "java/lang/ArrayIndexOutOfBoundsException" "java/lang/Throwable" "depth" "I") ∈ lw_all := lw_g (lw_at lw_m2 126 rfl) rfl
theorem q458 : (Jvm.Cond.lays "java/lang/ArrayIndexOutOfBoundsException" "java/lang/Throwable" "suppressedExceptions" "Ljava/util/List;") ∈ lw_all := lw_g (lw_at lw_m2 127 rfl) rfl
theorem q459 : (Jvm.Cond.superclass "java/lang/ArrayIndexOutOfBoundsException" "java/lang/IndexOutOfBoundsException") ∈ lw_all := lw_g (lw_at lw_m2 128 rfl) rfl
theorem q460 : (Jvm.Cond.castable "java/lang/ArrayIndexOutOfBoundsException" "java/lang/ArrayIndexOutOfBoundsException") ∈ lw_tbl := lw_at lw_m2 129 rfl
theorem q463 : (Jvm.Cond.selects "java/lang/ArrayIndexOutOfBoundsException" ({ cls := "java/lang/Throwable", name := "fillInStackTrace", desc := "(I)Ljava/lang/Throwable;" } : Jvm.MethodName) ({ cls := "java/lang/Throwable", name := "fillInStackTrace", desc := "(I)Ljava/lang/Throwable;" } : Jvm.MethodName)) ∈ lw_all := lw_g (lw_at lw_m2 132 rfl) rfl
theorem q2063 : (Jvm.Cond.castable "java/lang/ArrayIndexOutOfBoundsException" "java/lang/IndexOutOfBoundsException") ∈ lw_tbl := lw_at lw_m9 52 rfl
theorem in_J7 : ∀ w ∈ wsJ70, w ∈ lw_all := lw_in wsJ70 [453, 454, 455, 456, 457, 458] (by decide +kernel) (by decide +kernel)
/-! java/lang/StringLatin1 -/
set_option maxRecDepth 100000
def RJ8 : String := "java/lang/StringLatin1"
abbrev cJ8_indexOf : ByteArray := prog_43_method_22_code
def yJ8_indexOf : MethodName := ⟨RJ8, "indexOf", "([BIII)I"⟩
def dkwJ8_indexOf_1 : List UInt8 := [161, 0, 5, 2, 172, 42, 27, 28, 29, 184, 0, 95, 172]
abbrev dktJ8_indexOf_1 : List UInt8 := dkwJ8_indexOf_1 ++ []
def dkwJ8_indexOf_0 : List UInt8 := [27, 184, 0, 88, 154, 0, 5, 2, 172, 28, 3, 184, 0, 92, 61, 29, 42, 190, 184, 0, 38, 62, 28, 29]
abbrev dktJ8_indexOf_0 : List UInt8 := dkwJ8_indexOf_0 ++ dktJ8_indexOf_1
theorem dksJ8_indexOf_0 : cJ8_indexOf.data.toList.drop 0 = dktJ8_indexOf_0 := by decide +kernel
theorem dksJ8_indexOf_1 : cJ8_indexOf.data.toList.drop 24 = dktJ8_indexOf_1 := dk_seg dksJ8_indexOf_0 24 rfl rfl
theorem dJ8_indexOf_0 : decode cJ8_indexOf 0 = .ok (.iload_n 1, 1) := dk_27 (dk_at dksJ8_indexOf_0 0 rfl rfl)
theorem dJ8_indexOf_1 : decode cJ8_indexOf 1 = .ok (.invokestatic 88, 3) := dk_184 0 88 (dk_at dksJ8_indexOf_0 1 rfl rfl)
theorem dJ8_indexOf_4 : decode cJ8_indexOf 4 = .ok (.ifCond .ne 5, 3) := dk_154 0 5 (dk_at dksJ8_indexOf_0 4 rfl rfl)
theorem dJ8_indexOf_7 : decode cJ8_indexOf 7 = .ok (.iconst (-1), 1) := dk_2 (dk_at dksJ8_indexOf_0 7 rfl rfl)
theorem dJ8_indexOf_8 : decode cJ8_indexOf 8 = .ok (.ireturn, 1) := dk_172 (dk_at dksJ8_indexOf_0 8 rfl rfl)
theorem dJ8_indexOf_9 : decode cJ8_indexOf 9 = .ok (.iload_n 2, 1) := dk_28 (dk_at dksJ8_indexOf_0 9 rfl rfl)
theorem dJ8_indexOf_10 : decode cJ8_indexOf 10 = .ok (.iconst 0, 1) := dk_3 (dk_at dksJ8_indexOf_0 10 rfl rfl)
theorem dJ8_indexOf_11 : decode cJ8_indexOf 11 = .ok (.invokestatic 92, 3) := dk_184 0 92 (dk_at dksJ8_indexOf_0 11 rfl rfl)
theorem dJ8_indexOf_14 : decode cJ8_indexOf 14 = .ok (.istore_n 2, 1) := dk_61 (dk_at dksJ8_indexOf_0 14 rfl rfl)
theorem dJ8_indexOf_15 : decode cJ8_indexOf 15 = .ok (.iload_n 3, 1) := dk_29 (dk_at dksJ8_indexOf_0 15 rfl rfl)
theorem dJ8_indexOf_16 : decode cJ8_indexOf 16 = .ok (.aload_n 0, 1) := dk_42 (dk_at dksJ8_indexOf_0 16 rfl rfl)
theorem dJ8_indexOf_17 : decode cJ8_indexOf 17 = .ok (.arraylength, 1) := dk_190 (dk_at dksJ8_indexOf_0 17 rfl rfl)
theorem dJ8_indexOf_18 : decode cJ8_indexOf 18 = .ok (.invokestatic 38, 3) := dk_184 0 38 (dk_at dksJ8_indexOf_0 18 rfl rfl)
theorem dJ8_indexOf_21 : decode cJ8_indexOf 21 = .ok (.istore_n 3, 1) := dk_62 (dk_at dksJ8_indexOf_0 21 rfl rfl)
theorem dJ8_indexOf_22 : decode cJ8_indexOf 22 = .ok (.iload_n 2, 1) := dk_28 (dk_at dksJ8_indexOf_0 22 rfl rfl)
theorem dJ8_indexOf_23 : decode cJ8_indexOf 23 = .ok (.iload_n 3, 1) := dk_29 (dk_at dksJ8_indexOf_0 23 rfl rfl)
theorem dJ8_indexOf_24 : decode cJ8_indexOf 24 = .ok (.if_icmp .lt 5, 3) := dk_161 0 5 (dk_at dksJ8_indexOf_1 0 rfl rfl)
theorem dJ8_indexOf_27 : decode cJ8_indexOf 27 = .ok (.iconst (-1), 1) := dk_2 (dk_at dksJ8_indexOf_1 3 rfl rfl)
theorem dJ8_indexOf_28 : decode cJ8_indexOf 28 = .ok (.ireturn, 1) := dk_172 (dk_at dksJ8_indexOf_1 4 rfl rfl)
theorem dJ8_indexOf_29 : decode cJ8_indexOf 29 = .ok (.aload_n 0, 1) := dk_42 (dk_at dksJ8_indexOf_1 5 rfl rfl)
theorem dJ8_indexOf_30 : decode cJ8_indexOf 30 = .ok (.iload_n 1, 1) := dk_27 (dk_at dksJ8_indexOf_1 6 rfl rfl)
theorem dJ8_indexOf_31 : decode cJ8_indexOf 31 = .ok (.iload_n 2, 1) := dk_28 (dk_at dksJ8_indexOf_1 7 rfl rfl)
theorem dJ8_indexOf_32 : decode cJ8_indexOf 32 = .ok (.iload_n 3, 1) := dk_29 (dk_at dksJ8_indexOf_1 8 rfl rfl)
theorem dJ8_indexOf_33 : decode cJ8_indexOf 33 = .ok (.invokestatic 95, 3) := dk_184 0 95 (dk_at dksJ8_indexOf_1 9 rfl rfl)
theorem dJ8_indexOf_36 : decode cJ8_indexOf 36 = .ok (.ireturn, 1) := dk_172 (dk_at dksJ8_indexOf_1 12 rfl rfl)
abbrev cJ8_canEncode : ByteArray := prog_43_method_4_code
def yJ8_canEncode : MethodName := ⟨RJ8, "canEncode", "(I)Z"⟩
def dkwJ8_canEncode_0 : List UInt8 := [26, 155, 0, 14, 26, 17, 0, 255, 163, 0, 7, 4, 167, 0, 4, 3, 172]
abbrev dktJ8_canEncode_0 : List UInt8 := dkwJ8_canEncode_0 ++ []
theorem dksJ8_canEncode_0 : cJ8_canEncode.data.toList.drop 0 = dktJ8_canEncode_0 := by decide +kernel
theorem dJ8_canEncode_0 : decode cJ8_canEncode 0 = .ok (.iload_n 0, 1) := dk_26 (dk_at dksJ8_canEncode_0 0 rfl rfl)
theorem dJ8_canEncode_1 : decode cJ8_canEncode 1 = .ok (.ifCond .lt 14, 3) := dk_155 0 14 (dk_at dksJ8_canEncode_0 1 rfl rfl)
theorem dJ8_canEncode_4 : decode cJ8_canEncode 4 = .ok (.iload_n 0, 1) := dk_26 (dk_at dksJ8_canEncode_0 4 rfl rfl)
theorem dJ8_canEncode_5 : decode cJ8_canEncode 5 = .ok (.sipush 255, 3) := dk_17 0 255 (dk_at dksJ8_canEncode_0 5 rfl rfl)
theorem dJ8_canEncode_8 : decode cJ8_canEncode 8 = .ok (.if_icmp .gt 7, 3) := dk_163 0 7 (dk_at dksJ8_canEncode_0 8 rfl rfl)
theorem dJ8_canEncode_11 : decode cJ8_canEncode 11 = .ok (.iconst 1, 1) := dk_4 (dk_at dksJ8_canEncode_0 11 rfl rfl)
theorem dJ8_canEncode_12 : decode cJ8_canEncode 12 = .ok (.goto 4, 3) := dk_167 0 4 (dk_at dksJ8_canEncode_0 12 rfl rfl)
theorem dJ8_canEncode_15 : decode cJ8_canEncode 15 = .ok (.iconst 0, 1) := dk_3 (dk_at dksJ8_canEncode_0 15 rfl rfl)
theorem dJ8_canEncode_16 : decode cJ8_canEncode 16 = .ok (.ireturn, 1) := dk_172 (dk_at dksJ8_canEncode_0 16 rfl rfl)
abbrev cJ8_indexOfChar : ByteArray := prog_43_method_23_code
def yJ8_indexOfChar : MethodName := ⟨RJ8, "indexOfChar", "([BIII)I"⟩
def dkwJ8_indexOfChar_1 : List UInt8 := [172, 132, 5, 1, 167, 255, 235, 2, 172]
abbrev dktJ8_indexOfChar_1 : List UInt8 := dkwJ8_indexOfChar_1 ++ []
def dkwJ8_indexOfChar_0 : List UInt8 := [27, 145, 54, 4, 28, 54, 5, 21, 5, 29, 162, 0, 21, 42, 21, 5, 51, 21, 4, 160, 0, 6, 21, 5]
abbrev dktJ8_indexOfChar_0 : List UInt8 := dkwJ8_indexOfChar_0 ++ dktJ8_indexOfChar_1
theorem dksJ8_indexOfChar_0 : cJ8_indexOfChar.data.toList.drop 0 = dktJ8_indexOfChar_0 := by decide +kernel
theorem dksJ8_indexOfChar_1 : cJ8_indexOfChar.data.toList.drop 24 = dktJ8_indexOfChar_1 := dk_seg dksJ8_indexOfChar_0 24 rfl rfl
theorem dJ8_indexOfChar_0 : decode cJ8_indexOfChar 0 = .ok (.iload_n 1, 1) := dk_27 (dk_at dksJ8_indexOfChar_0 0 rfl rfl)
theorem dJ8_indexOfChar_1 : decode cJ8_indexOfChar 1 = .ok (.i2b, 1) := dk_145 (dk_at dksJ8_indexOfChar_0 1 rfl rfl)
theorem dJ8_indexOfChar_2 : decode cJ8_indexOfChar 2 = .ok (.istore 4, 2) := dk_54 4 (dk_at dksJ8_indexOfChar_0 2 rfl rfl)
theorem dJ8_indexOfChar_4 : decode cJ8_indexOfChar 4 = .ok (.iload_n 2, 1) := dk_28 (dk_at dksJ8_indexOfChar_0 4 rfl rfl)
theorem dJ8_indexOfChar_5 : decode cJ8_indexOfChar 5 = .ok (.istore 5, 2) := dk_54 5 (dk_at dksJ8_indexOfChar_0 5 rfl rfl)
theorem dJ8_indexOfChar_7 : decode cJ8_indexOfChar 7 = .ok (.iload 5, 2) := dk_21 5 (dk_at dksJ8_indexOfChar_0 7 rfl rfl)
theorem dJ8_indexOfChar_9 : decode cJ8_indexOfChar 9 = .ok (.iload_n 3, 1) := dk_29 (dk_at dksJ8_indexOfChar_0 9 rfl rfl)
theorem dJ8_indexOfChar_10 : decode cJ8_indexOfChar 10 = .ok (.if_icmp .ge 21, 3) := dk_162 0 21 (dk_at dksJ8_indexOfChar_0 10 rfl rfl)
theorem dJ8_indexOfChar_13 : decode cJ8_indexOfChar 13 = .ok (.aload_n 0, 1) := dk_42 (dk_at dksJ8_indexOfChar_0 13 rfl rfl)
theorem dJ8_indexOfChar_14 : decode cJ8_indexOfChar 14 = .ok (.iload 5, 2) := dk_21 5 (dk_at dksJ8_indexOfChar_0 14 rfl rfl)
theorem dJ8_indexOfChar_16 : decode cJ8_indexOfChar 16 = .ok (.baload, 1) := dk_51 (dk_at dksJ8_indexOfChar_0 16 rfl rfl)
theorem dJ8_indexOfChar_17 : decode cJ8_indexOfChar 17 = .ok (.iload 4, 2) := dk_21 4 (dk_at dksJ8_indexOfChar_0 17 rfl rfl)
theorem dJ8_indexOfChar_19 : decode cJ8_indexOfChar 19 = .ok (.if_icmp .ne 6, 3) := dk_160 0 6 (dk_at dksJ8_indexOfChar_0 19 rfl rfl)
theorem dJ8_indexOfChar_22 : decode cJ8_indexOfChar 22 = .ok (.iload 5, 2) := dk_21 5 (dk_at dksJ8_indexOfChar_0 22 rfl rfl)
theorem dJ8_indexOfChar_24 : decode cJ8_indexOfChar 24 = .ok (.ireturn, 1) := dk_172 (dk_at dksJ8_indexOfChar_1 0 rfl rfl)
theorem dJ8_indexOfChar_25 : decode cJ8_indexOfChar 25 = .ok (.iinc 5 1, 3) := dk_132 5 1 (dk_at dksJ8_indexOfChar_1 1 rfl rfl)
theorem dJ8_indexOfChar_28 : decode cJ8_indexOfChar 28 = .ok (.goto (-21), 3) := dk_167 255 235 (dk_at dksJ8_indexOfChar_1 4 rfl rfl)
theorem dJ8_indexOfChar_31 : decode cJ8_indexOfChar 31 = .ok (.iconst (-1), 1) := dk_2 (dk_at dksJ8_indexOfChar_1 7 rfl rfl)
theorem dJ8_indexOfChar_32 : decode cJ8_indexOfChar 32 = .ok (.ireturn, 1) := dk_172 (dk_at dksJ8_indexOfChar_1 8 rfl rfl)
theorem q107 : (Jvm.Cond.initialized "java/lang/StringLatin1") ∈ lw_all := lw_g (lw_at lw_m1 16 rfl) rfl
theorem q653 : (Jvm.Cond.static ({ cls := "java/lang/StringLatin1", name := "indexOf", desc := "([BIII)I" } : Jvm.MethodName)) ∈ lw_all := lw_g (lw_at lw_m3 82 rfl) rfl
theorem q654 : (Jvm.Cond.code ({ cls := "java/lang/StringLatin1", name := "indexOf", desc := "([BIII)I" } : Jvm.MethodName) prog_43_method_22_code (4 : Nat) (Option.some Jvm.ClassFile.FieldType.int)) ∈ lw_all := lw_g (lw_at lw_m3 83 rfl) rfl
theorem q655 : (Jvm.Cond.methodLink "java/lang/StringLatin1" (88 : Nat) ({ cls := "java/lang/StringLatin1", name := "canEncode", desc := "(I)Z" } : Jvm.MethodName)) ∈ lw_all := lw_g (lw_at lw_m3 84 rfl) rfl
theorem q656 : (Jvm.Cond.static ({ cls := "java/lang/StringLatin1", name := "canEncode", desc := "(I)Z" } : Jvm.MethodName)) ∈ lw_all := lw_g (lw_at lw_m3 85 rfl) rfl
theorem q657 : (Jvm.Cond.code ({ cls := "java/lang/StringLatin1", name := "canEncode", desc := "(I)Z" } : Jvm.MethodName) prog_43_method_4_code (1 : Nat) (Option.some Jvm.ClassFile.FieldType.boolean)) ∈ lw_all := lw_g (lw_at lw_m3 86 rfl) rfl
theorem q658 : (Jvm.Cond.methodLink "java/lang/StringLatin1" (92 : Nat) ({ cls := "java/lang/Math", name := "max", desc := "(II)I" } : Jvm.MethodName)) ∈ lw_all := lw_g (lw_at lw_m3 87 rfl) rfl
theorem q661 : (Jvm.Cond.methodLink "java/lang/StringLatin1" (38 : Nat) ({ cls := "java/lang/Math", name := "min", desc := "(II)I" } : Jvm.MethodName)) ∈ lw_all := lw_g (lw_at lw_m3 90 rfl) rfl
theorem q664 : (Jvm.Cond.methodLink "java/lang/StringLatin1" (95 : Nat) ({ cls := "java/lang/StringLatin1", name := "indexOfChar", desc := "([BIII)I" } : Jvm.MethodName)) ∈ lw_all := lw_g (lw_at lw_m3 93 rfl) rfl
theorem q665 : (Jvm.Cond.static ({ cls := "java/lang/StringLatin1", name := "indexOfChar", desc := "([BIII)I" } : Jvm.MethodName)) ∈ lw_all := lw_g (lw_at lw_m3 94 rfl) rfl
theorem q666 : (Jvm.Cond.code ({ cls := "java/lang/StringLatin1", name := "indexOfChar", desc := "([BIII)I" } : Jvm.MethodName) prog_43_method_23_code (6 : Nat) (Option.some Jvm.ClassFile.FieldType.int)) ∈ lw_all := lw_g (lw_at lw_m3 95 rfl) rfl
/-! java/lang/Math -/
set_option maxRecDepth 100000
def RJ9 : String := "java/lang/Math"
abbrev cJ9_max : ByteArray := prog_38_method_65_code
def yJ9_max : MethodName := ⟨RJ9, "max", "(II)I"⟩
def dkwJ9_max_0 : List UInt8 := [26, 27, 161, 0, 7, 26, 167, 0, 4, 27, 172]
abbrev dktJ9_max_0 : List UInt8 := dkwJ9_max_0 ++ []
theorem dksJ9_max_0 : cJ9_max.data.toList.drop 0 = dktJ9_max_0 := by decide +kernel
theorem dJ9_max_0 : decode cJ9_max 0 = .ok (.iload_n 0, 1) := dk_26 (dk_at dksJ9_max_0 0 rfl rfl)
theorem dJ9_max_1 : decode cJ9_max 1 = .ok (.iload_n 1, 1) := dk_27 (dk_at dksJ9_max_0 1 rfl rfl)
theorem dJ9_max_2 : decode cJ9_max 2 = .ok (.if_icmp .lt 7, 3) := dk_161 0 7 (dk_at dksJ9_max_0 2 rfl rfl)
theorem dJ9_max_5 : decode cJ9_max 5 = .ok (.iload_n 0, 1) := dk_26 (dk_at dksJ9_max_0 5 rfl rfl)
theorem dJ9_max_6 : decode cJ9_max 6 = .ok (.goto 4, 3) := dk_167 0 4 (dk_at dksJ9_max_0 6 rfl rfl)
theorem dJ9_max_9 : decode cJ9_max 9 = .ok (.iload_n 1, 1) := dk_27 (dk_at dksJ9_max_0 9 rfl rfl)
theorem dJ9_max_10 : decode cJ9_max 10 = .ok (.ireturn, 1) := dk_172 (dk_at dksJ9_max_0 10 rfl rfl)
abbrev cJ9_min : ByteArray := prog_38_method_69_code
def yJ9_min : MethodName := ⟨RJ9, "min", "(II)I"⟩
def dkwJ9_min_0 : List UInt8 := [26, 27, 163, 0, 7, 26, 167, 0, 4, 27, 172]
abbrev dktJ9_min_0 : List UInt8 := dkwJ9_min_0 ++ []
theorem dksJ9_min_0 : cJ9_min.data.toList.drop 0 = dktJ9_min_0 := by decide +kernel
theorem dJ9_min_0 : decode cJ9_min 0 = .ok (.iload_n 0, 1) := dk_26 (dk_at dksJ9_min_0 0 rfl rfl)
theorem dJ9_min_1 : decode cJ9_min 1 = .ok (.iload_n 1, 1) := dk_27 (dk_at dksJ9_min_0 1 rfl rfl)
theorem dJ9_min_2 : decode cJ9_min 2 = .ok (.if_icmp .gt 7, 3) := dk_163 0 7 (dk_at dksJ9_min_0 2 rfl rfl)
theorem dJ9_min_5 : decode cJ9_min 5 = .ok (.iload_n 0, 1) := dk_26 (dk_at dksJ9_min_0 5 rfl rfl)
theorem dJ9_min_6 : decode cJ9_min 6 = .ok (.goto 4, 3) := dk_167 0 4 (dk_at dksJ9_min_0 6 rfl rfl)
theorem dJ9_min_9 : decode cJ9_min 9 = .ok (.iload_n 1, 1) := dk_27 (dk_at dksJ9_min_0 9 rfl rfl)
theorem dJ9_min_10 : decode cJ9_min 10 = .ok (.ireturn, 1) := dk_172 (dk_at dksJ9_min_0 10 rfl rfl)
abbrev cJ9_max_2 : ByteArray := prog_38_method_66_code
def yJ9_max_2 : MethodName := ⟨RJ9, "max", "(JJ)J"⟩
def dkwJ9_max_2_0 : List UInt8 := [30, 32, 148, 155, 0, 7, 30, 167, 0, 4, 32, 173]
abbrev dktJ9_max_2_0 : List UInt8 := dkwJ9_max_2_0 ++ []
theorem dksJ9_max_2_0 : cJ9_max_2.data.toList.drop 0 = dktJ9_max_2_0 := by decide +kernel
theorem dJ9_max_2_0 : decode cJ9_max_2 0 = .ok (.lload_n 0, 1) := dk_30 (dk_at dksJ9_max_2_0 0 rfl rfl)
theorem dJ9_max_2_1 : decode cJ9_max_2 1 = .ok (.lload_n 2, 1) := dk_32 (dk_at dksJ9_max_2_0 1 rfl rfl)
theorem dJ9_max_2_2 : decode cJ9_max_2 2 = .ok (.lcmp, 1) := dk_148 (dk_at dksJ9_max_2_0 2 rfl rfl)
theorem dJ9_max_2_3 : decode cJ9_max_2 3 = .ok (.ifCond .lt 7, 3) := dk_155 0 7 (dk_at dksJ9_max_2_0 3 rfl rfl)
theorem dJ9_max_2_6 : decode cJ9_max_2 6 = .ok (.lload_n 0, 1) := dk_30 (dk_at dksJ9_max_2_0 6 rfl rfl)
theorem dJ9_max_2_7 : decode cJ9_max_2 7 = .ok (.goto 4, 3) := dk_167 0 4 (dk_at dksJ9_max_2_0 7 rfl rfl)
theorem dJ9_max_2_10 : decode cJ9_max_2 10 = .ok (.lload_n 2, 1) := dk_32 (dk_at dksJ9_max_2_0 10 rfl rfl)
theorem dJ9_max_2_11 : decode cJ9_max_2 11 = .ok (.lreturn, 1) := dk_173 (dk_at dksJ9_max_2_0 11 rfl rfl)
abbrev cJ9_min_2 : ByteArray := prog_38_method_70_code
def yJ9_min_2 : MethodName := ⟨RJ9, "min", "(JJ)J"⟩
def dkwJ9_min_2_0 : List UInt8 := [30, 32, 148, 157, 0, 7, 30, 167, 0, 4, 32, 173]
abbrev dktJ9_min_2_0 : List UInt8 := dkwJ9_min_2_0 ++ []
theorem dksJ9_min_2_0 : cJ9_min_2.data.toList.drop 0 = dktJ9_min_2_0 := by decide +kernel
theorem dJ9_min_2_0 : decode cJ9_min_2 0 = .ok (.lload_n 0, 1) := dk_30 (dk_at dksJ9_min_2_0 0 rfl rfl)
theorem dJ9_min_2_1 : decode cJ9_min_2 1 = .ok (.lload_n 2, 1) := dk_32 (dk_at dksJ9_min_2_0 1 rfl rfl)
theorem dJ9_min_2_2 : decode cJ9_min_2 2 = .ok (.lcmp, 1) := dk_148 (dk_at dksJ9_min_2_0 2 rfl rfl)
theorem dJ9_min_2_3 : decode cJ9_min_2 3 = .ok (.ifCond .gt 7, 3) := dk_157 0 7 (dk_at dksJ9_min_2_0 3 rfl rfl)
theorem dJ9_min_2_6 : decode cJ9_min_2 6 = .ok (.lload_n 0, 1) := dk_30 (dk_at dksJ9_min_2_0 6 rfl rfl)
theorem dJ9_min_2_7 : decode cJ9_min_2 7 = .ok (.goto 4, 3) := dk_167 0 4 (dk_at dksJ9_min_2_0 7 rfl rfl)
theorem dJ9_min_2_10 : decode cJ9_min_2 10 = .ok (.lload_n 2, 1) := dk_32 (dk_at dksJ9_min_2_0 10 rfl rfl)
theorem dJ9_min_2_11 : decode cJ9_min_2 11 = .ok (.lreturn, 1) := dk_173 (dk_at dksJ9_min_2_0 11 rfl rfl)
abbrev cJ9_abs : ByteArray := prog_38_method_61_code
def yJ9_abs : MethodName := ⟨RJ9, "abs", "(J)J"⟩
def dkwJ9_abs_0 : List UInt8 := [30, 9, 148, 156, 0, 8, 30, 117, 167, 0, 4, 30, 173]
abbrev dktJ9_abs_0 : List UInt8 := dkwJ9_abs_0 ++ []
theorem dksJ9_abs_0 : cJ9_abs.data.toList.drop 0 = dktJ9_abs_0 := by decide +kernel
theorem dJ9_abs_0 : decode cJ9_abs 0 = .ok (.lload_n 0, 1) := dk_30 (dk_at dksJ9_abs_0 0 rfl rfl)
theorem dJ9_abs_1 : decode cJ9_abs 1 = .ok (.lconst 0, 1) := dk_9 (dk_at dksJ9_abs_0 1 rfl rfl)
theorem dJ9_abs_2 : decode cJ9_abs 2 = .ok (.lcmp, 1) := dk_148 (dk_at dksJ9_abs_0 2 rfl rfl)
theorem dJ9_abs_3 : decode cJ9_abs 3 = .ok (.ifCond .ge 8, 3) := dk_156 0 8 (dk_at dksJ9_abs_0 3 rfl rfl)
theorem dJ9_abs_6 : decode cJ9_abs 6 = .ok (.lload_n 0, 1) := dk_30 (dk_at dksJ9_abs_0 6 rfl rfl)
theorem dJ9_abs_7 : decode cJ9_abs 7 = .ok (.lneg, 1) := dk_117 (dk_at dksJ9_abs_0 7 rfl rfl)
theorem dJ9_abs_8 : decode cJ9_abs 8 = .ok (.goto 4, 3) := dk_167 0 4 (dk_at dksJ9_abs_0 8 rfl rfl)
theorem dJ9_abs_11 : decode cJ9_abs 11 = .ok (.lload_n 0, 1) := dk_30 (dk_at dksJ9_abs_0 11 rfl rfl)
theorem dJ9_abs_12 : decode cJ9_abs 12 = .ok (.lreturn, 1) := dk_173 (dk_at dksJ9_abs_0 12 rfl rfl)
theorem q108 : (Jvm.Cond.initialized "java/lang/Math") ∈ lw_all := lw_g (lw_at lw_m1 17 rfl) rfl
theorem q659 : (Jvm.Cond.static ({ cls := "java/lang/Math", name := "max", desc := "(II)I" } : Jvm.MethodName)) ∈ lw_all := lw_g (lw_at lw_m3 88 rfl) rfl
theorem q660 : (Jvm.Cond.code ({ cls := "java/lang/Math", name := "max", desc := "(II)I" } : Jvm.MethodName) prog_38_method_65_code (2 : Nat) (Option.some Jvm.ClassFile.FieldType.int)) ∈ lw_all := lw_g (lw_at lw_m3 89 rfl) rfl
theorem q662 : (Jvm.Cond.static ({ cls := "java/lang/Math", name := "min", desc := "(II)I" } : Jvm.MethodName)) ∈ lw_all := lw_g (lw_at lw_m3 91 rfl) rfl
theorem q663 : (Jvm.Cond.code ({ cls := "java/lang/Math", name := "min", desc := "(II)I" } : Jvm.MethodName) prog_38_method_69_code (2 : Nat) (Option.some Jvm.ClassFile.FieldType.int)) ∈ lw_all := lw_g (lw_at lw_m3 92 rfl) rfl
theorem q927 : (Jvm.Cond.static ({ cls := "java/lang/Math", name := "max", desc := "(JJ)J" } : Jvm.MethodName)) ∈ lw_all := lw_g (lw_at lw_m4 116 rfl) rfl
theorem q928 : (Jvm.Cond.code ({ cls := "java/lang/Math", name := "max", desc := "(JJ)J" } : Jvm.MethodName) prog_38_method_66_code (4 : Nat) (Option.some Jvm.ClassFile.FieldType.long)) ∈ lw_all := lw_g (lw_at lw_m4 117 rfl) rfl
theorem q930 : (Jvm.Cond.static ({ cls := "java/lang/Math", name := "min", desc := "(JJ)J" } : Jvm.MethodName)) ∈ lw_all := lw_g (lw_at lw_m4 119 rfl) rfl
theorem q931 : (Jvm.Cond.code ({ cls := "java/lang/Math", name := "min", desc := "(JJ)J" } : Jvm.MethodName) prog_38_method_70_code (4 : Nat) (Option.some Jvm.ClassFile.FieldType.long)) ∈ lw_all := lw_g (lw_at lw_m4 120 rfl) rfl
theorem q958 : (Jvm.Cond.static ({ cls := "java/lang/Math", name := "abs", desc := "(J)J" } : Jvm.MethodName)) ∈ lw_all := lw_g (lw_at lw_m4 147 rfl) rfl
theorem q959 : (Jvm.Cond.code ({ cls := "java/lang/Math", name := "abs", desc := "(J)J" } : Jvm.MethodName) prog_38_method_61_code (2 : Nat) (Option.some Jvm.ClassFile.FieldType.long)) ∈ lw_all := lw_g (lw_at lw_m4 148 rfl) rfl
/-! java/lang/StringUTF16 -/
set_option maxRecDepth 100000
def RJ10 : String := "java/lang/StringUTF16"
abbrev cJ10_indexOf : ByteArray := prog_44_method_40_code
def yJ10_indexOf : MethodName := ⟨RJ10, "indexOf", "([BIII)I"⟩
def dkwJ10_indexOf_1 : List UInt8 := [18, 227, 162, 0, 11, 42, 27, 28, 29, 184, 0, 228, 172, 42, 27, 28, 29, 184, 0, 232, 172]
abbrev dktJ10_indexOf_1 : List UInt8 := dkwJ10_indexOf_1 ++ []
def dkwJ10_indexOf_0 : List UInt8 := [28, 3, 184, 0, 224, 61, 29, 42, 190, 4, 122, 184, 0, 183, 62, 28, 29, 161, 0, 5, 2, 172, 27]
abbrev dktJ10_indexOf_0 : List UInt8 := dkwJ10_indexOf_0 ++ dktJ10_indexOf_1
theorem dksJ10_indexOf_0 : cJ10_indexOf.data.toList.drop 0 = dktJ10_indexOf_0 := by decide +kernel
theorem dksJ10_indexOf_1 : cJ10_indexOf.data.toList.drop 23 = dktJ10_indexOf_1 := dk_seg dksJ10_indexOf_0 23 rfl rfl
theorem dJ10_indexOf_0 : decode cJ10_indexOf 0 = .ok (.iload_n 2, 1) := dk_28 (dk_at dksJ10_indexOf_0 0 rfl rfl)
theorem dJ10_indexOf_1 : decode cJ10_indexOf 1 = .ok (.iconst 0, 1) := dk_3 (dk_at dksJ10_indexOf_0 1 rfl rfl)
theorem dJ10_indexOf_2 : decode cJ10_indexOf 2 = .ok (.invokestatic 224, 3) := dk_184 0 224 (dk_at dksJ10_indexOf_0 2 rfl rfl)
theorem dJ10_indexOf_5 : decode cJ10_indexOf 5 = .ok (.istore_n 2, 1) := dk_61 (dk_at dksJ10_indexOf_0 5 rfl rfl)
theorem dJ10_indexOf_6 : decode cJ10_indexOf 6 = .ok (.iload_n 3, 1) := dk_29 (dk_at dksJ10_indexOf_0 6 rfl rfl)
theorem dJ10_indexOf_7 : decode cJ10_indexOf 7 = .ok (.aload_n 0, 1) := dk_42 (dk_at dksJ10_indexOf_0 7 rfl rfl)
theorem dJ10_indexOf_8 : decode cJ10_indexOf 8 = .ok (.arraylength, 1) := dk_190 (dk_at dksJ10_indexOf_0 8 rfl rfl)
theorem dJ10_indexOf_9 : decode cJ10_indexOf 9 = .ok (.iconst 1, 1) := dk_4 (dk_at dksJ10_indexOf_0 9 rfl rfl)
theorem dJ10_indexOf_10 : decode cJ10_indexOf 10 = .ok (.ishr, 1) := dk_122 (dk_at dksJ10_indexOf_0 10 rfl rfl)
theorem dJ10_indexOf_11 : decode cJ10_indexOf 11 = .ok (.invokestatic 183, 3) := dk_184 0 183 (dk_at dksJ10_indexOf_0 11 rfl rfl)
theorem dJ10_indexOf_14 : decode cJ10_indexOf 14 = .ok (.istore_n 3, 1) := dk_62 (dk_at dksJ10_indexOf_0 14 rfl rfl)
theorem dJ10_indexOf_15 : decode cJ10_indexOf 15 = .ok (.iload_n 2, 1) := dk_28 (dk_at dksJ10_indexOf_0 15 rfl rfl)
theorem dJ10_indexOf_16 : decode cJ10_indexOf 16 = .ok (.iload_n 3, 1) := dk_29 (dk_at dksJ10_indexOf_0 16 rfl rfl)
theorem dJ10_indexOf_17 : decode cJ10_indexOf 17 = .ok (.if_icmp .lt 5, 3) := dk_161 0 5 (dk_at dksJ10_indexOf_0 17 rfl rfl)
theorem dJ10_indexOf_20 : decode cJ10_indexOf 20 = .ok (.iconst (-1), 1) := dk_2 (dk_at dksJ10_indexOf_0 20 rfl rfl)
theorem dJ10_indexOf_21 : decode cJ10_indexOf 21 = .ok (.ireturn, 1) := dk_172 (dk_at dksJ10_indexOf_0 21 rfl rfl)
theorem dJ10_indexOf_22 : decode cJ10_indexOf 22 = .ok (.iload_n 1, 1) := dk_27 (dk_at dksJ10_indexOf_0 22 rfl rfl)
theorem dJ10_indexOf_23 : decode cJ10_indexOf 23 = .ok (.ldc 227, 2) := dk_18 227 (dk_at dksJ10_indexOf_1 0 rfl rfl)
theorem dJ10_indexOf_25 : decode cJ10_indexOf 25 = .ok (.if_icmp .ge 11, 3) := dk_162 0 11 (dk_at dksJ10_indexOf_1 2 rfl rfl)
theorem dJ10_indexOf_28 : decode cJ10_indexOf 28 = .ok (.aload_n 0, 1) := dk_42 (dk_at dksJ10_indexOf_1 5 rfl rfl)
theorem dJ10_indexOf_29 : decode cJ10_indexOf 29 = .ok (.iload_n 1, 1) := dk_27 (dk_at dksJ10_indexOf_1 6 rfl rfl)
theorem dJ10_indexOf_30 : decode cJ10_indexOf 30 = .ok (.iload_n 2, 1) := dk_28 (dk_at dksJ10_indexOf_1 7 rfl rfl)
theorem dJ10_indexOf_31 : decode cJ10_indexOf 31 = .ok (.iload_n 3, 1) := dk_29 (dk_at dksJ10_indexOf_1 8 rfl rfl)
theorem dJ10_indexOf_32 : decode cJ10_indexOf 32 = .ok (.invokestatic 228, 3) := dk_184 0 228 (dk_at dksJ10_indexOf_1 9 rfl rfl)
theorem dJ10_indexOf_35 : decode cJ10_indexOf 35 = .ok (.ireturn, 1) := dk_172 (dk_at dksJ10_indexOf_1 12 rfl rfl)
theorem dJ10_indexOf_36 : decode cJ10_indexOf 36 = .ok (.aload_n 0, 1) := dk_42 (dk_at dksJ10_indexOf_1 13 rfl rfl)
theorem dJ10_indexOf_37 : decode cJ10_indexOf 37 = .ok (.iload_n 1, 1) := dk_27 (dk_at dksJ10_indexOf_1 14 rfl rfl)
theorem dJ10_indexOf_38 : decode cJ10_indexOf 38 = .ok (.iload_n 2, 1) := dk_28 (dk_at dksJ10_indexOf_1 15 rfl rfl)
theorem dJ10_indexOf_39 : decode cJ10_indexOf 39 = .ok (.iload_n 3, 1) := dk_29 (dk_at dksJ10_indexOf_1 16 rfl rfl)
theorem dJ10_indexOf_40 : decode cJ10_indexOf 40 = .ok (.invokestatic 232, 3) := dk_184 0 232 (dk_at dksJ10_indexOf_1 17 rfl rfl)
theorem dJ10_indexOf_43 : decode cJ10_indexOf 43 = .ok (.ireturn, 1) := dk_172 (dk_at dksJ10_indexOf_1 20 rfl rfl)
abbrev cJ10_indexOfChar : ByteArray := prog_44_method_47_code
def yJ10_indexOfChar : MethodName := ⟨RJ10, "indexOfChar", "([BIII)I"⟩
def dkwJ10_indexOfChar_0 : List UInt8 := [28, 29, 42, 184, 0, 96, 42, 27, 28, 29, 184, 0, 244, 172]
abbrev dktJ10_indexOfChar_0 : List UInt8 := dkwJ10_indexOfChar_0 ++ []
theorem dksJ10_indexOfChar_0 : cJ10_indexOfChar.data.toList.drop 0 = dktJ10_indexOfChar_0 := by decide +kernel
theorem dJ10_indexOfChar_0 : decode cJ10_indexOfChar 0 = .ok (.iload_n 2, 1) := dk_28 (dk_at dksJ10_indexOfChar_0 0 rfl rfl)
theorem dJ10_indexOfChar_1 : decode cJ10_indexOfChar 1 = .ok (.iload_n 3, 1) := dk_29 (dk_at dksJ10_indexOfChar_0 1 rfl rfl)
theorem dJ10_indexOfChar_2 : decode cJ10_indexOfChar 2 = .ok (.aload_n 0, 1) := dk_42 (dk_at dksJ10_indexOfChar_0 2 rfl rfl)
theorem dJ10_indexOfChar_3 : decode cJ10_indexOfChar 3 = .ok (.invokestatic 96, 3) := dk_184 0 96 (dk_at dksJ10_indexOfChar_0 3 rfl rfl)
theorem dJ10_indexOfChar_6 : decode cJ10_indexOfChar 6 = .ok (.aload_n 0, 1) := dk_42 (dk_at dksJ10_indexOfChar_0 6 rfl rfl)
theorem dJ10_indexOfChar_7 : decode cJ10_indexOfChar 7 = .ok (.iload_n 1, 1) := dk_27 (dk_at dksJ10_indexOfChar_0 7 rfl rfl)
theorem dJ10_indexOfChar_8 : decode cJ10_indexOfChar 8 = .ok (.iload_n 2, 1) := dk_28 (dk_at dksJ10_indexOfChar_0 8 rfl rfl)
theorem dJ10_indexOfChar_9 : decode cJ10_indexOfChar 9 = .ok (.iload_n 3, 1) := dk_29 (dk_at dksJ10_indexOfChar_0 9 rfl rfl)
theorem dJ10_indexOfChar_10 : decode cJ10_indexOfChar 10 = .ok (.invokestatic 244, 3) := dk_184 0 244 (dk_at dksJ10_indexOfChar_0 10 rfl rfl)
theorem dJ10_indexOfChar_13 : decode cJ10_indexOfChar 13 = .ok (.ireturn, 1) := dk_172 (dk_at dksJ10_indexOfChar_0 13 rfl rfl)
abbrev cJ10_checkBoundsBeginEnd : ByteArray := prog_44_method_93_code
def yJ10_checkBoundsBeginEnd : MethodName := ⟨RJ10, "checkBoundsBeginEnd", "(II[B)V"⟩
def dkwJ10_checkBoundsBeginEnd_0 : List UInt8 := [26, 27, 44, 184, 0, 48, 184, 0, 241, 177]
abbrev dktJ10_checkBoundsBeginEnd_0 : List UInt8 := dkwJ10_checkBoundsBeginEnd_0 ++ []
theorem dksJ10_checkBoundsBeginEnd_0 : cJ10_checkBoundsBeginEnd.data.toList.drop 0 = dktJ10_checkBoundsBeginEnd_0 := by decide +kernel
theorem dJ10_checkBoundsBeginEnd_0 : decode cJ10_checkBoundsBeginEnd 0 = .ok (.iload_n 0, 1) := dk_26 (dk_at dksJ10_checkBoundsBeginEnd_0 0 rfl rfl)
theorem dJ10_checkBoundsBeginEnd_1 : decode cJ10_checkBoundsBeginEnd 1 = .ok (.iload_n 1, 1) := dk_27 (dk_at dksJ10_checkBoundsBeginEnd_0 1 rfl rfl)
theorem dJ10_checkBoundsBeginEnd_2 : decode cJ10_checkBoundsBeginEnd 2 = .ok (.aload_n 2, 1) := dk_44 (dk_at dksJ10_checkBoundsBeginEnd_0 2 rfl rfl)
theorem dJ10_checkBoundsBeginEnd_3 : decode cJ10_checkBoundsBeginEnd 3 = .ok (.invokestatic 48, 3) := dk_184 0 48 (dk_at dksJ10_checkBoundsBeginEnd_0 3 rfl rfl)
theorem dJ10_checkBoundsBeginEnd_6 : decode cJ10_checkBoundsBeginEnd 6 = .ok (.invokestatic 241, 3) := dk_184 0 241 (dk_at dksJ10_checkBoundsBeginEnd_0 6 rfl rfl)
theorem dJ10_checkBoundsBeginEnd_9 : decode cJ10_checkBoundsBeginEnd 9 = .ok (.return_, 1) := dk_177 (dk_at dksJ10_checkBoundsBeginEnd_0 9 rfl rfl)
abbrev cJ10_length : ByteArray := prog_44_method_6_code
def yJ10_length : MethodName := ⟨RJ10, "length", "([B)I"⟩
def dkwJ10_length_0 : List UInt8 := [42, 190, 4, 122, 172]
abbrev dktJ10_length_0 : List UInt8 := dkwJ10_length_0 ++ []
theorem dksJ10_length_0 : cJ10_length.data.toList.drop 0 = dktJ10_length_0 := by decide +kernel
theorem dJ10_length_0 : decode cJ10_length 0 = .ok (.aload_n 0, 1) := dk_42 (dk_at dksJ10_length_0 0 rfl rfl)
theorem dJ10_length_1 : decode cJ10_length 1 = .ok (.arraylength, 1) := dk_190 (dk_at dksJ10_length_0 1 rfl rfl)
theorem dJ10_length_2 : decode cJ10_length 2 = .ok (.iconst 1, 1) := dk_4 (dk_at dksJ10_length_0 2 rfl rfl)
theorem dJ10_length_3 : decode cJ10_length 3 = .ok (.ishr, 1) := dk_122 (dk_at dksJ10_length_0 3 rfl rfl)
theorem dJ10_length_4 : decode cJ10_length 4 = .ok (.ireturn, 1) := dk_172 (dk_at dksJ10_length_0 4 rfl rfl)
abbrev cJ10_indexOfCharUnsafe : ByteArray := prog_44_method_48_code
def yJ10_indexOfCharUnsafe : MethodName := ⟨RJ10, "indexOfCharUnsafe", "([BIII)I"⟩
def dkwJ10_indexOfCharUnsafe_1 : List UInt8 := [132, 4, 1, 167, 255, 234, 2, 172]
abbrev dktJ10_indexOfCharUnsafe_1 : List UInt8 := dkwJ10_indexOfCharUnsafe_1 ++ []
def dkwJ10_indexOfCharUnsafe_0 : List UInt8 := [28, 54, 4, 21, 4, 29, 162, 0, 22, 42, 21, 4, 184, 0, 71, 27, 160, 0, 6, 21, 4, 172]
abbrev dktJ10_indexOfCharUnsafe_0 : List UInt8 := dkwJ10_indexOfCharUnsafe_0 ++ dktJ10_indexOfCharUnsafe_1
theorem dksJ10_indexOfCharUnsafe_0 : cJ10_indexOfCharUnsafe.data.toList.drop 0 = dktJ10_indexOfCharUnsafe_0 := by decide +kernel
theorem dksJ10_indexOfCharUnsafe_1 : cJ10_indexOfCharUnsafe.data.toList.drop 22 = dktJ10_indexOfCharUnsafe_1 := dk_seg dksJ10_indexOfCharUnsafe_0 22 rfl rfl
theorem dJ10_indexOfCharUnsafe_0 : decode cJ10_indexOfCharUnsafe 0 = .ok (.iload_n 2, 1) := dk_28 (dk_at dksJ10_indexOfCharUnsafe_0 0 rfl rfl)
theorem dJ10_indexOfCharUnsafe_1 : decode cJ10_indexOfCharUnsafe 1 = .ok (.istore 4, 2) := dk_54 4 (dk_at dksJ10_indexOfCharUnsafe_0 1 rfl rfl)
theorem dJ10_indexOfCharUnsafe_3 : decode cJ10_indexOfCharUnsafe 3 = .ok (.iload 4, 2) := dk_21 4 (dk_at dksJ10_indexOfCharUnsafe_0 3 rfl rfl)
theorem dJ10_indexOfCharUnsafe_5 : decode cJ10_indexOfCharUnsafe 5 = .ok (.iload_n 3, 1) := dk_29 (dk_at dksJ10_indexOfCharUnsafe_0 5 rfl rfl)
theorem dJ10_indexOfCharUnsafe_6 : decode cJ10_indexOfCharUnsafe 6 = .ok (.if_icmp .ge 22, 3) := dk_162 0 22 (dk_at dksJ10_indexOfCharUnsafe_0 6 rfl rfl)
theorem dJ10_indexOfCharUnsafe_9 : decode cJ10_indexOfCharUnsafe 9 = .ok (.aload_n 0, 1) := dk_42 (dk_at dksJ10_indexOfCharUnsafe_0 9 rfl rfl)
theorem dJ10_indexOfCharUnsafe_10 : decode cJ10_indexOfCharUnsafe 10 = .ok (.iload 4, 2) := dk_21 4 (dk_at dksJ10_indexOfCharUnsafe_0 10 rfl rfl)
theorem dJ10_indexOfCharUnsafe_12 : decode cJ10_indexOfCharUnsafe 12 = .ok (.invokestatic 71, 3) := dk_184 0 71 (dk_at dksJ10_indexOfCharUnsafe_0 12 rfl rfl)
theorem dJ10_indexOfCharUnsafe_15 : decode cJ10_indexOfCharUnsafe 15 = .ok (.iload_n 1, 1) := dk_27 (dk_at dksJ10_indexOfCharUnsafe_0 15 rfl rfl)
theorem dJ10_indexOfCharUnsafe_16 : decode cJ10_indexOfCharUnsafe 16 = .ok (.if_icmp .ne 6, 3) := dk_160 0 6 (dk_at dksJ10_indexOfCharUnsafe_0 16 rfl rfl)
theorem dJ10_indexOfCharUnsafe_19 : decode cJ10_indexOfCharUnsafe 19 = .ok (.iload 4, 2) := dk_21 4 (dk_at dksJ10_indexOfCharUnsafe_0 19 rfl rfl)
theorem dJ10_indexOfCharUnsafe_21 : decode cJ10_indexOfCharUnsafe 21 = .ok (.ireturn, 1) := dk_172 (dk_at dksJ10_indexOfCharUnsafe_0 21 rfl rfl)
theorem dJ10_indexOfCharUnsafe_22 : decode cJ10_indexOfCharUnsafe 22 = .ok (.iinc 4 1, 3) := dk_132 4 1 (dk_at dksJ10_indexOfCharUnsafe_1 0 rfl rfl)
theorem dJ10_indexOfCharUnsafe_25 : decode cJ10_indexOfCharUnsafe 25 = .ok (.goto (-22), 3) := dk_167 255 234 (dk_at dksJ10_indexOfCharUnsafe_1 3 rfl rfl)
theorem dJ10_indexOfCharUnsafe_28 : decode cJ10_indexOfCharUnsafe 28 = .ok (.iconst (-1), 1) := dk_2 (dk_at dksJ10_indexOfCharUnsafe_1 6 rfl rfl)
theorem dJ10_indexOfCharUnsafe_29 : decode cJ10_indexOfCharUnsafe 29 = .ok (.ireturn, 1) := dk_172 (dk_at dksJ10_indexOfCharUnsafe_1 7 rfl rfl)
abbrev cJ10_getChar : ByteArray := prog_44_method_5_code
def yJ10_getChar : MethodName := ⟨RJ10, "getChar", "([BI)C"⟩
def dkwJ10_getChar_2 : List UInt8 := [51, 17, 0, 255, 126, 178, 0, 63, 120, 128, 146, 172]
abbrev dktJ10_getChar_2 : List UInt8 := dkwJ10_getChar_2 ++ []
def dkwJ10_getChar_1 : List UInt8 := [183, 0, 56, 191, 27, 4, 120, 60, 42, 27, 132, 1, 1, 51, 17, 0, 255, 126, 178, 0, 59, 120, 42, 27]
abbrev dktJ10_getChar_1 : List UInt8 := dkwJ10_getChar_1 ++ dktJ10_getChar_2
def dkwJ10_getChar_0 : List UInt8 := [178, 0, 44, 154, 0, 25, 27, 155, 0, 11, 27, 42, 184, 0, 48, 161, 0, 13, 187, 0, 52, 89, 18, 54]
abbrev dktJ10_getChar_0 : List UInt8 := dkwJ10_getChar_0 ++ dktJ10_getChar_1
theorem dksJ10_getChar_0 : cJ10_getChar.data.toList.drop 0 = dktJ10_getChar_0 := by decide +kernel
theorem dksJ10_getChar_1 : cJ10_getChar.data.toList.drop 24 = dktJ10_getChar_1 := dk_seg dksJ10_getChar_0 24 rfl rfl
theorem dksJ10_getChar_2 : cJ10_getChar.data.toList.drop 48 = dktJ10_getChar_2 := dk_seg dksJ10_getChar_1 24 rfl rfl
theorem dJ10_getChar_0 : decode cJ10_getChar 0 = .ok (.getstatic 44, 3) := dk_178 0 44 (dk_at dksJ10_getChar_0 0 rfl rfl)
theorem dJ10_getChar_3 : decode cJ10_getChar 3 = .ok (.ifCond .ne 25, 3) := dk_154 0 25 (dk_at dksJ10_getChar_0 3 rfl rfl)
theorem dJ10_getChar_6 : decode cJ10_getChar 6 = .ok (.iload_n 1, 1) := dk_27 (dk_at dksJ10_getChar_0 6 rfl rfl)
theorem dJ10_getChar_7 : decode cJ10_getChar 7 = .ok (.ifCond .lt 11, 3) := dk_155 0 11 (dk_at dksJ10_getChar_0 7 rfl rfl)
theorem dJ10_getChar_10 : decode cJ10_getChar 10 = .ok (.iload_n 1, 1) := dk_27 (dk_at dksJ10_getChar_0 10 rfl rfl)
theorem dJ10_getChar_11 : decode cJ10_getChar 11 = .ok (.aload_n 0, 1) := dk_42 (dk_at dksJ10_getChar_0 11 rfl rfl)
theorem dJ10_getChar_12 : decode cJ10_getChar 12 = .ok (.invokestatic 48, 3) := dk_184 0 48 (dk_at dksJ10_getChar_0 12 rfl rfl)
theorem dJ10_getChar_15 : decode cJ10_getChar 15 = .ok (.if_icmp .lt 13, 3) := dk_161 0 13 (dk_at dksJ10_getChar_0 15 rfl rfl)
theorem dJ10_getChar_18 : decode cJ10_getChar 18 = .ok (.new 52, 3) := dk_187 0 52 (dk_at dksJ10_getChar_0 18 rfl rfl)
theorem dJ10_getChar_21 : decode cJ10_getChar 21 = .ok (.dup, 1) := dk_89 (dk_at dksJ10_getChar_0 21 rfl rfl)
theorem dJ10_getChar_22 : decode cJ10_getChar 22 = .ok (.ldc 54, 2) := dk_18 54 (dk_at dksJ10_getChar_0 22 rfl rfl)
theorem dJ10_getChar_24 : decode cJ10_getChar 24 = .ok (.invokespecial 56, 3) := dk_183 0 56 (dk_at dksJ10_getChar_1 0 rfl rfl)
theorem dJ10_getChar_27 : decode cJ10_getChar 27 = .ok (.athrow, 1) := dk_191 (dk_at dksJ10_getChar_1 3 rfl rfl)
theorem dJ10_getChar_28 : decode cJ10_getChar 28 = .ok (.iload_n 1, 1) := dk_27 (dk_at dksJ10_getChar_1 4 rfl rfl)
theorem dJ10_getChar_29 : decode cJ10_getChar 29 = .ok (.iconst 1, 1) := dk_4 (dk_at dksJ10_getChar_1 5 rfl rfl)
theorem dJ10_getChar_30 : decode cJ10_getChar 30 = .ok (.ishl, 1) := dk_120 (dk_at dksJ10_getChar_1 6 rfl rfl)
theorem dJ10_getChar_31 : decode cJ10_getChar 31 = .ok (.istore_n 1, 1) := dk_60 (dk_at dksJ10_getChar_1 7 rfl rfl)
theorem dJ10_getChar_32 : decode cJ10_getChar 32 = .ok (.aload_n 0, 1) := dk_42 (dk_at dksJ10_getChar_1 8 rfl rfl)
theorem dJ10_getChar_33 : decode cJ10_getChar 33 = .ok (.iload_n 1, 1) := dk_27 (dk_at dksJ10_getChar_1 9 rfl rfl)
theorem dJ10_getChar_34 : decode cJ10_getChar 34 = .ok (.iinc 1 1, 3) := dk_132 1 1 (dk_at dksJ10_getChar_1 10 rfl rfl)
theorem dJ10_getChar_37 : decode cJ10_getChar 37 = .ok (.baload, 1) := dk_51 (dk_at dksJ10_getChar_1 13 rfl rfl)
theorem dJ10_getChar_38 : decode cJ10_getChar 38 = .ok (.sipush 255, 3) := dk_17 0 255 (dk_at dksJ10_getChar_1 14 rfl rfl)
theorem dJ10_getChar_41 : decode cJ10_getChar 41 = .ok (.iand, 1) := dk_126 (dk_at dksJ10_getChar_1 17 rfl rfl)
theorem dJ10_getChar_42 : decode cJ10_getChar 42 = .ok (.getstatic 59, 3) := dk_178 0 59 (dk_at dksJ10_getChar_1 18 rfl rfl)
theorem dJ10_getChar_45 : decode cJ10_getChar 45 = .ok (.ishl, 1) := dk_120 (dk_at dksJ10_getChar_1 21 rfl rfl)
theorem dJ10_getChar_46 : decode cJ10_getChar 46 = .ok (.aload_n 0, 1) := dk_42 (dk_at dksJ10_getChar_1 22 rfl rfl)
theorem dJ10_getChar_47 : decode cJ10_getChar 47 = .ok (.iload_n 1, 1) := dk_27 (dk_at dksJ10_getChar_1 23 rfl rfl)
theorem dJ10_getChar_48 : decode cJ10_getChar 48 = .ok (.baload, 1) := dk_51 (dk_at dksJ10_getChar_2 0 rfl rfl)
theorem dJ10_getChar_49 : decode cJ10_getChar 49 = .ok (.sipush 255, 3) := dk_17 0 255 (dk_at dksJ10_getChar_2 1 rfl rfl)
theorem dJ10_getChar_52 : decode cJ10_getChar 52 = .ok (.iand, 1) := dk_126 (dk_at dksJ10_getChar_2 4 rfl rfl)
theorem dJ10_getChar_53 : decode cJ10_getChar 53 = .ok (.getstatic 63, 3) := dk_178 0 63 (dk_at dksJ10_getChar_2 5 rfl rfl)
theorem dJ10_getChar_56 : decode cJ10_getChar 56 = .ok (.ishl, 1) := dk_120 (dk_at dksJ10_getChar_2 8 rfl rfl)
theorem dJ10_getChar_57 : decode cJ10_getChar 57 = .ok (.ior, 1) := dk_128 (dk_at dksJ10_getChar_2 9 rfl rfl)
theorem dJ10_getChar_58 : decode cJ10_getChar 58 = .ok (.i2c, 1) := dk_146 (dk_at dksJ10_getChar_2 10 rfl rfl)
theorem dJ10_getChar_59 : decode cJ10_getChar 59 = .ok (.ireturn, 1) := dk_172 (dk_at dksJ10_getChar_2 11 rfl rfl)
abbrev cJ10_indexOfSupplementary : ByteArray := prog_44_method_49_code
def yJ10_indexOfSupplementary : MethodName := ⟨RJ10, "indexOfSupplementary", "([BIII)I"⟩
def dkwJ10_indexOfSupplementary_3 : List UInt8 := [167, 255, 218, 2, 172]
abbrev dktJ10_indexOfSupplementary_3 : List UInt8 := dkwJ10_indexOfSupplementary_3 ++ []
def dkwJ10_indexOfSupplementary_2 : List UInt8 := [160, 0, 19, 42, 21, 6, 4, 96, 184, 0, 71, 21, 5, 160, 0, 6, 21, 6, 172, 132, 6, 1]
abbrev dktJ10_indexOfSupplementary_2 : List UInt8 := dkwJ10_indexOfSupplementary_2 ++ dktJ10_indexOfSupplementary_3
def dkwJ10_indexOfSupplementary_1 : List UInt8 := [184, 0, 96, 28, 54, 6, 21, 6, 29, 4, 100, 162, 0, 36, 42, 21, 6, 184, 0, 71, 21, 4]
abbrev dktJ10_indexOfSupplementary_1 : List UInt8 := dkwJ10_indexOfSupplementary_1 ++ dktJ10_indexOfSupplementary_2
def dkwJ10_indexOfSupplementary_0 : List UInt8 := [27, 184, 0, 164, 153, 0, 65, 27, 184, 0, 157, 54, 4, 27, 184, 0, 161, 54, 5, 28, 29, 42]
abbrev dktJ10_indexOfSupplementary_0 : List UInt8 := dkwJ10_indexOfSupplementary_0 ++ dktJ10_indexOfSupplementary_1
theorem dksJ10_indexOfSupplementary_0 : cJ10_indexOfSupplementary.data.toList.drop 0 = dktJ10_indexOfSupplementary_0 := by decide +kernel
theorem dksJ10_indexOfSupplementary_1 : cJ10_indexOfSupplementary.data.toList.drop 22 = dktJ10_indexOfSupplementary_1 := dk_seg dksJ10_indexOfSupplementary_0 22 rfl rfl
theorem dksJ10_indexOfSupplementary_2 : cJ10_indexOfSupplementary.data.toList.drop 44 = dktJ10_indexOfSupplementary_2 := dk_seg dksJ10_indexOfSupplementary_1 22 rfl rfl
theorem dksJ10_indexOfSupplementary_3 : cJ10_indexOfSupplementary.data.toList.drop 66 = dktJ10_indexOfSupplementary_3 := dk_seg dksJ10_indexOfSupplementary_2 22 rfl rfl
theorem dJ10_indexOfSupplementary_0 : decode cJ10_indexOfSupplementary 0 = .ok (.iload_n 1, 1) := dk_27 (dk_at dksJ10_indexOfSupplementary_0 0 rfl rfl)
theorem dJ10_indexOfSupplementary_1 : decode cJ10_indexOfSupplementary 1 = .ok (.invokestatic 164, 3) := dk_184 0 164 (dk_at dksJ10_indexOfSupplementary_0 1 rfl rfl)
theorem dJ10_indexOfSupplementary_4 : decode cJ10_indexOfSupplementary 4 = .ok (.ifCond .eq 65, 3) := dk_153 0 65 (dk_at dksJ10_indexOfSupplementary_0 4 rfl rfl)
theorem dJ10_indexOfSupplementary_7 : decode cJ10_indexOfSupplementary 7 = .ok (.iload_n 1, 1) := dk_27 (dk_at dksJ10_indexOfSupplementary_0 7 rfl rfl)
theorem dJ10_indexOfSupplementary_8 : decode cJ10_indexOfSupplementary 8 = .ok (.invokestatic 157, 3) := dk_184 0 157 (dk_at dksJ10_indexOfSupplementary_0 8 rfl rfl)
theorem dJ10_indexOfSupplementary_11 : decode cJ10_indexOfSupplementary 11 = .ok (.istore 4, 2) := dk_54 4 (dk_at dksJ10_indexOfSupplementary_0 11 rfl rfl)
theorem dJ10_indexOfSupplementary_13 : decode cJ10_indexOfSupplementary 13 = .ok (.iload_n 1, 1) := dk_27 (dk_at dksJ10_indexOfSupplementary_0 13 rfl rfl)
theorem dJ10_indexOfSupplementary_14 : decode cJ10_indexOfSupplementary 14 = .ok (.invokestatic 161, 3) := dk_184 0 161 (dk_at dksJ10_indexOfSupplementary_0 14 rfl rfl)
theorem dJ10_indexOfSupplementary_17 : decode cJ10_indexOfSupplementary 17 = .ok (.istore 5, 2) := dk_54 5 (dk_at dksJ10_indexOfSupplementary_0 17 rfl rfl)
theorem dJ10_indexOfSupplementary_19 : decode cJ10_indexOfSupplementary 19 = .ok (.iload_n 2, 1) := dk_28 (dk_at dksJ10_indexOfSupplementary_0 19 rfl rfl)
theorem dJ10_indexOfSupplementary_20 : decode cJ10_indexOfSupplementary 20 = .ok (.iload_n 3, 1) := dk_29 (dk_at dksJ10_indexOfSupplementary_0 20 rfl rfl)
theorem dJ10_indexOfSupplementary_21 : decode cJ10_indexOfSupplementary 21 = .ok (.aload_n 0, 1) := dk_42 (dk_at dksJ10_indexOfSupplementary_0 21 rfl rfl)
theorem dJ10_indexOfSupplementary_22 : decode cJ10_indexOfSupplementary 22 = .ok (.invokestatic 96, 3) := dk_184 0 96 (dk_at dksJ10_indexOfSupplementary_1 0 rfl rfl)
theorem dJ10_indexOfSupplementary_25 : decode cJ10_indexOfSupplementary 25 = .ok (.iload_n 2, 1) := dk_28 (dk_at dksJ10_indexOfSupplementary_1 3 rfl rfl)
theorem dJ10_indexOfSupplementary_26 : decode cJ10_indexOfSupplementary 26 = .ok (.istore 6, 2) := dk_54 6 (dk_at dksJ10_indexOfSupplementary_1 4 rfl rfl)
theorem dJ10_indexOfSupplementary_28 : decode cJ10_indexOfSupplementary 28 = .ok (.iload 6, 2) := dk_21 6 (dk_at dksJ10_indexOfSupplementary_1 6 rfl rfl)
theorem dJ10_indexOfSupplementary_30 : decode cJ10_indexOfSupplementary 30 = .ok (.iload_n 3, 1) := dk_29 (dk_at dksJ10_indexOfSupplementary_1 8 rfl rfl)
theorem dJ10_indexOfSupplementary_31 : decode cJ10_indexOfSupplementary 31 = .ok (.iconst 1, 1) := dk_4 (dk_at dksJ10_indexOfSupplementary_1 9 rfl rfl)
theorem dJ10_indexOfSupplementary_32 : decode cJ10_indexOfSupplementary 32 = .ok (.isub, 1) := dk_100 (dk_at dksJ10_indexOfSupplementary_1 10 rfl rfl)
theorem dJ10_indexOfSupplementary_33 : decode cJ10_indexOfSupplementary 33 = .ok (.if_icmp .ge 36, 3) := dk_162 0 36 (dk_at dksJ10_indexOfSupplementary_1 11 rfl rfl)
theorem dJ10_indexOfSupplementary_36 : decode cJ10_indexOfSupplementary 36 = .ok (.aload_n 0, 1) := dk_42 (dk_at dksJ10_indexOfSupplementary_1 14 rfl rfl)
theorem dJ10_indexOfSupplementary_37 : decode cJ10_indexOfSupplementary 37 = .ok (.iload 6, 2) := dk_21 6 (dk_at dksJ10_indexOfSupplementary_1 15 rfl rfl)
theorem dJ10_indexOfSupplementary_39 : decode cJ10_indexOfSupplementary 39 = .ok (.invokestatic 71, 3) := dk_184 0 71 (dk_at dksJ10_indexOfSupplementary_1 17 rfl rfl)
theorem dJ10_indexOfSupplementary_42 : decode cJ10_indexOfSupplementary 42 = .ok (.iload 4, 2) := dk_21 4 (dk_at dksJ10_indexOfSupplementary_1 20 rfl rfl)
theorem dJ10_indexOfSupplementary_44 : decode cJ10_indexOfSupplementary 44 = .ok (.if_icmp .ne 19, 3) := dk_160 0 19 (dk_at dksJ10_indexOfSupplementary_2 0 rfl rfl)
theorem dJ10_indexOfSupplementary_47 : decode cJ10_indexOfSupplementary 47 = .ok (.aload_n 0, 1) := dk_42 (dk_at dksJ10_indexOfSupplementary_2 3 rfl rfl)
theorem dJ10_indexOfSupplementary_48 : decode cJ10_indexOfSupplementary 48 = .ok (.iload 6, 2) := dk_21 6 (dk_at dksJ10_indexOfSupplementary_2 4 rfl rfl)
theorem dJ10_indexOfSupplementary_50 : decode cJ10_indexOfSupplementary 50 = .ok (.iconst 1, 1) := dk_4 (dk_at dksJ10_indexOfSupplementary_2 6 rfl rfl)
theorem dJ10_indexOfSupplementary_51 : decode cJ10_indexOfSupplementary 51 = .ok (.iadd, 1) := dk_96 (dk_at dksJ10_indexOfSupplementary_2 7 rfl rfl)
theorem dJ10_indexOfSupplementary_52 : decode cJ10_indexOfSupplementary 52 = .ok (.invokestatic 71, 3) := dk_184 0 71 (dk_at dksJ10_indexOfSupplementary_2 8 rfl rfl)
theorem dJ10_indexOfSupplementary_55 : decode cJ10_indexOfSupplementary 55 = .ok (.iload 5, 2) := dk_21 5 (dk_at dksJ10_indexOfSupplementary_2 11 rfl rfl)
theorem dJ10_indexOfSupplementary_57 : decode cJ10_indexOfSupplementary 57 = .ok (.if_icmp .ne 6, 3) := dk_160 0 6 (dk_at dksJ10_indexOfSupplementary_2 13 rfl rfl)
theorem dJ10_indexOfSupplementary_60 : decode cJ10_indexOfSupplementary 60 = .ok (.iload 6, 2) := dk_21 6 (dk_at dksJ10_indexOfSupplementary_2 16 rfl rfl)
theorem dJ10_indexOfSupplementary_62 : decode cJ10_indexOfSupplementary 62 = .ok (.ireturn, 1) := dk_172 (dk_at dksJ10_indexOfSupplementary_2 18 rfl rfl)
theorem dJ10_indexOfSupplementary_63 : decode cJ10_indexOfSupplementary 63 = .ok (.iinc 6 1, 3) := dk_132 6 1 (dk_at dksJ10_indexOfSupplementary_2 19 rfl rfl)
theorem dJ10_indexOfSupplementary_66 : decode cJ10_indexOfSupplementary 66 = .ok (.goto (-38), 3) := dk_167 255 218 (dk_at dksJ10_indexOfSupplementary_3 0 rfl rfl)
theorem dJ10_indexOfSupplementary_69 : decode cJ10_indexOfSupplementary 69 = .ok (.iconst (-1), 1) := dk_2 (dk_at dksJ10_indexOfSupplementary_3 3 rfl rfl)
theorem dJ10_indexOfSupplementary_70 : decode cJ10_indexOfSupplementary 70 = .ok (.ireturn, 1) := dk_172 (dk_at dksJ10_indexOfSupplementary_3 4 rfl rfl)
theorem q109 : (Jvm.Cond.initialized "java/lang/StringUTF16") ∈ lw_all := lw_g (lw_at lw_m1 18 rfl) rfl
theorem q668 : (Jvm.Cond.static ({ cls := "java/lang/StringUTF16", name := "indexOf", desc := "([BIII)I" } : Jvm.MethodName)) ∈ lw_all := lw_g (lw_at lw_m3 97 rfl) rfl
theorem q669 : (Jvm.Cond.code ({ cls := "java/lang/StringUTF16", name := "indexOf", desc := "([BIII)I" } : Jvm.MethodName) prog_44_method_40_code (4 : Nat) (Option.some Jvm.ClassFile.FieldType.int)) ∈ lw_all := lw_g (lw_at lw_m3 98 rfl) rfl
theorem q670 : (Jvm.Cond.methodLink "java/lang/StringUTF16" (224 : Nat) ({ cls := "java/lang/Math", name := "max", desc := "(II)I" } : Jvm.MethodName)) ∈ lw_all := lw_g (lw_at lw_m3 99 rfl) rfl
theorem q671 : (Jvm.Cond.methodLink "java/lang/StringUTF16" (183 : Nat) ({ cls := "java/lang/Math", name := "min", desc := "(II)I" } : Jvm.MethodName)) ∈ lw_all := lw_g (lw_at lw_m3 100 rfl) rfl
theorem q672 : (Jvm.Cond.constant "java/lang/StringUTF16" (227 : Nat) (65536 : Int32)) ∈ lw_all := lw_g (lw_at lw_m3 101 rfl) rfl
theorem q673 : (Jvm.Cond.methodLink "java/lang/StringUTF16" (228 : Nat) ({ cls := "java/lang/StringUTF16", name := "indexOfChar", desc := "([BIII)I" } : Jvm.MethodName)) ∈ lw_all := lw_g (lw_at lw_m3 102 rfl) rfl
theorem q674 : (Jvm.Cond.static ({ cls := "java/lang/StringUTF16", name := "indexOfChar", desc := "([BIII)I" } : Jvm.MethodName)) ∈ lw_all := lw_g (lw_at lw_m3 103 rfl) rfl
theorem q675 : (Jvm.Cond.code ({ cls := "java/lang/StringUTF16", name := "indexOfChar", desc := "([BIII)I" } : Jvm.MethodName) prog_44_method_47_code (4 : Nat) (Option.some Jvm.ClassFile.FieldType.int)) ∈ lw_all := lw_g (lw_at lw_m3 104 rfl) rfl
theorem q676 : (Jvm.Cond.methodLink "java/lang/StringUTF16" (96 : Nat) ({ cls := "java/lang/StringUTF16", name := "checkBoundsBeginEnd", desc := "(II[B)V" } : Jvm.MethodName)) ∈ lw_all := lw_g (lw_at lw_m3 105 rfl) rfl
theorem q677 : (Jvm.Cond.static ({ cls := "java/lang/StringUTF16", name := "checkBoundsBeginEnd", desc := "(II[B)V" } : Jvm.MethodName)) ∈ lw_all := lw_g (lw_at lw_m3 106 rfl) rfl
theorem q678 : (Jvm.Cond.code ({ cls := "java/lang/StringUTF16", name := "checkBoundsBeginEnd", desc := "(II[B)V" } : Jvm.MethodName) prog_44_method_93_code (3 : Nat) (Option.none : Option Jvm.ClassFile.FieldType)) ∈ lw_all := lw_g (lw_at lw_m3 107 rfl) rfl
theorem q679 : (Jvm.Cond.methodLink "java/lang/StringUTF16" (48 : Nat) ({ cls := "java/lang/StringUTF16", name := "length", desc := "([B)I" } : Jvm.MethodName)) ∈ lw_all := lw_g (lw_at lw_m3 108 rfl) rfl
theorem q680 : (Jvm.Cond.static ({ cls := "java/lang/StringUTF16", name := "length", desc := "([B)I" } : Jvm.MethodName)) ∈ lw_all := lw_g (lw_at lw_m3 109 rfl) rfl
theorem q681 : (Jvm.Cond.code ({ cls := "java/lang/StringUTF16", name := "length", desc := "([B)I" } : Jvm.MethodName) prog_44_method_6_code (1 : Nat) (Option.some Jvm.ClassFile.FieldType.int)) ∈ lw_all := lw_g (lw_at lw_m3 110 rfl) rfl
theorem q682 : (Jvm.Cond.methodLink "java/lang/StringUTF16" (241 : Nat) ({ cls := "java/lang/String", name := "checkBoundsBeginEnd", desc := "(III)V" } : Jvm.MethodName)) ∈ lw_all := lw_g (lw_at lw_m3 111 rfl) rfl
theorem q690 : (Jvm.Cond.methodLink "java/lang/StringUTF16" (244 : Nat) ({ cls := "java/lang/StringUTF16", name := "indexOfCharUnsafe", desc := "([BIII)I" } : Jvm.MethodName)) ∈ lw_all := lw_g (lw_at lw_m3 119 rfl) rfl
theorem q691 : (Jvm.Cond.static ({ cls := "java/lang/StringUTF16", name := "indexOfCharUnsafe", desc := "([BIII)I" } : Jvm.MethodName)) ∈ lw_all := lw_g (lw_at lw_m3 120 rfl) rfl
theorem q692 : (Jvm.Cond.code ({ cls := "java/lang/StringUTF16", name := "indexOfCharUnsafe", desc := "([BIII)I" } : Jvm.MethodName) prog_44_method_48_code (5 : Nat) (Option.some Jvm.ClassFile.FieldType.int)) ∈ lw_all := lw_g (lw_at lw_m3 121 rfl) rfl
theorem q693 : (Jvm.Cond.methodLink "java/lang/StringUTF16" (71 : Nat) ({ cls := "java/lang/StringUTF16", name := "getChar", desc := "([BI)C" } : Jvm.MethodName)) ∈ lw_all := lw_g (lw_at lw_m3 122 rfl) rfl
theorem q694 : (Jvm.Cond.static ({ cls := "java/lang/StringUTF16", name := "getChar", desc := "([BI)C" } : Jvm.MethodName)) ∈ lw_all := lw_g (lw_at lw_m3 123 rfl) rfl
theorem q695 : (Jvm.Cond.code ({ cls := "java/lang/StringUTF16", name := "getChar", desc := "([BI)C" } : Jvm.MethodName) prog_44_method_5_code (2 : Nat) (Option.some Jvm.ClassFile.FieldType.char)) ∈ lw_all := lw_g (lw_at lw_m3 124 rfl) rfl
theorem q696 : (Jvm.Cond.fieldLink "java/lang/StringUTF16" (44 : Nat) "java/lang/StringUTF16" "$assertionsDisabled" "Z") ∈ lw_all := lw_g (lw_at lw_m3 125 rfl) rfl
theorem q697 : (Jvm.Cond.laysStatic "java/lang/StringUTF16" "$assertionsDisabled" "Z") ∈ lw_tbl := lw_at lw_m3 126 rfl
theorem q698 : (Jvm.Cond.fieldLink "java/lang/StringUTF16" (59 : Nat) "java/lang/StringUTF16" "HI_BYTE_SHIFT" "I") ∈ lw_all := lw_g (lw_at lw_m3 127 rfl) rfl
theorem q699 : (Jvm.Cond.laysStatic "java/lang/StringUTF16" "HI_BYTE_SHIFT" "I") ∈ lw_tbl := lw_at lw_m3 128 rfl
theorem q700 : (Jvm.Cond.fieldLink "java/lang/StringUTF16" (63 : Nat) "java/lang/StringUTF16" "LO_BYTE_SHIFT" "I") ∈ lw_all := lw_g (lw_at lw_m3 129 rfl) rfl
theorem q701 : (Jvm.Cond.laysStatic "java/lang/StringUTF16" "LO_BYTE_SHIFT" "I") ∈ lw_tbl := lw_at lw_m3 130 rfl
theorem q702 : (Jvm.Cond.methodLink "java/lang/StringUTF16" (232 : Nat) ({ cls := "java/lang/StringUTF16", name := "indexOfSupplementary", desc := "([BIII)I" } : Jvm.MethodName)) ∈ lw_all := lw_g (lw_at lw_m3 131 rfl) rfl
theorem q703 : (Jvm.Cond.static ({ cls := "java/lang/StringUTF16", name := "indexOfSupplementary", desc := "([BIII)I" } : Jvm.MethodName)) ∈ lw_all := lw_g (lw_at lw_m3 132 rfl) rfl
theorem q704 : (Jvm.Cond.code ({ cls := "java/lang/StringUTF16", name := "indexOfSupplementary", desc := "([BIII)I" } : Jvm.MethodName) prog_44_method_49_code (7 : Nat) (Option.some Jvm.ClassFile.FieldType.int)) ∈ lw_all := lw_g (lw_at lw_m3 133 rfl) rfl
theorem q705 : (Jvm.Cond.methodLink "java/lang/StringUTF16" (164 : Nat) ({ cls := "java/lang/Character", name := "isValidCodePoint", desc := "(I)Z" } : Jvm.MethodName)) ∈ lw_all := lw_g (lw_at lw_m3 134 rfl) rfl
theorem q708 : (Jvm.Cond.methodLink "java/lang/StringUTF16" (157 : Nat) ({ cls := "java/lang/Character", name := "highSurrogate", desc := "(I)C" } : Jvm.MethodName)) ∈ lw_all := lw_g (lw_at lw_m3 137 rfl) rfl
theorem q712 : (Jvm.Cond.methodLink "java/lang/StringUTF16" (161 : Nat) ({ cls := "java/lang/Character", name := "lowSurrogate", desc := "(I)C" } : Jvm.MethodName)) ∈ lw_all := lw_g (lw_at lw_m3 141 rfl) rfl
/-! jdk/internal/util/Preconditions -/
set_option maxRecDepth 100000
def RJ11 : String := "jdk/internal/util/Preconditions"
abbrev cJ11_checkFromToIndex : ByteArray := prog_47_method_12_code
def yJ11_checkFromToIndex : MethodName := ⟨RJ11, "checkFromToIndex", "(IIILjava/util/function/BiFunction;)I"⟩
def dkwJ11_checkFromToIndex_0 : List UInt8 := [26, 155, 0, 13, 26, 27, 163, 0, 8, 27, 28, 164, 0, 11, 45, 26, 27, 28, 184, 0, 99, 191, 26, 172]
abbrev dktJ11_checkFromToIndex_0 : List UInt8 := dkwJ11_checkFromToIndex_0 ++ []
theorem dksJ11_checkFromToIndex_0 : cJ11_checkFromToIndex.data.toList.drop 0 = dktJ11_checkFromToIndex_0 := by decide +kernel
theorem dJ11_checkFromToIndex_0 : decode cJ11_checkFromToIndex 0 = .ok (.iload_n 0, 1) := dk_26 (dk_at dksJ11_checkFromToIndex_0 0 rfl rfl)
theorem dJ11_checkFromToIndex_1 : decode cJ11_checkFromToIndex 1 = .ok (.ifCond .lt 13, 3) := dk_155 0 13 (dk_at dksJ11_checkFromToIndex_0 1 rfl rfl)
theorem dJ11_checkFromToIndex_4 : decode cJ11_checkFromToIndex 4 = .ok (.iload_n 0, 1) := dk_26 (dk_at dksJ11_checkFromToIndex_0 4 rfl rfl)
theorem dJ11_checkFromToIndex_5 : decode cJ11_checkFromToIndex 5 = .ok (.iload_n 1, 1) := dk_27 (dk_at dksJ11_checkFromToIndex_0 5 rfl rfl)
theorem dJ11_checkFromToIndex_6 : decode cJ11_checkFromToIndex 6 = .ok (.if_icmp .gt 8, 3) := dk_163 0 8 (dk_at dksJ11_checkFromToIndex_0 6 rfl rfl)
theorem dJ11_checkFromToIndex_9 : decode cJ11_checkFromToIndex 9 = .ok (.iload_n 1, 1) := dk_27 (dk_at dksJ11_checkFromToIndex_0 9 rfl rfl)
theorem dJ11_checkFromToIndex_10 : decode cJ11_checkFromToIndex 10 = .ok (.iload_n 2, 1) := dk_28 (dk_at dksJ11_checkFromToIndex_0 10 rfl rfl)
theorem dJ11_checkFromToIndex_11 : decode cJ11_checkFromToIndex 11 = .ok (.if_icmp .le 11, 3) := dk_164 0 11 (dk_at dksJ11_checkFromToIndex_0 11 rfl rfl)
theorem dJ11_checkFromToIndex_14 : decode cJ11_checkFromToIndex 14 = .ok (.aload_n 3, 1) := dk_45 (dk_at dksJ11_checkFromToIndex_0 14 rfl rfl)
theorem dJ11_checkFromToIndex_15 : decode cJ11_checkFromToIndex 15 = .ok (.iload_n 0, 1) := dk_26 (dk_at dksJ11_checkFromToIndex_0 15 rfl rfl)
theorem dJ11_checkFromToIndex_16 : decode cJ11_checkFromToIndex 16 = .ok (.iload_n 1, 1) := dk_27 (dk_at dksJ11_checkFromToIndex_0 16 rfl rfl)
theorem dJ11_checkFromToIndex_17 : decode cJ11_checkFromToIndex 17 = .ok (.iload_n 2, 1) := dk_28 (dk_at dksJ11_checkFromToIndex_0 17 rfl rfl)
theorem dJ11_checkFromToIndex_18 : decode cJ11_checkFromToIndex 18 = .ok (.invokestatic 99, 3) := dk_184 0 99 (dk_at dksJ11_checkFromToIndex_0 18 rfl rfl)
theorem dJ11_checkFromToIndex_21 : decode cJ11_checkFromToIndex 21 = .ok (.athrow, 1) := dk_191 (dk_at dksJ11_checkFromToIndex_0 21 rfl rfl)
theorem dJ11_checkFromToIndex_22 : decode cJ11_checkFromToIndex 22 = .ok (.iload_n 0, 1) := dk_26 (dk_at dksJ11_checkFromToIndex_0 22 rfl rfl)
theorem dJ11_checkFromToIndex_23 : decode cJ11_checkFromToIndex 23 = .ok (.ireturn, 1) := dk_172 (dk_at dksJ11_checkFromToIndex_0 23 rfl rfl)
theorem q110 : (Jvm.Cond.initialized "jdk/internal/util/Preconditions") ∈ lw_all := lw_g (lw_at lw_m1 19 rfl) rfl
theorem q686 : (Jvm.Cond.laysStatic "jdk/internal/util/Preconditions" "SIOOBE_FORMATTER" "Ljava/util/function/BiFunction;") ∈ lw_tbl := lw_at lw_m3 115 rfl
theorem q688 : (Jvm.Cond.static ({ cls := "jdk/internal/util/Preconditions", name := "checkFromToIndex", desc := "(IIILjava/util/function/BiFunction;)I" } : Jvm.MethodName)) ∈ lw_all := lw_g (lw_at lw_m3 117 rfl) rfl
theorem q689 : (Jvm.Cond.code ({ cls := "jdk/internal/util/Preconditions", name := "checkFromToIndex", desc := "(IIILjava/util/function/BiFunction;)I" } : Jvm.MethodName) prog_47_method_12_code (4 : Nat) (Option.some Jvm.ClassFile.FieldType.int)) ∈ lw_all := lw_g (lw_at lw_m3 118 rfl) rfl
/-! java/lang/Character -/
set_option maxRecDepth 100000
def RJ12 : String := "java/lang/Character"
abbrev cJ12_isValidCodePoint : ByteArray := prog_33_method_11_code
def yJ12_isValidCodePoint : MethodName := ⟨RJ12, "isValidCodePoint", "(I)Z"⟩
def dkwJ12_isValidCodePoint_0 : List UInt8 := [26, 16, 16, 124, 60, 27, 16, 17, 162, 0, 7, 4, 167, 0, 4, 3, 172]
abbrev dktJ12_isValidCodePoint_0 : List UInt8 := dkwJ12_isValidCodePoint_0 ++ []
theorem dksJ12_isValidCodePoint_0 : cJ12_isValidCodePoint.data.toList.drop 0 = dktJ12_isValidCodePoint_0 := by decide +kernel
theorem dJ12_isValidCodePoint_0 : decode cJ12_isValidCodePoint 0 = .ok (.iload_n 0, 1) := dk_26 (dk_at dksJ12_isValidCodePoint_0 0 rfl rfl)
theorem dJ12_isValidCodePoint_1 : decode cJ12_isValidCodePoint 1 = .ok (.bipush 16, 2) := dk_16 16 (dk_at dksJ12_isValidCodePoint_0 1 rfl rfl)
theorem dJ12_isValidCodePoint_3 : decode cJ12_isValidCodePoint 3 = .ok (.iushr, 1) := dk_124 (dk_at dksJ12_isValidCodePoint_0 3 rfl rfl)
theorem dJ12_isValidCodePoint_4 : decode cJ12_isValidCodePoint 4 = .ok (.istore_n 1, 1) := dk_60 (dk_at dksJ12_isValidCodePoint_0 4 rfl rfl)
theorem dJ12_isValidCodePoint_5 : decode cJ12_isValidCodePoint 5 = .ok (.iload_n 1, 1) := dk_27 (dk_at dksJ12_isValidCodePoint_0 5 rfl rfl)
theorem dJ12_isValidCodePoint_6 : decode cJ12_isValidCodePoint 6 = .ok (.bipush 17, 2) := dk_16 17 (dk_at dksJ12_isValidCodePoint_0 6 rfl rfl)
theorem dJ12_isValidCodePoint_8 : decode cJ12_isValidCodePoint 8 = .ok (.if_icmp .ge 7, 3) := dk_162 0 7 (dk_at dksJ12_isValidCodePoint_0 8 rfl rfl)
theorem dJ12_isValidCodePoint_11 : decode cJ12_isValidCodePoint 11 = .ok (.iconst 1, 1) := dk_4 (dk_at dksJ12_isValidCodePoint_0 11 rfl rfl)
theorem dJ12_isValidCodePoint_12 : decode cJ12_isValidCodePoint 12 = .ok (.goto 4, 3) := dk_167 0 4 (dk_at dksJ12_isValidCodePoint_0 12 rfl rfl)
theorem dJ12_isValidCodePoint_15 : decode cJ12_isValidCodePoint 15 = .ok (.iconst 0, 1) := dk_3 (dk_at dksJ12_isValidCodePoint_0 15 rfl rfl)
theorem dJ12_isValidCodePoint_16 : decode cJ12_isValidCodePoint 16 = .ok (.ireturn, 1) := dk_172 (dk_at dksJ12_isValidCodePoint_0 16 rfl rfl)
abbrev cJ12_highSurrogate : ByteArray := prog_33_method_28_code
def yJ12_highSurrogate : MethodName := ⟨RJ12, "highSurrogate", "(I)C"⟩
def dkwJ12_highSurrogate_0 : List UInt8 := [26, 16, 10, 124, 18, 110, 96, 146, 172]
abbrev dktJ12_highSurrogate_0 : List UInt8 := dkwJ12_highSurrogate_0 ++ []
theorem dksJ12_highSurrogate_0 : cJ12_highSurrogate.data.toList.drop 0 = dktJ12_highSurrogate_0 := by decide +kernel
theorem dJ12_highSurrogate_0 : decode cJ12_highSurrogate 0 = .ok (.iload_n 0, 1) := dk_26 (dk_at dksJ12_highSurrogate_0 0 rfl rfl)
theorem dJ12_highSurrogate_1 : decode cJ12_highSurrogate 1 = .ok (.bipush 10, 2) := dk_16 10 (dk_at dksJ12_highSurrogate_0 1 rfl rfl)
theorem dJ12_highSurrogate_3 : decode cJ12_highSurrogate 3 = .ok (.iushr, 1) := dk_124 (dk_at dksJ12_highSurrogate_0 3 rfl rfl)
theorem dJ12_highSurrogate_4 : decode cJ12_highSurrogate 4 = .ok (.ldc 110, 2) := dk_18 110 (dk_at dksJ12_highSurrogate_0 4 rfl rfl)
theorem dJ12_highSurrogate_6 : decode cJ12_highSurrogate 6 = .ok (.iadd, 1) := dk_96 (dk_at dksJ12_highSurrogate_0 6 rfl rfl)
theorem dJ12_highSurrogate_7 : decode cJ12_highSurrogate 7 = .ok (.i2c, 1) := dk_146 (dk_at dksJ12_highSurrogate_0 7 rfl rfl)
theorem dJ12_highSurrogate_8 : decode cJ12_highSurrogate 8 = .ok (.ireturn, 1) := dk_172 (dk_at dksJ12_highSurrogate_0 8 rfl rfl)
abbrev cJ12_lowSurrogate : ByteArray := prog_33_method_29_code
def yJ12_lowSurrogate : MethodName := ⟨RJ12, "lowSurrogate", "(I)C"⟩
def dkwJ12_lowSurrogate_0 : List UInt8 := [26, 17, 3, 255, 126, 18, 76, 96, 146, 172]
abbrev dktJ12_lowSurrogate_0 : List UInt8 := dkwJ12_lowSurrogate_0 ++ []
theorem dksJ12_lowSurrogate_0 : cJ12_lowSurrogate.data.toList.drop 0 = dktJ12_lowSurrogate_0 := by decide +kernel
theorem dJ12_lowSurrogate_0 : decode cJ12_lowSurrogate 0 = .ok (.iload_n 0, 1) := dk_26 (dk_at dksJ12_lowSurrogate_0 0 rfl rfl)
theorem dJ12_lowSurrogate_1 : decode cJ12_lowSurrogate 1 = .ok (.sipush 1023, 3) := dk_17 3 255 (dk_at dksJ12_lowSurrogate_0 1 rfl rfl)
theorem dJ12_lowSurrogate_4 : decode cJ12_lowSurrogate 4 = .ok (.iand, 1) := dk_126 (dk_at dksJ12_lowSurrogate_0 4 rfl rfl)
theorem dJ12_lowSurrogate_5 : decode cJ12_lowSurrogate 5 = .ok (.ldc 76, 2) := dk_18 76 (dk_at dksJ12_lowSurrogate_0 5 rfl rfl)
theorem dJ12_lowSurrogate_7 : decode cJ12_lowSurrogate 7 = .ok (.iadd, 1) := dk_96 (dk_at dksJ12_lowSurrogate_0 7 rfl rfl)
theorem dJ12_lowSurrogate_8 : decode cJ12_lowSurrogate 8 = .ok (.i2c, 1) := dk_146 (dk_at dksJ12_lowSurrogate_0 8 rfl rfl)
theorem dJ12_lowSurrogate_9 : decode cJ12_lowSurrogate 9 = .ok (.ireturn, 1) := dk_172 (dk_at dksJ12_lowSurrogate_0 9 rfl rfl)
theorem q111 : (Jvm.Cond.initialized "java/lang/Character") ∈ lw_all := lw_g (lw_at lw_m1 20 rfl) rfl
theorem q706 : (Jvm.Cond.static ({ cls := "java/lang/Character", name := "isValidCodePoint", desc := "(I)Z" } : Jvm.MethodName)) ∈ lw_all := lw_g (lw_at lw_m3 135 rfl) rfl
theorem q707 : (Jvm.Cond.code ({ cls := "java/lang/Character", name := "isValidCodePoint", desc := "(I)Z" } : Jvm.MethodName) prog_33_method_11_code (2 : Nat) (Option.some Jvm.ClassFile.FieldType.boolean)) ∈ lw_all := lw_g (lw_at lw_m3 136 rfl) rfl
theorem q709 : (Jvm.Cond.static ({ cls := "java/lang/Character", name := "highSurrogate", desc := "(I)C" } : Jvm.MethodName)) ∈ lw_all := lw_g (lw_at lw_m3 138 rfl) rfl
theorem q710 : (Jvm.Cond.code ({ cls := "java/lang/Character", name := "highSurrogate", desc := "(I)C" } : Jvm.MethodName) prog_33_method_28_code (1 : Nat) (Option.some Jvm.ClassFile.FieldType.char)) ∈ lw_all := lw_g (lw_at lw_m3 139 rfl) rfl
theorem q711 : (Jvm.Cond.constant "java/lang/Character" (110 : Nat) (55232 : Int32)) ∈ lw_all := lw_g (lw_at lw_m3 140 rfl) rfl
theorem q713 : (Jvm.Cond.static ({ cls := "java/lang/Character", name := "lowSurrogate", desc := "(I)C" } : Jvm.MethodName)) ∈ lw_all := lw_g (lw_at lw_m3 142 rfl) rfl
theorem q714 : (Jvm.Cond.code ({ cls := "java/lang/Character", name := "lowSurrogate", desc := "(I)C" } : Jvm.MethodName) prog_33_method_29_code (1 : Nat) (Option.some Jvm.ClassFile.FieldType.char)) ∈ lw_all := lw_g (lw_at lw_m3 143 rfl) rfl
theorem q715 : (Jvm.Cond.constant "java/lang/Character" (76 : Nat) (56320 : Int32)) ∈ lw_all := lw_g (lw_at lw_m3 144 rfl) rfl
/-! java/lang/Integer -/
set_option maxRecDepth 100000
def RJ13 : String := "java/lang/Integer"
abbrev cJ13_bitCount : ByteArray := prog_37_method_49_code
def yJ13_bitCount : MethodName := ⟨RJ13, "bitCount", "(I)I"⟩
def dkwJ13_bitCount_2 : List UInt8 := [26, 16, 63, 126, 172]
abbrev dktJ13_bitCount_2 : List UInt8 := dkwJ13_bitCount_2 ++ []
def dkwJ13_bitCount_1 : List UInt8 := [26, 26, 7, 124, 96, 19, 1, 11, 126, 59, 26, 26, 16, 8, 124, 96, 59, 26, 26, 16, 16, 124, 96, 59]
abbrev dktJ13_bitCount_1 : List UInt8 := dkwJ13_bitCount_1 ++ dktJ13_bitCount_2
def dkwJ13_bitCount_0 : List UInt8 := [26, 26, 4, 124, 19, 1, 9, 126, 100, 59, 26, 19, 1, 10, 126, 26, 5, 124, 19, 1, 10, 126, 96, 59]
abbrev dktJ13_bitCount_0 : List UInt8 := dkwJ13_bitCount_0 ++ dktJ13_bitCount_1
theorem dksJ13_bitCount_0 : cJ13_bitCount.data.toList.drop 0 = dktJ13_bitCount_0 := by decide +kernel
theorem dksJ13_bitCount_1 : cJ13_bitCount.data.toList.drop 24 = dktJ13_bitCount_1 := dk_seg dksJ13_bitCount_0 24 rfl rfl
theorem dksJ13_bitCount_2 : cJ13_bitCount.data.toList.drop 48 = dktJ13_bitCount_2 := dk_seg dksJ13_bitCount_1 24 rfl rfl
theorem dJ13_bitCount_0 : decode cJ13_bitCount 0 = .ok (.iload_n 0, 1) := dk_26 (dk_at dksJ13_bitCount_0 0 rfl rfl)
theorem dJ13_bitCount_1 : decode cJ13_bitCount 1 = .ok (.iload_n 0, 1) := dk_26 (dk_at dksJ13_bitCount_0 1 rfl rfl)
theorem dJ13_bitCount_2 : decode cJ13_bitCount 2 = .ok (.iconst 1, 1) := dk_4 (dk_at dksJ13_bitCount_0 2 rfl rfl)
theorem dJ13_bitCount_3 : decode cJ13_bitCount 3 = .ok (.iushr, 1) := dk_124 (dk_at dksJ13_bitCount_0 3 rfl rfl)
theorem dJ13_bitCount_4 : decode cJ13_bitCount 4 = .ok (.ldc_w 265, 3) := dk_19 1 9 (dk_at dksJ13_bitCount_0 4 rfl rfl)
theorem dJ13_bitCount_7 : decode cJ13_bitCount 7 = .ok (.iand, 1) := dk_126 (dk_at dksJ13_bitCount_0 7 rfl rfl)
theorem dJ13_bitCount_8 : decode cJ13_bitCount 8 = .ok (.isub, 1) := dk_100 (dk_at dksJ13_bitCount_0 8 rfl rfl)
theorem dJ13_bitCount_9 : decode cJ13_bitCount 9 = .ok (.istore_n 0, 1) := dk_59 (dk_at dksJ13_bitCount_0 9 rfl rfl)
theorem dJ13_bitCount_10 : decode cJ13_bitCount 10 = .ok (.iload_n 0, 1) := dk_26 (dk_at dksJ13_bitCount_0 10 rfl rfl)
theorem dJ13_bitCount_11 : decode cJ13_bitCount 11 = .ok (.ldc_w 266, 3) := dk_19 1 10 (dk_at dksJ13_bitCount_0 11 rfl rfl)
theorem dJ13_bitCount_14 : decode cJ13_bitCount 14 = .ok (.iand, 1) := dk_126 (dk_at dksJ13_bitCount_0 14 rfl rfl)
theorem dJ13_bitCount_15 : decode cJ13_bitCount 15 = .ok (.iload_n 0, 1) := dk_26 (dk_at dksJ13_bitCount_0 15 rfl rfl)
theorem dJ13_bitCount_16 : decode cJ13_bitCount 16 = .ok (.iconst 2, 1) := dk_5 (dk_at dksJ13_bitCount_0 16 rfl rfl)
theorem dJ13_bitCount_17 : decode cJ13_bitCount 17 = .ok (.iushr, 1) := dk_124 (dk_at dksJ13_bitCount_0 17 rfl rfl)
theorem dJ13_bitCount_18 : decode cJ13_bitCount 18 = .ok (.ldc_w 266, 3) := dk_19 1 10 (dk_at dksJ13_bitCount_0 18 rfl rfl)
theorem dJ13_bitCount_21 : decode cJ13_bitCount 21 = .ok (.iand, 1) := dk_126 (dk_at dksJ13_bitCount_0 21 rfl rfl)
theorem dJ13_bitCount_22 : decode cJ13_bitCount 22 = .ok (.iadd, 1) := dk_96 (dk_at dksJ13_bitCount_0 22 rfl rfl)
theorem dJ13_bitCount_23 : decode cJ13_bitCount 23 = .ok (.istore_n 0, 1) := dk_59 (dk_at dksJ13_bitCount_0 23 rfl rfl)
theorem dJ13_bitCount_24 : decode cJ13_bitCount 24 = .ok (.iload_n 0, 1) := dk_26 (dk_at dksJ13_bitCount_1 0 rfl rfl)
theorem dJ13_bitCount_25 : decode cJ13_bitCount 25 = .ok (.iload_n 0, 1) := dk_26 (dk_at dksJ13_bitCount_1 1 rfl rfl)
theorem dJ13_bitCount_26 : decode cJ13_bitCount 26 = .ok (.iconst 4, 1) := dk_7 (dk_at dksJ13_bitCount_1 2 rfl rfl)
theorem dJ13_bitCount_27 : decode cJ13_bitCount 27 = .ok (.iushr, 1) := dk_124 (dk_at dksJ13_bitCount_1 3 rfl rfl)
theorem dJ13_bitCount_28 : decode cJ13_bitCount 28 = .ok (.iadd, 1) := dk_96 (dk_at dksJ13_bitCount_1 4 rfl rfl)
theorem dJ13_bitCount_29 : decode cJ13_bitCount 29 = .ok (.ldc_w 267, 3) := dk_19 1 11 (dk_at dksJ13_bitCount_1 5 rfl rfl)
theorem dJ13_bitCount_32 : decode cJ13_bitCount 32 = .ok (.iand, 1) := dk_126 (dk_at dksJ13_bitCount_1 8 rfl rfl)
theorem dJ13_bitCount_33 : decode cJ13_bitCount 33 = .ok (.istore_n 0, 1) := dk_59 (dk_at dksJ13_bitCount_1 9 rfl rfl)
theorem dJ13_bitCount_34 : decode cJ13_bitCount 34 = .ok (.iload_n 0, 1) := dk_26 (dk_at dksJ13_bitCount_1 10 rfl rfl)
theorem dJ13_bitCount_35 : decode cJ13_bitCount 35 = .ok (.iload_n 0, 1) := dk_26 (dk_at dksJ13_bitCount_1 11 rfl rfl)
theorem dJ13_bitCount_36 : decode cJ13_bitCount 36 = .ok (.bipush 8, 2) := dk_16 8 (dk_at dksJ13_bitCount_1 12 rfl rfl)
theorem dJ13_bitCount_38 : decode cJ13_bitCount 38 = .ok (.iushr, 1) := dk_124 (dk_at dksJ13_bitCount_1 14 rfl rfl)
theorem dJ13_bitCount_39 : decode cJ13_bitCount 39 = .ok (.iadd, 1) := dk_96 (dk_at dksJ13_bitCount_1 15 rfl rfl)
theorem dJ13_bitCount_40 : decode cJ13_bitCount 40 = .ok (.istore_n 0, 1) := dk_59 (dk_at dksJ13_bitCount_1 16 rfl rfl)
theorem dJ13_bitCount_41 : decode cJ13_bitCount 41 = .ok (.iload_n 0, 1) := dk_26 (dk_at dksJ13_bitCount_1 17 rfl rfl)
theorem dJ13_bitCount_42 : decode cJ13_bitCount 42 = .ok (.iload_n 0, 1) := dk_26 (dk_at dksJ13_bitCount_1 18 rfl rfl)
theorem dJ13_bitCount_43 : decode cJ13_bitCount 43 = .ok (.bipush 16, 2) := dk_16 16 (dk_at dksJ13_bitCount_1 19 rfl rfl)
theorem dJ13_bitCount_45 : decode cJ13_bitCount 45 = .ok (.iushr, 1) := dk_124 (dk_at dksJ13_bitCount_1 21 rfl rfl)
theorem dJ13_bitCount_46 : decode cJ13_bitCount 46 = .ok (.iadd, 1) := dk_96 (dk_at dksJ13_bitCount_1 22 rfl rfl)
theorem dJ13_bitCount_47 : decode cJ13_bitCount 47 = .ok (.istore_n 0, 1) := dk_59 (dk_at dksJ13_bitCount_1 23 rfl rfl)
theorem dJ13_bitCount_48 : decode cJ13_bitCount 48 = .ok (.iload_n 0, 1) := dk_26 (dk_at dksJ13_bitCount_2 0 rfl rfl)
theorem dJ13_bitCount_49 : decode cJ13_bitCount 49 = .ok (.bipush 63, 2) := dk_16 63 (dk_at dksJ13_bitCount_2 1 rfl rfl)
theorem dJ13_bitCount_51 : decode cJ13_bitCount 51 = .ok (.iand, 1) := dk_126 (dk_at dksJ13_bitCount_2 3 rfl rfl)
theorem dJ13_bitCount_52 : decode cJ13_bitCount 52 = .ok (.ireturn, 1) := dk_172 (dk_at dksJ13_bitCount_2 4 rfl rfl)
theorem q118 : (Jvm.Cond.initialized "java/lang/Integer") ∈ lw_all := lw_g (lw_at lw_m1 27 rfl) rfl
theorem q809 : (Jvm.Cond.static ({ cls := "java/lang/Integer", name := "bitCount", desc := "(I)I" } : Jvm.MethodName)) ∈ lw_all := lw_g (lw_at lw_m3 238 rfl) rfl
theorem q810 : (Jvm.Cond.code ({ cls := "java/lang/Integer", name := "bitCount", desc := "(I)I" } : Jvm.MethodName) prog_37_method_49_code (1 : Nat) (Option.some Jvm.ClassFile.FieldType.int)) ∈ lw_all := lw_g (lw_at lw_m3 239 rfl) rfl
theorem q811 : (Jvm.Cond.constant "java/lang/Integer" (265 : Nat) (1431655765 : Int32)) ∈ lw_all := lw_g (lw_at lw_m4 0 rfl) rfl
theorem q812 : (Jvm.Cond.constant "java/lang/Integer" (266 : Nat) (858993459 : Int32)) ∈ lw_all := lw_g (lw_at lw_m4 1 rfl) rfl
theorem q813 : (Jvm.Cond.constant "java/lang/Integer" (267 : Nat) (252645135 : Int32)) ∈ lw_all := lw_g (lw_at lw_m4 2 rfl) rfl
/-! java/lang/NegativeArraySizeException -/
set_option maxRecDepth 100000
def RJ14 : String := "java/lang/NegativeArraySizeException"
def TJ14 : u_T := fun k => match k with
  | 0 => ("java/lang/Throwable", "backtrace", "Ljava/lang/Object;", false)
  | 1 => ("java/lang/Throwable", "detailMessage", "Ljava/lang/String;", false)
  | 2 => ("java/lang/Throwable", "cause", "Ljava/lang/Throwable;", false)
  | 3 => ("java/lang/Throwable", "stackTrace", "[Ljava/lang/StackTraceElement;", false)
  | 4 => ("java/lang/Throwable", "depth", "I", false)
  | _ => ("java/lang/Throwable", "suppressedExceptions", "Ljava/util/List;", false)
def tyJ14 : Nat → FieldType := fun k => match k with
  | 0 => .object "java/lang/Object"
  | 1 => .object "java/lang/String"
  | 2 => .object "java/lang/Throwable"
  | 3 => .array (.object "java/lang/StackTraceElement")
  | 4 => .int
  | _ => .object "java/util/List"
abbrev wsJ140 : List Cond := u_ws RJ14 TJ14 6
theorem nmJ14 : ∀ a, a < 6 → ∀ b, b < 6 → a ≠ b → (TJ14 a).2.1 ≠ (TJ14 b).2.1 := by decide +kernel
theorem tyJ14_ok : ∀ k, k < 6 → parseFieldDescriptor (TJ14 k).2.2.1 = some (tyJ14 k) := by decide +kernel
abbrev cJ14_init : ByteArray := prog_39_method_2_code
def yJ14_init : MethodName := ⟨RJ14, "<init>", "(Ljava/lang/String;)V"⟩
def dkwJ14_init_0 : List UInt8 := [42, 43, 183, 0, 7, 177]
abbrev dktJ14_init_0 : List UInt8 := dkwJ14_init_0 ++ []
theorem dksJ14_init_0 : cJ14_init.data.toList.drop 0 = dktJ14_init_0 := by decide +kernel
theorem dJ14_init_0 : decode cJ14_init 0 = .ok (.aload_n 0, 1) := dk_42 (dk_at dksJ14_init_0 0 rfl rfl)
theorem dJ14_init_1 : decode cJ14_init 1 = .ok (.aload_n 1, 1) := dk_43 (dk_at dksJ14_init_0 1 rfl rfl)
theorem dJ14_init_2 : decode cJ14_init 2 = .ok (.invokespecial 7, 3) := dk_183 0 7 (dk_at dksJ14_init_0 2 rfl rfl)
theorem dJ14_init_5 : decode cJ14_init 5 = .ok (.return_, 1) := dk_177 (dk_at dksJ14_init_0 5 rfl rfl)
theorem q128 : (Jvm.Cond.initialized "java/lang/NegativeArraySizeException") ∈ lw_all := lw_g (lw_at lw_m1 37 rfl) rfl
theorem q359 : (Jvm.Cond.selects "java/lang/NegativeArraySizeException" ({ cls := "java/lang/Throwable", name := "fillInStackTrace", desc := "()Ljava/lang/Throwable;" } : Jvm.MethodName) ({ cls := "java/lang/Throwable", name := "fillInStackTrace", desc := "()Ljava/lang/Throwable;" } : Jvm.MethodName)) ∈ lw_all := lw_g (lw_at lw_m2 28 rfl) rfl
theorem q1301 : (Jvm.Cond.instantiable "java/lang/NegativeArraySizeException" (6 : Nat)) ∈ lw_all := lw_g (lw_at lw_m6 10 rfl) rfl
theorem q1302 : (Jvm.Cond.instanceMethod ({ cls := "java/lang/NegativeArraySizeException", name := "<init>", desc := "(Ljava/lang/String;)V" } : Jvm.MethodName)) ∈ lw_all := lw_g (lw_at lw_m6 11 rfl) rfl
theorem q1303 : (Jvm.Cond.code ({ cls := "java/lang/NegativeArraySizeException", name := "<init>", desc := "(Ljava/lang/String;)V" } : Jvm.MethodName) prog_39_method_2_code (2 : Nat) (Option.none : Option Jvm.ClassFile.FieldType)) ∈ lw_all := lw_g (lw_at lw_m6 12 rfl) rfl
theorem q1304 : (Jvm.Cond.methodLink "java/lang/NegativeArraySizeException" (7 : Nat) ({ cls := "java/lang/RuntimeException", name := "<init>", desc := "(Ljava/lang/String;)V" } : Jvm.MethodName)) ∈ lw_all := lw_g (lw_at lw_m6 13 rfl) rfl
theorem q1305 : (Jvm.Cond.lays "java/lang/NegativeArraySizeException" "java/lang/Throwable" "backtrace" "Ljava/lang/Object;") ∈ lw_all := lw_g (lw_at lw_m6 14 rfl) rfl
theorem q1306 : (Jvm.Cond.lays "java/lang/NegativeArraySizeException" "java/lang/Throwable" "detailMessage" "Ljava/lang/String;") ∈ lw_all := lw_g (lw_at lw_m6 15 rfl) rfl
theorem q1307 : (Jvm.Cond.lays "java/lang/NegativeArraySizeException" "java/lang/Throwable" "cause" "Ljava/lang/Throwable;") ∈ lw_all := lw_g (lw_at lw_m6 16 rfl) rfl
theorem q1308 : (Jvm.Cond.lays "java/lang/NegativeArraySizeException" "java/lang/Throwable" "stackTrace" "[Ljava/lang/StackTraceElement;") ∈ lw_all := lw_g (lw_at lw_m6 17 rfl) rfl
theorem q1309 : (Jvm.Cond.lays "java/lang/NegativeArraySizeException" "java/lang/Throwable" "depth" "I") ∈ lw_all := lw_g (lw_at lw_m6 18 rfl) rfl
theorem q1310 : (Jvm.Cond.lays "java/lang/NegativeArraySizeException" "java/lang/Throwable" "suppressedExceptions" "Ljava/util/List;") ∈ lw_all := lw_g (lw_at lw_m6 19 rfl) rfl
theorem q1311 : (Jvm.Cond.superclass "java/lang/NegativeArraySizeException" "java/lang/RuntimeException") ∈ lw_all := lw_g (lw_at lw_m6 20 rfl) rfl
theorem q1312 : (Jvm.Cond.castable "java/lang/NegativeArraySizeException" "java/lang/NegativeArraySizeException") ∈ lw_tbl := lw_at lw_m6 21 rfl
theorem q1313 : (Jvm.Cond.selects "java/lang/NegativeArraySizeException" ({ cls := "java/lang/Throwable", name := "fillInStackTrace", desc := "(I)Ljava/lang/Throwable;" } : Jvm.MethodName) ({ cls := "java/lang/Throwable", name := "fillInStackTrace", desc := "(I)Ljava/lang/Throwable;" } : Jvm.MethodName)) ∈ lw_all := lw_g (lw_at lw_m6 22 rfl) rfl
theorem in_J14 : ∀ w ∈ wsJ140, w ∈ lw_all := lw_in wsJ140 [1305, 1306, 1307, 1308, 1309, 1310] (by decide +kernel) (by decide +kernel)
/-! java/lang/Object -/
set_option maxRecDepth 100000
def RJ15 : String := "java/lang/Object"
abbrev cJ15_init : ByteArray := object_method_1_code
def yJ15_init : MethodName := ⟨RJ15, "<init>", "()V"⟩
theorem dJ15_init_0 : decode cJ15_init 0 = .ok (.return_, 1) := by decide +kernel
theorem q142 : (Jvm.Cond.instanceMethod ({ cls := "java/lang/Object", name := "<init>", desc := "()V" } : Jvm.MethodName)) ∈ lw_all := lw_g (lw_at lw_m1 51 rfl) rfl
theorem q143 : (Jvm.Cond.code ({ cls := "java/lang/Object", name := "<init>", desc := "()V" } : Jvm.MethodName) object_method_1_code (1 : Nat) (Option.none : Option Jvm.ClassFile.FieldType)) ∈ lw_all := lw_g (lw_at lw_m1 52 rfl) rfl
theorem q91 : (Jvm.Cond.initialized "ThreeSnowballsLaw") ∈ lw_all := lw_g (lw_at lw_m1 0 rfl) rfl
set_option maxRecDepth 100000
theorem q136 : (Jvm.Cond.classLink "ThreeSnowballsLaw" (7 : Nat) "ThreeSnowballs") ∈ lw_all := lw_g (lw_at lw_m1 45 rfl) rfl
theorem q138 : (Jvm.Cond.methodLink "ThreeSnowballsLaw" (9 : Nat) ({ cls := "ThreeSnowballs", name := "<init>", desc := "()V" } : Jvm.MethodName)) ∈ lw_all := lw_g (lw_at lw_m1 47 rfl) rfl
theorem q293 : (Jvm.Cond.methodLink "ThreeSnowballsLaw" (13 : Nat) ({ cls := "ThreeSnowballs", name := "player", desc := "(II)I" } : Jvm.MethodName)) ∈ lw_all := lw_g (lw_at lw_m1 202 rfl) rfl
theorem q332 : (Jvm.Cond.methodLink "ThreeSnowballsLaw" (18 : Nat) ({ cls := "ThreeSnowballs", name := "players", desc := "(III)I" } : Jvm.MethodName)) ∈ lw_all := lw_g (lw_at lw_m2 1 rfl) rfl
theorem q472 : (Jvm.Cond.methodLink "ThreeSnowballsLaw" (27 : Nat) ({ cls := "ThreeSnowballs", name := "order", desc := "(I)I" } : Jvm.MethodName)) ∈ lw_all := lw_g (lw_at lw_m2 141 rfl) rfl
theorem q483 : (Jvm.Cond.methodLink "ThreeSnowballsLaw" (32 : Nat) ({ cls := "ThreeSnowballs", name := "bell", desc := "(I)I" } : Jvm.MethodName)) ∈ lw_all := lw_g (lw_at lw_m2 152 rfl) rfl
theorem q487 : (Jvm.Cond.methodLink "ThreeSnowballsLaw" (36 : Nat) ({ cls := "ThreeSnowballs", name := "prize", desc := "(II)I" } : Jvm.MethodName)) ∈ lw_all := lw_g (lw_at lw_m2 156 rfl) rfl
theorem q491 : (Jvm.Cond.methodLink "ThreeSnowballsLaw" (40 : Nat) ({ cls := "ThreeSnowballs", name := "of", desc := "(II)I" } : Jvm.MethodName)) ∈ lw_all := lw_g (lw_at lw_m2 160 rfl) rfl
theorem q499 : (Jvm.Cond.methodLink "ThreeSnowballsLaw" (131 : Nat) ({ cls := "ThreeSnowballs", name := "undo", desc := "()I" } : Jvm.MethodName)) ∈ lw_all := lw_g (lw_at lw_m2 168 rfl) rfl
theorem q507 : (Jvm.Cond.methodLink "ThreeSnowballsLaw" (135 : Nat) ({ cls := "ThreeSnowballs", name := "redo", desc := "()I" } : Jvm.MethodName)) ∈ lw_all := lw_g (lw_at lw_m2 176 rfl) rfl
theorem q511 : (Jvm.Cond.methodLink "ThreeSnowballsLaw" (23 : Nat) ({ cls := "ThreeSnowballs", name := "mend", desc := "(III)I" } : Jvm.MethodName)) ∈ lw_all := lw_g (lw_at lw_m2 180 rfl) rfl
theorem q542 : (Jvm.Cond.methodLink "ThreeSnowballsLaw" (44 : Nat) ({ cls := "ThreeSnowballs", name := "feed", desc := "(I)I" } : Jvm.MethodName)) ∈ lw_all := lw_g (lw_at lw_m2 211 rfl) rfl
theorem q546 : (Jvm.Cond.methodLink "ThreeSnowballsLaw" (48 : Nat) ({ cls := "ThreeSnowballs", name := "law", desc := "()I" } : Jvm.MethodName)) ∈ lw_all := lw_g (lw_at lw_m2 215 rfl) rfl
theorem q791 : (Jvm.Cond.methodLink "ThreeSnowballsLaw" (53 : Nat) ({ cls := "ThreeSnowballs", name := "worth", desc := "(III)J" } : Jvm.MethodName)) ∈ lw_all := lw_g (lw_at lw_m3 220 rfl) rfl
theorem q901 : (Jvm.Cond.methodLink "ThreeSnowballsLaw" (58 : Nat) ({ cls := "ThreeSnowballs", name := "just", desc := "(II)J" } : Jvm.MethodName)) ∈ lw_all := lw_g (lw_at lw_m4 90 rfl) rfl
theorem q909 : (Jvm.Cond.methodLink "ThreeSnowballsLaw" (63 : Nat) ({ cls := "ThreeSnowballs", name := "aims", desc := "(III)I" } : Jvm.MethodName)) ∈ lw_all := lw_g (lw_at lw_m4 98 rfl) rfl
theorem q913 : (Jvm.Cond.methodLink "ThreeSnowballsLaw" (67 : Nat) ({ cls := "ThreeSnowballs", name := "begin", desc := "(I)I" } : Jvm.MethodName)) ∈ lw_all := lw_g (lw_at lw_m4 102 rfl) rfl
theorem q917 : (Jvm.Cond.methodLink "ThreeSnowballsLaw" (71 : Nat) ({ cls := "ThreeSnowballs", name := "fair", desc := "()I" } : Jvm.MethodName)) ∈ lw_all := lw_g (lw_at lw_m4 106 rfl) rfl
theorem q932 : (Jvm.Cond.methodLink "ThreeSnowballsLaw" (75 : Nat) ({ cls := "ThreeSnowballs", name := "would", desc := "(I)I" } : Jvm.MethodName)) ∈ lw_all := lw_g (lw_at lw_m4 121 rfl) rfl
theorem q940 : (Jvm.Cond.methodLink "ThreeSnowballsLaw" (79 : Nat) ({ cls := "ThreeSnowballs", name := "rest", desc := "()I" } : Jvm.MethodName)) ∈ lw_all := lw_g (lw_at lw_m4 129 rfl) rfl
theorem q948 : (Jvm.Cond.methodLink "ThreeSnowballsLaw" (83 : Nat) ({ cls := "ThreeSnowballs", name := "settle", desc := "(I)I" } : Jvm.MethodName)) ∈ lw_all := lw_g (lw_at lw_m4 137 rfl) rfl
theorem q952 : (Jvm.Cond.methodLink "ThreeSnowballsLaw" (87 : Nat) ({ cls := "ThreeSnowballs", name := "even", desc := "(I)I" } : Jvm.MethodName)) ∈ lw_all := lw_g (lw_at lw_m4 141 rfl) rfl
theorem q960 : (Jvm.Cond.methodLink "ThreeSnowballsLaw" (91 : Nat) ({ cls := "ThreeSnowballs", name := "league", desc := "(I)I" } : Jvm.MethodName)) ∈ lw_all := lw_g (lw_at lw_m4 149 rfl) rfl
theorem q972 : (Jvm.Cond.methodLink "ThreeSnowballsLaw" (95 : Nat) ({ cls := "ThreeSnowballs", name := "points", desc := "(I)I" } : Jvm.MethodName)) ∈ lw_all := lw_g (lw_at lw_m4 161 rfl) rfl
theorem q976 : (Jvm.Cond.methodLink "ThreeSnowballsLaw" (99 : Nat) ({ cls := "ThreeSnowballs", name := "judge", desc := "(II)I" } : Jvm.MethodName)) ∈ lw_all := lw_g (lw_at lw_m4 165 rfl) rfl
theorem q996 : (Jvm.Cond.methodLink "ThreeSnowballsLaw" (103 : Nat) ({ cls := "ThreeSnowballs", name := "chance", desc := "(II)J" } : Jvm.MethodName)) ∈ lw_all := lw_g (lw_at lw_m4 185 rfl) rfl
theorem q1000 : (Jvm.Cond.methodLink "ThreeSnowballsLaw" (107 : Nat) ({ cls := "ThreeSnowballs", name := "seen", desc := "(II)I" } : Jvm.MethodName)) ∈ lw_all := lw_g (lw_at lw_m4 189 rfl) rfl
theorem q1007 : (Jvm.Cond.methodLink "ThreeSnowballsLaw" (111 : Nat) ({ cls := "ThreeSnowballs", name := "drawn", desc := "(III)I" } : Jvm.MethodName)) ∈ lw_all := lw_g (lw_at lw_m4 196 rfl) rfl
theorem q1012 : (Jvm.Cond.methodLink "ThreeSnowballsLaw" (119 : Nat) ({ cls := "ThreeSnowballs", name := "anew", desc := "()I" } : Jvm.MethodName)) ∈ lw_all := lw_g (lw_at lw_m4 201 rfl) rfl
theorem q1016 : (Jvm.Cond.methodLink "ThreeSnowballsLaw" (115 : Nat) ({ cls := "ThreeSnowballs", name := "step", desc := "(I)I" } : Jvm.MethodName)) ∈ lw_all := lw_g (lw_at lw_m4 205 rfl) rfl
theorem q1020 : (Jvm.Cond.methodLink "ThreeSnowballsLaw" (123 : Nat) ({ cls := "ThreeSnowballs", name := "image", desc := "()I" } : Jvm.MethodName)) ∈ lw_all := lw_g (lw_at lw_m4 209 rfl) rfl
theorem q1024 : (Jvm.Cond.methodLink "ThreeSnowballsLaw" (127 : Nat) ({ cls := "ThreeSnowballs", name := "back", desc := "()I" } : Jvm.MethodName)) ∈ lw_all := lw_g (lw_at lw_m4 213 rfl) rfl
theorem q1028 : (Jvm.Cond.methodLink "ThreeSnowballsLaw" (139 : Nat) ({ cls := "ThreeSnowballs", name := "body", desc := "(I)I" } : Jvm.MethodName)) ∈ lw_all := lw_g (lw_at lw_m4 217 rfl) rfl
theorem q1141 : (Jvm.Cond.methodLink "ThreeSnowballsLaw" (143 : Nat) ({ cls := "ThreeSnowballs", name := "act", desc := "(III)I" } : Jvm.MethodName)) ∈ lw_all := lw_g (lw_at lw_m5 90 rfl) rfl
theorem q1288 : (Jvm.Cond.methodLink "ThreeSnowballsLaw" (147 : Nat) ({ cls := "ThreeSnowballs", name := "trace", desc := "(I)I" } : Jvm.MethodName)) ∈ lw_all := lw_g (lw_at lw_m5 237 rfl) rfl
theorem q1292 : (Jvm.Cond.methodLink "ThreeSnowballsLaw" (151 : Nat) ({ cls := "ThreeSnowballs", name := "keep", desc := "(II)I" } : Jvm.MethodName)) ∈ lw_all := lw_g (lw_at lw_m6 1 rfl) rfl
theorem q1296 : (Jvm.Cond.methodLink "ThreeSnowballsLaw" (155 : Nat) ({ cls := "ThreeSnowballs", name := "row", desc := "(III)I" } : Jvm.MethodName)) ∈ lw_all := lw_g (lw_at lw_m6 5 rfl) rfl
theorem q1371 : (Jvm.Cond.methodLink "ThreeSnowballsLaw" (161 : Nat) ({ cls := "ThreeSnowballs", name := "put", desc := "(IIJ)I" } : Jvm.MethodName)) ∈ lw_all := lw_g (lw_at lw_m6 80 rfl) rfl
theorem q1394 : (Jvm.Cond.methodLink "ThreeSnowballsLaw" (166 : Nat) ({ cls := "ThreeSnowballs", name := "element", desc := "(II)J" } : Jvm.MethodName)) ∈ lw_all := lw_g (lw_at lw_m6 103 rfl) rfl
theorem q1414 : (Jvm.Cond.methodLink "ThreeSnowballsLaw" (170 : Nat) ({ cls := "ThreeSnowballs", name := "shift", desc := "(IIIII)I" } : Jvm.MethodName)) ∈ lw_all := lw_g (lw_at lw_m6 123 rfl) rfl
theorem q1448 : (Jvm.Cond.methodLink "ThreeSnowballsLaw" (175 : Nat) ({ cls := "ThreeSnowballs", name := "taken", desc := "(II)I" } : Jvm.MethodName)) ∈ lw_all := lw_g (lw_at lw_m6 157 rfl) rfl
theorem q1503 : (Jvm.Cond.methodLink "ThreeSnowballsLaw" (179 : Nat) ({ cls := "ThreeSnowballs", name := "count", desc := "(I)I" } : Jvm.MethodName)) ∈ lw_all := lw_g (lw_at lw_m6 212 rfl) rfl
theorem q1507 : (Jvm.Cond.classLink "ThreeSnowballsLaw" (10 : Nat) "ThreeSnowballsModel") ∈ lw_all := lw_g (lw_at lw_m6 216 rfl) rfl
theorem q1509 : (Jvm.Cond.methodLink "ThreeSnowballsLaw" (12 : Nat) ({ cls := "ThreeSnowballsModel", name := "<init>", desc := "()V" } : Jvm.MethodName)) ∈ lw_all := lw_g (lw_at lw_m6 218 rfl) rfl
theorem q1664 : (Jvm.Cond.methodLink "ThreeSnowballsLaw" (134 : Nat) ({ cls := "ThreeSnowballsModel", name := "undo", desc := "()I" } : Jvm.MethodName)) ∈ lw_all := lw_g (lw_at lw_m7 133 rfl) rfl
theorem q1668 : (Jvm.Cond.methodLink "ThreeSnowballsLaw" (138 : Nat) ({ cls := "ThreeSnowballsModel", name := "redo", desc := "()I" } : Jvm.MethodName)) ∈ lw_all := lw_g (lw_at lw_m7 137 rfl) rfl
theorem q1672 : (Jvm.Cond.methodLink "ThreeSnowballsLaw" (17 : Nat) ({ cls := "ThreeSnowballsModel", name := "player", desc := "(II)I" } : Jvm.MethodName)) ∈ lw_all := lw_g (lw_at lw_m7 141 rfl) rfl
theorem q1696 : (Jvm.Cond.methodLink "ThreeSnowballsLaw" (22 : Nat) ({ cls := "ThreeSnowballsModel", name := "players", desc := "(III)I" } : Jvm.MethodName)) ∈ lw_all := lw_g (lw_at lw_m7 165 rfl) rfl
theorem q1704 : (Jvm.Cond.methodLink "ThreeSnowballsLaw" (26 : Nat) ({ cls := "ThreeSnowballsModel", name := "mend", desc := "(III)I" } : Jvm.MethodName)) ∈ lw_all := lw_g (lw_at lw_m7 173 rfl) rfl
theorem q1717 : (Jvm.Cond.methodLink "ThreeSnowballsLaw" (31 : Nat) ({ cls := "ThreeSnowballsModel", name := "order", desc := "(I)I" } : Jvm.MethodName)) ∈ lw_all := lw_g (lw_at lw_m7 186 rfl) rfl
theorem q1724 : (Jvm.Cond.methodLink "ThreeSnowballsLaw" (35 : Nat) ({ cls := "ThreeSnowballsModel", name := "bell", desc := "(I)I" } : Jvm.MethodName)) ∈ lw_all := lw_g (lw_at lw_m7 193 rfl) rfl
theorem q1729 : (Jvm.Cond.methodLink "ThreeSnowballsLaw" (39 : Nat) ({ cls := "ThreeSnowballsModel", name := "prize", desc := "(II)I" } : Jvm.MethodName)) ∈ lw_all := lw_g (lw_at lw_m7 198 rfl) rfl
theorem q1733 : (Jvm.Cond.methodLink "ThreeSnowballsLaw" (43 : Nat) ({ cls := "ThreeSnowballsModel", name := "of", desc := "(II)I" } : Jvm.MethodName)) ∈ lw_all := lw_g (lw_at lw_m7 202 rfl) rfl
theorem q1737 : (Jvm.Cond.methodLink "ThreeSnowballsLaw" (47 : Nat) ({ cls := "ThreeSnowballsModel", name := "feed", desc := "(I)I" } : Jvm.MethodName)) ∈ lw_all := lw_g (lw_at lw_m7 206 rfl) rfl
theorem q1742 : (Jvm.Cond.methodLink "ThreeSnowballsLaw" (52 : Nat) ({ cls := "ThreeSnowballsModel", name := "law", desc := "()I" } : Jvm.MethodName)) ∈ lw_all := lw_g (lw_at lw_m7 211 rfl) rfl
theorem q1789 : (Jvm.Cond.methodLink "ThreeSnowballsLaw" (57 : Nat) ({ cls := "ThreeSnowballsModel", name := "worth", desc := "(III)J" } : Jvm.MethodName)) ∈ lw_all := lw_g (lw_at lw_m8 18 rfl) rfl
theorem q1868 : (Jvm.Cond.methodLink "ThreeSnowballsLaw" (62 : Nat) ({ cls := "ThreeSnowballsModel", name := "just", desc := "(II)J" } : Jvm.MethodName)) ∈ lw_all := lw_g (lw_at lw_m8 97 rfl) rfl
theorem q1873 : (Jvm.Cond.methodLink "ThreeSnowballsLaw" (66 : Nat) ({ cls := "ThreeSnowballsModel", name := "aims", desc := "(III)I" } : Jvm.MethodName)) ∈ lw_all := lw_g (lw_at lw_m8 102 rfl) rfl
theorem q1877 : (Jvm.Cond.methodLink "ThreeSnowballsLaw" (70 : Nat) ({ cls := "ThreeSnowballsModel", name := "begin", desc := "(I)I" } : Jvm.MethodName)) ∈ lw_all := lw_g (lw_at lw_m8 106 rfl) rfl
theorem q1881 : (Jvm.Cond.methodLink "ThreeSnowballsLaw" (74 : Nat) ({ cls := "ThreeSnowballsModel", name := "fair", desc := "()I" } : Jvm.MethodName)) ∈ lw_all := lw_g (lw_at lw_m8 110 rfl) rfl
theorem q1885 : (Jvm.Cond.methodLink "ThreeSnowballsLaw" (78 : Nat) ({ cls := "ThreeSnowballsModel", name := "would", desc := "(I)I" } : Jvm.MethodName)) ∈ lw_all := lw_g (lw_at lw_m8 114 rfl) rfl
theorem q1893 : (Jvm.Cond.methodLink "ThreeSnowballsLaw" (82 : Nat) ({ cls := "ThreeSnowballsModel", name := "rest", desc := "()I" } : Jvm.MethodName)) ∈ lw_all := lw_g (lw_at lw_m8 122 rfl) rfl
theorem q1897 : (Jvm.Cond.methodLink "ThreeSnowballsLaw" (86 : Nat) ({ cls := "ThreeSnowballsModel", name := "settle", desc := "(I)I" } : Jvm.MethodName)) ∈ lw_all := lw_g (lw_at lw_m8 126 rfl) rfl
theorem q1902 : (Jvm.Cond.methodLink "ThreeSnowballsLaw" (90 : Nat) ({ cls := "ThreeSnowballsModel", name := "even", desc := "(I)I" } : Jvm.MethodName)) ∈ lw_all := lw_g (lw_at lw_m8 131 rfl) rfl
theorem q1906 : (Jvm.Cond.methodLink "ThreeSnowballsLaw" (94 : Nat) ({ cls := "ThreeSnowballsModel", name := "league", desc := "(I)I" } : Jvm.MethodName)) ∈ lw_all := lw_g (lw_at lw_m8 135 rfl) rfl
theorem q1914 : (Jvm.Cond.methodLink "ThreeSnowballsLaw" (98 : Nat) ({ cls := "ThreeSnowballsModel", name := "points", desc := "(I)I" } : Jvm.MethodName)) ∈ lw_all := lw_g (lw_at lw_m8 143 rfl) rfl
theorem q1918 : (Jvm.Cond.methodLink "ThreeSnowballsLaw" (102 : Nat) ({ cls := "ThreeSnowballsModel", name := "judge", desc := "(II)I" } : Jvm.MethodName)) ∈ lw_all := lw_g (lw_at lw_m8 147 rfl) rfl
theorem q1930 : (Jvm.Cond.methodLink "ThreeSnowballsLaw" (106 : Nat) ({ cls := "ThreeSnowballsModel", name := "chance", desc := "(II)J" } : Jvm.MethodName)) ∈ lw_all := lw_g (lw_at lw_m8 159 rfl) rfl
theorem q1934 : (Jvm.Cond.methodLink "ThreeSnowballsLaw" (110 : Nat) ({ cls := "ThreeSnowballsModel", name := "seen", desc := "(II)I" } : Jvm.MethodName)) ∈ lw_all := lw_g (lw_at lw_m8 163 rfl) rfl
theorem q1938 : (Jvm.Cond.methodLink "ThreeSnowballsLaw" (114 : Nat) ({ cls := "ThreeSnowballsModel", name := "drawn", desc := "(III)I" } : Jvm.MethodName)) ∈ lw_all := lw_g (lw_at lw_m8 167 rfl) rfl
theorem q1944 : (Jvm.Cond.methodLink "ThreeSnowballsLaw" (118 : Nat) ({ cls := "ThreeSnowballsModel", name := "step", desc := "(I)I" } : Jvm.MethodName)) ∈ lw_all := lw_g (lw_at lw_m8 173 rfl) rfl
theorem q1949 : (Jvm.Cond.methodLink "ThreeSnowballsLaw" (122 : Nat) ({ cls := "ThreeSnowballsModel", name := "anew", desc := "()I" } : Jvm.MethodName)) ∈ lw_all := lw_g (lw_at lw_m8 178 rfl) rfl
theorem q1953 : (Jvm.Cond.methodLink "ThreeSnowballsLaw" (126 : Nat) ({ cls := "ThreeSnowballsModel", name := "image", desc := "()I" } : Jvm.MethodName)) ∈ lw_all := lw_g (lw_at lw_m8 182 rfl) rfl
theorem q1957 : (Jvm.Cond.methodLink "ThreeSnowballsLaw" (130 : Nat) ({ cls := "ThreeSnowballsModel", name := "back", desc := "()I" } : Jvm.MethodName)) ∈ lw_all := lw_g (lw_at lw_m8 186 rfl) rfl
theorem q1961 : (Jvm.Cond.methodLink "ThreeSnowballsLaw" (142 : Nat) ({ cls := "ThreeSnowballsModel", name := "body", desc := "(I)I" } : Jvm.MethodName)) ∈ lw_all := lw_g (lw_at lw_m8 190 rfl) rfl
theorem q1966 : (Jvm.Cond.methodLink "ThreeSnowballsLaw" (146 : Nat) ({ cls := "ThreeSnowballsModel", name := "act", desc := "(III)I" } : Jvm.MethodName)) ∈ lw_all := lw_g (lw_at lw_m8 195 rfl) rfl
theorem q1994 : (Jvm.Cond.methodLink "ThreeSnowballsLaw" (150 : Nat) ({ cls := "ThreeSnowballsModel", name := "trace", desc := "(I)I" } : Jvm.MethodName)) ∈ lw_all := lw_g (lw_at lw_m8 223 rfl) rfl
theorem q1998 : (Jvm.Cond.methodLink "ThreeSnowballsLaw" (154 : Nat) ({ cls := "ThreeSnowballsModel", name := "keep", desc := "(II)I" } : Jvm.MethodName)) ∈ lw_all := lw_g (lw_at lw_m8 227 rfl) rfl
theorem q2002 : (Jvm.Cond.methodLink "ThreeSnowballsLaw" (158 : Nat) ({ cls := "ThreeSnowballsModel", name := "row", desc := "(III)I" } : Jvm.MethodName)) ∈ lw_all := lw_g (lw_at lw_m8 231 rfl) rfl
theorem q2006 : (Jvm.Cond.methodLink "ThreeSnowballsLaw" (165 : Nat) ({ cls := "ThreeSnowballsModel", name := "put", desc := "(IIJ)I" } : Jvm.MethodName)) ∈ lw_all := lw_g (lw_at lw_m8 235 rfl) rfl
theorem q2017 : (Jvm.Cond.methodLink "ThreeSnowballsLaw" (169 : Nat) ({ cls := "ThreeSnowballsModel", name := "element", desc := "(II)J" } : Jvm.MethodName)) ∈ lw_all := lw_g (lw_at lw_m9 6 rfl) rfl
theorem q2021 : (Jvm.Cond.methodLink "ThreeSnowballsLaw" (174 : Nat) ({ cls := "ThreeSnowballsModel", name := "shift", desc := "(IIIII)I" } : Jvm.MethodName)) ∈ lw_all := lw_g (lw_at lw_m9 10 rfl) rfl
theorem q2025 : (Jvm.Cond.methodLink "ThreeSnowballsLaw" (178 : Nat) ({ cls := "ThreeSnowballsModel", name := "taken", desc := "(II)I" } : Jvm.MethodName)) ∈ lw_all := lw_g (lw_at lw_m9 14 rfl) rfl
theorem q2036 : (Jvm.Cond.methodLink "ThreeSnowballsLaw" (182 : Nat) ({ cls := "ThreeSnowballsModel", name := "count", desc := "(I)I" } : Jvm.MethodName)) ∈ lw_all := lw_g (lw_at lw_m9 25 rfl) rfl
theorem q2040 : (Jvm.Cond.constantLong "ThreeSnowballsLaw" (159 : Nat) (4294967295 : Int64)) ∈ lw_all := lw_g (lw_at lw_m9 29 rfl) rfl
theorem q1151 : (Jvm.Cond.interfaceMethod "ThreeSnowballs$Aims" "ThreeSnowballs$Aims" "aiming" "(I)I") ∈ lw_tbl := lw_at lw_m5 100 rfl
set_option maxRecDepth 100000
theorem q1152 : (Jvm.Cond.declares ({ cls := "ThreeSnowballs$Aims", name := "aiming", desc := "(I)I" } : Jvm.MethodName)) ∈ lw_tbl := lw_at lw_m5 101 rfl
theorem q1196 : (Jvm.Cond.interfaceMethod "ThreeSnowballs$Tells" "ThreeSnowballs$Tells" "tells" "(I)I") ∈ lw_tbl := lw_at lw_m5 145 rfl
set_option maxRecDepth 100000
theorem q1197 : (Jvm.Cond.declares ({ cls := "ThreeSnowballs$Tells", name := "tells", desc := "(I)I" } : Jvm.MethodName)) ∈ lw_tbl := lw_at lw_m5 146 rfl
theorem q135 : (Jvm.Cond.initialized "java/lang/System") ∈ lw_all := lw_g (lw_at lw_m1 44 rfl) rfl
set_option maxRecDepth 100000
theorem q1426 : (Jvm.Cond.static ({ cls := "java/lang/System", name := "arraycopy", desc := "(Ljava/lang/Object;ILjava/lang/Object;II)V" } : Jvm.MethodName)) ∈ lw_all := lw_g (lw_at lw_m6 135 rfl) rfl
theorem q1427 : (Jvm.Cond.native ({ cls := "java/lang/System", name := "arraycopy", desc := "(Ljava/lang/Object;ILjava/lang/Object;II)V" } : Jvm.MethodName)) ∈ lw_all := lw_g (lw_at lw_m6 136 rfl) rfl
theorem q145 : (Jvm.Cond.arrayOver (Jvm.ClassFile.FieldType.object "ThreeSnowballs$Player")) ∈ lw_tbl := lw_at lw_m1 54 rfl
set_option maxRecDepth 100000
theorem q147 : (Jvm.Cond.arrayOver (Jvm.ClassFile.FieldType.object "ThreeSnowballs$Change")) ∈ lw_tbl := lw_at lw_m1 56 rfl
theorem q160 : (Jvm.Cond.arrayClass Jvm.ClassFile.FieldType.int) ∈ lw_all := lw_g (lw_at lw_m1 69 rfl) rfl
theorem q161 : (Jvm.Cond.arrayClass Jvm.ClassFile.FieldType.byte) ∈ lw_all := lw_g (lw_at lw_m1 70 rfl) rfl
theorem q172 : (Jvm.Cond.arrayOver (Jvm.ClassFile.FieldType.object "ThreeSnowballs$Thrower")) ∈ lw_tbl := lw_at lw_m1 81 rfl
theorem q174 : (Jvm.Cond.arrayOver (Jvm.ClassFile.FieldType.object "ThreeSnowballs$Held")) ∈ lw_tbl := lw_at lw_m1 83 rfl
theorem q292 : (Jvm.Cond.arrayClass Jvm.ClassFile.FieldType.long) ∈ lw_all := lw_g (lw_at lw_m1 201 rfl) rfl
theorem q1339 : (Jvm.Cond.arrayClass Jvm.ClassFile.FieldType.short) ∈ lw_all := lw_g (lw_at lw_m6 48 rfl) rfl
theorem q1370 : (Jvm.Cond.arrayClass Jvm.ClassFile.FieldType.boolean) ∈ lw_all := lw_g (lw_at lw_m6 79 rfl) rfl
