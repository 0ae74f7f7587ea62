/-! java/lang/Throwable -/
set_option maxRecDepth 100000
def RJ0 : String := "java/lang/Throwable"
def TJ0 : u_T := fun k => match k with
  | 0 => ("java/lang/Throwable", "cause", "Ljava/lang/Throwable;", false)
  | 1 => ("java/lang/Throwable", "stackTrace", "[Ljava/lang/StackTraceElement;", false)
  | 2 => ("java/lang/Throwable", "suppressedExceptions", "Ljava/util/List;", false)
  | 3 => ("java/lang/Throwable", "detailMessage", "Ljava/lang/String;", false)
  | _ => ("java/lang/Throwable", "backtrace", "Ljava/lang/Object;", false)
def tyJ0 : Nat → FieldType := fun k => match k with
  | 0 => .object "java/lang/Throwable"
  | 1 => .array (.object "java/lang/StackTraceElement")
  | 2 => .object "java/util/List"
  | 3 => .object "java/lang/String"
  | _ => .object "java/lang/Object"
abbrev wsJ00 : List Cond := u_ws RJ0 TJ0 5
theorem nmJ0 : ∀ a, a < 5 → ∀ b, b < 5 → a ≠ b → (TJ0 a).2.1 ≠ (TJ0 b).2.1 := by decide +kernel
theorem tyJ0_ok : ∀ k, k < 5 → parseFieldDescriptor (TJ0 k).2.2.1 = some (tyJ0 k) := by decide +kernel
abbrev cJ0_init : ByteArray := prog_21_method_2_code
def yJ0_init : MethodName := ⟨RJ0, "<init>", "(Ljava/lang/String;)V"⟩
def dkwJ0_init_1 : List UInt8 := [182, 0, 27, 87, 42, 43, 181, 0, 31, 177]
abbrev dktJ0_init_1 : List UInt8 := dkwJ0_init_1 ++ []
def dkwJ0_init_0 : List UInt8 := [42, 183, 0, 1, 42, 42, 181, 0, 7, 42, 178, 0, 13, 181, 0, 17, 42, 178, 0, 20, 181, 0, 24, 42]
abbrev dktJ0_init_0 : List UInt8 := dkwJ0_init_0 ++ dktJ0_init_1
theorem dksJ0_init_0 : cJ0_init.data.toList.drop 0 = dktJ0_init_0 := by decide +kernel
theorem dksJ0_init_1 : cJ0_init.data.toList.drop 24 = dktJ0_init_1 := dk_seg dksJ0_init_0 24 rfl rfl
theorem dJ0_init_0 : decode cJ0_init 0 = .ok (.aload_n 0, 1) := dk_42 (dk_at dksJ0_init_0 0 rfl rfl)
theorem dJ0_init_1 : decode cJ0_init 1 = .ok (.invokespecial 1, 3) := dk_183 0 1 (dk_at dksJ0_init_0 1 rfl rfl)
theorem dJ0_init_4 : decode cJ0_init 4 = .ok (.aload_n 0, 1) := dk_42 (dk_at dksJ0_init_0 4 rfl rfl)
theorem dJ0_init_5 : decode cJ0_init 5 = .ok (.aload_n 0, 1) := dk_42 (dk_at dksJ0_init_0 5 rfl rfl)
theorem dJ0_init_6 : decode cJ0_init 6 = .ok (.putfield 7, 3) := dk_181 0 7 (dk_at dksJ0_init_0 6 rfl rfl)
theorem dJ0_init_9 : decode cJ0_init 9 = .ok (.aload_n 0, 1) := dk_42 (dk_at dksJ0_init_0 9 rfl rfl)
theorem dJ0_init_10 : decode cJ0_init 10 = .ok (.getstatic 13, 3) := dk_178 0 13 (dk_at dksJ0_init_0 10 rfl rfl)
theorem dJ0_init_13 : decode cJ0_init 13 = .ok (.putfield 17, 3) := dk_181 0 17 (dk_at dksJ0_init_0 13 rfl rfl)
theorem dJ0_init_16 : decode cJ0_init 16 = .ok (.aload_n 0, 1) := dk_42 (dk_at dksJ0_init_0 16 rfl rfl)
theorem dJ0_init_17 : decode cJ0_init 17 = .ok (.getstatic 20, 3) := dk_178 0 20 (dk_at dksJ0_init_0 17 rfl rfl)
theorem dJ0_init_20 : decode cJ0_init 20 = .ok (.putfield 24, 3) := dk_181 0 24 (dk_at dksJ0_init_0 20 rfl rfl)
theorem dJ0_init_23 : decode cJ0_init 23 = .ok (.aload_n 0, 1) := dk_42 (dk_at dksJ0_init_0 23 rfl rfl)
theorem dJ0_init_24 : decode cJ0_init 24 = .ok (.invokevirtual 27, 3) := dk_182 0 27 (dk_at dksJ0_init_1 0 rfl rfl)
theorem dJ0_init_27 : decode cJ0_init 27 = .ok (.pop, 1) := dk_87 (dk_at dksJ0_init_1 3 rfl rfl)
theorem dJ0_init_28 : decode cJ0_init 28 = .ok (.aload_n 0, 1) := dk_42 (dk_at dksJ0_init_1 4 rfl rfl)
theorem dJ0_init_29 : decode cJ0_init 29 = .ok (.aload_n 1, 1) := dk_43 (dk_at dksJ0_init_1 5 rfl rfl)
theorem dJ0_init_30 : decode cJ0_init 30 = .ok (.putfield 31, 3) := dk_181 0 31 (dk_at dksJ0_init_1 6 rfl rfl)
theorem dJ0_init_33 : decode cJ0_init 33 = .ok (.return_, 1) := dk_177 (dk_at dksJ0_init_1 9 rfl rfl)
abbrev cJ0_init_2 : ByteArray := prog_21_method_1_code
def yJ0_init_2 : MethodName := ⟨RJ0, "<init>", "()V"⟩
def dkwJ0_init_2_1 : List UInt8 := [182, 0, 27, 87, 177]
abbrev dktJ0_init_2_1 : List UInt8 := dkwJ0_init_2_1 ++ []
def dkwJ0_init_2_0 : List UInt8 := [42, 183, 0, 1, 42, 42, 181, 0, 7, 42, 178, 0, 13, 181, 0, 17, 42, 178, 0, 20, 181, 0, 24, 42]
abbrev dktJ0_init_2_0 : List UInt8 := dkwJ0_init_2_0 ++ dktJ0_init_2_1
theorem dksJ0_init_2_0 : cJ0_init_2.data.toList.drop 0 = dktJ0_init_2_0 := by decide +kernel
theorem dksJ0_init_2_1 : cJ0_init_2.data.toList.drop 24 = dktJ0_init_2_1 := dk_seg dksJ0_init_2_0 24 rfl rfl
theorem dJ0_init_2_0 : decode cJ0_init_2 0 = .ok (.aload_n 0, 1) := dk_42 (dk_at dksJ0_init_2_0 0 rfl rfl)
theorem dJ0_init_2_1 : decode cJ0_init_2 1 = .ok (.invokespecial 1, 3) := dk_183 0 1 (dk_at dksJ0_init_2_0 1 rfl rfl)
theorem dJ0_init_2_4 : decode cJ0_init_2 4 = .ok (.aload_n 0, 1) := dk_42 (dk_at dksJ0_init_2_0 4 rfl rfl)
theorem dJ0_init_2_5 : decode cJ0_init_2 5 = .ok (.aload_n 0, 1) := dk_42 (dk_at dksJ0_init_2_0 5 rfl rfl)
theorem dJ0_init_2_6 : decode cJ0_init_2 6 = .ok (.putfield 7, 3) := dk_181 0 7 (dk_at dksJ0_init_2_0 6 rfl rfl)
theorem dJ0_init_2_9 : decode cJ0_init_2 9 = .ok (.aload_n 0, 1) := dk_42 (dk_at dksJ0_init_2_0 9 rfl rfl)
theorem dJ0_init_2_10 : decode cJ0_init_2 10 = .ok (.getstatic 13, 3) := dk_178 0 13 (dk_at dksJ0_init_2_0 10 rfl rfl)
theorem dJ0_init_2_13 : decode cJ0_init_2 13 = .ok (.putfield 17, 3) := dk_181 0 17 (dk_at dksJ0_init_2_0 13 rfl rfl)
theorem dJ0_init_2_16 : decode cJ0_init_2 16 = .ok (.aload_n 0, 1) := dk_42 (dk_at dksJ0_init_2_0 16 rfl rfl)
theorem dJ0_init_2_17 : decode cJ0_init_2 17 = .ok (.getstatic 20, 3) := dk_178 0 20 (dk_at dksJ0_init_2_0 17 rfl rfl)
theorem dJ0_init_2_20 : decode cJ0_init_2 20 = .ok (.putfield 24, 3) := dk_181 0 24 (dk_at dksJ0_init_2_0 20 rfl rfl)
theorem dJ0_init_2_23 : decode cJ0_init_2 23 = .ok (.aload_n 0, 1) := dk_42 (dk_at dksJ0_init_2_0 23 rfl rfl)
theorem dJ0_init_2_24 : decode cJ0_init_2 24 = .ok (.invokevirtual 27, 3) := dk_182 0 27 (dk_at dksJ0_init_2_1 0 rfl rfl)
theorem dJ0_init_2_27 : decode cJ0_init_2 27 = .ok (.pop, 1) := dk_87 (dk_at dksJ0_init_2_1 3 rfl rfl)
theorem dJ0_init_2_28 : decode cJ0_init_2 28 = .ok (.return_, 1) := dk_177 (dk_at dksJ0_init_2_1 4 rfl rfl)
theorem q96 : (Jvm.Cond.initialized "java/lang/Throwable") ∈ lw_all := lw_g (lw_at lw_m1 8 rfl) rfl
theorem q334 : (Jvm.Cond.instanceMethod ({ cls := "java/lang/Throwable", name := "<init>", desc := "(Ljava/lang/String;)V" } : Jvm.MethodName)) ∈ lw_all := lw_g (lw_at lw_m2 6 rfl) rfl
theorem q335 : (Jvm.Cond.code ({ cls := "java/lang/Throwable", name := "<init>", desc := "(Ljava/lang/String;)V" } : Jvm.MethodName) prog_21_method_2_code (2 : Nat) (Option.none : Option Jvm.ClassFile.FieldType)) ∈ lw_all := lw_g (lw_at lw_m2 7 rfl) rfl
theorem q336 : (Jvm.Cond.methodLink "java/lang/Throwable" (1 : Nat) ({ cls := "java/lang/Object", name := "<init>", desc := "()V" } : Jvm.MethodName)) ∈ lw_all := lw_g (lw_at lw_m2 8 rfl) rfl
theorem q337 : (Jvm.Cond.fieldLink "java/lang/Throwable" (13 : Nat) "java/lang/Throwable" "UNASSIGNED_STACK" "[Ljava/lang/StackTraceElement;") ∈ lw_all := lw_g (lw_at lw_m2 9 rfl) rfl
theorem q338 : (Jvm.Cond.laysStatic "java/lang/Throwable" "UNASSIGNED_STACK" "[Ljava/lang/StackTraceElement;") ∈ lw_tbl := lw_at lw_m2 10 rfl
theorem q339 : (Jvm.Cond.fieldLink "java/lang/Throwable" (20 : Nat) "java/lang/Throwable" "SUPPRESSED_SENTINEL" "Ljava/util/List;") ∈ lw_all := lw_g (lw_at lw_m2 11 rfl) rfl
theorem q340 : (Jvm.Cond.laysStatic "java/lang/Throwable" "SUPPRESSED_SENTINEL" "Ljava/util/List;") ∈ lw_tbl := lw_at lw_m2 12 rfl
theorem q341 : (Jvm.Cond.methodLink "java/lang/Throwable" (27 : Nat) ({ cls := "java/lang/Throwable", name := "fillInStackTrace", desc := "()Ljava/lang/Throwable;" } : Jvm.MethodName)) ∈ lw_all := lw_g (lw_at lw_m2 13 rfl) rfl
theorem q342 : (Jvm.Cond.instanceMethod ({ cls := "java/lang/Throwable", name := "fillInStackTrace", desc := "()Ljava/lang/Throwable;" } : Jvm.MethodName)) ∈ lw_all := lw_g (lw_at lw_m2 14 rfl) rfl
theorem q343 : (Jvm.Cond.sameMethod "java/lang/Throwable" "java/lang/Throwable" "fillInStackTrace" "()Ljava/lang/Throwable;") ∈ lw_all := lw_g (lw_at lw_m2 15 rfl) rfl
theorem q358 : (Jvm.Cond.declares ({ cls := "java/lang/Throwable", name := "fillInStackTrace", desc := "()Ljava/lang/Throwable;" } : Jvm.MethodName)) ∈ lw_tbl := lw_at lw_m2 30 rfl
theorem q362 : (Jvm.Cond.codeSync ({ cls := "java/lang/Throwable", name := "fillInStackTrace", desc := "()Ljava/lang/Throwable;" } : Jvm.MethodName) prog_21_method_18_code (1 : Nat) (Option.some (Jvm.ClassFile.FieldType.object "java/lang/Throwable"))) ∈ lw_all := lw_g (lw_at lw_m2 34 rfl) rfl
theorem q363 : (Jvm.Cond.methodLink "java/lang/Throwable" (202 : Nat) ({ cls := "java/lang/Throwable", name := "fillInStackTrace", desc := "(I)Ljava/lang/Throwable;" } : Jvm.MethodName)) ∈ lw_all := lw_g (lw_at lw_m2 35 rfl) rfl
theorem q364 : (Jvm.Cond.privateMethod ({ cls := "java/lang/Throwable", name := "fillInStackTrace", desc := "(I)Ljava/lang/Throwable;" } : Jvm.MethodName)) ∈ lw_tbl := lw_at lw_m2 36 rfl
theorem q365 : (Jvm.Cond.instanceMethod ({ cls := "java/lang/Throwable", name := "fillInStackTrace", desc := "(I)Ljava/lang/Throwable;" } : Jvm.MethodName)) ∈ lw_all := lw_g (lw_at lw_m2 37 rfl) rfl
theorem q366 : (Jvm.Cond.instantiable "java/lang/Throwable" (6 : Nat)) ∈ lw_all := lw_g (lw_at lw_m2 38 rfl) rfl
theorem q367 : (Jvm.Cond.native ({ cls := "java/lang/Throwable", name := "fillInStackTrace", desc := "(I)Ljava/lang/Throwable;" } : Jvm.MethodName)) ∈ lw_all := lw_g (lw_at lw_m2 39 rfl) rfl
theorem q368 : (Jvm.Cond.fieldLink "java/lang/Throwable" (198 : Nat) "java/lang/Throwable" "backtrace" "Ljava/lang/Object;") ∈ lw_all := lw_g (lw_at lw_m2 40 rfl) rfl
theorem q369 : (Jvm.Cond.fieldLink "java/lang/Throwable" (31 : Nat) "java/lang/Throwable" "detailMessage" "Ljava/lang/String;") ∈ lw_all := lw_g (lw_at lw_m2 41 rfl) rfl
theorem q370 : (Jvm.Cond.fieldLink "java/lang/Throwable" (7 : Nat) "java/lang/Throwable" "cause" "Ljava/lang/Throwable;") ∈ lw_all := lw_g (lw_at lw_m2 42 rfl) rfl
theorem q371 : (Jvm.Cond.fieldLink "java/lang/Throwable" (17 : Nat) "java/lang/Throwable" "stackTrace" "[Ljava/lang/StackTraceElement;") ∈ lw_all := lw_g (lw_at lw_m2 43 rfl) rfl
theorem q372 : (Jvm.Cond.fieldLink "java/lang/Throwable" (24 : Nat) "java/lang/Throwable" "suppressedExceptions" "Ljava/util/List;") ∈ lw_all := lw_g (lw_at lw_m2 44 rfl) rfl
theorem q374 : (Jvm.Cond.soleField "java/lang/Throwable" "backtrace") ∈ lw_all := lw_g (lw_at lw_m2 46 rfl) rfl
theorem q376 : (Jvm.Cond.soleField "java/lang/Throwable" "detailMessage") ∈ lw_all := lw_g (lw_at lw_m2 48 rfl) rfl
theorem q378 : (Jvm.Cond.soleField "java/lang/Throwable" "cause") ∈ lw_all := lw_g (lw_at lw_m2 50 rfl) rfl
theorem q380 : (Jvm.Cond.soleField "java/lang/Throwable" "stackTrace") ∈ lw_all := lw_g (lw_at lw_m2 52 rfl) rfl
theorem q382 : (Jvm.Cond.soleField "java/lang/Throwable" "depth") ∈ lw_all := lw_g (lw_at lw_m2 54 rfl) rfl
theorem q384 : (Jvm.Cond.soleField "java/lang/Throwable" "suppressedExceptions") ∈ lw_all := lw_g (lw_at lw_m2 56 rfl) rfl
theorem q393 : (Jvm.Cond.declares ({ cls := "java/lang/Throwable", name := "<init>", desc := "()V" } : Jvm.MethodName)) ∈ lw_tbl := lw_at lw_m2 65 rfl
theorem q394 : (Jvm.Cond.declares ({ cls := "java/lang/Throwable", name := "<init>", desc := "(Ljava/lang/String;)V" } : Jvm.MethodName)) ∈ lw_tbl := lw_at lw_m2 66 rfl
theorem q396 : (Jvm.Cond.lays "java/lang/Throwable" "java/lang/Throwable" "cause" "Ljava/lang/Throwable;") ∈ lw_all := lw_g (lw_at lw_m2 68 rfl) rfl
theorem q397 : (Jvm.Cond.lays "java/lang/Throwable" "java/lang/Throwable" "stackTrace" "[Ljava/lang/StackTraceElement;") ∈ lw_all := lw_g (lw_at lw_m2 69 rfl) rfl
theorem q398 : (Jvm.Cond.lays "java/lang/Throwable" "java/lang/Throwable" "suppressedExceptions" "Ljava/util/List;") ∈ lw_all := lw_g (lw_at lw_m2 70 rfl) rfl
theorem q399 : (Jvm.Cond.lays "java/lang/Throwable" "java/lang/Throwable" "detailMessage" "Ljava/lang/String;") ∈ lw_all := lw_g (lw_at lw_m2 71 rfl) rfl
theorem q400 : (Jvm.Cond.lays "java/lang/Throwable" "java/lang/Throwable" "backtrace" "Ljava/lang/Object;") ∈ lw_all := lw_g (lw_at lw_m2 72 rfl) rfl
theorem q401 : (Jvm.Cond.fieldLink "java/lang/Throwable" (198 : Nat) "java/lang/Throwable" "backtrace" "Ljava/lang/Object;") ∈ lw_all := lw_g (lw_at lw_m2 73 rfl) rfl
theorem q402 : (Jvm.Cond.superclass "java/lang/Throwable" "java/lang/Object") ∈ lw_all := lw_g (lw_at lw_m2 74 rfl) rfl
theorem q403 : (Jvm.Cond.instanceMethod ({ cls := "java/lang/Throwable", name := "<init>", desc := "()V" } : Jvm.MethodName)) ∈ lw_all := lw_g (lw_at lw_m2 75 rfl) rfl
theorem q404 : (Jvm.Cond.code ({ cls := "java/lang/Throwable", name := "<init>", desc := "()V" } : Jvm.MethodName) prog_21_method_1_code (1 : Nat) (Option.none : Option Jvm.ClassFile.FieldType)) ∈ lw_all := lw_g (lw_at lw_m2 76 rfl) rfl
theorem q1380 : (Jvm.Cond.sameMethod "java/lang/Throwable" "java/lang/Throwable" "fillInStackTrace" "(I)Ljava/lang/Throwable;") ∈ lw_all := lw_g (lw_at lw_m6 92 rfl) rfl
theorem q1409 : (Jvm.Cond.castable "java/lang/Throwable" "java/lang/Object") ∈ lw_tbl := lw_at lw_m6 121 rfl
theorem in_J0 : ∀ w ∈ wsJ00, w ∈ lw_all := lw_in wsJ00 [396, 397, 398, 399, 400] (by decide +kernel) (by decide +kernel)

/-! java/lang/Exception -/
set_option maxRecDepth 100000
def RJ1 : String := "java/lang/Exception"
abbrev cJ1_init : ByteArray := prog_14_method_2_code
def yJ1_init : MethodName := ⟨RJ1, "<init>", "(Ljava/lang/String;)V"⟩
def dkwJ1_init_0 : List UInt8 := [42, 43, 183, 0, 7, 177]
abbrev dktJ1_init_0 : List UInt8 := dkwJ1_init_0 ++ []
theorem dksJ1_init_0 : cJ1_init.data.toList.drop 0 = dktJ1_init_0 := by decide +kernel
theorem dJ1_init_0 : decode cJ1_init 0 = .ok (.aload_n 0, 1) := dk_42 (dk_at dksJ1_init_0 0 rfl rfl)
theorem dJ1_init_1 : decode cJ1_init 1 = .ok (.aload_n 1, 1) := dk_43 (dk_at dksJ1_init_0 1 rfl rfl)
theorem dJ1_init_2 : decode cJ1_init 2 = .ok (.invokespecial 7, 3) := dk_183 0 7 (dk_at dksJ1_init_0 2 rfl rfl)
theorem dJ1_init_5 : decode cJ1_init 5 = .ok (.return_, 1) := dk_177 (dk_at dksJ1_init_0 5 rfl rfl)
abbrev cJ1_init_2 : ByteArray := prog_14_method_1_code
def yJ1_init_2 : MethodName := ⟨RJ1, "<init>", "()V"⟩
theorem dJ1_init_2_0 : decode cJ1_init_2 0 = .ok (.aload_n 0, 1) := by decide +kernel
theorem dJ1_init_2_1 : decode cJ1_init_2 1 = .ok (.invokespecial 1, 3) := by decide +kernel
theorem dJ1_init_2_4 : decode cJ1_init_2 4 = .ok (.return_, 1) := by decide +kernel
theorem q97 : (Jvm.Cond.initialized "java/lang/Exception") ∈ lw_all := lw_g (lw_at lw_m1 9 rfl) rfl
theorem q331 : (Jvm.Cond.instanceMethod ({ cls := "java/lang/Exception", name := "<init>", desc := "(Ljava/lang/String;)V" } : Jvm.MethodName)) ∈ lw_all := lw_g (lw_at lw_m2 3 rfl) rfl
theorem q332 : (Jvm.Cond.code ({ cls := "java/lang/Exception", name := "<init>", desc := "(Ljava/lang/String;)V" } : Jvm.MethodName) prog_14_method_2_code (2 : Nat) (Option.none : Option Jvm.ClassFile.FieldType)) ∈ lw_all := lw_g (lw_at lw_m2 4 rfl) rfl
theorem q333 : (Jvm.Cond.methodLink "java/lang/Exception" (7 : Nat) ({ cls := "java/lang/Throwable", name := "<init>", desc := "(Ljava/lang/String;)V" } : Jvm.MethodName)) ∈ lw_all := lw_g (lw_at lw_m2 5 rfl) rfl
theorem q361 : (Jvm.Cond.superclass "java/lang/Exception" "java/lang/Throwable") ∈ lw_all := lw_g (lw_at lw_m2 33 rfl) rfl
theorem q391 : (Jvm.Cond.declares ({ cls := "java/lang/Exception", name := "<init>", desc := "()V" } : Jvm.MethodName)) ∈ lw_tbl := lw_at lw_m2 63 rfl
theorem q392 : (Jvm.Cond.declares ({ cls := "java/lang/Exception", name := "<init>", desc := "(Ljava/lang/String;)V" } : Jvm.MethodName)) ∈ lw_tbl := lw_at lw_m2 64 rfl
theorem q418 : (Jvm.Cond.instanceMethod ({ cls := "java/lang/Exception", name := "<init>", desc := "()V" } : Jvm.MethodName)) ∈ lw_all := lw_g (lw_at lw_m2 90 rfl) rfl
theorem q419 : (Jvm.Cond.code ({ cls := "java/lang/Exception", name := "<init>", desc := "()V" } : Jvm.MethodName) prog_14_method_1_code (1 : Nat) (Option.none : Option Jvm.ClassFile.FieldType)) ∈ lw_all := lw_g (lw_at lw_m2 91 rfl) rfl
theorem q420 : (Jvm.Cond.methodLink "java/lang/Exception" (1 : Nat) ({ cls := "java/lang/Throwable", name := "<init>", desc := "()V" } : Jvm.MethodName)) ∈ lw_all := lw_g (lw_at lw_m2 92 rfl) rfl

/-! java/lang/Object -/
set_option maxRecDepth 100000
def RJ10 : String := "java/lang/Object"
abbrev cJ10_init : ByteArray := object_method_1_code
def yJ10_init : MethodName := ⟨RJ10, "<init>", "()V"⟩
theorem dJ10_init_0 : decode cJ10_init 0 = .ok (.return_, 1) := by decide +kernel
theorem q115 : (Jvm.Cond.instanceMethod ({ cls := "java/lang/Object", name := "<init>", desc := "()V" } : Jvm.MethodName)) ∈ lw_all := lw_g (lw_at lw_m1 27 rfl) rfl
theorem q116 : (Jvm.Cond.code ({ cls := "java/lang/Object", name := "<init>", desc := "()V" } : Jvm.MethodName) object_method_1_code (1 : Nat) (Option.none : Option Jvm.ClassFile.FieldType)) ∈ lw_all := lw_g (lw_at lw_m1 28 rfl) rfl

/-! java/lang/RuntimeException -/
set_option maxRecDepth 100000
def RJ2 : String := "java/lang/RuntimeException"
abbrev cJ2_init : ByteArray := prog_19_method_2_code
def yJ2_init : MethodName := ⟨RJ2, "<init>", "(Ljava/lang/String;)V"⟩
def dkwJ2_init_0 : List UInt8 := [42, 43, 183, 0, 7, 177]
abbrev dktJ2_init_0 : List UInt8 := dkwJ2_init_0 ++ []
theorem dksJ2_init_0 : cJ2_init.data.toList.drop 0 = dktJ2_init_0 := by decide +kernel
theorem dJ2_init_0 : decode cJ2_init 0 = .ok (.aload_n 0, 1) := dk_42 (dk_at dksJ2_init_0 0 rfl rfl)
theorem dJ2_init_1 : decode cJ2_init 1 = .ok (.aload_n 1, 1) := dk_43 (dk_at dksJ2_init_0 1 rfl rfl)
theorem dJ2_init_2 : decode cJ2_init 2 = .ok (.invokespecial 7, 3) := dk_183 0 7 (dk_at dksJ2_init_0 2 rfl rfl)
theorem dJ2_init_5 : decode cJ2_init 5 = .ok (.return_, 1) := dk_177 (dk_at dksJ2_init_0 5 rfl rfl)
abbrev cJ2_init_2 : ByteArray := prog_19_method_1_code
def yJ2_init_2 : MethodName := ⟨RJ2, "<init>", "()V"⟩
theorem dJ2_init_2_0 : decode cJ2_init_2 0 = .ok (.aload_n 0, 1) := by decide +kernel
theorem dJ2_init_2_1 : decode cJ2_init_2 1 = .ok (.invokespecial 1, 3) := by decide +kernel
theorem dJ2_init_2_4 : decode cJ2_init_2 4 = .ok (.return_, 1) := by decide +kernel
theorem q98 : (Jvm.Cond.initialized "java/lang/RuntimeException") ∈ lw_all := lw_g (lw_at lw_m1 10 rfl) rfl
theorem q328 : (Jvm.Cond.instanceMethod ({ cls := "java/lang/RuntimeException", name := "<init>", desc := "(Ljava/lang/String;)V" } : Jvm.MethodName)) ∈ lw_all := lw_g (lw_at lw_m2 0 rfl) rfl
theorem q329 : (Jvm.Cond.code ({ cls := "java/lang/RuntimeException", name := "<init>", desc := "(Ljava/lang/String;)V" } : Jvm.MethodName) prog_19_method_2_code (2 : Nat) (Option.none : Option Jvm.ClassFile.FieldType)) ∈ lw_all := lw_g (lw_at lw_m2 1 rfl) rfl
theorem q330 : (Jvm.Cond.methodLink "java/lang/RuntimeException" (7 : Nat) ({ cls := "java/lang/Exception", name := "<init>", desc := "(Ljava/lang/String;)V" } : Jvm.MethodName)) ∈ lw_all := lw_g (lw_at lw_m2 2 rfl) rfl
theorem q357 : (Jvm.Cond.sameMethod "java/lang/RuntimeException" "java/lang/Throwable" "fillInStackTrace" "()Ljava/lang/Throwable;") ∈ lw_all := lw_g (lw_at lw_m2 29 rfl) rfl
theorem q360 : (Jvm.Cond.superclass "java/lang/RuntimeException" "java/lang/Exception") ∈ lw_all := lw_g (lw_at lw_m2 32 rfl) rfl
theorem q389 : (Jvm.Cond.declares ({ cls := "java/lang/RuntimeException", name := "<init>", desc := "()V" } : Jvm.MethodName)) ∈ lw_tbl := lw_at lw_m2 61 rfl
theorem q390 : (Jvm.Cond.declares ({ cls := "java/lang/RuntimeException", name := "<init>", desc := "(Ljava/lang/String;)V" } : Jvm.MethodName)) ∈ lw_tbl := lw_at lw_m2 62 rfl
theorem q415 : (Jvm.Cond.instanceMethod ({ cls := "java/lang/RuntimeException", name := "<init>", desc := "()V" } : Jvm.MethodName)) ∈ lw_all := lw_g (lw_at lw_m2 87 rfl) rfl
theorem q416 : (Jvm.Cond.code ({ cls := "java/lang/RuntimeException", name := "<init>", desc := "()V" } : Jvm.MethodName) prog_19_method_1_code (1 : Nat) (Option.none : Option Jvm.ClassFile.FieldType)) ∈ lw_all := lw_g (lw_at lw_m2 88 rfl) rfl
theorem q417 : (Jvm.Cond.methodLink "java/lang/RuntimeException" (1 : Nat) ({ cls := "java/lang/Exception", name := "<init>", desc := "()V" } : Jvm.MethodName)) ∈ lw_all := lw_g (lw_at lw_m2 89 rfl) rfl
theorem q435 : (Jvm.Cond.castable "java/lang/RuntimeException" "java/lang/Throwable") ∈ lw_tbl := lw_at lw_m2 107 rfl

/-! java/lang/IndexOutOfBoundsException -/
set_option maxRecDepth 100000
def RJ3 : String := "java/lang/IndexOutOfBoundsException"
def TJ3 : u_T := fun k => match k with
  | 0 => ("java/lang/Throwable", "cause", "Ljava/lang/Throwable;", false)
  | 1 => ("java/lang/Throwable", "stackTrace", "[Ljava/lang/StackTraceElement;", false)
  | 2 => ("java/lang/Throwable", "suppressedExceptions", "Ljava/util/List;", false)
  | 3 => ("java/lang/Throwable", "detailMessage", "Ljava/lang/String;", false)
  | 4 => ("java/lang/Throwable", "backtrace", "Ljava/lang/Object;", false)
  | _ => ("java/lang/Throwable", "depth", "I", false)
def tyJ3 : Nat → FieldType := fun k => match k with
  | 0 => .object "java/lang/Throwable"
  | 1 => .array (.object "java/lang/StackTraceElement")
  | 2 => .object "java/util/List"
  | 3 => .object "java/lang/String"
  | 4 => .object "java/lang/Object"
  | _ => .int
abbrev wsJ30 : List Cond := u_ws RJ3 TJ3 6
theorem nmJ3 : ∀ a, a < 6 → ∀ b, b < 6 → a ≠ b → (TJ3 a).2.1 ≠ (TJ3 b).2.1 := by decide +kernel
theorem tyJ3_ok : ∀ k, k < 6 → parseFieldDescriptor (TJ3 k).2.2.1 = some (tyJ3 k) := by decide +kernel
abbrev cJ3_init : ByteArray := prog_15_method_2_code
def yJ3_init : MethodName := ⟨RJ3, "<init>", "(Ljava/lang/String;)V"⟩
def dkwJ3_init_0 : List UInt8 := [42, 43, 183, 0, 7, 177]
abbrev dktJ3_init_0 : List UInt8 := dkwJ3_init_0 ++ []
theorem dksJ3_init_0 : cJ3_init.data.toList.drop 0 = dktJ3_init_0 := by decide +kernel
theorem dJ3_init_0 : decode cJ3_init 0 = .ok (.aload_n 0, 1) := dk_42 (dk_at dksJ3_init_0 0 rfl rfl)
theorem dJ3_init_1 : decode cJ3_init 1 = .ok (.aload_n 1, 1) := dk_43 (dk_at dksJ3_init_0 1 rfl rfl)
theorem dJ3_init_2 : decode cJ3_init 2 = .ok (.invokespecial 7, 3) := dk_183 0 7 (dk_at dksJ3_init_0 2 rfl rfl)
theorem dJ3_init_5 : decode cJ3_init 5 = .ok (.return_, 1) := dk_177 (dk_at dksJ3_init_0 5 rfl rfl)
abbrev cJ3_init_2 : ByteArray := prog_15_method_1_code
def yJ3_init_2 : MethodName := ⟨RJ3, "<init>", "()V"⟩
theorem dJ3_init_2_0 : decode cJ3_init_2 0 = .ok (.aload_n 0, 1) := by decide +kernel
theorem dJ3_init_2_1 : decode cJ3_init_2 1 = .ok (.invokespecial 1, 3) := by decide +kernel
theorem dJ3_init_2_4 : decode cJ3_init_2 4 = .ok (.return_, 1) := by decide +kernel
theorem q99 : (Jvm.Cond.initialized "java/lang/IndexOutOfBoundsException") ∈ lw_all := lw_g (lw_at lw_m1 11 rfl) rfl
theorem q325 : (Jvm.Cond.instanceMethod ({ cls := "java/lang/IndexOutOfBoundsException", name := "<init>", desc := "(Ljava/lang/String;)V" } : Jvm.MethodName)) ∈ lw_all := lw_g (lw_at lw_m1 237 rfl) rfl
theorem q326 : (Jvm.Cond.code ({ cls := "java/lang/IndexOutOfBoundsException", name := "<init>", desc := "(Ljava/lang/String;)V" } : Jvm.MethodName) prog_15_method_2_code (2 : Nat) (Option.none : Option Jvm.ClassFile.FieldType)) ∈ lw_all := lw_g (lw_at lw_m1 238 rfl) rfl
theorem q327 : (Jvm.Cond.methodLink "java/lang/IndexOutOfBoundsException" (7 : Nat) ({ cls := "java/lang/RuntimeException", name := "<init>", desc := "(Ljava/lang/String;)V" } : Jvm.MethodName)) ∈ lw_all := lw_g (lw_at lw_m1 239 rfl) rfl
theorem q346 : (Jvm.Cond.selects "java/lang/IndexOutOfBoundsException" ({ cls := "java/lang/Throwable", name := "fillInStackTrace", desc := "()Ljava/lang/Throwable;" } : Jvm.MethodName) ({ cls := "java/lang/Throwable", name := "fillInStackTrace", desc := "()Ljava/lang/Throwable;" } : Jvm.MethodName)) ∈ lw_all := lw_g (lw_at lw_m2 18 rfl) rfl
theorem q387 : (Jvm.Cond.declares ({ cls := "java/lang/IndexOutOfBoundsException", name := "<init>", desc := "()V" } : Jvm.MethodName)) ∈ lw_tbl := lw_at lw_m2 59 rfl
theorem q388 : (Jvm.Cond.declares ({ cls := "java/lang/IndexOutOfBoundsException", name := "<init>", desc := "(Ljava/lang/String;)V" } : Jvm.MethodName)) ∈ lw_tbl := lw_at lw_m2 60 rfl
theorem q458 : (Jvm.Cond.instantiable "java/lang/IndexOutOfBoundsException" (6 : Nat)) ∈ lw_all := lw_g (lw_at lw_m2 130 rfl) rfl
theorem q459 : (Jvm.Cond.castable "java/lang/IndexOutOfBoundsException" "java/lang/IndexOutOfBoundsException") ∈ lw_tbl := lw_at lw_m2 131 rfl
theorem q460 : (Jvm.Cond.selects "java/lang/IndexOutOfBoundsException" ({ cls := "java/lang/Throwable", name := "fillInStackTrace", desc := "(I)Ljava/lang/Throwable;" } : Jvm.MethodName) ({ cls := "java/lang/Throwable", name := "fillInStackTrace", desc := "(I)Ljava/lang/Throwable;" } : Jvm.MethodName)) ∈ lw_all := lw_g (lw_at lw_m2 132 rfl) rfl
theorem q461 : (Jvm.Cond.lays "java/lang/IndexOutOfBoundsException" "java/lang/Throwable" "cause" "Ljava/lang/Throwable;") ∈ lw_all := lw_g (lw_at lw_m2 133 rfl) rfl
theorem q462 : (Jvm.Cond.lays "java/lang/IndexOutOfBoundsException" "java/lang/Throwable" "stackTrace" "[Ljava/lang/StackTraceElement;") ∈ lw_all := lw_g (lw_at lw_m2 134 rfl) rfl
theorem q463 : (Jvm.Cond.lays "java/lang/IndexOutOfBoundsException" "java/lang/Throwable" "suppressedExceptions" "Ljava/util/List;") ∈ lw_all := lw_g (lw_at lw_m2 135 rfl) rfl
theorem q464 : (Jvm.Cond.lays "java/lang/IndexOutOfBoundsException" "java/lang/Throwable" "detailMessage" "Ljava/lang/String;") ∈ lw_all := lw_g (lw_at lw_m2 136 rfl) rfl
theorem q465 : (Jvm.Cond.lays "java/lang/IndexOutOfBoundsException" "java/lang/Throwable" "backtrace" "Ljava/lang/Object;") ∈ lw_all := lw_g (lw_at lw_m2 137 rfl) rfl
theorem q467 : (Jvm.Cond.instanceMethod ({ cls := "java/lang/IndexOutOfBoundsException", name := "<init>", desc := "()V" } : Jvm.MethodName)) ∈ lw_all := lw_g (lw_at lw_m2 139 rfl) rfl
theorem q468 : (Jvm.Cond.code ({ cls := "java/lang/IndexOutOfBoundsException", name := "<init>", desc := "()V" } : Jvm.MethodName) prog_15_method_1_code (1 : Nat) (Option.none : Option Jvm.ClassFile.FieldType)) ∈ lw_all := lw_g (lw_at lw_m2 140 rfl) rfl
theorem q469 : (Jvm.Cond.methodLink "java/lang/IndexOutOfBoundsException" (1 : Nat) ({ cls := "java/lang/RuntimeException", name := "<init>", desc := "()V" } : Jvm.MethodName)) ∈ lw_all := lw_g (lw_at lw_m2 141 rfl) rfl
theorem q470 : (Jvm.Cond.lays "java/lang/IndexOutOfBoundsException" "java/lang/Throwable" "depth" "I") ∈ lw_all := lw_g (lw_at lw_m2 142 rfl) rfl
theorem q471 : (Jvm.Cond.superclass "java/lang/IndexOutOfBoundsException" "java/lang/RuntimeException") ∈ lw_all := lw_g (lw_at lw_m2 143 rfl) rfl
theorem q1404 : (Jvm.Cond.castable "java/lang/IndexOutOfBoundsException" "java/lang/Object") ∈ lw_tbl := lw_at lw_m6 116 rfl
theorem in_J3 : ∀ w ∈ wsJ30, w ∈ lw_all := lw_in wsJ30 [461, 462, 463, 464, 465, 470] (by decide +kernel) (by decide +kernel)

/-! java/lang/ArrayIndexOutOfBoundsException -/
set_option maxRecDepth 100000
def RJ4 : String := "java/lang/ArrayIndexOutOfBoundsException"
def TJ4 : u_T := fun k => match k with
  | 0 => ("java/lang/Throwable", "backtrace", "Ljava/lang/Object;", false)
  | 1 => ("java/lang/Throwable", "detailMessage", "Ljava/lang/String;", false)
  | 2 => ("java/lang/Throwable", "cause", "Ljava/lang/Throwable;", false)
  | 3 => ("java/lang/Throwable", "stackTrace", "[Ljava/lang/StackTraceElement;", false)
  | 4 => ("java/lang/Throwable", "depth", "I", false)
  | _ => ("java/lang/Throwable", "suppressedExceptions", "Ljava/util/List;", false)
def tyJ4 : Nat → FieldType := fun k => match k with
  | 0 => .object "java/lang/Object"
  | 1 => .object "java/lang/String"
  | 2 => .object "java/lang/Throwable"
  | 3 => .array (.object "java/lang/StackTraceElement")
  | 4 => .int
  | _ => .object "java/util/List"
abbrev wsJ40 : List Cond := u_ws RJ4 TJ4 6
theorem nmJ4 : ∀ a, a < 6 → ∀ b, b < 6 → a ≠ b → (TJ4 a).2.1 ≠ (TJ4 b).2.1 := by decide +kernel
theorem tyJ4_ok : ∀ k, k < 6 → parseFieldDescriptor (TJ4 k).2.2.1 = some (tyJ4 k) := by decide +kernel
abbrev cJ4_init : ByteArray := prog_12_method_2_code
def yJ4_init : MethodName := ⟨RJ4, "<init>", "(Ljava/lang/String;)V"⟩
def dkwJ4_init_0 : List UInt8 := [42, 43, 183, 0, 7, 177]
abbrev dktJ4_init_0 : List UInt8 := dkwJ4_init_0 ++ []
theorem dksJ4_init_0 : cJ4_init.data.toList.drop 0 = dktJ4_init_0 := by decide +kernel
theorem dJ4_init_0 : decode cJ4_init 0 = .ok (.aload_n 0, 1) := dk_42 (dk_at dksJ4_init_0 0 rfl rfl)
theorem dJ4_init_1 : decode cJ4_init 1 = .ok (.aload_n 1, 1) := dk_43 (dk_at dksJ4_init_0 1 rfl rfl)
theorem dJ4_init_2 : decode cJ4_init 2 = .ok (.invokespecial 7, 3) := dk_183 0 7 (dk_at dksJ4_init_0 2 rfl rfl)
theorem dJ4_init_5 : decode cJ4_init 5 = .ok (.return_, 1) := dk_177 (dk_at dksJ4_init_0 5 rfl rfl)
theorem q100 : (Jvm.Cond.initialized "java/lang/ArrayIndexOutOfBoundsException") ∈ lw_all := lw_g (lw_at lw_m1 12 rfl) rfl
theorem q321 : (Jvm.Cond.instantiable "java/lang/ArrayIndexOutOfBoundsException" (6 : Nat)) ∈ lw_all := lw_g (lw_at lw_m1 233 rfl) rfl
theorem q322 : (Jvm.Cond.instanceMethod ({ cls := "java/lang/ArrayIndexOutOfBoundsException", name := "<init>", desc := "(Ljava/lang/String;)V" } : Jvm.MethodName)) ∈ lw_all := lw_g (lw_at lw_m1 234 rfl) rfl
theorem q323 : (Jvm.Cond.code ({ cls := "java/lang/ArrayIndexOutOfBoundsException", name := "<init>", desc := "(Ljava/lang/String;)V" } : Jvm.MethodName) prog_12_method_2_code (2 : Nat) (Option.none : Option Jvm.ClassFile.FieldType)) ∈ lw_all := lw_g (lw_at lw_m1 235 rfl) rfl
theorem q324 : (Jvm.Cond.methodLink "java/lang/ArrayIndexOutOfBoundsException" (7 : Nat) ({ cls := "java/lang/IndexOutOfBoundsException", name := "<init>", desc := "(Ljava/lang/String;)V" } : Jvm.MethodName)) ∈ lw_all := lw_g (lw_at lw_m1 236 rfl) rfl
theorem q344 : (Jvm.Cond.selects "java/lang/ArrayIndexOutOfBoundsException" ({ cls := "java/lang/Throwable", name := "fillInStackTrace", desc := "()Ljava/lang/Throwable;" } : Jvm.MethodName) ({ cls := "java/lang/Throwable", name := "fillInStackTrace", desc := "()Ljava/lang/Throwable;" } : Jvm.MethodName)) ∈ lw_all := lw_g (lw_at lw_m2 16 rfl) rfl
theorem q373 : (Jvm.Cond.lays "java/lang/ArrayIndexOutOfBoundsException" "java/lang/Throwable" "backtrace" "Ljava/lang/Object;") ∈ lw_all := lw_g (lw_at lw_m2 45 rfl) rfl
theorem q375 : (Jvm.Cond.lays "java/lang/ArrayIndexOutOfBoundsException" "java/lang/Throwable" "detailMessage" "Ljava/lang/String;") ∈ lw_all := lw_g (lw_at lw_m2 47 rfl) rfl
theorem q377 : (Jvm.Cond.lays "java/lang/ArrayIndexOutOfBoundsException" "java/lang/Throwable" "cause" "Ljava/lang/Throwable;") ∈ lw_all := lw_g (lw_at lw_m2 49 rfl) rfl
theorem q379 : (Jvm.Cond.lays "java/lang/ArrayIndexOutOfBoundsException" "java/lang/Throwable" "stackTrace" "[Ljava/lang/StackTraceElement;") ∈ lw_all := lw_g (lw_at lw_m2 51 rfl) rfl
theorem q381 : (Jvm.Cond.lays "java/lang/ArrayIndexOutOfBoundsException" "java/lang/Throwable" "depth" "I") ∈ lw_all := lw_g (lw_at lw_m2 53 rfl) rfl
theorem q383 : (Jvm.Cond.lays "java/lang/ArrayIndexOutOfBoundsException" "java/lang/Throwable" "suppressedExceptions" "Ljava/util/List;") ∈ lw_all := lw_g (lw_at lw_m2 55 rfl) rfl
theorem q385 : (Jvm.Cond.superclass "java/lang/ArrayIndexOutOfBoundsException" "java/lang/IndexOutOfBoundsException") ∈ lw_all := lw_g (lw_at lw_m2 57 rfl) rfl
theorem q386 : (Jvm.Cond.castable "java/lang/ArrayIndexOutOfBoundsException" "java/lang/ArrayIndexOutOfBoundsException") ∈ lw_tbl := lw_at lw_m2 58 rfl
theorem q395 : (Jvm.Cond.selects "java/lang/ArrayIndexOutOfBoundsException" ({ cls := "java/lang/Throwable", name := "fillInStackTrace", desc := "(I)Ljava/lang/Throwable;" } : Jvm.MethodName) ({ cls := "java/lang/Throwable", name := "fillInStackTrace", desc := "(I)Ljava/lang/Throwable;" } : Jvm.MethodName)) ∈ lw_all := lw_g (lw_at lw_m2 67 rfl) rfl
theorem q1388 : (Jvm.Cond.castable "java/lang/ArrayIndexOutOfBoundsException" "java/lang/IndexOutOfBoundsException") ∈ lw_tbl := lw_at lw_m6 100 rfl
theorem q1401 : (Jvm.Cond.castable "java/lang/ArrayIndexOutOfBoundsException" "java/lang/Object") ∈ lw_tbl := lw_at lw_m6 113 rfl
theorem in_J4 : ∀ w ∈ wsJ40, w ∈ lw_all := lw_in wsJ40 [373, 375, 377, 379, 381, 383] (by decide +kernel) (by decide +kernel)

/-! java/lang/String -/
set_option maxRecDepth 100000
def RJ5 : String := "java/lang/String"
def TJ5 : u_T := fun k => match k with
  | 0 => ("java/lang/String", "value", "[B", true)
  | _ => ("java/lang/String", "coder", "B", true)
def tyJ5 : Nat → FieldType := fun k => match k with
  | 0 => .array .byte
  | _ => .byte
abbrev wsJ50 : List Cond := u_ws RJ5 TJ5 2
theorem nmJ5 : ∀ a, a < 2 → ∀ b, b < 2 → a ≠ b → (TJ5 a).2.1 ≠ (TJ5 b).2.1 := by decide +kernel
theorem tyJ5_ok : ∀ k, k < 2 → parseFieldDescriptor (TJ5 k).2.2.1 = some (tyJ5 k) := by decide +kernel
theorem q101 : (Jvm.Cond.initialized "java/lang/String") ∈ lw_all := lw_g (lw_at lw_m1 13 rfl) rfl
theorem q405 : (Jvm.Cond.instantiable "java/lang/String" (4 : Nat)) ∈ lw_all := lw_g (lw_at lw_m2 77 rfl) rfl
theorem q407 : (Jvm.Cond.laysFinal "java/lang/String" "java/lang/String" "value" "[B") ∈ lw_all := lw_g (lw_at lw_m2 79 rfl) rfl
theorem q408 : (Jvm.Cond.soleField "java/lang/String" "value") ∈ lw_all := lw_g (lw_at lw_m2 80 rfl) rfl
theorem q409 : (Jvm.Cond.laysFinal "java/lang/String" "java/lang/String" "coder" "B") ∈ lw_all := lw_g (lw_at lw_m2 81 rfl) rfl
theorem q410 : (Jvm.Cond.soleField "java/lang/String" "coder") ∈ lw_all := lw_g (lw_at lw_m2 82 rfl) rfl
theorem q1410 : (Jvm.Cond.castable "java/lang/String" "java/lang/Object") ∈ lw_tbl := lw_at lw_m6 122 rfl
theorem in_J5 : ∀ w ∈ wsJ50, w ∈ lw_all := lw_in wsJ50 [407, 409] (by decide +kernel) (by decide +kernel)

/-! java/lang/NullPointerException -/
set_option maxRecDepth 100000
def RJ6 : String := "java/lang/NullPointerException"
def TJ6 : u_T := fun k => match k with
  | 0 => ("java/lang/Throwable", "backtrace", "Ljava/lang/Object;", false)
  | 1 => ("java/lang/Throwable", "detailMessage", "Ljava/lang/String;", false)
  | 2 => ("java/lang/Throwable", "cause", "Ljava/lang/Throwable;", false)
  | 3 => ("java/lang/Throwable", "stackTrace", "[Ljava/lang/StackTraceElement;", false)
  | 4 => ("java/lang/Throwable", "depth", "I", false)
  | 5 => ("java/lang/Throwable", "suppressedExceptions", "Ljava/util/List;", false)
  | 6 => ("java/lang/NullPointerException", "extendedMessageState", "I", false)
  | _ => ("java/lang/NullPointerException", "extendedMessage", "Ljava/lang/String;", false)
def tyJ6 : Nat → FieldType := fun k => match k with
  | 0 => .object "java/lang/Object"
  | 1 => .object "java/lang/String"
  | 2 => .object "java/lang/Throwable"
  | 3 => .array (.object "java/lang/StackTraceElement")
  | 4 => .int
  | 5 => .object "java/util/List"
  | 6 => .int
  | _ => .object "java/lang/String"
abbrev wsJ60 : List Cond := u_ws RJ6 TJ6 8
theorem nmJ6 : ∀ a, a < 8 → ∀ b, b < 8 → a ≠ b → (TJ6 a).2.1 ≠ (TJ6 b).2.1 := by decide +kernel
theorem tyJ6_ok : ∀ k, k < 8 → parseFieldDescriptor (TJ6 k).2.2.1 = some (tyJ6 k) := by decide +kernel
abbrev cJ6_init : ByteArray := prog_18_method_1_code
def yJ6_init : MethodName := ⟨RJ6, "<init>", "()V"⟩
theorem dJ6_init_0 : decode cJ6_init 0 = .ok (.aload_n 0, 1) := by decide +kernel
theorem dJ6_init_1 : decode cJ6_init 1 = .ok (.invokespecial 1, 3) := by decide +kernel
theorem dJ6_init_4 : decode cJ6_init 4 = .ok (.return_, 1) := by decide +kernel
theorem q102 : (Jvm.Cond.initialized "java/lang/NullPointerException") ∈ lw_all := lw_g (lw_at lw_m1 14 rfl) rfl
theorem q348 : (Jvm.Cond.selects "java/lang/NullPointerException" ({ cls := "java/lang/Throwable", name := "fillInStackTrace", desc := "()Ljava/lang/Throwable;" } : Jvm.MethodName) ({ cls := "java/lang/NullPointerException", name := "fillInStackTrace", desc := "()Ljava/lang/Throwable;" } : Jvm.MethodName)) ∈ lw_all := lw_g (lw_at lw_m2 20 rfl) rfl
theorem q349 : (Jvm.Cond.instanceMethod ({ cls := "java/lang/NullPointerException", name := "fillInStackTrace", desc := "()Ljava/lang/Throwable;" } : Jvm.MethodName)) ∈ lw_all := lw_g (lw_at lw_m2 21 rfl) rfl
theorem q350 : (Jvm.Cond.codeSync ({ cls := "java/lang/NullPointerException", name := "fillInStackTrace", desc := "()Ljava/lang/Throwable;" } : Jvm.MethodName) prog_18_method_3_code (1 : Nat) (Option.some (Jvm.ClassFile.FieldType.object "java/lang/Throwable"))) ∈ lw_all := lw_g (lw_at lw_m2 22 rfl) rfl
theorem q351 : (Jvm.Cond.methodLink "java/lang/NullPointerException" (16 : Nat) ({ cls := "java/lang/NullPointerException", name := "getExtendedNPEMessage", desc := "()Ljava/lang/String;" } : Jvm.MethodName)) ∈ lw_all := lw_g (lw_at lw_m2 23 rfl) rfl
theorem q352 : (Jvm.Cond.privateMethod ({ cls := "java/lang/NullPointerException", name := "getExtendedNPEMessage", desc := "()Ljava/lang/String;" } : Jvm.MethodName)) ∈ lw_tbl := lw_at lw_m2 24 rfl
theorem q353 : (Jvm.Cond.instanceMethod ({ cls := "java/lang/NullPointerException", name := "getExtendedNPEMessage", desc := "()Ljava/lang/String;" } : Jvm.MethodName)) ∈ lw_all := lw_g (lw_at lw_m2 25 rfl) rfl
theorem q354 : (Jvm.Cond.instantiable "java/lang/NullPointerException" (8 : Nat)) ∈ lw_all := lw_g (lw_at lw_m2 26 rfl) rfl
theorem q355 : (Jvm.Cond.native ({ cls := "java/lang/NullPointerException", name := "getExtendedNPEMessage", desc := "()Ljava/lang/String;" } : Jvm.MethodName)) ∈ lw_all := lw_g (lw_at lw_m2 27 rfl) rfl
theorem q356 : (Jvm.Cond.methodLink "java/lang/NullPointerException" (24 : Nat) ({ cls := "java/lang/RuntimeException", name := "fillInStackTrace", desc := "()Ljava/lang/Throwable;" } : Jvm.MethodName)) ∈ lw_all := lw_g (lw_at lw_m2 28 rfl) rfl
theorem q359 : (Jvm.Cond.superclass "java/lang/NullPointerException" "java/lang/RuntimeException") ∈ lw_all := lw_g (lw_at lw_m2 31 rfl) rfl
theorem q412 : (Jvm.Cond.instanceMethod ({ cls := "java/lang/NullPointerException", name := "<init>", desc := "()V" } : Jvm.MethodName)) ∈ lw_all := lw_g (lw_at lw_m2 84 rfl) rfl
theorem q413 : (Jvm.Cond.code ({ cls := "java/lang/NullPointerException", name := "<init>", desc := "()V" } : Jvm.MethodName) prog_18_method_1_code (1 : Nat) (Option.none : Option Jvm.ClassFile.FieldType)) ∈ lw_all := lw_g (lw_at lw_m2 85 rfl) rfl
theorem q414 : (Jvm.Cond.methodLink "java/lang/NullPointerException" (1 : Nat) ({ cls := "java/lang/RuntimeException", name := "<init>", desc := "()V" } : Jvm.MethodName)) ∈ lw_all := lw_g (lw_at lw_m2 86 rfl) rfl
theorem q421 : (Jvm.Cond.fieldLink "java/lang/NullPointerException" (10 : Nat) "java/lang/NullPointerException" "extendedMessageState" "I") ∈ lw_all := lw_g (lw_at lw_m2 93 rfl) rfl
theorem q422 : (Jvm.Cond.fieldLink "java/lang/NullPointerException" (20 : Nat) "java/lang/NullPointerException" "extendedMessage" "Ljava/lang/String;") ∈ lw_all := lw_g (lw_at lw_m2 94 rfl) rfl
theorem q423 : (Jvm.Cond.lays "java/lang/NullPointerException" "java/lang/NullPointerException" "extendedMessageState" "I") ∈ lw_all := lw_g (lw_at lw_m2 95 rfl) rfl
theorem q424 : (Jvm.Cond.soleField "java/lang/NullPointerException" "extendedMessageState") ∈ lw_all := lw_g (lw_at lw_m2 96 rfl) rfl
theorem q425 : (Jvm.Cond.lays "java/lang/NullPointerException" "java/lang/NullPointerException" "extendedMessage" "Ljava/lang/String;") ∈ lw_all := lw_g (lw_at lw_m2 97 rfl) rfl
theorem q426 : (Jvm.Cond.soleField "java/lang/NullPointerException" "extendedMessage") ∈ lw_all := lw_g (lw_at lw_m2 98 rfl) rfl
theorem q427 : (Jvm.Cond.lays "java/lang/NullPointerException" "java/lang/Throwable" "backtrace" "Ljava/lang/Object;") ∈ lw_all := lw_g (lw_at lw_m2 99 rfl) rfl
theorem q428 : (Jvm.Cond.lays "java/lang/NullPointerException" "java/lang/Throwable" "detailMessage" "Ljava/lang/String;") ∈ lw_all := lw_g (lw_at lw_m2 100 rfl) rfl
theorem q429 : (Jvm.Cond.lays "java/lang/NullPointerException" "java/lang/Throwable" "cause" "Ljava/lang/Throwable;") ∈ lw_all := lw_g (lw_at lw_m2 101 rfl) rfl
theorem q430 : (Jvm.Cond.lays "java/lang/NullPointerException" "java/lang/Throwable" "stackTrace" "[Ljava/lang/StackTraceElement;") ∈ lw_all := lw_g (lw_at lw_m2 102 rfl) rfl
theorem q431 : (Jvm.Cond.lays "java/lang/NullPointerException" "java/lang/Throwable" "depth" "I") ∈ lw_all := lw_g (lw_at lw_m2 103 rfl) rfl
theorem q432 : (Jvm.Cond.lays "java/lang/NullPointerException" "java/lang/Throwable" "suppressedExceptions" "Ljava/util/List;") ∈ lw_all := lw_g (lw_at lw_m2 104 rfl) rfl
theorem q433 : (Jvm.Cond.castable "java/lang/NullPointerException" "java/lang/NullPointerException") ∈ lw_tbl := lw_at lw_m2 105 rfl
theorem q434 : (Jvm.Cond.selects "java/lang/NullPointerException" ({ cls := "java/lang/Throwable", name := "fillInStackTrace", desc := "(I)Ljava/lang/Throwable;" } : Jvm.MethodName) ({ cls := "java/lang/Throwable", name := "fillInStackTrace", desc := "(I)Ljava/lang/Throwable;" } : Jvm.MethodName)) ∈ lw_all := lw_g (lw_at lw_m2 106 rfl) rfl
theorem q1402 : (Jvm.Cond.castable "java/lang/NullPointerException" "java/lang/Object") ∈ lw_tbl := lw_at lw_m6 114 rfl
theorem in_J6 : ∀ w ∈ wsJ60, w ∈ lw_all := lw_in wsJ60 [427, 428, 429, 430, 431, 432, 423, 425] (by decide +kernel) (by decide +kernel)

/-! java/lang/ClassCastException -/
set_option maxRecDepth 100000
def RJ7 : String := "java/lang/ClassCastException"
def TJ7 : u_T := fun k => match k with
  | 0 => ("java/lang/Throwable", "backtrace", "Ljava/lang/Object;", false)
  | 1 => ("java/lang/Throwable", "detailMessage", "Ljava/lang/String;", false)
  | 2 => ("java/lang/Throwable", "cause", "Ljava/lang/Throwable;", false)
  | 3 => ("java/lang/Throwable", "stackTrace", "[Ljava/lang/StackTraceElement;", false)
  | 4 => ("java/lang/Throwable", "depth", "I", false)
  | _ => ("java/lang/Throwable", "suppressedExceptions", "Ljava/util/List;", false)
def tyJ7 : Nat → FieldType := fun k => match k with
  | 0 => .object "java/lang/Object"
  | 1 => .object "java/lang/String"
  | 2 => .object "java/lang/Throwable"
  | 3 => .array (.object "java/lang/StackTraceElement")
  | 4 => .int
  | _ => .object "java/util/List"
abbrev wsJ70 : List Cond := u_ws RJ7 TJ7 6
theorem nmJ7 : ∀ a, a < 6 → ∀ b, b < 6 → a ≠ b → (TJ7 a).2.1 ≠ (TJ7 b).2.1 := by decide +kernel
theorem tyJ7_ok : ∀ k, k < 6 → parseFieldDescriptor (TJ7 k).2.2.1 = some (tyJ7 k) := by decide +kernel
abbrev cJ7_init : ByteArray := prog_13_method_2_code
def yJ7_init : MethodName := ⟨RJ7, "<init>", "(Ljava/lang/String;)V"⟩
def dkwJ7_init_0 : List UInt8 := [42, 43, 183, 0, 7, 177]
abbrev dktJ7_init_0 : List UInt8 := dkwJ7_init_0 ++ []
theorem dksJ7_init_0 : cJ7_init.data.toList.drop 0 = dktJ7_init_0 := by decide +kernel
theorem dJ7_init_0 : decode cJ7_init 0 = .ok (.aload_n 0, 1) := dk_42 (dk_at dksJ7_init_0 0 rfl rfl)
theorem dJ7_init_1 : decode cJ7_init 1 = .ok (.aload_n 1, 1) := dk_43 (dk_at dksJ7_init_0 1 rfl rfl)
theorem dJ7_init_2 : decode cJ7_init 2 = .ok (.invokespecial 7, 3) := dk_183 0 7 (dk_at dksJ7_init_0 2 rfl rfl)
theorem dJ7_init_5 : decode cJ7_init 5 = .ok (.return_, 1) := dk_177 (dk_at dksJ7_init_0 5 rfl rfl)
theorem q103 : (Jvm.Cond.initialized "java/lang/ClassCastException") ∈ lw_all := lw_g (lw_at lw_m1 15 rfl) rfl
theorem q345 : (Jvm.Cond.selects "java/lang/ClassCastException" ({ cls := "java/lang/Throwable", name := "fillInStackTrace", desc := "()Ljava/lang/Throwable;" } : Jvm.MethodName) ({ cls := "java/lang/Throwable", name := "fillInStackTrace", desc := "()Ljava/lang/Throwable;" } : Jvm.MethodName)) ∈ lw_all := lw_g (lw_at lw_m2 17 rfl) rfl
theorem q437 : (Jvm.Cond.instantiable "java/lang/ClassCastException" (6 : Nat)) ∈ lw_all := lw_g (lw_at lw_m2 109 rfl) rfl
theorem q438 : (Jvm.Cond.instanceMethod ({ cls := "java/lang/ClassCastException", name := "<init>", desc := "(Ljava/lang/String;)V" } : Jvm.MethodName)) ∈ lw_all := lw_g (lw_at lw_m2 110 rfl) rfl
theorem q439 : (Jvm.Cond.code ({ cls := "java/lang/ClassCastException", name := "<init>", desc := "(Ljava/lang/String;)V" } : Jvm.MethodName) prog_13_method_2_code (2 : Nat) (Option.none : Option Jvm.ClassFile.FieldType)) ∈ lw_all := lw_g (lw_at lw_m2 111 rfl) rfl
theorem q440 : (Jvm.Cond.methodLink "java/lang/ClassCastException" (7 : Nat) ({ cls := "java/lang/RuntimeException", name := "<init>", desc := "(Ljava/lang/String;)V" } : Jvm.MethodName)) ∈ lw_all := lw_g (lw_at lw_m2 112 rfl) rfl
theorem q441 : (Jvm.Cond.lays "java/lang/ClassCastException" "java/lang/Throwable" "backtrace" "Ljava/lang/Object;") ∈ lw_all := lw_g (lw_at lw_m2 113 rfl) rfl
theorem q442 : (Jvm.Cond.lays "java/lang/ClassCastException" "java/lang/Throwable" "detailMessage" "Ljava/lang/String;") ∈ lw_all := lw_g (lw_at lw_m2 114 rfl) rfl
theorem q443 : (Jvm.Cond.lays "java/lang/ClassCastException" "java/lang/Throwable" "cause" "Ljava/lang/Throwable;") ∈ lw_all := lw_g (lw_at lw_m2 115 rfl) rfl
theorem q444 : (Jvm.Cond.lays "java/lang/ClassCastException" "java/lang/Throwable" "stackTrace" "[Ljava/lang/StackTraceElement;") ∈ lw_all := lw_g (lw_at lw_m2 116 rfl) rfl
theorem q445 : (Jvm.Cond.lays "java/lang/ClassCastException" "java/lang/Throwable" "depth" "I") ∈ lw_all := lw_g (lw_at lw_m2 117 rfl) rfl
theorem q446 : (Jvm.Cond.lays "java/lang/ClassCastException" "java/lang/Throwable" "suppressedExceptions" "Ljava/util/List;") ∈ lw_all := lw_g (lw_at lw_m2 118 rfl) rfl
theorem q447 : (Jvm.Cond.superclass "java/lang/ClassCastException" "java/lang/RuntimeException") ∈ lw_all := lw_g (lw_at lw_m2 119 rfl) rfl
theorem q448 : (Jvm.Cond.castable "java/lang/ClassCastException" "java/lang/ClassCastException") ∈ lw_tbl := lw_at lw_m2 120 rfl
theorem q449 : (Jvm.Cond.selects "java/lang/ClassCastException" ({ cls := "java/lang/Throwable", name := "fillInStackTrace", desc := "(I)Ljava/lang/Throwable;" } : Jvm.MethodName) ({ cls := "java/lang/Throwable", name := "fillInStackTrace", desc := "(I)Ljava/lang/Throwable;" } : Jvm.MethodName)) ∈ lw_all := lw_g (lw_at lw_m2 121 rfl) rfl
theorem q1403 : (Jvm.Cond.castable "java/lang/ClassCastException" "java/lang/Object") ∈ lw_tbl := lw_at lw_m6 115 rfl
theorem in_J7 : ∀ w ∈ wsJ70, w ∈ lw_all := lw_in wsJ70 [441, 442, 443, 444, 445, 446] (by decide +kernel) (by decide +kernel)

/-! java/lang/Math -/
set_option maxRecDepth 100000
def RJ8 : String := "java/lang/Math"
abbrev cJ8_min : ByteArray := prog_16_method_69_code
def yJ8_min : MethodName := ⟨RJ8, "min", "(II)I"⟩
def dkwJ8_min_0 : List UInt8 := [26, 27, 163, 0, 7, 26, 167, 0, 4, 27, 172]
abbrev dktJ8_min_0 : List UInt8 := dkwJ8_min_0 ++ []
theorem dksJ8_min_0 : cJ8_min.data.toList.drop 0 = dktJ8_min_0 := by decide +kernel
theorem dJ8_min_0 : decode cJ8_min 0 = .ok (.iload_n 0, 1) := dk_26 (dk_at dksJ8_min_0 0 rfl rfl)
theorem dJ8_min_1 : decode cJ8_min 1 = .ok (.iload_n 1, 1) := dk_27 (dk_at dksJ8_min_0 1 rfl rfl)
theorem dJ8_min_2 : decode cJ8_min 2 = .ok (.if_icmp .gt 7, 3) := dk_163 0 7 (dk_at dksJ8_min_0 2 rfl rfl)
theorem dJ8_min_5 : decode cJ8_min 5 = .ok (.iload_n 0, 1) := dk_26 (dk_at dksJ8_min_0 5 rfl rfl)
theorem dJ8_min_6 : decode cJ8_min 6 = .ok (.goto 4, 3) := dk_167 0 4 (dk_at dksJ8_min_0 6 rfl rfl)
theorem dJ8_min_9 : decode cJ8_min 9 = .ok (.iload_n 1, 1) := dk_27 (dk_at dksJ8_min_0 9 rfl rfl)
theorem dJ8_min_10 : decode cJ8_min 10 = .ok (.ireturn, 1) := dk_172 (dk_at dksJ8_min_0 10 rfl rfl)
abbrev cJ8_max : ByteArray := prog_16_method_66_code
def yJ8_max : MethodName := ⟨RJ8, "max", "(JJ)J"⟩
def dkwJ8_max_0 : List UInt8 := [30, 32, 148, 155, 0, 7, 30, 167, 0, 4, 32, 173]
abbrev dktJ8_max_0 : List UInt8 := dkwJ8_max_0 ++ []
theorem dksJ8_max_0 : cJ8_max.data.toList.drop 0 = dktJ8_max_0 := by decide +kernel
theorem dJ8_max_0 : decode cJ8_max 0 = .ok (.lload_n 0, 1) := dk_30 (dk_at dksJ8_max_0 0 rfl rfl)
theorem dJ8_max_1 : decode cJ8_max 1 = .ok (.lload_n 2, 1) := dk_32 (dk_at dksJ8_max_0 1 rfl rfl)
theorem dJ8_max_2 : decode cJ8_max 2 = .ok (.lcmp, 1) := dk_148 (dk_at dksJ8_max_0 2 rfl rfl)
theorem dJ8_max_3 : decode cJ8_max 3 = .ok (.ifCond .lt 7, 3) := dk_155 0 7 (dk_at dksJ8_max_0 3 rfl rfl)
theorem dJ8_max_6 : decode cJ8_max 6 = .ok (.lload_n 0, 1) := dk_30 (dk_at dksJ8_max_0 6 rfl rfl)
theorem dJ8_max_7 : decode cJ8_max 7 = .ok (.goto 4, 3) := dk_167 0 4 (dk_at dksJ8_max_0 7 rfl rfl)
theorem dJ8_max_10 : decode cJ8_max 10 = .ok (.lload_n 2, 1) := dk_32 (dk_at dksJ8_max_0 10 rfl rfl)
theorem dJ8_max_11 : decode cJ8_max 11 = .ok (.lreturn, 1) := dk_173 (dk_at dksJ8_max_0 11 rfl rfl)
theorem q107 : (Jvm.Cond.initialized "java/lang/Math") ∈ lw_all := lw_g (lw_at lw_m1 19 rfl) rfl
theorem q869 : (Jvm.Cond.static ({ cls := "java/lang/Math", name := "min", desc := "(II)I" } : Jvm.MethodName)) ∈ lw_all := lw_g (lw_at lw_m4 61 rfl) rfl
theorem q870 : (Jvm.Cond.code ({ cls := "java/lang/Math", name := "min", desc := "(II)I" } : Jvm.MethodName) prog_16_method_69_code (2 : Nat) (Option.some Jvm.ClassFile.FieldType.int)) ∈ lw_all := lw_g (lw_at lw_m4 62 rfl) rfl
theorem q876 : (Jvm.Cond.static ({ cls := "java/lang/Math", name := "max", desc := "(JJ)J" } : Jvm.MethodName)) ∈ lw_all := lw_g (lw_at lw_m4 68 rfl) rfl
theorem q877 : (Jvm.Cond.code ({ cls := "java/lang/Math", name := "max", desc := "(JJ)J" } : Jvm.MethodName) prog_16_method_66_code (4 : Nat) (Option.some Jvm.ClassFile.FieldType.long)) ∈ lw_all := lw_g (lw_at lw_m4 69 rfl) rfl

/-! java/lang/NegativeArraySizeException -/
set_option maxRecDepth 100000
def RJ9 : String := "java/lang/NegativeArraySizeException"
def TJ9 : u_T := fun k => match k with
  | 0 => ("java/lang/Throwable", "backtrace", "Ljava/lang/Object;", false)
  | 1 => ("java/lang/Throwable", "detailMessage", "Ljava/lang/String;", false)
  | 2 => ("java/lang/Throwable", "cause", "Ljava/lang/Throwable;", false)
  | 3 => ("java/lang/Throwable", "stackTrace", "[Ljava/lang/StackTraceElement;", false)
  | 4 => ("java/lang/Throwable", "depth", "I", false)
  | _ => ("java/lang/Throwable", "suppressedExceptions", "Ljava/util/List;", false)
def tyJ9 : Nat → FieldType := fun k => match k with
  | 0 => .object "java/lang/Object"
  | 1 => .object "java/lang/String"
  | 2 => .object "java/lang/Throwable"
  | 3 => .array (.object "java/lang/StackTraceElement")
  | 4 => .int
  | _ => .object "java/util/List"
abbrev wsJ90 : List Cond := u_ws RJ9 TJ9 6
theorem nmJ9 : ∀ a, a < 6 → ∀ b, b < 6 → a ≠ b → (TJ9 a).2.1 ≠ (TJ9 b).2.1 := by decide +kernel
theorem tyJ9_ok : ∀ k, k < 6 → parseFieldDescriptor (TJ9 k).2.2.1 = some (tyJ9 k) := by decide +kernel
abbrev cJ9_init : ByteArray := prog_17_method_2_code
def yJ9_init : MethodName := ⟨RJ9, "<init>", "(Ljava/lang/String;)V"⟩
def dkwJ9_init_0 : List UInt8 := [42, 43, 183, 0, 7, 177]
abbrev dktJ9_init_0 : List UInt8 := dkwJ9_init_0 ++ []
theorem dksJ9_init_0 : cJ9_init.data.toList.drop 0 = dktJ9_init_0 := by decide +kernel
theorem dJ9_init_0 : decode cJ9_init 0 = .ok (.aload_n 0, 1) := dk_42 (dk_at dksJ9_init_0 0 rfl rfl)
theorem dJ9_init_1 : decode cJ9_init 1 = .ok (.aload_n 1, 1) := dk_43 (dk_at dksJ9_init_0 1 rfl rfl)
theorem dJ9_init_2 : decode cJ9_init 2 = .ok (.invokespecial 7, 3) := dk_183 0 7 (dk_at dksJ9_init_0 2 rfl rfl)
theorem dJ9_init_5 : decode cJ9_init 5 = .ok (.return_, 1) := dk_177 (dk_at dksJ9_init_0 5 rfl rfl)
theorem q108 : (Jvm.Cond.initialized "java/lang/NegativeArraySizeException") ∈ lw_all := lw_g (lw_at lw_m1 20 rfl) rfl
theorem q347 : (Jvm.Cond.selects "java/lang/NegativeArraySizeException" ({ cls := "java/lang/Throwable", name := "fillInStackTrace", desc := "()Ljava/lang/Throwable;" } : Jvm.MethodName) ({ cls := "java/lang/Throwable", name := "fillInStackTrace", desc := "()Ljava/lang/Throwable;" } : Jvm.MethodName)) ∈ lw_all := lw_g (lw_at lw_m2 19 rfl) rfl
theorem q901 : (Jvm.Cond.instantiable "java/lang/NegativeArraySizeException" (6 : Nat)) ∈ lw_all := lw_g (lw_at lw_m4 93 rfl) rfl
theorem q902 : (Jvm.Cond.instanceMethod ({ cls := "java/lang/NegativeArraySizeException", name := "<init>", desc := "(Ljava/lang/String;)V" } : Jvm.MethodName)) ∈ lw_all := lw_g (lw_at lw_m4 94 rfl) rfl
theorem q903 : (Jvm.Cond.code ({ cls := "java/lang/NegativeArraySizeException", name := "<init>", desc := "(Ljava/lang/String;)V" } : Jvm.MethodName) prog_17_method_2_code (2 : Nat) (Option.none : Option Jvm.ClassFile.FieldType)) ∈ lw_all := lw_g (lw_at lw_m4 95 rfl) rfl
theorem q904 : (Jvm.Cond.methodLink "java/lang/NegativeArraySizeException" (7 : Nat) ({ cls := "java/lang/RuntimeException", name := "<init>", desc := "(Ljava/lang/String;)V" } : Jvm.MethodName)) ∈ lw_all := lw_g (lw_at lw_m4 96 rfl) rfl
theorem q905 : (Jvm.Cond.lays "java/lang/NegativeArraySizeException" "java/lang/Throwable" "backtrace" "Ljava/lang/Object;") ∈ lw_all := lw_g (lw_at lw_m4 97 rfl) rfl
theorem q906 : (Jvm.Cond.lays "java/lang/NegativeArraySizeException" "java/lang/Throwable" "detailMessage" "Ljava/lang/String;") ∈ lw_all := lw_g (lw_at lw_m4 98 rfl) rfl
theorem q907 : (Jvm.Cond.lays "java/lang/NegativeArraySizeException" "java/lang/Throwable" "cause" "Ljava/lang/Throwable;") ∈ lw_all := lw_g (lw_at lw_m4 99 rfl) rfl
theorem q908 : (Jvm.Cond.lays "java/lang/NegativeArraySizeException" "java/lang/Throwable" "stackTrace" "[Ljava/lang/StackTraceElement;") ∈ lw_all := lw_g (lw_at lw_m4 100 rfl) rfl
theorem q909 : (Jvm.Cond.lays "java/lang/NegativeArraySizeException" "java/lang/Throwable" "depth" "I") ∈ lw_all := lw_g (lw_at lw_m4 101 rfl) rfl
theorem q910 : (Jvm.Cond.lays "java/lang/NegativeArraySizeException" "java/lang/Throwable" "suppressedExceptions" "Ljava/util/List;") ∈ lw_all := lw_g (lw_at lw_m4 102 rfl) rfl
theorem q911 : (Jvm.Cond.superclass "java/lang/NegativeArraySizeException" "java/lang/RuntimeException") ∈ lw_all := lw_g (lw_at lw_m4 103 rfl) rfl
theorem q912 : (Jvm.Cond.castable "java/lang/NegativeArraySizeException" "java/lang/NegativeArraySizeException") ∈ lw_tbl := lw_at lw_m4 104 rfl
theorem q913 : (Jvm.Cond.selects "java/lang/NegativeArraySizeException" ({ cls := "java/lang/Throwable", name := "fillInStackTrace", desc := "(I)Ljava/lang/Throwable;" } : Jvm.MethodName) ({ cls := "java/lang/Throwable", name := "fillInStackTrace", desc := "(I)Ljava/lang/Throwable;" } : Jvm.MethodName)) ∈ lw_all := lw_g (lw_at lw_m4 105 rfl) rfl
theorem q1408 : (Jvm.Cond.castable "java/lang/NegativeArraySizeException" "java/lang/Object") ∈ lw_tbl := lw_at lw_m6 120 rfl
theorem in_J9 : ∀ w ∈ wsJ90, w ∈ lw_all := lw_in wsJ90 [905, 906, 907, 908, 909, 910] (by decide +kernel) (by decide +kernel)

/-! DeadListPool$Sheet -/
set_option maxRecDepth 100000
def RX1 : String := "DeadListPool$Sheet"
def TX1 : u_T := fun k => match k with
  | _ => ("DeadListPool$Sheet", "row", "Ljava/lang/Object;", false)
def tyX1 : Nat → FieldType := fun k => match k with
  | _ => .object "java/lang/Object"
abbrev wsX10 : List Cond := u_ws RX1 TX1 1
theorem nmX1 : ∀ a, a < 1 → ∀ b, b < 1 → a ≠ b → (TX1 a).2.1 ≠ (TX1 b).2.1 := by decide +kernel
theorem tyX1_ok : ∀ k, k < 1 → parseFieldDescriptor (TX1 k).2.2.1 = some (tyX1 k) := by decide +kernel
abbrev cX1_init : ByteArray := prog_7_method_1_code
def yX1_init : MethodName := ⟨RX1, "<init>", "()V"⟩
theorem dX1_init_0 : decode cX1_init 0 = .ok (.aload_n 0, 1) := by decide +kernel
theorem dX1_init_1 : decode cX1_init 1 = .ok (.invokespecial 1, 3) := by decide +kernel
theorem dX1_init_4 : decode cX1_init 4 = .ok (.return_, 1) := by decide +kernel
theorem q90 : (Jvm.Cond.initialized "DeadListPool$Sheet") ∈ lw_all := lw_g (lw_at lw_m1 2 rfl) rfl
theorem q123 : (Jvm.Cond.instantiable "DeadListPool$Sheet" (1 : Nat)) ∈ lw_all := lw_g (lw_at lw_m1 35 rfl) rfl
theorem q125 : (Jvm.Cond.instanceMethod ({ cls := "DeadListPool$Sheet", name := "<init>", desc := "()V" } : Jvm.MethodName)) ∈ lw_all := lw_g (lw_at lw_m1 37 rfl) rfl
theorem q126 : (Jvm.Cond.code ({ cls := "DeadListPool$Sheet", name := "<init>", desc := "()V" } : Jvm.MethodName) prog_7_method_1_code (1 : Nat) (Option.none : Option Jvm.ClassFile.FieldType)) ∈ lw_all := lw_g (lw_at lw_m1 38 rfl) rfl
theorem q127 : (Jvm.Cond.methodLink "DeadListPool$Sheet" (1 : Nat) ({ cls := "java/lang/Object", name := "<init>", desc := "()V" } : Jvm.MethodName)) ∈ lw_all := lw_g (lw_at lw_m1 39 rfl) rfl
theorem q129 : (Jvm.Cond.lays "DeadListPool$Sheet" "DeadListPool$Sheet" "row" "Ljava/lang/Object;") ∈ lw_all := lw_g (lw_at lw_m1 41 rfl) rfl
theorem q130 : (Jvm.Cond.soleField "DeadListPool$Sheet" "row") ∈ lw_all := lw_g (lw_at lw_m1 42 rfl) rfl
theorem q131 : (Jvm.Cond.superclass "DeadListPool$Sheet" "java/lang/Object") ∈ lw_all := lw_g (lw_at lw_m1 43 rfl) rfl
theorem q1396 : (Jvm.Cond.castable "DeadListPool$Sheet" "java/lang/Object") ∈ lw_tbl := lw_at lw_m6 108 rfl
theorem in_X1 : ∀ w ∈ wsX10, w ∈ lw_all := lw_in wsX10 [129] (by decide +kernel) (by decide +kernel)

/-! DeadListPool$Copy -/
set_option maxRecDepth 100000
def RX2 : String := "DeadListPool$Copy"
def TX2 : u_T := fun k => match k with
  | 0 => ("DeadListPool$Copy", "things", "[Ljava/lang/Object;", true)
  | 1 => ("DeadListPool$Copy", "slots", "[[I", true)
  | 2 => ("DeadListPool$Copy", "dead", "[[I", true)
  | 3 => ("DeadListPool$Copy", "deadMany", "[I", true)
  | 4 => ("DeadListPool$Copy", "prevs", "[LDeadListPool$Snapshot;", true)
  | 5 => ("DeadListPool$Copy", "owners", "[LDeadListPool$Folder;", true)
  | 6 => ("DeadListPool$Copy", "tags", "[I", true)
  | 7 => ("DeadListPool$Copy", "sizes", "[I", true)
  | 8 => ("DeadListPool$Copy", "births", "[I", true)
  | 9 => ("DeadListPool$Copy", "time", "I", false)
  | _ => ("DeadListPool$Copy", "freed", "I", false)
def tyX2 : Nat → FieldType := fun k => match k with
  | 0 => .array (.object "java/lang/Object")
  | 1 => .array (.array .int)
  | 2 => .array (.array .int)
  | 3 => .array .int
  | 4 => .array (.object "DeadListPool$Snapshot")
  | 5 => .array (.object "DeadListPool$Folder")
  | 6 => .array .int
  | 7 => .array .int
  | 8 => .array .int
  | 9 => .int
  | _ => .int
abbrev wsX20 : List Cond := u_ws RX2 TX2 11
theorem nmX2 : ∀ a, a < 11 → ∀ b, b < 11 → a ≠ b → (TX2 a).2.1 ≠ (TX2 b).2.1 := by decide +kernel
theorem tyX2_ok : ∀ k, k < 11 → parseFieldDescriptor (TX2 k).2.2.1 = some (tyX2 k) := by decide +kernel
abbrev cX2_init : ByteArray := prog_4_method_1_code
def yX2_init : MethodName := ⟨RX2, "<init>", "()V"⟩
def dkwX2_init_3 : List UInt8 := [181, 0, 39, 42, 16, 96, 188, 10, 181, 0, 42, 42, 16, 96, 188, 10, 181, 0, 45, 177]
abbrev dktX2_init_3 : List UInt8 := dkwX2_init_3 ++ []
def dkwX2_init_2 : List UInt8 := [16, 20, 189, 0, 27, 181, 0, 29, 42, 16, 20, 189, 0, 33, 181, 0, 35, 42, 16, 20, 188, 10]
abbrev dktX2_init_2 : List UInt8 := dkwX2_init_2 ++ dktX2_init_3
def dkwX2_init_1 : List UInt8 := [181, 0, 17, 42, 16, 20, 16, 12, 197, 0, 15, 2, 181, 0, 20, 42, 16, 20, 188, 10, 181, 0, 23, 42]
abbrev dktX2_init_1 : List UInt8 := dkwX2_init_1 ++ dktX2_init_2
def dkwX2_init_0 : List UInt8 := [42, 183, 0, 3, 42, 16, 20, 189, 0, 4, 181, 0, 9, 42, 16, 20, 16, 12, 197, 0, 15, 2]
abbrev dktX2_init_0 : List UInt8 := dkwX2_init_0 ++ dktX2_init_1
theorem dksX2_init_0 : cX2_init.data.toList.drop 0 = dktX2_init_0 := by decide +kernel
theorem dksX2_init_1 : cX2_init.data.toList.drop 22 = dktX2_init_1 := dk_seg dksX2_init_0 22 rfl rfl
theorem dksX2_init_2 : cX2_init.data.toList.drop 46 = dktX2_init_2 := dk_seg dksX2_init_1 24 rfl rfl
theorem dksX2_init_3 : cX2_init.data.toList.drop 68 = dktX2_init_3 := dk_seg dksX2_init_2 22 rfl rfl
theorem dX2_init_0 : decode cX2_init 0 = .ok (.aload_n 0, 1) := dk_42 (dk_at dksX2_init_0 0 rfl rfl)
theorem dX2_init_1 : decode cX2_init 1 = .ok (.invokespecial 3, 3) := dk_183 0 3 (dk_at dksX2_init_0 1 rfl rfl)
theorem dX2_init_4 : decode cX2_init 4 = .ok (.aload_n 0, 1) := dk_42 (dk_at dksX2_init_0 4 rfl rfl)
theorem dX2_init_5 : decode cX2_init 5 = .ok (.bipush 20, 2) := dk_16 20 (dk_at dksX2_init_0 5 rfl rfl)
theorem dX2_init_7 : decode cX2_init 7 = .ok (.anewarray 4, 3) := dk_189 0 4 (dk_at dksX2_init_0 7 rfl rfl)
theorem dX2_init_10 : decode cX2_init 10 = .ok (.putfield 9, 3) := dk_181 0 9 (dk_at dksX2_init_0 10 rfl rfl)
theorem dX2_init_13 : decode cX2_init 13 = .ok (.aload_n 0, 1) := dk_42 (dk_at dksX2_init_0 13 rfl rfl)
theorem dX2_init_14 : decode cX2_init 14 = .ok (.bipush 20, 2) := dk_16 20 (dk_at dksX2_init_0 14 rfl rfl)
theorem dX2_init_16 : decode cX2_init 16 = .ok (.bipush 12, 2) := dk_16 12 (dk_at dksX2_init_0 16 rfl rfl)
theorem dX2_init_18 : decode cX2_init 18 = .ok (.multianewarray 15 2, 4) := by decide +kernel
theorem dX2_init_22 : decode cX2_init 22 = .ok (.putfield 17, 3) := dk_181 0 17 (dk_at dksX2_init_1 0 rfl rfl)
theorem dX2_init_25 : decode cX2_init 25 = .ok (.aload_n 0, 1) := dk_42 (dk_at dksX2_init_1 3 rfl rfl)
theorem dX2_init_26 : decode cX2_init 26 = .ok (.bipush 20, 2) := dk_16 20 (dk_at dksX2_init_1 4 rfl rfl)
theorem dX2_init_28 : decode cX2_init 28 = .ok (.bipush 12, 2) := dk_16 12 (dk_at dksX2_init_1 6 rfl rfl)
theorem dX2_init_30 : decode cX2_init 30 = .ok (.multianewarray 15 2, 4) := by decide +kernel
theorem dX2_init_34 : decode cX2_init 34 = .ok (.putfield 20, 3) := dk_181 0 20 (dk_at dksX2_init_1 12 rfl rfl)
theorem dX2_init_37 : decode cX2_init 37 = .ok (.aload_n 0, 1) := dk_42 (dk_at dksX2_init_1 15 rfl rfl)
theorem dX2_init_38 : decode cX2_init 38 = .ok (.bipush 20, 2) := dk_16 20 (dk_at dksX2_init_1 16 rfl rfl)
theorem dX2_init_40 : decode cX2_init 40 = .ok (.newarray .int, 2) := dk_188_10 (dk_at dksX2_init_1 18 rfl rfl)
theorem dX2_init_42 : decode cX2_init 42 = .ok (.putfield 23, 3) := dk_181 0 23 (dk_at dksX2_init_1 20 rfl rfl)
theorem dX2_init_45 : decode cX2_init 45 = .ok (.aload_n 0, 1) := dk_42 (dk_at dksX2_init_1 23 rfl rfl)
theorem dX2_init_46 : decode cX2_init 46 = .ok (.bipush 20, 2) := dk_16 20 (dk_at dksX2_init_2 0 rfl rfl)
theorem dX2_init_48 : decode cX2_init 48 = .ok (.anewarray 27, 3) := dk_189 0 27 (dk_at dksX2_init_2 2 rfl rfl)
theorem dX2_init_51 : decode cX2_init 51 = .ok (.putfield 29, 3) := dk_181 0 29 (dk_at dksX2_init_2 5 rfl rfl)
theorem dX2_init_54 : decode cX2_init 54 = .ok (.aload_n 0, 1) := dk_42 (dk_at dksX2_init_2 8 rfl rfl)
theorem dX2_init_55 : decode cX2_init 55 = .ok (.bipush 20, 2) := dk_16 20 (dk_at dksX2_init_2 9 rfl rfl)
theorem dX2_init_57 : decode cX2_init 57 = .ok (.anewarray 33, 3) := dk_189 0 33 (dk_at dksX2_init_2 11 rfl rfl)
theorem dX2_init_60 : decode cX2_init 60 = .ok (.putfield 35, 3) := dk_181 0 35 (dk_at dksX2_init_2 14 rfl rfl)
theorem dX2_init_63 : decode cX2_init 63 = .ok (.aload_n 0, 1) := dk_42 (dk_at dksX2_init_2 17 rfl rfl)
theorem dX2_init_64 : decode cX2_init 64 = .ok (.bipush 20, 2) := dk_16 20 (dk_at dksX2_init_2 18 rfl rfl)
theorem dX2_init_66 : decode cX2_init 66 = .ok (.newarray .int, 2) := dk_188_10 (dk_at dksX2_init_2 20 rfl rfl)
theorem dX2_init_68 : decode cX2_init 68 = .ok (.putfield 39, 3) := dk_181 0 39 (dk_at dksX2_init_3 0 rfl rfl)
theorem dX2_init_71 : decode cX2_init 71 = .ok (.aload_n 0, 1) := dk_42 (dk_at dksX2_init_3 3 rfl rfl)
theorem dX2_init_72 : decode cX2_init 72 = .ok (.bipush 96, 2) := dk_16 96 (dk_at dksX2_init_3 4 rfl rfl)
theorem dX2_init_74 : decode cX2_init 74 = .ok (.newarray .int, 2) := dk_188_10 (dk_at dksX2_init_3 6 rfl rfl)
theorem dX2_init_76 : decode cX2_init 76 = .ok (.putfield 42, 3) := dk_181 0 42 (dk_at dksX2_init_3 8 rfl rfl)
theorem dX2_init_79 : decode cX2_init 79 = .ok (.aload_n 0, 1) := dk_42 (dk_at dksX2_init_3 11 rfl rfl)
theorem dX2_init_80 : decode cX2_init 80 = .ok (.bipush 96, 2) := dk_16 96 (dk_at dksX2_init_3 12 rfl rfl)
theorem dX2_init_82 : decode cX2_init 82 = .ok (.newarray .int, 2) := dk_188_10 (dk_at dksX2_init_3 14 rfl rfl)
theorem dX2_init_84 : decode cX2_init 84 = .ok (.putfield 45, 3) := dk_181 0 45 (dk_at dksX2_init_3 16 rfl rfl)
theorem dX2_init_87 : decode cX2_init 87 = .ok (.return_, 1) := dk_177 (dk_at dksX2_init_3 19 rfl rfl)
theorem q91 : (Jvm.Cond.initialized "DeadListPool$Copy") ∈ lw_all := lw_g (lw_at lw_m1 3 rfl) rfl
theorem q134 : (Jvm.Cond.instantiable "DeadListPool$Copy" (11 : Nat)) ∈ lw_all := lw_g (lw_at lw_m1 46 rfl) rfl
theorem q136 : (Jvm.Cond.instanceMethod ({ cls := "DeadListPool$Copy", name := "<init>", desc := "()V" } : Jvm.MethodName)) ∈ lw_all := lw_g (lw_at lw_m1 48 rfl) rfl
theorem q137 : (Jvm.Cond.code ({ cls := "DeadListPool$Copy", name := "<init>", desc := "()V" } : Jvm.MethodName) prog_4_method_1_code (1 : Nat) (Option.none : Option Jvm.ClassFile.FieldType)) ∈ lw_all := lw_g (lw_at lw_m1 49 rfl) rfl
theorem q138 : (Jvm.Cond.methodLink "DeadListPool$Copy" (3 : Nat) ({ cls := "java/lang/Object", name := "<init>", desc := "()V" } : Jvm.MethodName)) ∈ lw_all := lw_g (lw_at lw_m1 50 rfl) rfl
theorem q139 : (Jvm.Cond.classLink "DeadListPool$Copy" (4 : Nat) "java/lang/Object") ∈ lw_all := lw_g (lw_at lw_m1 51 rfl) rfl
theorem q140 : (Jvm.Cond.classLink "DeadListPool$Copy" (15 : Nat) "[[I") ∈ lw_all := lw_g (lw_at lw_m1 52 rfl) rfl
theorem q142 : (Jvm.Cond.classLink "DeadListPool$Copy" (27 : Nat) "DeadListPool$Snapshot") ∈ lw_all := lw_g (lw_at lw_m1 54 rfl) rfl
theorem q143 : (Jvm.Cond.classLink "DeadListPool$Copy" (33 : Nat) "DeadListPool$Folder") ∈ lw_all := lw_g (lw_at lw_m1 55 rfl) rfl
theorem q145 : (Jvm.Cond.fieldLink "DeadListPool$Copy" (9 : Nat) "DeadListPool$Copy" "things" "[Ljava/lang/Object;") ∈ lw_all := lw_g (lw_at lw_m1 57 rfl) rfl
theorem q147 : (Jvm.Cond.fieldLink "DeadListPool$Copy" (17 : Nat) "DeadListPool$Copy" "slots" "[[I") ∈ lw_all := lw_g (lw_at lw_m1 59 rfl) rfl
theorem q149 : (Jvm.Cond.fieldLink "DeadListPool$Copy" (20 : Nat) "DeadListPool$Copy" "dead" "[[I") ∈ lw_all := lw_g (lw_at lw_m1 61 rfl) rfl
theorem q151 : (Jvm.Cond.fieldLink "DeadListPool$Copy" (23 : Nat) "DeadListPool$Copy" "deadMany" "[I") ∈ lw_all := lw_g (lw_at lw_m1 63 rfl) rfl
theorem q153 : (Jvm.Cond.fieldLink "DeadListPool$Copy" (29 : Nat) "DeadListPool$Copy" "prevs" "[LDeadListPool$Snapshot;") ∈ lw_all := lw_g (lw_at lw_m1 65 rfl) rfl
theorem q155 : (Jvm.Cond.fieldLink "DeadListPool$Copy" (35 : Nat) "DeadListPool$Copy" "owners" "[LDeadListPool$Folder;") ∈ lw_all := lw_g (lw_at lw_m1 67 rfl) rfl
theorem q157 : (Jvm.Cond.fieldLink "DeadListPool$Copy" (39 : Nat) "DeadListPool$Copy" "tags" "[I") ∈ lw_all := lw_g (lw_at lw_m1 69 rfl) rfl
theorem q159 : (Jvm.Cond.fieldLink "DeadListPool$Copy" (42 : Nat) "DeadListPool$Copy" "sizes" "[I") ∈ lw_all := lw_g (lw_at lw_m1 71 rfl) rfl
theorem q161 : (Jvm.Cond.fieldLink "DeadListPool$Copy" (45 : Nat) "DeadListPool$Copy" "births" "[I") ∈ lw_all := lw_g (lw_at lw_m1 73 rfl) rfl
theorem q165 : (Jvm.Cond.laysFinal "DeadListPool$Copy" "DeadListPool$Copy" "things" "[Ljava/lang/Object;") ∈ lw_all := lw_g (lw_at lw_m1 77 rfl) rfl
theorem q166 : (Jvm.Cond.soleField "DeadListPool$Copy" "things") ∈ lw_all := lw_g (lw_at lw_m1 78 rfl) rfl
theorem q167 : (Jvm.Cond.laysFinal "DeadListPool$Copy" "DeadListPool$Copy" "slots" "[[I") ∈ lw_all := lw_g (lw_at lw_m1 79 rfl) rfl
theorem q168 : (Jvm.Cond.soleField "DeadListPool$Copy" "slots") ∈ lw_all := lw_g (lw_at lw_m1 80 rfl) rfl
theorem q169 : (Jvm.Cond.laysFinal "DeadListPool$Copy" "DeadListPool$Copy" "dead" "[[I") ∈ lw_all := lw_g (lw_at lw_m1 81 rfl) rfl
theorem q170 : (Jvm.Cond.soleField "DeadListPool$Copy" "dead") ∈ lw_all := lw_g (lw_at lw_m1 82 rfl) rfl
theorem q171 : (Jvm.Cond.laysFinal "DeadListPool$Copy" "DeadListPool$Copy" "deadMany" "[I") ∈ lw_all := lw_g (lw_at lw_m1 83 rfl) rfl
theorem q172 : (Jvm.Cond.soleField "DeadListPool$Copy" "deadMany") ∈ lw_all := lw_g (lw_at lw_m1 84 rfl) rfl
theorem q173 : (Jvm.Cond.laysFinal "DeadListPool$Copy" "DeadListPool$Copy" "prevs" "[LDeadListPool$Snapshot;") ∈ lw_all := lw_g (lw_at lw_m1 85 rfl) rfl
theorem q174 : (Jvm.Cond.soleField "DeadListPool$Copy" "prevs") ∈ lw_all := lw_g (lw_at lw_m1 86 rfl) rfl
theorem q175 : (Jvm.Cond.laysFinal "DeadListPool$Copy" "DeadListPool$Copy" "owners" "[LDeadListPool$Folder;") ∈ lw_all := lw_g (lw_at lw_m1 87 rfl) rfl
theorem q176 : (Jvm.Cond.soleField "DeadListPool$Copy" "owners") ∈ lw_all := lw_g (lw_at lw_m1 88 rfl) rfl
theorem q177 : (Jvm.Cond.laysFinal "DeadListPool$Copy" "DeadListPool$Copy" "tags" "[I") ∈ lw_all := lw_g (lw_at lw_m1 89 rfl) rfl
theorem q178 : (Jvm.Cond.soleField "DeadListPool$Copy" "tags") ∈ lw_all := lw_g (lw_at lw_m1 90 rfl) rfl
theorem q179 : (Jvm.Cond.laysFinal "DeadListPool$Copy" "DeadListPool$Copy" "sizes" "[I") ∈ lw_all := lw_g (lw_at lw_m1 91 rfl) rfl
theorem q180 : (Jvm.Cond.soleField "DeadListPool$Copy" "sizes") ∈ lw_all := lw_g (lw_at lw_m1 92 rfl) rfl
theorem q181 : (Jvm.Cond.laysFinal "DeadListPool$Copy" "DeadListPool$Copy" "births" "[I") ∈ lw_all := lw_g (lw_at lw_m1 93 rfl) rfl
theorem q182 : (Jvm.Cond.soleField "DeadListPool$Copy" "births") ∈ lw_all := lw_g (lw_at lw_m1 94 rfl) rfl
theorem q183 : (Jvm.Cond.lays "DeadListPool$Copy" "DeadListPool$Copy" "time" "I") ∈ lw_all := lw_g (lw_at lw_m1 95 rfl) rfl
theorem q184 : (Jvm.Cond.soleField "DeadListPool$Copy" "time") ∈ lw_all := lw_g (lw_at lw_m1 96 rfl) rfl
theorem q185 : (Jvm.Cond.lays "DeadListPool$Copy" "DeadListPool$Copy" "freed" "I") ∈ lw_all := lw_g (lw_at lw_m1 97 rfl) rfl
theorem q186 : (Jvm.Cond.soleField "DeadListPool$Copy" "freed") ∈ lw_all := lw_g (lw_at lw_m1 98 rfl) rfl
theorem q187 : (Jvm.Cond.superclass "DeadListPool$Copy" "java/lang/Object") ∈ lw_all := lw_g (lw_at lw_m1 99 rfl) rfl
theorem q1397 : (Jvm.Cond.castable "DeadListPool$Copy" "java/lang/Object") ∈ lw_tbl := lw_at lw_m6 109 rfl
theorem in_X2 : ∀ w ∈ wsX20, w ∈ lw_all := lw_in wsX20 [165, 167, 169, 171, 173, 175, 177, 179, 181, 183, 185] (by decide +kernel) (by decide +kernel)

/-! DeadListPool$Holder -/
set_option maxRecDepth 100000
def RX4 : String := "DeadListPool$Holder"
abbrev cX4_init : ByteArray := prog_6_method_1_code
def yX4_init : MethodName := ⟨RX4, "<init>", "(ILDeadListPool$Snapshot;)V"⟩
def dkwX4_init_2 : List UInt8 := [132, 3, 1, 167, 255, 240, 177]
abbrev dktX4_init_2 : List UInt8 := dkwX4_init_2 ++ []
def dkwX4_init_1 : List UInt8 := [181, 0, 18, 42, 44, 181, 0, 22, 3, 62, 29, 16, 12, 162, 0, 16, 42, 180, 0, 9, 29, 2, 79]
abbrev dktX4_init_1 : List UInt8 := dkwX4_init_1 ++ dktX4_init_2
def dkwX4_init_0 : List UInt8 := [42, 183, 0, 3, 42, 16, 12, 188, 10, 181, 0, 9, 42, 16, 12, 188, 10, 181, 0, 15, 42, 27]
abbrev dktX4_init_0 : List UInt8 := dkwX4_init_0 ++ dktX4_init_1
theorem dksX4_init_0 : cX4_init.data.toList.drop 0 = dktX4_init_0 := by decide +kernel
theorem dksX4_init_1 : cX4_init.data.toList.drop 22 = dktX4_init_1 := dk_seg dksX4_init_0 22 rfl rfl
theorem dksX4_init_2 : cX4_init.data.toList.drop 45 = dktX4_init_2 := dk_seg dksX4_init_1 23 rfl rfl
theorem dX4_init_0 : decode cX4_init 0 = .ok (.aload_n 0, 1) := dk_42 (dk_at dksX4_init_0 0 rfl rfl)
theorem dX4_init_1 : decode cX4_init 1 = .ok (.invokespecial 3, 3) := dk_183 0 3 (dk_at dksX4_init_0 1 rfl rfl)
theorem dX4_init_4 : decode cX4_init 4 = .ok (.aload_n 0, 1) := dk_42 (dk_at dksX4_init_0 4 rfl rfl)
theorem dX4_init_5 : decode cX4_init 5 = .ok (.bipush 12, 2) := dk_16 12 (dk_at dksX4_init_0 5 rfl rfl)
theorem dX4_init_7 : decode cX4_init 7 = .ok (.newarray .int, 2) := dk_188_10 (dk_at dksX4_init_0 7 rfl rfl)
theorem dX4_init_9 : decode cX4_init 9 = .ok (.putfield 9, 3) := dk_181 0 9 (dk_at dksX4_init_0 9 rfl rfl)
theorem dX4_init_12 : decode cX4_init 12 = .ok (.aload_n 0, 1) := dk_42 (dk_at dksX4_init_0 12 rfl rfl)
theorem dX4_init_13 : decode cX4_init 13 = .ok (.bipush 12, 2) := dk_16 12 (dk_at dksX4_init_0 13 rfl rfl)
theorem dX4_init_15 : decode cX4_init 15 = .ok (.newarray .int, 2) := dk_188_10 (dk_at dksX4_init_0 15 rfl rfl)
theorem dX4_init_17 : decode cX4_init 17 = .ok (.putfield 15, 3) := dk_181 0 15 (dk_at dksX4_init_0 17 rfl rfl)
theorem dX4_init_20 : decode cX4_init 20 = .ok (.aload_n 0, 1) := dk_42 (dk_at dksX4_init_0 20 rfl rfl)
theorem dX4_init_21 : decode cX4_init 21 = .ok (.iload_n 1, 1) := dk_27 (dk_at dksX4_init_0 21 rfl rfl)
theorem dX4_init_22 : decode cX4_init 22 = .ok (.putfield 18, 3) := dk_181 0 18 (dk_at dksX4_init_1 0 rfl rfl)
theorem dX4_init_25 : decode cX4_init 25 = .ok (.aload_n 0, 1) := dk_42 (dk_at dksX4_init_1 3 rfl rfl)
theorem dX4_init_26 : decode cX4_init 26 = .ok (.aload_n 2, 1) := dk_44 (dk_at dksX4_init_1 4 rfl rfl)
theorem dX4_init_27 : decode cX4_init 27 = .ok (.putfield 22, 3) := dk_181 0 22 (dk_at dksX4_init_1 5 rfl rfl)
theorem dX4_init_30 : decode cX4_init 30 = .ok (.iconst 0, 1) := dk_3 (dk_at dksX4_init_1 8 rfl rfl)
theorem dX4_init_31 : decode cX4_init 31 = .ok (.istore_n 3, 1) := dk_62 (dk_at dksX4_init_1 9 rfl rfl)
theorem dX4_init_32 : decode cX4_init 32 = .ok (.iload_n 3, 1) := dk_29 (dk_at dksX4_init_1 10 rfl rfl)
theorem dX4_init_33 : decode cX4_init 33 = .ok (.bipush 12, 2) := dk_16 12 (dk_at dksX4_init_1 11 rfl rfl)
theorem dX4_init_35 : decode cX4_init 35 = .ok (.if_icmp .ge 16, 3) := dk_162 0 16 (dk_at dksX4_init_1 13 rfl rfl)
theorem dX4_init_38 : decode cX4_init 38 = .ok (.aload_n 0, 1) := dk_42 (dk_at dksX4_init_1 16 rfl rfl)
theorem dX4_init_39 : decode cX4_init 39 = .ok (.getfield 9, 3) := dk_180 0 9 (dk_at dksX4_init_1 17 rfl rfl)
theorem dX4_init_42 : decode cX4_init 42 = .ok (.iload_n 3, 1) := dk_29 (dk_at dksX4_init_1 20 rfl rfl)
theorem dX4_init_43 : decode cX4_init 43 = .ok (.iconst (-1), 1) := dk_2 (dk_at dksX4_init_1 21 rfl rfl)
theorem dX4_init_44 : decode cX4_init 44 = .ok (.iastore, 1) := dk_79 (dk_at dksX4_init_1 22 rfl rfl)
theorem dX4_init_45 : decode cX4_init 45 = .ok (.iinc 3 1, 3) := dk_132 3 1 (dk_at dksX4_init_2 0 rfl rfl)
theorem dX4_init_48 : decode cX4_init 48 = .ok (.goto (-16), 3) := dk_167 255 240 (dk_at dksX4_init_2 3 rfl rfl)
theorem dX4_init_51 : decode cX4_init 51 = .ok (.return_, 1) := dk_177 (dk_at dksX4_init_2 6 rfl rfl)
abbrev cX4_prevMade : ByteArray := prog_6_method_5_code
def yX4_prevMade : MethodName := ⟨RX4, "prevMade", "()I"⟩
def dkwX4_prevMade_0 : List UInt8 := [42, 180, 0, 22, 199, 0, 7, 3, 167, 0, 10, 42, 180, 0, 22, 180, 0, 26, 172]
abbrev dktX4_prevMade_0 : List UInt8 := dkwX4_prevMade_0 ++ []
theorem dksX4_prevMade_0 : cX4_prevMade.data.toList.drop 0 = dktX4_prevMade_0 := by decide +kernel
theorem dX4_prevMade_0 : decode cX4_prevMade 0 = .ok (.aload_n 0, 1) := dk_42 (dk_at dksX4_prevMade_0 0 rfl rfl)
theorem dX4_prevMade_1 : decode cX4_prevMade 1 = .ok (.getfield 22, 3) := dk_180 0 22 (dk_at dksX4_prevMade_0 1 rfl rfl)
theorem dX4_prevMade_4 : decode cX4_prevMade 4 = .ok (.ifnonnull 7, 3) := dk_199 0 7 (dk_at dksX4_prevMade_0 4 rfl rfl)
theorem dX4_prevMade_7 : decode cX4_prevMade 7 = .ok (.iconst 0, 1) := dk_3 (dk_at dksX4_prevMade_0 7 rfl rfl)
theorem dX4_prevMade_8 : decode cX4_prevMade 8 = .ok (.goto 10, 3) := dk_167 0 10 (dk_at dksX4_prevMade_0 8 rfl rfl)
theorem dX4_prevMade_11 : decode cX4_prevMade 11 = .ok (.aload_n 0, 1) := dk_42 (dk_at dksX4_prevMade_0 11 rfl rfl)
theorem dX4_prevMade_12 : decode cX4_prevMade 12 = .ok (.getfield 22, 3) := dk_180 0 22 (dk_at dksX4_prevMade_0 12 rfl rfl)
theorem dX4_prevMade_15 : decode cX4_prevMade 15 = .ok (.getfield 26, 3) := dk_180 0 26 (dk_at dksX4_prevMade_0 15 rfl rfl)
theorem dX4_prevMade_18 : decode cX4_prevMade 18 = .ok (.ireturn, 1) := dk_172 (dk_at dksX4_prevMade_0 18 rfl rfl)
abbrev cX4_takesSlots : ByteArray := prog_6_method_8_code
def yX4_takesSlots : MethodName := ⟨RX4, "takesSlots", "(LDeadListPool$Holder;)V"⟩
def dkwX4_takesSlots_1 : List UInt8 := [167, 255, 235, 177]
abbrev dktX4_takesSlots_1 : List UInt8 := dkwX4_takesSlots_1 ++ []
def dkwX4_takesSlots_0 : List UInt8 := [3, 61, 28, 16, 12, 162, 0, 21, 42, 180, 0, 9, 28, 43, 180, 0, 9, 28, 46, 79, 132, 2, 1]
abbrev dktX4_takesSlots_0 : List UInt8 := dkwX4_takesSlots_0 ++ dktX4_takesSlots_1
theorem dksX4_takesSlots_0 : cX4_takesSlots.data.toList.drop 0 = dktX4_takesSlots_0 := by decide +kernel
theorem dksX4_takesSlots_1 : cX4_takesSlots.data.toList.drop 23 = dktX4_takesSlots_1 := dk_seg dksX4_takesSlots_0 23 rfl rfl
theorem dX4_takesSlots_0 : decode cX4_takesSlots 0 = .ok (.iconst 0, 1) := dk_3 (dk_at dksX4_takesSlots_0 0 rfl rfl)
theorem dX4_takesSlots_1 : decode cX4_takesSlots 1 = .ok (.istore_n 2, 1) := dk_61 (dk_at dksX4_takesSlots_0 1 rfl rfl)
theorem dX4_takesSlots_2 : decode cX4_takesSlots 2 = .ok (.iload_n 2, 1) := dk_28 (dk_at dksX4_takesSlots_0 2 rfl rfl)
theorem dX4_takesSlots_3 : decode cX4_takesSlots 3 = .ok (.bipush 12, 2) := dk_16 12 (dk_at dksX4_takesSlots_0 3 rfl rfl)
theorem dX4_takesSlots_5 : decode cX4_takesSlots 5 = .ok (.if_icmp .ge 21, 3) := dk_162 0 21 (dk_at dksX4_takesSlots_0 5 rfl rfl)
theorem dX4_takesSlots_8 : decode cX4_takesSlots 8 = .ok (.aload_n 0, 1) := dk_42 (dk_at dksX4_takesSlots_0 8 rfl rfl)
theorem dX4_takesSlots_9 : decode cX4_takesSlots 9 = .ok (.getfield 9, 3) := dk_180 0 9 (dk_at dksX4_takesSlots_0 9 rfl rfl)
theorem dX4_takesSlots_12 : decode cX4_takesSlots 12 = .ok (.iload_n 2, 1) := dk_28 (dk_at dksX4_takesSlots_0 12 rfl rfl)
theorem dX4_takesSlots_13 : decode cX4_takesSlots 13 = .ok (.aload_n 1, 1) := dk_43 (dk_at dksX4_takesSlots_0 13 rfl rfl)
theorem dX4_takesSlots_14 : decode cX4_takesSlots 14 = .ok (.getfield 9, 3) := dk_180 0 9 (dk_at dksX4_takesSlots_0 14 rfl rfl)
theorem dX4_takesSlots_17 : decode cX4_takesSlots 17 = .ok (.iload_n 2, 1) := dk_28 (dk_at dksX4_takesSlots_0 17 rfl rfl)
theorem dX4_takesSlots_18 : decode cX4_takesSlots 18 = .ok (.iaload, 1) := dk_46 (dk_at dksX4_takesSlots_0 18 rfl rfl)
theorem dX4_takesSlots_19 : decode cX4_takesSlots 19 = .ok (.iastore, 1) := dk_79 (dk_at dksX4_takesSlots_0 19 rfl rfl)
theorem dX4_takesSlots_20 : decode cX4_takesSlots 20 = .ok (.iinc 2 1, 3) := dk_132 2 1 (dk_at dksX4_takesSlots_0 20 rfl rfl)
theorem dX4_takesSlots_23 : decode cX4_takesSlots 23 = .ok (.goto (-21), 3) := dk_167 255 235 (dk_at dksX4_takesSlots_1 0 rfl rfl)
theorem dX4_takesSlots_26 : decode cX4_takesSlots 26 = .ok (.return_, 1) := dk_177 (dk_at dksX4_takesSlots_1 3 rfl rfl)
abbrev cX4_takesDead : ByteArray := prog_6_method_9_code
def yX4_takesDead : MethodName := ⟨RX4, "takesDead", "(LDeadListPool$Holder;)V"⟩
def dkwX4_takesDead_1 : List UInt8 := [132, 2, 1, 167, 255, 233, 42, 43, 180, 0, 29, 181, 0, 29, 177]
abbrev dktX4_takesDead_1 : List UInt8 := dkwX4_takesDead_1 ++ []
def dkwX4_takesDead_0 : List UInt8 := [3, 61, 28, 43, 180, 0, 29, 162, 0, 21, 42, 180, 0, 15, 28, 43, 180, 0, 15, 28, 46, 79]
abbrev dktX4_takesDead_0 : List UInt8 := dkwX4_takesDead_0 ++ dktX4_takesDead_1
theorem dksX4_takesDead_0 : cX4_takesDead.data.toList.drop 0 = dktX4_takesDead_0 := by decide +kernel
theorem dksX4_takesDead_1 : cX4_takesDead.data.toList.drop 22 = dktX4_takesDead_1 := dk_seg dksX4_takesDead_0 22 rfl rfl
theorem dX4_takesDead_0 : decode cX4_takesDead 0 = .ok (.iconst 0, 1) := dk_3 (dk_at dksX4_takesDead_0 0 rfl rfl)
theorem dX4_takesDead_1 : decode cX4_takesDead 1 = .ok (.istore_n 2, 1) := dk_61 (dk_at dksX4_takesDead_0 1 rfl rfl)
theorem dX4_takesDead_2 : decode cX4_takesDead 2 = .ok (.iload_n 2, 1) := dk_28 (dk_at dksX4_takesDead_0 2 rfl rfl)
theorem dX4_takesDead_3 : decode cX4_takesDead 3 = .ok (.aload_n 1, 1) := dk_43 (dk_at dksX4_takesDead_0 3 rfl rfl)
theorem dX4_takesDead_4 : decode cX4_takesDead 4 = .ok (.getfield 29, 3) := dk_180 0 29 (dk_at dksX4_takesDead_0 4 rfl rfl)
theorem dX4_takesDead_7 : decode cX4_takesDead 7 = .ok (.if_icmp .ge 21, 3) := dk_162 0 21 (dk_at dksX4_takesDead_0 7 rfl rfl)
theorem dX4_takesDead_10 : decode cX4_takesDead 10 = .ok (.aload_n 0, 1) := dk_42 (dk_at dksX4_takesDead_0 10 rfl rfl)
theorem dX4_takesDead_11 : decode cX4_takesDead 11 = .ok (.getfield 15, 3) := dk_180 0 15 (dk_at dksX4_takesDead_0 11 rfl rfl)
theorem dX4_takesDead_14 : decode cX4_takesDead 14 = .ok (.iload_n 2, 1) := dk_28 (dk_at dksX4_takesDead_0 14 rfl rfl)
theorem dX4_takesDead_15 : decode cX4_takesDead 15 = .ok (.aload_n 1, 1) := dk_43 (dk_at dksX4_takesDead_0 15 rfl rfl)
theorem dX4_takesDead_16 : decode cX4_takesDead 16 = .ok (.getfield 15, 3) := dk_180 0 15 (dk_at dksX4_takesDead_0 16 rfl rfl)
theorem dX4_takesDead_19 : decode cX4_takesDead 19 = .ok (.iload_n 2, 1) := dk_28 (dk_at dksX4_takesDead_0 19 rfl rfl)
theorem dX4_takesDead_20 : decode cX4_takesDead 20 = .ok (.iaload, 1) := dk_46 (dk_at dksX4_takesDead_0 20 rfl rfl)
theorem dX4_takesDead_21 : decode cX4_takesDead 21 = .ok (.iastore, 1) := dk_79 (dk_at dksX4_takesDead_0 21 rfl rfl)
theorem dX4_takesDead_22 : decode cX4_takesDead 22 = .ok (.iinc 2 1, 3) := dk_132 2 1 (dk_at dksX4_takesDead_1 0 rfl rfl)
theorem dX4_takesDead_25 : decode cX4_takesDead 25 = .ok (.goto (-23), 3) := dk_167 255 233 (dk_at dksX4_takesDead_1 3 rfl rfl)
theorem dX4_takesDead_28 : decode cX4_takesDead 28 = .ok (.aload_n 0, 1) := dk_42 (dk_at dksX4_takesDead_1 6 rfl rfl)
theorem dX4_takesDead_29 : decode cX4_takesDead 29 = .ok (.aload_n 1, 1) := dk_43 (dk_at dksX4_takesDead_1 7 rfl rfl)
theorem dX4_takesDead_30 : decode cX4_takesDead 30 = .ok (.getfield 29, 3) := dk_180 0 29 (dk_at dksX4_takesDead_1 8 rfl rfl)
theorem dX4_takesDead_33 : decode cX4_takesDead 33 = .ok (.putfield 29, 3) := dk_181 0 29 (dk_at dksX4_takesDead_1 11 rfl rfl)
theorem dX4_takesDead_36 : decode cX4_takesDead 36 = .ok (.return_, 1) := dk_177 (dk_at dksX4_takesDead_1 14 rfl rfl)
abbrev cX4_tags : ByteArray := prog_6_method_4_code
def yX4_tags : MethodName := ⟨RX4, "tags", "()I"⟩
theorem dX4_tags_0 : decode cX4_tags 0 = .ok (.iconst 0, 1) := by decide +kernel
theorem dX4_tags_1 : decode cX4_tags 1 = .ok (.ireturn, 1) := by decide +kernel
abbrev cX4_holdsMany : ByteArray := prog_6_method_7_code
def yX4_holdsMany : MethodName := ⟨RX4, "holdsMany", "()I"⟩
def dkwX4_holdsMany_1 : List UInt8 := [167, 0, 4, 4, 96, 60, 132, 2, 1, 167, 255, 229, 27, 172]
abbrev dktX4_holdsMany_1 : List UInt8 := dkwX4_holdsMany_1 ++ []
def dkwX4_holdsMany_0 : List UInt8 := [3, 60, 3, 61, 28, 16, 12, 162, 0, 27, 27, 42, 180, 0, 9, 28, 46, 2, 160, 0, 7, 3]
abbrev dktX4_holdsMany_0 : List UInt8 := dkwX4_holdsMany_0 ++ dktX4_holdsMany_1
theorem dksX4_holdsMany_0 : cX4_holdsMany.data.toList.drop 0 = dktX4_holdsMany_0 := by decide +kernel
theorem dksX4_holdsMany_1 : cX4_holdsMany.data.toList.drop 22 = dktX4_holdsMany_1 := dk_seg dksX4_holdsMany_0 22 rfl rfl
theorem dX4_holdsMany_0 : decode cX4_holdsMany 0 = .ok (.iconst 0, 1) := dk_3 (dk_at dksX4_holdsMany_0 0 rfl rfl)
theorem dX4_holdsMany_1 : decode cX4_holdsMany 1 = .ok (.istore_n 1, 1) := dk_60 (dk_at dksX4_holdsMany_0 1 rfl rfl)
theorem dX4_holdsMany_2 : decode cX4_holdsMany 2 = .ok (.iconst 0, 1) := dk_3 (dk_at dksX4_holdsMany_0 2 rfl rfl)
theorem dX4_holdsMany_3 : decode cX4_holdsMany 3 = .ok (.istore_n 2, 1) := dk_61 (dk_at dksX4_holdsMany_0 3 rfl rfl)
theorem dX4_holdsMany_4 : decode cX4_holdsMany 4 = .ok (.iload_n 2, 1) := dk_28 (dk_at dksX4_holdsMany_0 4 rfl rfl)
theorem dX4_holdsMany_5 : decode cX4_holdsMany 5 = .ok (.bipush 12, 2) := dk_16 12 (dk_at dksX4_holdsMany_0 5 rfl rfl)
theorem dX4_holdsMany_7 : decode cX4_holdsMany 7 = .ok (.if_icmp .ge 27, 3) := dk_162 0 27 (dk_at dksX4_holdsMany_0 7 rfl rfl)
theorem dX4_holdsMany_10 : decode cX4_holdsMany 10 = .ok (.iload_n 1, 1) := dk_27 (dk_at dksX4_holdsMany_0 10 rfl rfl)
theorem dX4_holdsMany_11 : decode cX4_holdsMany 11 = .ok (.aload_n 0, 1) := dk_42 (dk_at dksX4_holdsMany_0 11 rfl rfl)
theorem dX4_holdsMany_12 : decode cX4_holdsMany 12 = .ok (.getfield 9, 3) := dk_180 0 9 (dk_at dksX4_holdsMany_0 12 rfl rfl)
theorem dX4_holdsMany_15 : decode cX4_holdsMany 15 = .ok (.iload_n 2, 1) := dk_28 (dk_at dksX4_holdsMany_0 15 rfl rfl)
theorem dX4_holdsMany_16 : decode cX4_holdsMany 16 = .ok (.iaload, 1) := dk_46 (dk_at dksX4_holdsMany_0 16 rfl rfl)
theorem dX4_holdsMany_17 : decode cX4_holdsMany 17 = .ok (.iconst (-1), 1) := dk_2 (dk_at dksX4_holdsMany_0 17 rfl rfl)
theorem dX4_holdsMany_18 : decode cX4_holdsMany 18 = .ok (.if_icmp .ne 7, 3) := dk_160 0 7 (dk_at dksX4_holdsMany_0 18 rfl rfl)
theorem dX4_holdsMany_21 : decode cX4_holdsMany 21 = .ok (.iconst 0, 1) := dk_3 (dk_at dksX4_holdsMany_0 21 rfl rfl)
theorem dX4_holdsMany_22 : decode cX4_holdsMany 22 = .ok (.goto 4, 3) := dk_167 0 4 (dk_at dksX4_holdsMany_1 0 rfl rfl)
theorem dX4_holdsMany_25 : decode cX4_holdsMany 25 = .ok (.iconst 1, 1) := dk_4 (dk_at dksX4_holdsMany_1 3 rfl rfl)
theorem dX4_holdsMany_26 : decode cX4_holdsMany 26 = .ok (.iadd, 1) := dk_96 (dk_at dksX4_holdsMany_1 4 rfl rfl)
theorem dX4_holdsMany_27 : decode cX4_holdsMany 27 = .ok (.istore_n 1, 1) := dk_60 (dk_at dksX4_holdsMany_1 5 rfl rfl)
theorem dX4_holdsMany_28 : decode cX4_holdsMany 28 = .ok (.iinc 2 1, 3) := dk_132 2 1 (dk_at dksX4_holdsMany_1 6 rfl rfl)
theorem dX4_holdsMany_31 : decode cX4_holdsMany 31 = .ok (.goto (-27), 3) := dk_167 255 229 (dk_at dksX4_holdsMany_1 9 rfl rfl)
theorem dX4_holdsMany_34 : decode cX4_holdsMany 34 = .ok (.iload_n 1, 1) := dk_27 (dk_at dksX4_holdsMany_1 12 rfl rfl)
theorem dX4_holdsMany_35 : decode cX4_holdsMany 35 = .ok (.ireturn, 1) := dk_172 (dk_at dksX4_holdsMany_1 13 rfl rfl)
abbrev cX4_quota : ByteArray := prog_6_method_3_code
def yX4_quota : MethodName := ⟨RX4, "quota", "()I"⟩
theorem dX4_quota_0 : decode cX4_quota 0 = .ok (.iconst (-1), 1) := by decide +kernel
theorem dX4_quota_1 : decode cX4_quota 1 = .ok (.ireturn, 1) := by decide +kernel
abbrev cX4_holds : ByteArray := prog_6_method_6_code
def yX4_holds : MethodName := ⟨RX4, "holds", "(I)Z"⟩
def dkwX4_holds_1 : List UInt8 := [167, 255, 235, 3, 172]
abbrev dktX4_holds_1 : List UInt8 := dkwX4_holds_1 ++ []
def dkwX4_holds_0 : List UInt8 := [3, 61, 28, 16, 12, 162, 0, 21, 42, 180, 0, 9, 28, 46, 27, 160, 0, 5, 4, 172, 132, 2, 1]
abbrev dktX4_holds_0 : List UInt8 := dkwX4_holds_0 ++ dktX4_holds_1
theorem dksX4_holds_0 : cX4_holds.data.toList.drop 0 = dktX4_holds_0 := by decide +kernel
theorem dksX4_holds_1 : cX4_holds.data.toList.drop 23 = dktX4_holds_1 := dk_seg dksX4_holds_0 23 rfl rfl
theorem dX4_holds_0 : decode cX4_holds 0 = .ok (.iconst 0, 1) := dk_3 (dk_at dksX4_holds_0 0 rfl rfl)
theorem dX4_holds_1 : decode cX4_holds 1 = .ok (.istore_n 2, 1) := dk_61 (dk_at dksX4_holds_0 1 rfl rfl)
theorem dX4_holds_2 : decode cX4_holds 2 = .ok (.iload_n 2, 1) := dk_28 (dk_at dksX4_holds_0 2 rfl rfl)
theorem dX4_holds_3 : decode cX4_holds 3 = .ok (.bipush 12, 2) := dk_16 12 (dk_at dksX4_holds_0 3 rfl rfl)
theorem dX4_holds_5 : decode cX4_holds 5 = .ok (.if_icmp .ge 21, 3) := dk_162 0 21 (dk_at dksX4_holds_0 5 rfl rfl)
theorem dX4_holds_8 : decode cX4_holds 8 = .ok (.aload_n 0, 1) := dk_42 (dk_at dksX4_holds_0 8 rfl rfl)
theorem dX4_holds_9 : decode cX4_holds 9 = .ok (.getfield 9, 3) := dk_180 0 9 (dk_at dksX4_holds_0 9 rfl rfl)
theorem dX4_holds_12 : decode cX4_holds 12 = .ok (.iload_n 2, 1) := dk_28 (dk_at dksX4_holds_0 12 rfl rfl)
theorem dX4_holds_13 : decode cX4_holds 13 = .ok (.iaload, 1) := dk_46 (dk_at dksX4_holds_0 13 rfl rfl)
theorem dX4_holds_14 : decode cX4_holds 14 = .ok (.iload_n 1, 1) := dk_27 (dk_at dksX4_holds_0 14 rfl rfl)
theorem dX4_holds_15 : decode cX4_holds 15 = .ok (.if_icmp .ne 5, 3) := dk_160 0 5 (dk_at dksX4_holds_0 15 rfl rfl)
theorem dX4_holds_18 : decode cX4_holds 18 = .ok (.iconst 1, 1) := dk_4 (dk_at dksX4_holds_0 18 rfl rfl)
theorem dX4_holds_19 : decode cX4_holds 19 = .ok (.ireturn, 1) := dk_172 (dk_at dksX4_holds_0 19 rfl rfl)
theorem dX4_holds_20 : decode cX4_holds 20 = .ok (.iinc 2 1, 3) := dk_132 2 1 (dk_at dksX4_holds_0 20 rfl rfl)
theorem dX4_holds_23 : decode cX4_holds 23 = .ok (.goto (-21), 3) := dk_167 255 235 (dk_at dksX4_holds_1 0 rfl rfl)
theorem dX4_holds_26 : decode cX4_holds 26 = .ok (.iconst 0, 1) := dk_3 (dk_at dksX4_holds_1 3 rfl rfl)
theorem dX4_holds_27 : decode cX4_holds 27 = .ok (.ireturn, 1) := dk_172 (dk_at dksX4_holds_1 4 rfl rfl)
theorem q93 : (Jvm.Cond.initialized "DeadListPool$Holder") ∈ lw_all := lw_g (lw_at lw_m1 5 rfl) rfl
theorem q241 : (Jvm.Cond.instanceMethod ({ cls := "DeadListPool$Holder", name := "<init>", desc := "(ILDeadListPool$Snapshot;)V" } : Jvm.MethodName)) ∈ lw_all := lw_g (lw_at lw_m1 153 rfl) rfl
theorem q242 : (Jvm.Cond.code ({ cls := "DeadListPool$Holder", name := "<init>", desc := "(ILDeadListPool$Snapshot;)V" } : Jvm.MethodName) prog_6_method_1_code (4 : Nat) (Option.none : Option Jvm.ClassFile.FieldType)) ∈ lw_all := lw_g (lw_at lw_m1 154 rfl) rfl
theorem q243 : (Jvm.Cond.methodLink "DeadListPool$Holder" (3 : Nat) ({ cls := "java/lang/Object", name := "<init>", desc := "()V" } : Jvm.MethodName)) ∈ lw_all := lw_g (lw_at lw_m1 155 rfl) rfl
theorem q244 : (Jvm.Cond.fieldLink "DeadListPool$Holder" (18 : Nat) "DeadListPool$Holder" "made" "I") ∈ lw_all := lw_g (lw_at lw_m1 156 rfl) rfl
theorem q245 : (Jvm.Cond.fieldLink "DeadListPool$Holder" (26 : Nat) "DeadListPool$Snapshot" "made" "I") ∈ lw_all := lw_g (lw_at lw_m1 157 rfl) rfl
theorem q255 : (Jvm.Cond.fieldLink "DeadListPool$Holder" (9 : Nat) "DeadListPool$Holder" "slots" "[I") ∈ lw_all := lw_g (lw_at lw_m1 167 rfl) rfl
theorem q261 : (Jvm.Cond.fieldLink "DeadListPool$Holder" (15 : Nat) "DeadListPool$Holder" "dead" "[I") ∈ lw_all := lw_g (lw_at lw_m1 173 rfl) rfl
theorem q265 : (Jvm.Cond.fieldLink "DeadListPool$Holder" (29 : Nat) "DeadListPool$Holder" "deadMany" "I") ∈ lw_all := lw_g (lw_at lw_m1 177 rfl) rfl
theorem q278 : (Jvm.Cond.fieldLink "DeadListPool$Holder" (22 : Nat) "DeadListPool$Holder" "prev" "LDeadListPool$Snapshot;") ∈ lw_all := lw_g (lw_at lw_m1 190 rfl) rfl
theorem q284 : (Jvm.Cond.soleField "DeadListPool$Holder" "made") ∈ lw_all := lw_g (lw_at lw_m1 196 rfl) rfl
theorem q286 : (Jvm.Cond.soleField "DeadListPool$Holder" "slots") ∈ lw_all := lw_g (lw_at lw_m1 198 rfl) rfl
theorem q288 : (Jvm.Cond.soleField "DeadListPool$Holder" "dead") ∈ lw_all := lw_g (lw_at lw_m1 200 rfl) rfl
theorem q290 : (Jvm.Cond.soleField "DeadListPool$Holder" "deadMany") ∈ lw_all := lw_g (lw_at lw_m1 202 rfl) rfl
theorem q292 : (Jvm.Cond.soleField "DeadListPool$Holder" "number") ∈ lw_all := lw_g (lw_at lw_m1 204 rfl) rfl
theorem q294 : (Jvm.Cond.soleField "DeadListPool$Holder" "prev") ∈ lw_all := lw_g (lw_at lw_m1 206 rfl) rfl
theorem q499 : (Jvm.Cond.declares ({ cls := "DeadListPool$Holder", name := "prevMade", desc := "()I" } : Jvm.MethodName)) ∈ lw_tbl := lw_at lw_m2 171 rfl
theorem q502 : (Jvm.Cond.instanceMethod ({ cls := "DeadListPool$Holder", name := "prevMade", desc := "()I" } : Jvm.MethodName)) ∈ lw_all := lw_g (lw_at lw_m2 174 rfl) rfl
theorem q503 : (Jvm.Cond.code ({ cls := "DeadListPool$Holder", name := "prevMade", desc := "()I" } : Jvm.MethodName) prog_6_method_5_code (1 : Nat) (Option.some Jvm.ClassFile.FieldType.int)) ∈ lw_all := lw_g (lw_at lw_m2 175 rfl) rfl
theorem q543 : (Jvm.Cond.declares ({ cls := "DeadListPool$Holder", name := "takesSlots", desc := "(LDeadListPool$Holder;)V" } : Jvm.MethodName)) ∈ lw_tbl := lw_at lw_m2 215 rfl
theorem q546 : (Jvm.Cond.instanceMethod ({ cls := "DeadListPool$Holder", name := "takesSlots", desc := "(LDeadListPool$Holder;)V" } : Jvm.MethodName)) ∈ lw_all := lw_g (lw_at lw_m2 218 rfl) rfl
theorem q547 : (Jvm.Cond.code ({ cls := "DeadListPool$Holder", name := "takesSlots", desc := "(LDeadListPool$Holder;)V" } : Jvm.MethodName) prog_6_method_8_code (3 : Nat) (Option.none : Option Jvm.ClassFile.FieldType)) ∈ lw_all := lw_g (lw_at lw_m2 219 rfl) rfl
theorem q550 : (Jvm.Cond.declares ({ cls := "DeadListPool$Holder", name := "takesDead", desc := "(LDeadListPool$Holder;)V" } : Jvm.MethodName)) ∈ lw_tbl := lw_at lw_m2 222 rfl
theorem q553 : (Jvm.Cond.instanceMethod ({ cls := "DeadListPool$Holder", name := "takesDead", desc := "(LDeadListPool$Holder;)V" } : Jvm.MethodName)) ∈ lw_all := lw_g (lw_at lw_m2 225 rfl) rfl
theorem q554 : (Jvm.Cond.code ({ cls := "DeadListPool$Holder", name := "takesDead", desc := "(LDeadListPool$Holder;)V" } : Jvm.MethodName) prog_6_method_9_code (3 : Nat) (Option.none : Option Jvm.ClassFile.FieldType)) ∈ lw_all := lw_g (lw_at lw_m2 226 rfl) rfl
theorem q646 : (Jvm.Cond.declares ({ cls := "DeadListPool$Holder", name := "tags", desc := "()I" } : Jvm.MethodName)) ∈ lw_tbl := lw_at lw_m3 78 rfl
theorem q649 : (Jvm.Cond.instanceMethod ({ cls := "DeadListPool$Holder", name := "tags", desc := "()I" } : Jvm.MethodName)) ∈ lw_all := lw_g (lw_at lw_m3 81 rfl) rfl
theorem q650 : (Jvm.Cond.code ({ cls := "DeadListPool$Holder", name := "tags", desc := "()I" } : Jvm.MethodName) prog_6_method_4_code (1 : Nat) (Option.some Jvm.ClassFile.FieldType.int)) ∈ lw_all := lw_g (lw_at lw_m3 82 rfl) rfl
theorem q708 : (Jvm.Cond.declares ({ cls := "DeadListPool$Holder", name := "kind", desc := "()I" } : Jvm.MethodName)) ∈ lw_tbl := lw_at lw_m3 140 rfl
theorem q709 : (Jvm.Cond.sameMethod "DeadListPool$Holder" "DeadListPool$Holder" "kind" "()I") ∈ lw_all := lw_g (lw_at lw_m3 141 rfl) rfl
theorem q738 : (Jvm.Cond.instanceMethod ({ cls := "DeadListPool$Holder", name := "holdsMany", desc := "()I" } : Jvm.MethodName)) ∈ lw_all := lw_g (lw_at lw_m3 170 rfl) rfl
theorem q739 : (Jvm.Cond.sameMethod "DeadListPool$Holder" "DeadListPool$Holder" "holdsMany" "()I") ∈ lw_all := lw_g (lw_at lw_m3 171 rfl) rfl
theorem q744 : (Jvm.Cond.code ({ cls := "DeadListPool$Holder", name := "holdsMany", desc := "()I" } : Jvm.MethodName) prog_6_method_7_code (3 : Nat) (Option.some Jvm.ClassFile.FieldType.int)) ∈ lw_all := lw_g (lw_at lw_m3 176 rfl) rfl
theorem q747 : (Jvm.Cond.instanceMethod ({ cls := "DeadListPool$Holder", name := "quota", desc := "()I" } : Jvm.MethodName)) ∈ lw_all := lw_g (lw_at lw_m3 179 rfl) rfl
theorem q748 : (Jvm.Cond.sameMethod "DeadListPool$Holder" "DeadListPool$Holder" "quota" "()I") ∈ lw_all := lw_g (lw_at lw_m3 180 rfl) rfl
theorem q755 : (Jvm.Cond.code ({ cls := "DeadListPool$Holder", name := "quota", desc := "()I" } : Jvm.MethodName) prog_6_method_3_code (1 : Nat) (Option.some Jvm.ClassFile.FieldType.int)) ∈ lw_all := lw_g (lw_at lw_m3 187 rfl) rfl
theorem q771 : (Jvm.Cond.instanceMethod ({ cls := "DeadListPool$Holder", name := "holds", desc := "(I)Z" } : Jvm.MethodName)) ∈ lw_all := lw_g (lw_at lw_m3 203 rfl) rfl
theorem q772 : (Jvm.Cond.sameMethod "DeadListPool$Holder" "DeadListPool$Holder" "holds" "(I)Z") ∈ lw_all := lw_g (lw_at lw_m3 204 rfl) rfl
theorem q777 : (Jvm.Cond.code ({ cls := "DeadListPool$Holder", name := "holds", desc := "(I)Z" } : Jvm.MethodName) prog_6_method_6_code (3 : Nat) (Option.some Jvm.ClassFile.FieldType.boolean)) ∈ lw_all := lw_g (lw_at lw_m3 209 rfl) rfl
theorem q828 : (Jvm.Cond.declares ({ cls := "DeadListPool$Holder", name := "holds", desc := "(I)Z" } : Jvm.MethodName)) ∈ lw_tbl := lw_at lw_m4 20 rfl
theorem q1383 : (Jvm.Cond.sameMethod "DeadListPool$Holder" "DeadListPool$Holder" "tags" "()I") ∈ lw_all := lw_g (lw_at lw_m6 95 rfl) rfl

/-! DeadListPool$Folder -/
set_option maxRecDepth 100000
def RX5 : String := "DeadListPool$Folder"
def TX5 : u_T := fun k => match k with
  | 0 => ("DeadListPool$Holder", "made", "I", true)
  | 1 => ("DeadListPool$Holder", "slots", "[I", true)
  | 2 => ("DeadListPool$Holder", "dead", "[I", true)
  | 3 => ("DeadListPool$Holder", "deadMany", "I", false)
  | 4 => ("DeadListPool$Holder", "number", "I", false)
  | _ => ("DeadListPool$Holder", "prev", "LDeadListPool$Snapshot;", false)
def tyX5 : Nat → FieldType := fun k => match k with
  | 0 => .int
  | 1 => .array .int
  | 2 => .array .int
  | 3 => .int
  | 4 => .int
  | _ => .object "DeadListPool$Snapshot"
abbrev wsX50 : List Cond := u_ws RX5 TX5 6
theorem nmX5 : ∀ a, a < 6 → ∀ b, b < 6 → a ≠ b → (TX5 a).2.1 ≠ (TX5 b).2.1 := by decide +kernel
theorem tyX5_ok : ∀ k, k < 6 → parseFieldDescriptor (TX5 k).2.2.1 = some (tyX5 k) := by decide +kernel
abbrev cX5_init : ByteArray := prog_5_method_1_code
def yX5_init : MethodName := ⟨RX5, "<init>", "(ILDeadListPool$Snapshot;)V"⟩
def dkwX5_init_0 : List UInt8 := [42, 27, 44, 183, 0, 1, 177]
abbrev dktX5_init_0 : List UInt8 := dkwX5_init_0 ++ []
theorem dksX5_init_0 : cX5_init.data.toList.drop 0 = dktX5_init_0 := by decide +kernel
theorem dX5_init_0 : decode cX5_init 0 = .ok (.aload_n 0, 1) := dk_42 (dk_at dksX5_init_0 0 rfl rfl)
theorem dX5_init_1 : decode cX5_init 1 = .ok (.iload_n 1, 1) := dk_27 (dk_at dksX5_init_0 1 rfl rfl)
theorem dX5_init_2 : decode cX5_init 2 = .ok (.aload_n 2, 1) := dk_44 (dk_at dksX5_init_0 2 rfl rfl)
theorem dX5_init_3 : decode cX5_init 3 = .ok (.invokespecial 1, 3) := dk_183 0 1 (dk_at dksX5_init_0 3 rfl rfl)
theorem dX5_init_6 : decode cX5_init 6 = .ok (.return_, 1) := dk_177 (dk_at dksX5_init_0 6 rfl rfl)
abbrev cX5_mayHave : ByteArray := prog_5_method_3_code
def yX5_mayHave : MethodName := ⟨RX5, "mayHave", "(J)Z"⟩
theorem dX5_mayHave_0 : decode cX5_mayHave 0 = .ok (.iconst 1, 1) := by decide +kernel
theorem dX5_mayHave_1 : decode cX5_mayHave 1 = .ok (.ireturn, 1) := by decide +kernel
abbrev cX5_kind : ByteArray := prog_5_method_2_code
def yX5_kind : MethodName := ⟨RX5, "kind", "()I"⟩
theorem dX5_kind_0 : decode cX5_kind 0 = .ok (.iconst 0, 1) := by decide +kernel
theorem dX5_kind_1 : decode cX5_kind 1 = .ok (.ireturn, 1) := by decide +kernel
theorem q94 : (Jvm.Cond.initialized "DeadListPool$Folder") ∈ lw_all := lw_g (lw_at lw_m1 6 rfl) rfl
theorem q236 : (Jvm.Cond.instantiable "DeadListPool$Folder" (6 : Nat)) ∈ lw_all := lw_g (lw_at lw_m1 148 rfl) rfl
theorem q238 : (Jvm.Cond.instanceMethod ({ cls := "DeadListPool$Folder", name := "<init>", desc := "(ILDeadListPool$Snapshot;)V" } : Jvm.MethodName)) ∈ lw_all := lw_g (lw_at lw_m1 150 rfl) rfl
theorem q239 : (Jvm.Cond.code ({ cls := "DeadListPool$Folder", name := "<init>", desc := "(ILDeadListPool$Snapshot;)V" } : Jvm.MethodName) prog_5_method_1_code (3 : Nat) (Option.none : Option Jvm.ClassFile.FieldType)) ∈ lw_all := lw_g (lw_at lw_m1 151 rfl) rfl
theorem q240 : (Jvm.Cond.methodLink "DeadListPool$Folder" (1 : Nat) ({ cls := "DeadListPool$Holder", name := "<init>", desc := "(ILDeadListPool$Snapshot;)V" } : Jvm.MethodName)) ∈ lw_all := lw_g (lw_at lw_m1 152 rfl) rfl
theorem q250 : (Jvm.Cond.sameField "DeadListPool$Folder" "DeadListPool$Holder" "made" "I") ∈ lw_all := lw_g (lw_at lw_m1 162 rfl) rfl
theorem q258 : (Jvm.Cond.sameField "DeadListPool$Folder" "DeadListPool$Holder" "slots" "[I") ∈ lw_all := lw_g (lw_at lw_m1 170 rfl) rfl
theorem q268 : (Jvm.Cond.sameField "DeadListPool$Folder" "DeadListPool$Holder" "deadMany" "I") ∈ lw_all := lw_g (lw_at lw_m1 180 rfl) rfl
theorem q273 : (Jvm.Cond.sameField "DeadListPool$Folder" "DeadListPool$Holder" "number" "I") ∈ lw_all := lw_g (lw_at lw_m1 185 rfl) rfl
theorem q277 : (Jvm.Cond.sameField "DeadListPool$Folder" "DeadListPool$Holder" "prev" "LDeadListPool$Snapshot;") ∈ lw_all := lw_g (lw_at lw_m1 189 rfl) rfl
theorem q283 : (Jvm.Cond.laysFinal "DeadListPool$Folder" "DeadListPool$Holder" "made" "I") ∈ lw_all := lw_g (lw_at lw_m1 195 rfl) rfl
theorem q285 : (Jvm.Cond.laysFinal "DeadListPool$Folder" "DeadListPool$Holder" "slots" "[I") ∈ lw_all := lw_g (lw_at lw_m1 197 rfl) rfl
theorem q287 : (Jvm.Cond.laysFinal "DeadListPool$Folder" "DeadListPool$Holder" "dead" "[I") ∈ lw_all := lw_g (lw_at lw_m1 199 rfl) rfl
theorem q289 : (Jvm.Cond.lays "DeadListPool$Folder" "DeadListPool$Holder" "deadMany" "I") ∈ lw_all := lw_g (lw_at lw_m1 201 rfl) rfl
theorem q291 : (Jvm.Cond.lays "DeadListPool$Folder" "DeadListPool$Holder" "number" "I") ∈ lw_all := lw_g (lw_at lw_m1 203 rfl) rfl
theorem q293 : (Jvm.Cond.lays "DeadListPool$Folder" "DeadListPool$Holder" "prev" "LDeadListPool$Snapshot;") ∈ lw_all := lw_g (lw_at lw_m1 205 rfl) rfl
theorem q295 : (Jvm.Cond.superclass "DeadListPool$Folder" "DeadListPool$Holder") ∈ lw_all := lw_g (lw_at lw_m1 207 rfl) rfl
theorem q485 : (Jvm.Cond.instanceMethod ({ cls := "DeadListPool$Folder", name := "mayHave", desc := "(J)Z" } : Jvm.MethodName)) ∈ lw_all := lw_g (lw_at lw_m2 157 rfl) rfl
theorem q486 : (Jvm.Cond.selects "DeadListPool$Folder" ({ cls := "DeadListPool$Folder", name := "mayHave", desc := "(J)Z" } : Jvm.MethodName) ({ cls := "DeadListPool$Folder", name := "mayHave", desc := "(J)Z" } : Jvm.MethodName)) ∈ lw_all := lw_g (lw_at lw_m2 158 rfl) rfl
theorem q487 : (Jvm.Cond.sameMethod "DeadListPool$Folder" "DeadListPool$Folder" "mayHave" "(J)Z") ∈ lw_all := lw_g (lw_at lw_m2 159 rfl) rfl
theorem q492 : (Jvm.Cond.code ({ cls := "DeadListPool$Folder", name := "mayHave", desc := "(J)Z" } : Jvm.MethodName) prog_5_method_3_code (3 : Nat) (Option.some Jvm.ClassFile.FieldType.boolean)) ∈ lw_all := lw_g (lw_at lw_m2 164 rfl) rfl
theorem q498 : (Jvm.Cond.sameMethod "DeadListPool$Folder" "DeadListPool$Holder" "prevMade" "()I") ∈ lw_all := lw_g (lw_at lw_m2 170 rfl) rfl
theorem q501 : (Jvm.Cond.selects "DeadListPool$Folder" ({ cls := "DeadListPool$Folder", name := "prevMade", desc := "()I" } : Jvm.MethodName) ({ cls := "DeadListPool$Holder", name := "prevMade", desc := "()I" } : Jvm.MethodName)) ∈ lw_all := lw_g (lw_at lw_m2 173 rfl) rfl
theorem q616 : (Jvm.Cond.sameMethod "DeadListPool$Folder" "DeadListPool$Holder" "takesSlots" "(LDeadListPool$Holder;)V") ∈ lw_all := lw_g (lw_at lw_m3 48 rfl) rfl
theorem q618 : (Jvm.Cond.selects "DeadListPool$Folder" ({ cls := "DeadListPool$Folder", name := "takesSlots", desc := "(LDeadListPool$Holder;)V" } : Jvm.MethodName) ({ cls := "DeadListPool$Holder", name := "takesSlots", desc := "(LDeadListPool$Holder;)V" } : Jvm.MethodName)) ∈ lw_all := lw_g (lw_at lw_m3 50 rfl) rfl
theorem q714 : (Jvm.Cond.instanceMethod ({ cls := "DeadListPool$Folder", name := "kind", desc := "()I" } : Jvm.MethodName)) ∈ lw_all := lw_g (lw_at lw_m3 146 rfl) rfl
theorem q715 : (Jvm.Cond.code ({ cls := "DeadListPool$Folder", name := "kind", desc := "()I" } : Jvm.MethodName) prog_5_method_2_code (1 : Nat) (Option.some Jvm.ClassFile.FieldType.int)) ∈ lw_all := lw_g (lw_at lw_m3 147 rfl) rfl
theorem q716 : (Jvm.Cond.selects "DeadListPool$Folder" ({ cls := "DeadListPool$Holder", name := "kind", desc := "()I" } : Jvm.MethodName) ({ cls := "DeadListPool$Folder", name := "kind", desc := "()I" } : Jvm.MethodName)) ∈ lw_all := lw_g (lw_at lw_m3 148 rfl) rfl
theorem q741 : (Jvm.Cond.selects "DeadListPool$Folder" ({ cls := "DeadListPool$Holder", name := "holdsMany", desc := "()I" } : Jvm.MethodName) ({ cls := "DeadListPool$Holder", name := "holdsMany", desc := "()I" } : Jvm.MethodName)) ∈ lw_all := lw_g (lw_at lw_m3 173 rfl) rfl
theorem q752 : (Jvm.Cond.selects "DeadListPool$Folder" ({ cls := "DeadListPool$Holder", name := "quota", desc := "()I" } : Jvm.MethodName) ({ cls := "DeadListPool$Holder", name := "quota", desc := "()I" } : Jvm.MethodName)) ∈ lw_all := lw_g (lw_at lw_m3 184 rfl) rfl
theorem q774 : (Jvm.Cond.selects "DeadListPool$Folder" ({ cls := "DeadListPool$Holder", name := "holds", desc := "(I)Z" } : Jvm.MethodName) ({ cls := "DeadListPool$Holder", name := "holds", desc := "(I)Z" } : Jvm.MethodName)) ∈ lw_all := lw_g (lw_at lw_m3 206 rfl) rfl
theorem q1381 : (Jvm.Cond.sameMethod "DeadListPool$Folder" "DeadListPool$Folder" "kind" "()I") ∈ lw_all := lw_g (lw_at lw_m6 93 rfl) rfl
theorem q1385 : (Jvm.Cond.selects "DeadListPool$Folder" ({ cls := "DeadListPool$Holder", name := "tags", desc := "()I" } : Jvm.MethodName) ({ cls := "DeadListPool$Holder", name := "tags", desc := "()I" } : Jvm.MethodName)) ∈ lw_all := lw_g (lw_at lw_m6 97 rfl) rfl
theorem q1392 : (Jvm.Cond.castable "DeadListPool$Folder" "DeadListPool$Holder") ∈ lw_tbl := lw_at lw_m6 104 rfl
theorem q1399 : (Jvm.Cond.castable "DeadListPool$Folder" "java/lang/Object") ∈ lw_tbl := lw_at lw_m6 111 rfl
theorem in_X5 : ∀ w ∈ wsX50, w ∈ lw_all := lw_in wsX50 [283, 285, 287, 289, 291, 293] (by decide +kernel) (by decide +kernel)

/-! DeadListPool$Bound -/
set_option maxRecDepth 100000
def RX6 : String := "DeadListPool$Bound"
def TX6 : u_T := fun k => match k with
  | 0 => ("DeadListPool$Holder", "made", "I", true)
  | 1 => ("DeadListPool$Holder", "slots", "[I", true)
  | 2 => ("DeadListPool$Holder", "dead", "[I", true)
  | 3 => ("DeadListPool$Holder", "deadMany", "I", false)
  | 4 => ("DeadListPool$Holder", "number", "I", false)
  | 5 => ("DeadListPool$Holder", "prev", "LDeadListPool$Snapshot;", false)
  | _ => ("DeadListPool$Bound", "quota", "I", true)
def tyX6 : Nat → FieldType := fun k => match k with
  | 0 => .int
  | 1 => .array .int
  | 2 => .array .int
  | 3 => .int
  | 4 => .int
  | 5 => .object "DeadListPool$Snapshot"
  | _ => .int
abbrev wsX60 : List Cond := u_ws RX6 TX6 7
theorem nmX6 : ∀ a, a < 7 → ∀ b, b < 7 → a ≠ b → (TX6 a).2.1 ≠ (TX6 b).2.1 := by decide +kernel
theorem tyX6_ok : ∀ k, k < 7 → parseFieldDescriptor (TX6 k).2.2.1 = some (tyX6 k) := by decide +kernel
abbrev cX6_init : ByteArray := prog_3_method_1_code
def yX6_init : MethodName := ⟨RX6, "<init>", "(II)V"⟩
def dkwX6_init_0 : List UInt8 := [42, 27, 1, 183, 0, 1, 42, 28, 181, 0, 7, 177]
abbrev dktX6_init_0 : List UInt8 := dkwX6_init_0 ++ []
theorem dksX6_init_0 : cX6_init.data.toList.drop 0 = dktX6_init_0 := by decide +kernel
theorem dX6_init_0 : decode cX6_init 0 = .ok (.aload_n 0, 1) := dk_42 (dk_at dksX6_init_0 0 rfl rfl)
theorem dX6_init_1 : decode cX6_init 1 = .ok (.iload_n 1, 1) := dk_27 (dk_at dksX6_init_0 1 rfl rfl)
theorem dX6_init_2 : decode cX6_init 2 = .ok (.aconst_null, 1) := dk_1 (dk_at dksX6_init_0 2 rfl rfl)
theorem dX6_init_3 : decode cX6_init 3 = .ok (.invokespecial 1, 3) := dk_183 0 1 (dk_at dksX6_init_0 3 rfl rfl)
theorem dX6_init_6 : decode cX6_init 6 = .ok (.aload_n 0, 1) := dk_42 (dk_at dksX6_init_0 6 rfl rfl)
theorem dX6_init_7 : decode cX6_init 7 = .ok (.iload_n 2, 1) := dk_28 (dk_at dksX6_init_0 7 rfl rfl)
theorem dX6_init_8 : decode cX6_init 8 = .ok (.putfield 7, 3) := dk_181 0 7 (dk_at dksX6_init_0 8 rfl rfl)
theorem dX6_init_11 : decode cX6_init 11 = .ok (.return_, 1) := dk_177 (dk_at dksX6_init_0 11 rfl rfl)
abbrev cX6_mayHave : ByteArray := prog_3_method_4_code
def yX6_mayHave : MethodName := ⟨RX6, "mayHave", "(J)Z"⟩
def dkwX6_mayHave_0 : List UInt8 := [42, 31, 183, 0, 17, 153, 0, 17, 31, 42, 180, 0, 7, 133, 148, 157, 0, 7, 4, 167, 0, 4, 3, 172]
abbrev dktX6_mayHave_0 : List UInt8 := dkwX6_mayHave_0 ++ []
theorem dksX6_mayHave_0 : cX6_mayHave.data.toList.drop 0 = dktX6_mayHave_0 := by decide +kernel
theorem dX6_mayHave_0 : decode cX6_mayHave 0 = .ok (.aload_n 0, 1) := dk_42 (dk_at dksX6_mayHave_0 0 rfl rfl)
theorem dX6_mayHave_1 : decode cX6_mayHave 1 = .ok (.lload_n 1, 1) := dk_31 (dk_at dksX6_mayHave_0 1 rfl rfl)
theorem dX6_mayHave_2 : decode cX6_mayHave 2 = .ok (.invokespecial 17, 3) := dk_183 0 17 (dk_at dksX6_mayHave_0 2 rfl rfl)
theorem dX6_mayHave_5 : decode cX6_mayHave 5 = .ok (.ifCond .eq 17, 3) := dk_153 0 17 (dk_at dksX6_mayHave_0 5 rfl rfl)
theorem dX6_mayHave_8 : decode cX6_mayHave 8 = .ok (.lload_n 1, 1) := dk_31 (dk_at dksX6_mayHave_0 8 rfl rfl)
theorem dX6_mayHave_9 : decode cX6_mayHave 9 = .ok (.aload_n 0, 1) := dk_42 (dk_at dksX6_mayHave_0 9 rfl rfl)
theorem dX6_mayHave_10 : decode cX6_mayHave 10 = .ok (.getfield 7, 3) := dk_180 0 7 (dk_at dksX6_mayHave_0 10 rfl rfl)
theorem dX6_mayHave_13 : decode cX6_mayHave 13 = .ok (.i2l, 1) := dk_133 (dk_at dksX6_mayHave_0 13 rfl rfl)
theorem dX6_mayHave_14 : decode cX6_mayHave 14 = .ok (.lcmp, 1) := dk_148 (dk_at dksX6_mayHave_0 14 rfl rfl)
theorem dX6_mayHave_15 : decode cX6_mayHave 15 = .ok (.ifCond .gt 7, 3) := dk_157 0 7 (dk_at dksX6_mayHave_0 15 rfl rfl)
theorem dX6_mayHave_18 : decode cX6_mayHave 18 = .ok (.iconst 1, 1) := dk_4 (dk_at dksX6_mayHave_0 18 rfl rfl)
theorem dX6_mayHave_19 : decode cX6_mayHave 19 = .ok (.goto 4, 3) := dk_167 0 4 (dk_at dksX6_mayHave_0 19 rfl rfl)
theorem dX6_mayHave_22 : decode cX6_mayHave 22 = .ok (.iconst 0, 1) := dk_3 (dk_at dksX6_mayHave_0 22 rfl rfl)
theorem dX6_mayHave_23 : decode cX6_mayHave 23 = .ok (.ireturn, 1) := dk_172 (dk_at dksX6_mayHave_0 23 rfl rfl)
abbrev cX6_kind : ByteArray := prog_3_method_2_code
def yX6_kind : MethodName := ⟨RX6, "kind", "()I"⟩
def dkwX6_kind_0 : List UInt8 := [42, 183, 0, 13, 4, 96, 172]
abbrev dktX6_kind_0 : List UInt8 := dkwX6_kind_0 ++ []
theorem dksX6_kind_0 : cX6_kind.data.toList.drop 0 = dktX6_kind_0 := by decide +kernel
theorem dX6_kind_0 : decode cX6_kind 0 = .ok (.aload_n 0, 1) := dk_42 (dk_at dksX6_kind_0 0 rfl rfl)
theorem dX6_kind_1 : decode cX6_kind 1 = .ok (.invokespecial 13, 3) := dk_183 0 13 (dk_at dksX6_kind_0 1 rfl rfl)
theorem dX6_kind_4 : decode cX6_kind 4 = .ok (.iconst 1, 1) := dk_4 (dk_at dksX6_kind_0 4 rfl rfl)
theorem dX6_kind_5 : decode cX6_kind 5 = .ok (.iadd, 1) := dk_96 (dk_at dksX6_kind_0 5 rfl rfl)
theorem dX6_kind_6 : decode cX6_kind 6 = .ok (.ireturn, 1) := dk_172 (dk_at dksX6_kind_0 6 rfl rfl)
abbrev cX6_quota : ByteArray := prog_3_method_3_code
def yX6_quota : MethodName := ⟨RX6, "quota", "()I"⟩
theorem dX6_quota_0 : decode cX6_quota 0 = .ok (.aload_n 0, 1) := by decide +kernel
theorem dX6_quota_1 : decode cX6_quota 1 = .ok (.getfield 7, 3) := by decide +kernel
theorem dX6_quota_4 : decode cX6_quota 4 = .ok (.ireturn, 1) := by decide +kernel
theorem q95 : (Jvm.Cond.initialized "DeadListPool$Bound") ∈ lw_all := lw_g (lw_at lw_m1 7 rfl) rfl
theorem q252 : (Jvm.Cond.sameField "DeadListPool$Bound" "DeadListPool$Holder" "made" "I") ∈ lw_all := lw_g (lw_at lw_m1 164 rfl) rfl
theorem q297 : (Jvm.Cond.instantiable "DeadListPool$Bound" (7 : Nat)) ∈ lw_all := lw_g (lw_at lw_m1 209 rfl) rfl
theorem q299 : (Jvm.Cond.instanceMethod ({ cls := "DeadListPool$Bound", name := "<init>", desc := "(II)V" } : Jvm.MethodName)) ∈ lw_all := lw_g (lw_at lw_m1 211 rfl) rfl
theorem q300 : (Jvm.Cond.code ({ cls := "DeadListPool$Bound", name := "<init>", desc := "(II)V" } : Jvm.MethodName) prog_3_method_1_code (3 : Nat) (Option.none : Option Jvm.ClassFile.FieldType)) ∈ lw_all := lw_g (lw_at lw_m1 212 rfl) rfl
theorem q301 : (Jvm.Cond.methodLink "DeadListPool$Bound" (1 : Nat) ({ cls := "DeadListPool$Folder", name := "<init>", desc := "(ILDeadListPool$Snapshot;)V" } : Jvm.MethodName)) ∈ lw_all := lw_g (lw_at lw_m1 213 rfl) rfl
theorem q302 : (Jvm.Cond.fieldLink "DeadListPool$Bound" (7 : Nat) "DeadListPool$Bound" "quota" "I") ∈ lw_all := lw_g (lw_at lw_m1 214 rfl) rfl
theorem q303 : (Jvm.Cond.laysFinal "DeadListPool$Bound" "DeadListPool$Bound" "quota" "I") ∈ lw_all := lw_g (lw_at lw_m1 215 rfl) rfl
theorem q304 : (Jvm.Cond.soleField "DeadListPool$Bound" "quota") ∈ lw_all := lw_g (lw_at lw_m1 216 rfl) rfl
theorem q305 : (Jvm.Cond.laysFinal "DeadListPool$Bound" "DeadListPool$Holder" "made" "I") ∈ lw_all := lw_g (lw_at lw_m1 217 rfl) rfl
theorem q306 : (Jvm.Cond.laysFinal "DeadListPool$Bound" "DeadListPool$Holder" "slots" "[I") ∈ lw_all := lw_g (lw_at lw_m1 218 rfl) rfl
theorem q307 : (Jvm.Cond.laysFinal "DeadListPool$Bound" "DeadListPool$Holder" "dead" "[I") ∈ lw_all := lw_g (lw_at lw_m1 219 rfl) rfl
theorem q308 : (Jvm.Cond.lays "DeadListPool$Bound" "DeadListPool$Holder" "deadMany" "I") ∈ lw_all := lw_g (lw_at lw_m1 220 rfl) rfl
theorem q309 : (Jvm.Cond.lays "DeadListPool$Bound" "DeadListPool$Holder" "number" "I") ∈ lw_all := lw_g (lw_at lw_m1 221 rfl) rfl
theorem q310 : (Jvm.Cond.lays "DeadListPool$Bound" "DeadListPool$Holder" "prev" "LDeadListPool$Snapshot;") ∈ lw_all := lw_g (lw_at lw_m1 222 rfl) rfl
theorem q311 : (Jvm.Cond.superclass "DeadListPool$Bound" "DeadListPool$Folder") ∈ lw_all := lw_g (lw_at lw_m1 223 rfl) rfl
theorem q488 : (Jvm.Cond.selects "DeadListPool$Bound" ({ cls := "DeadListPool$Folder", name := "mayHave", desc := "(J)Z" } : Jvm.MethodName) ({ cls := "DeadListPool$Bound", name := "mayHave", desc := "(J)Z" } : Jvm.MethodName)) ∈ lw_all := lw_g (lw_at lw_m2 160 rfl) rfl
theorem q489 : (Jvm.Cond.instanceMethod ({ cls := "DeadListPool$Bound", name := "mayHave", desc := "(J)Z" } : Jvm.MethodName)) ∈ lw_all := lw_g (lw_at lw_m2 161 rfl) rfl
theorem q490 : (Jvm.Cond.code ({ cls := "DeadListPool$Bound", name := "mayHave", desc := "(J)Z" } : Jvm.MethodName) prog_3_method_4_code (3 : Nat) (Option.some Jvm.ClassFile.FieldType.boolean)) ∈ lw_all := lw_g (lw_at lw_m2 162 rfl) rfl
theorem q491 : (Jvm.Cond.methodLink "DeadListPool$Bound" (17 : Nat) ({ cls := "DeadListPool$Folder", name := "mayHave", desc := "(J)Z" } : Jvm.MethodName)) ∈ lw_all := lw_g (lw_at lw_m2 163 rfl) rfl
theorem q500 : (Jvm.Cond.selects "DeadListPool$Bound" ({ cls := "DeadListPool$Folder", name := "prevMade", desc := "()I" } : Jvm.MethodName) ({ cls := "DeadListPool$Holder", name := "prevMade", desc := "()I" } : Jvm.MethodName)) ∈ lw_all := lw_g (lw_at lw_m2 172 rfl) rfl
theorem q617 : (Jvm.Cond.selects "DeadListPool$Bound" ({ cls := "DeadListPool$Folder", name := "takesSlots", desc := "(LDeadListPool$Holder;)V" } : Jvm.MethodName) ({ cls := "DeadListPool$Holder", name := "takesSlots", desc := "(LDeadListPool$Holder;)V" } : Jvm.MethodName)) ∈ lw_all := lw_g (lw_at lw_m3 49 rfl) rfl
theorem q710 : (Jvm.Cond.selects "DeadListPool$Bound" ({ cls := "DeadListPool$Holder", name := "kind", desc := "()I" } : Jvm.MethodName) ({ cls := "DeadListPool$Bound", name := "kind", desc := "()I" } : Jvm.MethodName)) ∈ lw_all := lw_g (lw_at lw_m3 142 rfl) rfl
theorem q711 : (Jvm.Cond.instanceMethod ({ cls := "DeadListPool$Bound", name := "kind", desc := "()I" } : Jvm.MethodName)) ∈ lw_all := lw_g (lw_at lw_m3 143 rfl) rfl
theorem q712 : (Jvm.Cond.code ({ cls := "DeadListPool$Bound", name := "kind", desc := "()I" } : Jvm.MethodName) prog_3_method_2_code (1 : Nat) (Option.some Jvm.ClassFile.FieldType.int)) ∈ lw_all := lw_g (lw_at lw_m3 144 rfl) rfl
theorem q713 : (Jvm.Cond.methodLink "DeadListPool$Bound" (13 : Nat) ({ cls := "DeadListPool$Folder", name := "kind", desc := "()I" } : Jvm.MethodName)) ∈ lw_all := lw_g (lw_at lw_m3 145 rfl) rfl
theorem q740 : (Jvm.Cond.selects "DeadListPool$Bound" ({ cls := "DeadListPool$Holder", name := "holdsMany", desc := "()I" } : Jvm.MethodName) ({ cls := "DeadListPool$Holder", name := "holdsMany", desc := "()I" } : Jvm.MethodName)) ∈ lw_all := lw_g (lw_at lw_m3 172 rfl) rfl
theorem q749 : (Jvm.Cond.selects "DeadListPool$Bound" ({ cls := "DeadListPool$Holder", name := "quota", desc := "()I" } : Jvm.MethodName) ({ cls := "DeadListPool$Bound", name := "quota", desc := "()I" } : Jvm.MethodName)) ∈ lw_all := lw_g (lw_at lw_m3 181 rfl) rfl
theorem q750 : (Jvm.Cond.instanceMethod ({ cls := "DeadListPool$Bound", name := "quota", desc := "()I" } : Jvm.MethodName)) ∈ lw_all := lw_g (lw_at lw_m3 182 rfl) rfl
theorem q751 : (Jvm.Cond.code ({ cls := "DeadListPool$Bound", name := "quota", desc := "()I" } : Jvm.MethodName) prog_3_method_3_code (1 : Nat) (Option.some Jvm.ClassFile.FieldType.int)) ∈ lw_all := lw_g (lw_at lw_m3 183 rfl) rfl
theorem q773 : (Jvm.Cond.selects "DeadListPool$Bound" ({ cls := "DeadListPool$Holder", name := "holds", desc := "(I)Z" } : Jvm.MethodName) ({ cls := "DeadListPool$Holder", name := "holds", desc := "(I)Z" } : Jvm.MethodName)) ∈ lw_all := lw_g (lw_at lw_m3 205 rfl) rfl
theorem q1384 : (Jvm.Cond.selects "DeadListPool$Bound" ({ cls := "DeadListPool$Holder", name := "tags", desc := "()I" } : Jvm.MethodName) ({ cls := "DeadListPool$Holder", name := "tags", desc := "()I" } : Jvm.MethodName)) ∈ lw_all := lw_g (lw_at lw_m6 96 rfl) rfl
theorem q1389 : (Jvm.Cond.castable "DeadListPool$Bound" "DeadListPool$Folder") ∈ lw_tbl := lw_at lw_m6 101 rfl
theorem q1391 : (Jvm.Cond.castable "DeadListPool$Bound" "DeadListPool$Holder") ∈ lw_tbl := lw_at lw_m6 103 rfl
theorem q1400 : (Jvm.Cond.castable "DeadListPool$Bound" "java/lang/Object") ∈ lw_tbl := lw_at lw_m6 112 rfl
theorem in_X6 : ∀ w ∈ wsX60, w ∈ lw_all := lw_in wsX60 [305, 306, 307, 308, 309, 310, 303] (by decide +kernel) (by decide +kernel)

/-! DeadListPool$Snapshot -/
set_option maxRecDepth 100000
def RX7 : String := "DeadListPool$Snapshot"
def TX7 : u_T := fun k => match k with
  | 0 => ("DeadListPool$Holder", "made", "I", true)
  | 1 => ("DeadListPool$Holder", "slots", "[I", true)
  | 2 => ("DeadListPool$Holder", "dead", "[I", true)
  | 3 => ("DeadListPool$Holder", "deadMany", "I", false)
  | 4 => ("DeadListPool$Holder", "number", "I", false)
  | 5 => ("DeadListPool$Holder", "prev", "LDeadListPool$Snapshot;", false)
  | _ => ("DeadListPool$Snapshot", "owner", "LDeadListPool$Folder;", false)
def tyX7 : Nat → FieldType := fun k => match k with
  | 0 => .int
  | 1 => .array .int
  | 2 => .array .int
  | 3 => .int
  | 4 => .int
  | 5 => .object "DeadListPool$Snapshot"
  | _ => .object "DeadListPool$Folder"
abbrev wsX70 : List Cond := u_ws RX7 TX7 7
theorem nmX7 : ∀ a, a < 7 → ∀ b, b < 7 → a ≠ b → (TX7 a).2.1 ≠ (TX7 b).2.1 := by decide +kernel
theorem tyX7_ok : ∀ k, k < 7 → parseFieldDescriptor (TX7 k).2.2.1 = some (tyX7 k) := by decide +kernel
abbrev cX7_init : ByteArray := prog_8_method_1_code
def yX7_init : MethodName := ⟨RX7, "<init>", "(ILDeadListPool$Folder;)V"⟩
def dkwX7_init_1 : List UInt8 := [177]
abbrev dktX7_init_1 : List UInt8 := dkwX7_init_1 ++ []
def dkwX7_init_0 : List UInt8 := [42, 27, 44, 180, 0, 1, 183, 0, 7, 42, 44, 181, 0, 13, 42, 44, 182, 0, 19, 42, 44, 182, 0, 23]
abbrev dktX7_init_0 : List UInt8 := dkwX7_init_0 ++ dktX7_init_1
theorem dksX7_init_0 : cX7_init.data.toList.drop 0 = dktX7_init_0 := by decide +kernel
theorem dksX7_init_1 : cX7_init.data.toList.drop 24 = dktX7_init_1 := dk_seg dksX7_init_0 24 rfl rfl
theorem dX7_init_0 : decode cX7_init 0 = .ok (.aload_n 0, 1) := dk_42 (dk_at dksX7_init_0 0 rfl rfl)
theorem dX7_init_1 : decode cX7_init 1 = .ok (.iload_n 1, 1) := dk_27 (dk_at dksX7_init_0 1 rfl rfl)
theorem dX7_init_2 : decode cX7_init 2 = .ok (.aload_n 2, 1) := dk_44 (dk_at dksX7_init_0 2 rfl rfl)
theorem dX7_init_3 : decode cX7_init 3 = .ok (.getfield 1, 3) := dk_180 0 1 (dk_at dksX7_init_0 3 rfl rfl)
theorem dX7_init_6 : decode cX7_init 6 = .ok (.invokespecial 7, 3) := dk_183 0 7 (dk_at dksX7_init_0 6 rfl rfl)
theorem dX7_init_9 : decode cX7_init 9 = .ok (.aload_n 0, 1) := dk_42 (dk_at dksX7_init_0 9 rfl rfl)
theorem dX7_init_10 : decode cX7_init 10 = .ok (.aload_n 2, 1) := dk_44 (dk_at dksX7_init_0 10 rfl rfl)
theorem dX7_init_11 : decode cX7_init 11 = .ok (.putfield 13, 3) := dk_181 0 13 (dk_at dksX7_init_0 11 rfl rfl)
theorem dX7_init_14 : decode cX7_init 14 = .ok (.aload_n 0, 1) := dk_42 (dk_at dksX7_init_0 14 rfl rfl)
theorem dX7_init_15 : decode cX7_init 15 = .ok (.aload_n 2, 1) := dk_44 (dk_at dksX7_init_0 15 rfl rfl)
theorem dX7_init_16 : decode cX7_init 16 = .ok (.invokevirtual 19, 3) := dk_182 0 19 (dk_at dksX7_init_0 16 rfl rfl)
theorem dX7_init_19 : decode cX7_init 19 = .ok (.aload_n 0, 1) := dk_42 (dk_at dksX7_init_0 19 rfl rfl)
theorem dX7_init_20 : decode cX7_init 20 = .ok (.aload_n 2, 1) := dk_44 (dk_at dksX7_init_0 20 rfl rfl)
theorem dX7_init_21 : decode cX7_init 21 = .ok (.invokevirtual 23, 3) := dk_182 0 23 (dk_at dksX7_init_0 21 rfl rfl)
theorem dX7_init_24 : decode cX7_init 24 = .ok (.return_, 1) := dk_177 (dk_at dksX7_init_1 0 rfl rfl)
abbrev cX7_kind : ByteArray := prog_8_method_2_code
def yX7_kind : MethodName := ⟨RX7, "kind", "()I"⟩
theorem dX7_kind_0 : decode cX7_kind 0 = .ok (.iconst 2, 1) := by decide +kernel
theorem dX7_kind_1 : decode cX7_kind 1 = .ok (.ireturn, 1) := by decide +kernel
abbrev cX7_tagsAre : ByteArray := prog_8_method_3_code
def yX7_tagsAre : MethodName := ⟨RX7, "tagsAre", "(I)V"⟩
theorem dX7_tagsAre_0 : decode cX7_tagsAre 0 = .ok (.return_, 1) := by decide +kernel
theorem q104 : (Jvm.Cond.initialized "DeadListPool$Snapshot") ∈ lw_all := lw_g (lw_at lw_m1 16 rfl) rfl
theorem q246 : (Jvm.Cond.sameField "DeadListPool$Snapshot" "DeadListPool$Holder" "made" "I") ∈ lw_all := lw_g (lw_at lw_m1 158 rfl) rfl
theorem q260 : (Jvm.Cond.sameField "DeadListPool$Snapshot" "DeadListPool$Holder" "slots" "[I") ∈ lw_all := lw_g (lw_at lw_m1 172 rfl) rfl
theorem q264 : (Jvm.Cond.sameField "DeadListPool$Snapshot" "DeadListPool$Holder" "dead" "[I") ∈ lw_all := lw_g (lw_at lw_m1 176 rfl) rfl
theorem q270 : (Jvm.Cond.sameField "DeadListPool$Snapshot" "DeadListPool$Holder" "deadMany" "I") ∈ lw_all := lw_g (lw_at lw_m1 182 rfl) rfl
theorem q275 : (Jvm.Cond.sameField "DeadListPool$Snapshot" "DeadListPool$Holder" "number" "I") ∈ lw_all := lw_g (lw_at lw_m1 187 rfl) rfl
theorem q276 : (Jvm.Cond.fieldLink "DeadListPool$Snapshot" (1 : Nat) "DeadListPool$Folder" "prev" "LDeadListPool$Snapshot;") ∈ lw_all := lw_g (lw_at lw_m1 188 rfl) rfl
theorem q282 : (Jvm.Cond.sameField "DeadListPool$Snapshot" "DeadListPool$Holder" "prev" "LDeadListPool$Snapshot;") ∈ lw_all := lw_g (lw_at lw_m1 194 rfl) rfl
theorem q538 : (Jvm.Cond.instanceMethod ({ cls := "DeadListPool$Snapshot", name := "<init>", desc := "(ILDeadListPool$Folder;)V" } : Jvm.MethodName)) ∈ lw_all := lw_g (lw_at lw_m2 210 rfl) rfl
theorem q539 : (Jvm.Cond.code ({ cls := "DeadListPool$Snapshot", name := "<init>", desc := "(ILDeadListPool$Folder;)V" } : Jvm.MethodName) prog_8_method_1_code (3 : Nat) (Option.none : Option Jvm.ClassFile.FieldType)) ∈ lw_all := lw_g (lw_at lw_m2 211 rfl) rfl
theorem q540 : (Jvm.Cond.methodLink "DeadListPool$Snapshot" (7 : Nat) ({ cls := "DeadListPool$Holder", name := "<init>", desc := "(ILDeadListPool$Snapshot;)V" } : Jvm.MethodName)) ∈ lw_all := lw_g (lw_at lw_m2 212 rfl) rfl
theorem q541 : (Jvm.Cond.methodLink "DeadListPool$Snapshot" (19 : Nat) ({ cls := "DeadListPool$Snapshot", name := "takesSlots", desc := "(LDeadListPool$Holder;)V" } : Jvm.MethodName)) ∈ lw_all := lw_g (lw_at lw_m2 213 rfl) rfl
theorem q542 : (Jvm.Cond.sameMethod "DeadListPool$Snapshot" "DeadListPool$Holder" "takesSlots" "(LDeadListPool$Holder;)V") ∈ lw_all := lw_g (lw_at lw_m2 214 rfl) rfl
theorem q544 : (Jvm.Cond.selects "DeadListPool$Snapshot" ({ cls := "DeadListPool$Snapshot", name := "takesSlots", desc := "(LDeadListPool$Holder;)V" } : Jvm.MethodName) ({ cls := "DeadListPool$Holder", name := "takesSlots", desc := "(LDeadListPool$Holder;)V" } : Jvm.MethodName)) ∈ lw_all := lw_g (lw_at lw_m2 216 rfl) rfl
theorem q548 : (Jvm.Cond.methodLink "DeadListPool$Snapshot" (23 : Nat) ({ cls := "DeadListPool$Snapshot", name := "takesDead", desc := "(LDeadListPool$Holder;)V" } : Jvm.MethodName)) ∈ lw_all := lw_g (lw_at lw_m2 220 rfl) rfl
theorem q549 : (Jvm.Cond.sameMethod "DeadListPool$Snapshot" "DeadListPool$Holder" "takesDead" "(LDeadListPool$Holder;)V") ∈ lw_all := lw_g (lw_at lw_m2 221 rfl) rfl
theorem q551 : (Jvm.Cond.selects "DeadListPool$Snapshot" ({ cls := "DeadListPool$Snapshot", name := "takesDead", desc := "(LDeadListPool$Holder;)V" } : Jvm.MethodName) ({ cls := "DeadListPool$Holder", name := "takesDead", desc := "(LDeadListPool$Holder;)V" } : Jvm.MethodName)) ∈ lw_all := lw_g (lw_at lw_m2 223 rfl) rfl
theorem q556 : (Jvm.Cond.fieldLink "DeadListPool$Snapshot" (13 : Nat) "DeadListPool$Snapshot" "owner" "LDeadListPool$Folder;") ∈ lw_all := lw_g (lw_at lw_m2 228 rfl) rfl
theorem q561 : (Jvm.Cond.soleField "DeadListPool$Snapshot" "owner") ∈ lw_all := lw_g (lw_at lw_m2 233 rfl) rfl
theorem q569 : (Jvm.Cond.instantiable "DeadListPool$Snapshot" (7 : Nat)) ∈ lw_all := lw_g (lw_at lw_m3 1 rfl) rfl
theorem q571 : (Jvm.Cond.lays "DeadListPool$Snapshot" "DeadListPool$Snapshot" "owner" "LDeadListPool$Folder;") ∈ lw_all := lw_g (lw_at lw_m3 3 rfl) rfl
theorem q572 : (Jvm.Cond.laysFinal "DeadListPool$Snapshot" "DeadListPool$Holder" "made" "I") ∈ lw_all := lw_g (lw_at lw_m3 4 rfl) rfl
theorem q573 : (Jvm.Cond.laysFinal "DeadListPool$Snapshot" "DeadListPool$Holder" "slots" "[I") ∈ lw_all := lw_g (lw_at lw_m3 5 rfl) rfl
theorem q574 : (Jvm.Cond.laysFinal "DeadListPool$Snapshot" "DeadListPool$Holder" "dead" "[I") ∈ lw_all := lw_g (lw_at lw_m3 6 rfl) rfl
theorem q575 : (Jvm.Cond.lays "DeadListPool$Snapshot" "DeadListPool$Holder" "deadMany" "I") ∈ lw_all := lw_g (lw_at lw_m3 7 rfl) rfl
theorem q576 : (Jvm.Cond.lays "DeadListPool$Snapshot" "DeadListPool$Holder" "number" "I") ∈ lw_all := lw_g (lw_at lw_m3 8 rfl) rfl
theorem q577 : (Jvm.Cond.lays "DeadListPool$Snapshot" "DeadListPool$Holder" "prev" "LDeadListPool$Snapshot;") ∈ lw_all := lw_g (lw_at lw_m3 9 rfl) rfl
theorem q578 : (Jvm.Cond.superclass "DeadListPool$Snapshot" "DeadListPool$Holder") ∈ lw_all := lw_g (lw_at lw_m3 10 rfl) rfl
theorem q645 : (Jvm.Cond.sameMethod "DeadListPool$Snapshot" "DeadListPool$Holder" "tags" "()I") ∈ lw_all := lw_g (lw_at lw_m3 77 rfl) rfl
theorem q647 : (Jvm.Cond.selects "DeadListPool$Snapshot" ({ cls := "DeadListPool$Snapshot", name := "tags", desc := "()I" } : Jvm.MethodName) ({ cls := "DeadListPool$Holder", name := "tags", desc := "()I" } : Jvm.MethodName)) ∈ lw_all := lw_g (lw_at lw_m3 79 rfl) rfl
theorem q669 : (Jvm.Cond.sameMethod "DeadListPool$Snapshot" "DeadListPool$Holder" "prevMade" "()I") ∈ lw_all := lw_g (lw_at lw_m3 101 rfl) rfl
theorem q670 : (Jvm.Cond.selects "DeadListPool$Snapshot" ({ cls := "DeadListPool$Snapshot", name := "prevMade", desc := "()I" } : Jvm.MethodName) ({ cls := "DeadListPool$Holder", name := "prevMade", desc := "()I" } : Jvm.MethodName)) ∈ lw_all := lw_g (lw_at lw_m3 102 rfl) rfl
theorem q717 : (Jvm.Cond.selects "DeadListPool$Snapshot" ({ cls := "DeadListPool$Holder", name := "kind", desc := "()I" } : Jvm.MethodName) ({ cls := "DeadListPool$Snapshot", name := "kind", desc := "()I" } : Jvm.MethodName)) ∈ lw_all := lw_g (lw_at lw_m3 149 rfl) rfl
theorem q718 : (Jvm.Cond.instanceMethod ({ cls := "DeadListPool$Snapshot", name := "kind", desc := "()I" } : Jvm.MethodName)) ∈ lw_all := lw_g (lw_at lw_m3 150 rfl) rfl
theorem q719 : (Jvm.Cond.code ({ cls := "DeadListPool$Snapshot", name := "kind", desc := "()I" } : Jvm.MethodName) prog_8_method_2_code (1 : Nat) (Option.some Jvm.ClassFile.FieldType.int)) ∈ lw_all := lw_g (lw_at lw_m3 151 rfl) rfl
theorem q742 : (Jvm.Cond.selects "DeadListPool$Snapshot" ({ cls := "DeadListPool$Holder", name := "holdsMany", desc := "()I" } : Jvm.MethodName) ({ cls := "DeadListPool$Holder", name := "holdsMany", desc := "()I" } : Jvm.MethodName)) ∈ lw_all := lw_g (lw_at lw_m3 174 rfl) rfl
theorem q753 : (Jvm.Cond.selects "DeadListPool$Snapshot" ({ cls := "DeadListPool$Holder", name := "quota", desc := "()I" } : Jvm.MethodName) ({ cls := "DeadListPool$Holder", name := "quota", desc := "()I" } : Jvm.MethodName)) ∈ lw_all := lw_g (lw_at lw_m3 185 rfl) rfl
theorem q775 : (Jvm.Cond.selects "DeadListPool$Snapshot" ({ cls := "DeadListPool$Holder", name := "holds", desc := "(I)Z" } : Jvm.MethodName) ({ cls := "DeadListPool$Holder", name := "holds", desc := "(I)Z" } : Jvm.MethodName)) ∈ lw_all := lw_g (lw_at lw_m3 207 rfl) rfl
theorem q827 : (Jvm.Cond.sameMethod "DeadListPool$Snapshot" "DeadListPool$Holder" "holds" "(I)Z") ∈ lw_all := lw_g (lw_at lw_m4 19 rfl) rfl
theorem q829 : (Jvm.Cond.selects "DeadListPool$Snapshot" ({ cls := "DeadListPool$Snapshot", name := "holds", desc := "(I)Z" } : Jvm.MethodName) ({ cls := "DeadListPool$Holder", name := "holds", desc := "(I)Z" } : Jvm.MethodName)) ∈ lw_all := lw_g (lw_at lw_m4 21 rfl) rfl
theorem q1010 : (Jvm.Cond.instanceMethod ({ cls := "DeadListPool$Snapshot", name := "tagsAre", desc := "(I)V" } : Jvm.MethodName)) ∈ lw_all := lw_g (lw_at lw_m4 202 rfl) rfl
theorem q1011 : (Jvm.Cond.selects "DeadListPool$Snapshot" ({ cls := "DeadListPool$Snapshot", name := "tagsAre", desc := "(I)V" } : Jvm.MethodName) ({ cls := "DeadListPool$Snapshot", name := "tagsAre", desc := "(I)V" } : Jvm.MethodName)) ∈ lw_all := lw_g (lw_at lw_m4 203 rfl) rfl
theorem q1012 : (Jvm.Cond.sameMethod "DeadListPool$Snapshot" "DeadListPool$Snapshot" "tagsAre" "(I)V") ∈ lw_all := lw_g (lw_at lw_m4 204 rfl) rfl
theorem q1014 : (Jvm.Cond.code ({ cls := "DeadListPool$Snapshot", name := "tagsAre", desc := "(I)V" } : Jvm.MethodName) prog_8_method_3_code (2 : Nat) (Option.none : Option Jvm.ClassFile.FieldType)) ∈ lw_all := lw_g (lw_at lw_m4 206 rfl) rfl
theorem q1382 : (Jvm.Cond.sameMethod "DeadListPool$Snapshot" "DeadListPool$Snapshot" "kind" "()I") ∈ lw_all := lw_g (lw_at lw_m6 94 rfl) rfl
theorem q1386 : (Jvm.Cond.selects "DeadListPool$Snapshot" ({ cls := "DeadListPool$Holder", name := "tags", desc := "()I" } : Jvm.MethodName) ({ cls := "DeadListPool$Holder", name := "tags", desc := "()I" } : Jvm.MethodName)) ∈ lw_all := lw_g (lw_at lw_m6 98 rfl) rfl
theorem q1393 : (Jvm.Cond.castable "DeadListPool$Snapshot" "DeadListPool$Holder") ∈ lw_tbl := lw_at lw_m6 105 rfl
theorem q1406 : (Jvm.Cond.castable "DeadListPool$Snapshot" "java/lang/Object") ∈ lw_tbl := lw_at lw_m6 118 rfl
theorem in_X7 : ∀ w ∈ wsX70, w ∈ lw_all := lw_in wsX70 [572, 573, 574, 575, 576, 577, 571] (by decide +kernel) (by decide +kernel)

/-! DeadListPool$Tagged -/
set_option maxRecDepth 100000
def RX8 : String := "DeadListPool$Tagged"
def TX8 : u_T := fun k => match k with
  | 0 => ("DeadListPool$Holder", "made", "I", true)
  | 1 => ("DeadListPool$Holder", "slots", "[I", true)
  | 2 => ("DeadListPool$Holder", "dead", "[I", true)
  | 3 => ("DeadListPool$Holder", "deadMany", "I", false)
  | 4 => ("DeadListPool$Holder", "number", "I", false)
  | 5 => ("DeadListPool$Holder", "prev", "LDeadListPool$Snapshot;", false)
  | 6 => ("DeadListPool$Snapshot", "owner", "LDeadListPool$Folder;", false)
  | _ => ("DeadListPool$Tagged", "tags", "I", false)
def tyX8 : Nat → FieldType := fun k => match k with
  | 0 => .int
  | 1 => .array .int
  | 2 => .array .int
  | 3 => .int
  | 4 => .int
  | 5 => .object "DeadListPool$Snapshot"
  | 6 => .object "DeadListPool$Folder"
  | _ => .int
abbrev wsX80 : List Cond := u_ws RX8 TX8 8
theorem nmX8 : ∀ a, a < 8 → ∀ b, b < 8 → a ≠ b → (TX8 a).2.1 ≠ (TX8 b).2.1 := by decide +kernel
theorem tyX8_ok : ∀ k, k < 8 → parseFieldDescriptor (TX8 k).2.2.1 = some (tyX8 k) := by decide +kernel
abbrev cX8_init : ByteArray := prog_9_method_1_code
def yX8_init : MethodName := ⟨RX8, "<init>", "(ILDeadListPool$Folder;)V"⟩
def dkwX8_init_0 : List UInt8 := [42, 27, 44, 183, 0, 1, 42, 4, 181, 0, 7, 177]
abbrev dktX8_init_0 : List UInt8 := dkwX8_init_0 ++ []
theorem dksX8_init_0 : cX8_init.data.toList.drop 0 = dktX8_init_0 := by decide +kernel
theorem dX8_init_0 : decode cX8_init 0 = .ok (.aload_n 0, 1) := dk_42 (dk_at dksX8_init_0 0 rfl rfl)
theorem dX8_init_1 : decode cX8_init 1 = .ok (.iload_n 1, 1) := dk_27 (dk_at dksX8_init_0 1 rfl rfl)
theorem dX8_init_2 : decode cX8_init 2 = .ok (.aload_n 2, 1) := dk_44 (dk_at dksX8_init_0 2 rfl rfl)
theorem dX8_init_3 : decode cX8_init 3 = .ok (.invokespecial 1, 3) := dk_183 0 1 (dk_at dksX8_init_0 3 rfl rfl)
theorem dX8_init_6 : decode cX8_init 6 = .ok (.aload_n 0, 1) := dk_42 (dk_at dksX8_init_0 6 rfl rfl)
theorem dX8_init_7 : decode cX8_init 7 = .ok (.iconst 1, 1) := dk_4 (dk_at dksX8_init_0 7 rfl rfl)
theorem dX8_init_8 : decode cX8_init 8 = .ok (.putfield 7, 3) := dk_181 0 7 (dk_at dksX8_init_0 8 rfl rfl)
theorem dX8_init_11 : decode cX8_init 11 = .ok (.return_, 1) := dk_177 (dk_at dksX8_init_0 11 rfl rfl)
abbrev cX8_tags : ByteArray := prog_9_method_3_code
def yX8_tags : MethodName := ⟨RX8, "tags", "()I"⟩
theorem dX8_tags_0 : decode cX8_tags 0 = .ok (.aload_n 0, 1) := by decide +kernel
theorem dX8_tags_1 : decode cX8_tags 1 = .ok (.getfield 7, 3) := by decide +kernel
theorem dX8_tags_4 : decode cX8_tags 4 = .ok (.ireturn, 1) := by decide +kernel
abbrev cX8_tagsAre : ByteArray := prog_9_method_4_code
def yX8_tagsAre : MethodName := ⟨RX8, "tagsAre", "(I)V"⟩
def dkwX8_tagsAre_0 : List UInt8 := [42, 27, 181, 0, 7, 177]
abbrev dktX8_tagsAre_0 : List UInt8 := dkwX8_tagsAre_0 ++ []
theorem dksX8_tagsAre_0 : cX8_tagsAre.data.toList.drop 0 = dktX8_tagsAre_0 := by decide +kernel
theorem dX8_tagsAre_0 : decode cX8_tagsAre 0 = .ok (.aload_n 0, 1) := dk_42 (dk_at dksX8_tagsAre_0 0 rfl rfl)
theorem dX8_tagsAre_1 : decode cX8_tagsAre 1 = .ok (.iload_n 1, 1) := dk_27 (dk_at dksX8_tagsAre_0 1 rfl rfl)
theorem dX8_tagsAre_2 : decode cX8_tagsAre 2 = .ok (.putfield 7, 3) := dk_181 0 7 (dk_at dksX8_tagsAre_0 2 rfl rfl)
theorem dX8_tagsAre_5 : decode cX8_tagsAre 5 = .ok (.return_, 1) := dk_177 (dk_at dksX8_tagsAre_0 5 rfl rfl)
abbrev cX8_kind : ByteArray := prog_9_method_2_code
def yX8_kind : MethodName := ⟨RX8, "kind", "()I"⟩
def dkwX8_kind_0 : List UInt8 := [42, 183, 0, 13, 4, 96, 172]
abbrev dktX8_kind_0 : List UInt8 := dkwX8_kind_0 ++ []
theorem dksX8_kind_0 : cX8_kind.data.toList.drop 0 = dktX8_kind_0 := by decide +kernel
theorem dX8_kind_0 : decode cX8_kind 0 = .ok (.aload_n 0, 1) := dk_42 (dk_at dksX8_kind_0 0 rfl rfl)
theorem dX8_kind_1 : decode cX8_kind 1 = .ok (.invokespecial 13, 3) := dk_183 0 13 (dk_at dksX8_kind_0 1 rfl rfl)
theorem dX8_kind_4 : decode cX8_kind 4 = .ok (.iconst 1, 1) := dk_4 (dk_at dksX8_kind_0 4 rfl rfl)
theorem dX8_kind_5 : decode cX8_kind 5 = .ok (.iadd, 1) := dk_96 (dk_at dksX8_kind_0 5 rfl rfl)
theorem dX8_kind_6 : decode cX8_kind 6 = .ok (.ireturn, 1) := dk_172 (dk_at dksX8_kind_0 6 rfl rfl)
theorem q105 : (Jvm.Cond.initialized "DeadListPool$Tagged") ∈ lw_all := lw_g (lw_at lw_m1 17 rfl) rfl
theorem q254 : (Jvm.Cond.sameField "DeadListPool$Tagged" "DeadListPool$Holder" "made" "I") ∈ lw_all := lw_g (lw_at lw_m1 166 rfl) rfl
theorem q533 : (Jvm.Cond.instantiable "DeadListPool$Tagged" (8 : Nat)) ∈ lw_all := lw_g (lw_at lw_m2 205 rfl) rfl
theorem q535 : (Jvm.Cond.instanceMethod ({ cls := "DeadListPool$Tagged", name := "<init>", desc := "(ILDeadListPool$Folder;)V" } : Jvm.MethodName)) ∈ lw_all := lw_g (lw_at lw_m2 207 rfl) rfl
theorem q536 : (Jvm.Cond.code ({ cls := "DeadListPool$Tagged", name := "<init>", desc := "(ILDeadListPool$Folder;)V" } : Jvm.MethodName) prog_9_method_1_code (3 : Nat) (Option.none : Option Jvm.ClassFile.FieldType)) ∈ lw_all := lw_g (lw_at lw_m2 208 rfl) rfl
theorem q537 : (Jvm.Cond.methodLink "DeadListPool$Tagged" (1 : Nat) ({ cls := "DeadListPool$Snapshot", name := "<init>", desc := "(ILDeadListPool$Folder;)V" } : Jvm.MethodName)) ∈ lw_all := lw_g (lw_at lw_m2 209 rfl) rfl
theorem q545 : (Jvm.Cond.selects "DeadListPool$Tagged" ({ cls := "DeadListPool$Snapshot", name := "takesSlots", desc := "(LDeadListPool$Holder;)V" } : Jvm.MethodName) ({ cls := "DeadListPool$Holder", name := "takesSlots", desc := "(LDeadListPool$Holder;)V" } : Jvm.MethodName)) ∈ lw_all := lw_g (lw_at lw_m2 217 rfl) rfl
theorem q552 : (Jvm.Cond.selects "DeadListPool$Tagged" ({ cls := "DeadListPool$Snapshot", name := "takesDead", desc := "(LDeadListPool$Holder;)V" } : Jvm.MethodName) ({ cls := "DeadListPool$Holder", name := "takesDead", desc := "(LDeadListPool$Holder;)V" } : Jvm.MethodName)) ∈ lw_all := lw_g (lw_at lw_m2 224 rfl) rfl
theorem q555 : (Jvm.Cond.fieldLink "DeadListPool$Tagged" (7 : Nat) "DeadListPool$Tagged" "tags" "I") ∈ lw_all := lw_g (lw_at lw_m2 227 rfl) rfl
theorem q558 : (Jvm.Cond.lays "DeadListPool$Tagged" "DeadListPool$Tagged" "tags" "I") ∈ lw_all := lw_g (lw_at lw_m2 230 rfl) rfl
theorem q559 : (Jvm.Cond.soleField "DeadListPool$Tagged" "tags") ∈ lw_all := lw_g (lw_at lw_m2 231 rfl) rfl
theorem q560 : (Jvm.Cond.lays "DeadListPool$Tagged" "DeadListPool$Snapshot" "owner" "LDeadListPool$Folder;") ∈ lw_all := lw_g (lw_at lw_m2 232 rfl) rfl
theorem q562 : (Jvm.Cond.laysFinal "DeadListPool$Tagged" "DeadListPool$Holder" "made" "I") ∈ lw_all := lw_g (lw_at lw_m2 234 rfl) rfl
theorem q563 : (Jvm.Cond.laysFinal "DeadListPool$Tagged" "DeadListPool$Holder" "slots" "[I") ∈ lw_all := lw_g (lw_at lw_m2 235 rfl) rfl
theorem q564 : (Jvm.Cond.laysFinal "DeadListPool$Tagged" "DeadListPool$Holder" "dead" "[I") ∈ lw_all := lw_g (lw_at lw_m2 236 rfl) rfl
theorem q565 : (Jvm.Cond.lays "DeadListPool$Tagged" "DeadListPool$Holder" "deadMany" "I") ∈ lw_all := lw_g (lw_at lw_m2 237 rfl) rfl
theorem q566 : (Jvm.Cond.lays "DeadListPool$Tagged" "DeadListPool$Holder" "number" "I") ∈ lw_all := lw_g (lw_at lw_m2 238 rfl) rfl
theorem q567 : (Jvm.Cond.lays "DeadListPool$Tagged" "DeadListPool$Holder" "prev" "LDeadListPool$Snapshot;") ∈ lw_all := lw_g (lw_at lw_m2 239 rfl) rfl
theorem q568 : (Jvm.Cond.superclass "DeadListPool$Tagged" "DeadListPool$Snapshot") ∈ lw_all := lw_g (lw_at lw_m3 0 rfl) rfl
theorem q585 : (Jvm.Cond.instanceMethod ({ cls := "DeadListPool$Tagged", name := "tags", desc := "()I" } : Jvm.MethodName)) ∈ lw_all := lw_g (lw_at lw_m3 17 rfl) rfl
theorem q586 : (Jvm.Cond.selects "DeadListPool$Tagged" ({ cls := "DeadListPool$Tagged", name := "tags", desc := "()I" } : Jvm.MethodName) ({ cls := "DeadListPool$Tagged", name := "tags", desc := "()I" } : Jvm.MethodName)) ∈ lw_all := lw_g (lw_at lw_m3 18 rfl) rfl
theorem q587 : (Jvm.Cond.code ({ cls := "DeadListPool$Tagged", name := "tags", desc := "()I" } : Jvm.MethodName) prog_9_method_3_code (1 : Nat) (Option.some Jvm.ClassFile.FieldType.int)) ∈ lw_all := lw_g (lw_at lw_m3 19 rfl) rfl
theorem q589 : (Jvm.Cond.instanceMethod ({ cls := "DeadListPool$Tagged", name := "tagsAre", desc := "(I)V" } : Jvm.MethodName)) ∈ lw_all := lw_g (lw_at lw_m3 21 rfl) rfl
theorem q590 : (Jvm.Cond.selects "DeadListPool$Tagged" ({ cls := "DeadListPool$Tagged", name := "tagsAre", desc := "(I)V" } : Jvm.MethodName) ({ cls := "DeadListPool$Tagged", name := "tagsAre", desc := "(I)V" } : Jvm.MethodName)) ∈ lw_all := lw_g (lw_at lw_m3 22 rfl) rfl
theorem q591 : (Jvm.Cond.code ({ cls := "DeadListPool$Tagged", name := "tagsAre", desc := "(I)V" } : Jvm.MethodName) prog_9_method_4_code (2 : Nat) (Option.none : Option Jvm.ClassFile.FieldType)) ∈ lw_all := lw_g (lw_at lw_m3 23 rfl) rfl
theorem q648 : (Jvm.Cond.selects "DeadListPool$Tagged" ({ cls := "DeadListPool$Snapshot", name := "tags", desc := "()I" } : Jvm.MethodName) ({ cls := "DeadListPool$Tagged", name := "tags", desc := "()I" } : Jvm.MethodName)) ∈ lw_all := lw_g (lw_at lw_m3 80 rfl) rfl
theorem q671 : (Jvm.Cond.selects "DeadListPool$Tagged" ({ cls := "DeadListPool$Snapshot", name := "prevMade", desc := "()I" } : Jvm.MethodName) ({ cls := "DeadListPool$Holder", name := "prevMade", desc := "()I" } : Jvm.MethodName)) ∈ lw_all := lw_g (lw_at lw_m3 103 rfl) rfl
theorem q720 : (Jvm.Cond.selects "DeadListPool$Tagged" ({ cls := "DeadListPool$Holder", name := "kind", desc := "()I" } : Jvm.MethodName) ({ cls := "DeadListPool$Tagged", name := "kind", desc := "()I" } : Jvm.MethodName)) ∈ lw_all := lw_g (lw_at lw_m3 152 rfl) rfl
theorem q721 : (Jvm.Cond.instanceMethod ({ cls := "DeadListPool$Tagged", name := "kind", desc := "()I" } : Jvm.MethodName)) ∈ lw_all := lw_g (lw_at lw_m3 153 rfl) rfl
theorem q722 : (Jvm.Cond.code ({ cls := "DeadListPool$Tagged", name := "kind", desc := "()I" } : Jvm.MethodName) prog_9_method_2_code (1 : Nat) (Option.some Jvm.ClassFile.FieldType.int)) ∈ lw_all := lw_g (lw_at lw_m3 154 rfl) rfl
theorem q723 : (Jvm.Cond.methodLink "DeadListPool$Tagged" (13 : Nat) ({ cls := "DeadListPool$Snapshot", name := "kind", desc := "()I" } : Jvm.MethodName)) ∈ lw_all := lw_g (lw_at lw_m3 155 rfl) rfl
theorem q743 : (Jvm.Cond.selects "DeadListPool$Tagged" ({ cls := "DeadListPool$Holder", name := "holdsMany", desc := "()I" } : Jvm.MethodName) ({ cls := "DeadListPool$Holder", name := "holdsMany", desc := "()I" } : Jvm.MethodName)) ∈ lw_all := lw_g (lw_at lw_m3 175 rfl) rfl
theorem q754 : (Jvm.Cond.selects "DeadListPool$Tagged" ({ cls := "DeadListPool$Holder", name := "quota", desc := "()I" } : Jvm.MethodName) ({ cls := "DeadListPool$Holder", name := "quota", desc := "()I" } : Jvm.MethodName)) ∈ lw_all := lw_g (lw_at lw_m3 186 rfl) rfl
theorem q776 : (Jvm.Cond.selects "DeadListPool$Tagged" ({ cls := "DeadListPool$Holder", name := "holds", desc := "(I)Z" } : Jvm.MethodName) ({ cls := "DeadListPool$Holder", name := "holds", desc := "(I)Z" } : Jvm.MethodName)) ∈ lw_all := lw_g (lw_at lw_m3 208 rfl) rfl
theorem q830 : (Jvm.Cond.selects "DeadListPool$Tagged" ({ cls := "DeadListPool$Snapshot", name := "holds", desc := "(I)Z" } : Jvm.MethodName) ({ cls := "DeadListPool$Holder", name := "holds", desc := "(I)Z" } : Jvm.MethodName)) ∈ lw_all := lw_g (lw_at lw_m4 22 rfl) rfl
theorem q1013 : (Jvm.Cond.selects "DeadListPool$Tagged" ({ cls := "DeadListPool$Snapshot", name := "tagsAre", desc := "(I)V" } : Jvm.MethodName) ({ cls := "DeadListPool$Tagged", name := "tagsAre", desc := "(I)V" } : Jvm.MethodName)) ∈ lw_all := lw_g (lw_at lw_m4 205 rfl) rfl
theorem q1387 : (Jvm.Cond.selects "DeadListPool$Tagged" ({ cls := "DeadListPool$Holder", name := "tags", desc := "()I" } : Jvm.MethodName) ({ cls := "DeadListPool$Tagged", name := "tags", desc := "()I" } : Jvm.MethodName)) ∈ lw_all := lw_g (lw_at lw_m6 99 rfl) rfl
theorem q1390 : (Jvm.Cond.castable "DeadListPool$Tagged" "DeadListPool$Snapshot") ∈ lw_tbl := lw_at lw_m6 102 rfl
theorem q1394 : (Jvm.Cond.castable "DeadListPool$Tagged" "DeadListPool$Holder") ∈ lw_tbl := lw_at lw_m6 106 rfl
theorem q1405 : (Jvm.Cond.castable "DeadListPool$Tagged" "java/lang/Object") ∈ lw_tbl := lw_at lw_m6 117 rfl
theorem in_X8 : ∀ w ∈ wsX80, w ∈ lw_all := lw_in wsX80 [562, 563, 564, 565, 566, 567, 560, 558] (by decide +kernel) (by decide +kernel)

/-! DeadListPool$Bookmark -/
set_option maxRecDepth 100000
def RX9 : String := "DeadListPool$Bookmark"
def TX9 : u_T := fun k => match k with
  | _ => ("DeadListPool$Bookmark", "made", "I", true)
def tyX9 : Nat → FieldType := fun k => match k with
  | _ => .int
abbrev wsX90 : List Cond := u_ws RX9 TX9 1
theorem nmX9 : ∀ a, a < 1 → ∀ b, b < 1 → a ≠ b → (TX9 a).2.1 ≠ (TX9 b).2.1 := by decide +kernel
theorem tyX9_ok : ∀ k, k < 1 → parseFieldDescriptor (TX9 k).2.2.1 = some (tyX9 k) := by decide +kernel
abbrev cX9_init : ByteArray := prog_2_method_1_code
def yX9_init : MethodName := ⟨RX9, "<init>", "(I)V"⟩
def dkwX9_init_0 : List UInt8 := [42, 183, 0, 1, 42, 27, 181, 0, 7, 177]
abbrev dktX9_init_0 : List UInt8 := dkwX9_init_0 ++ []
theorem dksX9_init_0 : cX9_init.data.toList.drop 0 = dktX9_init_0 := by decide +kernel
theorem dX9_init_0 : decode cX9_init 0 = .ok (.aload_n 0, 1) := dk_42 (dk_at dksX9_init_0 0 rfl rfl)
theorem dX9_init_1 : decode cX9_init 1 = .ok (.invokespecial 1, 3) := dk_183 0 1 (dk_at dksX9_init_0 1 rfl rfl)
theorem dX9_init_4 : decode cX9_init 4 = .ok (.aload_n 0, 1) := dk_42 (dk_at dksX9_init_0 4 rfl rfl)
theorem dX9_init_5 : decode cX9_init 5 = .ok (.iload_n 1, 1) := dk_27 (dk_at dksX9_init_0 5 rfl rfl)
theorem dX9_init_6 : decode cX9_init 6 = .ok (.putfield 7, 3) := dk_181 0 7 (dk_at dksX9_init_0 6 rfl rfl)
theorem dX9_init_9 : decode cX9_init 9 = .ok (.return_, 1) := dk_177 (dk_at dksX9_init_0 9 rfl rfl)
theorem q106 : (Jvm.Cond.initialized "DeadListPool$Bookmark") ∈ lw_all := lw_g (lw_at lw_m1 18 rfl) rfl
theorem q597 : (Jvm.Cond.instantiable "DeadListPool$Bookmark" (1 : Nat)) ∈ lw_all := lw_g (lw_at lw_m3 29 rfl) rfl
theorem q599 : (Jvm.Cond.instanceMethod ({ cls := "DeadListPool$Bookmark", name := "<init>", desc := "(I)V" } : Jvm.MethodName)) ∈ lw_all := lw_g (lw_at lw_m3 31 rfl) rfl
theorem q600 : (Jvm.Cond.code ({ cls := "DeadListPool$Bookmark", name := "<init>", desc := "(I)V" } : Jvm.MethodName) prog_2_method_1_code (2 : Nat) (Option.none : Option Jvm.ClassFile.FieldType)) ∈ lw_all := lw_g (lw_at lw_m3 32 rfl) rfl
theorem q601 : (Jvm.Cond.methodLink "DeadListPool$Bookmark" (1 : Nat) ({ cls := "java/lang/Object", name := "<init>", desc := "()V" } : Jvm.MethodName)) ∈ lw_all := lw_g (lw_at lw_m3 33 rfl) rfl
theorem q602 : (Jvm.Cond.fieldLink "DeadListPool$Bookmark" (7 : Nat) "DeadListPool$Bookmark" "made" "I") ∈ lw_all := lw_g (lw_at lw_m3 34 rfl) rfl
theorem q604 : (Jvm.Cond.laysFinal "DeadListPool$Bookmark" "DeadListPool$Bookmark" "made" "I") ∈ lw_all := lw_g (lw_at lw_m3 36 rfl) rfl
theorem q605 : (Jvm.Cond.soleField "DeadListPool$Bookmark" "made") ∈ lw_all := lw_g (lw_at lw_m3 37 rfl) rfl
theorem q606 : (Jvm.Cond.superclass "DeadListPool$Bookmark" "java/lang/Object") ∈ lw_all := lw_g (lw_at lw_m3 38 rfl) rfl
theorem q1407 : (Jvm.Cond.castable "DeadListPool$Bookmark" "java/lang/Object") ∈ lw_tbl := lw_at lw_m6 119 rfl
theorem in_X9 : ∀ w ∈ wsX90, w ∈ lw_all := lw_in wsX90 [604] (by decide +kernel) (by decide +kernel)

theorem q88 : (Jvm.Cond.initialized "DeadListPoolLaw") ∈ lw_all := lw_g (lw_at lw_m1 0 rfl) rfl
set_option maxRecDepth 100000
theorem q109 : (Jvm.Cond.classLink "DeadListPoolLaw" (7 : Nat) "DeadListPool") ∈ lw_all := lw_g (lw_at lw_m1 21 rfl) rfl
theorem q111 : (Jvm.Cond.methodLink "DeadListPoolLaw" (9 : Nat) ({ cls := "DeadListPool", name := "<init>", desc := "()V" } : Jvm.MethodName)) ∈ lw_all := lw_g (lw_at lw_m1 23 rfl) rfl
theorem q222 : (Jvm.Cond.methodLink "DeadListPoolLaw" (13 : Nat) ({ cls := "DeadListPool", name := "files", desc := "(I)I" } : Jvm.MethodName)) ∈ lw_all := lw_g (lw_at lw_m1 134 rfl) rfl
theorem q316 : (Jvm.Cond.methodLink "DeadListPoolLaw" (18 : Nat) ({ cls := "DeadListPool", name := "write", desc := "(III)I" } : Jvm.MethodName)) ∈ lw_all := lw_g (lw_at lw_m1 228 rfl) rfl
theorem q516 : (Jvm.Cond.methodLink "DeadListPoolLaw" (23 : Nat) ({ cls := "DeadListPool", name := "erase", desc := "(II)I" } : Jvm.MethodName)) ∈ lw_all := lw_g (lw_at lw_m2 188 rfl) rfl
theorem q524 : (Jvm.Cond.methodLink "DeadListPoolLaw" (28 : Nat) ({ cls := "DeadListPool", name := "snap", desc := "(II)I" } : Jvm.MethodName)) ∈ lw_all := lw_g (lw_at lw_m2 196 rfl) rfl
theorem q579 : (Jvm.Cond.methodLink "DeadListPoolLaw" (32 : Nat) ({ cls := "DeadListPool", name := "tag", desc := "(II)I" } : Jvm.MethodName)) ∈ lw_all := lw_g (lw_at lw_m3 11 rfl) rfl
theorem q592 : (Jvm.Cond.methodLink "DeadListPoolLaw" (36 : Nat) ({ cls := "DeadListPool", name := "mark", desc := "(I)I" } : Jvm.MethodName)) ∈ lw_all := lw_g (lw_at lw_m3 24 rfl) rfl
theorem q607 : (Jvm.Cond.methodLink "DeadListPoolLaw" (44 : Nat) ({ cls := "DeadListPool", name := "fork", desc := "(I)I" } : Jvm.MethodName)) ∈ lw_all := lw_g (lw_at lw_m3 39 rfl) rfl
theorem q619 : (Jvm.Cond.methodLink "DeadListPoolLaw" (40 : Nat) ({ cls := "DeadListPool", name := "remove", desc := "(I)I" } : Jvm.MethodName)) ∈ lw_all := lw_g (lw_at lw_m3 51 rfl) rfl
theorem q676 : (Jvm.Cond.methodLink "DeadListPoolLaw" (48 : Nat) ({ cls := "DeadListPool", name := "promote", desc := "(I)I" } : Jvm.MethodName)) ∈ lw_all := lw_g (lw_at lw_m3 108 rfl) rfl
theorem q687 : (Jvm.Cond.methodLink "DeadListPoolLaw" (52 : Nat) ({ cls := "DeadListPool", name := "rollback", desc := "(I)I" } : Jvm.MethodName)) ∈ lw_all := lw_g (lw_at lw_m3 119 rfl) rfl
theorem q695 : (Jvm.Cond.methodLink "DeadListPoolLaw" (56 : Nat) ({ cls := "DeadListPool", name := "tick", desc := "()I" } : Jvm.MethodName)) ∈ lw_all := lw_g (lw_at lw_m3 127 rfl) rfl
theorem q700 : (Jvm.Cond.methodLink "DeadListPoolLaw" (61 : Nat) ({ cls := "DeadListPool", name := "told", desc := "(II)I" } : Jvm.MethodName)) ∈ lw_all := lw_g (lw_at lw_m3 132 rfl) rfl
theorem q756 : (Jvm.Cond.methodLink "DeadListPoolLaw" (65 : Nat) ({ cls := "DeadListPool", name := "slot", desc := "(II)I" } : Jvm.MethodName)) ∈ lw_all := lw_g (lw_at lw_m3 188 rfl) rfl
theorem q760 : (Jvm.Cond.methodLink "DeadListPoolLaw" (69 : Nat) ({ cls := "DeadListPool", name := "block", desc := "(II)I" } : Jvm.MethodName)) ∈ lw_all := lw_g (lw_at lw_m3 192 rfl) rfl
theorem q778 : (Jvm.Cond.methodLink "DeadListPoolLaw" (73 : Nat) ({ cls := "DeadListPool", name := "taken", desc := "(II)I" } : Jvm.MethodName)) ∈ lw_all := lw_g (lw_at lw_m3 210 rfl) rfl
theorem q786 : (Jvm.Cond.methodLink "DeadListPoolLaw" (77 : Nat) ({ cls := "DeadListPool", name := "dead", desc := "(II)I" } : Jvm.MethodName)) ∈ lw_all := lw_g (lw_at lw_m3 218 rfl) rfl
theorem q793 : (Jvm.Cond.methodLink "DeadListPoolLaw" (81 : Nat) ({ cls := "DeadListPool", name := "deadList", desc := "(II)J" } : Jvm.MethodName)) ∈ lw_all := lw_g (lw_at lw_m3 225 rfl) rfl
theorem q802 : (Jvm.Cond.methodLink "DeadListPoolLaw" (86 : Nat) ({ cls := "DeadListPool", name := "space", desc := "(I)J" } : Jvm.MethodName)) ∈ lw_all := lw_g (lw_at lw_m3 234 rfl) rfl
theorem q806 : (Jvm.Cond.methodLink "DeadListPoolLaw" (95 : Nat) ({ cls := "DeadListPool", name := "range", desc := "(II)J" } : Jvm.MethodName)) ∈ lw_all := lw_g (lw_at lw_m3 238 rfl) rfl
theorem q839 : (Jvm.Cond.methodLink "DeadListPoolLaw" (91 : Nat) ({ cls := "DeadListPool", name := "alone", desc := "(I)J" } : Jvm.MethodName)) ∈ lw_all := lw_g (lw_at lw_m4 31 rfl) rfl
theorem q847 : (Jvm.Cond.methodLink "DeadListPoolLaw" (99 : Nat) ({ cls := "DeadListPool", name := "since", desc := "(II)J" } : Jvm.MethodName)) ∈ lw_all := lw_g (lw_at lw_m4 39 rfl) rfl
theorem q851 : (Jvm.Cond.methodLink "DeadListPoolLaw" (103 : Nat) ({ cls := "DeadListPool", name := "common", desc := "(II)J" } : Jvm.MethodName)) ∈ lw_all := lw_g (lw_at lw_m4 43 rfl) rfl
theorem q855 : (Jvm.Cond.methodLink "DeadListPoolLaw" (107 : Nat) ({ cls := "DeadListPool", name := "most", desc := "(II)J" } : Jvm.MethodName)) ∈ lw_all := lw_g (lw_at lw_m4 47 rfl) rfl
theorem q878 : (Jvm.Cond.methodLink "DeadListPoolLaw" (113 : Nat) ({ cls := "DeadListPool", name := "fewest", desc := "(IJ)I" } : Jvm.MethodName)) ∈ lw_all := lw_g (lw_at lw_m4 70 rfl) rfl
theorem q886 : (Jvm.Cond.methodLink "DeadListPoolLaw" (118 : Nat) ({ cls := "DeadListPool", name := "expire", desc := "(III)I" } : Jvm.MethodName)) ∈ lw_all := lw_g (lw_at lw_m4 78 rfl) rfl
theorem q896 : (Jvm.Cond.methodLink "DeadListPoolLaw" (122 : Nat) ({ cls := "DeadListPool", name := "sheet", desc := "(III)I" } : Jvm.MethodName)) ∈ lw_all := lw_g (lw_at lw_m4 88 rfl) rfl
theorem q922 : (Jvm.Cond.methodLink "DeadListPoolLaw" (126 : Nat) ({ cls := "DeadListPool", name := "cell", desc := "(IIJ)I" } : Jvm.MethodName)) ∈ lw_all := lw_g (lw_at lw_m4 114 rfl) rfl
theorem q931 : (Jvm.Cond.methodLink "DeadListPoolLaw" (131 : Nat) ({ cls := "DeadListPool", name := "item", desc := "(II)J" } : Jvm.MethodName)) ∈ lw_all := lw_g (lw_at lw_m4 123 rfl) rfl
theorem q941 : (Jvm.Cond.methodLink "DeadListPoolLaw" (135 : Nat) ({ cls := "DeadListPool", name := "differ", desc := "(III)I" } : Jvm.MethodName)) ∈ lw_all := lw_g (lw_at lw_m4 133 rfl) rfl
theorem q953 : (Jvm.Cond.methodLink "DeadListPoolLaw" (139 : Nat) ({ cls := "DeadListPool", name := "apply", desc := "(III)I" } : Jvm.MethodName)) ∈ lw_all := lw_g (lw_at lw_m4 145 rfl) rfl
theorem q961 : (Jvm.Cond.methodLink "DeadListPoolLaw" (143 : Nat) ({ cls := "DeadListPool", name := "drawn", desc := "(III)J" } : Jvm.MethodName)) ∈ lw_all := lw_g (lw_at lw_m4 153 rfl) rfl
theorem q1015 : (Jvm.Cond.methodLink "DeadListPoolLaw" (148 : Nat) ({ cls := "DeadListPool", name := "image", desc := "()I" } : Jvm.MethodName)) ∈ lw_all := lw_g (lw_at lw_m4 207 rfl) rfl
theorem q1019 : (Jvm.Cond.methodLink "DeadListPoolLaw" (152 : Nat) ({ cls := "DeadListPool", name := "back", desc := "()I" } : Jvm.MethodName)) ∈ lw_all := lw_g (lw_at lw_m4 211 rfl) rfl
theorem q1023 : (Jvm.Cond.methodLink "DeadListPoolLaw" (156 : Nat) ({ cls := "DeadListPool", name := "count", desc := "(I)I" } : Jvm.MethodName)) ∈ lw_all := lw_g (lw_at lw_m4 215 rfl) rfl
theorem q1027 : (Jvm.Cond.classLink "DeadListPoolLaw" (10 : Nat) "DeadListPoolModel") ∈ lw_all := lw_g (lw_at lw_m4 219 rfl) rfl
theorem q1029 : (Jvm.Cond.methodLink "DeadListPoolLaw" (12 : Nat) ({ cls := "DeadListPoolModel", name := "<init>", desc := "()V" } : Jvm.MethodName)) ∈ lw_all := lw_g (lw_at lw_m4 221 rfl) rfl
theorem q1072 : (Jvm.Cond.methodLink "DeadListPoolLaw" (17 : Nat) ({ cls := "DeadListPoolModel", name := "files", desc := "(I)I" } : Jvm.MethodName)) ∈ lw_all := lw_g (lw_at lw_m5 24 rfl) rfl
theorem q1088 : (Jvm.Cond.methodLink "DeadListPoolLaw" (22 : Nat) ({ cls := "DeadListPoolModel", name := "write", desc := "(III)I" } : Jvm.MethodName)) ∈ lw_all := lw_g (lw_at lw_m5 40 rfl) rfl
theorem q1143 : (Jvm.Cond.methodLink "DeadListPoolLaw" (27 : Nat) ({ cls := "DeadListPoolModel", name := "erase", desc := "(II)I" } : Jvm.MethodName)) ∈ lw_all := lw_g (lw_at lw_m5 95 rfl) rfl
theorem q1151 : (Jvm.Cond.methodLink "DeadListPoolLaw" (31 : Nat) ({ cls := "DeadListPoolModel", name := "snap", desc := "(II)I" } : Jvm.MethodName)) ∈ lw_all := lw_g (lw_at lw_m5 103 rfl) rfl
theorem q1159 : (Jvm.Cond.methodLink "DeadListPoolLaw" (35 : Nat) ({ cls := "DeadListPoolModel", name := "tag", desc := "(II)I" } : Jvm.MethodName)) ∈ lw_all := lw_g (lw_at lw_m5 111 rfl) rfl
theorem q1163 : (Jvm.Cond.methodLink "DeadListPoolLaw" (39 : Nat) ({ cls := "DeadListPoolModel", name := "mark", desc := "(I)I" } : Jvm.MethodName)) ∈ lw_all := lw_g (lw_at lw_m5 115 rfl) rfl
theorem q1167 : (Jvm.Cond.methodLink "DeadListPoolLaw" (43 : Nat) ({ cls := "DeadListPoolModel", name := "remove", desc := "(I)I" } : Jvm.MethodName)) ∈ lw_all := lw_g (lw_at lw_m5 119 rfl) rfl
theorem q1183 : (Jvm.Cond.methodLink "DeadListPoolLaw" (47 : Nat) ({ cls := "DeadListPoolModel", name := "fork", desc := "(I)I" } : Jvm.MethodName)) ∈ lw_all := lw_g (lw_at lw_m5 135 rfl) rfl
theorem q1187 : (Jvm.Cond.methodLink "DeadListPoolLaw" (51 : Nat) ({ cls := "DeadListPoolModel", name := "promote", desc := "(I)I" } : Jvm.MethodName)) ∈ lw_all := lw_g (lw_at lw_m5 139 rfl) rfl
theorem q1195 : (Jvm.Cond.methodLink "DeadListPoolLaw" (55 : Nat) ({ cls := "DeadListPoolModel", name := "rollback", desc := "(I)I" } : Jvm.MethodName)) ∈ lw_all := lw_g (lw_at lw_m5 147 rfl) rfl
theorem q1199 : (Jvm.Cond.methodLink "DeadListPoolLaw" (60 : Nat) ({ cls := "DeadListPoolModel", name := "tick", desc := "()I" } : Jvm.MethodName)) ∈ lw_all := lw_g (lw_at lw_m5 151 rfl) rfl
theorem q1204 : (Jvm.Cond.methodLink "DeadListPoolLaw" (64 : Nat) ({ cls := "DeadListPoolModel", name := "told", desc := "(II)I" } : Jvm.MethodName)) ∈ lw_all := lw_g (lw_at lw_m5 156 rfl) rfl
theorem q1212 : (Jvm.Cond.methodLink "DeadListPoolLaw" (68 : Nat) ({ cls := "DeadListPoolModel", name := "slot", desc := "(II)I" } : Jvm.MethodName)) ∈ lw_all := lw_g (lw_at lw_m5 164 rfl) rfl
theorem q1220 : (Jvm.Cond.methodLink "DeadListPoolLaw" (72 : Nat) ({ cls := "DeadListPoolModel", name := "block", desc := "(II)I" } : Jvm.MethodName)) ∈ lw_all := lw_g (lw_at lw_m5 172 rfl) rfl
theorem q1224 : (Jvm.Cond.methodLink "DeadListPoolLaw" (76 : Nat) ({ cls := "DeadListPoolModel", name := "taken", desc := "(II)I" } : Jvm.MethodName)) ∈ lw_all := lw_g (lw_at lw_m5 176 rfl) rfl
theorem q1228 : (Jvm.Cond.methodLink "DeadListPoolLaw" (80 : Nat) ({ cls := "DeadListPoolModel", name := "dead", desc := "(II)I" } : Jvm.MethodName)) ∈ lw_all := lw_g (lw_at lw_m5 180 rfl) rfl
theorem q1240 : (Jvm.Cond.methodLink "DeadListPoolLaw" (85 : Nat) ({ cls := "DeadListPoolModel", name := "deadList", desc := "(II)J" } : Jvm.MethodName)) ∈ lw_all := lw_g (lw_at lw_m5 192 rfl) rfl
theorem q1249 : (Jvm.Cond.methodLink "DeadListPoolLaw" (90 : Nat) ({ cls := "DeadListPoolModel", name := "space", desc := "(I)J" } : Jvm.MethodName)) ∈ lw_all := lw_g (lw_at lw_m5 201 rfl) rfl
theorem q1253 : (Jvm.Cond.methodLink "DeadListPoolLaw" (94 : Nat) ({ cls := "DeadListPoolModel", name := "alone", desc := "(I)J" } : Jvm.MethodName)) ∈ lw_all := lw_g (lw_at lw_m5 205 rfl) rfl
theorem q1261 : (Jvm.Cond.methodLink "DeadListPoolLaw" (98 : Nat) ({ cls := "DeadListPoolModel", name := "range", desc := "(II)J" } : Jvm.MethodName)) ∈ lw_all := lw_g (lw_at lw_m5 213 rfl) rfl
theorem q1265 : (Jvm.Cond.methodLink "DeadListPoolLaw" (102 : Nat) ({ cls := "DeadListPoolModel", name := "since", desc := "(II)J" } : Jvm.MethodName)) ∈ lw_all := lw_g (lw_at lw_m5 217 rfl) rfl
theorem q1269 : (Jvm.Cond.methodLink "DeadListPoolLaw" (106 : Nat) ({ cls := "DeadListPoolModel", name := "common", desc := "(II)J" } : Jvm.MethodName)) ∈ lw_all := lw_g (lw_at lw_m5 221 rfl) rfl
theorem q1273 : (Jvm.Cond.methodLink "DeadListPoolLaw" (110 : Nat) ({ cls := "DeadListPoolModel", name := "most", desc := "(II)J" } : Jvm.MethodName)) ∈ lw_all := lw_g (lw_at lw_m5 225 rfl) rfl
theorem q1297 : (Jvm.Cond.methodLink "DeadListPoolLaw" (117 : Nat) ({ cls := "DeadListPoolModel", name := "fewest", desc := "(IJ)I" } : Jvm.MethodName)) ∈ lw_all := lw_g (lw_at lw_m6 9 rfl) rfl
theorem q1301 : (Jvm.Cond.methodLink "DeadListPoolLaw" (121 : Nat) ({ cls := "DeadListPoolModel", name := "expire", desc := "(III)I" } : Jvm.MethodName)) ∈ lw_all := lw_g (lw_at lw_m6 13 rfl) rfl
theorem q1305 : (Jvm.Cond.methodLink "DeadListPoolLaw" (125 : Nat) ({ cls := "DeadListPoolModel", name := "sheet", desc := "(III)I" } : Jvm.MethodName)) ∈ lw_all := lw_g (lw_at lw_m6 17 rfl) rfl
theorem q1316 : (Jvm.Cond.methodLink "DeadListPoolLaw" (130 : Nat) ({ cls := "DeadListPoolModel", name := "cell", desc := "(IIJ)I" } : Jvm.MethodName)) ∈ lw_all := lw_g (lw_at lw_m6 28 rfl) rfl
theorem q1320 : (Jvm.Cond.methodLink "DeadListPoolLaw" (134 : Nat) ({ cls := "DeadListPoolModel", name := "item", desc := "(II)J" } : Jvm.MethodName)) ∈ lw_all := lw_g (lw_at lw_m6 32 rfl) rfl
theorem q1324 : (Jvm.Cond.methodLink "DeadListPoolLaw" (138 : Nat) ({ cls := "DeadListPoolModel", name := "differ", desc := "(III)I" } : Jvm.MethodName)) ∈ lw_all := lw_g (lw_at lw_m6 36 rfl) rfl
theorem q1328 : (Jvm.Cond.methodLink "DeadListPoolLaw" (142 : Nat) ({ cls := "DeadListPoolModel", name := "apply", desc := "(III)I" } : Jvm.MethodName)) ∈ lw_all := lw_g (lw_at lw_m6 40 rfl) rfl
theorem q1338 : (Jvm.Cond.methodLink "DeadListPoolLaw" (147 : Nat) ({ cls := "DeadListPoolModel", name := "drawn", desc := "(III)J" } : Jvm.MethodName)) ∈ lw_all := lw_g (lw_at lw_m6 50 rfl) rfl
theorem q1367 : (Jvm.Cond.methodLink "DeadListPoolLaw" (151 : Nat) ({ cls := "DeadListPoolModel", name := "image", desc := "()I" } : Jvm.MethodName)) ∈ lw_all := lw_g (lw_at lw_m6 79 rfl) rfl
theorem q1371 : (Jvm.Cond.methodLink "DeadListPoolLaw" (155 : Nat) ({ cls := "DeadListPoolModel", name := "back", desc := "()I" } : Jvm.MethodName)) ∈ lw_all := lw_g (lw_at lw_m6 83 rfl) rfl
theorem q1375 : (Jvm.Cond.methodLink "DeadListPoolLaw" (159 : Nat) ({ cls := "DeadListPoolModel", name := "count", desc := "(I)I" } : Jvm.MethodName)) ∈ lw_all := lw_g (lw_at lw_m6 87 rfl) rfl
theorem q1379 : (Jvm.Cond.constantLong "DeadListPoolLaw" (111 : Nat) (4294967295 : Int64)) ∈ lw_all := lw_g (lw_at lw_m6 91 rfl) rfl

theorem q1417 : (Jvm.Cond.castable "[B" "java/lang/Object") ∈ lw_tbl := lw_at lw_m6 129 rfl
set_option maxRecDepth 100000

theorem q1414 : (Jvm.Cond.castable "[I" "java/lang/Object") ∈ lw_tbl := lw_at lw_m6 126 rfl
set_option maxRecDepth 100000

theorem q1418 : (Jvm.Cond.castable "[J" "java/lang/Object") ∈ lw_tbl := lw_at lw_m6 130 rfl
set_option maxRecDepth 100000

theorem q1416 : (Jvm.Cond.castable "[LDeadListPool$Folder;" "java/lang/Object") ∈ lw_tbl := lw_at lw_m6 128 rfl
set_option maxRecDepth 100000

theorem q1413 : (Jvm.Cond.castable "[LDeadListPool$Sheet;" "java/lang/Object") ∈ lw_tbl := lw_at lw_m6 125 rfl
set_option maxRecDepth 100000

theorem q1412 : (Jvm.Cond.castable "[LDeadListPool$Snapshot;" "java/lang/Object") ∈ lw_tbl := lw_at lw_m6 124 rfl
set_option maxRecDepth 100000

theorem q1411 : (Jvm.Cond.castable "[Ljava/lang/Object;" "java/lang/Object") ∈ lw_tbl := lw_at lw_m6 123 rfl
set_option maxRecDepth 100000

theorem q1415 : (Jvm.Cond.castable "[[I" "java/lang/Object") ∈ lw_tbl := lw_at lw_m6 127 rfl
set_option maxRecDepth 100000

theorem q118 : (Jvm.Cond.arrayOver (Jvm.ClassFile.FieldType.object "java/lang/Object")) ∈ lw_tbl := lw_at lw_m1 30 rfl
set_option maxRecDepth 100000
theorem q120 : (Jvm.Cond.arrayOver (Jvm.ClassFile.FieldType.object "DeadListPool$Snapshot")) ∈ lw_tbl := lw_at lw_m1 32 rfl
theorem q122 : (Jvm.Cond.arrayOver (Jvm.ClassFile.FieldType.object "DeadListPool$Sheet")) ∈ lw_tbl := lw_at lw_m1 34 rfl
theorem q132 : (Jvm.Cond.arrayClass Jvm.ClassFile.FieldType.int) ∈ lw_all := lw_g (lw_at lw_m1 44 rfl) rfl
theorem q141 : (Jvm.Cond.arrayOver (Jvm.ClassFile.FieldType.array Jvm.ClassFile.FieldType.int)) ∈ lw_tbl := lw_at lw_m1 53 rfl
theorem q144 : (Jvm.Cond.arrayOver (Jvm.ClassFile.FieldType.object "DeadListPool$Folder")) ∈ lw_tbl := lw_at lw_m1 56 rfl
theorem q406 : (Jvm.Cond.arrayClass Jvm.ClassFile.FieldType.byte) ∈ lw_all := lw_g (lw_at lw_m2 78 rfl) rfl
theorem q921 : (Jvm.Cond.arrayClass Jvm.ClassFile.FieldType.long) ∈ lw_all := lw_g (lw_at lw_m4 113 rfl) rfl

