/-! java/lang/Throwable -/
set_option maxRecDepth 100000
def RJ0 : String := "java/lang/Throwable"
def TJ0 : u_T := fun k => match k with
  | 0 => ("java/lang/Throwable", "cause", "Ljava/lang/Throwable;", false)
  | 1 => ("java/lang/Throwable", "stackTrace", "[Ljava/lang/StackTraceElement;", false)
  | 2 => ("java/lang/Throwable", "suppressedExceptions", "Ljava/util/List;", false)
  | 3 => ("java/lang/Throwable", "detailMessage", "Ljava/lang/String;", false)
  | _ => ("java/lang/Throwable", "backtrace", "Ljava/lang/Object;", false)
def tyJ0 : Nat → FieldType := fun k => match k with
  | 0 => .object "java/lang/Throwable"
  | 1 => .array (.object "java/lang/StackTraceElement")
  | 2 => .object "java/util/List"
  | 3 => .object "java/lang/String"
  | _ => .object "java/lang/Object"
abbrev wsJ00 : List Cond := u_ws RJ0 TJ0 5
theorem nmJ0 : ∀ a, a < 5 → ∀ b, b < 5 → a ≠ b → (TJ0 a).2.1 ≠ (TJ0 b).2.1 := by decide +kernel
theorem tyJ0_ok : ∀ k, k < 5 → parseFieldDescriptor (TJ0 k).2.2.1 = some (tyJ0 k) := by decide +kernel
abbrev cJ0_init : ByteArray := prog_31_method_1_code
def yJ0_init : MethodName := ⟨RJ0, "<init>", "()V"⟩
def dkwJ0_init_1 : List UInt8 := [182, 0, 27, 87, 177]
abbrev dktJ0_init_1 : List UInt8 := dkwJ0_init_1 ++ []
def dkwJ0_init_0 : List UInt8 := [42, 183, 0, 1, 42, 42, 181, 0, 7, 42, 178, 0, 13, 181, 0, 17, 42, 178, 0, 20, 181, 0, 24, 42]
abbrev dktJ0_init_0 : List UInt8 := dkwJ0_init_0 ++ dktJ0_init_1
theorem dksJ0_init_0 : cJ0_init.data.toList.drop 0 = dktJ0_init_0 := by decide +kernel
theorem dksJ0_init_1 : cJ0_init.data.toList.drop 24 = dktJ0_init_1 := dk_seg dksJ0_init_0 24 rfl rfl
theorem dJ0_init_0 : decode cJ0_init 0 = .ok (.aload_n 0, 1) := dk_42 (dk_at dksJ0_init_0 0 rfl rfl)
theorem dJ0_init_1 : decode cJ0_init 1 = .ok (.invokespecial 1, 3) := dk_183 0 1 (dk_at dksJ0_init_0 1 rfl rfl)
theorem dJ0_init_4 : decode cJ0_init 4 = .ok (.aload_n 0, 1) := dk_42 (dk_at dksJ0_init_0 4 rfl rfl)
theorem dJ0_init_5 : decode cJ0_init 5 = .ok (.aload_n 0, 1) := dk_42 (dk_at dksJ0_init_0 5 rfl rfl)
theorem dJ0_init_6 : decode cJ0_init 6 = .ok (.putfield 7, 3) := dk_181 0 7 (dk_at dksJ0_init_0 6 rfl rfl)
theorem dJ0_init_9 : decode cJ0_init 9 = .ok (.aload_n 0, 1) := dk_42 (dk_at dksJ0_init_0 9 rfl rfl)
theorem dJ0_init_10 : decode cJ0_init 10 = .ok (.getstatic 13, 3) := dk_178 0 13 (dk_at dksJ0_init_0 10 rfl rfl)
theorem dJ0_init_13 : decode cJ0_init 13 = .ok (.putfield 17, 3) := dk_181 0 17 (dk_at dksJ0_init_0 13 rfl rfl)
theorem dJ0_init_16 : decode cJ0_init 16 = .ok (.aload_n 0, 1) := dk_42 (dk_at dksJ0_init_0 16 rfl rfl)
theorem dJ0_init_17 : decode cJ0_init 17 = .ok (.getstatic 20, 3) := dk_178 0 20 (dk_at dksJ0_init_0 17 rfl rfl)
theorem dJ0_init_20 : decode cJ0_init 20 = .ok (.putfield 24, 3) := dk_181 0 24 (dk_at dksJ0_init_0 20 rfl rfl)
theorem dJ0_init_23 : decode cJ0_init 23 = .ok (.aload_n 0, 1) := dk_42 (dk_at dksJ0_init_0 23 rfl rfl)
theorem dJ0_init_24 : decode cJ0_init 24 = .ok (.invokevirtual 27, 3) := dk_182 0 27 (dk_at dksJ0_init_1 0 rfl rfl)
theorem dJ0_init_27 : decode cJ0_init 27 = .ok (.pop, 1) := dk_87 (dk_at dksJ0_init_1 3 rfl rfl)
theorem dJ0_init_28 : decode cJ0_init 28 = .ok (.return_, 1) := dk_177 (dk_at dksJ0_init_1 4 rfl rfl)
abbrev cJ0_init_2 : ByteArray := prog_31_method_2_code
def yJ0_init_2 : MethodName := ⟨RJ0, "<init>", "(Ljava/lang/String;)V"⟩
def dkwJ0_init_2_1 : List UInt8 := [182, 0, 27, 87, 42, 43, 181, 0, 31, 177]
abbrev dktJ0_init_2_1 : List UInt8 := dkwJ0_init_2_1 ++ []
def dkwJ0_init_2_0 : List UInt8 := [42, 183, 0, 1, 42, 42, 181, 0, 7, 42, 178, 0, 13, 181, 0, 17, 42, 178, 0, 20, 181, 0, 24, 42]
abbrev dktJ0_init_2_0 : List UInt8 := dkwJ0_init_2_0 ++ dktJ0_init_2_1
theorem dksJ0_init_2_0 : cJ0_init_2.data.toList.drop 0 = dktJ0_init_2_0 := by decide +kernel
theorem dksJ0_init_2_1 : cJ0_init_2.data.toList.drop 24 = dktJ0_init_2_1 := dk_seg dksJ0_init_2_0 24 rfl rfl
theorem dJ0_init_2_0 : decode cJ0_init_2 0 = .ok (.aload_n 0, 1) := dk_42 (dk_at dksJ0_init_2_0 0 rfl rfl)
theorem dJ0_init_2_1 : decode cJ0_init_2 1 = .ok (.invokespecial 1, 3) := dk_183 0 1 (dk_at dksJ0_init_2_0 1 rfl rfl)
theorem dJ0_init_2_4 : decode cJ0_init_2 4 = .ok (.aload_n 0, 1) := dk_42 (dk_at dksJ0_init_2_0 4 rfl rfl)
theorem dJ0_init_2_5 : decode cJ0_init_2 5 = .ok (.aload_n 0, 1) := dk_42 (dk_at dksJ0_init_2_0 5 rfl rfl)
theorem dJ0_init_2_6 : decode cJ0_init_2 6 = .ok (.putfield 7, 3) := dk_181 0 7 (dk_at dksJ0_init_2_0 6 rfl rfl)
theorem dJ0_init_2_9 : decode cJ0_init_2 9 = .ok (.aload_n 0, 1) := dk_42 (dk_at dksJ0_init_2_0 9 rfl rfl)
theorem dJ0_init_2_10 : decode cJ0_init_2 10 = .ok (.getstatic 13, 3) := dk_178 0 13 (dk_at dksJ0_init_2_0 10 rfl rfl)
theorem dJ0_init_2_13 : decode cJ0_init_2 13 = .ok (.putfield 17, 3) := dk_181 0 17 (dk_at dksJ0_init_2_0 13 rfl rfl)
theorem dJ0_init_2_16 : decode cJ0_init_2 16 = .ok (.aload_n 0, 1) := dk_42 (dk_at dksJ0_init_2_0 16 rfl rfl)
theorem dJ0_init_2_17 : decode cJ0_init_2 17 = .ok (.getstatic 20, 3) := dk_178 0 20 (dk_at dksJ0_init_2_0 17 rfl rfl)
theorem dJ0_init_2_20 : decode cJ0_init_2 20 = .ok (.putfield 24, 3) := dk_181 0 24 (dk_at dksJ0_init_2_0 20 rfl rfl)
theorem dJ0_init_2_23 : decode cJ0_init_2 23 = .ok (.aload_n 0, 1) := dk_42 (dk_at dksJ0_init_2_0 23 rfl rfl)
theorem dJ0_init_2_24 : decode cJ0_init_2 24 = .ok (.invokevirtual 27, 3) := dk_182 0 27 (dk_at dksJ0_init_2_1 0 rfl rfl)
theorem dJ0_init_2_27 : decode cJ0_init_2 27 = .ok (.pop, 1) := dk_87 (dk_at dksJ0_init_2_1 3 rfl rfl)
theorem dJ0_init_2_28 : decode cJ0_init_2 28 = .ok (.aload_n 0, 1) := dk_42 (dk_at dksJ0_init_2_1 4 rfl rfl)
theorem dJ0_init_2_29 : decode cJ0_init_2 29 = .ok (.aload_n 1, 1) := dk_43 (dk_at dksJ0_init_2_1 5 rfl rfl)
theorem dJ0_init_2_30 : decode cJ0_init_2 30 = .ok (.putfield 31, 3) := dk_181 0 31 (dk_at dksJ0_init_2_1 6 rfl rfl)
theorem dJ0_init_2_33 : decode cJ0_init_2 33 = .ok (.return_, 1) := dk_177 (dk_at dksJ0_init_2_1 9 rfl rfl)
theorem q266 : (Jvm.Cond.initialized "java/lang/Throwable") ∈ lw_all := lw_g (lw_at lw_m1 2 rfl) rfl
theorem q312 : (Jvm.Cond.declares ({ cls := "java/lang/Throwable", name := "<init>", desc := "()V" } : Jvm.MethodName)) ∈ lw_tbl := lw_at lw_m1 48 rfl
theorem q313 : (Jvm.Cond.declares ({ cls := "java/lang/Throwable", name := "<init>", desc := "(Ljava/lang/String;)V" } : Jvm.MethodName)) ∈ lw_tbl := lw_at lw_m1 49 rfl
theorem q317 : (Jvm.Cond.lays "java/lang/Throwable" "java/lang/Throwable" "cause" "Ljava/lang/Throwable;") ∈ lw_all := lw_g (lw_at lw_m1 53 rfl) rfl
theorem q319 : (Jvm.Cond.lays "java/lang/Throwable" "java/lang/Throwable" "stackTrace" "[Ljava/lang/StackTraceElement;") ∈ lw_all := lw_g (lw_at lw_m1 55 rfl) rfl
theorem q321 : (Jvm.Cond.lays "java/lang/Throwable" "java/lang/Throwable" "suppressedExceptions" "Ljava/util/List;") ∈ lw_all := lw_g (lw_at lw_m1 57 rfl) rfl
theorem q323 : (Jvm.Cond.lays "java/lang/Throwable" "java/lang/Throwable" "detailMessage" "Ljava/lang/String;") ∈ lw_all := lw_g (lw_at lw_m1 59 rfl) rfl
theorem q325 : (Jvm.Cond.lays "java/lang/Throwable" "java/lang/Throwable" "backtrace" "Ljava/lang/Object;") ∈ lw_all := lw_g (lw_at lw_m1 61 rfl) rfl
theorem q326 : (Jvm.Cond.fieldLink "java/lang/Throwable" (198 : Nat) "java/lang/Throwable" "backtrace" "Ljava/lang/Object;") ∈ lw_all := lw_g (lw_at lw_m1 62 rfl) rfl
theorem q327 : (Jvm.Cond.superclass "java/lang/Throwable" "java/lang/Object") ∈ lw_all := lw_g (lw_at lw_m1 63 rfl) rfl
theorem q328 : (Jvm.Cond.instanceMethod ({ cls := "java/lang/Throwable", name := "<init>", desc := "()V" } : Jvm.MethodName)) ∈ lw_all := lw_g (lw_at lw_m1 64 rfl) rfl
theorem q329 : (Jvm.Cond.code ({ cls := "java/lang/Throwable", name := "<init>", desc := "()V" } : Jvm.MethodName) prog_31_method_1_code (1 : Nat) (Option.none : Option Jvm.ClassFile.FieldType)) ∈ lw_all := lw_g (lw_at lw_m1 65 rfl) rfl
theorem q330 : (Jvm.Cond.methodLink "java/lang/Throwable" (1 : Nat) ({ cls := "java/lang/Object", name := "<init>", desc := "()V" } : Jvm.MethodName)) ∈ lw_all := lw_g (lw_at lw_m1 66 rfl) rfl
theorem q331 : (Jvm.Cond.fieldLink "java/lang/Throwable" (13 : Nat) "java/lang/Throwable" "UNASSIGNED_STACK" "[Ljava/lang/StackTraceElement;") ∈ lw_all := lw_g (lw_at lw_m1 67 rfl) rfl
theorem q332 : (Jvm.Cond.laysStatic "java/lang/Throwable" "UNASSIGNED_STACK" "[Ljava/lang/StackTraceElement;") ∈ lw_tbl := lw_at lw_m1 68 rfl
theorem q333 : (Jvm.Cond.fieldLink "java/lang/Throwable" (20 : Nat) "java/lang/Throwable" "SUPPRESSED_SENTINEL" "Ljava/util/List;") ∈ lw_all := lw_g (lw_at lw_m1 69 rfl) rfl
theorem q334 : (Jvm.Cond.laysStatic "java/lang/Throwable" "SUPPRESSED_SENTINEL" "Ljava/util/List;") ∈ lw_tbl := lw_at lw_m1 70 rfl
theorem q335 : (Jvm.Cond.methodLink "java/lang/Throwable" (27 : Nat) ({ cls := "java/lang/Throwable", name := "fillInStackTrace", desc := "()Ljava/lang/Throwable;" } : Jvm.MethodName)) ∈ lw_all := lw_g (lw_at lw_m1 71 rfl) rfl
theorem q336 : (Jvm.Cond.instanceMethod ({ cls := "java/lang/Throwable", name := "fillInStackTrace", desc := "()Ljava/lang/Throwable;" } : Jvm.MethodName)) ∈ lw_all := lw_g (lw_at lw_m1 72 rfl) rfl
theorem q337 : (Jvm.Cond.sameMethod "java/lang/Throwable" "java/lang/Throwable" "fillInStackTrace" "()Ljava/lang/Throwable;") ∈ lw_all := lw_g (lw_at lw_m1 73 rfl) rfl
theorem q353 : (Jvm.Cond.declares ({ cls := "java/lang/Throwable", name := "fillInStackTrace", desc := "()Ljava/lang/Throwable;" } : Jvm.MethodName)) ∈ lw_tbl := lw_at lw_m1 89 rfl
theorem q357 : (Jvm.Cond.codeSync ({ cls := "java/lang/Throwable", name := "fillInStackTrace", desc := "()Ljava/lang/Throwable;" } : Jvm.MethodName) prog_31_method_18_code (1 : Nat) (Option.some (Jvm.ClassFile.FieldType.object "java/lang/Throwable"))) ∈ lw_all := lw_g (lw_at lw_m1 93 rfl) rfl
theorem q358 : (Jvm.Cond.methodLink "java/lang/Throwable" (202 : Nat) ({ cls := "java/lang/Throwable", name := "fillInStackTrace", desc := "(I)Ljava/lang/Throwable;" } : Jvm.MethodName)) ∈ lw_all := lw_g (lw_at lw_m1 94 rfl) rfl
theorem q359 : (Jvm.Cond.privateMethod ({ cls := "java/lang/Throwable", name := "fillInStackTrace", desc := "(I)Ljava/lang/Throwable;" } : Jvm.MethodName)) ∈ lw_tbl := lw_at lw_m1 95 rfl
theorem q360 : (Jvm.Cond.instanceMethod ({ cls := "java/lang/Throwable", name := "fillInStackTrace", desc := "(I)Ljava/lang/Throwable;" } : Jvm.MethodName)) ∈ lw_all := lw_g (lw_at lw_m1 96 rfl) rfl
theorem q361 : (Jvm.Cond.instantiable "java/lang/Throwable" (6 : Nat)) ∈ lw_all := lw_g (lw_at lw_m1 97 rfl) rfl
theorem q362 : (Jvm.Cond.native ({ cls := "java/lang/Throwable", name := "fillInStackTrace", desc := "(I)Ljava/lang/Throwable;" } : Jvm.MethodName)) ∈ lw_all := lw_g (lw_at lw_m1 98 rfl) rfl
theorem q378 : (Jvm.Cond.fieldLink "java/lang/Throwable" (198 : Nat) "java/lang/Throwable" "backtrace" "Ljava/lang/Object;") ∈ lw_all := lw_g (lw_at lw_m1 114 rfl) rfl
theorem q379 : (Jvm.Cond.fieldLink "java/lang/Throwable" (31 : Nat) "java/lang/Throwable" "detailMessage" "Ljava/lang/String;") ∈ lw_all := lw_g (lw_at lw_m1 115 rfl) rfl
theorem q380 : (Jvm.Cond.fieldLink "java/lang/Throwable" (7 : Nat) "java/lang/Throwable" "cause" "Ljava/lang/Throwable;") ∈ lw_all := lw_g (lw_at lw_m1 116 rfl) rfl
theorem q381 : (Jvm.Cond.fieldLink "java/lang/Throwable" (17 : Nat) "java/lang/Throwable" "stackTrace" "[Ljava/lang/StackTraceElement;") ∈ lw_all := lw_g (lw_at lw_m1 117 rfl) rfl
theorem q382 : (Jvm.Cond.fieldLink "java/lang/Throwable" (24 : Nat) "java/lang/Throwable" "suppressedExceptions" "Ljava/util/List;") ∈ lw_all := lw_g (lw_at lw_m1 118 rfl) rfl
theorem q389 : (Jvm.Cond.soleField "java/lang/Throwable" "backtrace") ∈ lw_all := lw_g (lw_at lw_m1 125 rfl) rfl
theorem q390 : (Jvm.Cond.soleField "java/lang/Throwable" "detailMessage") ∈ lw_all := lw_g (lw_at lw_m1 126 rfl) rfl
theorem q391 : (Jvm.Cond.soleField "java/lang/Throwable" "cause") ∈ lw_all := lw_g (lw_at lw_m1 127 rfl) rfl
theorem q392 : (Jvm.Cond.soleField "java/lang/Throwable" "stackTrace") ∈ lw_all := lw_g (lw_at lw_m1 128 rfl) rfl
theorem q394 : (Jvm.Cond.soleField "java/lang/Throwable" "depth") ∈ lw_all := lw_g (lw_at lw_m1 130 rfl) rfl
theorem q395 : (Jvm.Cond.soleField "java/lang/Throwable" "suppressedExceptions") ∈ lw_all := lw_g (lw_at lw_m1 131 rfl) rfl
theorem q613 : (Jvm.Cond.instanceMethod ({ cls := "java/lang/Throwable", name := "<init>", desc := "(Ljava/lang/String;)V" } : Jvm.MethodName)) ∈ lw_all := lw_g (lw_at lw_m2 109 rfl) rfl
theorem q614 : (Jvm.Cond.code ({ cls := "java/lang/Throwable", name := "<init>", desc := "(Ljava/lang/String;)V" } : Jvm.MethodName) prog_31_method_2_code (2 : Nat) (Option.none : Option Jvm.ClassFile.FieldType)) ∈ lw_all := lw_g (lw_at lw_m2 110 rfl) rfl
theorem q3072 : (Jvm.Cond.sameMethod "java/lang/Throwable" "java/lang/Throwable" "fillInStackTrace" "(I)Ljava/lang/Throwable;") ∈ lw_all := lw_g (lw_at lw_m12 168 rfl) rfl
theorem in_J0 : ∀ w ∈ wsJ00, w ∈ lw_all := lw_in wsJ00 [317, 319, 321, 323, 325] (by decide +kernel) (by decide +kernel)

/-! java/lang/Exception -/
set_option maxRecDepth 100000
def RJ1 : String := "java/lang/Exception"
abbrev cJ1_init : ByteArray := prog_18_method_1_code
def yJ1_init : MethodName := ⟨RJ1, "<init>", "()V"⟩
theorem dJ1_init_0 : decode cJ1_init 0 = .ok (.aload_n 0, 1) := by decide +kernel
theorem dJ1_init_1 : decode cJ1_init 1 = .ok (.invokespecial 1, 3) := by decide +kernel
theorem dJ1_init_4 : decode cJ1_init 4 = .ok (.return_, 1) := by decide +kernel
abbrev cJ1_init_2 : ByteArray := prog_18_method_2_code
def yJ1_init_2 : MethodName := ⟨RJ1, "<init>", "(Ljava/lang/String;)V"⟩
def dkwJ1_init_2_0 : List UInt8 := [42, 43, 183, 0, 7, 177]
abbrev dktJ1_init_2_0 : List UInt8 := dkwJ1_init_2_0 ++ []
theorem dksJ1_init_2_0 : cJ1_init_2.data.toList.drop 0 = dktJ1_init_2_0 := by decide +kernel
theorem dJ1_init_2_0 : decode cJ1_init_2 0 = .ok (.aload_n 0, 1) := dk_42 (dk_at dksJ1_init_2_0 0 rfl rfl)
theorem dJ1_init_2_1 : decode cJ1_init_2 1 = .ok (.aload_n 1, 1) := dk_43 (dk_at dksJ1_init_2_0 1 rfl rfl)
theorem dJ1_init_2_2 : decode cJ1_init_2 2 = .ok (.invokespecial 7, 3) := dk_183 0 7 (dk_at dksJ1_init_2_0 2 rfl rfl)
theorem dJ1_init_2_5 : decode cJ1_init_2 5 = .ok (.return_, 1) := dk_177 (dk_at dksJ1_init_2_0 5 rfl rfl)
theorem q267 : (Jvm.Cond.initialized "java/lang/Exception") ∈ lw_all := lw_g (lw_at lw_m1 3 rfl) rfl
theorem q310 : (Jvm.Cond.declares ({ cls := "java/lang/Exception", name := "<init>", desc := "()V" } : Jvm.MethodName)) ∈ lw_tbl := lw_at lw_m1 46 rfl
theorem q311 : (Jvm.Cond.declares ({ cls := "java/lang/Exception", name := "<init>", desc := "(Ljava/lang/String;)V" } : Jvm.MethodName)) ∈ lw_tbl := lw_at lw_m1 47 rfl
theorem q356 : (Jvm.Cond.superclass "java/lang/Exception" "java/lang/Throwable") ∈ lw_all := lw_g (lw_at lw_m1 92 rfl) rfl
theorem q370 : (Jvm.Cond.instanceMethod ({ cls := "java/lang/Exception", name := "<init>", desc := "()V" } : Jvm.MethodName)) ∈ lw_all := lw_g (lw_at lw_m1 106 rfl) rfl
theorem q371 : (Jvm.Cond.code ({ cls := "java/lang/Exception", name := "<init>", desc := "()V" } : Jvm.MethodName) prog_18_method_1_code (1 : Nat) (Option.none : Option Jvm.ClassFile.FieldType)) ∈ lw_all := lw_g (lw_at lw_m1 107 rfl) rfl
theorem q372 : (Jvm.Cond.methodLink "java/lang/Exception" (1 : Nat) ({ cls := "java/lang/Throwable", name := "<init>", desc := "()V" } : Jvm.MethodName)) ∈ lw_all := lw_g (lw_at lw_m1 108 rfl) rfl
theorem q610 : (Jvm.Cond.instanceMethod ({ cls := "java/lang/Exception", name := "<init>", desc := "(Ljava/lang/String;)V" } : Jvm.MethodName)) ∈ lw_all := lw_g (lw_at lw_m2 106 rfl) rfl
theorem q611 : (Jvm.Cond.code ({ cls := "java/lang/Exception", name := "<init>", desc := "(Ljava/lang/String;)V" } : Jvm.MethodName) prog_18_method_2_code (2 : Nat) (Option.none : Option Jvm.ClassFile.FieldType)) ∈ lw_all := lw_g (lw_at lw_m2 107 rfl) rfl
theorem q612 : (Jvm.Cond.methodLink "java/lang/Exception" (7 : Nat) ({ cls := "java/lang/Throwable", name := "<init>", desc := "(Ljava/lang/String;)V" } : Jvm.MethodName)) ∈ lw_all := lw_g (lw_at lw_m2 108 rfl) rfl

/-! java/lang/Math -/
set_option maxRecDepth 100000
def RJ10 : String := "java/lang/Math"
abbrev cJ10_min : ByteArray := prog_21_method_70_code
def yJ10_min : MethodName := ⟨RJ10, "min", "(JJ)J"⟩
def dkwJ10_min_0 : List UInt8 := [30, 32, 148, 157, 0, 7, 30, 167, 0, 4, 32, 173]
abbrev dktJ10_min_0 : List UInt8 := dkwJ10_min_0 ++ []
theorem dksJ10_min_0 : cJ10_min.data.toList.drop 0 = dktJ10_min_0 := by decide +kernel
theorem dJ10_min_0 : decode cJ10_min 0 = .ok (.lload_n 0, 1) := dk_30 (dk_at dksJ10_min_0 0 rfl rfl)
theorem dJ10_min_1 : decode cJ10_min 1 = .ok (.lload_n 2, 1) := dk_32 (dk_at dksJ10_min_0 1 rfl rfl)
theorem dJ10_min_2 : decode cJ10_min 2 = .ok (.lcmp, 1) := dk_148 (dk_at dksJ10_min_0 2 rfl rfl)
theorem dJ10_min_3 : decode cJ10_min 3 = .ok (.ifCond .gt 7, 3) := dk_157 0 7 (dk_at dksJ10_min_0 3 rfl rfl)
theorem dJ10_min_6 : decode cJ10_min 6 = .ok (.lload_n 0, 1) := dk_30 (dk_at dksJ10_min_0 6 rfl rfl)
theorem dJ10_min_7 : decode cJ10_min 7 = .ok (.goto 4, 3) := dk_167 0 4 (dk_at dksJ10_min_0 7 rfl rfl)
theorem dJ10_min_10 : decode cJ10_min 10 = .ok (.lload_n 2, 1) := dk_32 (dk_at dksJ10_min_0 10 rfl rfl)
theorem dJ10_min_11 : decode cJ10_min 11 = .ok (.lreturn, 1) := dk_173 (dk_at dksJ10_min_0 11 rfl rfl)
abbrev cJ10_max : ByteArray := prog_21_method_66_code
def yJ10_max : MethodName := ⟨RJ10, "max", "(JJ)J"⟩
def dkwJ10_max_0 : List UInt8 := [30, 32, 148, 155, 0, 7, 30, 167, 0, 4, 32, 173]
abbrev dktJ10_max_0 : List UInt8 := dkwJ10_max_0 ++ []
theorem dksJ10_max_0 : cJ10_max.data.toList.drop 0 = dktJ10_max_0 := by decide +kernel
theorem dJ10_max_0 : decode cJ10_max 0 = .ok (.lload_n 0, 1) := dk_30 (dk_at dksJ10_max_0 0 rfl rfl)
theorem dJ10_max_1 : decode cJ10_max 1 = .ok (.lload_n 2, 1) := dk_32 (dk_at dksJ10_max_0 1 rfl rfl)
theorem dJ10_max_2 : decode cJ10_max 2 = .ok (.lcmp, 1) := dk_148 (dk_at dksJ10_max_0 2 rfl rfl)
theorem dJ10_max_3 : decode cJ10_max 3 = .ok (.ifCond .lt 7, 3) := dk_155 0 7 (dk_at dksJ10_max_0 3 rfl rfl)
theorem dJ10_max_6 : decode cJ10_max 6 = .ok (.lload_n 0, 1) := dk_30 (dk_at dksJ10_max_0 6 rfl rfl)
theorem dJ10_max_7 : decode cJ10_max 7 = .ok (.goto 4, 3) := dk_167 0 4 (dk_at dksJ10_max_0 7 rfl rfl)
theorem dJ10_max_10 : decode cJ10_max 10 = .ok (.lload_n 2, 1) := dk_32 (dk_at dksJ10_max_0 10 rfl rfl)
theorem dJ10_max_11 : decode cJ10_max 11 = .ok (.lreturn, 1) := dk_173 (dk_at dksJ10_max_0 11 rfl rfl)
abbrev cJ10_max_2 : ByteArray := prog_21_method_65_code
def yJ10_max_2 : MethodName := ⟨RJ10, "max", "(II)I"⟩
def dkwJ10_max_2_0 : List UInt8 := [26, 27, 161, 0, 7, 26, 167, 0, 4, 27, 172]
abbrev dktJ10_max_2_0 : List UInt8 := dkwJ10_max_2_0 ++ []
theorem dksJ10_max_2_0 : cJ10_max_2.data.toList.drop 0 = dktJ10_max_2_0 := by decide +kernel
theorem dJ10_max_2_0 : decode cJ10_max_2 0 = .ok (.iload_n 0, 1) := dk_26 (dk_at dksJ10_max_2_0 0 rfl rfl)
theorem dJ10_max_2_1 : decode cJ10_max_2 1 = .ok (.iload_n 1, 1) := dk_27 (dk_at dksJ10_max_2_0 1 rfl rfl)
theorem dJ10_max_2_2 : decode cJ10_max_2 2 = .ok (.if_icmp .lt 7, 3) := dk_161 0 7 (dk_at dksJ10_max_2_0 2 rfl rfl)
theorem dJ10_max_2_5 : decode cJ10_max_2 5 = .ok (.iload_n 0, 1) := dk_26 (dk_at dksJ10_max_2_0 5 rfl rfl)
theorem dJ10_max_2_6 : decode cJ10_max_2 6 = .ok (.goto 4, 3) := dk_167 0 4 (dk_at dksJ10_max_2_0 6 rfl rfl)
theorem dJ10_max_2_9 : decode cJ10_max_2 9 = .ok (.iload_n 1, 1) := dk_27 (dk_at dksJ10_max_2_0 9 rfl rfl)
theorem dJ10_max_2_10 : decode cJ10_max_2 10 = .ok (.ireturn, 1) := dk_172 (dk_at dksJ10_max_2_0 10 rfl rfl)
abbrev cJ10_min_2 : ByteArray := prog_21_method_69_code
def yJ10_min_2 : MethodName := ⟨RJ10, "min", "(II)I"⟩
def dkwJ10_min_2_0 : List UInt8 := [26, 27, 163, 0, 7, 26, 167, 0, 4, 27, 172]
abbrev dktJ10_min_2_0 : List UInt8 := dkwJ10_min_2_0 ++ []
theorem dksJ10_min_2_0 : cJ10_min_2.data.toList.drop 0 = dktJ10_min_2_0 := by decide +kernel
theorem dJ10_min_2_0 : decode cJ10_min_2 0 = .ok (.iload_n 0, 1) := dk_26 (dk_at dksJ10_min_2_0 0 rfl rfl)
theorem dJ10_min_2_1 : decode cJ10_min_2 1 = .ok (.iload_n 1, 1) := dk_27 (dk_at dksJ10_min_2_0 1 rfl rfl)
theorem dJ10_min_2_2 : decode cJ10_min_2 2 = .ok (.if_icmp .gt 7, 3) := dk_163 0 7 (dk_at dksJ10_min_2_0 2 rfl rfl)
theorem dJ10_min_2_5 : decode cJ10_min_2 5 = .ok (.iload_n 0, 1) := dk_26 (dk_at dksJ10_min_2_0 5 rfl rfl)
theorem dJ10_min_2_6 : decode cJ10_min_2 6 = .ok (.goto 4, 3) := dk_167 0 4 (dk_at dksJ10_min_2_0 6 rfl rfl)
theorem dJ10_min_2_9 : decode cJ10_min_2 9 = .ok (.iload_n 1, 1) := dk_27 (dk_at dksJ10_min_2_0 9 rfl rfl)
theorem dJ10_min_2_10 : decode cJ10_min_2 10 = .ok (.ireturn, 1) := dk_172 (dk_at dksJ10_min_2_0 10 rfl rfl)
abbrev cJ10_max_3 : ByteArray := prog_21_method_67_code
def yJ10_max_3 : MethodName := ⟨RJ10, "max", "(FF)F"⟩
def dkwJ10_max_3_1 : List UInt8 := [133, 178, 0, 170, 148, 154, 0, 5, 35, 174, 34, 35, 149, 155, 0, 7, 34, 167, 0, 4, 35, 174]
abbrev dktJ10_max_3_1 : List UInt8 := dkwJ10_max_3_1 ++ []
def dkwJ10_max_3_0 : List UInt8 := [34, 34, 149, 153, 0, 5, 34, 174, 34, 11, 149, 154, 0, 23, 35, 11, 149, 154, 0, 17, 34, 184, 0, 68]
abbrev dktJ10_max_3_0 : List UInt8 := dkwJ10_max_3_0 ++ dktJ10_max_3_1
theorem dksJ10_max_3_0 : cJ10_max_3.data.toList.drop 0 = dktJ10_max_3_0 := by decide +kernel
theorem dksJ10_max_3_1 : cJ10_max_3.data.toList.drop 24 = dktJ10_max_3_1 := dk_seg dksJ10_max_3_0 24 rfl rfl
theorem dJ10_max_3_0 : decode cJ10_max_3 0 = .ok (.fload_n 0, 1) := dk_34 (dk_at dksJ10_max_3_0 0 rfl rfl)
theorem dJ10_max_3_1 : decode cJ10_max_3 1 = .ok (.fload_n 0, 1) := dk_34 (dk_at dksJ10_max_3_0 1 rfl rfl)
theorem dJ10_max_3_2 : decode cJ10_max_3 2 = .ok (.fcmp .l, 1) := dk_149 (dk_at dksJ10_max_3_0 2 rfl rfl)
theorem dJ10_max_3_3 : decode cJ10_max_3 3 = .ok (.ifCond .eq 5, 3) := dk_153 0 5 (dk_at dksJ10_max_3_0 3 rfl rfl)
theorem dJ10_max_3_6 : decode cJ10_max_3 6 = .ok (.fload_n 0, 1) := dk_34 (dk_at dksJ10_max_3_0 6 rfl rfl)
theorem dJ10_max_3_7 : decode cJ10_max_3 7 = .ok (.freturn, 1) := dk_174 (dk_at dksJ10_max_3_0 7 rfl rfl)
theorem dJ10_max_3_8 : decode cJ10_max_3 8 = .ok (.fload_n 0, 1) := dk_34 (dk_at dksJ10_max_3_0 8 rfl rfl)
theorem dJ10_max_3_9 : decode cJ10_max_3 9 = .ok (.fconst 0, 1) := dk_11 (dk_at dksJ10_max_3_0 9 rfl rfl)
theorem dJ10_max_3_10 : decode cJ10_max_3 10 = .ok (.fcmp .l, 1) := dk_149 (dk_at dksJ10_max_3_0 10 rfl rfl)
theorem dJ10_max_3_11 : decode cJ10_max_3 11 = .ok (.ifCond .ne 23, 3) := dk_154 0 23 (dk_at dksJ10_max_3_0 11 rfl rfl)
theorem dJ10_max_3_14 : decode cJ10_max_3 14 = .ok (.fload_n 1, 1) := dk_35 (dk_at dksJ10_max_3_0 14 rfl rfl)
theorem dJ10_max_3_15 : decode cJ10_max_3 15 = .ok (.fconst 0, 1) := dk_11 (dk_at dksJ10_max_3_0 15 rfl rfl)
theorem dJ10_max_3_16 : decode cJ10_max_3 16 = .ok (.fcmp .l, 1) := dk_149 (dk_at dksJ10_max_3_0 16 rfl rfl)
theorem dJ10_max_3_17 : decode cJ10_max_3 17 = .ok (.ifCond .ne 17, 3) := dk_154 0 17 (dk_at dksJ10_max_3_0 17 rfl rfl)
theorem dJ10_max_3_20 : decode cJ10_max_3 20 = .ok (.fload_n 0, 1) := dk_34 (dk_at dksJ10_max_3_0 20 rfl rfl)
theorem dJ10_max_3_21 : decode cJ10_max_3 21 = .ok (.invokestatic 68, 3) := dk_184 0 68 (dk_at dksJ10_max_3_0 21 rfl rfl)
theorem dJ10_max_3_24 : decode cJ10_max_3 24 = .ok (.i2l, 1) := dk_133 (dk_at dksJ10_max_3_1 0 rfl rfl)
theorem dJ10_max_3_25 : decode cJ10_max_3 25 = .ok (.getstatic 170, 3) := dk_178 0 170 (dk_at dksJ10_max_3_1 1 rfl rfl)
theorem dJ10_max_3_28 : decode cJ10_max_3 28 = .ok (.lcmp, 1) := dk_148 (dk_at dksJ10_max_3_1 4 rfl rfl)
theorem dJ10_max_3_29 : decode cJ10_max_3 29 = .ok (.ifCond .ne 5, 3) := dk_154 0 5 (dk_at dksJ10_max_3_1 5 rfl rfl)
theorem dJ10_max_3_32 : decode cJ10_max_3 32 = .ok (.fload_n 1, 1) := dk_35 (dk_at dksJ10_max_3_1 8 rfl rfl)
theorem dJ10_max_3_33 : decode cJ10_max_3 33 = .ok (.freturn, 1) := dk_174 (dk_at dksJ10_max_3_1 9 rfl rfl)
theorem dJ10_max_3_34 : decode cJ10_max_3 34 = .ok (.fload_n 0, 1) := dk_34 (dk_at dksJ10_max_3_1 10 rfl rfl)
theorem dJ10_max_3_35 : decode cJ10_max_3 35 = .ok (.fload_n 1, 1) := dk_35 (dk_at dksJ10_max_3_1 11 rfl rfl)
theorem dJ10_max_3_36 : decode cJ10_max_3 36 = .ok (.fcmp .l, 1) := dk_149 (dk_at dksJ10_max_3_1 12 rfl rfl)
theorem dJ10_max_3_37 : decode cJ10_max_3 37 = .ok (.ifCond .lt 7, 3) := dk_155 0 7 (dk_at dksJ10_max_3_1 13 rfl rfl)
theorem dJ10_max_3_40 : decode cJ10_max_3 40 = .ok (.fload_n 0, 1) := dk_34 (dk_at dksJ10_max_3_1 16 rfl rfl)
theorem dJ10_max_3_41 : decode cJ10_max_3 41 = .ok (.goto 4, 3) := dk_167 0 4 (dk_at dksJ10_max_3_1 17 rfl rfl)
theorem dJ10_max_3_44 : decode cJ10_max_3 44 = .ok (.fload_n 1, 1) := dk_35 (dk_at dksJ10_max_3_1 20 rfl rfl)
theorem dJ10_max_3_45 : decode cJ10_max_3 45 = .ok (.freturn, 1) := dk_174 (dk_at dksJ10_max_3_1 21 rfl rfl)
abbrev cJ10_min_3 : ByteArray := prog_21_method_71_code
def yJ10_min_3 : MethodName := ⟨RJ10, "min", "(FF)F"⟩
def dkwJ10_min_3_1 : List UInt8 := [133, 178, 0, 170, 148, 154, 0, 5, 35, 174, 34, 35, 150, 157, 0, 7, 34, 167, 0, 4, 35, 174]
abbrev dktJ10_min_3_1 : List UInt8 := dkwJ10_min_3_1 ++ []
def dkwJ10_min_3_0 : List UInt8 := [34, 34, 149, 153, 0, 5, 34, 174, 34, 11, 149, 154, 0, 23, 35, 11, 149, 154, 0, 17, 35, 184, 0, 68]
abbrev dktJ10_min_3_0 : List UInt8 := dkwJ10_min_3_0 ++ dktJ10_min_3_1
theorem dksJ10_min_3_0 : cJ10_min_3.data.toList.drop 0 = dktJ10_min_3_0 := by decide +kernel
theorem dksJ10_min_3_1 : cJ10_min_3.data.toList.drop 24 = dktJ10_min_3_1 := dk_seg dksJ10_min_3_0 24 rfl rfl
theorem dJ10_min_3_0 : decode cJ10_min_3 0 = .ok (.fload_n 0, 1) := dk_34 (dk_at dksJ10_min_3_0 0 rfl rfl)
theorem dJ10_min_3_1 : decode cJ10_min_3 1 = .ok (.fload_n 0, 1) := dk_34 (dk_at dksJ10_min_3_0 1 rfl rfl)
theorem dJ10_min_3_2 : decode cJ10_min_3 2 = .ok (.fcmp .l, 1) := dk_149 (dk_at dksJ10_min_3_0 2 rfl rfl)
theorem dJ10_min_3_3 : decode cJ10_min_3 3 = .ok (.ifCond .eq 5, 3) := dk_153 0 5 (dk_at dksJ10_min_3_0 3 rfl rfl)
theorem dJ10_min_3_6 : decode cJ10_min_3 6 = .ok (.fload_n 0, 1) := dk_34 (dk_at dksJ10_min_3_0 6 rfl rfl)
theorem dJ10_min_3_7 : decode cJ10_min_3 7 = .ok (.freturn, 1) := dk_174 (dk_at dksJ10_min_3_0 7 rfl rfl)
theorem dJ10_min_3_8 : decode cJ10_min_3 8 = .ok (.fload_n 0, 1) := dk_34 (dk_at dksJ10_min_3_0 8 rfl rfl)
theorem dJ10_min_3_9 : decode cJ10_min_3 9 = .ok (.fconst 0, 1) := dk_11 (dk_at dksJ10_min_3_0 9 rfl rfl)
theorem dJ10_min_3_10 : decode cJ10_min_3 10 = .ok (.fcmp .l, 1) := dk_149 (dk_at dksJ10_min_3_0 10 rfl rfl)
theorem dJ10_min_3_11 : decode cJ10_min_3 11 = .ok (.ifCond .ne 23, 3) := dk_154 0 23 (dk_at dksJ10_min_3_0 11 rfl rfl)
theorem dJ10_min_3_14 : decode cJ10_min_3 14 = .ok (.fload_n 1, 1) := dk_35 (dk_at dksJ10_min_3_0 14 rfl rfl)
theorem dJ10_min_3_15 : decode cJ10_min_3 15 = .ok (.fconst 0, 1) := dk_11 (dk_at dksJ10_min_3_0 15 rfl rfl)
theorem dJ10_min_3_16 : decode cJ10_min_3 16 = .ok (.fcmp .l, 1) := dk_149 (dk_at dksJ10_min_3_0 16 rfl rfl)
theorem dJ10_min_3_17 : decode cJ10_min_3 17 = .ok (.ifCond .ne 17, 3) := dk_154 0 17 (dk_at dksJ10_min_3_0 17 rfl rfl)
theorem dJ10_min_3_20 : decode cJ10_min_3 20 = .ok (.fload_n 1, 1) := dk_35 (dk_at dksJ10_min_3_0 20 rfl rfl)
theorem dJ10_min_3_21 : decode cJ10_min_3 21 = .ok (.invokestatic 68, 3) := dk_184 0 68 (dk_at dksJ10_min_3_0 21 rfl rfl)
theorem dJ10_min_3_24 : decode cJ10_min_3 24 = .ok (.i2l, 1) := dk_133 (dk_at dksJ10_min_3_1 0 rfl rfl)
theorem dJ10_min_3_25 : decode cJ10_min_3 25 = .ok (.getstatic 170, 3) := dk_178 0 170 (dk_at dksJ10_min_3_1 1 rfl rfl)
theorem dJ10_min_3_28 : decode cJ10_min_3 28 = .ok (.lcmp, 1) := dk_148 (dk_at dksJ10_min_3_1 4 rfl rfl)
theorem dJ10_min_3_29 : decode cJ10_min_3 29 = .ok (.ifCond .ne 5, 3) := dk_154 0 5 (dk_at dksJ10_min_3_1 5 rfl rfl)
theorem dJ10_min_3_32 : decode cJ10_min_3 32 = .ok (.fload_n 1, 1) := dk_35 (dk_at dksJ10_min_3_1 8 rfl rfl)
theorem dJ10_min_3_33 : decode cJ10_min_3 33 = .ok (.freturn, 1) := dk_174 (dk_at dksJ10_min_3_1 9 rfl rfl)
theorem dJ10_min_3_34 : decode cJ10_min_3 34 = .ok (.fload_n 0, 1) := dk_34 (dk_at dksJ10_min_3_1 10 rfl rfl)
theorem dJ10_min_3_35 : decode cJ10_min_3 35 = .ok (.fload_n 1, 1) := dk_35 (dk_at dksJ10_min_3_1 11 rfl rfl)
theorem dJ10_min_3_36 : decode cJ10_min_3 36 = .ok (.fcmp .g, 1) := dk_150 (dk_at dksJ10_min_3_1 12 rfl rfl)
theorem dJ10_min_3_37 : decode cJ10_min_3 37 = .ok (.ifCond .gt 7, 3) := dk_157 0 7 (dk_at dksJ10_min_3_1 13 rfl rfl)
theorem dJ10_min_3_40 : decode cJ10_min_3 40 = .ok (.fload_n 0, 1) := dk_34 (dk_at dksJ10_min_3_1 16 rfl rfl)
theorem dJ10_min_3_41 : decode cJ10_min_3 41 = .ok (.goto 4, 3) := dk_167 0 4 (dk_at dksJ10_min_3_1 17 rfl rfl)
theorem dJ10_min_3_44 : decode cJ10_min_3 44 = .ok (.fload_n 1, 1) := dk_35 (dk_at dksJ10_min_3_1 20 rfl rfl)
theorem dJ10_min_3_45 : decode cJ10_min_3 45 = .ok (.freturn, 1) := dk_174 (dk_at dksJ10_min_3_1 21 rfl rfl)
abbrev cJ10_max_4 : ByteArray := prog_21_method_68_code
def yJ10_max_4 : MethodName := ⟨RJ10, "max", "(DD)D"⟩
def dkwJ10_max_4_1 : List UInt8 := [178, 0, 174, 148, 154, 0, 5, 40, 175, 38, 40, 151, 155, 0, 7, 38, 167, 0, 4, 40, 175]
abbrev dktJ10_max_4_1 : List UInt8 := dkwJ10_max_4_1 ++ []
def dkwJ10_max_4_0 : List UInt8 := [38, 38, 151, 153, 0, 5, 38, 175, 38, 14, 151, 154, 0, 22, 40, 14, 151, 154, 0, 16, 38, 184, 0, 79]
abbrev dktJ10_max_4_0 : List UInt8 := dkwJ10_max_4_0 ++ dktJ10_max_4_1
theorem dksJ10_max_4_0 : cJ10_max_4.data.toList.drop 0 = dktJ10_max_4_0 := by decide +kernel
theorem dksJ10_max_4_1 : cJ10_max_4.data.toList.drop 24 = dktJ10_max_4_1 := dk_seg dksJ10_max_4_0 24 rfl rfl
theorem dJ10_max_4_0 : decode cJ10_max_4 0 = .ok (.dload_n 0, 1) := dk_38 (dk_at dksJ10_max_4_0 0 rfl rfl)
theorem dJ10_max_4_1 : decode cJ10_max_4 1 = .ok (.dload_n 0, 1) := dk_38 (dk_at dksJ10_max_4_0 1 rfl rfl)
theorem dJ10_max_4_2 : decode cJ10_max_4 2 = .ok (.dcmp .l, 1) := dk_151 (dk_at dksJ10_max_4_0 2 rfl rfl)
theorem dJ10_max_4_3 : decode cJ10_max_4 3 = .ok (.ifCond .eq 5, 3) := dk_153 0 5 (dk_at dksJ10_max_4_0 3 rfl rfl)
theorem dJ10_max_4_6 : decode cJ10_max_4 6 = .ok (.dload_n 0, 1) := dk_38 (dk_at dksJ10_max_4_0 6 rfl rfl)
theorem dJ10_max_4_7 : decode cJ10_max_4 7 = .ok (.dreturn, 1) := dk_175 (dk_at dksJ10_max_4_0 7 rfl rfl)
theorem dJ10_max_4_8 : decode cJ10_max_4 8 = .ok (.dload_n 0, 1) := dk_38 (dk_at dksJ10_max_4_0 8 rfl rfl)
theorem dJ10_max_4_9 : decode cJ10_max_4 9 = .ok (.dconst 0, 1) := dk_14 (dk_at dksJ10_max_4_0 9 rfl rfl)
theorem dJ10_max_4_10 : decode cJ10_max_4 10 = .ok (.dcmp .l, 1) := dk_151 (dk_at dksJ10_max_4_0 10 rfl rfl)
theorem dJ10_max_4_11 : decode cJ10_max_4 11 = .ok (.ifCond .ne 22, 3) := dk_154 0 22 (dk_at dksJ10_max_4_0 11 rfl rfl)
theorem dJ10_max_4_14 : decode cJ10_max_4 14 = .ok (.dload_n 2, 1) := dk_40 (dk_at dksJ10_max_4_0 14 rfl rfl)
theorem dJ10_max_4_15 : decode cJ10_max_4 15 = .ok (.dconst 0, 1) := dk_14 (dk_at dksJ10_max_4_0 15 rfl rfl)
theorem dJ10_max_4_16 : decode cJ10_max_4 16 = .ok (.dcmp .l, 1) := dk_151 (dk_at dksJ10_max_4_0 16 rfl rfl)
theorem dJ10_max_4_17 : decode cJ10_max_4 17 = .ok (.ifCond .ne 16, 3) := dk_154 0 16 (dk_at dksJ10_max_4_0 17 rfl rfl)
theorem dJ10_max_4_20 : decode cJ10_max_4 20 = .ok (.dload_n 0, 1) := dk_38 (dk_at dksJ10_max_4_0 20 rfl rfl)
theorem dJ10_max_4_21 : decode cJ10_max_4 21 = .ok (.invokestatic 79, 3) := dk_184 0 79 (dk_at dksJ10_max_4_0 21 rfl rfl)
theorem dJ10_max_4_24 : decode cJ10_max_4 24 = .ok (.getstatic 174, 3) := dk_178 0 174 (dk_at dksJ10_max_4_1 0 rfl rfl)
theorem dJ10_max_4_27 : decode cJ10_max_4 27 = .ok (.lcmp, 1) := dk_148 (dk_at dksJ10_max_4_1 3 rfl rfl)
theorem dJ10_max_4_28 : decode cJ10_max_4 28 = .ok (.ifCond .ne 5, 3) := dk_154 0 5 (dk_at dksJ10_max_4_1 4 rfl rfl)
theorem dJ10_max_4_31 : decode cJ10_max_4 31 = .ok (.dload_n 2, 1) := dk_40 (dk_at dksJ10_max_4_1 7 rfl rfl)
theorem dJ10_max_4_32 : decode cJ10_max_4 32 = .ok (.dreturn, 1) := dk_175 (dk_at dksJ10_max_4_1 8 rfl rfl)
theorem dJ10_max_4_33 : decode cJ10_max_4 33 = .ok (.dload_n 0, 1) := dk_38 (dk_at dksJ10_max_4_1 9 rfl rfl)
theorem dJ10_max_4_34 : decode cJ10_max_4 34 = .ok (.dload_n 2, 1) := dk_40 (dk_at dksJ10_max_4_1 10 rfl rfl)
theorem dJ10_max_4_35 : decode cJ10_max_4 35 = .ok (.dcmp .l, 1) := dk_151 (dk_at dksJ10_max_4_1 11 rfl rfl)
theorem dJ10_max_4_36 : decode cJ10_max_4 36 = .ok (.ifCond .lt 7, 3) := dk_155 0 7 (dk_at dksJ10_max_4_1 12 rfl rfl)
theorem dJ10_max_4_39 : decode cJ10_max_4 39 = .ok (.dload_n 0, 1) := dk_38 (dk_at dksJ10_max_4_1 15 rfl rfl)
theorem dJ10_max_4_40 : decode cJ10_max_4 40 = .ok (.goto 4, 3) := dk_167 0 4 (dk_at dksJ10_max_4_1 16 rfl rfl)
theorem dJ10_max_4_43 : decode cJ10_max_4 43 = .ok (.dload_n 2, 1) := dk_40 (dk_at dksJ10_max_4_1 19 rfl rfl)
theorem dJ10_max_4_44 : decode cJ10_max_4 44 = .ok (.dreturn, 1) := dk_175 (dk_at dksJ10_max_4_1 20 rfl rfl)
abbrev cJ10_min_4 : ByteArray := prog_21_method_72_code
def yJ10_min_4 : MethodName := ⟨RJ10, "min", "(DD)D"⟩
def dkwJ10_min_4_1 : List UInt8 := [178, 0, 174, 148, 154, 0, 5, 40, 175, 38, 40, 152, 157, 0, 7, 38, 167, 0, 4, 40, 175]
abbrev dktJ10_min_4_1 : List UInt8 := dkwJ10_min_4_1 ++ []
def dkwJ10_min_4_0 : List UInt8 := [38, 38, 151, 153, 0, 5, 38, 175, 38, 14, 151, 154, 0, 22, 40, 14, 151, 154, 0, 16, 40, 184, 0, 79]
abbrev dktJ10_min_4_0 : List UInt8 := dkwJ10_min_4_0 ++ dktJ10_min_4_1
theorem dksJ10_min_4_0 : cJ10_min_4.data.toList.drop 0 = dktJ10_min_4_0 := by decide +kernel
theorem dksJ10_min_4_1 : cJ10_min_4.data.toList.drop 24 = dktJ10_min_4_1 := dk_seg dksJ10_min_4_0 24 rfl rfl
theorem dJ10_min_4_0 : decode cJ10_min_4 0 = .ok (.dload_n 0, 1) := dk_38 (dk_at dksJ10_min_4_0 0 rfl rfl)
theorem dJ10_min_4_1 : decode cJ10_min_4 1 = .ok (.dload_n 0, 1) := dk_38 (dk_at dksJ10_min_4_0 1 rfl rfl)
theorem dJ10_min_4_2 : decode cJ10_min_4 2 = .ok (.dcmp .l, 1) := dk_151 (dk_at dksJ10_min_4_0 2 rfl rfl)
theorem dJ10_min_4_3 : decode cJ10_min_4 3 = .ok (.ifCond .eq 5, 3) := dk_153 0 5 (dk_at dksJ10_min_4_0 3 rfl rfl)
theorem dJ10_min_4_6 : decode cJ10_min_4 6 = .ok (.dload_n 0, 1) := dk_38 (dk_at dksJ10_min_4_0 6 rfl rfl)
theorem dJ10_min_4_7 : decode cJ10_min_4 7 = .ok (.dreturn, 1) := dk_175 (dk_at dksJ10_min_4_0 7 rfl rfl)
theorem dJ10_min_4_8 : decode cJ10_min_4 8 = .ok (.dload_n 0, 1) := dk_38 (dk_at dksJ10_min_4_0 8 rfl rfl)
theorem dJ10_min_4_9 : decode cJ10_min_4 9 = .ok (.dconst 0, 1) := dk_14 (dk_at dksJ10_min_4_0 9 rfl rfl)
theorem dJ10_min_4_10 : decode cJ10_min_4 10 = .ok (.dcmp .l, 1) := dk_151 (dk_at dksJ10_min_4_0 10 rfl rfl)
theorem dJ10_min_4_11 : decode cJ10_min_4 11 = .ok (.ifCond .ne 22, 3) := dk_154 0 22 (dk_at dksJ10_min_4_0 11 rfl rfl)
theorem dJ10_min_4_14 : decode cJ10_min_4 14 = .ok (.dload_n 2, 1) := dk_40 (dk_at dksJ10_min_4_0 14 rfl rfl)
theorem dJ10_min_4_15 : decode cJ10_min_4 15 = .ok (.dconst 0, 1) := dk_14 (dk_at dksJ10_min_4_0 15 rfl rfl)
theorem dJ10_min_4_16 : decode cJ10_min_4 16 = .ok (.dcmp .l, 1) := dk_151 (dk_at dksJ10_min_4_0 16 rfl rfl)
theorem dJ10_min_4_17 : decode cJ10_min_4 17 = .ok (.ifCond .ne 16, 3) := dk_154 0 16 (dk_at dksJ10_min_4_0 17 rfl rfl)
theorem dJ10_min_4_20 : decode cJ10_min_4 20 = .ok (.dload_n 2, 1) := dk_40 (dk_at dksJ10_min_4_0 20 rfl rfl)
theorem dJ10_min_4_21 : decode cJ10_min_4 21 = .ok (.invokestatic 79, 3) := dk_184 0 79 (dk_at dksJ10_min_4_0 21 rfl rfl)
theorem dJ10_min_4_24 : decode cJ10_min_4 24 = .ok (.getstatic 174, 3) := dk_178 0 174 (dk_at dksJ10_min_4_1 0 rfl rfl)
theorem dJ10_min_4_27 : decode cJ10_min_4 27 = .ok (.lcmp, 1) := dk_148 (dk_at dksJ10_min_4_1 3 rfl rfl)
theorem dJ10_min_4_28 : decode cJ10_min_4 28 = .ok (.ifCond .ne 5, 3) := dk_154 0 5 (dk_at dksJ10_min_4_1 4 rfl rfl)
theorem dJ10_min_4_31 : decode cJ10_min_4 31 = .ok (.dload_n 2, 1) := dk_40 (dk_at dksJ10_min_4_1 7 rfl rfl)
theorem dJ10_min_4_32 : decode cJ10_min_4 32 = .ok (.dreturn, 1) := dk_175 (dk_at dksJ10_min_4_1 8 rfl rfl)
theorem dJ10_min_4_33 : decode cJ10_min_4 33 = .ok (.dload_n 0, 1) := dk_38 (dk_at dksJ10_min_4_1 9 rfl rfl)
theorem dJ10_min_4_34 : decode cJ10_min_4 34 = .ok (.dload_n 2, 1) := dk_40 (dk_at dksJ10_min_4_1 10 rfl rfl)
theorem dJ10_min_4_35 : decode cJ10_min_4 35 = .ok (.dcmp .g, 1) := dk_152 (dk_at dksJ10_min_4_1 11 rfl rfl)
theorem dJ10_min_4_36 : decode cJ10_min_4 36 = .ok (.ifCond .gt 7, 3) := dk_157 0 7 (dk_at dksJ10_min_4_1 12 rfl rfl)
theorem dJ10_min_4_39 : decode cJ10_min_4 39 = .ok (.dload_n 0, 1) := dk_38 (dk_at dksJ10_min_4_1 15 rfl rfl)
theorem dJ10_min_4_40 : decode cJ10_min_4 40 = .ok (.goto 4, 3) := dk_167 0 4 (dk_at dksJ10_min_4_1 16 rfl rfl)
theorem dJ10_min_4_43 : decode cJ10_min_4 43 = .ok (.dload_n 2, 1) := dk_40 (dk_at dksJ10_min_4_1 19 rfl rfl)
theorem dJ10_min_4_44 : decode cJ10_min_4 44 = .ok (.dreturn, 1) := dk_175 (dk_at dksJ10_min_4_1 20 rfl rfl)
abbrev cJ10_copySign : ByteArray := prog_21_method_90_code
def yJ10_copySign : MethodName := ⟨RJ10, "copySign", "(FF)F"⟩
def dkwJ10_copySign_0 : List UInt8 := [35, 184, 0, 68, 18, 137, 126, 34, 184, 0, 68, 18, 134, 126, 128, 184, 0, 162, 174]
abbrev dktJ10_copySign_0 : List UInt8 := dkwJ10_copySign_0 ++ []
theorem dksJ10_copySign_0 : cJ10_copySign.data.toList.drop 0 = dktJ10_copySign_0 := by decide +kernel
theorem dJ10_copySign_0 : decode cJ10_copySign 0 = .ok (.fload_n 1, 1) := dk_35 (dk_at dksJ10_copySign_0 0 rfl rfl)
theorem dJ10_copySign_1 : decode cJ10_copySign 1 = .ok (.invokestatic 68, 3) := dk_184 0 68 (dk_at dksJ10_copySign_0 1 rfl rfl)
theorem dJ10_copySign_4 : decode cJ10_copySign 4 = .ok (.ldc 137, 2) := dk_18 137 (dk_at dksJ10_copySign_0 4 rfl rfl)
theorem dJ10_copySign_6 : decode cJ10_copySign 6 = .ok (.iand, 1) := dk_126 (dk_at dksJ10_copySign_0 6 rfl rfl)
theorem dJ10_copySign_7 : decode cJ10_copySign 7 = .ok (.fload_n 0, 1) := dk_34 (dk_at dksJ10_copySign_0 7 rfl rfl)
theorem dJ10_copySign_8 : decode cJ10_copySign 8 = .ok (.invokestatic 68, 3) := dk_184 0 68 (dk_at dksJ10_copySign_0 8 rfl rfl)
theorem dJ10_copySign_11 : decode cJ10_copySign 11 = .ok (.ldc 134, 2) := dk_18 134 (dk_at dksJ10_copySign_0 11 rfl rfl)
theorem dJ10_copySign_13 : decode cJ10_copySign 13 = .ok (.iand, 1) := dk_126 (dk_at dksJ10_copySign_0 13 rfl rfl)
theorem dJ10_copySign_14 : decode cJ10_copySign 14 = .ok (.ior, 1) := dk_128 (dk_at dksJ10_copySign_0 14 rfl rfl)
theorem dJ10_copySign_15 : decode cJ10_copySign 15 = .ok (.invokestatic 162, 3) := dk_184 0 162 (dk_at dksJ10_copySign_0 15 rfl rfl)
theorem dJ10_copySign_18 : decode cJ10_copySign 18 = .ok (.freturn, 1) := dk_174 (dk_at dksJ10_copySign_0 18 rfl rfl)
abbrev cJ10_copySign_2 : ByteArray := prog_21_method_89_code
def yJ10_copySign_2 : MethodName := ⟨RJ10, "copySign", "(DD)D"⟩
def dkwJ10_copySign_2_0 : List UInt8 := [40, 184, 0, 79, 20, 0, 128, 127, 38, 184, 0, 79, 20, 0, 135, 127, 129, 184, 0, 166, 175]
abbrev dktJ10_copySign_2_0 : List UInt8 := dkwJ10_copySign_2_0 ++ []
theorem dksJ10_copySign_2_0 : cJ10_copySign_2.data.toList.drop 0 = dktJ10_copySign_2_0 := by decide +kernel
theorem dJ10_copySign_2_0 : decode cJ10_copySign_2 0 = .ok (.dload_n 2, 1) := dk_40 (dk_at dksJ10_copySign_2_0 0 rfl rfl)
theorem dJ10_copySign_2_1 : decode cJ10_copySign_2 1 = .ok (.invokestatic 79, 3) := dk_184 0 79 (dk_at dksJ10_copySign_2_0 1 rfl rfl)
theorem dJ10_copySign_2_4 : decode cJ10_copySign_2 4 = .ok (.ldc2_w 128, 3) := dk_20 0 128 (dk_at dksJ10_copySign_2_0 4 rfl rfl)
theorem dJ10_copySign_2_7 : decode cJ10_copySign_2 7 = .ok (.land, 1) := dk_127 (dk_at dksJ10_copySign_2_0 7 rfl rfl)
theorem dJ10_copySign_2_8 : decode cJ10_copySign_2 8 = .ok (.dload_n 0, 1) := dk_38 (dk_at dksJ10_copySign_2_0 8 rfl rfl)
theorem dJ10_copySign_2_9 : decode cJ10_copySign_2 9 = .ok (.invokestatic 79, 3) := dk_184 0 79 (dk_at dksJ10_copySign_2_0 9 rfl rfl)
theorem dJ10_copySign_2_12 : decode cJ10_copySign_2 12 = .ok (.ldc2_w 135, 3) := dk_20 0 135 (dk_at dksJ10_copySign_2_0 12 rfl rfl)
theorem dJ10_copySign_2_15 : decode cJ10_copySign_2 15 = .ok (.land, 1) := dk_127 (dk_at dksJ10_copySign_2_0 15 rfl rfl)
theorem dJ10_copySign_2_16 : decode cJ10_copySign_2 16 = .ok (.lor, 1) := dk_129 (dk_at dksJ10_copySign_2_0 16 rfl rfl)
theorem dJ10_copySign_2_17 : decode cJ10_copySign_2 17 = .ok (.invokestatic 166, 3) := dk_184 0 166 (dk_at dksJ10_copySign_2_0 17 rfl rfl)
theorem dJ10_copySign_2_20 : decode cJ10_copySign_2 20 = .ok (.dreturn, 1) := dk_175 (dk_at dksJ10_copySign_2_0 20 rfl rfl)
abbrev cJ10_scalb : ByteArray := prog_21_method_100_code
def yJ10_scalb : MethodName := ⟨RJ10, "scalb", "(FI)F"⟩
def dkwJ10_scalb_1 : List UInt8 := [107, 144, 174]
abbrev dktJ10_scalb_1 : List UInt8 := dkwJ10_scalb_1 ++ []
def dkwJ10_scalb_0 : List UInt8 := [17, 1, 22, 61, 27, 17, 1, 22, 184, 1, 84, 17, 254, 234, 184, 1, 77, 60, 34, 141, 27, 184, 1, 30]
abbrev dktJ10_scalb_0 : List UInt8 := dkwJ10_scalb_0 ++ dktJ10_scalb_1
theorem dksJ10_scalb_0 : cJ10_scalb.data.toList.drop 0 = dktJ10_scalb_0 := by decide +kernel
theorem dksJ10_scalb_1 : cJ10_scalb.data.toList.drop 24 = dktJ10_scalb_1 := dk_seg dksJ10_scalb_0 24 rfl rfl
theorem dJ10_scalb_0 : decode cJ10_scalb 0 = .ok (.sipush 278, 3) := dk_17 1 22 (dk_at dksJ10_scalb_0 0 rfl rfl)
theorem dJ10_scalb_3 : decode cJ10_scalb 3 = .ok (.istore_n 2, 1) := dk_61 (dk_at dksJ10_scalb_0 3 rfl rfl)
theorem dJ10_scalb_4 : decode cJ10_scalb 4 = .ok (.iload_n 1, 1) := dk_27 (dk_at dksJ10_scalb_0 4 rfl rfl)
theorem dJ10_scalb_5 : decode cJ10_scalb 5 = .ok (.sipush 278, 3) := dk_17 1 22 (dk_at dksJ10_scalb_0 5 rfl rfl)
theorem dJ10_scalb_8 : decode cJ10_scalb 8 = .ok (.invokestatic 340, 3) := dk_184 1 84 (dk_at dksJ10_scalb_0 8 rfl rfl)
theorem dJ10_scalb_11 : decode cJ10_scalb 11 = .ok (.sipush (-278), 3) := dk_17 254 234 (dk_at dksJ10_scalb_0 11 rfl rfl)
theorem dJ10_scalb_14 : decode cJ10_scalb 14 = .ok (.invokestatic 333, 3) := dk_184 1 77 (dk_at dksJ10_scalb_0 14 rfl rfl)
theorem dJ10_scalb_17 : decode cJ10_scalb 17 = .ok (.istore_n 1, 1) := dk_60 (dk_at dksJ10_scalb_0 17 rfl rfl)
theorem dJ10_scalb_18 : decode cJ10_scalb 18 = .ok (.fload_n 0, 1) := dk_34 (dk_at dksJ10_scalb_0 18 rfl rfl)
theorem dJ10_scalb_19 : decode cJ10_scalb 19 = .ok (.f2d, 1) := dk_141 (dk_at dksJ10_scalb_0 19 rfl rfl)
theorem dJ10_scalb_20 : decode cJ10_scalb 20 = .ok (.iload_n 1, 1) := dk_27 (dk_at dksJ10_scalb_0 20 rfl rfl)
theorem dJ10_scalb_21 : decode cJ10_scalb 21 = .ok (.invokestatic 286, 3) := dk_184 1 30 (dk_at dksJ10_scalb_0 21 rfl rfl)
theorem dJ10_scalb_24 : decode cJ10_scalb 24 = .ok (.dmul, 1) := dk_107 (dk_at dksJ10_scalb_1 0 rfl rfl)
theorem dJ10_scalb_25 : decode cJ10_scalb 25 = .ok (.d2f, 1) := dk_144 (dk_at dksJ10_scalb_1 1 rfl rfl)
theorem dJ10_scalb_26 : decode cJ10_scalb 26 = .ok (.freturn, 1) := dk_174 (dk_at dksJ10_scalb_1 2 rfl rfl)
abbrev cJ10_powerOfTwoD : ByteArray := prog_21_method_101_code
def yJ10_powerOfTwoD : MethodName := ⟨RJ10, "powerOfTwoD", "(I)D"⟩
def dkwJ10_powerOfTwoD_1 : List UInt8 := [183, 0, 249, 191, 26, 133, 20, 1, 66, 97, 16, 52, 121, 20, 0, 87, 127, 184, 0, 166, 175]
abbrev dktJ10_powerOfTwoD_1 : List UInt8 := dkwJ10_powerOfTwoD_1 ++ []
def dkwJ10_powerOfTwoD_0 : List UInt8 := [178, 0, 243, 154, 0, 25, 26, 17, 252, 2, 161, 0, 10, 26, 17, 3, 255, 164, 0, 11, 187, 0, 247, 89]
abbrev dktJ10_powerOfTwoD_0 : List UInt8 := dkwJ10_powerOfTwoD_0 ++ dktJ10_powerOfTwoD_1
theorem dksJ10_powerOfTwoD_0 : cJ10_powerOfTwoD.data.toList.drop 0 = dktJ10_powerOfTwoD_0 := by decide +kernel
theorem dksJ10_powerOfTwoD_1 : cJ10_powerOfTwoD.data.toList.drop 24 = dktJ10_powerOfTwoD_1 := dk_seg dksJ10_powerOfTwoD_0 24 rfl rfl
theorem dJ10_powerOfTwoD_0 : decode cJ10_powerOfTwoD 0 = .ok (.getstatic 243, 3) := dk_178 0 243 (dk_at dksJ10_powerOfTwoD_0 0 rfl rfl)
theorem dJ10_powerOfTwoD_3 : decode cJ10_powerOfTwoD 3 = .ok (.ifCond .ne 25, 3) := dk_154 0 25 (dk_at dksJ10_powerOfTwoD_0 3 rfl rfl)
theorem dJ10_powerOfTwoD_6 : decode cJ10_powerOfTwoD 6 = .ok (.iload_n 0, 1) := dk_26 (dk_at dksJ10_powerOfTwoD_0 6 rfl rfl)
theorem dJ10_powerOfTwoD_7 : decode cJ10_powerOfTwoD 7 = .ok (.sipush (-1022), 3) := dk_17 252 2 (dk_at dksJ10_powerOfTwoD_0 7 rfl rfl)
theorem dJ10_powerOfTwoD_10 : decode cJ10_powerOfTwoD 10 = .ok (.if_icmp .lt 10, 3) := dk_161 0 10 (dk_at dksJ10_powerOfTwoD_0 10 rfl rfl)
theorem dJ10_powerOfTwoD_13 : decode cJ10_powerOfTwoD 13 = .ok (.iload_n 0, 1) := dk_26 (dk_at dksJ10_powerOfTwoD_0 13 rfl rfl)
theorem dJ10_powerOfTwoD_14 : decode cJ10_powerOfTwoD 14 = .ok (.sipush 1023, 3) := dk_17 3 255 (dk_at dksJ10_powerOfTwoD_0 14 rfl rfl)
theorem dJ10_powerOfTwoD_17 : decode cJ10_powerOfTwoD 17 = .ok (.if_icmp .le 11, 3) := dk_164 0 11 (dk_at dksJ10_powerOfTwoD_0 17 rfl rfl)
theorem dJ10_powerOfTwoD_20 : decode cJ10_powerOfTwoD 20 = .ok (.new 247, 3) := dk_187 0 247 (dk_at dksJ10_powerOfTwoD_0 20 rfl rfl)
theorem dJ10_powerOfTwoD_23 : decode cJ10_powerOfTwoD 23 = .ok (.dup, 1) := dk_89 (dk_at dksJ10_powerOfTwoD_0 23 rfl rfl)
theorem dJ10_powerOfTwoD_24 : decode cJ10_powerOfTwoD 24 = .ok (.invokespecial 249, 3) := dk_183 0 249 (dk_at dksJ10_powerOfTwoD_1 0 rfl rfl)
theorem dJ10_powerOfTwoD_27 : decode cJ10_powerOfTwoD 27 = .ok (.athrow, 1) := dk_191 (dk_at dksJ10_powerOfTwoD_1 3 rfl rfl)
theorem dJ10_powerOfTwoD_28 : decode cJ10_powerOfTwoD 28 = .ok (.iload_n 0, 1) := dk_26 (dk_at dksJ10_powerOfTwoD_1 4 rfl rfl)
theorem dJ10_powerOfTwoD_29 : decode cJ10_powerOfTwoD 29 = .ok (.i2l, 1) := dk_133 (dk_at dksJ10_powerOfTwoD_1 5 rfl rfl)
theorem dJ10_powerOfTwoD_30 : decode cJ10_powerOfTwoD 30 = .ok (.ldc2_w 322, 3) := dk_20 1 66 (dk_at dksJ10_powerOfTwoD_1 6 rfl rfl)
theorem dJ10_powerOfTwoD_33 : decode cJ10_powerOfTwoD 33 = .ok (.ladd, 1) := dk_97 (dk_at dksJ10_powerOfTwoD_1 9 rfl rfl)
theorem dJ10_powerOfTwoD_34 : decode cJ10_powerOfTwoD 34 = .ok (.bipush 52, 2) := dk_16 52 (dk_at dksJ10_powerOfTwoD_1 10 rfl rfl)
theorem dJ10_powerOfTwoD_36 : decode cJ10_powerOfTwoD 36 = .ok (.lshl, 1) := dk_121 (dk_at dksJ10_powerOfTwoD_1 12 rfl rfl)
theorem dJ10_powerOfTwoD_37 : decode cJ10_powerOfTwoD 37 = .ok (.ldc2_w 87, 3) := dk_20 0 87 (dk_at dksJ10_powerOfTwoD_1 13 rfl rfl)
theorem dJ10_powerOfTwoD_40 : decode cJ10_powerOfTwoD 40 = .ok (.land, 1) := dk_127 (dk_at dksJ10_powerOfTwoD_1 16 rfl rfl)
theorem dJ10_powerOfTwoD_41 : decode cJ10_powerOfTwoD 41 = .ok (.invokestatic 166, 3) := dk_184 0 166 (dk_at dksJ10_powerOfTwoD_1 17 rfl rfl)
theorem dJ10_powerOfTwoD_44 : decode cJ10_powerOfTwoD 44 = .ok (.dreturn, 1) := dk_175 (dk_at dksJ10_powerOfTwoD_1 20 rfl rfl)
abbrev cJ10_scalb_2 : ByteArray := prog_21_method_99_code
def yJ10_scalb_2 : MethodName := ⟨RJ10, "scalb", "(DI)D"⟩
def dkwJ10_scalb_2_4 : List UInt8 := [153, 0, 16, 38, 24, 6, 107, 71, 28, 21, 5, 100, 61, 167, 255, 242, 38, 175]
abbrev dktJ10_scalb_2_4 : List UInt8 := dkwJ10_scalb_2_4 ++ []
def dkwJ10_scalb_2_3 : List UInt8 := [17, 1, 255, 126, 21, 8, 100, 54, 4, 38, 21, 4, 184, 1, 30, 107, 71, 28, 21, 4, 100, 61, 28]
abbrev dktJ10_scalb_2_3 : List UInt8 := dkwJ10_scalb_2_3 ++ dktJ10_scalb_2_4
def dkwJ10_scalb_2_2 : List UInt8 := [61, 17, 2, 0, 54, 5, 178, 1, 86, 57, 6, 28, 16, 8, 122, 16, 23, 124, 54, 8, 28, 21, 8, 96]
abbrev dktJ10_scalb_2_2 : List UInt8 := dkwJ10_scalb_2_2 ++ dktJ10_scalb_2_3
def dkwJ10_scalb_2_1 : List UInt8 := [184, 1, 77, 61, 17, 254, 0, 54, 5, 178, 1, 80, 57, 6, 167, 0, 21, 28, 17, 8, 51, 184, 1, 84]
abbrev dktJ10_scalb_2_1 : List UInt8 := dkwJ10_scalb_2_1 ++ dktJ10_scalb_2_2
def dkwJ10_scalb_2_0 : List UInt8 := [17, 8, 51, 62, 3, 54, 4, 3, 54, 5, 20, 0, 238, 57, 6, 28, 156, 0, 24, 28, 17, 247, 205]
abbrev dktJ10_scalb_2_0 : List UInt8 := dkwJ10_scalb_2_0 ++ dktJ10_scalb_2_1
theorem dksJ10_scalb_2_0 : cJ10_scalb_2.data.toList.drop 0 = dktJ10_scalb_2_0 := by decide +kernel
theorem dksJ10_scalb_2_1 : cJ10_scalb_2.data.toList.drop 23 = dktJ10_scalb_2_1 := dk_seg dksJ10_scalb_2_0 23 rfl rfl
theorem dksJ10_scalb_2_2 : cJ10_scalb_2.data.toList.drop 47 = dktJ10_scalb_2_2 := dk_seg dksJ10_scalb_2_1 24 rfl rfl
theorem dksJ10_scalb_2_3 : cJ10_scalb_2.data.toList.drop 71 = dktJ10_scalb_2_3 := dk_seg dksJ10_scalb_2_2 24 rfl rfl
theorem dksJ10_scalb_2_4 : cJ10_scalb_2.data.toList.drop 94 = dktJ10_scalb_2_4 := dk_seg dksJ10_scalb_2_3 23 rfl rfl
theorem dJ10_scalb_2_0 : decode cJ10_scalb_2 0 = .ok (.sipush 2099, 3) := dk_17 8 51 (dk_at dksJ10_scalb_2_0 0 rfl rfl)
theorem dJ10_scalb_2_3 : decode cJ10_scalb_2 3 = .ok (.istore_n 3, 1) := dk_62 (dk_at dksJ10_scalb_2_0 3 rfl rfl)
theorem dJ10_scalb_2_4 : decode cJ10_scalb_2 4 = .ok (.iconst 0, 1) := dk_3 (dk_at dksJ10_scalb_2_0 4 rfl rfl)
theorem dJ10_scalb_2_5 : decode cJ10_scalb_2 5 = .ok (.istore 4, 2) := dk_54 4 (dk_at dksJ10_scalb_2_0 5 rfl rfl)
theorem dJ10_scalb_2_7 : decode cJ10_scalb_2 7 = .ok (.iconst 0, 1) := dk_3 (dk_at dksJ10_scalb_2_0 7 rfl rfl)
theorem dJ10_scalb_2_8 : decode cJ10_scalb_2 8 = .ok (.istore 5, 2) := dk_54 5 (dk_at dksJ10_scalb_2_0 8 rfl rfl)
theorem dJ10_scalb_2_10 : decode cJ10_scalb_2 10 = .ok (.ldc2_w 238, 3) := dk_20 0 238 (dk_at dksJ10_scalb_2_0 10 rfl rfl)
theorem dJ10_scalb_2_13 : decode cJ10_scalb_2 13 = .ok (.dstore 6, 2) := dk_57 6 (dk_at dksJ10_scalb_2_0 13 rfl rfl)
theorem dJ10_scalb_2_15 : decode cJ10_scalb_2 15 = .ok (.iload_n 2, 1) := dk_28 (dk_at dksJ10_scalb_2_0 15 rfl rfl)
theorem dJ10_scalb_2_16 : decode cJ10_scalb_2 16 = .ok (.ifCond .ge 24, 3) := dk_156 0 24 (dk_at dksJ10_scalb_2_0 16 rfl rfl)
theorem dJ10_scalb_2_19 : decode cJ10_scalb_2 19 = .ok (.iload_n 2, 1) := dk_28 (dk_at dksJ10_scalb_2_0 19 rfl rfl)
theorem dJ10_scalb_2_20 : decode cJ10_scalb_2 20 = .ok (.sipush (-2099), 3) := dk_17 247 205 (dk_at dksJ10_scalb_2_0 20 rfl rfl)
theorem dJ10_scalb_2_23 : decode cJ10_scalb_2 23 = .ok (.invokestatic 333, 3) := dk_184 1 77 (dk_at dksJ10_scalb_2_1 0 rfl rfl)
theorem dJ10_scalb_2_26 : decode cJ10_scalb_2 26 = .ok (.istore_n 2, 1) := dk_61 (dk_at dksJ10_scalb_2_1 3 rfl rfl)
theorem dJ10_scalb_2_27 : decode cJ10_scalb_2 27 = .ok (.sipush (-512), 3) := dk_17 254 0 (dk_at dksJ10_scalb_2_1 4 rfl rfl)
theorem dJ10_scalb_2_30 : decode cJ10_scalb_2 30 = .ok (.istore 5, 2) := dk_54 5 (dk_at dksJ10_scalb_2_1 7 rfl rfl)
theorem dJ10_scalb_2_32 : decode cJ10_scalb_2 32 = .ok (.getstatic 336, 3) := dk_178 1 80 (dk_at dksJ10_scalb_2_1 9 rfl rfl)
theorem dJ10_scalb_2_35 : decode cJ10_scalb_2 35 = .ok (.dstore 6, 2) := dk_57 6 (dk_at dksJ10_scalb_2_1 12 rfl rfl)
theorem dJ10_scalb_2_37 : decode cJ10_scalb_2 37 = .ok (.goto 21, 3) := dk_167 0 21 (dk_at dksJ10_scalb_2_1 14 rfl rfl)
theorem dJ10_scalb_2_40 : decode cJ10_scalb_2 40 = .ok (.iload_n 2, 1) := dk_28 (dk_at dksJ10_scalb_2_1 17 rfl rfl)
theorem dJ10_scalb_2_41 : decode cJ10_scalb_2 41 = .ok (.sipush 2099, 3) := dk_17 8 51 (dk_at dksJ10_scalb_2_1 18 rfl rfl)
theorem dJ10_scalb_2_44 : decode cJ10_scalb_2 44 = .ok (.invokestatic 340, 3) := dk_184 1 84 (dk_at dksJ10_scalb_2_1 21 rfl rfl)
theorem dJ10_scalb_2_47 : decode cJ10_scalb_2 47 = .ok (.istore_n 2, 1) := dk_61 (dk_at dksJ10_scalb_2_2 0 rfl rfl)
theorem dJ10_scalb_2_48 : decode cJ10_scalb_2 48 = .ok (.sipush 512, 3) := dk_17 2 0 (dk_at dksJ10_scalb_2_2 1 rfl rfl)
theorem dJ10_scalb_2_51 : decode cJ10_scalb_2 51 = .ok (.istore 5, 2) := dk_54 5 (dk_at dksJ10_scalb_2_2 4 rfl rfl)
theorem dJ10_scalb_2_53 : decode cJ10_scalb_2 53 = .ok (.getstatic 342, 3) := dk_178 1 86 (dk_at dksJ10_scalb_2_2 6 rfl rfl)
theorem dJ10_scalb_2_56 : decode cJ10_scalb_2 56 = .ok (.dstore 6, 2) := dk_57 6 (dk_at dksJ10_scalb_2_2 9 rfl rfl)
theorem dJ10_scalb_2_58 : decode cJ10_scalb_2 58 = .ok (.iload_n 2, 1) := dk_28 (dk_at dksJ10_scalb_2_2 11 rfl rfl)
theorem dJ10_scalb_2_59 : decode cJ10_scalb_2 59 = .ok (.bipush 8, 2) := dk_16 8 (dk_at dksJ10_scalb_2_2 12 rfl rfl)
theorem dJ10_scalb_2_61 : decode cJ10_scalb_2 61 = .ok (.ishr, 1) := dk_122 (dk_at dksJ10_scalb_2_2 14 rfl rfl)
theorem dJ10_scalb_2_62 : decode cJ10_scalb_2 62 = .ok (.bipush 23, 2) := dk_16 23 (dk_at dksJ10_scalb_2_2 15 rfl rfl)
theorem dJ10_scalb_2_64 : decode cJ10_scalb_2 64 = .ok (.iushr, 1) := dk_124 (dk_at dksJ10_scalb_2_2 17 rfl rfl)
theorem dJ10_scalb_2_65 : decode cJ10_scalb_2 65 = .ok (.istore 8, 2) := dk_54 8 (dk_at dksJ10_scalb_2_2 18 rfl rfl)
theorem dJ10_scalb_2_67 : decode cJ10_scalb_2 67 = .ok (.iload_n 2, 1) := dk_28 (dk_at dksJ10_scalb_2_2 20 rfl rfl)
theorem dJ10_scalb_2_68 : decode cJ10_scalb_2 68 = .ok (.iload 8, 2) := dk_21 8 (dk_at dksJ10_scalb_2_2 21 rfl rfl)
theorem dJ10_scalb_2_70 : decode cJ10_scalb_2 70 = .ok (.iadd, 1) := dk_96 (dk_at dksJ10_scalb_2_2 23 rfl rfl)
theorem dJ10_scalb_2_71 : decode cJ10_scalb_2 71 = .ok (.sipush 511, 3) := dk_17 1 255 (dk_at dksJ10_scalb_2_3 0 rfl rfl)
theorem dJ10_scalb_2_74 : decode cJ10_scalb_2 74 = .ok (.iand, 1) := dk_126 (dk_at dksJ10_scalb_2_3 3 rfl rfl)
theorem dJ10_scalb_2_75 : decode cJ10_scalb_2 75 = .ok (.iload 8, 2) := dk_21 8 (dk_at dksJ10_scalb_2_3 4 rfl rfl)
theorem dJ10_scalb_2_77 : decode cJ10_scalb_2 77 = .ok (.isub, 1) := dk_100 (dk_at dksJ10_scalb_2_3 6 rfl rfl)
theorem dJ10_scalb_2_78 : decode cJ10_scalb_2 78 = .ok (.istore 4, 2) := dk_54 4 (dk_at dksJ10_scalb_2_3 7 rfl rfl)
theorem dJ10_scalb_2_80 : decode cJ10_scalb_2 80 = .ok (.dload_n 0, 1) := dk_38 (dk_at dksJ10_scalb_2_3 9 rfl rfl)
theorem dJ10_scalb_2_81 : decode cJ10_scalb_2 81 = .ok (.iload 4, 2) := dk_21 4 (dk_at dksJ10_scalb_2_3 10 rfl rfl)
theorem dJ10_scalb_2_83 : decode cJ10_scalb_2 83 = .ok (.invokestatic 286, 3) := dk_184 1 30 (dk_at dksJ10_scalb_2_3 12 rfl rfl)
theorem dJ10_scalb_2_86 : decode cJ10_scalb_2 86 = .ok (.dmul, 1) := dk_107 (dk_at dksJ10_scalb_2_3 15 rfl rfl)
theorem dJ10_scalb_2_87 : decode cJ10_scalb_2 87 = .ok (.dstore_n 0, 1) := dk_71 (dk_at dksJ10_scalb_2_3 16 rfl rfl)
theorem dJ10_scalb_2_88 : decode cJ10_scalb_2 88 = .ok (.iload_n 2, 1) := dk_28 (dk_at dksJ10_scalb_2_3 17 rfl rfl)
theorem dJ10_scalb_2_89 : decode cJ10_scalb_2 89 = .ok (.iload 4, 2) := dk_21 4 (dk_at dksJ10_scalb_2_3 18 rfl rfl)
theorem dJ10_scalb_2_91 : decode cJ10_scalb_2 91 = .ok (.isub, 1) := dk_100 (dk_at dksJ10_scalb_2_3 20 rfl rfl)
theorem dJ10_scalb_2_92 : decode cJ10_scalb_2 92 = .ok (.istore_n 2, 1) := dk_61 (dk_at dksJ10_scalb_2_3 21 rfl rfl)
theorem dJ10_scalb_2_93 : decode cJ10_scalb_2 93 = .ok (.iload_n 2, 1) := dk_28 (dk_at dksJ10_scalb_2_3 22 rfl rfl)
theorem dJ10_scalb_2_94 : decode cJ10_scalb_2 94 = .ok (.ifCond .eq 16, 3) := dk_153 0 16 (dk_at dksJ10_scalb_2_4 0 rfl rfl)
theorem dJ10_scalb_2_97 : decode cJ10_scalb_2 97 = .ok (.dload_n 0, 1) := dk_38 (dk_at dksJ10_scalb_2_4 3 rfl rfl)
theorem dJ10_scalb_2_98 : decode cJ10_scalb_2 98 = .ok (.dload 6, 2) := dk_24 6 (dk_at dksJ10_scalb_2_4 4 rfl rfl)
theorem dJ10_scalb_2_100 : decode cJ10_scalb_2 100 = .ok (.dmul, 1) := dk_107 (dk_at dksJ10_scalb_2_4 6 rfl rfl)
theorem dJ10_scalb_2_101 : decode cJ10_scalb_2 101 = .ok (.dstore_n 0, 1) := dk_71 (dk_at dksJ10_scalb_2_4 7 rfl rfl)
theorem dJ10_scalb_2_102 : decode cJ10_scalb_2 102 = .ok (.iload_n 2, 1) := dk_28 (dk_at dksJ10_scalb_2_4 8 rfl rfl)
theorem dJ10_scalb_2_103 : decode cJ10_scalb_2 103 = .ok (.iload 5, 2) := dk_21 5 (dk_at dksJ10_scalb_2_4 9 rfl rfl)
theorem dJ10_scalb_2_105 : decode cJ10_scalb_2 105 = .ok (.isub, 1) := dk_100 (dk_at dksJ10_scalb_2_4 11 rfl rfl)
theorem dJ10_scalb_2_106 : decode cJ10_scalb_2 106 = .ok (.istore_n 2, 1) := dk_61 (dk_at dksJ10_scalb_2_4 12 rfl rfl)
theorem dJ10_scalb_2_107 : decode cJ10_scalb_2 107 = .ok (.goto (-14), 3) := dk_167 255 242 (dk_at dksJ10_scalb_2_4 13 rfl rfl)
theorem dJ10_scalb_2_110 : decode cJ10_scalb_2 110 = .ok (.dload_n 0, 1) := dk_38 (dk_at dksJ10_scalb_2_4 16 rfl rfl)
theorem dJ10_scalb_2_111 : decode cJ10_scalb_2 111 = .ok (.dreturn, 1) := dk_175 (dk_at dksJ10_scalb_2_4 17 rfl rfl)
abbrev cJ10_abs : ByteArray := prog_21_method_59_code
def yJ10_abs : MethodName := ⟨RJ10, "abs", "(I)I"⟩
def dkwJ10_abs_0 : List UInt8 := [26, 156, 0, 8, 26, 116, 167, 0, 4, 26, 172]
abbrev dktJ10_abs_0 : List UInt8 := dkwJ10_abs_0 ++ []
theorem dksJ10_abs_0 : cJ10_abs.data.toList.drop 0 = dktJ10_abs_0 := by decide +kernel
theorem dJ10_abs_0 : decode cJ10_abs 0 = .ok (.iload_n 0, 1) := dk_26 (dk_at dksJ10_abs_0 0 rfl rfl)
theorem dJ10_abs_1 : decode cJ10_abs 1 = .ok (.ifCond .ge 8, 3) := dk_156 0 8 (dk_at dksJ10_abs_0 1 rfl rfl)
theorem dJ10_abs_4 : decode cJ10_abs 4 = .ok (.iload_n 0, 1) := dk_26 (dk_at dksJ10_abs_0 4 rfl rfl)
theorem dJ10_abs_5 : decode cJ10_abs 5 = .ok (.ineg, 1) := dk_116 (dk_at dksJ10_abs_0 5 rfl rfl)
theorem dJ10_abs_6 : decode cJ10_abs 6 = .ok (.goto 4, 3) := dk_167 0 4 (dk_at dksJ10_abs_0 6 rfl rfl)
theorem dJ10_abs_9 : decode cJ10_abs 9 = .ok (.iload_n 0, 1) := dk_26 (dk_at dksJ10_abs_0 9 rfl rfl)
theorem dJ10_abs_10 : decode cJ10_abs 10 = .ok (.ireturn, 1) := dk_172 (dk_at dksJ10_abs_0 10 rfl rfl)
abbrev cJ10_abs_2 : ByteArray := prog_21_method_61_code
def yJ10_abs_2 : MethodName := ⟨RJ10, "abs", "(J)J"⟩
def dkwJ10_abs_2_0 : List UInt8 := [30, 9, 148, 156, 0, 8, 30, 117, 167, 0, 4, 30, 173]
abbrev dktJ10_abs_2_0 : List UInt8 := dkwJ10_abs_2_0 ++ []
theorem dksJ10_abs_2_0 : cJ10_abs_2.data.toList.drop 0 = dktJ10_abs_2_0 := by decide +kernel
theorem dJ10_abs_2_0 : decode cJ10_abs_2 0 = .ok (.lload_n 0, 1) := dk_30 (dk_at dksJ10_abs_2_0 0 rfl rfl)
theorem dJ10_abs_2_1 : decode cJ10_abs_2 1 = .ok (.lconst 0, 1) := dk_9 (dk_at dksJ10_abs_2_0 1 rfl rfl)
theorem dJ10_abs_2_2 : decode cJ10_abs_2 2 = .ok (.lcmp, 1) := dk_148 (dk_at dksJ10_abs_2_0 2 rfl rfl)
theorem dJ10_abs_2_3 : decode cJ10_abs_2 3 = .ok (.ifCond .ge 8, 3) := dk_156 0 8 (dk_at dksJ10_abs_2_0 3 rfl rfl)
theorem dJ10_abs_2_6 : decode cJ10_abs_2 6 = .ok (.lload_n 0, 1) := dk_30 (dk_at dksJ10_abs_2_0 6 rfl rfl)
theorem dJ10_abs_2_7 : decode cJ10_abs_2 7 = .ok (.lneg, 1) := dk_117 (dk_at dksJ10_abs_2_0 7 rfl rfl)
theorem dJ10_abs_2_8 : decode cJ10_abs_2 8 = .ok (.goto 4, 3) := dk_167 0 4 (dk_at dksJ10_abs_2_0 8 rfl rfl)
theorem dJ10_abs_2_11 : decode cJ10_abs_2 11 = .ok (.lload_n 0, 1) := dk_30 (dk_at dksJ10_abs_2_0 11 rfl rfl)
theorem dJ10_abs_2_12 : decode cJ10_abs_2 12 = .ok (.lreturn, 1) := dk_173 (dk_at dksJ10_abs_2_0 12 rfl rfl)
abbrev cJ10_abs_3 : ByteArray := prog_21_method_63_code
def yJ10_abs_3 : MethodName := ⟨RJ10, "abs", "(F)F"⟩
def dkwJ10_abs_3_0 : List UInt8 := [34, 184, 0, 68, 18, 134, 126, 184, 0, 162, 174]
abbrev dktJ10_abs_3_0 : List UInt8 := dkwJ10_abs_3_0 ++ []
theorem dksJ10_abs_3_0 : cJ10_abs_3.data.toList.drop 0 = dktJ10_abs_3_0 := by decide +kernel
theorem dJ10_abs_3_0 : decode cJ10_abs_3 0 = .ok (.fload_n 0, 1) := dk_34 (dk_at dksJ10_abs_3_0 0 rfl rfl)
theorem dJ10_abs_3_1 : decode cJ10_abs_3 1 = .ok (.invokestatic 68, 3) := dk_184 0 68 (dk_at dksJ10_abs_3_0 1 rfl rfl)
theorem dJ10_abs_3_4 : decode cJ10_abs_3 4 = .ok (.ldc 134, 2) := dk_18 134 (dk_at dksJ10_abs_3_0 4 rfl rfl)
theorem dJ10_abs_3_6 : decode cJ10_abs_3 6 = .ok (.iand, 1) := dk_126 (dk_at dksJ10_abs_3_0 6 rfl rfl)
theorem dJ10_abs_3_7 : decode cJ10_abs_3 7 = .ok (.invokestatic 162, 3) := dk_184 0 162 (dk_at dksJ10_abs_3_0 7 rfl rfl)
theorem dJ10_abs_3_10 : decode cJ10_abs_3 10 = .ok (.freturn, 1) := dk_174 (dk_at dksJ10_abs_3_0 10 rfl rfl)
abbrev cJ10_abs_4 : ByteArray := prog_21_method_64_code
def yJ10_abs_4 : MethodName := ⟨RJ10, "abs", "(D)D"⟩
def dkwJ10_abs_4_0 : List UInt8 := [38, 184, 0, 79, 20, 0, 135, 127, 184, 0, 166, 175]
abbrev dktJ10_abs_4_0 : List UInt8 := dkwJ10_abs_4_0 ++ []
theorem dksJ10_abs_4_0 : cJ10_abs_4.data.toList.drop 0 = dktJ10_abs_4_0 := by decide +kernel
theorem dJ10_abs_4_0 : decode cJ10_abs_4 0 = .ok (.dload_n 0, 1) := dk_38 (dk_at dksJ10_abs_4_0 0 rfl rfl)
theorem dJ10_abs_4_1 : decode cJ10_abs_4 1 = .ok (.invokestatic 79, 3) := dk_184 0 79 (dk_at dksJ10_abs_4_0 1 rfl rfl)
theorem dJ10_abs_4_4 : decode cJ10_abs_4 4 = .ok (.ldc2_w 135, 3) := dk_20 0 135 (dk_at dksJ10_abs_4_0 4 rfl rfl)
theorem dJ10_abs_4_7 : decode cJ10_abs_4 7 = .ok (.land, 1) := dk_127 (dk_at dksJ10_abs_4_0 7 rfl rfl)
theorem dJ10_abs_4_8 : decode cJ10_abs_4 8 = .ok (.invokestatic 166, 3) := dk_184 0 166 (dk_at dksJ10_abs_4_0 8 rfl rfl)
theorem dJ10_abs_4_11 : decode cJ10_abs_4 11 = .ok (.dreturn, 1) := dk_175 (dk_at dksJ10_abs_4_0 11 rfl rfl)
abbrev cJ10_round : ByteArray := prog_21_method_21_code
def yJ10_round : MethodName := ⟨RJ10, "round", "(F)I"⟩
def dkwJ10_round_2 : List UInt8 := [122, 4, 96, 4, 122, 172, 34, 139, 172]
abbrev dktJ10_round_2 : List UInt8 := dkwJ10_round_2 ++ []
def dkwJ10_round_1 : List UInt8 := [154, 0, 30, 27, 18, 77, 126, 18, 78, 128, 54, 4, 27, 156, 0, 8, 21, 4, 116, 54, 4, 21, 4, 29]
abbrev dktJ10_round_1 : List UInt8 := dkwJ10_round_1 ++ dktJ10_round_2
def dkwJ10_round_0 : List UInt8 := [34, 184, 0, 68, 60, 27, 18, 76, 126, 16, 23, 122, 61, 17, 0, 149, 28, 100, 62, 29, 16, 224, 126]
abbrev dktJ10_round_0 : List UInt8 := dkwJ10_round_0 ++ dktJ10_round_1
theorem dksJ10_round_0 : cJ10_round.data.toList.drop 0 = dktJ10_round_0 := by decide +kernel
theorem dksJ10_round_1 : cJ10_round.data.toList.drop 23 = dktJ10_round_1 := dk_seg dksJ10_round_0 23 rfl rfl
theorem dksJ10_round_2 : cJ10_round.data.toList.drop 47 = dktJ10_round_2 := dk_seg dksJ10_round_1 24 rfl rfl
theorem dJ10_round_0 : decode cJ10_round 0 = .ok (.fload_n 0, 1) := dk_34 (dk_at dksJ10_round_0 0 rfl rfl)
theorem dJ10_round_1 : decode cJ10_round 1 = .ok (.invokestatic 68, 3) := dk_184 0 68 (dk_at dksJ10_round_0 1 rfl rfl)
theorem dJ10_round_4 : decode cJ10_round 4 = .ok (.istore_n 1, 1) := dk_60 (dk_at dksJ10_round_0 4 rfl rfl)
theorem dJ10_round_5 : decode cJ10_round 5 = .ok (.iload_n 1, 1) := dk_27 (dk_at dksJ10_round_0 5 rfl rfl)
theorem dJ10_round_6 : decode cJ10_round 6 = .ok (.ldc 76, 2) := dk_18 76 (dk_at dksJ10_round_0 6 rfl rfl)
theorem dJ10_round_8 : decode cJ10_round 8 = .ok (.iand, 1) := dk_126 (dk_at dksJ10_round_0 8 rfl rfl)
theorem dJ10_round_9 : decode cJ10_round 9 = .ok (.bipush 23, 2) := dk_16 23 (dk_at dksJ10_round_0 9 rfl rfl)
theorem dJ10_round_11 : decode cJ10_round 11 = .ok (.ishr, 1) := dk_122 (dk_at dksJ10_round_0 11 rfl rfl)
theorem dJ10_round_12 : decode cJ10_round 12 = .ok (.istore_n 2, 1) := dk_61 (dk_at dksJ10_round_0 12 rfl rfl)
theorem dJ10_round_13 : decode cJ10_round 13 = .ok (.sipush 149, 3) := dk_17 0 149 (dk_at dksJ10_round_0 13 rfl rfl)
theorem dJ10_round_16 : decode cJ10_round 16 = .ok (.iload_n 2, 1) := dk_28 (dk_at dksJ10_round_0 16 rfl rfl)
theorem dJ10_round_17 : decode cJ10_round 17 = .ok (.isub, 1) := dk_100 (dk_at dksJ10_round_0 17 rfl rfl)
theorem dJ10_round_18 : decode cJ10_round 18 = .ok (.istore_n 3, 1) := dk_62 (dk_at dksJ10_round_0 18 rfl rfl)
theorem dJ10_round_19 : decode cJ10_round 19 = .ok (.iload_n 3, 1) := dk_29 (dk_at dksJ10_round_0 19 rfl rfl)
theorem dJ10_round_20 : decode cJ10_round 20 = .ok (.bipush (-32), 2) := dk_16 224 (dk_at dksJ10_round_0 20 rfl rfl)
theorem dJ10_round_22 : decode cJ10_round 22 = .ok (.iand, 1) := dk_126 (dk_at dksJ10_round_0 22 rfl rfl)
theorem dJ10_round_23 : decode cJ10_round 23 = .ok (.ifCond .ne 30, 3) := dk_154 0 30 (dk_at dksJ10_round_1 0 rfl rfl)
theorem dJ10_round_26 : decode cJ10_round 26 = .ok (.iload_n 1, 1) := dk_27 (dk_at dksJ10_round_1 3 rfl rfl)
theorem dJ10_round_27 : decode cJ10_round 27 = .ok (.ldc 77, 2) := dk_18 77 (dk_at dksJ10_round_1 4 rfl rfl)
theorem dJ10_round_29 : decode cJ10_round 29 = .ok (.iand, 1) := dk_126 (dk_at dksJ10_round_1 6 rfl rfl)
theorem dJ10_round_30 : decode cJ10_round 30 = .ok (.ldc 78, 2) := dk_18 78 (dk_at dksJ10_round_1 7 rfl rfl)
theorem dJ10_round_32 : decode cJ10_round 32 = .ok (.ior, 1) := dk_128 (dk_at dksJ10_round_1 9 rfl rfl)
theorem dJ10_round_33 : decode cJ10_round 33 = .ok (.istore 4, 2) := dk_54 4 (dk_at dksJ10_round_1 10 rfl rfl)
theorem dJ10_round_35 : decode cJ10_round 35 = .ok (.iload_n 1, 1) := dk_27 (dk_at dksJ10_round_1 12 rfl rfl)
theorem dJ10_round_36 : decode cJ10_round 36 = .ok (.ifCond .ge 8, 3) := dk_156 0 8 (dk_at dksJ10_round_1 13 rfl rfl)
theorem dJ10_round_39 : decode cJ10_round 39 = .ok (.iload 4, 2) := dk_21 4 (dk_at dksJ10_round_1 16 rfl rfl)
theorem dJ10_round_41 : decode cJ10_round 41 = .ok (.ineg, 1) := dk_116 (dk_at dksJ10_round_1 18 rfl rfl)
theorem dJ10_round_42 : decode cJ10_round 42 = .ok (.istore 4, 2) := dk_54 4 (dk_at dksJ10_round_1 19 rfl rfl)
theorem dJ10_round_44 : decode cJ10_round 44 = .ok (.iload 4, 2) := dk_21 4 (dk_at dksJ10_round_1 21 rfl rfl)
theorem dJ10_round_46 : decode cJ10_round 46 = .ok (.iload_n 3, 1) := dk_29 (dk_at dksJ10_round_1 23 rfl rfl)
theorem dJ10_round_47 : decode cJ10_round 47 = .ok (.ishr, 1) := dk_122 (dk_at dksJ10_round_2 0 rfl rfl)
theorem dJ10_round_48 : decode cJ10_round 48 = .ok (.iconst 1, 1) := dk_4 (dk_at dksJ10_round_2 1 rfl rfl)
theorem dJ10_round_49 : decode cJ10_round 49 = .ok (.iadd, 1) := dk_96 (dk_at dksJ10_round_2 2 rfl rfl)
theorem dJ10_round_50 : decode cJ10_round 50 = .ok (.iconst 1, 1) := dk_4 (dk_at dksJ10_round_2 3 rfl rfl)
theorem dJ10_round_51 : decode cJ10_round 51 = .ok (.ishr, 1) := dk_122 (dk_at dksJ10_round_2 4 rfl rfl)
theorem dJ10_round_52 : decode cJ10_round 52 = .ok (.ireturn, 1) := dk_172 (dk_at dksJ10_round_2 5 rfl rfl)
theorem dJ10_round_53 : decode cJ10_round 53 = .ok (.fload_n 0, 1) := dk_34 (dk_at dksJ10_round_2 6 rfl rfl)
theorem dJ10_round_54 : decode cJ10_round 54 = .ok (.f2i, 1) := dk_139 (dk_at dksJ10_round_2 7 rfl rfl)
theorem dJ10_round_55 : decode cJ10_round 55 = .ok (.ireturn, 1) := dk_172 (dk_at dksJ10_round_2 8 rfl rfl)
abbrev cJ10_getExponent : ByteArray := prog_21_method_91_code
def yJ10_getExponent : MethodName := ⟨RJ10, "getExponent", "(F)I"⟩
def dkwJ10_getExponent_0 : List UInt8 := [34, 184, 0, 68, 18, 76, 126, 16, 23, 122, 16, 127, 100, 172]
abbrev dktJ10_getExponent_0 : List UInt8 := dkwJ10_getExponent_0 ++ []
theorem dksJ10_getExponent_0 : cJ10_getExponent.data.toList.drop 0 = dktJ10_getExponent_0 := by decide +kernel
theorem dJ10_getExponent_0 : decode cJ10_getExponent 0 = .ok (.fload_n 0, 1) := dk_34 (dk_at dksJ10_getExponent_0 0 rfl rfl)
theorem dJ10_getExponent_1 : decode cJ10_getExponent 1 = .ok (.invokestatic 68, 3) := dk_184 0 68 (dk_at dksJ10_getExponent_0 1 rfl rfl)
theorem dJ10_getExponent_4 : decode cJ10_getExponent 4 = .ok (.ldc 76, 2) := dk_18 76 (dk_at dksJ10_getExponent_0 4 rfl rfl)
theorem dJ10_getExponent_6 : decode cJ10_getExponent 6 = .ok (.iand, 1) := dk_126 (dk_at dksJ10_getExponent_0 6 rfl rfl)
theorem dJ10_getExponent_7 : decode cJ10_getExponent 7 = .ok (.bipush 23, 2) := dk_16 23 (dk_at dksJ10_getExponent_0 7 rfl rfl)
theorem dJ10_getExponent_9 : decode cJ10_getExponent 9 = .ok (.ishr, 1) := dk_122 (dk_at dksJ10_getExponent_0 9 rfl rfl)
theorem dJ10_getExponent_10 : decode cJ10_getExponent 10 = .ok (.bipush 127, 2) := dk_16 127 (dk_at dksJ10_getExponent_0 10 rfl rfl)
theorem dJ10_getExponent_12 : decode cJ10_getExponent 12 = .ok (.isub, 1) := dk_100 (dk_at dksJ10_getExponent_0 12 rfl rfl)
theorem dJ10_getExponent_13 : decode cJ10_getExponent 13 = .ok (.ireturn, 1) := dk_172 (dk_at dksJ10_getExponent_0 13 rfl rfl)
abbrev cJ10_floor : ByteArray := prog_21_method_17_code
def yJ10_floor : MethodName := ⟨RJ10, "floor", "(D)D"⟩
theorem dJ10_floor_0 : decode cJ10_floor 0 = .ok (.dload_n 0, 1) := by decide +kernel
theorem dJ10_floor_1 : decode cJ10_floor 1 = .ok (.invokestatic 56, 3) := by decide +kernel
theorem dJ10_floor_4 : decode cJ10_floor 4 = .ok (.dreturn, 1) := by decide +kernel
abbrev cJ10_getExponent_2 : ByteArray := prog_21_method_92_code
def yJ10_getExponent_2 : MethodName := ⟨RJ10, "getExponent", "(D)I"⟩
def dkwJ10_getExponent_2_0 : List UInt8 := [38, 184, 0, 79, 20, 0, 87, 127, 16, 52, 123, 20, 1, 66, 101, 136, 172]
abbrev dktJ10_getExponent_2_0 : List UInt8 := dkwJ10_getExponent_2_0 ++ []
theorem dksJ10_getExponent_2_0 : cJ10_getExponent_2.data.toList.drop 0 = dktJ10_getExponent_2_0 := by decide +kernel
theorem dJ10_getExponent_2_0 : decode cJ10_getExponent_2 0 = .ok (.dload_n 0, 1) := dk_38 (dk_at dksJ10_getExponent_2_0 0 rfl rfl)
theorem dJ10_getExponent_2_1 : decode cJ10_getExponent_2 1 = .ok (.invokestatic 79, 3) := dk_184 0 79 (dk_at dksJ10_getExponent_2_0 1 rfl rfl)
theorem dJ10_getExponent_2_4 : decode cJ10_getExponent_2 4 = .ok (.ldc2_w 87, 3) := dk_20 0 87 (dk_at dksJ10_getExponent_2_0 4 rfl rfl)
theorem dJ10_getExponent_2_7 : decode cJ10_getExponent_2 7 = .ok (.land, 1) := dk_127 (dk_at dksJ10_getExponent_2_0 7 rfl rfl)
theorem dJ10_getExponent_2_8 : decode cJ10_getExponent_2 8 = .ok (.bipush 52, 2) := dk_16 52 (dk_at dksJ10_getExponent_2_0 8 rfl rfl)
theorem dJ10_getExponent_2_10 : decode cJ10_getExponent_2 10 = .ok (.lshr, 1) := dk_123 (dk_at dksJ10_getExponent_2_0 10 rfl rfl)
theorem dJ10_getExponent_2_11 : decode cJ10_getExponent_2 11 = .ok (.ldc2_w 322, 3) := dk_20 1 66 (dk_at dksJ10_getExponent_2_0 11 rfl rfl)
theorem dJ10_getExponent_2_14 : decode cJ10_getExponent_2 14 = .ok (.lsub, 1) := dk_101 (dk_at dksJ10_getExponent_2_0 14 rfl rfl)
theorem dJ10_getExponent_2_15 : decode cJ10_getExponent_2 15 = .ok (.l2i, 1) := dk_136 (dk_at dksJ10_getExponent_2_0 15 rfl rfl)
theorem dJ10_getExponent_2_16 : decode cJ10_getExponent_2 16 = .ok (.ireturn, 1) := dk_172 (dk_at dksJ10_getExponent_2_0 16 rfl rfl)
abbrev cJ10_ceil : ByteArray := prog_21_method_16_code
def yJ10_ceil : MethodName := ⟨RJ10, "ceil", "(D)D"⟩
theorem dJ10_ceil_0 : decode cJ10_ceil 0 = .ok (.dload_n 0, 1) := by decide +kernel
theorem dJ10_ceil_1 : decode cJ10_ceil 1 = .ok (.invokestatic 53, 3) := by decide +kernel
theorem dJ10_ceil_4 : decode cJ10_ceil 4 = .ok (.dreturn, 1) := by decide +kernel
abbrev cJ10_rint : ByteArray := prog_21_method_18_code
def yJ10_rint : MethodName := ⟨RJ10, "rint", "(D)D"⟩
theorem dJ10_rint_0 : decode cJ10_rint 0 = .ok (.dload_n 0, 1) := by decide +kernel
theorem dJ10_rint_1 : decode cJ10_rint 1 = .ok (.invokestatic 59, 3) := by decide +kernel
theorem dJ10_rint_4 : decode cJ10_rint 4 = .ok (.dreturn, 1) := by decide +kernel
abbrev cJ10_signum : ByteArray := prog_21_method_82_code
def yJ10_signum : MethodName := ⟨RJ10, "signum", "(F)F"⟩
def dkwJ10_signum_0 : List UInt8 := [34, 11, 149, 153, 0, 10, 34, 184, 0, 224, 153, 0, 7, 34, 167, 0, 8, 12, 34, 184, 1, 46, 174]
abbrev dktJ10_signum_0 : List UInt8 := dkwJ10_signum_0 ++ []
theorem dksJ10_signum_0 : cJ10_signum.data.toList.drop 0 = dktJ10_signum_0 := by decide +kernel
theorem dJ10_signum_0 : decode cJ10_signum 0 = .ok (.fload_n 0, 1) := dk_34 (dk_at dksJ10_signum_0 0 rfl rfl)
theorem dJ10_signum_1 : decode cJ10_signum 1 = .ok (.fconst 0, 1) := dk_11 (dk_at dksJ10_signum_0 1 rfl rfl)
theorem dJ10_signum_2 : decode cJ10_signum 2 = .ok (.fcmp .l, 1) := dk_149 (dk_at dksJ10_signum_0 2 rfl rfl)
theorem dJ10_signum_3 : decode cJ10_signum 3 = .ok (.ifCond .eq 10, 3) := dk_153 0 10 (dk_at dksJ10_signum_0 3 rfl rfl)
theorem dJ10_signum_6 : decode cJ10_signum 6 = .ok (.fload_n 0, 1) := dk_34 (dk_at dksJ10_signum_0 6 rfl rfl)
theorem dJ10_signum_7 : decode cJ10_signum 7 = .ok (.invokestatic 224, 3) := dk_184 0 224 (dk_at dksJ10_signum_0 7 rfl rfl)
theorem dJ10_signum_10 : decode cJ10_signum 10 = .ok (.ifCond .eq 7, 3) := dk_153 0 7 (dk_at dksJ10_signum_0 10 rfl rfl)
theorem dJ10_signum_13 : decode cJ10_signum 13 = .ok (.fload_n 0, 1) := dk_34 (dk_at dksJ10_signum_0 13 rfl rfl)
theorem dJ10_signum_14 : decode cJ10_signum 14 = .ok (.goto 8, 3) := dk_167 0 8 (dk_at dksJ10_signum_0 14 rfl rfl)
theorem dJ10_signum_17 : decode cJ10_signum 17 = .ok (.fconst 1, 1) := dk_12 (dk_at dksJ10_signum_0 17 rfl rfl)
theorem dJ10_signum_18 : decode cJ10_signum 18 = .ok (.fload_n 0, 1) := dk_34 (dk_at dksJ10_signum_0 18 rfl rfl)
theorem dJ10_signum_19 : decode cJ10_signum 19 = .ok (.invokestatic 302, 3) := dk_184 1 46 (dk_at dksJ10_signum_0 19 rfl rfl)
theorem dJ10_signum_22 : decode cJ10_signum 22 = .ok (.freturn, 1) := dk_174 (dk_at dksJ10_signum_0 22 rfl rfl)
abbrev cJ10_ulp : ByteArray := prog_21_method_80_code
def yJ10_ulp : MethodName := ⟨RJ10, "ulp", "(F)F"⟩
def dkwJ10_ulp_4 : List UInt8 := [16, 130, 161, 0, 10, 27, 184, 1, 40, 167, 0, 13, 4, 27, 17, 255, 107, 100, 120, 184, 0, 162, 174]
abbrev dktJ10_ulp_4 : List UInt8 := dkwJ10_ulp_4 ++ []
def dkwJ10_ulp_3 : List UInt8 := [163, 0, 9, 27, 16, 130, 162, 0, 11, 187, 0, 247, 89, 183, 0, 249, 191, 27, 16, 23, 100, 60, 27]
abbrev dktJ10_ulp_3 : List UInt8 := dkwJ10_ulp_3 ++ dktJ10_ulp_4
def dkwJ10_ulp_2 : List UInt8 := [34, 184, 1, 36, 167, 0, 63, 19, 1, 39, 167, 0, 57, 178, 0, 243, 154, 0, 23, 27, 16, 127]
abbrev dktJ10_ulp_2 : List UInt8 := dkwJ10_ulp_2 ++ dktJ10_ulp_3
def dkwJ10_ulp_1 : List UInt8 := [171, 0, 0, 0, 0, 39, 0, 0, 0, 2, 255, 255, 255, 129, 0, 0, 0, 33, 0, 0, 0, 128, 0, 0, 0, 26]
abbrev dktJ10_ulp_1 : List UInt8 := dkwJ10_ulp_1 ++ dktJ10_ulp_2
def dkwJ10_ulp_0 : List UInt8 := [34, 184, 1, 34, 60, 27]
abbrev dktJ10_ulp_0 : List UInt8 := dkwJ10_ulp_0 ++ dktJ10_ulp_1
theorem dksJ10_ulp_0 : cJ10_ulp.data.toList.drop 0 = dktJ10_ulp_0 := by decide +kernel
theorem dksJ10_ulp_1 : cJ10_ulp.data.toList.drop 6 = dktJ10_ulp_1 := dk_seg dksJ10_ulp_0 6 rfl rfl
theorem dksJ10_ulp_2 : cJ10_ulp.data.toList.drop 32 = dktJ10_ulp_2 := dk_seg dksJ10_ulp_1 26 rfl rfl
theorem dksJ10_ulp_3 : cJ10_ulp.data.toList.drop 54 = dktJ10_ulp_3 := dk_seg dksJ10_ulp_2 22 rfl rfl
theorem dksJ10_ulp_4 : cJ10_ulp.data.toList.drop 77 = dktJ10_ulp_4 := dk_seg dksJ10_ulp_3 23 rfl rfl
theorem dJ10_ulp_0 : decode cJ10_ulp 0 = .ok (.fload_n 0, 1) := dk_34 (dk_at dksJ10_ulp_0 0 rfl rfl)
theorem dJ10_ulp_1 : decode cJ10_ulp 1 = .ok (.invokestatic 290, 3) := dk_184 1 34 (dk_at dksJ10_ulp_0 1 rfl rfl)
theorem dJ10_ulp_4 : decode cJ10_ulp 4 = .ok (.istore_n 1, 1) := dk_60 (dk_at dksJ10_ulp_0 4 rfl rfl)
theorem dJ10_ulp_5 : decode cJ10_ulp 5 = .ok (.iload_n 1, 1) := dk_27 (dk_at dksJ10_ulp_0 5 rfl rfl)
theorem dJ10_ulp_6 : decode cJ10_ulp 6 = .ok (.lookupswitch 39 #[(-127, 33), (128, 26)], 26) := by decide +kernel
theorem dJ10_ulp_32 : decode cJ10_ulp 32 = .ok (.fload_n 0, 1) := dk_34 (dk_at dksJ10_ulp_2 0 rfl rfl)
theorem dJ10_ulp_33 : decode cJ10_ulp 33 = .ok (.invokestatic 292, 3) := dk_184 1 36 (dk_at dksJ10_ulp_2 1 rfl rfl)
theorem dJ10_ulp_36 : decode cJ10_ulp 36 = .ok (.goto 63, 3) := dk_167 0 63 (dk_at dksJ10_ulp_2 4 rfl rfl)
theorem dJ10_ulp_39 : decode cJ10_ulp 39 = .ok (.ldc_w 295, 3) := dk_19 1 39 (dk_at dksJ10_ulp_2 7 rfl rfl)
theorem dJ10_ulp_42 : decode cJ10_ulp 42 = .ok (.goto 57, 3) := dk_167 0 57 (dk_at dksJ10_ulp_2 10 rfl rfl)
theorem dJ10_ulp_45 : decode cJ10_ulp 45 = .ok (.getstatic 243, 3) := dk_178 0 243 (dk_at dksJ10_ulp_2 13 rfl rfl)
theorem dJ10_ulp_48 : decode cJ10_ulp 48 = .ok (.ifCond .ne 23, 3) := dk_154 0 23 (dk_at dksJ10_ulp_2 16 rfl rfl)
theorem dJ10_ulp_51 : decode cJ10_ulp 51 = .ok (.iload_n 1, 1) := dk_27 (dk_at dksJ10_ulp_2 19 rfl rfl)
theorem dJ10_ulp_52 : decode cJ10_ulp 52 = .ok (.bipush 127, 2) := dk_16 127 (dk_at dksJ10_ulp_2 20 rfl rfl)
theorem dJ10_ulp_54 : decode cJ10_ulp 54 = .ok (.if_icmp .gt 9, 3) := dk_163 0 9 (dk_at dksJ10_ulp_3 0 rfl rfl)
theorem dJ10_ulp_57 : decode cJ10_ulp 57 = .ok (.iload_n 1, 1) := dk_27 (dk_at dksJ10_ulp_3 3 rfl rfl)
theorem dJ10_ulp_58 : decode cJ10_ulp 58 = .ok (.bipush (-126), 2) := dk_16 130 (dk_at dksJ10_ulp_3 4 rfl rfl)
theorem dJ10_ulp_60 : decode cJ10_ulp 60 = .ok (.if_icmp .ge 11, 3) := dk_162 0 11 (dk_at dksJ10_ulp_3 6 rfl rfl)
theorem dJ10_ulp_63 : decode cJ10_ulp 63 = .ok (.new 247, 3) := dk_187 0 247 (dk_at dksJ10_ulp_3 9 rfl rfl)
theorem dJ10_ulp_66 : decode cJ10_ulp 66 = .ok (.dup, 1) := dk_89 (dk_at dksJ10_ulp_3 12 rfl rfl)
theorem dJ10_ulp_67 : decode cJ10_ulp 67 = .ok (.invokespecial 249, 3) := dk_183 0 249 (dk_at dksJ10_ulp_3 13 rfl rfl)
theorem dJ10_ulp_70 : decode cJ10_ulp 70 = .ok (.athrow, 1) := dk_191 (dk_at dksJ10_ulp_3 16 rfl rfl)
theorem dJ10_ulp_71 : decode cJ10_ulp 71 = .ok (.iload_n 1, 1) := dk_27 (dk_at dksJ10_ulp_3 17 rfl rfl)
theorem dJ10_ulp_72 : decode cJ10_ulp 72 = .ok (.bipush 23, 2) := dk_16 23 (dk_at dksJ10_ulp_3 18 rfl rfl)
theorem dJ10_ulp_74 : decode cJ10_ulp 74 = .ok (.isub, 1) := dk_100 (dk_at dksJ10_ulp_3 20 rfl rfl)
theorem dJ10_ulp_75 : decode cJ10_ulp 75 = .ok (.istore_n 1, 1) := dk_60 (dk_at dksJ10_ulp_3 21 rfl rfl)
theorem dJ10_ulp_76 : decode cJ10_ulp 76 = .ok (.iload_n 1, 1) := dk_27 (dk_at dksJ10_ulp_3 22 rfl rfl)
theorem dJ10_ulp_77 : decode cJ10_ulp 77 = .ok (.bipush (-126), 2) := dk_16 130 (dk_at dksJ10_ulp_4 0 rfl rfl)
theorem dJ10_ulp_79 : decode cJ10_ulp 79 = .ok (.if_icmp .lt 10, 3) := dk_161 0 10 (dk_at dksJ10_ulp_4 2 rfl rfl)
theorem dJ10_ulp_82 : decode cJ10_ulp 82 = .ok (.iload_n 1, 1) := dk_27 (dk_at dksJ10_ulp_4 5 rfl rfl)
theorem dJ10_ulp_83 : decode cJ10_ulp 83 = .ok (.invokestatic 296, 3) := dk_184 1 40 (dk_at dksJ10_ulp_4 6 rfl rfl)
theorem dJ10_ulp_86 : decode cJ10_ulp 86 = .ok (.goto 13, 3) := dk_167 0 13 (dk_at dksJ10_ulp_4 9 rfl rfl)
theorem dJ10_ulp_89 : decode cJ10_ulp 89 = .ok (.iconst 1, 1) := dk_4 (dk_at dksJ10_ulp_4 12 rfl rfl)
theorem dJ10_ulp_90 : decode cJ10_ulp 90 = .ok (.iload_n 1, 1) := dk_27 (dk_at dksJ10_ulp_4 13 rfl rfl)
theorem dJ10_ulp_91 : decode cJ10_ulp 91 = .ok (.sipush (-149), 3) := dk_17 255 107 (dk_at dksJ10_ulp_4 14 rfl rfl)
theorem dJ10_ulp_94 : decode cJ10_ulp 94 = .ok (.isub, 1) := dk_100 (dk_at dksJ10_ulp_4 17 rfl rfl)
theorem dJ10_ulp_95 : decode cJ10_ulp 95 = .ok (.ishl, 1) := dk_120 (dk_at dksJ10_ulp_4 18 rfl rfl)
theorem dJ10_ulp_96 : decode cJ10_ulp 96 = .ok (.invokestatic 162, 3) := dk_184 0 162 (dk_at dksJ10_ulp_4 19 rfl rfl)
theorem dJ10_ulp_99 : decode cJ10_ulp 99 = .ok (.freturn, 1) := dk_174 (dk_at dksJ10_ulp_4 22 rfl rfl)
abbrev cJ10_powerOfTwoF : ByteArray := prog_21_method_102_code
def yJ10_powerOfTwoF : MethodName := ⟨RJ10, "powerOfTwoF", "(I)F"⟩
def dkwJ10_powerOfTwoF_1 : List UInt8 := [183, 0, 249, 191, 26, 16, 127, 96, 16, 23, 120, 18, 76, 126, 184, 0, 162, 174]
abbrev dktJ10_powerOfTwoF_1 : List UInt8 := dkwJ10_powerOfTwoF_1 ++ []
def dkwJ10_powerOfTwoF_0 : List UInt8 := [178, 0, 243, 154, 0, 23, 26, 16, 130, 161, 0, 9, 26, 16, 127, 164, 0, 11, 187, 0, 247, 89]
abbrev dktJ10_powerOfTwoF_0 : List UInt8 := dkwJ10_powerOfTwoF_0 ++ dktJ10_powerOfTwoF_1
theorem dksJ10_powerOfTwoF_0 : cJ10_powerOfTwoF.data.toList.drop 0 = dktJ10_powerOfTwoF_0 := by decide +kernel
theorem dksJ10_powerOfTwoF_1 : cJ10_powerOfTwoF.data.toList.drop 22 = dktJ10_powerOfTwoF_1 := dk_seg dksJ10_powerOfTwoF_0 22 rfl rfl
theorem dJ10_powerOfTwoF_0 : decode cJ10_powerOfTwoF 0 = .ok (.getstatic 243, 3) := dk_178 0 243 (dk_at dksJ10_powerOfTwoF_0 0 rfl rfl)
theorem dJ10_powerOfTwoF_3 : decode cJ10_powerOfTwoF 3 = .ok (.ifCond .ne 23, 3) := dk_154 0 23 (dk_at dksJ10_powerOfTwoF_0 3 rfl rfl)
theorem dJ10_powerOfTwoF_6 : decode cJ10_powerOfTwoF 6 = .ok (.iload_n 0, 1) := dk_26 (dk_at dksJ10_powerOfTwoF_0 6 rfl rfl)
theorem dJ10_powerOfTwoF_7 : decode cJ10_powerOfTwoF 7 = .ok (.bipush (-126), 2) := dk_16 130 (dk_at dksJ10_powerOfTwoF_0 7 rfl rfl)
theorem dJ10_powerOfTwoF_9 : decode cJ10_powerOfTwoF 9 = .ok (.if_icmp .lt 9, 3) := dk_161 0 9 (dk_at dksJ10_powerOfTwoF_0 9 rfl rfl)
theorem dJ10_powerOfTwoF_12 : decode cJ10_powerOfTwoF 12 = .ok (.iload_n 0, 1) := dk_26 (dk_at dksJ10_powerOfTwoF_0 12 rfl rfl)
theorem dJ10_powerOfTwoF_13 : decode cJ10_powerOfTwoF 13 = .ok (.bipush 127, 2) := dk_16 127 (dk_at dksJ10_powerOfTwoF_0 13 rfl rfl)
theorem dJ10_powerOfTwoF_15 : decode cJ10_powerOfTwoF 15 = .ok (.if_icmp .le 11, 3) := dk_164 0 11 (dk_at dksJ10_powerOfTwoF_0 15 rfl rfl)
theorem dJ10_powerOfTwoF_18 : decode cJ10_powerOfTwoF 18 = .ok (.new 247, 3) := dk_187 0 247 (dk_at dksJ10_powerOfTwoF_0 18 rfl rfl)
theorem dJ10_powerOfTwoF_21 : decode cJ10_powerOfTwoF 21 = .ok (.dup, 1) := dk_89 (dk_at dksJ10_powerOfTwoF_0 21 rfl rfl)
theorem dJ10_powerOfTwoF_22 : decode cJ10_powerOfTwoF 22 = .ok (.invokespecial 249, 3) := dk_183 0 249 (dk_at dksJ10_powerOfTwoF_1 0 rfl rfl)
theorem dJ10_powerOfTwoF_25 : decode cJ10_powerOfTwoF 25 = .ok (.athrow, 1) := dk_191 (dk_at dksJ10_powerOfTwoF_1 3 rfl rfl)
theorem dJ10_powerOfTwoF_26 : decode cJ10_powerOfTwoF 26 = .ok (.iload_n 0, 1) := dk_26 (dk_at dksJ10_powerOfTwoF_1 4 rfl rfl)
theorem dJ10_powerOfTwoF_27 : decode cJ10_powerOfTwoF 27 = .ok (.bipush 127, 2) := dk_16 127 (dk_at dksJ10_powerOfTwoF_1 5 rfl rfl)
theorem dJ10_powerOfTwoF_29 : decode cJ10_powerOfTwoF 29 = .ok (.iadd, 1) := dk_96 (dk_at dksJ10_powerOfTwoF_1 7 rfl rfl)
theorem dJ10_powerOfTwoF_30 : decode cJ10_powerOfTwoF 30 = .ok (.bipush 23, 2) := dk_16 23 (dk_at dksJ10_powerOfTwoF_1 8 rfl rfl)
theorem dJ10_powerOfTwoF_32 : decode cJ10_powerOfTwoF 32 = .ok (.ishl, 1) := dk_120 (dk_at dksJ10_powerOfTwoF_1 10 rfl rfl)
theorem dJ10_powerOfTwoF_33 : decode cJ10_powerOfTwoF 33 = .ok (.ldc 76, 2) := dk_18 76 (dk_at dksJ10_powerOfTwoF_1 11 rfl rfl)
theorem dJ10_powerOfTwoF_35 : decode cJ10_powerOfTwoF 35 = .ok (.iand, 1) := dk_126 (dk_at dksJ10_powerOfTwoF_1 13 rfl rfl)
theorem dJ10_powerOfTwoF_36 : decode cJ10_powerOfTwoF 36 = .ok (.invokestatic 162, 3) := dk_184 0 162 (dk_at dksJ10_powerOfTwoF_1 14 rfl rfl)
theorem dJ10_powerOfTwoF_39 : decode cJ10_powerOfTwoF 39 = .ok (.freturn, 1) := dk_174 (dk_at dksJ10_powerOfTwoF_1 17 rfl rfl)
abbrev cJ10_nextUp : ByteArray := prog_21_method_96_code
def yJ10_nextUp : MethodName := ⟨RJ10, "nextUp", "(F)F"⟩
def dkwJ10_nextUp_1 : List UInt8 := [2, 96, 184, 0, 162, 174, 34, 174]
abbrev dktJ10_nextUp_1 : List UInt8 := dkwJ10_nextUp_1 ++ []
def dkwJ10_nextUp_0 : List UInt8 := [34, 19, 1, 73, 150, 156, 0, 25, 34, 11, 98, 184, 0, 68, 60, 27, 27, 155, 0, 7, 4, 167, 0, 4]
abbrev dktJ10_nextUp_0 : List UInt8 := dkwJ10_nextUp_0 ++ dktJ10_nextUp_1
theorem dksJ10_nextUp_0 : cJ10_nextUp.data.toList.drop 0 = dktJ10_nextUp_0 := by decide +kernel
theorem dksJ10_nextUp_1 : cJ10_nextUp.data.toList.drop 24 = dktJ10_nextUp_1 := dk_seg dksJ10_nextUp_0 24 rfl rfl
theorem dJ10_nextUp_0 : decode cJ10_nextUp 0 = .ok (.fload_n 0, 1) := dk_34 (dk_at dksJ10_nextUp_0 0 rfl rfl)
theorem dJ10_nextUp_1 : decode cJ10_nextUp 1 = .ok (.ldc_w 329, 3) := dk_19 1 73 (dk_at dksJ10_nextUp_0 1 rfl rfl)
theorem dJ10_nextUp_4 : decode cJ10_nextUp 4 = .ok (.fcmp .g, 1) := dk_150 (dk_at dksJ10_nextUp_0 4 rfl rfl)
theorem dJ10_nextUp_5 : decode cJ10_nextUp 5 = .ok (.ifCond .ge 25, 3) := dk_156 0 25 (dk_at dksJ10_nextUp_0 5 rfl rfl)
theorem dJ10_nextUp_8 : decode cJ10_nextUp 8 = .ok (.fload_n 0, 1) := dk_34 (dk_at dksJ10_nextUp_0 8 rfl rfl)
theorem dJ10_nextUp_9 : decode cJ10_nextUp 9 = .ok (.fconst 0, 1) := dk_11 (dk_at dksJ10_nextUp_0 9 rfl rfl)
theorem dJ10_nextUp_10 : decode cJ10_nextUp 10 = .ok (.fadd, 1) := dk_98 (dk_at dksJ10_nextUp_0 10 rfl rfl)
theorem dJ10_nextUp_11 : decode cJ10_nextUp 11 = .ok (.invokestatic 68, 3) := dk_184 0 68 (dk_at dksJ10_nextUp_0 11 rfl rfl)
theorem dJ10_nextUp_14 : decode cJ10_nextUp 14 = .ok (.istore_n 1, 1) := dk_60 (dk_at dksJ10_nextUp_0 14 rfl rfl)
theorem dJ10_nextUp_15 : decode cJ10_nextUp 15 = .ok (.iload_n 1, 1) := dk_27 (dk_at dksJ10_nextUp_0 15 rfl rfl)
theorem dJ10_nextUp_16 : decode cJ10_nextUp 16 = .ok (.iload_n 1, 1) := dk_27 (dk_at dksJ10_nextUp_0 16 rfl rfl)
theorem dJ10_nextUp_17 : decode cJ10_nextUp 17 = .ok (.ifCond .lt 7, 3) := dk_155 0 7 (dk_at dksJ10_nextUp_0 17 rfl rfl)
theorem dJ10_nextUp_20 : decode cJ10_nextUp 20 = .ok (.iconst 1, 1) := dk_4 (dk_at dksJ10_nextUp_0 20 rfl rfl)
theorem dJ10_nextUp_21 : decode cJ10_nextUp 21 = .ok (.goto 4, 3) := dk_167 0 4 (dk_at dksJ10_nextUp_0 21 rfl rfl)
theorem dJ10_nextUp_24 : decode cJ10_nextUp 24 = .ok (.iconst (-1), 1) := dk_2 (dk_at dksJ10_nextUp_1 0 rfl rfl)
theorem dJ10_nextUp_25 : decode cJ10_nextUp 25 = .ok (.iadd, 1) := dk_96 (dk_at dksJ10_nextUp_1 1 rfl rfl)
theorem dJ10_nextUp_26 : decode cJ10_nextUp 26 = .ok (.invokestatic 162, 3) := dk_184 0 162 (dk_at dksJ10_nextUp_1 2 rfl rfl)
theorem dJ10_nextUp_29 : decode cJ10_nextUp 29 = .ok (.freturn, 1) := dk_174 (dk_at dksJ10_nextUp_1 5 rfl rfl)
theorem dJ10_nextUp_30 : decode cJ10_nextUp 30 = .ok (.fload_n 0, 1) := dk_34 (dk_at dksJ10_nextUp_1 6 rfl rfl)
theorem dJ10_nextUp_31 : decode cJ10_nextUp 31 = .ok (.freturn, 1) := dk_174 (dk_at dksJ10_nextUp_1 7 rfl rfl)
abbrev cJ10_round_2 : ByteArray := prog_21_method_22_code
def yJ10_round_2 : MethodName := ⟨RJ10, "round", "(D)J"⟩
def dkwJ10_round_2_2 : List UInt8 := [148, 156, 0, 8, 22, 8, 117, 55, 8, 22, 8, 22, 6, 136, 123, 10, 97, 4, 123, 173, 38, 143, 173]
abbrev dktJ10_round_2_2 : List UInt8 := dkwJ10_round_2_2 ++ []
def dkwJ10_round_2_1 : List UInt8 := [22, 6, 20, 0, 91, 127, 9, 148, 154, 0, 36, 32, 20, 0, 93, 127, 20, 0, 95, 129, 55, 8, 32, 9]
abbrev dktJ10_round_2_1 : List UInt8 := dkwJ10_round_2_1 ++ dktJ10_round_2_2
def dkwJ10_round_2_0 : List UInt8 := [38, 184, 0, 79, 65, 32, 20, 0, 87, 127, 16, 52, 123, 55, 4, 20, 0, 89, 22, 4, 101, 55, 6]
abbrev dktJ10_round_2_0 : List UInt8 := dkwJ10_round_2_0 ++ dktJ10_round_2_1
theorem dksJ10_round_2_0 : cJ10_round_2.data.toList.drop 0 = dktJ10_round_2_0 := by decide +kernel
theorem dksJ10_round_2_1 : cJ10_round_2.data.toList.drop 23 = dktJ10_round_2_1 := dk_seg dksJ10_round_2_0 23 rfl rfl
theorem dksJ10_round_2_2 : cJ10_round_2.data.toList.drop 47 = dktJ10_round_2_2 := dk_seg dksJ10_round_2_1 24 rfl rfl
theorem dJ10_round_2_0 : decode cJ10_round_2 0 = .ok (.dload_n 0, 1) := dk_38 (dk_at dksJ10_round_2_0 0 rfl rfl)
theorem dJ10_round_2_1 : decode cJ10_round_2 1 = .ok (.invokestatic 79, 3) := dk_184 0 79 (dk_at dksJ10_round_2_0 1 rfl rfl)
theorem dJ10_round_2_4 : decode cJ10_round_2 4 = .ok (.lstore_n 2, 1) := dk_65 (dk_at dksJ10_round_2_0 4 rfl rfl)
theorem dJ10_round_2_5 : decode cJ10_round_2 5 = .ok (.lload_n 2, 1) := dk_32 (dk_at dksJ10_round_2_0 5 rfl rfl)
theorem dJ10_round_2_6 : decode cJ10_round_2 6 = .ok (.ldc2_w 87, 3) := dk_20 0 87 (dk_at dksJ10_round_2_0 6 rfl rfl)
theorem dJ10_round_2_9 : decode cJ10_round_2 9 = .ok (.land, 1) := dk_127 (dk_at dksJ10_round_2_0 9 rfl rfl)
theorem dJ10_round_2_10 : decode cJ10_round_2 10 = .ok (.bipush 52, 2) := dk_16 52 (dk_at dksJ10_round_2_0 10 rfl rfl)
theorem dJ10_round_2_12 : decode cJ10_round_2 12 = .ok (.lshr, 1) := dk_123 (dk_at dksJ10_round_2_0 12 rfl rfl)
theorem dJ10_round_2_13 : decode cJ10_round_2 13 = .ok (.lstore 4, 2) := dk_55 4 (dk_at dksJ10_round_2_0 13 rfl rfl)
theorem dJ10_round_2_15 : decode cJ10_round_2 15 = .ok (.ldc2_w 89, 3) := dk_20 0 89 (dk_at dksJ10_round_2_0 15 rfl rfl)
theorem dJ10_round_2_18 : decode cJ10_round_2 18 = .ok (.lload 4, 2) := dk_22 4 (dk_at dksJ10_round_2_0 18 rfl rfl)
theorem dJ10_round_2_20 : decode cJ10_round_2 20 = .ok (.lsub, 1) := dk_101 (dk_at dksJ10_round_2_0 20 rfl rfl)
theorem dJ10_round_2_21 : decode cJ10_round_2 21 = .ok (.lstore 6, 2) := dk_55 6 (dk_at dksJ10_round_2_0 21 rfl rfl)
theorem dJ10_round_2_23 : decode cJ10_round_2 23 = .ok (.lload 6, 2) := dk_22 6 (dk_at dksJ10_round_2_1 0 rfl rfl)
theorem dJ10_round_2_25 : decode cJ10_round_2 25 = .ok (.ldc2_w 91, 3) := dk_20 0 91 (dk_at dksJ10_round_2_1 2 rfl rfl)
theorem dJ10_round_2_28 : decode cJ10_round_2 28 = .ok (.land, 1) := dk_127 (dk_at dksJ10_round_2_1 5 rfl rfl)
theorem dJ10_round_2_29 : decode cJ10_round_2 29 = .ok (.lconst 0, 1) := dk_9 (dk_at dksJ10_round_2_1 6 rfl rfl)
theorem dJ10_round_2_30 : decode cJ10_round_2 30 = .ok (.lcmp, 1) := dk_148 (dk_at dksJ10_round_2_1 7 rfl rfl)
theorem dJ10_round_2_31 : decode cJ10_round_2 31 = .ok (.ifCond .ne 36, 3) := dk_154 0 36 (dk_at dksJ10_round_2_1 8 rfl rfl)
theorem dJ10_round_2_34 : decode cJ10_round_2 34 = .ok (.lload_n 2, 1) := dk_32 (dk_at dksJ10_round_2_1 11 rfl rfl)
theorem dJ10_round_2_35 : decode cJ10_round_2 35 = .ok (.ldc2_w 93, 3) := dk_20 0 93 (dk_at dksJ10_round_2_1 12 rfl rfl)
theorem dJ10_round_2_38 : decode cJ10_round_2 38 = .ok (.land, 1) := dk_127 (dk_at dksJ10_round_2_1 15 rfl rfl)
theorem dJ10_round_2_39 : decode cJ10_round_2 39 = .ok (.ldc2_w 95, 3) := dk_20 0 95 (dk_at dksJ10_round_2_1 16 rfl rfl)
theorem dJ10_round_2_42 : decode cJ10_round_2 42 = .ok (.lor, 1) := dk_129 (dk_at dksJ10_round_2_1 19 rfl rfl)
theorem dJ10_round_2_43 : decode cJ10_round_2 43 = .ok (.lstore 8, 2) := dk_55 8 (dk_at dksJ10_round_2_1 20 rfl rfl)
theorem dJ10_round_2_45 : decode cJ10_round_2 45 = .ok (.lload_n 2, 1) := dk_32 (dk_at dksJ10_round_2_1 22 rfl rfl)
theorem dJ10_round_2_46 : decode cJ10_round_2 46 = .ok (.lconst 0, 1) := dk_9 (dk_at dksJ10_round_2_1 23 rfl rfl)
theorem dJ10_round_2_47 : decode cJ10_round_2 47 = .ok (.lcmp, 1) := dk_148 (dk_at dksJ10_round_2_2 0 rfl rfl)
theorem dJ10_round_2_48 : decode cJ10_round_2 48 = .ok (.ifCond .ge 8, 3) := dk_156 0 8 (dk_at dksJ10_round_2_2 1 rfl rfl)
theorem dJ10_round_2_51 : decode cJ10_round_2 51 = .ok (.lload 8, 2) := dk_22 8 (dk_at dksJ10_round_2_2 4 rfl rfl)
theorem dJ10_round_2_53 : decode cJ10_round_2 53 = .ok (.lneg, 1) := dk_117 (dk_at dksJ10_round_2_2 6 rfl rfl)
theorem dJ10_round_2_54 : decode cJ10_round_2 54 = .ok (.lstore 8, 2) := dk_55 8 (dk_at dksJ10_round_2_2 7 rfl rfl)
theorem dJ10_round_2_56 : decode cJ10_round_2 56 = .ok (.lload 8, 2) := dk_22 8 (dk_at dksJ10_round_2_2 9 rfl rfl)
theorem dJ10_round_2_58 : decode cJ10_round_2 58 = .ok (.lload 6, 2) := dk_22 6 (dk_at dksJ10_round_2_2 11 rfl rfl)
theorem dJ10_round_2_60 : decode cJ10_round_2 60 = .ok (.l2i, 1) := dk_136 (dk_at dksJ10_round_2_2 13 rfl rfl)
theorem dJ10_round_2_61 : decode cJ10_round_2 61 = .ok (.lshr, 1) := dk_123 (dk_at dksJ10_round_2_2 14 rfl rfl)
theorem dJ10_round_2_62 : decode cJ10_round_2 62 = .ok (.lconst 1, 1) := dk_10 (dk_at dksJ10_round_2_2 15 rfl rfl)
theorem dJ10_round_2_63 : decode cJ10_round_2 63 = .ok (.ladd, 1) := dk_97 (dk_at dksJ10_round_2_2 16 rfl rfl)
theorem dJ10_round_2_64 : decode cJ10_round_2 64 = .ok (.iconst 1, 1) := dk_4 (dk_at dksJ10_round_2_2 17 rfl rfl)
theorem dJ10_round_2_65 : decode cJ10_round_2 65 = .ok (.lshr, 1) := dk_123 (dk_at dksJ10_round_2_2 18 rfl rfl)
theorem dJ10_round_2_66 : decode cJ10_round_2 66 = .ok (.lreturn, 1) := dk_173 (dk_at dksJ10_round_2_2 19 rfl rfl)
theorem dJ10_round_2_67 : decode cJ10_round_2 67 = .ok (.dload_n 0, 1) := dk_38 (dk_at dksJ10_round_2_2 20 rfl rfl)
theorem dJ10_round_2_68 : decode cJ10_round_2 68 = .ok (.d2l, 1) := dk_143 (dk_at dksJ10_round_2_2 21 rfl rfl)
theorem dJ10_round_2_69 : decode cJ10_round_2 69 = .ok (.lreturn, 1) := dk_173 (dk_at dksJ10_round_2_2 22 rfl rfl)
abbrev cJ10_signum_2 : ByteArray := prog_21_method_81_code
def yJ10_signum_2 : MethodName := ⟨RJ10, "signum", "(D)D"⟩
def dkwJ10_signum_2_0 : List UInt8 := [38, 14, 151, 153, 0, 10, 38, 184, 0, 205, 153, 0, 7, 38, 167, 0, 8, 15, 38, 184, 1, 43, 175]
abbrev dktJ10_signum_2_0 : List UInt8 := dkwJ10_signum_2_0 ++ []
theorem dksJ10_signum_2_0 : cJ10_signum_2.data.toList.drop 0 = dktJ10_signum_2_0 := by decide +kernel
theorem dJ10_signum_2_0 : decode cJ10_signum_2 0 = .ok (.dload_n 0, 1) := dk_38 (dk_at dksJ10_signum_2_0 0 rfl rfl)
theorem dJ10_signum_2_1 : decode cJ10_signum_2 1 = .ok (.dconst 0, 1) := dk_14 (dk_at dksJ10_signum_2_0 1 rfl rfl)
theorem dJ10_signum_2_2 : decode cJ10_signum_2 2 = .ok (.dcmp .l, 1) := dk_151 (dk_at dksJ10_signum_2_0 2 rfl rfl)
theorem dJ10_signum_2_3 : decode cJ10_signum_2 3 = .ok (.ifCond .eq 10, 3) := dk_153 0 10 (dk_at dksJ10_signum_2_0 3 rfl rfl)
theorem dJ10_signum_2_6 : decode cJ10_signum_2 6 = .ok (.dload_n 0, 1) := dk_38 (dk_at dksJ10_signum_2_0 6 rfl rfl)
theorem dJ10_signum_2_7 : decode cJ10_signum_2 7 = .ok (.invokestatic 205, 3) := dk_184 0 205 (dk_at dksJ10_signum_2_0 7 rfl rfl)
theorem dJ10_signum_2_10 : decode cJ10_signum_2 10 = .ok (.ifCond .eq 7, 3) := dk_153 0 7 (dk_at dksJ10_signum_2_0 10 rfl rfl)
theorem dJ10_signum_2_13 : decode cJ10_signum_2 13 = .ok (.dload_n 0, 1) := dk_38 (dk_at dksJ10_signum_2_0 13 rfl rfl)
theorem dJ10_signum_2_14 : decode cJ10_signum_2 14 = .ok (.goto 8, 3) := dk_167 0 8 (dk_at dksJ10_signum_2_0 14 rfl rfl)
theorem dJ10_signum_2_17 : decode cJ10_signum_2 17 = .ok (.dconst 1, 1) := dk_15 (dk_at dksJ10_signum_2_0 17 rfl rfl)
theorem dJ10_signum_2_18 : decode cJ10_signum_2 18 = .ok (.dload_n 0, 1) := dk_38 (dk_at dksJ10_signum_2_0 18 rfl rfl)
theorem dJ10_signum_2_19 : decode cJ10_signum_2 19 = .ok (.invokestatic 299, 3) := dk_184 1 43 (dk_at dksJ10_signum_2_0 19 rfl rfl)
theorem dJ10_signum_2_22 : decode cJ10_signum_2 22 = .ok (.dreturn, 1) := dk_175 (dk_at dksJ10_signum_2_0 22 rfl rfl)
abbrev cJ10_ulp_2 : ByteArray := prog_21_method_79_code
def yJ10_ulp_2 : MethodName := ⟨RJ10, "ulp", "(D)D"⟩
def dkwJ10_ulp_2_4 : List UInt8 := [17, 252, 2, 161, 0, 10, 28, 184, 1, 30, 167, 0, 13, 10, 28, 17, 251, 206, 100, 121, 184, 0, 166, 175]
abbrev dktJ10_ulp_2_4 : List UInt8 := dkwJ10_ulp_2_4 ++ []
def dkwJ10_ulp_2_3 : List UInt8 := [163, 0, 10, 28, 17, 252, 2, 162, 0, 11, 187, 0, 247, 89, 183, 0, 249, 191, 28, 16, 52, 100, 61, 28]
abbrev dktJ10_ulp_2_3 : List UInt8 := dkwJ10_ulp_2_3 ++ dktJ10_ulp_2_4
def dkwJ10_ulp_2_2 : List UInt8 := [38, 184, 1, 26, 167, 0, 66, 20, 1, 28, 167, 0, 60, 178, 0, 243, 154, 0, 25, 28, 17, 3, 255]
abbrev dktJ10_ulp_2_2 : List UInt8 := dkwJ10_ulp_2_2 ++ dktJ10_ulp_2_3
def dkwJ10_ulp_2_1 : List UInt8 := [171, 0, 0, 0, 0, 39, 0, 0, 0, 2, 255, 255, 252, 1, 0, 0, 0, 33, 0, 0, 4, 0, 0, 0, 0, 26]
abbrev dktJ10_ulp_2_1 : List UInt8 := dkwJ10_ulp_2_1 ++ dktJ10_ulp_2_2
def dkwJ10_ulp_2_0 : List UInt8 := [38, 184, 1, 22, 61, 28]
abbrev dktJ10_ulp_2_0 : List UInt8 := dkwJ10_ulp_2_0 ++ dktJ10_ulp_2_1
theorem dksJ10_ulp_2_0 : cJ10_ulp_2.data.toList.drop 0 = dktJ10_ulp_2_0 := by decide +kernel
theorem dksJ10_ulp_2_1 : cJ10_ulp_2.data.toList.drop 6 = dktJ10_ulp_2_1 := dk_seg dksJ10_ulp_2_0 6 rfl rfl
theorem dksJ10_ulp_2_2 : cJ10_ulp_2.data.toList.drop 32 = dktJ10_ulp_2_2 := dk_seg dksJ10_ulp_2_1 26 rfl rfl
theorem dksJ10_ulp_2_3 : cJ10_ulp_2.data.toList.drop 55 = dktJ10_ulp_2_3 := dk_seg dksJ10_ulp_2_2 23 rfl rfl
theorem dksJ10_ulp_2_4 : cJ10_ulp_2.data.toList.drop 79 = dktJ10_ulp_2_4 := dk_seg dksJ10_ulp_2_3 24 rfl rfl
theorem dJ10_ulp_2_0 : decode cJ10_ulp_2 0 = .ok (.dload_n 0, 1) := dk_38 (dk_at dksJ10_ulp_2_0 0 rfl rfl)
theorem dJ10_ulp_2_1 : decode cJ10_ulp_2 1 = .ok (.invokestatic 278, 3) := dk_184 1 22 (dk_at dksJ10_ulp_2_0 1 rfl rfl)
theorem dJ10_ulp_2_4 : decode cJ10_ulp_2 4 = .ok (.istore_n 2, 1) := dk_61 (dk_at dksJ10_ulp_2_0 4 rfl rfl)
theorem dJ10_ulp_2_5 : decode cJ10_ulp_2 5 = .ok (.iload_n 2, 1) := dk_28 (dk_at dksJ10_ulp_2_0 5 rfl rfl)
theorem dJ10_ulp_2_6 : decode cJ10_ulp_2 6 = .ok (.lookupswitch 39 #[(-1023, 33), (1024, 26)], 26) := by decide +kernel
theorem dJ10_ulp_2_32 : decode cJ10_ulp_2 32 = .ok (.dload_n 0, 1) := dk_38 (dk_at dksJ10_ulp_2_2 0 rfl rfl)
theorem dJ10_ulp_2_33 : decode cJ10_ulp_2 33 = .ok (.invokestatic 282, 3) := dk_184 1 26 (dk_at dksJ10_ulp_2_2 1 rfl rfl)
theorem dJ10_ulp_2_36 : decode cJ10_ulp_2 36 = .ok (.goto 66, 3) := dk_167 0 66 (dk_at dksJ10_ulp_2_2 4 rfl rfl)
theorem dJ10_ulp_2_39 : decode cJ10_ulp_2 39 = .ok (.ldc2_w 284, 3) := dk_20 1 28 (dk_at dksJ10_ulp_2_2 7 rfl rfl)
theorem dJ10_ulp_2_42 : decode cJ10_ulp_2 42 = .ok (.goto 60, 3) := dk_167 0 60 (dk_at dksJ10_ulp_2_2 10 rfl rfl)
theorem dJ10_ulp_2_45 : decode cJ10_ulp_2 45 = .ok (.getstatic 243, 3) := dk_178 0 243 (dk_at dksJ10_ulp_2_2 13 rfl rfl)
theorem dJ10_ulp_2_48 : decode cJ10_ulp_2 48 = .ok (.ifCond .ne 25, 3) := dk_154 0 25 (dk_at dksJ10_ulp_2_2 16 rfl rfl)
theorem dJ10_ulp_2_51 : decode cJ10_ulp_2 51 = .ok (.iload_n 2, 1) := dk_28 (dk_at dksJ10_ulp_2_2 19 rfl rfl)
theorem dJ10_ulp_2_52 : decode cJ10_ulp_2 52 = .ok (.sipush 1023, 3) := dk_17 3 255 (dk_at dksJ10_ulp_2_2 20 rfl rfl)
theorem dJ10_ulp_2_55 : decode cJ10_ulp_2 55 = .ok (.if_icmp .gt 10, 3) := dk_163 0 10 (dk_at dksJ10_ulp_2_3 0 rfl rfl)
theorem dJ10_ulp_2_58 : decode cJ10_ulp_2 58 = .ok (.iload_n 2, 1) := dk_28 (dk_at dksJ10_ulp_2_3 3 rfl rfl)
theorem dJ10_ulp_2_59 : decode cJ10_ulp_2 59 = .ok (.sipush (-1022), 3) := dk_17 252 2 (dk_at dksJ10_ulp_2_3 4 rfl rfl)
theorem dJ10_ulp_2_62 : decode cJ10_ulp_2 62 = .ok (.if_icmp .ge 11, 3) := dk_162 0 11 (dk_at dksJ10_ulp_2_3 7 rfl rfl)
theorem dJ10_ulp_2_65 : decode cJ10_ulp_2 65 = .ok (.new 247, 3) := dk_187 0 247 (dk_at dksJ10_ulp_2_3 10 rfl rfl)
theorem dJ10_ulp_2_68 : decode cJ10_ulp_2 68 = .ok (.dup, 1) := dk_89 (dk_at dksJ10_ulp_2_3 13 rfl rfl)
theorem dJ10_ulp_2_69 : decode cJ10_ulp_2 69 = .ok (.invokespecial 249, 3) := dk_183 0 249 (dk_at dksJ10_ulp_2_3 14 rfl rfl)
theorem dJ10_ulp_2_72 : decode cJ10_ulp_2 72 = .ok (.athrow, 1) := dk_191 (dk_at dksJ10_ulp_2_3 17 rfl rfl)
theorem dJ10_ulp_2_73 : decode cJ10_ulp_2 73 = .ok (.iload_n 2, 1) := dk_28 (dk_at dksJ10_ulp_2_3 18 rfl rfl)
theorem dJ10_ulp_2_74 : decode cJ10_ulp_2 74 = .ok (.bipush 52, 2) := dk_16 52 (dk_at dksJ10_ulp_2_3 19 rfl rfl)
theorem dJ10_ulp_2_76 : decode cJ10_ulp_2 76 = .ok (.isub, 1) := dk_100 (dk_at dksJ10_ulp_2_3 21 rfl rfl)
theorem dJ10_ulp_2_77 : decode cJ10_ulp_2 77 = .ok (.istore_n 2, 1) := dk_61 (dk_at dksJ10_ulp_2_3 22 rfl rfl)
theorem dJ10_ulp_2_78 : decode cJ10_ulp_2 78 = .ok (.iload_n 2, 1) := dk_28 (dk_at dksJ10_ulp_2_3 23 rfl rfl)
theorem dJ10_ulp_2_79 : decode cJ10_ulp_2 79 = .ok (.sipush (-1022), 3) := dk_17 252 2 (dk_at dksJ10_ulp_2_4 0 rfl rfl)
theorem dJ10_ulp_2_82 : decode cJ10_ulp_2 82 = .ok (.if_icmp .lt 10, 3) := dk_161 0 10 (dk_at dksJ10_ulp_2_4 3 rfl rfl)
theorem dJ10_ulp_2_85 : decode cJ10_ulp_2 85 = .ok (.iload_n 2, 1) := dk_28 (dk_at dksJ10_ulp_2_4 6 rfl rfl)
theorem dJ10_ulp_2_86 : decode cJ10_ulp_2 86 = .ok (.invokestatic 286, 3) := dk_184 1 30 (dk_at dksJ10_ulp_2_4 7 rfl rfl)
theorem dJ10_ulp_2_89 : decode cJ10_ulp_2 89 = .ok (.goto 13, 3) := dk_167 0 13 (dk_at dksJ10_ulp_2_4 10 rfl rfl)
theorem dJ10_ulp_2_92 : decode cJ10_ulp_2 92 = .ok (.lconst 1, 1) := dk_10 (dk_at dksJ10_ulp_2_4 13 rfl rfl)
theorem dJ10_ulp_2_93 : decode cJ10_ulp_2 93 = .ok (.iload_n 2, 1) := dk_28 (dk_at dksJ10_ulp_2_4 14 rfl rfl)
theorem dJ10_ulp_2_94 : decode cJ10_ulp_2 94 = .ok (.sipush (-1074), 3) := dk_17 251 206 (dk_at dksJ10_ulp_2_4 15 rfl rfl)
theorem dJ10_ulp_2_97 : decode cJ10_ulp_2 97 = .ok (.isub, 1) := dk_100 (dk_at dksJ10_ulp_2_4 18 rfl rfl)
theorem dJ10_ulp_2_98 : decode cJ10_ulp_2 98 = .ok (.lshl, 1) := dk_121 (dk_at dksJ10_ulp_2_4 19 rfl rfl)
theorem dJ10_ulp_2_99 : decode cJ10_ulp_2 99 = .ok (.invokestatic 166, 3) := dk_184 0 166 (dk_at dksJ10_ulp_2_4 20 rfl rfl)
theorem dJ10_ulp_2_102 : decode cJ10_ulp_2 102 = .ok (.dreturn, 1) := dk_175 (dk_at dksJ10_ulp_2_4 23 rfl rfl)
abbrev cJ10_nextUp_2 : ByteArray := prog_21_method_95_code
def yJ10_nextUp_2 : MethodName := ⟨RJ10, "nextUp", "(D)D"⟩
def dkwJ10_nextUp_2_1 : List UInt8 := [167, 0, 6, 20, 0, 130, 97, 184, 0, 166, 175, 38, 175]
abbrev dktJ10_nextUp_2_1 : List UInt8 := dkwJ10_nextUp_2_1 ++ []
def dkwJ10_nextUp_2_0 : List UInt8 := [38, 20, 1, 71, 152, 156, 0, 29, 38, 14, 99, 184, 0, 79, 65, 32, 32, 9, 148, 155, 0, 7, 10]
abbrev dktJ10_nextUp_2_0 : List UInt8 := dkwJ10_nextUp_2_0 ++ dktJ10_nextUp_2_1
theorem dksJ10_nextUp_2_0 : cJ10_nextUp_2.data.toList.drop 0 = dktJ10_nextUp_2_0 := by decide +kernel
theorem dksJ10_nextUp_2_1 : cJ10_nextUp_2.data.toList.drop 23 = dktJ10_nextUp_2_1 := dk_seg dksJ10_nextUp_2_0 23 rfl rfl
theorem dJ10_nextUp_2_0 : decode cJ10_nextUp_2 0 = .ok (.dload_n 0, 1) := dk_38 (dk_at dksJ10_nextUp_2_0 0 rfl rfl)
theorem dJ10_nextUp_2_1 : decode cJ10_nextUp_2 1 = .ok (.ldc2_w 327, 3) := dk_20 1 71 (dk_at dksJ10_nextUp_2_0 1 rfl rfl)
theorem dJ10_nextUp_2_4 : decode cJ10_nextUp_2 4 = .ok (.dcmp .g, 1) := dk_152 (dk_at dksJ10_nextUp_2_0 4 rfl rfl)
theorem dJ10_nextUp_2_5 : decode cJ10_nextUp_2 5 = .ok (.ifCond .ge 29, 3) := dk_156 0 29 (dk_at dksJ10_nextUp_2_0 5 rfl rfl)
theorem dJ10_nextUp_2_8 : decode cJ10_nextUp_2 8 = .ok (.dload_n 0, 1) := dk_38 (dk_at dksJ10_nextUp_2_0 8 rfl rfl)
theorem dJ10_nextUp_2_9 : decode cJ10_nextUp_2 9 = .ok (.dconst 0, 1) := dk_14 (dk_at dksJ10_nextUp_2_0 9 rfl rfl)
theorem dJ10_nextUp_2_10 : decode cJ10_nextUp_2 10 = .ok (.dadd, 1) := dk_99 (dk_at dksJ10_nextUp_2_0 10 rfl rfl)
theorem dJ10_nextUp_2_11 : decode cJ10_nextUp_2 11 = .ok (.invokestatic 79, 3) := dk_184 0 79 (dk_at dksJ10_nextUp_2_0 11 rfl rfl)
theorem dJ10_nextUp_2_14 : decode cJ10_nextUp_2 14 = .ok (.lstore_n 2, 1) := dk_65 (dk_at dksJ10_nextUp_2_0 14 rfl rfl)
theorem dJ10_nextUp_2_15 : decode cJ10_nextUp_2 15 = .ok (.lload_n 2, 1) := dk_32 (dk_at dksJ10_nextUp_2_0 15 rfl rfl)
theorem dJ10_nextUp_2_16 : decode cJ10_nextUp_2 16 = .ok (.lload_n 2, 1) := dk_32 (dk_at dksJ10_nextUp_2_0 16 rfl rfl)
theorem dJ10_nextUp_2_17 : decode cJ10_nextUp_2 17 = .ok (.lconst 0, 1) := dk_9 (dk_at dksJ10_nextUp_2_0 17 rfl rfl)
theorem dJ10_nextUp_2_18 : decode cJ10_nextUp_2 18 = .ok (.lcmp, 1) := dk_148 (dk_at dksJ10_nextUp_2_0 18 rfl rfl)
theorem dJ10_nextUp_2_19 : decode cJ10_nextUp_2 19 = .ok (.ifCond .lt 7, 3) := dk_155 0 7 (dk_at dksJ10_nextUp_2_0 19 rfl rfl)
theorem dJ10_nextUp_2_22 : decode cJ10_nextUp_2 22 = .ok (.lconst 1, 1) := dk_10 (dk_at dksJ10_nextUp_2_0 22 rfl rfl)
theorem dJ10_nextUp_2_23 : decode cJ10_nextUp_2 23 = .ok (.goto 6, 3) := dk_167 0 6 (dk_at dksJ10_nextUp_2_1 0 rfl rfl)
theorem dJ10_nextUp_2_26 : decode cJ10_nextUp_2 26 = .ok (.ldc2_w 130, 3) := dk_20 0 130 (dk_at dksJ10_nextUp_2_1 3 rfl rfl)
theorem dJ10_nextUp_2_29 : decode cJ10_nextUp_2 29 = .ok (.ladd, 1) := dk_97 (dk_at dksJ10_nextUp_2_1 6 rfl rfl)
theorem dJ10_nextUp_2_30 : decode cJ10_nextUp_2 30 = .ok (.invokestatic 166, 3) := dk_184 0 166 (dk_at dksJ10_nextUp_2_1 7 rfl rfl)
theorem dJ10_nextUp_2_33 : decode cJ10_nextUp_2 33 = .ok (.dreturn, 1) := dk_175 (dk_at dksJ10_nextUp_2_1 10 rfl rfl)
theorem dJ10_nextUp_2_34 : decode cJ10_nextUp_2 34 = .ok (.dload_n 0, 1) := dk_38 (dk_at dksJ10_nextUp_2_1 11 rfl rfl)
theorem dJ10_nextUp_2_35 : decode cJ10_nextUp_2 35 = .ok (.dreturn, 1) := dk_175 (dk_at dksJ10_nextUp_2_1 12 rfl rfl)
theorem q281 : (Jvm.Cond.initialized "java/lang/Math") ∈ lw_all := lw_g (lw_at lw_m1 17 rfl) rfl
theorem q794 : (Jvm.Cond.static ({ cls := "java/lang/Math", name := "min", desc := "(JJ)J" } : Jvm.MethodName)) ∈ lw_all := lw_g (lw_at lw_m3 50 rfl) rfl
theorem q795 : (Jvm.Cond.code ({ cls := "java/lang/Math", name := "min", desc := "(JJ)J" } : Jvm.MethodName) prog_21_method_70_code (4 : Nat) (Option.some Jvm.ClassFile.FieldType.long)) ∈ lw_all := lw_g (lw_at lw_m3 51 rfl) rfl
theorem q797 : (Jvm.Cond.static ({ cls := "java/lang/Math", name := "max", desc := "(JJ)J" } : Jvm.MethodName)) ∈ lw_all := lw_g (lw_at lw_m3 53 rfl) rfl
theorem q798 : (Jvm.Cond.code ({ cls := "java/lang/Math", name := "max", desc := "(JJ)J" } : Jvm.MethodName) prog_21_method_66_code (4 : Nat) (Option.some Jvm.ClassFile.FieldType.long)) ∈ lw_all := lw_g (lw_at lw_m3 54 rfl) rfl
theorem q1345 : (Jvm.Cond.static ({ cls := "java/lang/Math", name := "max", desc := "(II)I" } : Jvm.MethodName)) ∈ lw_all := lw_g (lw_at lw_m5 121 rfl) rfl
theorem q1346 : (Jvm.Cond.code ({ cls := "java/lang/Math", name := "max", desc := "(II)I" } : Jvm.MethodName) prog_21_method_65_code (2 : Nat) (Option.some Jvm.ClassFile.FieldType.int)) ∈ lw_all := lw_g (lw_at lw_m5 122 rfl) rfl
theorem q1694 : (Jvm.Cond.static ({ cls := "java/lang/Math", name := "min", desc := "(II)I" } : Jvm.MethodName)) ∈ lw_all := lw_g (lw_at lw_m6 230 rfl) rfl
theorem q1695 : (Jvm.Cond.code ({ cls := "java/lang/Math", name := "min", desc := "(II)I" } : Jvm.MethodName) prog_21_method_69_code (2 : Nat) (Option.some Jvm.ClassFile.FieldType.int)) ∈ lw_all := lw_g (lw_at lw_m6 231 rfl) rfl
theorem q1700 : (Jvm.Cond.static ({ cls := "java/lang/Math", name := "max", desc := "(FF)F" } : Jvm.MethodName)) ∈ lw_all := lw_g (lw_at lw_m6 236 rfl) rfl
theorem q1701 : (Jvm.Cond.code ({ cls := "java/lang/Math", name := "max", desc := "(FF)F" } : Jvm.MethodName) prog_21_method_67_code (2 : Nat) (Option.some Jvm.ClassFile.FieldType.float)) ∈ lw_all := lw_g (lw_at lw_m6 237 rfl) rfl
theorem q1702 : (Jvm.Cond.methodLink "java/lang/Math" (68 : Nat) ({ cls := "java/lang/Float", name := "floatToRawIntBits", desc := "(F)I" } : Jvm.MethodName)) ∈ lw_all := lw_g (lw_at lw_m6 238 rfl) rfl
theorem q1703 : (Jvm.Cond.fieldLink "java/lang/Math" (170 : Nat) "java/lang/Math" "negativeZeroFloatBits" "J") ∈ lw_all := lw_g (lw_at lw_m6 239 rfl) rfl
theorem q1704 : (Jvm.Cond.laysStatic "java/lang/Math" "negativeZeroFloatBits" "J") ∈ lw_tbl := lw_at lw_m7 0 rfl
theorem q1706 : (Jvm.Cond.static ({ cls := "java/lang/Math", name := "min", desc := "(FF)F" } : Jvm.MethodName)) ∈ lw_all := lw_g (lw_at lw_m7 2 rfl) rfl
theorem q1707 : (Jvm.Cond.code ({ cls := "java/lang/Math", name := "min", desc := "(FF)F" } : Jvm.MethodName) prog_21_method_71_code (2 : Nat) (Option.some Jvm.ClassFile.FieldType.float)) ∈ lw_all := lw_g (lw_at lw_m7 3 rfl) rfl
theorem q1712 : (Jvm.Cond.static ({ cls := "java/lang/Math", name := "max", desc := "(DD)D" } : Jvm.MethodName)) ∈ lw_all := lw_g (lw_at lw_m7 8 rfl) rfl
theorem q1713 : (Jvm.Cond.code ({ cls := "java/lang/Math", name := "max", desc := "(DD)D" } : Jvm.MethodName) prog_21_method_68_code (4 : Nat) (Option.some Jvm.ClassFile.FieldType.double)) ∈ lw_all := lw_g (lw_at lw_m7 9 rfl) rfl
theorem q1714 : (Jvm.Cond.methodLink "java/lang/Math" (79 : Nat) ({ cls := "java/lang/Double", name := "doubleToRawLongBits", desc := "(D)J" } : Jvm.MethodName)) ∈ lw_all := lw_g (lw_at lw_m7 10 rfl) rfl
theorem q1715 : (Jvm.Cond.fieldLink "java/lang/Math" (174 : Nat) "java/lang/Math" "negativeZeroDoubleBits" "J") ∈ lw_all := lw_g (lw_at lw_m7 11 rfl) rfl
theorem q1716 : (Jvm.Cond.laysStatic "java/lang/Math" "negativeZeroDoubleBits" "J") ∈ lw_tbl := lw_at lw_m7 12 rfl
theorem q1718 : (Jvm.Cond.static ({ cls := "java/lang/Math", name := "min", desc := "(DD)D" } : Jvm.MethodName)) ∈ lw_all := lw_g (lw_at lw_m7 14 rfl) rfl
theorem q1719 : (Jvm.Cond.code ({ cls := "java/lang/Math", name := "min", desc := "(DD)D" } : Jvm.MethodName) prog_21_method_72_code (4 : Nat) (Option.some Jvm.ClassFile.FieldType.double)) ∈ lw_all := lw_g (lw_at lw_m7 15 rfl) rfl
theorem q1726 : (Jvm.Cond.static ({ cls := "java/lang/Math", name := "copySign", desc := "(FF)F" } : Jvm.MethodName)) ∈ lw_all := lw_g (lw_at lw_m7 22 rfl) rfl
theorem q1727 : (Jvm.Cond.code ({ cls := "java/lang/Math", name := "copySign", desc := "(FF)F" } : Jvm.MethodName) prog_21_method_90_code (2 : Nat) (Option.some Jvm.ClassFile.FieldType.float)) ∈ lw_all := lw_g (lw_at lw_m7 23 rfl) rfl
theorem q1728 : (Jvm.Cond.constant "java/lang/Math" (137 : Nat) (-2147483648 : Int32)) ∈ lw_all := lw_g (lw_at lw_m7 24 rfl) rfl
theorem q1729 : (Jvm.Cond.constant "java/lang/Math" (134 : Nat) (2147483647 : Int32)) ∈ lw_all := lw_g (lw_at lw_m7 25 rfl) rfl
theorem q1730 : (Jvm.Cond.methodLink "java/lang/Math" (162 : Nat) ({ cls := "java/lang/Float", name := "intBitsToFloat", desc := "(I)F" } : Jvm.MethodName)) ∈ lw_all := lw_g (lw_at lw_m7 26 rfl) rfl
theorem q1733 : (Jvm.Cond.static ({ cls := "java/lang/Math", name := "copySign", desc := "(DD)D" } : Jvm.MethodName)) ∈ lw_all := lw_g (lw_at lw_m7 29 rfl) rfl
theorem q1734 : (Jvm.Cond.code ({ cls := "java/lang/Math", name := "copySign", desc := "(DD)D" } : Jvm.MethodName) prog_21_method_89_code (4 : Nat) (Option.some Jvm.ClassFile.FieldType.double)) ∈ lw_all := lw_g (lw_at lw_m7 30 rfl) rfl
theorem q1735 : (Jvm.Cond.constantLong "java/lang/Math" (128 : Nat) (-9223372036854775808 : Int64)) ∈ lw_all := lw_g (lw_at lw_m7 31 rfl) rfl
theorem q1736 : (Jvm.Cond.constantLong "java/lang/Math" (135 : Nat) (9223372036854775807 : Int64)) ∈ lw_all := lw_g (lw_at lw_m7 32 rfl) rfl
theorem q1737 : (Jvm.Cond.methodLink "java/lang/Math" (166 : Nat) ({ cls := "java/lang/Double", name := "longBitsToDouble", desc := "(J)D" } : Jvm.MethodName)) ∈ lw_all := lw_g (lw_at lw_m7 33 rfl) rfl
theorem q1743 : (Jvm.Cond.static ({ cls := "java/lang/Math", name := "scalb", desc := "(FI)F" } : Jvm.MethodName)) ∈ lw_all := lw_g (lw_at lw_m7 39 rfl) rfl
theorem q1744 : (Jvm.Cond.code ({ cls := "java/lang/Math", name := "scalb", desc := "(FI)F" } : Jvm.MethodName) prog_21_method_100_code (3 : Nat) (Option.some Jvm.ClassFile.FieldType.float)) ∈ lw_all := lw_g (lw_at lw_m7 40 rfl) rfl
theorem q1745 : (Jvm.Cond.methodLink "java/lang/Math" (340 : Nat) ({ cls := "java/lang/Math", name := "min", desc := "(II)I" } : Jvm.MethodName)) ∈ lw_all := lw_g (lw_at lw_m7 41 rfl) rfl
theorem q1746 : (Jvm.Cond.methodLink "java/lang/Math" (333 : Nat) ({ cls := "java/lang/Math", name := "max", desc := "(II)I" } : Jvm.MethodName)) ∈ lw_all := lw_g (lw_at lw_m7 42 rfl) rfl
theorem q1747 : (Jvm.Cond.methodLink "java/lang/Math" (286 : Nat) ({ cls := "java/lang/Math", name := "powerOfTwoD", desc := "(I)D" } : Jvm.MethodName)) ∈ lw_all := lw_g (lw_at lw_m7 43 rfl) rfl
theorem q1748 : (Jvm.Cond.static ({ cls := "java/lang/Math", name := "powerOfTwoD", desc := "(I)D" } : Jvm.MethodName)) ∈ lw_all := lw_g (lw_at lw_m7 44 rfl) rfl
theorem q1749 : (Jvm.Cond.code ({ cls := "java/lang/Math", name := "powerOfTwoD", desc := "(I)D" } : Jvm.MethodName) prog_21_method_101_code (1 : Nat) (Option.some Jvm.ClassFile.FieldType.double)) ∈ lw_all := lw_g (lw_at lw_m7 45 rfl) rfl
theorem q1750 : (Jvm.Cond.fieldLink "java/lang/Math" (243 : Nat) "java/lang/Math" "$assertionsDisabled" "Z") ∈ lw_all := lw_g (lw_at lw_m7 46 rfl) rfl
theorem q1751 : (Jvm.Cond.laysStatic "java/lang/Math" "$assertionsDisabled" "Z") ∈ lw_tbl := lw_at lw_m7 47 rfl
theorem q1752 : (Jvm.Cond.constantLong "java/lang/Math" (322 : Nat) (1023 : Int64)) ∈ lw_all := lw_g (lw_at lw_m7 48 rfl) rfl
theorem q1753 : (Jvm.Cond.constantLong "java/lang/Math" (87 : Nat) (9218868437227405312 : Int64)) ∈ lw_all := lw_g (lw_at lw_m7 49 rfl) rfl
theorem q1755 : (Jvm.Cond.static ({ cls := "java/lang/Math", name := "scalb", desc := "(DI)D" } : Jvm.MethodName)) ∈ lw_all := lw_g (lw_at lw_m7 51 rfl) rfl
theorem q1756 : (Jvm.Cond.code ({ cls := "java/lang/Math", name := "scalb", desc := "(DI)D" } : Jvm.MethodName) prog_21_method_99_code (9 : Nat) (Option.some Jvm.ClassFile.FieldType.double)) ∈ lw_all := lw_g (lw_at lw_m7 52 rfl) rfl
theorem q1757 : (Jvm.Cond.constantDouble "java/lang/Math" (238 : Nat) (9221120237041090560 : UInt64)) ∈ lw_all := lw_g (lw_at lw_m7 53 rfl) rfl
theorem q1758 : (Jvm.Cond.fieldLink "java/lang/Math" (336 : Nat) "java/lang/Math" "twoToTheDoubleScaleDown" "D") ∈ lw_all := lw_g (lw_at lw_m7 54 rfl) rfl
theorem q1759 : (Jvm.Cond.laysStatic "java/lang/Math" "twoToTheDoubleScaleDown" "D") ∈ lw_tbl := lw_at lw_m7 55 rfl
theorem q1760 : (Jvm.Cond.fieldLink "java/lang/Math" (342 : Nat) "java/lang/Math" "twoToTheDoubleScaleUp" "D") ∈ lw_all := lw_g (lw_at lw_m7 56 rfl) rfl
theorem q1761 : (Jvm.Cond.laysStatic "java/lang/Math" "twoToTheDoubleScaleUp" "D") ∈ lw_tbl := lw_at lw_m7 57 rfl
theorem q1781 : (Jvm.Cond.static ({ cls := "java/lang/Math", name := "abs", desc := "(I)I" } : Jvm.MethodName)) ∈ lw_all := lw_g (lw_at lw_m7 77 rfl) rfl
theorem q1782 : (Jvm.Cond.code ({ cls := "java/lang/Math", name := "abs", desc := "(I)I" } : Jvm.MethodName) prog_21_method_59_code (1 : Nat) (Option.some Jvm.ClassFile.FieldType.int)) ∈ lw_all := lw_g (lw_at lw_m7 78 rfl) rfl
theorem q1784 : (Jvm.Cond.static ({ cls := "java/lang/Math", name := "abs", desc := "(J)J" } : Jvm.MethodName)) ∈ lw_all := lw_g (lw_at lw_m7 80 rfl) rfl
theorem q1785 : (Jvm.Cond.code ({ cls := "java/lang/Math", name := "abs", desc := "(J)J" } : Jvm.MethodName) prog_21_method_61_code (2 : Nat) (Option.some Jvm.ClassFile.FieldType.long)) ∈ lw_all := lw_g (lw_at lw_m7 81 rfl) rfl
theorem q1787 : (Jvm.Cond.static ({ cls := "java/lang/Math", name := "abs", desc := "(F)F" } : Jvm.MethodName)) ∈ lw_all := lw_g (lw_at lw_m7 83 rfl) rfl
theorem q1788 : (Jvm.Cond.code ({ cls := "java/lang/Math", name := "abs", desc := "(F)F" } : Jvm.MethodName) prog_21_method_63_code (1 : Nat) (Option.some Jvm.ClassFile.FieldType.float)) ∈ lw_all := lw_g (lw_at lw_m7 84 rfl) rfl
theorem q1790 : (Jvm.Cond.static ({ cls := "java/lang/Math", name := "abs", desc := "(D)D" } : Jvm.MethodName)) ∈ lw_all := lw_g (lw_at lw_m7 86 rfl) rfl
theorem q1791 : (Jvm.Cond.code ({ cls := "java/lang/Math", name := "abs", desc := "(D)D" } : Jvm.MethodName) prog_21_method_64_code (2 : Nat) (Option.some Jvm.ClassFile.FieldType.double)) ∈ lw_all := lw_g (lw_at lw_m7 87 rfl) rfl
theorem q1833 : (Jvm.Cond.static ({ cls := "java/lang/Math", name := "round", desc := "(F)I" } : Jvm.MethodName)) ∈ lw_all := lw_g (lw_at lw_m7 129 rfl) rfl
theorem q1834 : (Jvm.Cond.code ({ cls := "java/lang/Math", name := "round", desc := "(F)I" } : Jvm.MethodName) prog_21_method_21_code (5 : Nat) (Option.some Jvm.ClassFile.FieldType.int)) ∈ lw_all := lw_g (lw_at lw_m7 130 rfl) rfl
theorem q1835 : (Jvm.Cond.constant "java/lang/Math" (76 : Nat) (2139095040 : Int32)) ∈ lw_all := lw_g (lw_at lw_m7 131 rfl) rfl
theorem q1836 : (Jvm.Cond.constant "java/lang/Math" (77 : Nat) (8388607 : Int32)) ∈ lw_all := lw_g (lw_at lw_m7 132 rfl) rfl
theorem q1837 : (Jvm.Cond.constant "java/lang/Math" (78 : Nat) (8388608 : Int32)) ∈ lw_all := lw_g (lw_at lw_m7 133 rfl) rfl
theorem q1839 : (Jvm.Cond.static ({ cls := "java/lang/Math", name := "getExponent", desc := "(F)I" } : Jvm.MethodName)) ∈ lw_all := lw_g (lw_at lw_m7 135 rfl) rfl
theorem q1840 : (Jvm.Cond.code ({ cls := "java/lang/Math", name := "getExponent", desc := "(F)I" } : Jvm.MethodName) prog_21_method_91_code (1 : Nat) (Option.some Jvm.ClassFile.FieldType.int)) ∈ lw_all := lw_g (lw_at lw_m7 136 rfl) rfl
theorem q1842 : (Jvm.Cond.static ({ cls := "java/lang/Math", name := "floor", desc := "(D)D" } : Jvm.MethodName)) ∈ lw_all := lw_g (lw_at lw_m7 138 rfl) rfl
theorem q1843 : (Jvm.Cond.code ({ cls := "java/lang/Math", name := "floor", desc := "(D)D" } : Jvm.MethodName) prog_21_method_17_code (2 : Nat) (Option.some Jvm.ClassFile.FieldType.double)) ∈ lw_all := lw_g (lw_at lw_m7 139 rfl) rfl
theorem q1844 : (Jvm.Cond.methodLink "java/lang/Math" (56 : Nat) ({ cls := "java/lang/StrictMath", name := "floor", desc := "(D)D" } : Jvm.MethodName)) ∈ lw_all := lw_g (lw_at lw_m7 140 rfl) rfl
theorem q1852 : (Jvm.Cond.static ({ cls := "java/lang/Math", name := "getExponent", desc := "(D)I" } : Jvm.MethodName)) ∈ lw_all := lw_g (lw_at lw_m7 148 rfl) rfl
theorem q1853 : (Jvm.Cond.code ({ cls := "java/lang/Math", name := "getExponent", desc := "(D)I" } : Jvm.MethodName) prog_21_method_92_code (2 : Nat) (Option.some Jvm.ClassFile.FieldType.int)) ∈ lw_all := lw_g (lw_at lw_m7 149 rfl) rfl
theorem q1861 : (Jvm.Cond.static ({ cls := "java/lang/Math", name := "ceil", desc := "(D)D" } : Jvm.MethodName)) ∈ lw_all := lw_g (lw_at lw_m7 157 rfl) rfl
theorem q1862 : (Jvm.Cond.code ({ cls := "java/lang/Math", name := "ceil", desc := "(D)D" } : Jvm.MethodName) prog_21_method_16_code (2 : Nat) (Option.some Jvm.ClassFile.FieldType.double)) ∈ lw_all := lw_g (lw_at lw_m7 158 rfl) rfl
theorem q1863 : (Jvm.Cond.methodLink "java/lang/Math" (53 : Nat) ({ cls := "java/lang/StrictMath", name := "ceil", desc := "(D)D" } : Jvm.MethodName)) ∈ lw_all := lw_g (lw_at lw_m7 159 rfl) rfl
theorem q1868 : (Jvm.Cond.static ({ cls := "java/lang/Math", name := "rint", desc := "(D)D" } : Jvm.MethodName)) ∈ lw_all := lw_g (lw_at lw_m7 164 rfl) rfl
theorem q1869 : (Jvm.Cond.code ({ cls := "java/lang/Math", name := "rint", desc := "(D)D" } : Jvm.MethodName) prog_21_method_18_code (2 : Nat) (Option.some Jvm.ClassFile.FieldType.double)) ∈ lw_all := lw_g (lw_at lw_m7 165 rfl) rfl
theorem q1870 : (Jvm.Cond.methodLink "java/lang/Math" (59 : Nat) ({ cls := "java/lang/StrictMath", name := "rint", desc := "(D)D" } : Jvm.MethodName)) ∈ lw_all := lw_g (lw_at lw_m7 166 rfl) rfl
theorem q1877 : (Jvm.Cond.static ({ cls := "java/lang/Math", name := "signum", desc := "(F)F" } : Jvm.MethodName)) ∈ lw_all := lw_g (lw_at lw_m7 173 rfl) rfl
theorem q1878 : (Jvm.Cond.code ({ cls := "java/lang/Math", name := "signum", desc := "(F)F" } : Jvm.MethodName) prog_21_method_82_code (1 : Nat) (Option.some Jvm.ClassFile.FieldType.float)) ∈ lw_all := lw_g (lw_at lw_m7 174 rfl) rfl
theorem q1879 : (Jvm.Cond.methodLink "java/lang/Math" (224 : Nat) ({ cls := "java/lang/Float", name := "isNaN", desc := "(F)Z" } : Jvm.MethodName)) ∈ lw_all := lw_g (lw_at lw_m7 175 rfl) rfl
theorem q1880 : (Jvm.Cond.methodLink "java/lang/Math" (302 : Nat) ({ cls := "java/lang/Math", name := "copySign", desc := "(FF)F" } : Jvm.MethodName)) ∈ lw_all := lw_g (lw_at lw_m7 176 rfl) rfl
theorem q1888 : (Jvm.Cond.static ({ cls := "java/lang/Math", name := "ulp", desc := "(F)F" } : Jvm.MethodName)) ∈ lw_all := lw_g (lw_at lw_m7 184 rfl) rfl
theorem q1889 : (Jvm.Cond.code ({ cls := "java/lang/Math", name := "ulp", desc := "(F)F" } : Jvm.MethodName) prog_21_method_80_code (2 : Nat) (Option.some Jvm.ClassFile.FieldType.float)) ∈ lw_all := lw_g (lw_at lw_m7 185 rfl) rfl
theorem q1890 : (Jvm.Cond.methodLink "java/lang/Math" (290 : Nat) ({ cls := "java/lang/Math", name := "getExponent", desc := "(F)I" } : Jvm.MethodName)) ∈ lw_all := lw_g (lw_at lw_m7 186 rfl) rfl
theorem q1891 : (Jvm.Cond.methodLink "java/lang/Math" (292 : Nat) ({ cls := "java/lang/Math", name := "abs", desc := "(F)F" } : Jvm.MethodName)) ∈ lw_all := lw_g (lw_at lw_m7 187 rfl) rfl
theorem q1892 : (Jvm.Cond.constantFloat "java/lang/Math" (295 : Nat) (1 : UInt32)) ∈ lw_all := lw_g (lw_at lw_m7 188 rfl) rfl
theorem q1893 : (Jvm.Cond.methodLink "java/lang/Math" (296 : Nat) ({ cls := "java/lang/Math", name := "powerOfTwoF", desc := "(I)F" } : Jvm.MethodName)) ∈ lw_all := lw_g (lw_at lw_m7 189 rfl) rfl
theorem q1894 : (Jvm.Cond.static ({ cls := "java/lang/Math", name := "powerOfTwoF", desc := "(I)F" } : Jvm.MethodName)) ∈ lw_all := lw_g (lw_at lw_m7 190 rfl) rfl
theorem q1895 : (Jvm.Cond.code ({ cls := "java/lang/Math", name := "powerOfTwoF", desc := "(I)F" } : Jvm.MethodName) prog_21_method_102_code (1 : Nat) (Option.some Jvm.ClassFile.FieldType.float)) ∈ lw_all := lw_g (lw_at lw_m7 191 rfl) rfl
theorem q1897 : (Jvm.Cond.static ({ cls := "java/lang/Math", name := "nextUp", desc := "(F)F" } : Jvm.MethodName)) ∈ lw_all := lw_g (lw_at lw_m7 193 rfl) rfl
theorem q1898 : (Jvm.Cond.code ({ cls := "java/lang/Math", name := "nextUp", desc := "(F)F" } : Jvm.MethodName) prog_21_method_96_code (2 : Nat) (Option.some Jvm.ClassFile.FieldType.float)) ∈ lw_all := lw_g (lw_at lw_m7 194 rfl) rfl
theorem q1899 : (Jvm.Cond.constantFloat "java/lang/Math" (329 : Nat) (2139095040 : UInt32)) ∈ lw_all := lw_g (lw_at lw_m7 195 rfl) rfl
theorem q1906 : (Jvm.Cond.static ({ cls := "java/lang/Math", name := "round", desc := "(D)J" } : Jvm.MethodName)) ∈ lw_all := lw_g (lw_at lw_m7 202 rfl) rfl
theorem q1907 : (Jvm.Cond.code ({ cls := "java/lang/Math", name := "round", desc := "(D)J" } : Jvm.MethodName) prog_21_method_22_code (10 : Nat) (Option.some Jvm.ClassFile.FieldType.long)) ∈ lw_all := lw_g (lw_at lw_m7 203 rfl) rfl
theorem q1908 : (Jvm.Cond.constantLong "java/lang/Math" (89 : Nat) (1074 : Int64)) ∈ lw_all := lw_g (lw_at lw_m7 204 rfl) rfl
theorem q1909 : (Jvm.Cond.constantLong "java/lang/Math" (91 : Nat) (-64 : Int64)) ∈ lw_all := lw_g (lw_at lw_m7 205 rfl) rfl
theorem q1910 : (Jvm.Cond.constantLong "java/lang/Math" (93 : Nat) (4503599627370495 : Int64)) ∈ lw_all := lw_g (lw_at lw_m7 206 rfl) rfl
theorem q1911 : (Jvm.Cond.constantLong "java/lang/Math" (95 : Nat) (4503599627370496 : Int64)) ∈ lw_all := lw_g (lw_at lw_m7 207 rfl) rfl
theorem q1913 : (Jvm.Cond.static ({ cls := "java/lang/Math", name := "signum", desc := "(D)D" } : Jvm.MethodName)) ∈ lw_all := lw_g (lw_at lw_m7 209 rfl) rfl
theorem q1914 : (Jvm.Cond.code ({ cls := "java/lang/Math", name := "signum", desc := "(D)D" } : Jvm.MethodName) prog_21_method_81_code (2 : Nat) (Option.some Jvm.ClassFile.FieldType.double)) ∈ lw_all := lw_g (lw_at lw_m7 210 rfl) rfl
theorem q1915 : (Jvm.Cond.methodLink "java/lang/Math" (205 : Nat) ({ cls := "java/lang/Double", name := "isNaN", desc := "(D)Z" } : Jvm.MethodName)) ∈ lw_all := lw_g (lw_at lw_m7 211 rfl) rfl
theorem q1916 : (Jvm.Cond.methodLink "java/lang/Math" (299 : Nat) ({ cls := "java/lang/Math", name := "copySign", desc := "(DD)D" } : Jvm.MethodName)) ∈ lw_all := lw_g (lw_at lw_m7 212 rfl) rfl
theorem q1918 : (Jvm.Cond.static ({ cls := "java/lang/Math", name := "ulp", desc := "(D)D" } : Jvm.MethodName)) ∈ lw_all := lw_g (lw_at lw_m7 214 rfl) rfl
theorem q1919 : (Jvm.Cond.code ({ cls := "java/lang/Math", name := "ulp", desc := "(D)D" } : Jvm.MethodName) prog_21_method_79_code (3 : Nat) (Option.some Jvm.ClassFile.FieldType.double)) ∈ lw_all := lw_g (lw_at lw_m7 215 rfl) rfl
theorem q1920 : (Jvm.Cond.methodLink "java/lang/Math" (278 : Nat) ({ cls := "java/lang/Math", name := "getExponent", desc := "(D)I" } : Jvm.MethodName)) ∈ lw_all := lw_g (lw_at lw_m7 216 rfl) rfl
theorem q1921 : (Jvm.Cond.methodLink "java/lang/Math" (282 : Nat) ({ cls := "java/lang/Math", name := "abs", desc := "(D)D" } : Jvm.MethodName)) ∈ lw_all := lw_g (lw_at lw_m7 217 rfl) rfl
theorem q1922 : (Jvm.Cond.constantDouble "java/lang/Math" (284 : Nat) (1 : UInt64)) ∈ lw_all := lw_g (lw_at lw_m7 218 rfl) rfl
theorem q1924 : (Jvm.Cond.static ({ cls := "java/lang/Math", name := "nextUp", desc := "(D)D" } : Jvm.MethodName)) ∈ lw_all := lw_g (lw_at lw_m7 220 rfl) rfl
theorem q1925 : (Jvm.Cond.code ({ cls := "java/lang/Math", name := "nextUp", desc := "(D)D" } : Jvm.MethodName) prog_21_method_95_code (4 : Nat) (Option.some Jvm.ClassFile.FieldType.double)) ∈ lw_all := lw_g (lw_at lw_m7 221 rfl) rfl
theorem q1926 : (Jvm.Cond.constantDouble "java/lang/Math" (327 : Nat) (9218868437227405312 : UInt64)) ∈ lw_all := lw_g (lw_at lw_m7 222 rfl) rfl
theorem q1927 : (Jvm.Cond.constantLong "java/lang/Math" (130 : Nat) (-1 : Int64)) ∈ lw_all := lw_g (lw_at lw_m7 223 rfl) rfl

/-! java/lang/ClassCastException -/
set_option maxRecDepth 100000
def RJ11 : String := "java/lang/ClassCastException"
def TJ11 : u_T := fun k => match k with
  | 0 => ("java/lang/Throwable", "backtrace", "Ljava/lang/Object;", false)
  | 1 => ("java/lang/Throwable", "detailMessage", "Ljava/lang/String;", false)
  | 2 => ("java/lang/Throwable", "cause", "Ljava/lang/Throwable;", false)
  | 3 => ("java/lang/Throwable", "stackTrace", "[Ljava/lang/StackTraceElement;", false)
  | 4 => ("java/lang/Throwable", "depth", "I", false)
  | _ => ("java/lang/Throwable", "suppressedExceptions", "Ljava/util/List;", false)
def tyJ11 : Nat → FieldType := fun k => match k with
  | 0 => .object "java/lang/Object"
  | 1 => .object "java/lang/String"
  | 2 => .object "java/lang/Throwable"
  | 3 => .array (.object "java/lang/StackTraceElement")
  | 4 => .int
  | _ => .object "java/util/List"
abbrev wsJ110 : List Cond := u_ws RJ11 TJ11 6
theorem nmJ11 : ∀ a, a < 6 → ∀ b, b < 6 → a ≠ b → (TJ11 a).2.1 ≠ (TJ11 b).2.1 := by decide +kernel
theorem tyJ11_ok : ∀ k, k < 6 → parseFieldDescriptor (TJ11 k).2.2.1 = some (tyJ11 k) := by decide +kernel
abbrev cJ11_init : ByteArray := prog_15_method_2_code
def yJ11_init : MethodName := ⟨RJ11, "<init>", "(Ljava/lang/String;)V"⟩
def dkwJ11_init_0 : List UInt8 := [42, 43, 183, 0, 7, 177]
abbrev dktJ11_init_0 : List UInt8 := dkwJ11_init_0 ++ []
theorem dksJ11_init_0 : cJ11_init.data.toList.drop 0 = dktJ11_init_0 := by decide +kernel
theorem dJ11_init_0 : decode cJ11_init 0 = .ok (.aload_n 0, 1) := dk_42 (dk_at dksJ11_init_0 0 rfl rfl)
theorem dJ11_init_1 : decode cJ11_init 1 = .ok (.aload_n 1, 1) := dk_43 (dk_at dksJ11_init_0 1 rfl rfl)
theorem dJ11_init_2 : decode cJ11_init 2 = .ok (.invokespecial 7, 3) := dk_183 0 7 (dk_at dksJ11_init_0 2 rfl rfl)
theorem dJ11_init_5 : decode cJ11_init 5 = .ok (.return_, 1) := dk_177 (dk_at dksJ11_init_0 5 rfl rfl)
theorem q282 : (Jvm.Cond.initialized "java/lang/ClassCastException") ∈ lw_all := lw_g (lw_at lw_m1 18 rfl) rfl
theorem q341 : (Jvm.Cond.selects "java/lang/ClassCastException" ({ cls := "java/lang/Throwable", name := "fillInStackTrace", desc := "()Ljava/lang/Throwable;" } : Jvm.MethodName) ({ cls := "java/lang/Throwable", name := "fillInStackTrace", desc := "()Ljava/lang/Throwable;" } : Jvm.MethodName)) ∈ lw_all := lw_g (lw_at lw_m1 77 rfl) rfl
theorem q808 : (Jvm.Cond.instantiable "java/lang/ClassCastException" (6 : Nat)) ∈ lw_all := lw_g (lw_at lw_m3 64 rfl) rfl
theorem q809 : (Jvm.Cond.instanceMethod ({ cls := "java/lang/ClassCastException", name := "<init>", desc := "(Ljava/lang/String;)V" } : Jvm.MethodName)) ∈ lw_all := lw_g (lw_at lw_m3 65 rfl) rfl
theorem q810 : (Jvm.Cond.code ({ cls := "java/lang/ClassCastException", name := "<init>", desc := "(Ljava/lang/String;)V" } : Jvm.MethodName) prog_15_method_2_code (2 : Nat) (Option.none : Option Jvm.ClassFile.FieldType)) ∈ lw_all := lw_g (lw_at lw_m3 66 rfl) rfl
theorem q811 : (Jvm.Cond.methodLink "java/lang/ClassCastException" (7 : Nat) ({ cls := "java/lang/RuntimeException", name := "<init>", desc := "(Ljava/lang/String;)V" } : Jvm.MethodName)) ∈ lw_all := lw_g (lw_at lw_m3 67 rfl) rfl
theorem q812 : (Jvm.Cond.lays "java/lang/ClassCastException" "java/lang/Throwable" "backtrace" "Ljava/lang/Object;") ∈ lw_all := lw_g (lw_at lw_m3 68 rfl) rfl
theorem q813 : (Jvm.Cond.lays "java/lang/ClassCastException" "java/lang/Throwable" "detailMessage" "Ljava/lang/String;") ∈ lw_all := lw_g (lw_at lw_m3 69 rfl) rfl
theorem q814 : (Jvm.Cond.lays "java/lang/ClassCastException" "java/lang/Throwable" "cause" "Ljava/lang/Throwable;") ∈ lw_all := lw_g (lw_at lw_m3 70 rfl) rfl
theorem q815 : (Jvm.Cond.lays "java/lang/ClassCastException" "java/lang/Throwable" "stackTrace" "[Ljava/lang/StackTraceElement;") ∈ lw_all := lw_g (lw_at lw_m3 71 rfl) rfl
theorem q816 : (Jvm.Cond.lays "java/lang/ClassCastException" "java/lang/Throwable" "depth" "I") ∈ lw_all := lw_g (lw_at lw_m3 72 rfl) rfl
theorem q817 : (Jvm.Cond.lays "java/lang/ClassCastException" "java/lang/Throwable" "suppressedExceptions" "Ljava/util/List;") ∈ lw_all := lw_g (lw_at lw_m3 73 rfl) rfl
theorem q818 : (Jvm.Cond.superclass "java/lang/ClassCastException" "java/lang/RuntimeException") ∈ lw_all := lw_g (lw_at lw_m3 74 rfl) rfl
theorem q819 : (Jvm.Cond.castable "java/lang/ClassCastException" "java/lang/ClassCastException") ∈ lw_tbl := lw_at lw_m3 75 rfl
theorem q820 : (Jvm.Cond.selects "java/lang/ClassCastException" ({ cls := "java/lang/Throwable", name := "fillInStackTrace", desc := "(I)Ljava/lang/Throwable;" } : Jvm.MethodName) ({ cls := "java/lang/Throwable", name := "fillInStackTrace", desc := "(I)Ljava/lang/Throwable;" } : Jvm.MethodName)) ∈ lw_all := lw_g (lw_at lw_m3 76 rfl) rfl
theorem in_J11 : ∀ w ∈ wsJ110, w ∈ lw_all := lw_in wsJ110 [812, 813, 814, 815, 816, 817] (by decide +kernel) (by decide +kernel)

/-! java/lang/ArrayStoreException -/
set_option maxRecDepth 100000
def RJ12 : String := "java/lang/ArrayStoreException"
def TJ12 : u_T := fun k => match k with
  | 0 => ("java/lang/Throwable", "backtrace", "Ljava/lang/Object;", false)
  | 1 => ("java/lang/Throwable", "detailMessage", "Ljava/lang/String;", false)
  | 2 => ("java/lang/Throwable", "cause", "Ljava/lang/Throwable;", false)
  | 3 => ("java/lang/Throwable", "stackTrace", "[Ljava/lang/StackTraceElement;", false)
  | 4 => ("java/lang/Throwable", "depth", "I", false)
  | _ => ("java/lang/Throwable", "suppressedExceptions", "Ljava/util/List;", false)
def tyJ12 : Nat → FieldType := fun k => match k with
  | 0 => .object "java/lang/Object"
  | 1 => .object "java/lang/String"
  | 2 => .object "java/lang/Throwable"
  | 3 => .array (.object "java/lang/StackTraceElement")
  | 4 => .int
  | _ => .object "java/util/List"
abbrev wsJ120 : List Cond := u_ws RJ12 TJ12 6
theorem nmJ12 : ∀ a, a < 6 → ∀ b, b < 6 → a ≠ b → (TJ12 a).2.1 ≠ (TJ12 b).2.1 := by decide +kernel
theorem tyJ12_ok : ∀ k, k < 6 → parseFieldDescriptor (TJ12 k).2.2.1 = some (tyJ12 k) := by decide +kernel
abbrev cJ12_init : ByteArray := prog_14_method_2_code
def yJ12_init : MethodName := ⟨RJ12, "<init>", "(Ljava/lang/String;)V"⟩
def dkwJ12_init_0 : List UInt8 := [42, 43, 183, 0, 7, 177]
abbrev dktJ12_init_0 : List UInt8 := dkwJ12_init_0 ++ []
theorem dksJ12_init_0 : cJ12_init.data.toList.drop 0 = dktJ12_init_0 := by decide +kernel
theorem dJ12_init_0 : decode cJ12_init 0 = .ok (.aload_n 0, 1) := dk_42 (dk_at dksJ12_init_0 0 rfl rfl)
theorem dJ12_init_1 : decode cJ12_init 1 = .ok (.aload_n 1, 1) := dk_43 (dk_at dksJ12_init_0 1 rfl rfl)
theorem dJ12_init_2 : decode cJ12_init 2 = .ok (.invokespecial 7, 3) := dk_183 0 7 (dk_at dksJ12_init_0 2 rfl rfl)
theorem dJ12_init_5 : decode cJ12_init 5 = .ok (.return_, 1) := dk_177 (dk_at dksJ12_init_0 5 rfl rfl)
theorem q287 : (Jvm.Cond.initialized "java/lang/ArrayStoreException") ∈ lw_all := lw_g (lw_at lw_m1 23 rfl) rfl
theorem q340 : (Jvm.Cond.selects "java/lang/ArrayStoreException" ({ cls := "java/lang/Throwable", name := "fillInStackTrace", desc := "()Ljava/lang/Throwable;" } : Jvm.MethodName) ({ cls := "java/lang/Throwable", name := "fillInStackTrace", desc := "()Ljava/lang/Throwable;" } : Jvm.MethodName)) ∈ lw_all := lw_g (lw_at lw_m1 76 rfl) rfl
theorem q863 : (Jvm.Cond.instantiable "java/lang/ArrayStoreException" (6 : Nat)) ∈ lw_all := lw_g (lw_at lw_m3 119 rfl) rfl
theorem q864 : (Jvm.Cond.instanceMethod ({ cls := "java/lang/ArrayStoreException", name := "<init>", desc := "(Ljava/lang/String;)V" } : Jvm.MethodName)) ∈ lw_all := lw_g (lw_at lw_m3 120 rfl) rfl
theorem q865 : (Jvm.Cond.code ({ cls := "java/lang/ArrayStoreException", name := "<init>", desc := "(Ljava/lang/String;)V" } : Jvm.MethodName) prog_14_method_2_code (2 : Nat) (Option.none : Option Jvm.ClassFile.FieldType)) ∈ lw_all := lw_g (lw_at lw_m3 121 rfl) rfl
theorem q866 : (Jvm.Cond.methodLink "java/lang/ArrayStoreException" (7 : Nat) ({ cls := "java/lang/RuntimeException", name := "<init>", desc := "(Ljava/lang/String;)V" } : Jvm.MethodName)) ∈ lw_all := lw_g (lw_at lw_m3 122 rfl) rfl
theorem q867 : (Jvm.Cond.lays "java/lang/ArrayStoreException" "java/lang/Throwable" "backtrace" "Ljava/lang/Object;") ∈ lw_all := lw_g (lw_at lw_m3 123 rfl) rfl
theorem q868 : (Jvm.Cond.lays "java/lang/ArrayStoreException" "java/lang/Throwable" "detailMessage" "Ljava/lang/String;") ∈ lw_all := lw_g (lw_at lw_m3 124 rfl) rfl
theorem q869 : (Jvm.Cond.lays "java/lang/ArrayStoreException" "java/lang/Throwable" "cause" "Ljava/lang/Throwable;") ∈ lw_all := lw_g (lw_at lw_m3 125 rfl) rfl
theorem q870 : (Jvm.Cond.lays "java/lang/ArrayStoreException" "java/lang/Throwable" "stackTrace" "[Ljava/lang/StackTraceElement;") ∈ lw_all := lw_g (lw_at lw_m3 126 rfl) rfl
theorem q871 : (Jvm.Cond.lays "java/lang/ArrayStoreException" "java/lang/Throwable" "depth" "I") ∈ lw_all := lw_g (lw_at lw_m3 127 rfl) rfl
theorem q872 : (Jvm.Cond.lays "java/lang/ArrayStoreException" "java/lang/Throwable" "suppressedExceptions" "Ljava/util/List;") ∈ lw_all := lw_g (lw_at lw_m3 128 rfl) rfl
theorem q873 : (Jvm.Cond.superclass "java/lang/ArrayStoreException" "java/lang/RuntimeException") ∈ lw_all := lw_g (lw_at lw_m3 129 rfl) rfl
theorem q874 : (Jvm.Cond.castable "java/lang/ArrayStoreException" "java/lang/ArrayStoreException") ∈ lw_tbl := lw_at lw_m3 130 rfl
theorem q875 : (Jvm.Cond.selects "java/lang/ArrayStoreException" ({ cls := "java/lang/Throwable", name := "fillInStackTrace", desc := "(I)Ljava/lang/Throwable;" } : Jvm.MethodName) ({ cls := "java/lang/Throwable", name := "fillInStackTrace", desc := "(I)Ljava/lang/Throwable;" } : Jvm.MethodName)) ∈ lw_all := lw_g (lw_at lw_m3 131 rfl) rfl
theorem in_J12 : ∀ w ∈ wsJ120, w ∈ lw_all := lw_in wsJ120 [867, 868, 869, 870, 871, 872] (by decide +kernel) (by decide +kernel)

/-! java/lang/StringLatin1 -/
set_option maxRecDepth 100000
def RJ13 : String := "java/lang/StringLatin1"
abbrev cJ13_charAt : ByteArray := prog_28_method_2_code
def yJ13_charAt : MethodName := ⟨RJ13, "charAt", "([BI)C"⟩
def dkwJ13_charAt_0 : List UInt8 := [27, 42, 190, 184, 0, 9, 42, 27, 51, 17, 0, 255, 126, 146, 172]
abbrev dktJ13_charAt_0 : List UInt8 := dkwJ13_charAt_0 ++ []
theorem dksJ13_charAt_0 : cJ13_charAt.data.toList.drop 0 = dktJ13_charAt_0 := by decide +kernel
theorem dJ13_charAt_0 : decode cJ13_charAt 0 = .ok (.iload_n 1, 1) := dk_27 (dk_at dksJ13_charAt_0 0 rfl rfl)
theorem dJ13_charAt_1 : decode cJ13_charAt 1 = .ok (.aload_n 0, 1) := dk_42 (dk_at dksJ13_charAt_0 1 rfl rfl)
theorem dJ13_charAt_2 : decode cJ13_charAt 2 = .ok (.arraylength, 1) := dk_190 (dk_at dksJ13_charAt_0 2 rfl rfl)
theorem dJ13_charAt_3 : decode cJ13_charAt 3 = .ok (.invokestatic 9, 3) := dk_184 0 9 (dk_at dksJ13_charAt_0 3 rfl rfl)
theorem dJ13_charAt_6 : decode cJ13_charAt 6 = .ok (.aload_n 0, 1) := dk_42 (dk_at dksJ13_charAt_0 6 rfl rfl)
theorem dJ13_charAt_7 : decode cJ13_charAt 7 = .ok (.iload_n 1, 1) := dk_27 (dk_at dksJ13_charAt_0 7 rfl rfl)
theorem dJ13_charAt_8 : decode cJ13_charAt 8 = .ok (.baload, 1) := dk_51 (dk_at dksJ13_charAt_0 8 rfl rfl)
theorem dJ13_charAt_9 : decode cJ13_charAt 9 = .ok (.sipush 255, 3) := dk_17 0 255 (dk_at dksJ13_charAt_0 9 rfl rfl)
theorem dJ13_charAt_12 : decode cJ13_charAt 12 = .ok (.iand, 1) := dk_126 (dk_at dksJ13_charAt_0 12 rfl rfl)
theorem dJ13_charAt_13 : decode cJ13_charAt 13 = .ok (.i2c, 1) := dk_146 (dk_at dksJ13_charAt_0 13 rfl rfl)
theorem dJ13_charAt_14 : decode cJ13_charAt 14 = .ok (.ireturn, 1) := dk_172 (dk_at dksJ13_charAt_0 14 rfl rfl)
theorem q289 : (Jvm.Cond.initialized "java/lang/StringLatin1") ∈ lw_all := lw_g (lw_at lw_m1 25 rfl) rfl
theorem q1016 : (Jvm.Cond.static ({ cls := "java/lang/StringLatin1", name := "charAt", desc := "([BI)C" } : Jvm.MethodName)) ∈ lw_all := lw_g (lw_at lw_m4 32 rfl) rfl
theorem q1017 : (Jvm.Cond.code ({ cls := "java/lang/StringLatin1", name := "charAt", desc := "([BI)C" } : Jvm.MethodName) prog_28_method_2_code (2 : Nat) (Option.some Jvm.ClassFile.FieldType.char)) ∈ lw_all := lw_g (lw_at lw_m4 33 rfl) rfl
theorem q1018 : (Jvm.Cond.methodLink "java/lang/StringLatin1" (9 : Nat) ({ cls := "java/lang/String", name := "checkIndex", desc := "(II)V" } : Jvm.MethodName)) ∈ lw_all := lw_g (lw_at lw_m4 34 rfl) rfl

/-! jdk/internal/util/Preconditions -/
set_option maxRecDepth 100000
def RJ14 : String := "jdk/internal/util/Preconditions"
abbrev cJ14_checkIndex : ByteArray := prog_32_method_11_code
def yJ14_checkIndex : MethodName := ⟨RJ14, "checkIndex", "(IILjava/util/function/BiFunction;)I"⟩
def dkwJ14_checkIndex_0 : List UInt8 := [26, 155, 0, 8, 26, 27, 161, 0, 10, 44, 26, 27, 184, 0, 95, 191, 26, 172]
abbrev dktJ14_checkIndex_0 : List UInt8 := dkwJ14_checkIndex_0 ++ []
theorem dksJ14_checkIndex_0 : cJ14_checkIndex.data.toList.drop 0 = dktJ14_checkIndex_0 := by decide +kernel
theorem dJ14_checkIndex_0 : decode cJ14_checkIndex 0 = .ok (.iload_n 0, 1) := dk_26 (dk_at dksJ14_checkIndex_0 0 rfl rfl)
theorem dJ14_checkIndex_1 : decode cJ14_checkIndex 1 = .ok (.ifCond .lt 8, 3) := dk_155 0 8 (dk_at dksJ14_checkIndex_0 1 rfl rfl)
theorem dJ14_checkIndex_4 : decode cJ14_checkIndex 4 = .ok (.iload_n 0, 1) := dk_26 (dk_at dksJ14_checkIndex_0 4 rfl rfl)
theorem dJ14_checkIndex_5 : decode cJ14_checkIndex 5 = .ok (.iload_n 1, 1) := dk_27 (dk_at dksJ14_checkIndex_0 5 rfl rfl)
theorem dJ14_checkIndex_6 : decode cJ14_checkIndex 6 = .ok (.if_icmp .lt 10, 3) := dk_161 0 10 (dk_at dksJ14_checkIndex_0 6 rfl rfl)
theorem dJ14_checkIndex_9 : decode cJ14_checkIndex 9 = .ok (.aload_n 2, 1) := dk_44 (dk_at dksJ14_checkIndex_0 9 rfl rfl)
theorem dJ14_checkIndex_10 : decode cJ14_checkIndex 10 = .ok (.iload_n 0, 1) := dk_26 (dk_at dksJ14_checkIndex_0 10 rfl rfl)
theorem dJ14_checkIndex_11 : decode cJ14_checkIndex 11 = .ok (.iload_n 1, 1) := dk_27 (dk_at dksJ14_checkIndex_0 11 rfl rfl)
theorem dJ14_checkIndex_12 : decode cJ14_checkIndex 12 = .ok (.invokestatic 95, 3) := dk_184 0 95 (dk_at dksJ14_checkIndex_0 12 rfl rfl)
theorem dJ14_checkIndex_15 : decode cJ14_checkIndex 15 = .ok (.athrow, 1) := dk_191 (dk_at dksJ14_checkIndex_0 15 rfl rfl)
theorem dJ14_checkIndex_16 : decode cJ14_checkIndex 16 = .ok (.iload_n 0, 1) := dk_26 (dk_at dksJ14_checkIndex_0 16 rfl rfl)
theorem dJ14_checkIndex_17 : decode cJ14_checkIndex 17 = .ok (.ireturn, 1) := dk_172 (dk_at dksJ14_checkIndex_0 17 rfl rfl)
theorem q290 : (Jvm.Cond.initialized "jdk/internal/util/Preconditions") ∈ lw_all := lw_g (lw_at lw_m1 26 rfl) rfl
theorem q1022 : (Jvm.Cond.laysStatic "jdk/internal/util/Preconditions" "SIOOBE_FORMATTER" "Ljava/util/function/BiFunction;") ∈ lw_tbl := lw_at lw_m4 38 rfl
theorem q1024 : (Jvm.Cond.static ({ cls := "jdk/internal/util/Preconditions", name := "checkIndex", desc := "(IILjava/util/function/BiFunction;)I" } : Jvm.MethodName)) ∈ lw_all := lw_g (lw_at lw_m4 40 rfl) rfl
theorem q1025 : (Jvm.Cond.code ({ cls := "jdk/internal/util/Preconditions", name := "checkIndex", desc := "(IILjava/util/function/BiFunction;)I" } : Jvm.MethodName) prog_32_method_11_code (3 : Nat) (Option.some Jvm.ClassFile.FieldType.int)) ∈ lw_all := lw_g (lw_at lw_m4 41 rfl) rfl

/-! java/lang/StringUTF16 -/
set_option maxRecDepth 100000
def RJ15 : String := "java/lang/StringUTF16"
abbrev cJ15_charAt : ByteArray := prog_29_method_83_code
def yJ15_charAt : MethodName := ⟨RJ15, "charAt", "([BI)C"⟩
def dkwJ15_charAt_0 : List UInt8 := [27, 42, 184, 0, 67, 42, 27, 184, 0, 71, 172]
abbrev dktJ15_charAt_0 : List UInt8 := dkwJ15_charAt_0 ++ []
theorem dksJ15_charAt_0 : cJ15_charAt.data.toList.drop 0 = dktJ15_charAt_0 := by decide +kernel
theorem dJ15_charAt_0 : decode cJ15_charAt 0 = .ok (.iload_n 1, 1) := dk_27 (dk_at dksJ15_charAt_0 0 rfl rfl)
theorem dJ15_charAt_1 : decode cJ15_charAt 1 = .ok (.aload_n 0, 1) := dk_42 (dk_at dksJ15_charAt_0 1 rfl rfl)
theorem dJ15_charAt_2 : decode cJ15_charAt 2 = .ok (.invokestatic 67, 3) := dk_184 0 67 (dk_at dksJ15_charAt_0 2 rfl rfl)
theorem dJ15_charAt_5 : decode cJ15_charAt 5 = .ok (.aload_n 0, 1) := dk_42 (dk_at dksJ15_charAt_0 5 rfl rfl)
theorem dJ15_charAt_6 : decode cJ15_charAt 6 = .ok (.iload_n 1, 1) := dk_27 (dk_at dksJ15_charAt_0 6 rfl rfl)
theorem dJ15_charAt_7 : decode cJ15_charAt 7 = .ok (.invokestatic 71, 3) := dk_184 0 71 (dk_at dksJ15_charAt_0 7 rfl rfl)
theorem dJ15_charAt_10 : decode cJ15_charAt 10 = .ok (.ireturn, 1) := dk_172 (dk_at dksJ15_charAt_0 10 rfl rfl)
abbrev cJ15_checkIndex : ByteArray := prog_29_method_91_code
def yJ15_checkIndex : MethodName := ⟨RJ15, "checkIndex", "(I[B)V"⟩
def dkwJ15_checkIndex_0 : List UInt8 := [26, 43, 184, 0, 48, 184, 1, 158, 177]
abbrev dktJ15_checkIndex_0 : List UInt8 := dkwJ15_checkIndex_0 ++ []
theorem dksJ15_checkIndex_0 : cJ15_checkIndex.data.toList.drop 0 = dktJ15_checkIndex_0 := by decide +kernel
theorem dJ15_checkIndex_0 : decode cJ15_checkIndex 0 = .ok (.iload_n 0, 1) := dk_26 (dk_at dksJ15_checkIndex_0 0 rfl rfl)
theorem dJ15_checkIndex_1 : decode cJ15_checkIndex 1 = .ok (.aload_n 1, 1) := dk_43 (dk_at dksJ15_checkIndex_0 1 rfl rfl)
theorem dJ15_checkIndex_2 : decode cJ15_checkIndex 2 = .ok (.invokestatic 48, 3) := dk_184 0 48 (dk_at dksJ15_checkIndex_0 2 rfl rfl)
theorem dJ15_checkIndex_5 : decode cJ15_checkIndex 5 = .ok (.invokestatic 414, 3) := dk_184 1 158 (dk_at dksJ15_checkIndex_0 5 rfl rfl)
theorem dJ15_checkIndex_8 : decode cJ15_checkIndex 8 = .ok (.return_, 1) := dk_177 (dk_at dksJ15_checkIndex_0 8 rfl rfl)
abbrev cJ15_length : ByteArray := prog_29_method_6_code
def yJ15_length : MethodName := ⟨RJ15, "length", "([B)I"⟩
def dkwJ15_length_0 : List UInt8 := [42, 190, 4, 122, 172]
abbrev dktJ15_length_0 : List UInt8 := dkwJ15_length_0 ++ []
theorem dksJ15_length_0 : cJ15_length.data.toList.drop 0 = dktJ15_length_0 := by decide +kernel
theorem dJ15_length_0 : decode cJ15_length 0 = .ok (.aload_n 0, 1) := dk_42 (dk_at dksJ15_length_0 0 rfl rfl)
theorem dJ15_length_1 : decode cJ15_length 1 = .ok (.arraylength, 1) := dk_190 (dk_at dksJ15_length_0 1 rfl rfl)
theorem dJ15_length_2 : decode cJ15_length 2 = .ok (.iconst 1, 1) := dk_4 (dk_at dksJ15_length_0 2 rfl rfl)
theorem dJ15_length_3 : decode cJ15_length 3 = .ok (.ishr, 1) := dk_122 (dk_at dksJ15_length_0 3 rfl rfl)
theorem dJ15_length_4 : decode cJ15_length 4 = .ok (.ireturn, 1) := dk_172 (dk_at dksJ15_length_0 4 rfl rfl)
abbrev cJ15_getChar : ByteArray := prog_29_method_5_code
def yJ15_getChar : MethodName := ⟨RJ15, "getChar", "([BI)C"⟩
def dkwJ15_getChar_2 : List UInt8 := [51, 17, 0, 255, 126, 178, 0, 63, 120, 128, 146, 172]
abbrev dktJ15_getChar_2 : List UInt8 := dkwJ15_getChar_2 ++ []
def dkwJ15_getChar_1 : List UInt8 := [183, 0, 56, 191, 27, 4, 120, 60, 42, 27, 132, 1, 1, 51, 17, 0, 255, 126, 178, 0, 59, 120, 42, 27]
abbrev dktJ15_getChar_1 : List UInt8 := dkwJ15_getChar_1 ++ dktJ15_getChar_2
def dkwJ15_getChar_0 : List UInt8 := [178, 0, 44, 154, 0, 25, 27, 155, 0, 11, 27, 42, 184, 0, 48, 161, 0, 13, 187, 0, 52, 89, 18, 54]
abbrev dktJ15_getChar_0 : List UInt8 := dkwJ15_getChar_0 ++ dktJ15_getChar_1
theorem dksJ15_getChar_0 : cJ15_getChar.data.toList.drop 0 = dktJ15_getChar_0 := by decide +kernel
theorem dksJ15_getChar_1 : cJ15_getChar.data.toList.drop 24 = dktJ15_getChar_1 := dk_seg dksJ15_getChar_0 24 rfl rfl
theorem dksJ15_getChar_2 : cJ15_getChar.data.toList.drop 48 = dktJ15_getChar_2 := dk_seg dksJ15_getChar_1 24 rfl rfl
theorem dJ15_getChar_0 : decode cJ15_getChar 0 = .ok (.getstatic 44, 3) := dk_178 0 44 (dk_at dksJ15_getChar_0 0 rfl rfl)
theorem dJ15_getChar_3 : decode cJ15_getChar 3 = .ok (.ifCond .ne 25, 3) := dk_154 0 25 (dk_at dksJ15_getChar_0 3 rfl rfl)
theorem dJ15_getChar_6 : decode cJ15_getChar 6 = .ok (.iload_n 1, 1) := dk_27 (dk_at dksJ15_getChar_0 6 rfl rfl)
theorem dJ15_getChar_7 : decode cJ15_getChar 7 = .ok (.ifCond .lt 11, 3) := dk_155 0 11 (dk_at dksJ15_getChar_0 7 rfl rfl)
theorem dJ15_getChar_10 : decode cJ15_getChar 10 = .ok (.iload_n 1, 1) := dk_27 (dk_at dksJ15_getChar_0 10 rfl rfl)
theorem dJ15_getChar_11 : decode cJ15_getChar 11 = .ok (.aload_n 0, 1) := dk_42 (dk_at dksJ15_getChar_0 11 rfl rfl)
theorem dJ15_getChar_12 : decode cJ15_getChar 12 = .ok (.invokestatic 48, 3) := dk_184 0 48 (dk_at dksJ15_getChar_0 12 rfl rfl)
theorem dJ15_getChar_15 : decode cJ15_getChar 15 = .ok (.if_icmp .lt 13, 3) := dk_161 0 13 (dk_at dksJ15_getChar_0 15 rfl rfl)
theorem dJ15_getChar_18 : decode cJ15_getChar 18 = .ok (.new 52, 3) := dk_187 0 52 (dk_at dksJ15_getChar_0 18 rfl rfl)
theorem dJ15_getChar_21 : decode cJ15_getChar 21 = .ok (.dup, 1) := dk_89 (dk_at dksJ15_getChar_0 21 rfl rfl)
theorem dJ15_getChar_22 : decode cJ15_getChar 22 = .ok (.ldc 54, 2) := dk_18 54 (dk_at dksJ15_getChar_0 22 rfl rfl)
theorem dJ15_getChar_24 : decode cJ15_getChar 24 = .ok (.invokespecial 56, 3) := dk_183 0 56 (dk_at dksJ15_getChar_1 0 rfl rfl)
theorem dJ15_getChar_27 : decode cJ15_getChar 27 = .ok (.athrow, 1) := dk_191 (dk_at dksJ15_getChar_1 3 rfl rfl)
theorem dJ15_getChar_28 : decode cJ15_getChar 28 = .ok (.iload_n 1, 1) := dk_27 (dk_at dksJ15_getChar_1 4 rfl rfl)
theorem dJ15_getChar_29 : decode cJ15_getChar 29 = .ok (.iconst 1, 1) := dk_4 (dk_at dksJ15_getChar_1 5 rfl rfl)
theorem dJ15_getChar_30 : decode cJ15_getChar 30 = .ok (.ishl, 1) := dk_120 (dk_at dksJ15_getChar_1 6 rfl rfl)
theorem dJ15_getChar_31 : decode cJ15_getChar 31 = .ok (.istore_n 1, 1) := dk_60 (dk_at dksJ15_getChar_1 7 rfl rfl)
theorem dJ15_getChar_32 : decode cJ15_getChar 32 = .ok (.aload_n 0, 1) := dk_42 (dk_at dksJ15_getChar_1 8 rfl rfl)
theorem dJ15_getChar_33 : decode cJ15_getChar 33 = .ok (.iload_n 1, 1) := dk_27 (dk_at dksJ15_getChar_1 9 rfl rfl)
theorem dJ15_getChar_34 : decode cJ15_getChar 34 = .ok (.iinc 1 1, 3) := dk_132 1 1 (dk_at dksJ15_getChar_1 10 rfl rfl)
theorem dJ15_getChar_37 : decode cJ15_getChar 37 = .ok (.baload, 1) := dk_51 (dk_at dksJ15_getChar_1 13 rfl rfl)
theorem dJ15_getChar_38 : decode cJ15_getChar 38 = .ok (.sipush 255, 3) := dk_17 0 255 (dk_at dksJ15_getChar_1 14 rfl rfl)
theorem dJ15_getChar_41 : decode cJ15_getChar 41 = .ok (.iand, 1) := dk_126 (dk_at dksJ15_getChar_1 17 rfl rfl)
theorem dJ15_getChar_42 : decode cJ15_getChar 42 = .ok (.getstatic 59, 3) := dk_178 0 59 (dk_at dksJ15_getChar_1 18 rfl rfl)
theorem dJ15_getChar_45 : decode cJ15_getChar 45 = .ok (.ishl, 1) := dk_120 (dk_at dksJ15_getChar_1 21 rfl rfl)
theorem dJ15_getChar_46 : decode cJ15_getChar 46 = .ok (.aload_n 0, 1) := dk_42 (dk_at dksJ15_getChar_1 22 rfl rfl)
theorem dJ15_getChar_47 : decode cJ15_getChar 47 = .ok (.iload_n 1, 1) := dk_27 (dk_at dksJ15_getChar_1 23 rfl rfl)
theorem dJ15_getChar_48 : decode cJ15_getChar 48 = .ok (.baload, 1) := dk_51 (dk_at dksJ15_getChar_2 0 rfl rfl)
theorem dJ15_getChar_49 : decode cJ15_getChar 49 = .ok (.sipush 255, 3) := dk_17 0 255 (dk_at dksJ15_getChar_2 1 rfl rfl)
theorem dJ15_getChar_52 : decode cJ15_getChar 52 = .ok (.iand, 1) := dk_126 (dk_at dksJ15_getChar_2 4 rfl rfl)
theorem dJ15_getChar_53 : decode cJ15_getChar 53 = .ok (.getstatic 63, 3) := dk_178 0 63 (dk_at dksJ15_getChar_2 5 rfl rfl)
theorem dJ15_getChar_56 : decode cJ15_getChar 56 = .ok (.ishl, 1) := dk_120 (dk_at dksJ15_getChar_2 8 rfl rfl)
theorem dJ15_getChar_57 : decode cJ15_getChar 57 = .ok (.ior, 1) := dk_128 (dk_at dksJ15_getChar_2 9 rfl rfl)
theorem dJ15_getChar_58 : decode cJ15_getChar 58 = .ok (.i2c, 1) := dk_146 (dk_at dksJ15_getChar_2 10 rfl rfl)
theorem dJ15_getChar_59 : decode cJ15_getChar 59 = .ok (.ireturn, 1) := dk_172 (dk_at dksJ15_getChar_2 11 rfl rfl)
theorem q291 : (Jvm.Cond.initialized "java/lang/StringUTF16") ∈ lw_all := lw_g (lw_at lw_m1 27 rfl) rfl
theorem q1027 : (Jvm.Cond.static ({ cls := "java/lang/StringUTF16", name := "charAt", desc := "([BI)C" } : Jvm.MethodName)) ∈ lw_all := lw_g (lw_at lw_m4 43 rfl) rfl
theorem q1028 : (Jvm.Cond.code ({ cls := "java/lang/StringUTF16", name := "charAt", desc := "([BI)C" } : Jvm.MethodName) prog_29_method_83_code (2 : Nat) (Option.some Jvm.ClassFile.FieldType.char)) ∈ lw_all := lw_g (lw_at lw_m4 44 rfl) rfl
theorem q1029 : (Jvm.Cond.methodLink "java/lang/StringUTF16" (67 : Nat) ({ cls := "java/lang/StringUTF16", name := "checkIndex", desc := "(I[B)V" } : Jvm.MethodName)) ∈ lw_all := lw_g (lw_at lw_m4 45 rfl) rfl
theorem q1030 : (Jvm.Cond.static ({ cls := "java/lang/StringUTF16", name := "checkIndex", desc := "(I[B)V" } : Jvm.MethodName)) ∈ lw_all := lw_g (lw_at lw_m4 46 rfl) rfl
theorem q1031 : (Jvm.Cond.code ({ cls := "java/lang/StringUTF16", name := "checkIndex", desc := "(I[B)V" } : Jvm.MethodName) prog_29_method_91_code (2 : Nat) (Option.none : Option Jvm.ClassFile.FieldType)) ∈ lw_all := lw_g (lw_at lw_m4 47 rfl) rfl
theorem q1032 : (Jvm.Cond.methodLink "java/lang/StringUTF16" (48 : Nat) ({ cls := "java/lang/StringUTF16", name := "length", desc := "([B)I" } : Jvm.MethodName)) ∈ lw_all := lw_g (lw_at lw_m4 48 rfl) rfl
theorem q1033 : (Jvm.Cond.static ({ cls := "java/lang/StringUTF16", name := "length", desc := "([B)I" } : Jvm.MethodName)) ∈ lw_all := lw_g (lw_at lw_m4 49 rfl) rfl
theorem q1034 : (Jvm.Cond.code ({ cls := "java/lang/StringUTF16", name := "length", desc := "([B)I" } : Jvm.MethodName) prog_29_method_6_code (1 : Nat) (Option.some Jvm.ClassFile.FieldType.int)) ∈ lw_all := lw_g (lw_at lw_m4 50 rfl) rfl
theorem q1035 : (Jvm.Cond.methodLink "java/lang/StringUTF16" (414 : Nat) ({ cls := "java/lang/String", name := "checkIndex", desc := "(II)V" } : Jvm.MethodName)) ∈ lw_all := lw_g (lw_at lw_m4 51 rfl) rfl
theorem q1036 : (Jvm.Cond.methodLink "java/lang/StringUTF16" (71 : Nat) ({ cls := "java/lang/StringUTF16", name := "getChar", desc := "([BI)C" } : Jvm.MethodName)) ∈ lw_all := lw_g (lw_at lw_m4 52 rfl) rfl
theorem q1037 : (Jvm.Cond.static ({ cls := "java/lang/StringUTF16", name := "getChar", desc := "([BI)C" } : Jvm.MethodName)) ∈ lw_all := lw_g (lw_at lw_m4 53 rfl) rfl
theorem q1038 : (Jvm.Cond.code ({ cls := "java/lang/StringUTF16", name := "getChar", desc := "([BI)C" } : Jvm.MethodName) prog_29_method_5_code (2 : Nat) (Option.some Jvm.ClassFile.FieldType.char)) ∈ lw_all := lw_g (lw_at lw_m4 54 rfl) rfl
theorem q1039 : (Jvm.Cond.fieldLink "java/lang/StringUTF16" (44 : Nat) "java/lang/StringUTF16" "$assertionsDisabled" "Z") ∈ lw_all := lw_g (lw_at lw_m4 55 rfl) rfl
theorem q1040 : (Jvm.Cond.laysStatic "java/lang/StringUTF16" "$assertionsDisabled" "Z") ∈ lw_tbl := lw_at lw_m4 56 rfl
theorem q1041 : (Jvm.Cond.fieldLink "java/lang/StringUTF16" (59 : Nat) "java/lang/StringUTF16" "HI_BYTE_SHIFT" "I") ∈ lw_all := lw_g (lw_at lw_m4 57 rfl) rfl
theorem q1042 : (Jvm.Cond.laysStatic "java/lang/StringUTF16" "HI_BYTE_SHIFT" "I") ∈ lw_tbl := lw_at lw_m4 58 rfl
theorem q1043 : (Jvm.Cond.fieldLink "java/lang/StringUTF16" (63 : Nat) "java/lang/StringUTF16" "LO_BYTE_SHIFT" "I") ∈ lw_all := lw_g (lw_at lw_m4 59 rfl) rfl
theorem q1044 : (Jvm.Cond.laysStatic "java/lang/StringUTF16" "LO_BYTE_SHIFT" "I") ∈ lw_tbl := lw_at lw_m4 60 rfl

/-! java/lang/ArithmeticException -/
set_option maxRecDepth 100000
def RJ16 : String := "java/lang/ArithmeticException"
def TJ16 : u_T := fun k => match k with
  | 0 => ("java/lang/Throwable", "backtrace", "Ljava/lang/Object;", false)
  | 1 => ("java/lang/Throwable", "detailMessage", "Ljava/lang/String;", false)
  | 2 => ("java/lang/Throwable", "cause", "Ljava/lang/Throwable;", false)
  | 3 => ("java/lang/Throwable", "stackTrace", "[Ljava/lang/StackTraceElement;", false)
  | 4 => ("java/lang/Throwable", "depth", "I", false)
  | _ => ("java/lang/Throwable", "suppressedExceptions", "Ljava/util/List;", false)
def tyJ16 : Nat → FieldType := fun k => match k with
  | 0 => .object "java/lang/Object"
  | 1 => .object "java/lang/String"
  | 2 => .object "java/lang/Throwable"
  | 3 => .array (.object "java/lang/StackTraceElement")
  | 4 => .int
  | _ => .object "java/util/List"
abbrev wsJ160 : List Cond := u_ws RJ16 TJ16 6
theorem nmJ16 : ∀ a, a < 6 → ∀ b, b < 6 → a ≠ b → (TJ16 a).2.1 ≠ (TJ16 b).2.1 := by decide +kernel
theorem tyJ16_ok : ∀ k, k < 6 → parseFieldDescriptor (TJ16 k).2.2.1 = some (tyJ16 k) := by decide +kernel
abbrev cJ16_init : ByteArray := prog_12_method_2_code
def yJ16_init : MethodName := ⟨RJ16, "<init>", "(Ljava/lang/String;)V"⟩
def dkwJ16_init_0 : List UInt8 := [42, 43, 183, 0, 7, 177]
abbrev dktJ16_init_0 : List UInt8 := dkwJ16_init_0 ++ []
theorem dksJ16_init_0 : cJ16_init.data.toList.drop 0 = dktJ16_init_0 := by decide +kernel
theorem dJ16_init_0 : decode cJ16_init 0 = .ok (.aload_n 0, 1) := dk_42 (dk_at dksJ16_init_0 0 rfl rfl)
theorem dJ16_init_1 : decode cJ16_init 1 = .ok (.aload_n 1, 1) := dk_43 (dk_at dksJ16_init_0 1 rfl rfl)
theorem dJ16_init_2 : decode cJ16_init 2 = .ok (.invokespecial 7, 3) := dk_183 0 7 (dk_at dksJ16_init_0 2 rfl rfl)
theorem dJ16_init_5 : decode cJ16_init 5 = .ok (.return_, 1) := dk_177 (dk_at dksJ16_init_0 5 rfl rfl)
theorem q292 : (Jvm.Cond.initialized "java/lang/ArithmeticException") ∈ lw_all := lw_g (lw_at lw_m1 28 rfl) rfl
theorem q338 : (Jvm.Cond.selects "java/lang/ArithmeticException" ({ cls := "java/lang/Throwable", name := "fillInStackTrace", desc := "()Ljava/lang/Throwable;" } : Jvm.MethodName) ({ cls := "java/lang/Throwable", name := "fillInStackTrace", desc := "()Ljava/lang/Throwable;" } : Jvm.MethodName)) ∈ lw_all := lw_g (lw_at lw_m1 74 rfl) rfl
theorem q1548 : (Jvm.Cond.instantiable "java/lang/ArithmeticException" (6 : Nat)) ∈ lw_all := lw_g (lw_at lw_m6 84 rfl) rfl
theorem q1549 : (Jvm.Cond.instanceMethod ({ cls := "java/lang/ArithmeticException", name := "<init>", desc := "(Ljava/lang/String;)V" } : Jvm.MethodName)) ∈ lw_all := lw_g (lw_at lw_m6 85 rfl) rfl
theorem q1550 : (Jvm.Cond.code ({ cls := "java/lang/ArithmeticException", name := "<init>", desc := "(Ljava/lang/String;)V" } : Jvm.MethodName) prog_12_method_2_code (2 : Nat) (Option.none : Option Jvm.ClassFile.FieldType)) ∈ lw_all := lw_g (lw_at lw_m6 86 rfl) rfl
theorem q1551 : (Jvm.Cond.methodLink "java/lang/ArithmeticException" (7 : Nat) ({ cls := "java/lang/RuntimeException", name := "<init>", desc := "(Ljava/lang/String;)V" } : Jvm.MethodName)) ∈ lw_all := lw_g (lw_at lw_m6 87 rfl) rfl
theorem q1552 : (Jvm.Cond.lays "java/lang/ArithmeticException" "java/lang/Throwable" "backtrace" "Ljava/lang/Object;") ∈ lw_all := lw_g (lw_at lw_m6 88 rfl) rfl
theorem q1553 : (Jvm.Cond.lays "java/lang/ArithmeticException" "java/lang/Throwable" "detailMessage" "Ljava/lang/String;") ∈ lw_all := lw_g (lw_at lw_m6 89 rfl) rfl
theorem q1554 : (Jvm.Cond.lays "java/lang/ArithmeticException" "java/lang/Throwable" "cause" "Ljava/lang/Throwable;") ∈ lw_all := lw_g (lw_at lw_m6 90 rfl) rfl
theorem q1555 : (Jvm.Cond.lays "java/lang/ArithmeticException" "java/lang/Throwable" "stackTrace" "[Ljava/lang/StackTraceElement;") ∈ lw_all := lw_g (lw_at lw_m6 91 rfl) rfl
theorem q1556 : (Jvm.Cond.lays "java/lang/ArithmeticException" "java/lang/Throwable" "depth" "I") ∈ lw_all := lw_g (lw_at lw_m6 92 rfl) rfl
theorem q1557 : (Jvm.Cond.lays "java/lang/ArithmeticException" "java/lang/Throwable" "suppressedExceptions" "Ljava/util/List;") ∈ lw_all := lw_g (lw_at lw_m6 93 rfl) rfl
theorem q1558 : (Jvm.Cond.superclass "java/lang/ArithmeticException" "java/lang/RuntimeException") ∈ lw_all := lw_g (lw_at lw_m6 94 rfl) rfl
theorem q1559 : (Jvm.Cond.castable "java/lang/ArithmeticException" "java/lang/ArithmeticException") ∈ lw_tbl := lw_at lw_m6 95 rfl
theorem q1560 : (Jvm.Cond.selects "java/lang/ArithmeticException" ({ cls := "java/lang/Throwable", name := "fillInStackTrace", desc := "(I)Ljava/lang/Throwable;" } : Jvm.MethodName) ({ cls := "java/lang/Throwable", name := "fillInStackTrace", desc := "(I)Ljava/lang/Throwable;" } : Jvm.MethodName)) ∈ lw_all := lw_g (lw_at lw_m6 96 rfl) rfl
theorem in_J16 : ∀ w ∈ wsJ160, w ∈ lw_all := lw_in wsJ160 [1552, 1553, 1554, 1555, 1556, 1557] (by decide +kernel) (by decide +kernel)

/-! java/lang/StrictMath -/
set_option maxRecDepth 100000
def RJ17 : String := "java/lang/StrictMath"
abbrev cJ17_floor : ByteArray := prog_26_method_17_code
def yJ17_floor : MethodName := ⟨RJ17, "floor", "(D)D"⟩
def dkwJ17_floor_0 : List UInt8 := [38, 20, 0, 64, 14, 20, 0, 64, 184, 0, 60, 175]
abbrev dktJ17_floor_0 : List UInt8 := dkwJ17_floor_0 ++ []
theorem dksJ17_floor_0 : cJ17_floor.data.toList.drop 0 = dktJ17_floor_0 := by decide +kernel
theorem dJ17_floor_0 : decode cJ17_floor 0 = .ok (.dload_n 0, 1) := dk_38 (dk_at dksJ17_floor_0 0 rfl rfl)
theorem dJ17_floor_1 : decode cJ17_floor 1 = .ok (.ldc2_w 64, 3) := dk_20 0 64 (dk_at dksJ17_floor_0 1 rfl rfl)
theorem dJ17_floor_4 : decode cJ17_floor 4 = .ok (.dconst 0, 1) := dk_14 (dk_at dksJ17_floor_0 4 rfl rfl)
theorem dJ17_floor_5 : decode cJ17_floor 5 = .ok (.ldc2_w 64, 3) := dk_20 0 64 (dk_at dksJ17_floor_0 5 rfl rfl)
theorem dJ17_floor_8 : decode cJ17_floor 8 = .ok (.invokestatic 60, 3) := dk_184 0 60 (dk_at dksJ17_floor_0 8 rfl rfl)
theorem dJ17_floor_11 : decode cJ17_floor 11 = .ok (.dreturn, 1) := dk_175 (dk_at dksJ17_floor_0 11 rfl rfl)
abbrev cJ17_floorOrCeil : ByteArray := prog_26_method_18_code
def yJ17_floorOrCeil : MethodName := ⟨RJ17, "floorOrCeil", "(DDDD)D"⟩
def dkwJ17_floorOrCeil_5 : List UInt8 := [24, 13, 24, 6, 99, 57, 13, 24, 13, 175]
abbrev dktJ17_floorOrCeil_5 : List UInt8 := dkwJ17_floorOrCeil_5 ++ []
def dkwJ17_floorOrCeil_4 : List UInt8 := [175, 22, 9, 22, 11, 20, 0, 87, 131, 127, 184, 0, 89, 57, 13, 24, 6, 38, 107, 14, 151, 158, 0, 10]
abbrev dktJ17_floorOrCeil_4 : List UInt8 := dkwJ17_floorOrCeil_4 ++ dktJ17_floorOrCeil_5
def dkwJ17_floorOrCeil_3 : List UInt8 := [184, 0, 77, 55, 9, 20, 0, 85, 21, 8, 123, 55, 11, 22, 11, 22, 9, 127, 9, 148, 154, 0, 5, 38]
abbrev dktJ17_floorOrCeil_3 : List UInt8 := dkwJ17_floorOrCeil_3 ++ dktJ17_floorOrCeil_4
def dkwJ17_floorOrCeil_2 : List UInt8 := [154, 0, 23, 21, 8, 155, 0, 10, 21, 8, 16, 51, 164, 0, 11, 187, 0, 74, 89, 183, 0, 76, 191, 38]
abbrev dktJ17_floorOrCeil_2 : List UInt8 := dkwJ17_floorOrCeil_2 ++ dktJ17_floorOrCeil_3
def dkwJ17_floorOrCeil_1 : List UInt8 := [156, 0, 7, 40, 167, 0, 5, 24, 4, 175, 21, 8, 16, 52, 161, 0, 5, 38, 175, 178, 0, 70]
abbrev dktJ17_floorOrCeil_1 : List UInt8 := dkwJ17_floorOrCeil_1 ++ dktJ17_floorOrCeil_2
def dkwJ17_floorOrCeil_0 : List UInt8 := [38, 184, 0, 66, 54, 8, 21, 8, 156, 0, 26, 38, 14, 151, 154, 0, 7, 38, 167, 0, 15, 38, 14, 152]
abbrev dktJ17_floorOrCeil_0 : List UInt8 := dkwJ17_floorOrCeil_0 ++ dktJ17_floorOrCeil_1
theorem dksJ17_floorOrCeil_0 : cJ17_floorOrCeil.data.toList.drop 0 = dktJ17_floorOrCeil_0 := by decide +kernel
theorem dksJ17_floorOrCeil_1 : cJ17_floorOrCeil.data.toList.drop 24 = dktJ17_floorOrCeil_1 := dk_seg dksJ17_floorOrCeil_0 24 rfl rfl
theorem dksJ17_floorOrCeil_2 : cJ17_floorOrCeil.data.toList.drop 46 = dktJ17_floorOrCeil_2 := dk_seg dksJ17_floorOrCeil_1 22 rfl rfl
theorem dksJ17_floorOrCeil_3 : cJ17_floorOrCeil.data.toList.drop 70 = dktJ17_floorOrCeil_3 := dk_seg dksJ17_floorOrCeil_2 24 rfl rfl
theorem dksJ17_floorOrCeil_4 : cJ17_floorOrCeil.data.toList.drop 94 = dktJ17_floorOrCeil_4 := dk_seg dksJ17_floorOrCeil_3 24 rfl rfl
theorem dksJ17_floorOrCeil_5 : cJ17_floorOrCeil.data.toList.drop 118 = dktJ17_floorOrCeil_5 := dk_seg dksJ17_floorOrCeil_4 24 rfl rfl
theorem dJ17_floorOrCeil_0 : decode cJ17_floorOrCeil 0 = .ok (.dload_n 0, 1) := dk_38 (dk_at dksJ17_floorOrCeil_0 0 rfl rfl)
theorem dJ17_floorOrCeil_1 : decode cJ17_floorOrCeil 1 = .ok (.invokestatic 66, 3) := dk_184 0 66 (dk_at dksJ17_floorOrCeil_0 1 rfl rfl)
theorem dJ17_floorOrCeil_4 : decode cJ17_floorOrCeil 4 = .ok (.istore 8, 2) := dk_54 8 (dk_at dksJ17_floorOrCeil_0 4 rfl rfl)
theorem dJ17_floorOrCeil_6 : decode cJ17_floorOrCeil 6 = .ok (.iload 8, 2) := dk_21 8 (dk_at dksJ17_floorOrCeil_0 6 rfl rfl)
theorem dJ17_floorOrCeil_8 : decode cJ17_floorOrCeil 8 = .ok (.ifCond .ge 26, 3) := dk_156 0 26 (dk_at dksJ17_floorOrCeil_0 8 rfl rfl)
theorem dJ17_floorOrCeil_11 : decode cJ17_floorOrCeil 11 = .ok (.dload_n 0, 1) := dk_38 (dk_at dksJ17_floorOrCeil_0 11 rfl rfl)
theorem dJ17_floorOrCeil_12 : decode cJ17_floorOrCeil 12 = .ok (.dconst 0, 1) := dk_14 (dk_at dksJ17_floorOrCeil_0 12 rfl rfl)
theorem dJ17_floorOrCeil_13 : decode cJ17_floorOrCeil 13 = .ok (.dcmp .l, 1) := dk_151 (dk_at dksJ17_floorOrCeil_0 13 rfl rfl)
theorem dJ17_floorOrCeil_14 : decode cJ17_floorOrCeil 14 = .ok (.ifCond .ne 7, 3) := dk_154 0 7 (dk_at dksJ17_floorOrCeil_0 14 rfl rfl)
theorem dJ17_floorOrCeil_17 : decode cJ17_floorOrCeil 17 = .ok (.dload_n 0, 1) := dk_38 (dk_at dksJ17_floorOrCeil_0 17 rfl rfl)
theorem dJ17_floorOrCeil_18 : decode cJ17_floorOrCeil 18 = .ok (.goto 15, 3) := dk_167 0 15 (dk_at dksJ17_floorOrCeil_0 18 rfl rfl)
theorem dJ17_floorOrCeil_21 : decode cJ17_floorOrCeil 21 = .ok (.dload_n 0, 1) := dk_38 (dk_at dksJ17_floorOrCeil_0 21 rfl rfl)
theorem dJ17_floorOrCeil_22 : decode cJ17_floorOrCeil 22 = .ok (.dconst 0, 1) := dk_14 (dk_at dksJ17_floorOrCeil_0 22 rfl rfl)
theorem dJ17_floorOrCeil_23 : decode cJ17_floorOrCeil 23 = .ok (.dcmp .g, 1) := dk_152 (dk_at dksJ17_floorOrCeil_0 23 rfl rfl)
theorem dJ17_floorOrCeil_24 : decode cJ17_floorOrCeil 24 = .ok (.ifCond .ge 7, 3) := dk_156 0 7 (dk_at dksJ17_floorOrCeil_1 0 rfl rfl)
theorem dJ17_floorOrCeil_27 : decode cJ17_floorOrCeil 27 = .ok (.dload_n 2, 1) := dk_40 (dk_at dksJ17_floorOrCeil_1 3 rfl rfl)
theorem dJ17_floorOrCeil_28 : decode cJ17_floorOrCeil 28 = .ok (.goto 5, 3) := dk_167 0 5 (dk_at dksJ17_floorOrCeil_1 4 rfl rfl)
theorem dJ17_floorOrCeil_31 : decode cJ17_floorOrCeil 31 = .ok (.dload 4, 2) := dk_24 4 (dk_at dksJ17_floorOrCeil_1 7 rfl rfl)
theorem dJ17_floorOrCeil_33 : decode cJ17_floorOrCeil 33 = .ok (.dreturn, 1) := dk_175 (dk_at dksJ17_floorOrCeil_1 9 rfl rfl)
theorem dJ17_floorOrCeil_34 : decode cJ17_floorOrCeil 34 = .ok (.iload 8, 2) := dk_21 8 (dk_at dksJ17_floorOrCeil_1 10 rfl rfl)
theorem dJ17_floorOrCeil_36 : decode cJ17_floorOrCeil 36 = .ok (.bipush 52, 2) := dk_16 52 (dk_at dksJ17_floorOrCeil_1 12 rfl rfl)
theorem dJ17_floorOrCeil_38 : decode cJ17_floorOrCeil 38 = .ok (.if_icmp .lt 5, 3) := dk_161 0 5 (dk_at dksJ17_floorOrCeil_1 14 rfl rfl)
theorem dJ17_floorOrCeil_41 : decode cJ17_floorOrCeil 41 = .ok (.dload_n 0, 1) := dk_38 (dk_at dksJ17_floorOrCeil_1 17 rfl rfl)
theorem dJ17_floorOrCeil_42 : decode cJ17_floorOrCeil 42 = .ok (.dreturn, 1) := dk_175 (dk_at dksJ17_floorOrCeil_1 18 rfl rfl)
theorem dJ17_floorOrCeil_43 : decode cJ17_floorOrCeil 43 = .ok (.getstatic 70, 3) := dk_178 0 70 (dk_at dksJ17_floorOrCeil_1 19 rfl rfl)
theorem dJ17_floorOrCeil_46 : decode cJ17_floorOrCeil 46 = .ok (.ifCond .ne 23, 3) := dk_154 0 23 (dk_at dksJ17_floorOrCeil_2 0 rfl rfl)
theorem dJ17_floorOrCeil_49 : decode cJ17_floorOrCeil 49 = .ok (.iload 8, 2) := dk_21 8 (dk_at dksJ17_floorOrCeil_2 3 rfl rfl)
theorem dJ17_floorOrCeil_51 : decode cJ17_floorOrCeil 51 = .ok (.ifCond .lt 10, 3) := dk_155 0 10 (dk_at dksJ17_floorOrCeil_2 5 rfl rfl)
theorem dJ17_floorOrCeil_54 : decode cJ17_floorOrCeil 54 = .ok (.iload 8, 2) := dk_21 8 (dk_at dksJ17_floorOrCeil_2 8 rfl rfl)
theorem dJ17_floorOrCeil_56 : decode cJ17_floorOrCeil 56 = .ok (.bipush 51, 2) := dk_16 51 (dk_at dksJ17_floorOrCeil_2 10 rfl rfl)
theorem dJ17_floorOrCeil_58 : decode cJ17_floorOrCeil 58 = .ok (.if_icmp .le 11, 3) := dk_164 0 11 (dk_at dksJ17_floorOrCeil_2 12 rfl rfl)
theorem dJ17_floorOrCeil_61 : decode cJ17_floorOrCeil 61 = .ok (.new 74, 3) := dk_187 0 74 (dk_at dksJ17_floorOrCeil_2 15 rfl rfl)
theorem dJ17_floorOrCeil_64 : decode cJ17_floorOrCeil 64 = .ok (.dup, 1) := dk_89 (dk_at dksJ17_floorOrCeil_2 18 rfl rfl)
theorem dJ17_floorOrCeil_65 : decode cJ17_floorOrCeil 65 = .ok (.invokespecial 76, 3) := dk_183 0 76 (dk_at dksJ17_floorOrCeil_2 19 rfl rfl)
theorem dJ17_floorOrCeil_68 : decode cJ17_floorOrCeil 68 = .ok (.athrow, 1) := dk_191 (dk_at dksJ17_floorOrCeil_2 22 rfl rfl)
theorem dJ17_floorOrCeil_69 : decode cJ17_floorOrCeil 69 = .ok (.dload_n 0, 1) := dk_38 (dk_at dksJ17_floorOrCeil_2 23 rfl rfl)
theorem dJ17_floorOrCeil_70 : decode cJ17_floorOrCeil 70 = .ok (.invokestatic 77, 3) := dk_184 0 77 (dk_at dksJ17_floorOrCeil_3 0 rfl rfl)
theorem dJ17_floorOrCeil_73 : decode cJ17_floorOrCeil 73 = .ok (.lstore 9, 2) := dk_55 9 (dk_at dksJ17_floorOrCeil_3 3 rfl rfl)
theorem dJ17_floorOrCeil_75 : decode cJ17_floorOrCeil 75 = .ok (.ldc2_w 85, 3) := dk_20 0 85 (dk_at dksJ17_floorOrCeil_3 5 rfl rfl)
theorem dJ17_floorOrCeil_78 : decode cJ17_floorOrCeil 78 = .ok (.iload 8, 2) := dk_21 8 (dk_at dksJ17_floorOrCeil_3 8 rfl rfl)
theorem dJ17_floorOrCeil_80 : decode cJ17_floorOrCeil 80 = .ok (.lshr, 1) := dk_123 (dk_at dksJ17_floorOrCeil_3 10 rfl rfl)
theorem dJ17_floorOrCeil_81 : decode cJ17_floorOrCeil 81 = .ok (.lstore 11, 2) := dk_55 11 (dk_at dksJ17_floorOrCeil_3 11 rfl rfl)
theorem dJ17_floorOrCeil_83 : decode cJ17_floorOrCeil 83 = .ok (.lload 11, 2) := dk_22 11 (dk_at dksJ17_floorOrCeil_3 13 rfl rfl)
theorem dJ17_floorOrCeil_85 : decode cJ17_floorOrCeil 85 = .ok (.lload 9, 2) := dk_22 9 (dk_at dksJ17_floorOrCeil_3 15 rfl rfl)
theorem dJ17_floorOrCeil_87 : decode cJ17_floorOrCeil 87 = .ok (.land, 1) := dk_127 (dk_at dksJ17_floorOrCeil_3 17 rfl rfl)
theorem dJ17_floorOrCeil_88 : decode cJ17_floorOrCeil 88 = .ok (.lconst 0, 1) := dk_9 (dk_at dksJ17_floorOrCeil_3 18 rfl rfl)
theorem dJ17_floorOrCeil_89 : decode cJ17_floorOrCeil 89 = .ok (.lcmp, 1) := dk_148 (dk_at dksJ17_floorOrCeil_3 19 rfl rfl)
theorem dJ17_floorOrCeil_90 : decode cJ17_floorOrCeil 90 = .ok (.ifCond .ne 5, 3) := dk_154 0 5 (dk_at dksJ17_floorOrCeil_3 20 rfl rfl)
theorem dJ17_floorOrCeil_93 : decode cJ17_floorOrCeil 93 = .ok (.dload_n 0, 1) := dk_38 (dk_at dksJ17_floorOrCeil_3 23 rfl rfl)
theorem dJ17_floorOrCeil_94 : decode cJ17_floorOrCeil 94 = .ok (.dreturn, 1) := dk_175 (dk_at dksJ17_floorOrCeil_4 0 rfl rfl)
theorem dJ17_floorOrCeil_95 : decode cJ17_floorOrCeil 95 = .ok (.lload 9, 2) := dk_22 9 (dk_at dksJ17_floorOrCeil_4 1 rfl rfl)
theorem dJ17_floorOrCeil_97 : decode cJ17_floorOrCeil 97 = .ok (.lload 11, 2) := dk_22 11 (dk_at dksJ17_floorOrCeil_4 3 rfl rfl)
theorem dJ17_floorOrCeil_99 : decode cJ17_floorOrCeil 99 = .ok (.ldc2_w 87, 3) := dk_20 0 87 (dk_at dksJ17_floorOrCeil_4 5 rfl rfl)
theorem dJ17_floorOrCeil_102 : decode cJ17_floorOrCeil 102 = .ok (.lxor, 1) := dk_131 (dk_at dksJ17_floorOrCeil_4 8 rfl rfl)
theorem dJ17_floorOrCeil_103 : decode cJ17_floorOrCeil 103 = .ok (.land, 1) := dk_127 (dk_at dksJ17_floorOrCeil_4 9 rfl rfl)
theorem dJ17_floorOrCeil_104 : decode cJ17_floorOrCeil 104 = .ok (.invokestatic 89, 3) := dk_184 0 89 (dk_at dksJ17_floorOrCeil_4 10 rfl rfl)
theorem dJ17_floorOrCeil_107 : decode cJ17_floorOrCeil 107 = .ok (.dstore 13, 2) := dk_57 13 (dk_at dksJ17_floorOrCeil_4 13 rfl rfl)
theorem dJ17_floorOrCeil_109 : decode cJ17_floorOrCeil 109 = .ok (.dload 6, 2) := dk_24 6 (dk_at dksJ17_floorOrCeil_4 15 rfl rfl)
theorem dJ17_floorOrCeil_111 : decode cJ17_floorOrCeil 111 = .ok (.dload_n 0, 1) := dk_38 (dk_at dksJ17_floorOrCeil_4 17 rfl rfl)
theorem dJ17_floorOrCeil_112 : decode cJ17_floorOrCeil 112 = .ok (.dmul, 1) := dk_107 (dk_at dksJ17_floorOrCeil_4 18 rfl rfl)
theorem dJ17_floorOrCeil_113 : decode cJ17_floorOrCeil 113 = .ok (.dconst 0, 1) := dk_14 (dk_at dksJ17_floorOrCeil_4 19 rfl rfl)
theorem dJ17_floorOrCeil_114 : decode cJ17_floorOrCeil 114 = .ok (.dcmp .l, 1) := dk_151 (dk_at dksJ17_floorOrCeil_4 20 rfl rfl)
theorem dJ17_floorOrCeil_115 : decode cJ17_floorOrCeil 115 = .ok (.ifCond .le 10, 3) := dk_158 0 10 (dk_at dksJ17_floorOrCeil_4 21 rfl rfl)
theorem dJ17_floorOrCeil_118 : decode cJ17_floorOrCeil 118 = .ok (.dload 13, 2) := dk_24 13 (dk_at dksJ17_floorOrCeil_5 0 rfl rfl)
theorem dJ17_floorOrCeil_120 : decode cJ17_floorOrCeil 120 = .ok (.dload 6, 2) := dk_24 6 (dk_at dksJ17_floorOrCeil_5 2 rfl rfl)
theorem dJ17_floorOrCeil_122 : decode cJ17_floorOrCeil 122 = .ok (.dadd, 1) := dk_99 (dk_at dksJ17_floorOrCeil_5 4 rfl rfl)
theorem dJ17_floorOrCeil_123 : decode cJ17_floorOrCeil 123 = .ok (.dstore 13, 2) := dk_57 13 (dk_at dksJ17_floorOrCeil_5 5 rfl rfl)
theorem dJ17_floorOrCeil_125 : decode cJ17_floorOrCeil 125 = .ok (.dload 13, 2) := dk_24 13 (dk_at dksJ17_floorOrCeil_5 7 rfl rfl)
theorem dJ17_floorOrCeil_127 : decode cJ17_floorOrCeil 127 = .ok (.dreturn, 1) := dk_175 (dk_at dksJ17_floorOrCeil_5 9 rfl rfl)
abbrev cJ17_ceil : ByteArray := prog_26_method_16_code
def yJ17_ceil : MethodName := ⟨RJ17, "ceil", "(D)D"⟩
def dkwJ17_ceil_0 : List UInt8 := [38, 20, 0, 58, 15, 15, 184, 0, 60, 175]
abbrev dktJ17_ceil_0 : List UInt8 := dkwJ17_ceil_0 ++ []
theorem dksJ17_ceil_0 : cJ17_ceil.data.toList.drop 0 = dktJ17_ceil_0 := by decide +kernel
theorem dJ17_ceil_0 : decode cJ17_ceil 0 = .ok (.dload_n 0, 1) := dk_38 (dk_at dksJ17_ceil_0 0 rfl rfl)
theorem dJ17_ceil_1 : decode cJ17_ceil 1 = .ok (.ldc2_w 58, 3) := dk_20 0 58 (dk_at dksJ17_ceil_0 1 rfl rfl)
theorem dJ17_ceil_4 : decode cJ17_ceil 4 = .ok (.dconst 1, 1) := dk_15 (dk_at dksJ17_ceil_0 4 rfl rfl)
theorem dJ17_ceil_5 : decode cJ17_ceil 5 = .ok (.dconst 1, 1) := dk_15 (dk_at dksJ17_ceil_0 5 rfl rfl)
theorem dJ17_ceil_6 : decode cJ17_ceil 6 = .ok (.invokestatic 60, 3) := dk_184 0 60 (dk_at dksJ17_ceil_0 6 rfl rfl)
theorem dJ17_ceil_9 : decode cJ17_ceil 9 = .ok (.dreturn, 1) := dk_175 (dk_at dksJ17_ceil_0 9 rfl rfl)
abbrev cJ17_rint : ByteArray := prog_26_method_19_code
def yJ17_rint : MethodName := ⟨RJ17, "rint", "(D)D"⟩
def dkwJ17_rint_1 : List UInt8 := [99, 40, 103, 71, 24, 4, 38, 107, 175]
abbrev dktJ17_rint_1 : List UInt8 := dkwJ17_rint_1 ++ []
def dkwJ17_rint_0 : List UInt8 := [20, 0, 93, 73, 15, 38, 184, 0, 95, 57, 4, 38, 184, 0, 98, 71, 38, 40, 152, 156, 0, 9, 40, 38]
abbrev dktJ17_rint_0 : List UInt8 := dkwJ17_rint_0 ++ dktJ17_rint_1
theorem dksJ17_rint_0 : cJ17_rint.data.toList.drop 0 = dktJ17_rint_0 := by decide +kernel
theorem dksJ17_rint_1 : cJ17_rint.data.toList.drop 24 = dktJ17_rint_1 := dk_seg dksJ17_rint_0 24 rfl rfl
theorem dJ17_rint_0 : decode cJ17_rint 0 = .ok (.ldc2_w 93, 3) := dk_20 0 93 (dk_at dksJ17_rint_0 0 rfl rfl)
theorem dJ17_rint_3 : decode cJ17_rint 3 = .ok (.dstore_n 2, 1) := dk_73 (dk_at dksJ17_rint_0 3 rfl rfl)
theorem dJ17_rint_4 : decode cJ17_rint 4 = .ok (.dconst 1, 1) := dk_15 (dk_at dksJ17_rint_0 4 rfl rfl)
theorem dJ17_rint_5 : decode cJ17_rint 5 = .ok (.dload_n 0, 1) := dk_38 (dk_at dksJ17_rint_0 5 rfl rfl)
theorem dJ17_rint_6 : decode cJ17_rint 6 = .ok (.invokestatic 95, 3) := dk_184 0 95 (dk_at dksJ17_rint_0 6 rfl rfl)
theorem dJ17_rint_9 : decode cJ17_rint 9 = .ok (.dstore 4, 2) := dk_57 4 (dk_at dksJ17_rint_0 9 rfl rfl)
theorem dJ17_rint_11 : decode cJ17_rint 11 = .ok (.dload_n 0, 1) := dk_38 (dk_at dksJ17_rint_0 11 rfl rfl)
theorem dJ17_rint_12 : decode cJ17_rint 12 = .ok (.invokestatic 98, 3) := dk_184 0 98 (dk_at dksJ17_rint_0 12 rfl rfl)
theorem dJ17_rint_15 : decode cJ17_rint 15 = .ok (.dstore_n 0, 1) := dk_71 (dk_at dksJ17_rint_0 15 rfl rfl)
theorem dJ17_rint_16 : decode cJ17_rint 16 = .ok (.dload_n 0, 1) := dk_38 (dk_at dksJ17_rint_0 16 rfl rfl)
theorem dJ17_rint_17 : decode cJ17_rint 17 = .ok (.dload_n 2, 1) := dk_40 (dk_at dksJ17_rint_0 17 rfl rfl)
theorem dJ17_rint_18 : decode cJ17_rint 18 = .ok (.dcmp .g, 1) := dk_152 (dk_at dksJ17_rint_0 18 rfl rfl)
theorem dJ17_rint_19 : decode cJ17_rint 19 = .ok (.ifCond .ge 9, 3) := dk_156 0 9 (dk_at dksJ17_rint_0 19 rfl rfl)
theorem dJ17_rint_22 : decode cJ17_rint 22 = .ok (.dload_n 2, 1) := dk_40 (dk_at dksJ17_rint_0 22 rfl rfl)
theorem dJ17_rint_23 : decode cJ17_rint 23 = .ok (.dload_n 0, 1) := dk_38 (dk_at dksJ17_rint_0 23 rfl rfl)
theorem dJ17_rint_24 : decode cJ17_rint 24 = .ok (.dadd, 1) := dk_99 (dk_at dksJ17_rint_1 0 rfl rfl)
theorem dJ17_rint_25 : decode cJ17_rint 25 = .ok (.dload_n 2, 1) := dk_40 (dk_at dksJ17_rint_1 1 rfl rfl)
theorem dJ17_rint_26 : decode cJ17_rint 26 = .ok (.dsub, 1) := dk_103 (dk_at dksJ17_rint_1 2 rfl rfl)
theorem dJ17_rint_27 : decode cJ17_rint 27 = .ok (.dstore_n 0, 1) := dk_71 (dk_at dksJ17_rint_1 3 rfl rfl)
theorem dJ17_rint_28 : decode cJ17_rint 28 = .ok (.dload 4, 2) := dk_24 4 (dk_at dksJ17_rint_1 4 rfl rfl)
theorem dJ17_rint_30 : decode cJ17_rint 30 = .ok (.dload_n 0, 1) := dk_38 (dk_at dksJ17_rint_1 6 rfl rfl)
theorem dJ17_rint_31 : decode cJ17_rint 31 = .ok (.dmul, 1) := dk_107 (dk_at dksJ17_rint_1 7 rfl rfl)
theorem dJ17_rint_32 : decode cJ17_rint 32 = .ok (.dreturn, 1) := dk_175 (dk_at dksJ17_rint_1 8 rfl rfl)
theorem q293 : (Jvm.Cond.initialized "java/lang/StrictMath") ∈ lw_all := lw_g (lw_at lw_m1 29 rfl) rfl
theorem q1845 : (Jvm.Cond.static ({ cls := "java/lang/StrictMath", name := "floor", desc := "(D)D" } : Jvm.MethodName)) ∈ lw_all := lw_g (lw_at lw_m7 141 rfl) rfl
theorem q1846 : (Jvm.Cond.code ({ cls := "java/lang/StrictMath", name := "floor", desc := "(D)D" } : Jvm.MethodName) prog_26_method_17_code (2 : Nat) (Option.some Jvm.ClassFile.FieldType.double)) ∈ lw_all := lw_g (lw_at lw_m7 142 rfl) rfl
theorem q1847 : (Jvm.Cond.constantDouble "java/lang/StrictMath" (64 : Nat) (13830554455654793216 : UInt64)) ∈ lw_all := lw_g (lw_at lw_m7 143 rfl) rfl
theorem q1848 : (Jvm.Cond.methodLink "java/lang/StrictMath" (60 : Nat) ({ cls := "java/lang/StrictMath", name := "floorOrCeil", desc := "(DDDD)D" } : Jvm.MethodName)) ∈ lw_all := lw_g (lw_at lw_m7 144 rfl) rfl
theorem q1849 : (Jvm.Cond.static ({ cls := "java/lang/StrictMath", name := "floorOrCeil", desc := "(DDDD)D" } : Jvm.MethodName)) ∈ lw_all := lw_g (lw_at lw_m7 145 rfl) rfl
theorem q1850 : (Jvm.Cond.code ({ cls := "java/lang/StrictMath", name := "floorOrCeil", desc := "(DDDD)D" } : Jvm.MethodName) prog_26_method_18_code (15 : Nat) (Option.some Jvm.ClassFile.FieldType.double)) ∈ lw_all := lw_g (lw_at lw_m7 146 rfl) rfl
theorem q1851 : (Jvm.Cond.methodLink "java/lang/StrictMath" (66 : Nat) ({ cls := "java/lang/Math", name := "getExponent", desc := "(D)I" } : Jvm.MethodName)) ∈ lw_all := lw_g (lw_at lw_m7 147 rfl) rfl
theorem q1854 : (Jvm.Cond.fieldLink "java/lang/StrictMath" (70 : Nat) "java/lang/StrictMath" "$assertionsDisabled" "Z") ∈ lw_all := lw_g (lw_at lw_m7 150 rfl) rfl
theorem q1855 : (Jvm.Cond.laysStatic "java/lang/StrictMath" "$assertionsDisabled" "Z") ∈ lw_tbl := lw_at lw_m7 151 rfl
theorem q1856 : (Jvm.Cond.methodLink "java/lang/StrictMath" (77 : Nat) ({ cls := "java/lang/Double", name := "doubleToRawLongBits", desc := "(D)J" } : Jvm.MethodName)) ∈ lw_all := lw_g (lw_at lw_m7 152 rfl) rfl
theorem q1857 : (Jvm.Cond.constantLong "java/lang/StrictMath" (85 : Nat) (4503599627370495 : Int64)) ∈ lw_all := lw_g (lw_at lw_m7 153 rfl) rfl
theorem q1858 : (Jvm.Cond.constantLong "java/lang/StrictMath" (87 : Nat) (-1 : Int64)) ∈ lw_all := lw_g (lw_at lw_m7 154 rfl) rfl
theorem q1859 : (Jvm.Cond.methodLink "java/lang/StrictMath" (89 : Nat) ({ cls := "java/lang/Double", name := "longBitsToDouble", desc := "(J)D" } : Jvm.MethodName)) ∈ lw_all := lw_g (lw_at lw_m7 155 rfl) rfl
theorem q1864 : (Jvm.Cond.static ({ cls := "java/lang/StrictMath", name := "ceil", desc := "(D)D" } : Jvm.MethodName)) ∈ lw_all := lw_g (lw_at lw_m7 160 rfl) rfl
theorem q1865 : (Jvm.Cond.code ({ cls := "java/lang/StrictMath", name := "ceil", desc := "(D)D" } : Jvm.MethodName) prog_26_method_16_code (2 : Nat) (Option.some Jvm.ClassFile.FieldType.double)) ∈ lw_all := lw_g (lw_at lw_m7 161 rfl) rfl
theorem q1866 : (Jvm.Cond.constantDouble "java/lang/StrictMath" (58 : Nat) (9223372036854775808 : UInt64)) ∈ lw_all := lw_g (lw_at lw_m7 162 rfl) rfl
theorem q1871 : (Jvm.Cond.static ({ cls := "java/lang/StrictMath", name := "rint", desc := "(D)D" } : Jvm.MethodName)) ∈ lw_all := lw_g (lw_at lw_m7 167 rfl) rfl
theorem q1872 : (Jvm.Cond.code ({ cls := "java/lang/StrictMath", name := "rint", desc := "(D)D" } : Jvm.MethodName) prog_26_method_19_code (6 : Nat) (Option.some Jvm.ClassFile.FieldType.double)) ∈ lw_all := lw_g (lw_at lw_m7 168 rfl) rfl
theorem q1873 : (Jvm.Cond.constantDouble "java/lang/StrictMath" (93 : Nat) (4841369599423283200 : UInt64)) ∈ lw_all := lw_g (lw_at lw_m7 169 rfl) rfl
theorem q1874 : (Jvm.Cond.methodLink "java/lang/StrictMath" (95 : Nat) ({ cls := "java/lang/Math", name := "copySign", desc := "(DD)D" } : Jvm.MethodName)) ∈ lw_all := lw_g (lw_at lw_m7 170 rfl) rfl
theorem q1875 : (Jvm.Cond.methodLink "java/lang/StrictMath" (98 : Nat) ({ cls := "java/lang/Math", name := "abs", desc := "(D)D" } : Jvm.MethodName)) ∈ lw_all := lw_g (lw_at lw_m7 171 rfl) rfl

/-! java/lang/Object -/
set_option maxRecDepth 100000
def RJ18 : String := "java/lang/Object"
abbrev cJ18_init : ByteArray := object_method_1_code
def yJ18_init : MethodName := ⟨RJ18, "<init>", "()V"⟩
theorem dJ18_init_0 : decode cJ18_init 0 = .ok (.return_, 1) := by decide +kernel
theorem q300 : (Jvm.Cond.instanceMethod ({ cls := "java/lang/Object", name := "<init>", desc := "()V" } : Jvm.MethodName)) ∈ lw_all := lw_g (lw_at lw_m1 36 rfl) rfl
theorem q301 : (Jvm.Cond.code ({ cls := "java/lang/Object", name := "<init>", desc := "()V" } : Jvm.MethodName) object_method_1_code (1 : Nat) (Option.none : Option Jvm.ClassFile.FieldType)) ∈ lw_all := lw_g (lw_at lw_m1 37 rfl) rfl
theorem q882 : (Jvm.Cond.native ({ cls := "java/lang/Object", name := "clone", desc := "()Ljava/lang/Object;" } : Jvm.MethodName)) ∈ lw_all := lw_g (lw_at lw_m3 138 rfl) rfl
theorem q883 : (Jvm.Cond.instanceMethod ({ cls := "java/lang/Object", name := "clone", desc := "()Ljava/lang/Object;" } : Jvm.MethodName)) ∈ lw_all := lw_g (lw_at lw_m3 139 rfl) rfl
theorem q3073 : (Jvm.Cond.initialized "java/lang/Object") ∈ lw_all := lw_g (lw_at lw_m12 169 rfl) rfl

/-! java/lang/RuntimeException -/
set_option maxRecDepth 100000
def RJ2 : String := "java/lang/RuntimeException"
abbrev cJ2_init : ByteArray := prog_25_method_1_code
def yJ2_init : MethodName := ⟨RJ2, "<init>", "()V"⟩
theorem dJ2_init_0 : decode cJ2_init 0 = .ok (.aload_n 0, 1) := by decide +kernel
theorem dJ2_init_1 : decode cJ2_init 1 = .ok (.invokespecial 1, 3) := by decide +kernel
theorem dJ2_init_4 : decode cJ2_init 4 = .ok (.return_, 1) := by decide +kernel
abbrev cJ2_init_2 : ByteArray := prog_25_method_2_code
def yJ2_init_2 : MethodName := ⟨RJ2, "<init>", "(Ljava/lang/String;)V"⟩
def dkwJ2_init_2_0 : List UInt8 := [42, 43, 183, 0, 7, 177]
abbrev dktJ2_init_2_0 : List UInt8 := dkwJ2_init_2_0 ++ []
theorem dksJ2_init_2_0 : cJ2_init_2.data.toList.drop 0 = dktJ2_init_2_0 := by decide +kernel
theorem dJ2_init_2_0 : decode cJ2_init_2 0 = .ok (.aload_n 0, 1) := dk_42 (dk_at dksJ2_init_2_0 0 rfl rfl)
theorem dJ2_init_2_1 : decode cJ2_init_2 1 = .ok (.aload_n 1, 1) := dk_43 (dk_at dksJ2_init_2_0 1 rfl rfl)
theorem dJ2_init_2_2 : decode cJ2_init_2 2 = .ok (.invokespecial 7, 3) := dk_183 0 7 (dk_at dksJ2_init_2_0 2 rfl rfl)
theorem dJ2_init_2_5 : decode cJ2_init_2 5 = .ok (.return_, 1) := dk_177 (dk_at dksJ2_init_2_0 5 rfl rfl)
theorem q268 : (Jvm.Cond.initialized "java/lang/RuntimeException") ∈ lw_all := lw_g (lw_at lw_m1 4 rfl) rfl
theorem q308 : (Jvm.Cond.declares ({ cls := "java/lang/RuntimeException", name := "<init>", desc := "()V" } : Jvm.MethodName)) ∈ lw_tbl := lw_at lw_m1 44 rfl
theorem q309 : (Jvm.Cond.declares ({ cls := "java/lang/RuntimeException", name := "<init>", desc := "(Ljava/lang/String;)V" } : Jvm.MethodName)) ∈ lw_tbl := lw_at lw_m1 45 rfl
theorem q352 : (Jvm.Cond.sameMethod "java/lang/RuntimeException" "java/lang/Throwable" "fillInStackTrace" "()Ljava/lang/Throwable;") ∈ lw_all := lw_g (lw_at lw_m1 88 rfl) rfl
theorem q355 : (Jvm.Cond.superclass "java/lang/RuntimeException" "java/lang/Exception") ∈ lw_all := lw_g (lw_at lw_m1 91 rfl) rfl
theorem q367 : (Jvm.Cond.instanceMethod ({ cls := "java/lang/RuntimeException", name := "<init>", desc := "()V" } : Jvm.MethodName)) ∈ lw_all := lw_g (lw_at lw_m1 103 rfl) rfl
theorem q368 : (Jvm.Cond.code ({ cls := "java/lang/RuntimeException", name := "<init>", desc := "()V" } : Jvm.MethodName) prog_25_method_1_code (1 : Nat) (Option.none : Option Jvm.ClassFile.FieldType)) ∈ lw_all := lw_g (lw_at lw_m1 104 rfl) rfl
theorem q369 : (Jvm.Cond.methodLink "java/lang/RuntimeException" (1 : Nat) ({ cls := "java/lang/Exception", name := "<init>", desc := "()V" } : Jvm.MethodName)) ∈ lw_all := lw_g (lw_at lw_m1 105 rfl) rfl
theorem q607 : (Jvm.Cond.instanceMethod ({ cls := "java/lang/RuntimeException", name := "<init>", desc := "(Ljava/lang/String;)V" } : Jvm.MethodName)) ∈ lw_all := lw_g (lw_at lw_m2 103 rfl) rfl
theorem q608 : (Jvm.Cond.code ({ cls := "java/lang/RuntimeException", name := "<init>", desc := "(Ljava/lang/String;)V" } : Jvm.MethodName) prog_25_method_2_code (2 : Nat) (Option.none : Option Jvm.ClassFile.FieldType)) ∈ lw_all := lw_g (lw_at lw_m2 104 rfl) rfl
theorem q609 : (Jvm.Cond.methodLink "java/lang/RuntimeException" (7 : Nat) ({ cls := "java/lang/Exception", name := "<init>", desc := "(Ljava/lang/String;)V" } : Jvm.MethodName)) ∈ lw_all := lw_g (lw_at lw_m2 105 rfl) rfl
theorem q718 : (Jvm.Cond.castable "java/lang/RuntimeException" "java/lang/Throwable") ∈ lw_tbl := lw_at lw_m2 214 rfl

/-! java/lang/NegativeArraySizeException -/
set_option maxRecDepth 100000
def RJ3 : String := "java/lang/NegativeArraySizeException"
def TJ3 : u_T := fun k => match k with
  | 0 => ("java/lang/Throwable", "backtrace", "Ljava/lang/Object;", false)
  | 1 => ("java/lang/Throwable", "detailMessage", "Ljava/lang/String;", false)
  | 2 => ("java/lang/Throwable", "cause", "Ljava/lang/Throwable;", false)
  | 3 => ("java/lang/Throwable", "stackTrace", "[Ljava/lang/StackTraceElement;", false)
  | 4 => ("java/lang/Throwable", "depth", "I", false)
  | _ => ("java/lang/Throwable", "suppressedExceptions", "Ljava/util/List;", false)
def tyJ3 : Nat → FieldType := fun k => match k with
  | 0 => .object "java/lang/Object"
  | 1 => .object "java/lang/String"
  | 2 => .object "java/lang/Throwable"
  | 3 => .array (.object "java/lang/StackTraceElement")
  | 4 => .int
  | _ => .object "java/util/List"
abbrev wsJ30 : List Cond := u_ws RJ3 TJ3 6
theorem nmJ3 : ∀ a, a < 6 → ∀ b, b < 6 → a ≠ b → (TJ3 a).2.1 ≠ (TJ3 b).2.1 := by decide +kernel
theorem tyJ3_ok : ∀ k, k < 6 → parseFieldDescriptor (TJ3 k).2.2.1 = some (tyJ3 k) := by decide +kernel
abbrev cJ3_init : ByteArray := prog_22_method_2_code
def yJ3_init : MethodName := ⟨RJ3, "<init>", "(Ljava/lang/String;)V"⟩
def dkwJ3_init_0 : List UInt8 := [42, 43, 183, 0, 7, 177]
abbrev dktJ3_init_0 : List UInt8 := dkwJ3_init_0 ++ []
theorem dksJ3_init_0 : cJ3_init.data.toList.drop 0 = dktJ3_init_0 := by decide +kernel
theorem dJ3_init_0 : decode cJ3_init 0 = .ok (.aload_n 0, 1) := dk_42 (dk_at dksJ3_init_0 0 rfl rfl)
theorem dJ3_init_1 : decode cJ3_init 1 = .ok (.aload_n 1, 1) := dk_43 (dk_at dksJ3_init_0 1 rfl rfl)
theorem dJ3_init_2 : decode cJ3_init 2 = .ok (.invokespecial 7, 3) := dk_183 0 7 (dk_at dksJ3_init_0 2 rfl rfl)
theorem dJ3_init_5 : decode cJ3_init 5 = .ok (.return_, 1) := dk_177 (dk_at dksJ3_init_0 5 rfl rfl)
theorem q272 : (Jvm.Cond.initialized "java/lang/NegativeArraySizeException") ∈ lw_all := lw_g (lw_at lw_m1 8 rfl) rfl
theorem q342 : (Jvm.Cond.selects "java/lang/NegativeArraySizeException" ({ cls := "java/lang/Throwable", name := "fillInStackTrace", desc := "()Ljava/lang/Throwable;" } : Jvm.MethodName) ({ cls := "java/lang/Throwable", name := "fillInStackTrace", desc := "()Ljava/lang/Throwable;" } : Jvm.MethodName)) ∈ lw_all := lw_g (lw_at lw_m1 78 rfl) rfl
theorem q603 : (Jvm.Cond.instantiable "java/lang/NegativeArraySizeException" (6 : Nat)) ∈ lw_all := lw_g (lw_at lw_m2 99 rfl) rfl
theorem q604 : (Jvm.Cond.instanceMethod ({ cls := "java/lang/NegativeArraySizeException", name := "<init>", desc := "(Ljava/lang/String;)V" } : Jvm.MethodName)) ∈ lw_all := lw_g (lw_at lw_m2 100 rfl) rfl
theorem q605 : (Jvm.Cond.code ({ cls := "java/lang/NegativeArraySizeException", name := "<init>", desc := "(Ljava/lang/String;)V" } : Jvm.MethodName) prog_22_method_2_code (2 : Nat) (Option.none : Option Jvm.ClassFile.FieldType)) ∈ lw_all := lw_g (lw_at lw_m2 101 rfl) rfl
theorem q606 : (Jvm.Cond.methodLink "java/lang/NegativeArraySizeException" (7 : Nat) ({ cls := "java/lang/RuntimeException", name := "<init>", desc := "(Ljava/lang/String;)V" } : Jvm.MethodName)) ∈ lw_all := lw_g (lw_at lw_m2 102 rfl) rfl
theorem q615 : (Jvm.Cond.lays "java/lang/NegativeArraySizeException" "java/lang/Throwable" "backtrace" "Ljava/lang/Object;") ∈ lw_all := lw_g (lw_at lw_m2 111 rfl) rfl
theorem q616 : (Jvm.Cond.lays "java/lang/NegativeArraySizeException" "java/lang/Throwable" "detailMessage" "Ljava/lang/String;") ∈ lw_all := lw_g (lw_at lw_m2 112 rfl) rfl
theorem q617 : (Jvm.Cond.lays "java/lang/NegativeArraySizeException" "java/lang/Throwable" "cause" "Ljava/lang/Throwable;") ∈ lw_all := lw_g (lw_at lw_m2 113 rfl) rfl
theorem q618 : (Jvm.Cond.lays "java/lang/NegativeArraySizeException" "java/lang/Throwable" "stackTrace" "[Ljava/lang/StackTraceElement;") ∈ lw_all := lw_g (lw_at lw_m2 114 rfl) rfl
theorem q619 : (Jvm.Cond.lays "java/lang/NegativeArraySizeException" "java/lang/Throwable" "depth" "I") ∈ lw_all := lw_g (lw_at lw_m2 115 rfl) rfl
theorem q620 : (Jvm.Cond.lays "java/lang/NegativeArraySizeException" "java/lang/Throwable" "suppressedExceptions" "Ljava/util/List;") ∈ lw_all := lw_g (lw_at lw_m2 116 rfl) rfl
theorem q621 : (Jvm.Cond.superclass "java/lang/NegativeArraySizeException" "java/lang/RuntimeException") ∈ lw_all := lw_g (lw_at lw_m2 117 rfl) rfl
theorem q622 : (Jvm.Cond.castable "java/lang/NegativeArraySizeException" "java/lang/NegativeArraySizeException") ∈ lw_tbl := lw_at lw_m2 118 rfl
theorem q623 : (Jvm.Cond.selects "java/lang/NegativeArraySizeException" ({ cls := "java/lang/Throwable", name := "fillInStackTrace", desc := "(I)Ljava/lang/Throwable;" } : Jvm.MethodName) ({ cls := "java/lang/Throwable", name := "fillInStackTrace", desc := "(I)Ljava/lang/Throwable;" } : Jvm.MethodName)) ∈ lw_all := lw_g (lw_at lw_m2 119 rfl) rfl
theorem in_J3 : ∀ w ∈ wsJ30, w ∈ lw_all := lw_in wsJ30 [615, 616, 617, 618, 619, 620] (by decide +kernel) (by decide +kernel)

/-! java/lang/String -/
set_option maxRecDepth 100000
def RJ4 : String := "java/lang/String"
def TJ4 : u_T := fun k => match k with
  | 0 => ("java/lang/String", "value", "[B", true)
  | _ => ("java/lang/String", "coder", "B", true)
def tyJ4 : Nat → FieldType := fun k => match k with
  | 0 => .array .byte
  | _ => .byte
abbrev wsJ40 : List Cond := u_ws RJ4 TJ4 2
theorem nmJ4 : ∀ a, a < 2 → ∀ b, b < 2 → a ≠ b → (TJ4 a).2.1 ≠ (TJ4 b).2.1 := by decide +kernel
theorem tyJ4_ok : ∀ k, k < 2 → parseFieldDescriptor (TJ4 k).2.2.1 = some (tyJ4 k) := by decide +kernel
abbrev cJ4_length : ByteArray := prog_27_method_54_code
def yJ4_length : MethodName := ⟨RJ4, "length", "()I"⟩
def dkwJ4_length_0 : List UInt8 := [42, 180, 0, 9, 190, 42, 182, 1, 79, 122, 172]
abbrev dktJ4_length_0 : List UInt8 := dkwJ4_length_0 ++ []
theorem dksJ4_length_0 : cJ4_length.data.toList.drop 0 = dktJ4_length_0 := by decide +kernel
theorem dJ4_length_0 : decode cJ4_length 0 = .ok (.aload_n 0, 1) := dk_42 (dk_at dksJ4_length_0 0 rfl rfl)
theorem dJ4_length_1 : decode cJ4_length 1 = .ok (.getfield 9, 3) := dk_180 0 9 (dk_at dksJ4_length_0 1 rfl rfl)
theorem dJ4_length_4 : decode cJ4_length 4 = .ok (.arraylength, 1) := dk_190 (dk_at dksJ4_length_0 4 rfl rfl)
theorem dJ4_length_5 : decode cJ4_length 5 = .ok (.aload_n 0, 1) := dk_42 (dk_at dksJ4_length_0 5 rfl rfl)
theorem dJ4_length_6 : decode cJ4_length 6 = .ok (.invokevirtual 335, 3) := dk_182 1 79 (dk_at dksJ4_length_0 6 rfl rfl)
theorem dJ4_length_9 : decode cJ4_length 9 = .ok (.ishr, 1) := dk_122 (dk_at dksJ4_length_0 9 rfl rfl)
theorem dJ4_length_10 : decode cJ4_length 10 = .ok (.ireturn, 1) := dk_172 (dk_at dksJ4_length_0 10 rfl rfl)
abbrev cJ4_coder : ByteArray := prog_27_method_152_code
def yJ4_coder : MethodName := ⟨RJ4, "coder", "()B"⟩
def dkwJ4_coder_0 : List UInt8 := [178, 0, 38, 153, 0, 10, 42, 180, 0, 15, 167, 0, 4, 4, 172]
abbrev dktJ4_coder_0 : List UInt8 := dkwJ4_coder_0 ++ []
theorem dksJ4_coder_0 : cJ4_coder.data.toList.drop 0 = dktJ4_coder_0 := by decide +kernel
theorem dJ4_coder_0 : decode cJ4_coder 0 = .ok (.getstatic 38, 3) := dk_178 0 38 (dk_at dksJ4_coder_0 0 rfl rfl)
theorem dJ4_coder_3 : decode cJ4_coder 3 = .ok (.ifCond .eq 10, 3) := dk_153 0 10 (dk_at dksJ4_coder_0 3 rfl rfl)
theorem dJ4_coder_6 : decode cJ4_coder 6 = .ok (.aload_n 0, 1) := dk_42 (dk_at dksJ4_coder_0 6 rfl rfl)
theorem dJ4_coder_7 : decode cJ4_coder 7 = .ok (.getfield 15, 3) := dk_180 0 15 (dk_at dksJ4_coder_0 7 rfl rfl)
theorem dJ4_coder_10 : decode cJ4_coder 10 = .ok (.goto 4, 3) := dk_167 0 4 (dk_at dksJ4_coder_0 10 rfl rfl)
theorem dJ4_coder_13 : decode cJ4_coder 13 = .ok (.iconst 1, 1) := dk_4 (dk_at dksJ4_coder_0 13 rfl rfl)
theorem dJ4_coder_14 : decode cJ4_coder 14 = .ok (.ireturn, 1) := dk_172 (dk_at dksJ4_coder_0 14 rfl rfl)
abbrev cJ4_charAt : ByteArray := prog_27_method_56_code
def yJ4_charAt : MethodName := ⟨RJ4, "charAt", "(I)C"⟩
def dkwJ4_charAt_1 : List UInt8 := [172]
abbrev dktJ4_charAt_1 : List UInt8 := dkwJ4_charAt_1 ++ []
def dkwJ4_charAt_0 : List UInt8 := [42, 182, 1, 236, 153, 0, 12, 42, 180, 0, 9, 27, 184, 1, 239, 172, 42, 180, 0, 9, 27, 184, 1, 242]
abbrev dktJ4_charAt_0 : List UInt8 := dkwJ4_charAt_0 ++ dktJ4_charAt_1
theorem dksJ4_charAt_0 : cJ4_charAt.data.toList.drop 0 = dktJ4_charAt_0 := by decide +kernel
theorem dksJ4_charAt_1 : cJ4_charAt.data.toList.drop 24 = dktJ4_charAt_1 := dk_seg dksJ4_charAt_0 24 rfl rfl
theorem dJ4_charAt_0 : decode cJ4_charAt 0 = .ok (.aload_n 0, 1) := dk_42 (dk_at dksJ4_charAt_0 0 rfl rfl)
theorem dJ4_charAt_1 : decode cJ4_charAt 1 = .ok (.invokevirtual 492, 3) := dk_182 1 236 (dk_at dksJ4_charAt_0 1 rfl rfl)
theorem dJ4_charAt_4 : decode cJ4_charAt 4 = .ok (.ifCond .eq 12, 3) := dk_153 0 12 (dk_at dksJ4_charAt_0 4 rfl rfl)
theorem dJ4_charAt_7 : decode cJ4_charAt 7 = .ok (.aload_n 0, 1) := dk_42 (dk_at dksJ4_charAt_0 7 rfl rfl)
theorem dJ4_charAt_8 : decode cJ4_charAt 8 = .ok (.getfield 9, 3) := dk_180 0 9 (dk_at dksJ4_charAt_0 8 rfl rfl)
theorem dJ4_charAt_11 : decode cJ4_charAt 11 = .ok (.iload_n 1, 1) := dk_27 (dk_at dksJ4_charAt_0 11 rfl rfl)
theorem dJ4_charAt_12 : decode cJ4_charAt 12 = .ok (.invokestatic 495, 3) := dk_184 1 239 (dk_at dksJ4_charAt_0 12 rfl rfl)
theorem dJ4_charAt_15 : decode cJ4_charAt 15 = .ok (.ireturn, 1) := dk_172 (dk_at dksJ4_charAt_0 15 rfl rfl)
theorem dJ4_charAt_16 : decode cJ4_charAt 16 = .ok (.aload_n 0, 1) := dk_42 (dk_at dksJ4_charAt_0 16 rfl rfl)
theorem dJ4_charAt_17 : decode cJ4_charAt 17 = .ok (.getfield 9, 3) := dk_180 0 9 (dk_at dksJ4_charAt_0 17 rfl rfl)
theorem dJ4_charAt_20 : decode cJ4_charAt 20 = .ok (.iload_n 1, 1) := dk_27 (dk_at dksJ4_charAt_0 20 rfl rfl)
theorem dJ4_charAt_21 : decode cJ4_charAt 21 = .ok (.invokestatic 498, 3) := dk_184 1 242 (dk_at dksJ4_charAt_0 21 rfl rfl)
theorem dJ4_charAt_24 : decode cJ4_charAt 24 = .ok (.ireturn, 1) := dk_172 (dk_at dksJ4_charAt_1 0 rfl rfl)
abbrev cJ4_isLatin1 : ByteArray := prog_27_method_154_code
def yJ4_isLatin1 : MethodName := ⟨RJ4, "isLatin1", "()Z"⟩
def dkwJ4_isLatin1_0 : List UInt8 := [178, 0, 38, 153, 0, 14, 42, 180, 0, 15, 154, 0, 7, 4, 167, 0, 4, 3, 172]
abbrev dktJ4_isLatin1_0 : List UInt8 := dkwJ4_isLatin1_0 ++ []
theorem dksJ4_isLatin1_0 : cJ4_isLatin1.data.toList.drop 0 = dktJ4_isLatin1_0 := by decide +kernel
theorem dJ4_isLatin1_0 : decode cJ4_isLatin1 0 = .ok (.getstatic 38, 3) := dk_178 0 38 (dk_at dksJ4_isLatin1_0 0 rfl rfl)
theorem dJ4_isLatin1_3 : decode cJ4_isLatin1 3 = .ok (.ifCond .eq 14, 3) := dk_153 0 14 (dk_at dksJ4_isLatin1_0 3 rfl rfl)
theorem dJ4_isLatin1_6 : decode cJ4_isLatin1 6 = .ok (.aload_n 0, 1) := dk_42 (dk_at dksJ4_isLatin1_0 6 rfl rfl)
theorem dJ4_isLatin1_7 : decode cJ4_isLatin1 7 = .ok (.getfield 15, 3) := dk_180 0 15 (dk_at dksJ4_isLatin1_0 7 rfl rfl)
theorem dJ4_isLatin1_10 : decode cJ4_isLatin1 10 = .ok (.ifCond .ne 7, 3) := dk_154 0 7 (dk_at dksJ4_isLatin1_0 10 rfl rfl)
theorem dJ4_isLatin1_13 : decode cJ4_isLatin1 13 = .ok (.iconst 1, 1) := dk_4 (dk_at dksJ4_isLatin1_0 13 rfl rfl)
theorem dJ4_isLatin1_14 : decode cJ4_isLatin1 14 = .ok (.goto 4, 3) := dk_167 0 4 (dk_at dksJ4_isLatin1_0 14 rfl rfl)
theorem dJ4_isLatin1_17 : decode cJ4_isLatin1 17 = .ok (.iconst 0, 1) := dk_3 (dk_at dksJ4_isLatin1_0 17 rfl rfl)
theorem dJ4_isLatin1_18 : decode cJ4_isLatin1 18 = .ok (.ireturn, 1) := dk_172 (dk_at dksJ4_isLatin1_0 18 rfl rfl)
abbrev cJ4_checkIndex : ByteArray := prog_27_method_155_code
def yJ4_checkIndex : MethodName := ⟨RJ4, "checkIndex", "(II)V"⟩
def dkwJ4_checkIndex_0 : List UInt8 := [26, 27, 178, 4, 29, 184, 4, 35, 87, 177]
abbrev dktJ4_checkIndex_0 : List UInt8 := dkwJ4_checkIndex_0 ++ []
theorem dksJ4_checkIndex_0 : cJ4_checkIndex.data.toList.drop 0 = dktJ4_checkIndex_0 := by decide +kernel
theorem dJ4_checkIndex_0 : decode cJ4_checkIndex 0 = .ok (.iload_n 0, 1) := dk_26 (dk_at dksJ4_checkIndex_0 0 rfl rfl)
theorem dJ4_checkIndex_1 : decode cJ4_checkIndex 1 = .ok (.iload_n 1, 1) := dk_27 (dk_at dksJ4_checkIndex_0 1 rfl rfl)
theorem dJ4_checkIndex_2 : decode cJ4_checkIndex 2 = .ok (.getstatic 1053, 3) := dk_178 4 29 (dk_at dksJ4_checkIndex_0 2 rfl rfl)
theorem dJ4_checkIndex_5 : decode cJ4_checkIndex 5 = .ok (.invokestatic 1059, 3) := dk_184 4 35 (dk_at dksJ4_checkIndex_0 5 rfl rfl)
theorem dJ4_checkIndex_8 : decode cJ4_checkIndex 8 = .ok (.pop, 1) := dk_87 (dk_at dksJ4_checkIndex_0 8 rfl rfl)
theorem dJ4_checkIndex_9 : decode cJ4_checkIndex 9 = .ok (.return_, 1) := dk_177 (dk_at dksJ4_checkIndex_0 9 rfl rfl)
theorem q273 : (Jvm.Cond.initialized "java/lang/String") ∈ lw_all := lw_g (lw_at lw_m1 9 rfl) rfl
theorem q624 : (Jvm.Cond.instantiable "java/lang/String" (4 : Nat)) ∈ lw_all := lw_g (lw_at lw_m2 120 rfl) rfl
theorem q625 : (Jvm.Cond.laysFinal "java/lang/String" "java/lang/String" "value" "[B") ∈ lw_all := lw_g (lw_at lw_m2 121 rfl) rfl
theorem q626 : (Jvm.Cond.soleField "java/lang/String" "value") ∈ lw_all := lw_g (lw_at lw_m2 122 rfl) rfl
theorem q627 : (Jvm.Cond.laysFinal "java/lang/String" "java/lang/String" "coder" "B") ∈ lw_all := lw_g (lw_at lw_m2 123 rfl) rfl
theorem q628 : (Jvm.Cond.soleField "java/lang/String" "coder") ∈ lw_all := lw_g (lw_at lw_m2 124 rfl) rfl
theorem q998 : (Jvm.Cond.instanceMethod ({ cls := "java/lang/String", name := "length", desc := "()I" } : Jvm.MethodName)) ∈ lw_all := lw_g (lw_at lw_m4 14 rfl) rfl
theorem q999 : (Jvm.Cond.selects "java/lang/String" ({ cls := "java/lang/String", name := "length", desc := "()I" } : Jvm.MethodName) ({ cls := "java/lang/String", name := "length", desc := "()I" } : Jvm.MethodName)) ∈ lw_all := lw_g (lw_at lw_m4 15 rfl) rfl
theorem q1000 : (Jvm.Cond.code ({ cls := "java/lang/String", name := "length", desc := "()I" } : Jvm.MethodName) prog_27_method_54_code (1 : Nat) (Option.some Jvm.ClassFile.FieldType.int)) ∈ lw_all := lw_g (lw_at lw_m4 16 rfl) rfl
theorem q1001 : (Jvm.Cond.methodLink "java/lang/String" (335 : Nat) ({ cls := "java/lang/String", name := "coder", desc := "()B" } : Jvm.MethodName)) ∈ lw_all := lw_g (lw_at lw_m4 17 rfl) rfl
theorem q1002 : (Jvm.Cond.instanceMethod ({ cls := "java/lang/String", name := "coder", desc := "()B" } : Jvm.MethodName)) ∈ lw_all := lw_g (lw_at lw_m4 18 rfl) rfl
theorem q1003 : (Jvm.Cond.selects "java/lang/String" ({ cls := "java/lang/String", name := "coder", desc := "()B" } : Jvm.MethodName) ({ cls := "java/lang/String", name := "coder", desc := "()B" } : Jvm.MethodName)) ∈ lw_all := lw_g (lw_at lw_m4 19 rfl) rfl
theorem q1004 : (Jvm.Cond.code ({ cls := "java/lang/String", name := "coder", desc := "()B" } : Jvm.MethodName) prog_27_method_152_code (1 : Nat) (Option.some Jvm.ClassFile.FieldType.byte)) ∈ lw_all := lw_g (lw_at lw_m4 20 rfl) rfl
theorem q1005 : (Jvm.Cond.fieldLink "java/lang/String" (38 : Nat) "java/lang/String" "COMPACT_STRINGS" "Z") ∈ lw_all := lw_g (lw_at lw_m4 21 rfl) rfl
theorem q1006 : (Jvm.Cond.laysStatic "java/lang/String" "COMPACT_STRINGS" "Z") ∈ lw_tbl := lw_at lw_m4 22 rfl
theorem q1008 : (Jvm.Cond.instanceMethod ({ cls := "java/lang/String", name := "charAt", desc := "(I)C" } : Jvm.MethodName)) ∈ lw_all := lw_g (lw_at lw_m4 24 rfl) rfl
theorem q1009 : (Jvm.Cond.selects "java/lang/String" ({ cls := "java/lang/String", name := "charAt", desc := "(I)C" } : Jvm.MethodName) ({ cls := "java/lang/String", name := "charAt", desc := "(I)C" } : Jvm.MethodName)) ∈ lw_all := lw_g (lw_at lw_m4 25 rfl) rfl
theorem q1010 : (Jvm.Cond.code ({ cls := "java/lang/String", name := "charAt", desc := "(I)C" } : Jvm.MethodName) prog_27_method_56_code (2 : Nat) (Option.some Jvm.ClassFile.FieldType.char)) ∈ lw_all := lw_g (lw_at lw_m4 26 rfl) rfl
theorem q1011 : (Jvm.Cond.methodLink "java/lang/String" (492 : Nat) ({ cls := "java/lang/String", name := "isLatin1", desc := "()Z" } : Jvm.MethodName)) ∈ lw_all := lw_g (lw_at lw_m4 27 rfl) rfl
theorem q1012 : (Jvm.Cond.instanceMethod ({ cls := "java/lang/String", name := "isLatin1", desc := "()Z" } : Jvm.MethodName)) ∈ lw_all := lw_g (lw_at lw_m4 28 rfl) rfl
theorem q1013 : (Jvm.Cond.selects "java/lang/String" ({ cls := "java/lang/String", name := "isLatin1", desc := "()Z" } : Jvm.MethodName) ({ cls := "java/lang/String", name := "isLatin1", desc := "()Z" } : Jvm.MethodName)) ∈ lw_all := lw_g (lw_at lw_m4 29 rfl) rfl
theorem q1014 : (Jvm.Cond.code ({ cls := "java/lang/String", name := "isLatin1", desc := "()Z" } : Jvm.MethodName) prog_27_method_154_code (1 : Nat) (Option.some Jvm.ClassFile.FieldType.boolean)) ∈ lw_all := lw_g (lw_at lw_m4 30 rfl) rfl
theorem q1015 : (Jvm.Cond.methodLink "java/lang/String" (495 : Nat) ({ cls := "java/lang/StringLatin1", name := "charAt", desc := "([BI)C" } : Jvm.MethodName)) ∈ lw_all := lw_g (lw_at lw_m4 31 rfl) rfl
theorem q1019 : (Jvm.Cond.static ({ cls := "java/lang/String", name := "checkIndex", desc := "(II)V" } : Jvm.MethodName)) ∈ lw_all := lw_g (lw_at lw_m4 35 rfl) rfl
theorem q1020 : (Jvm.Cond.code ({ cls := "java/lang/String", name := "checkIndex", desc := "(II)V" } : Jvm.MethodName) prog_27_method_155_code (2 : Nat) (Option.none : Option Jvm.ClassFile.FieldType)) ∈ lw_all := lw_g (lw_at lw_m4 36 rfl) rfl
theorem q1021 : (Jvm.Cond.fieldLink "java/lang/String" (1053 : Nat) "jdk/internal/util/Preconditions" "SIOOBE_FORMATTER" "Ljava/util/function/BiFunction;") ∈ lw_all := lw_g (lw_at lw_m4 37 rfl) rfl
theorem q1023 : (Jvm.Cond.methodLink "java/lang/String" (1059 : Nat) ({ cls := "jdk/internal/util/Preconditions", name := "checkIndex", desc := "(IILjava/util/function/BiFunction;)I" } : Jvm.MethodName)) ∈ lw_all := lw_g (lw_at lw_m4 39 rfl) rfl
theorem q1026 : (Jvm.Cond.methodLink "java/lang/String" (498 : Nat) ({ cls := "java/lang/StringUTF16", name := "charAt", desc := "([BI)C" } : Jvm.MethodName)) ∈ lw_all := lw_g (lw_at lw_m4 42 rfl) rfl
theorem q3085 : (Jvm.Cond.fieldLink "java/lang/String" (9 : Nat) "java/lang/String" "value" "[B") ∈ lw_all := lw_g (lw_at lw_m12 181 rfl) rfl
theorem q3086 : (Jvm.Cond.fieldLink "java/lang/String" (15 : Nat) "java/lang/String" "coder" "B") ∈ lw_all := lw_g (lw_at lw_m12 182 rfl) rfl
theorem in_J4 : ∀ w ∈ wsJ40, w ∈ lw_all := lw_in wsJ40 [625, 627] (by decide +kernel) (by decide +kernel)

/-! java/lang/NullPointerException -/
set_option maxRecDepth 100000
def RJ5 : String := "java/lang/NullPointerException"
def TJ5 : u_T := fun k => match k with
  | 0 => ("java/lang/Throwable", "backtrace", "Ljava/lang/Object;", false)
  | 1 => ("java/lang/Throwable", "detailMessage", "Ljava/lang/String;", false)
  | 2 => ("java/lang/Throwable", "cause", "Ljava/lang/Throwable;", false)
  | 3 => ("java/lang/Throwable", "stackTrace", "[Ljava/lang/StackTraceElement;", false)
  | 4 => ("java/lang/Throwable", "depth", "I", false)
  | 5 => ("java/lang/Throwable", "suppressedExceptions", "Ljava/util/List;", false)
  | 6 => ("java/lang/NullPointerException", "extendedMessageState", "I", false)
  | _ => ("java/lang/NullPointerException", "extendedMessage", "Ljava/lang/String;", false)
def tyJ5 : Nat → FieldType := fun k => match k with
  | 0 => .object "java/lang/Object"
  | 1 => .object "java/lang/String"
  | 2 => .object "java/lang/Throwable"
  | 3 => .array (.object "java/lang/StackTraceElement")
  | 4 => .int
  | 5 => .object "java/util/List"
  | 6 => .int
  | _ => .object "java/lang/String"
abbrev wsJ50 : List Cond := u_ws RJ5 TJ5 8
theorem nmJ5 : ∀ a, a < 8 → ∀ b, b < 8 → a ≠ b → (TJ5 a).2.1 ≠ (TJ5 b).2.1 := by decide +kernel
theorem tyJ5_ok : ∀ k, k < 8 → parseFieldDescriptor (TJ5 k).2.2.1 = some (tyJ5 k) := by decide +kernel
abbrev cJ5_init : ByteArray := prog_23_method_1_code
def yJ5_init : MethodName := ⟨RJ5, "<init>", "()V"⟩
theorem dJ5_init_0 : decode cJ5_init 0 = .ok (.aload_n 0, 1) := by decide +kernel
theorem dJ5_init_1 : decode cJ5_init 1 = .ok (.invokespecial 1, 3) := by decide +kernel
theorem dJ5_init_4 : decode cJ5_init 4 = .ok (.return_, 1) := by decide +kernel
theorem q275 : (Jvm.Cond.initialized "java/lang/NullPointerException") ∈ lw_all := lw_g (lw_at lw_m1 11 rfl) rfl
theorem q343 : (Jvm.Cond.selects "java/lang/NullPointerException" ({ cls := "java/lang/Throwable", name := "fillInStackTrace", desc := "()Ljava/lang/Throwable;" } : Jvm.MethodName) ({ cls := "java/lang/NullPointerException", name := "fillInStackTrace", desc := "()Ljava/lang/Throwable;" } : Jvm.MethodName)) ∈ lw_all := lw_g (lw_at lw_m1 79 rfl) rfl
theorem q344 : (Jvm.Cond.instanceMethod ({ cls := "java/lang/NullPointerException", name := "fillInStackTrace", desc := "()Ljava/lang/Throwable;" } : Jvm.MethodName)) ∈ lw_all := lw_g (lw_at lw_m1 80 rfl) rfl
theorem q345 : (Jvm.Cond.codeSync ({ cls := "java/lang/NullPointerException", name := "fillInStackTrace", desc := "()Ljava/lang/Throwable;" } : Jvm.MethodName) prog_23_method_3_code (1 : Nat) (Option.some (Jvm.ClassFile.FieldType.object "java/lang/Throwable"))) ∈ lw_all := lw_g (lw_at lw_m1 81 rfl) rfl
theorem q346 : (Jvm.Cond.methodLink "java/lang/NullPointerException" (16 : Nat) ({ cls := "java/lang/NullPointerException", name := "getExtendedNPEMessage", desc := "()Ljava/lang/String;" } : Jvm.MethodName)) ∈ lw_all := lw_g (lw_at lw_m1 82 rfl) rfl
theorem q347 : (Jvm.Cond.privateMethod ({ cls := "java/lang/NullPointerException", name := "getExtendedNPEMessage", desc := "()Ljava/lang/String;" } : Jvm.MethodName)) ∈ lw_tbl := lw_at lw_m1 83 rfl
theorem q348 : (Jvm.Cond.instanceMethod ({ cls := "java/lang/NullPointerException", name := "getExtendedNPEMessage", desc := "()Ljava/lang/String;" } : Jvm.MethodName)) ∈ lw_all := lw_g (lw_at lw_m1 84 rfl) rfl
theorem q349 : (Jvm.Cond.instantiable "java/lang/NullPointerException" (8 : Nat)) ∈ lw_all := lw_g (lw_at lw_m1 85 rfl) rfl
theorem q350 : (Jvm.Cond.native ({ cls := "java/lang/NullPointerException", name := "getExtendedNPEMessage", desc := "()Ljava/lang/String;" } : Jvm.MethodName)) ∈ lw_all := lw_g (lw_at lw_m1 86 rfl) rfl
theorem q351 : (Jvm.Cond.methodLink "java/lang/NullPointerException" (24 : Nat) ({ cls := "java/lang/RuntimeException", name := "fillInStackTrace", desc := "()Ljava/lang/Throwable;" } : Jvm.MethodName)) ∈ lw_all := lw_g (lw_at lw_m1 87 rfl) rfl
theorem q354 : (Jvm.Cond.superclass "java/lang/NullPointerException" "java/lang/RuntimeException") ∈ lw_all := lw_g (lw_at lw_m1 90 rfl) rfl
theorem q701 : (Jvm.Cond.instanceMethod ({ cls := "java/lang/NullPointerException", name := "<init>", desc := "()V" } : Jvm.MethodName)) ∈ lw_all := lw_g (lw_at lw_m2 197 rfl) rfl
theorem q702 : (Jvm.Cond.code ({ cls := "java/lang/NullPointerException", name := "<init>", desc := "()V" } : Jvm.MethodName) prog_23_method_1_code (1 : Nat) (Option.none : Option Jvm.ClassFile.FieldType)) ∈ lw_all := lw_g (lw_at lw_m2 198 rfl) rfl
theorem q703 : (Jvm.Cond.methodLink "java/lang/NullPointerException" (1 : Nat) ({ cls := "java/lang/RuntimeException", name := "<init>", desc := "()V" } : Jvm.MethodName)) ∈ lw_all := lw_g (lw_at lw_m2 199 rfl) rfl
theorem q704 : (Jvm.Cond.fieldLink "java/lang/NullPointerException" (10 : Nat) "java/lang/NullPointerException" "extendedMessageState" "I") ∈ lw_all := lw_g (lw_at lw_m2 200 rfl) rfl
theorem q705 : (Jvm.Cond.fieldLink "java/lang/NullPointerException" (20 : Nat) "java/lang/NullPointerException" "extendedMessage" "Ljava/lang/String;") ∈ lw_all := lw_g (lw_at lw_m2 201 rfl) rfl
theorem q706 : (Jvm.Cond.lays "java/lang/NullPointerException" "java/lang/NullPointerException" "extendedMessageState" "I") ∈ lw_all := lw_g (lw_at lw_m2 202 rfl) rfl
theorem q707 : (Jvm.Cond.soleField "java/lang/NullPointerException" "extendedMessageState") ∈ lw_all := lw_g (lw_at lw_m2 203 rfl) rfl
theorem q708 : (Jvm.Cond.lays "java/lang/NullPointerException" "java/lang/NullPointerException" "extendedMessage" "Ljava/lang/String;") ∈ lw_all := lw_g (lw_at lw_m2 204 rfl) rfl
theorem q709 : (Jvm.Cond.soleField "java/lang/NullPointerException" "extendedMessage") ∈ lw_all := lw_g (lw_at lw_m2 205 rfl) rfl
theorem q710 : (Jvm.Cond.lays "java/lang/NullPointerException" "java/lang/Throwable" "backtrace" "Ljava/lang/Object;") ∈ lw_all := lw_g (lw_at lw_m2 206 rfl) rfl
theorem q711 : (Jvm.Cond.lays "java/lang/NullPointerException" "java/lang/Throwable" "detailMessage" "Ljava/lang/String;") ∈ lw_all := lw_g (lw_at lw_m2 207 rfl) rfl
theorem q712 : (Jvm.Cond.lays "java/lang/NullPointerException" "java/lang/Throwable" "cause" "Ljava/lang/Throwable;") ∈ lw_all := lw_g (lw_at lw_m2 208 rfl) rfl
theorem q713 : (Jvm.Cond.lays "java/lang/NullPointerException" "java/lang/Throwable" "stackTrace" "[Ljava/lang/StackTraceElement;") ∈ lw_all := lw_g (lw_at lw_m2 209 rfl) rfl
theorem q714 : (Jvm.Cond.lays "java/lang/NullPointerException" "java/lang/Throwable" "depth" "I") ∈ lw_all := lw_g (lw_at lw_m2 210 rfl) rfl
theorem q715 : (Jvm.Cond.lays "java/lang/NullPointerException" "java/lang/Throwable" "suppressedExceptions" "Ljava/util/List;") ∈ lw_all := lw_g (lw_at lw_m2 211 rfl) rfl
theorem q716 : (Jvm.Cond.castable "java/lang/NullPointerException" "java/lang/NullPointerException") ∈ lw_tbl := lw_at lw_m2 212 rfl
theorem q717 : (Jvm.Cond.selects "java/lang/NullPointerException" ({ cls := "java/lang/Throwable", name := "fillInStackTrace", desc := "(I)Ljava/lang/Throwable;" } : Jvm.MethodName) ({ cls := "java/lang/Throwable", name := "fillInStackTrace", desc := "(I)Ljava/lang/Throwable;" } : Jvm.MethodName)) ∈ lw_all := lw_g (lw_at lw_m2 213 rfl) rfl
theorem in_J5 : ∀ w ∈ wsJ50, w ∈ lw_all := lw_in wsJ50 [710, 711, 712, 713, 714, 715, 706, 708] (by decide +kernel) (by decide +kernel)

/-! java/lang/IndexOutOfBoundsException -/
set_option maxRecDepth 100000
def RJ6 : String := "java/lang/IndexOutOfBoundsException"
abbrev cJ6_init : ByteArray := prog_20_method_2_code
def yJ6_init : MethodName := ⟨RJ6, "<init>", "(Ljava/lang/String;)V"⟩
def dkwJ6_init_0 : List UInt8 := [42, 43, 183, 0, 7, 177]
abbrev dktJ6_init_0 : List UInt8 := dkwJ6_init_0 ++ []
theorem dksJ6_init_0 : cJ6_init.data.toList.drop 0 = dktJ6_init_0 := by decide +kernel
theorem dJ6_init_0 : decode cJ6_init 0 = .ok (.aload_n 0, 1) := dk_42 (dk_at dksJ6_init_0 0 rfl rfl)
theorem dJ6_init_1 : decode cJ6_init 1 = .ok (.aload_n 1, 1) := dk_43 (dk_at dksJ6_init_0 1 rfl rfl)
theorem dJ6_init_2 : decode cJ6_init 2 = .ok (.invokespecial 7, 3) := dk_183 0 7 (dk_at dksJ6_init_0 2 rfl rfl)
theorem dJ6_init_5 : decode cJ6_init 5 = .ok (.return_, 1) := dk_177 (dk_at dksJ6_init_0 5 rfl rfl)
theorem q276 : (Jvm.Cond.initialized "java/lang/IndexOutOfBoundsException") ∈ lw_all := lw_g (lw_at lw_m1 12 rfl) rfl
theorem q724 : (Jvm.Cond.instanceMethod ({ cls := "java/lang/IndexOutOfBoundsException", name := "<init>", desc := "(Ljava/lang/String;)V" } : Jvm.MethodName)) ∈ lw_all := lw_g (lw_at lw_m2 220 rfl) rfl
theorem q725 : (Jvm.Cond.code ({ cls := "java/lang/IndexOutOfBoundsException", name := "<init>", desc := "(Ljava/lang/String;)V" } : Jvm.MethodName) prog_20_method_2_code (2 : Nat) (Option.none : Option Jvm.ClassFile.FieldType)) ∈ lw_all := lw_g (lw_at lw_m2 221 rfl) rfl
theorem q726 : (Jvm.Cond.methodLink "java/lang/IndexOutOfBoundsException" (7 : Nat) ({ cls := "java/lang/RuntimeException", name := "<init>", desc := "(Ljava/lang/String;)V" } : Jvm.MethodName)) ∈ lw_all := lw_g (lw_at lw_m2 222 rfl) rfl
theorem q735 : (Jvm.Cond.declares ({ cls := "java/lang/IndexOutOfBoundsException", name := "<init>", desc := "()V" } : Jvm.MethodName)) ∈ lw_tbl := lw_at lw_m2 231 rfl
theorem q736 : (Jvm.Cond.declares ({ cls := "java/lang/IndexOutOfBoundsException", name := "<init>", desc := "(Ljava/lang/String;)V" } : Jvm.MethodName)) ∈ lw_tbl := lw_at lw_m2 232 rfl

/-! java/lang/ArrayIndexOutOfBoundsException -/
set_option maxRecDepth 100000
def RJ7 : String := "java/lang/ArrayIndexOutOfBoundsException"
def TJ7 : u_T := fun k => match k with
  | 0 => ("java/lang/Throwable", "backtrace", "Ljava/lang/Object;", false)
  | 1 => ("java/lang/Throwable", "detailMessage", "Ljava/lang/String;", false)
  | 2 => ("java/lang/Throwable", "cause", "Ljava/lang/Throwable;", false)
  | 3 => ("java/lang/Throwable", "stackTrace", "[Ljava/lang/StackTraceElement;", false)
  | 4 => ("java/lang/Throwable", "depth", "I", false)
  | _ => ("java/lang/Throwable", "suppressedExceptions", "Ljava/util/List;", false)
def tyJ7 : Nat → FieldType := fun k => match k with
  | 0 => .object "java/lang/Object"
  | 1 => .object "java/lang/String"
  | 2 => .object "java/lang/Throwable"
  | 3 => .array (.object "java/lang/StackTraceElement")
  | 4 => .int
  | _ => .object "java/util/List"
abbrev wsJ70 : List Cond := u_ws RJ7 TJ7 6
theorem nmJ7 : ∀ a, a < 6 → ∀ b, b < 6 → a ≠ b → (TJ7 a).2.1 ≠ (TJ7 b).2.1 := by decide +kernel
theorem tyJ7_ok : ∀ k, k < 6 → parseFieldDescriptor (TJ7 k).2.2.1 = some (tyJ7 k) := by decide +kernel
abbrev cJ7_init : ByteArray := prog_13_method_2_code
def yJ7_init : MethodName := ⟨RJ7, "<init>", "(Ljava/lang/String;)V"⟩
def dkwJ7_init_0 : List UInt8 := [42, 43, 183, 0, 7, 177]
abbrev dktJ7_init_0 : List UInt8 := dkwJ7_init_0 ++ []
theorem dksJ7_init_0 : cJ7_init.data.toList.drop 0 = dktJ7_init_0 := by decide +kernel
theorem dJ7_init_0 : decode cJ7_init 0 = .ok (.aload_n 0, 1) := dk_42 (dk_at dksJ7_init_0 0 rfl rfl)
theorem dJ7_init_1 : decode cJ7_init 1 = .ok (.aload_n 1, 1) := dk_43 (dk_at dksJ7_init_0 1 rfl rfl)
theorem dJ7_init_2 : decode cJ7_init 2 = .ok (.invokespecial 7, 3) := dk_183 0 7 (dk_at dksJ7_init_0 2 rfl rfl)
theorem dJ7_init_5 : decode cJ7_init 5 = .ok (.return_, 1) := dk_177 (dk_at dksJ7_init_0 5 rfl rfl)
theorem q277 : (Jvm.Cond.initialized "java/lang/ArrayIndexOutOfBoundsException") ∈ lw_all := lw_g (lw_at lw_m1 13 rfl) rfl
theorem q339 : (Jvm.Cond.selects "java/lang/ArrayIndexOutOfBoundsException" ({ cls := "java/lang/Throwable", name := "fillInStackTrace", desc := "()Ljava/lang/Throwable;" } : Jvm.MethodName) ({ cls := "java/lang/Throwable", name := "fillInStackTrace", desc := "()Ljava/lang/Throwable;" } : Jvm.MethodName)) ∈ lw_all := lw_g (lw_at lw_m1 75 rfl) rfl
theorem q720 : (Jvm.Cond.instantiable "java/lang/ArrayIndexOutOfBoundsException" (6 : Nat)) ∈ lw_all := lw_g (lw_at lw_m2 216 rfl) rfl
theorem q721 : (Jvm.Cond.instanceMethod ({ cls := "java/lang/ArrayIndexOutOfBoundsException", name := "<init>", desc := "(Ljava/lang/String;)V" } : Jvm.MethodName)) ∈ lw_all := lw_g (lw_at lw_m2 217 rfl) rfl
theorem q722 : (Jvm.Cond.code ({ cls := "java/lang/ArrayIndexOutOfBoundsException", name := "<init>", desc := "(Ljava/lang/String;)V" } : Jvm.MethodName) prog_13_method_2_code (2 : Nat) (Option.none : Option Jvm.ClassFile.FieldType)) ∈ lw_all := lw_g (lw_at lw_m2 218 rfl) rfl
theorem q723 : (Jvm.Cond.methodLink "java/lang/ArrayIndexOutOfBoundsException" (7 : Nat) ({ cls := "java/lang/IndexOutOfBoundsException", name := "<init>", desc := "(Ljava/lang/String;)V" } : Jvm.MethodName)) ∈ lw_all := lw_g (lw_at lw_m2 219 rfl) rfl
theorem q727 : (Jvm.Cond.lays "java/lang/ArrayIndexOutOfBoundsException" "java/lang/Throwable" "backtrace" "Ljava/lang/Object;") ∈ lw_all := lw_g (lw_at lw_m2 223 rfl) rfl
theorem q728 : (Jvm.Cond.lays "java/lang/ArrayIndexOutOfBoundsException" "java/lang/Throwable" "detailMessage" "Ljava/lang/String;") ∈ lw_all := lw_g (lw_at lw_m2 224 rfl) rfl
theorem q729 : (Jvm.Cond.lays "java/lang/ArrayIndexOutOfBoundsException" "java/lang/Throwable" "cause" "Ljava/lang/Throwable;") ∈ lw_all := lw_g (lw_at lw_m2 225 rfl) rfl
theorem q730 : (Jvm.Cond.lays "java/lang/ArrayIndexOutOfBoundsException" "java/lang/Throwable" "stackTrace" "[Ljava/lang/StackTraceElement;") ∈ lw_all := lw_g (lw_at lw_m2 226 rfl) rfl
theorem q731 : (Jvm.Cond.lays "java/lang/ArrayIndexOutOfBoundsException" "java/lang/Throwable" "depth" "I") ∈ lw_all := lw_g (lw_at lw_m2 227 rfl) rfl
theorem q732 : (Jvm.Cond.lays "java/lang/ArrayIndexOutOfBoundsException" "java/lang/Throwable" "suppressedExceptions" "Ljava/util/List;") ∈ lw_all := lw_g (lw_at lw_m2 228 rfl) rfl
theorem q733 : (Jvm.Cond.superclass "java/lang/ArrayIndexOutOfBoundsException" "java/lang/IndexOutOfBoundsException") ∈ lw_all := lw_g (lw_at lw_m2 229 rfl) rfl
theorem q734 : (Jvm.Cond.castable "java/lang/ArrayIndexOutOfBoundsException" "java/lang/ArrayIndexOutOfBoundsException") ∈ lw_tbl := lw_at lw_m2 230 rfl
theorem q737 : (Jvm.Cond.selects "java/lang/ArrayIndexOutOfBoundsException" ({ cls := "java/lang/Throwable", name := "fillInStackTrace", desc := "(I)Ljava/lang/Throwable;" } : Jvm.MethodName) ({ cls := "java/lang/Throwable", name := "fillInStackTrace", desc := "(I)Ljava/lang/Throwable;" } : Jvm.MethodName)) ∈ lw_all := lw_g (lw_at lw_m2 233 rfl) rfl
theorem q3075 : (Jvm.Cond.castable "java/lang/ArrayIndexOutOfBoundsException" "java/lang/IndexOutOfBoundsException") ∈ lw_tbl := lw_at lw_m12 171 rfl
theorem in_J7 : ∀ w ∈ wsJ70, w ∈ lw_all := lw_in wsJ70 [727, 728, 729, 730, 731, 732] (by decide +kernel) (by decide +kernel)

/-! java/lang/Float -/
set_option maxRecDepth 100000
def RJ8 : String := "java/lang/Float"
abbrev cJ8_floatToIntBits : ByteArray := prog_19_method_24_code
def yJ8_floatToIntBits : MethodName := ⟨RJ8, "floatToIntBits", "(F)I"⟩
def dkwJ8_floatToIntBits_0 : List UInt8 := [34, 184, 0, 59, 154, 0, 8, 34, 184, 0, 74, 172, 18, 77, 172]
abbrev dktJ8_floatToIntBits_0 : List UInt8 := dkwJ8_floatToIntBits_0 ++ []
theorem dksJ8_floatToIntBits_0 : cJ8_floatToIntBits.data.toList.drop 0 = dktJ8_floatToIntBits_0 := by decide +kernel
theorem dJ8_floatToIntBits_0 : decode cJ8_floatToIntBits 0 = .ok (.fload_n 0, 1) := dk_34 (dk_at dksJ8_floatToIntBits_0 0 rfl rfl)
theorem dJ8_floatToIntBits_1 : decode cJ8_floatToIntBits 1 = .ok (.invokestatic 59, 3) := dk_184 0 59 (dk_at dksJ8_floatToIntBits_0 1 rfl rfl)
theorem dJ8_floatToIntBits_4 : decode cJ8_floatToIntBits 4 = .ok (.ifCond .ne 8, 3) := dk_154 0 8 (dk_at dksJ8_floatToIntBits_0 4 rfl rfl)
theorem dJ8_floatToIntBits_7 : decode cJ8_floatToIntBits 7 = .ok (.fload_n 0, 1) := dk_34 (dk_at dksJ8_floatToIntBits_0 7 rfl rfl)
theorem dJ8_floatToIntBits_8 : decode cJ8_floatToIntBits 8 = .ok (.invokestatic 74, 3) := dk_184 0 74 (dk_at dksJ8_floatToIntBits_0 8 rfl rfl)
theorem dJ8_floatToIntBits_11 : decode cJ8_floatToIntBits 11 = .ok (.ireturn, 1) := dk_172 (dk_at dksJ8_floatToIntBits_0 11 rfl rfl)
theorem dJ8_floatToIntBits_12 : decode cJ8_floatToIntBits 12 = .ok (.ldc 77, 2) := dk_18 77 (dk_at dksJ8_floatToIntBits_0 12 rfl rfl)
theorem dJ8_floatToIntBits_14 : decode cJ8_floatToIntBits 14 = .ok (.ireturn, 1) := dk_172 (dk_at dksJ8_floatToIntBits_0 14 rfl rfl)
abbrev cJ8_isNaN : ByteArray := prog_19_method_6_code
def yJ8_isNaN : MethodName := ⟨RJ8, "isNaN", "(F)Z"⟩
def dkwJ8_isNaN_0 : List UInt8 := [34, 34, 149, 153, 0, 7, 4, 167, 0, 4, 3, 172]
abbrev dktJ8_isNaN_0 : List UInt8 := dkwJ8_isNaN_0 ++ []
theorem dksJ8_isNaN_0 : cJ8_isNaN.data.toList.drop 0 = dktJ8_isNaN_0 := by decide +kernel
theorem dJ8_isNaN_0 : decode cJ8_isNaN 0 = .ok (.fload_n 0, 1) := dk_34 (dk_at dksJ8_isNaN_0 0 rfl rfl)
theorem dJ8_isNaN_1 : decode cJ8_isNaN 1 = .ok (.fload_n 0, 1) := dk_34 (dk_at dksJ8_isNaN_0 1 rfl rfl)
theorem dJ8_isNaN_2 : decode cJ8_isNaN 2 = .ok (.fcmp .l, 1) := dk_149 (dk_at dksJ8_isNaN_0 2 rfl rfl)
theorem dJ8_isNaN_3 : decode cJ8_isNaN 3 = .ok (.ifCond .eq 7, 3) := dk_153 0 7 (dk_at dksJ8_isNaN_0 3 rfl rfl)
theorem dJ8_isNaN_6 : decode cJ8_isNaN 6 = .ok (.iconst 1, 1) := dk_4 (dk_at dksJ8_isNaN_0 6 rfl rfl)
theorem dJ8_isNaN_7 : decode cJ8_isNaN 7 = .ok (.goto 4, 3) := dk_167 0 4 (dk_at dksJ8_isNaN_0 7 rfl rfl)
theorem dJ8_isNaN_10 : decode cJ8_isNaN 10 = .ok (.iconst 0, 1) := dk_3 (dk_at dksJ8_isNaN_0 10 rfl rfl)
theorem dJ8_isNaN_11 : decode cJ8_isNaN 11 = .ok (.ireturn, 1) := dk_172 (dk_at dksJ8_isNaN_0 11 rfl rfl)
theorem q279 : (Jvm.Cond.initialized "java/lang/Float") ∈ lw_all := lw_g (lw_at lw_m1 15 rfl) rfl
theorem q761 : (Jvm.Cond.static ({ cls := "java/lang/Float", name := "intBitsToFloat", desc := "(I)F" } : Jvm.MethodName)) ∈ lw_all := lw_g (lw_at lw_m3 17 rfl) rfl
theorem q762 : (Jvm.Cond.native ({ cls := "java/lang/Float", name := "intBitsToFloat", desc := "(I)F" } : Jvm.MethodName)) ∈ lw_all := lw_g (lw_at lw_m3 18 rfl) rfl
theorem q962 : (Jvm.Cond.static ({ cls := "java/lang/Float", name := "floatToIntBits", desc := "(F)I" } : Jvm.MethodName)) ∈ lw_all := lw_g (lw_at lw_m3 218 rfl) rfl
theorem q963 : (Jvm.Cond.code ({ cls := "java/lang/Float", name := "floatToIntBits", desc := "(F)I" } : Jvm.MethodName) prog_19_method_24_code (1 : Nat) (Option.some Jvm.ClassFile.FieldType.int)) ∈ lw_all := lw_g (lw_at lw_m3 219 rfl) rfl
theorem q964 : (Jvm.Cond.methodLink "java/lang/Float" (59 : Nat) ({ cls := "java/lang/Float", name := "isNaN", desc := "(F)Z" } : Jvm.MethodName)) ∈ lw_all := lw_g (lw_at lw_m3 220 rfl) rfl
theorem q965 : (Jvm.Cond.static ({ cls := "java/lang/Float", name := "isNaN", desc := "(F)Z" } : Jvm.MethodName)) ∈ lw_all := lw_g (lw_at lw_m3 221 rfl) rfl
theorem q966 : (Jvm.Cond.code ({ cls := "java/lang/Float", name := "isNaN", desc := "(F)Z" } : Jvm.MethodName) prog_19_method_6_code (1 : Nat) (Option.some Jvm.ClassFile.FieldType.boolean)) ∈ lw_all := lw_g (lw_at lw_m3 222 rfl) rfl
theorem q967 : (Jvm.Cond.methodLink "java/lang/Float" (74 : Nat) ({ cls := "java/lang/Float", name := "floatToRawIntBits", desc := "(F)I" } : Jvm.MethodName)) ∈ lw_all := lw_g (lw_at lw_m3 223 rfl) rfl
theorem q968 : (Jvm.Cond.static ({ cls := "java/lang/Float", name := "floatToRawIntBits", desc := "(F)I" } : Jvm.MethodName)) ∈ lw_all := lw_g (lw_at lw_m3 224 rfl) rfl
theorem q969 : (Jvm.Cond.native ({ cls := "java/lang/Float", name := "floatToRawIntBits", desc := "(F)I" } : Jvm.MethodName)) ∈ lw_all := lw_g (lw_at lw_m3 225 rfl) rfl
theorem q970 : (Jvm.Cond.constant "java/lang/Float" (77 : Nat) (2143289344 : Int32)) ∈ lw_all := lw_g (lw_at lw_m3 226 rfl) rfl

/-! java/lang/Double -/
set_option maxRecDepth 100000
def RJ9 : String := "java/lang/Double"
abbrev cJ9_doubleToLongBits : ByteArray := prog_17_method_23_code
def yJ9_doubleToLongBits : MethodName := ⟨RJ9, "doubleToLongBits", "(D)J"⟩
def dkwJ9_doubleToLongBits_0 : List UInt8 := [38, 184, 0, 122, 154, 0, 8, 38, 184, 0, 134, 173, 20, 0, 137, 173]
abbrev dktJ9_doubleToLongBits_0 : List UInt8 := dkwJ9_doubleToLongBits_0 ++ []
theorem dksJ9_doubleToLongBits_0 : cJ9_doubleToLongBits.data.toList.drop 0 = dktJ9_doubleToLongBits_0 := by decide +kernel
theorem dJ9_doubleToLongBits_0 : decode cJ9_doubleToLongBits 0 = .ok (.dload_n 0, 1) := dk_38 (dk_at dksJ9_doubleToLongBits_0 0 rfl rfl)
theorem dJ9_doubleToLongBits_1 : decode cJ9_doubleToLongBits 1 = .ok (.invokestatic 122, 3) := dk_184 0 122 (dk_at dksJ9_doubleToLongBits_0 1 rfl rfl)
theorem dJ9_doubleToLongBits_4 : decode cJ9_doubleToLongBits 4 = .ok (.ifCond .ne 8, 3) := dk_154 0 8 (dk_at dksJ9_doubleToLongBits_0 4 rfl rfl)
theorem dJ9_doubleToLongBits_7 : decode cJ9_doubleToLongBits 7 = .ok (.dload_n 0, 1) := dk_38 (dk_at dksJ9_doubleToLongBits_0 7 rfl rfl)
theorem dJ9_doubleToLongBits_8 : decode cJ9_doubleToLongBits 8 = .ok (.invokestatic 134, 3) := dk_184 0 134 (dk_at dksJ9_doubleToLongBits_0 8 rfl rfl)
theorem dJ9_doubleToLongBits_11 : decode cJ9_doubleToLongBits 11 = .ok (.lreturn, 1) := dk_173 (dk_at dksJ9_doubleToLongBits_0 11 rfl rfl)
theorem dJ9_doubleToLongBits_12 : decode cJ9_doubleToLongBits 12 = .ok (.ldc2_w 137, 3) := dk_20 0 137 (dk_at dksJ9_doubleToLongBits_0 12 rfl rfl)
theorem dJ9_doubleToLongBits_15 : decode cJ9_doubleToLongBits 15 = .ok (.lreturn, 1) := dk_173 (dk_at dksJ9_doubleToLongBits_0 15 rfl rfl)
abbrev cJ9_isNaN : ByteArray := prog_17_method_6_code
def yJ9_isNaN : MethodName := ⟨RJ9, "isNaN", "(D)Z"⟩
def dkwJ9_isNaN_0 : List UInt8 := [38, 38, 151, 153, 0, 7, 4, 167, 0, 4, 3, 172]
abbrev dktJ9_isNaN_0 : List UInt8 := dkwJ9_isNaN_0 ++ []
theorem dksJ9_isNaN_0 : cJ9_isNaN.data.toList.drop 0 = dktJ9_isNaN_0 := by decide +kernel
theorem dJ9_isNaN_0 : decode cJ9_isNaN 0 = .ok (.dload_n 0, 1) := dk_38 (dk_at dksJ9_isNaN_0 0 rfl rfl)
theorem dJ9_isNaN_1 : decode cJ9_isNaN 1 = .ok (.dload_n 0, 1) := dk_38 (dk_at dksJ9_isNaN_0 1 rfl rfl)
theorem dJ9_isNaN_2 : decode cJ9_isNaN 2 = .ok (.dcmp .l, 1) := dk_151 (dk_at dksJ9_isNaN_0 2 rfl rfl)
theorem dJ9_isNaN_3 : decode cJ9_isNaN 3 = .ok (.ifCond .eq 7, 3) := dk_153 0 7 (dk_at dksJ9_isNaN_0 3 rfl rfl)
theorem dJ9_isNaN_6 : decode cJ9_isNaN 6 = .ok (.iconst 1, 1) := dk_4 (dk_at dksJ9_isNaN_0 6 rfl rfl)
theorem dJ9_isNaN_7 : decode cJ9_isNaN 7 = .ok (.goto 4, 3) := dk_167 0 4 (dk_at dksJ9_isNaN_0 7 rfl rfl)
theorem dJ9_isNaN_10 : decode cJ9_isNaN 10 = .ok (.iconst 0, 1) := dk_3 (dk_at dksJ9_isNaN_0 10 rfl rfl)
theorem dJ9_isNaN_11 : decode cJ9_isNaN 11 = .ok (.ireturn, 1) := dk_172 (dk_at dksJ9_isNaN_0 11 rfl rfl)
theorem q280 : (Jvm.Cond.initialized "java/lang/Double") ∈ lw_all := lw_g (lw_at lw_m1 16 rfl) rfl
theorem q774 : (Jvm.Cond.static ({ cls := "java/lang/Double", name := "longBitsToDouble", desc := "(J)D" } : Jvm.MethodName)) ∈ lw_all := lw_g (lw_at lw_m3 30 rfl) rfl
theorem q775 : (Jvm.Cond.native ({ cls := "java/lang/Double", name := "longBitsToDouble", desc := "(J)D" } : Jvm.MethodName)) ∈ lw_all := lw_g (lw_at lw_m3 31 rfl) rfl
theorem q972 : (Jvm.Cond.static ({ cls := "java/lang/Double", name := "doubleToLongBits", desc := "(D)J" } : Jvm.MethodName)) ∈ lw_all := lw_g (lw_at lw_m3 228 rfl) rfl
theorem q973 : (Jvm.Cond.code ({ cls := "java/lang/Double", name := "doubleToLongBits", desc := "(D)J" } : Jvm.MethodName) prog_17_method_23_code (2 : Nat) (Option.some Jvm.ClassFile.FieldType.long)) ∈ lw_all := lw_g (lw_at lw_m3 229 rfl) rfl
theorem q974 : (Jvm.Cond.methodLink "java/lang/Double" (122 : Nat) ({ cls := "java/lang/Double", name := "isNaN", desc := "(D)Z" } : Jvm.MethodName)) ∈ lw_all := lw_g (lw_at lw_m3 230 rfl) rfl
theorem q975 : (Jvm.Cond.static ({ cls := "java/lang/Double", name := "isNaN", desc := "(D)Z" } : Jvm.MethodName)) ∈ lw_all := lw_g (lw_at lw_m3 231 rfl) rfl
theorem q976 : (Jvm.Cond.code ({ cls := "java/lang/Double", name := "isNaN", desc := "(D)Z" } : Jvm.MethodName) prog_17_method_6_code (2 : Nat) (Option.some Jvm.ClassFile.FieldType.boolean)) ∈ lw_all := lw_g (lw_at lw_m3 232 rfl) rfl
theorem q977 : (Jvm.Cond.methodLink "java/lang/Double" (134 : Nat) ({ cls := "java/lang/Double", name := "doubleToRawLongBits", desc := "(D)J" } : Jvm.MethodName)) ∈ lw_all := lw_g (lw_at lw_m3 233 rfl) rfl
theorem q978 : (Jvm.Cond.static ({ cls := "java/lang/Double", name := "doubleToRawLongBits", desc := "(D)J" } : Jvm.MethodName)) ∈ lw_all := lw_g (lw_at lw_m3 234 rfl) rfl
theorem q979 : (Jvm.Cond.native ({ cls := "java/lang/Double", name := "doubleToRawLongBits", desc := "(D)J" } : Jvm.MethodName)) ∈ lw_all := lw_g (lw_at lw_m3 235 rfl) rfl
theorem q980 : (Jvm.Cond.constantLong "java/lang/Double" (137 : Nat) (9221120237041090560 : Int64)) ∈ lw_all := lw_g (lw_at lw_m3 236 rfl) rfl

/-! the law's own entry -/
set_option maxRecDepth 100000
abbrev cL_law : ByteArray := code
def dkwL_law_37 : List UInt8 := [132, 3, 8, 167, 252, 119, 4, 172]
abbrev dktL_law_37 : List UInt8 := dkwL_law_37 ++ []
def dkwL_law_36 : List UInt8 := [96, 46, 182, 0, 88, 159, 0, 18, 3, 172, 43, 182, 0, 89, 44, 182, 0, 93, 159, 0, 5, 3, 172]
abbrev dktL_law_36 : List UInt8 := dkwL_law_36 ++ dktL_law_37
def dkwL_law_35 : List UInt8 := [96, 46, 182, 0, 84, 44, 42, 29, 4, 96, 46, 42, 29, 5, 96, 46, 42, 29, 6, 96, 46, 42, 29, 7]
abbrev dktL_law_35 : List UInt8 := dkwL_law_35 ++ dktL_law_36
def dkwL_law_34 : List UInt8 := [159, 0, 71, 3, 172, 43, 42, 29, 4, 96, 46, 42, 29, 5, 96, 46, 42, 29, 6, 96, 46, 42, 29, 7]
abbrev dktL_law_34 : List UInt8 := dkwL_law_34 ++ dktL_law_35
def dkwL_law_33 : List UInt8 := [46, 182, 0, 79, 44, 42, 29, 4, 96, 46, 42, 29, 5, 96, 46, 42, 29, 6, 96, 46, 182, 0, 83]
abbrev dktL_law_33 : List UInt8 := dkwL_law_33 ++ dktL_law_34
def dkwL_law_32 : List UInt8 := [182, 0, 78, 148, 153, 0, 114, 3, 172, 43, 42, 29, 4, 96, 46, 42, 29, 5, 96, 46, 42, 29, 6, 96]
abbrev dktL_law_32 : List UInt8 := dkwL_law_32 ++ dktL_law_33
def dkwL_law_31 : List UInt8 := [6, 96, 46, 182, 0, 74, 44, 42, 29, 4, 96, 46, 42, 29, 5, 96, 46, 42, 29, 6, 96, 46]
abbrev dktL_law_31 : List UInt8 := dkwL_law_31 ++ dktL_law_32
def dkwL_law_30 : List UInt8 := [5, 96, 46, 182, 0, 73, 159, 0, 158, 3, 172, 43, 42, 29, 4, 96, 46, 42, 29, 5, 96, 46, 42, 29]
abbrev dktL_law_30 : List UInt8 := dkwL_law_30 ++ dktL_law_31
def dkwL_law_29 : List UInt8 := [3, 172, 43, 42, 29, 4, 96, 46, 42, 29, 5, 96, 46, 182, 0, 70, 44, 42, 29, 4, 96, 46, 42, 29]
abbrev dktL_law_29 : List UInt8 := dkwL_law_29 ++ dktL_law_30
def dkwL_law_28 : List UInt8 := [29, 5, 96, 46, 182, 0, 66, 44, 42, 29, 4, 96, 46, 42, 29, 5, 96, 46, 182, 0, 69, 159, 0, 191]
abbrev dktL_law_28 : List UInt8 := dkwL_law_28 ++ dktL_law_29
def dkwL_law_27 : List UInt8 := [182, 0, 62, 44, 42, 29, 4, 96, 46, 182, 0, 65, 159, 0, 224, 3, 172, 43, 42, 29, 4, 96, 46, 42]
abbrev dktL_law_27 : List UInt8 := dkwL_law_27 ++ dktL_law_28
def dkwL_law_26 : List UInt8 := [182, 0, 58, 44, 42, 29, 4, 96, 46, 182, 0, 61, 159, 0, 247, 3, 172, 43, 42, 29, 4, 96, 46]
abbrev dktL_law_26 : List UInt8 := dkwL_law_26 ++ dktL_law_27
def dkwL_law_25 : List UInt8 := [182, 0, 53, 44, 42, 29, 4, 96, 46, 182, 0, 57, 159, 1, 14, 3, 172, 43, 42, 29, 4, 96, 46]
abbrev dktL_law_25 : List UInt8 := dkwL_law_25 ++ dktL_law_26
def dkwL_law_24 : List UInt8 := [7, 96, 46, 42, 29, 8, 96, 46, 182, 0, 52, 159, 1, 37, 3, 172, 43, 42, 29, 4, 96, 46]
abbrev dktL_law_24 : List UInt8 := dkwL_law_24 ++ dktL_law_25
def dkwL_law_23 : List UInt8 := [8, 96, 46, 182, 0, 49, 44, 42, 29, 4, 96, 46, 42, 29, 5, 96, 46, 42, 29, 6, 96, 46, 42, 29]
abbrev dktL_law_23 : List UInt8 := dkwL_law_23 ++ dktL_law_24
def dkwL_law_22 : List UInt8 := [172, 43, 42, 29, 4, 96, 46, 42, 29, 5, 96, 46, 42, 29, 6, 96, 46, 42, 29, 7, 96, 46, 42, 29]
abbrev dktL_law_22 : List UInt8 := dkwL_law_22 ++ dktL_law_23
def dkwL_law_21 : List UInt8 := [42, 29, 8, 96, 46, 42, 29, 16, 6, 96, 46, 42, 29, 16, 7, 96, 46, 182, 0, 48, 159, 1, 100, 3]
abbrev dktL_law_21 : List UInt8 := dkwL_law_21 ++ dktL_law_22
def dkwL_law_20 : List UInt8 := [182, 0, 44, 44, 42, 29, 4, 96, 46, 42, 29, 5, 96, 46, 42, 29, 6, 96, 46, 42, 29, 7, 96, 46]
abbrev dktL_law_20 : List UInt8 := dkwL_law_20 ++ dktL_law_21
def dkwL_law_19 : List UInt8 := [42, 29, 7, 96, 46, 42, 29, 8, 96, 46, 42, 29, 16, 6, 96, 46, 42, 29, 16, 7, 96, 46]
abbrev dktL_law_19 : List UInt8 := dkwL_law_19 ++ dktL_law_20
def dkwL_law_18 : List UInt8 := [182, 0, 43, 159, 1, 187, 3, 172, 43, 42, 29, 4, 96, 46, 42, 29, 5, 96, 46, 42, 29, 6, 96, 46]
abbrev dktL_law_18 : List UInt8 := dkwL_law_18 ++ dktL_law_19
def dkwL_law_17 : List UInt8 := [42, 29, 4, 96, 46, 42, 29, 5, 96, 46, 42, 29, 6, 96, 46, 153, 0, 7, 4, 167, 0, 4, 3]
abbrev dktL_law_17 : List UInt8 := dkwL_law_17 ++ dktL_law_18
def dkwL_law_16 : List UInt8 := [96, 46, 42, 29, 5, 96, 46, 42, 29, 6, 96, 46, 153, 0, 7, 4, 167, 0, 4, 3, 182, 0, 39, 44]
abbrev dktL_law_16 : List UInt8 := dkwL_law_16 ++ dktL_law_17
def dkwL_law_15 : List UInt8 := [96, 46, 42, 29, 7, 96, 46, 42, 29, 8, 96, 46, 182, 0, 38, 159, 1, 246, 3, 172, 43, 42, 29, 4]
abbrev dktL_law_15 : List UInt8 := dkwL_law_15 ++ dktL_law_16
def dkwL_law_14 : List UInt8 := [96, 46, 42, 29, 8, 96, 46, 182, 0, 34, 44, 42, 29, 4, 96, 46, 42, 29, 5, 96, 46, 42, 29, 6]
abbrev dktL_law_14 : List UInt8 := dkwL_law_14 ++ dktL_law_15
def dkwL_law_13 : List UInt8 := [159, 2, 53, 3, 172, 43, 42, 29, 4, 96, 46, 42, 29, 5, 96, 46, 42, 29, 6, 96, 46, 42, 29, 7]
abbrev dktL_law_13 : List UInt8 := dkwL_law_13 ++ dktL_law_14
def dkwL_law_12 : List UInt8 := [42, 29, 8, 96, 46, 133, 16, 32, 121, 42, 29, 16, 6, 96, 46, 133, 20, 0, 22, 127, 129, 182, 0, 33]
abbrev dktL_law_12 : List UInt8 := dkwL_law_12 ++ dktL_law_13
def dkwL_law_11 : List UInt8 := [182, 0, 29, 44, 42, 29, 4, 96, 46, 42, 29, 5, 96, 46, 42, 29, 6, 96, 46, 42, 29, 7, 96, 46]
abbrev dktL_law_11 : List UInt8 := dkwL_law_11 ++ dktL_law_12
def dkwL_law_10 : List UInt8 := [96, 46, 42, 29, 8, 96, 46, 133, 16, 32, 121, 42, 29, 16, 6, 96, 46, 133, 20, 0, 22, 127, 129]
abbrev dktL_law_10 : List UInt8 := dkwL_law_10 ++ dktL_law_11
def dkwL_law_9 : List UInt8 := [159, 2, 148, 3, 172, 43, 42, 29, 4, 96, 46, 42, 29, 5, 96, 46, 42, 29, 6, 96, 46, 42, 29, 7]
abbrev dktL_law_9 : List UInt8 := dkwL_law_9 ++ dktL_law_10
def dkwL_law_8 : List UInt8 := [46, 42, 29, 7, 96, 46, 133, 16, 32, 121, 42, 29, 8, 96, 46, 133, 20, 0, 22, 127, 129, 182, 0, 28]
abbrev dktL_law_8 : List UInt8 := dkwL_law_8 ++ dktL_law_9
def dkwL_law_7 : List UInt8 := [133, 20, 0, 22, 127, 129, 182, 0, 24, 44, 42, 29, 4, 96, 46, 42, 29, 5, 96, 46, 42, 29, 6, 96]
abbrev dktL_law_7 : List UInt8 := dkwL_law_7 ++ dktL_law_8
def dkwL_law_6 : List UInt8 := [42, 29, 5, 96, 46, 42, 29, 6, 96, 46, 42, 29, 7, 96, 46, 133, 16, 32, 121, 42, 29, 8, 96, 46]
abbrev dktL_law_6 : List UInt8 := dkwL_law_6 ++ dktL_law_7
def dkwL_law_5 : List UInt8 := [42, 29, 4, 96, 46, 42, 29, 5, 96, 46, 182, 0, 21, 159, 2, 231, 3, 172, 43, 42, 29, 4, 96, 46]
abbrev dktL_law_5 : List UInt8 := dkwL_law_5 ++ dktL_law_6
def dkwL_law_4 : List UInt8 := [46, 182, 0, 17, 159, 3, 8, 3, 172, 43, 42, 29, 4, 96, 46, 42, 29, 5, 96, 46, 182, 0, 18, 44]
abbrev dktL_law_4 : List UInt8 := dkwL_law_4 ++ dktL_law_5
def dkwL_law_3 : List UInt8 := [43, 42, 29, 4, 96, 46, 42, 29, 5, 96, 46, 182, 0, 13, 44, 42, 29, 4, 96, 46, 42, 29, 5, 96]
abbrev dktL_law_3 : List UInt8 := dkwL_law_3 ++ dktL_law_4
def dkwL_law_2 : List UInt8 := [170, 0, 0, 0, 0, 3, 119, 0, 0, 0, 0, 0, 0, 0, 16, 0, 0, 0, 83, 0, 0, 0, 116, 0, 0, 0, 149, 0, 0, 0, 232, 0, 0, 1, 71, 0, 0, 1, 134, 0, 0, 1, 193, 0, 0, 2, 24, 0, 0, 2, 87, 0, 0, 2, 110, 0, 0, 2, 133, 0, 0, 2, 156, 0, 0, 2, 189, 0, 0, 2, 222, 0, 0, 3, 10, 0, 0, 3, 53, 0, 0, 3, 106]
abbrev dktL_law_2 : List UInt8 := dkwL_law_2 ++ dktL_law_3
def dkwL_law_1 : List UInt8 := [163, 3, 134, 42, 29, 46, 16, 31, 126]
abbrev dktL_law_1 : List UInt8 := dkwL_law_1 ++ dktL_law_2
def dkwL_law_0 : List UInt8 := [187, 0, 7, 89, 183, 0, 9, 76, 187, 0, 10, 89, 183, 0, 12, 77, 3, 62, 29, 42, 190, 16, 8, 100]
abbrev dktL_law_0 : List UInt8 := dkwL_law_0 ++ dktL_law_1
theorem dksL_law_0 : cL_law.data.toList.drop 0 = dktL_law_0 := by decide +kernel
theorem dksL_law_1 : cL_law.data.toList.drop 24 = dktL_law_1 := dk_seg dksL_law_0 24 rfl rfl
theorem dksL_law_2 : cL_law.data.toList.drop 33 = dktL_law_2 := dk_seg dksL_law_1 9 rfl rfl
theorem dksL_law_3 : cL_law.data.toList.drop 116 = dktL_law_3 := dk_seg dksL_law_2 83 rfl rfl
theorem dksL_law_4 : cL_law.data.toList.drop 140 = dktL_law_4 := dk_seg dksL_law_3 24 rfl rfl
theorem dksL_law_5 : cL_law.data.toList.drop 164 = dktL_law_5 := dk_seg dksL_law_4 24 rfl rfl
theorem dksL_law_6 : cL_law.data.toList.drop 188 = dktL_law_6 := dk_seg dksL_law_5 24 rfl rfl
theorem dksL_law_7 : cL_law.data.toList.drop 212 = dktL_law_7 := dk_seg dksL_law_6 24 rfl rfl
theorem dksL_law_8 : cL_law.data.toList.drop 236 = dktL_law_8 := dk_seg dksL_law_7 24 rfl rfl
theorem dksL_law_9 : cL_law.data.toList.drop 260 = dktL_law_9 := dk_seg dksL_law_8 24 rfl rfl
theorem dksL_law_10 : cL_law.data.toList.drop 284 = dktL_law_10 := dk_seg dksL_law_9 24 rfl rfl
theorem dksL_law_11 : cL_law.data.toList.drop 307 = dktL_law_11 := dk_seg dksL_law_10 23 rfl rfl
theorem dksL_law_12 : cL_law.data.toList.drop 331 = dktL_law_12 := dk_seg dksL_law_11 24 rfl rfl
theorem dksL_law_13 : cL_law.data.toList.drop 355 = dktL_law_13 := dk_seg dksL_law_12 24 rfl rfl
theorem dksL_law_14 : cL_law.data.toList.drop 379 = dktL_law_14 := dk_seg dksL_law_13 24 rfl rfl
theorem dksL_law_15 : cL_law.data.toList.drop 403 = dktL_law_15 := dk_seg dksL_law_14 24 rfl rfl
theorem dksL_law_16 : cL_law.data.toList.drop 427 = dktL_law_16 := dk_seg dksL_law_15 24 rfl rfl
theorem dksL_law_17 : cL_law.data.toList.drop 451 = dktL_law_17 := dk_seg dksL_law_16 24 rfl rfl
theorem dksL_law_18 : cL_law.data.toList.drop 474 = dktL_law_18 := dk_seg dksL_law_17 23 rfl rfl
theorem dksL_law_19 : cL_law.data.toList.drop 498 = dktL_law_19 := dk_seg dksL_law_18 24 rfl rfl
theorem dksL_law_20 : cL_law.data.toList.drop 520 = dktL_law_20 := dk_seg dksL_law_19 22 rfl rfl
theorem dksL_law_21 : cL_law.data.toList.drop 544 = dktL_law_21 := dk_seg dksL_law_20 24 rfl rfl
theorem dksL_law_22 : cL_law.data.toList.drop 568 = dktL_law_22 := dk_seg dksL_law_21 24 rfl rfl
theorem dksL_law_23 : cL_law.data.toList.drop 592 = dktL_law_23 := dk_seg dksL_law_22 24 rfl rfl
theorem dksL_law_24 : cL_law.data.toList.drop 616 = dktL_law_24 := dk_seg dksL_law_23 24 rfl rfl
theorem dksL_law_25 : cL_law.data.toList.drop 638 = dktL_law_25 := dk_seg dksL_law_24 22 rfl rfl
theorem dksL_law_26 : cL_law.data.toList.drop 661 = dktL_law_26 := dk_seg dksL_law_25 23 rfl rfl
theorem dksL_law_27 : cL_law.data.toList.drop 684 = dktL_law_27 := dk_seg dksL_law_26 23 rfl rfl
theorem dksL_law_28 : cL_law.data.toList.drop 708 = dktL_law_28 := dk_seg dksL_law_27 24 rfl rfl
theorem dksL_law_29 : cL_law.data.toList.drop 732 = dktL_law_29 := dk_seg dksL_law_28 24 rfl rfl
theorem dksL_law_30 : cL_law.data.toList.drop 756 = dktL_law_30 := dk_seg dksL_law_29 24 rfl rfl
theorem dksL_law_31 : cL_law.data.toList.drop 780 = dktL_law_31 := dk_seg dksL_law_30 24 rfl rfl
theorem dksL_law_32 : cL_law.data.toList.drop 802 = dktL_law_32 := dk_seg dksL_law_31 22 rfl rfl
theorem dksL_law_33 : cL_law.data.toList.drop 826 = dktL_law_33 := dk_seg dksL_law_32 24 rfl rfl
theorem dksL_law_34 : cL_law.data.toList.drop 849 = dktL_law_34 := dk_seg dksL_law_33 23 rfl rfl
theorem dksL_law_35 : cL_law.data.toList.drop 873 = dktL_law_35 := dk_seg dksL_law_34 24 rfl rfl
theorem dksL_law_36 : cL_law.data.toList.drop 897 = dktL_law_36 := dk_seg dksL_law_35 24 rfl rfl
theorem dksL_law_37 : cL_law.data.toList.drop 920 = dktL_law_37 := dk_seg dksL_law_36 23 rfl rfl
theorem dL_law_0 : decode cL_law 0 = .ok (.new 7, 3) := dk_187 0 7 (dk_at dksL_law_0 0 rfl rfl)
theorem dL_law_3 : decode cL_law 3 = .ok (.dup, 1) := dk_89 (dk_at dksL_law_0 3 rfl rfl)
theorem dL_law_4 : decode cL_law 4 = .ok (.invokespecial 9, 3) := dk_183 0 9 (dk_at dksL_law_0 4 rfl rfl)
theorem dL_law_7 : decode cL_law 7 = .ok (.astore_n 1, 1) := dk_76 (dk_at dksL_law_0 7 rfl rfl)
theorem dL_law_8 : decode cL_law 8 = .ok (.new 10, 3) := dk_187 0 10 (dk_at dksL_law_0 8 rfl rfl)
theorem dL_law_11 : decode cL_law 11 = .ok (.dup, 1) := dk_89 (dk_at dksL_law_0 11 rfl rfl)
theorem dL_law_12 : decode cL_law 12 = .ok (.invokespecial 12, 3) := dk_183 0 12 (dk_at dksL_law_0 12 rfl rfl)
theorem dL_law_15 : decode cL_law 15 = .ok (.astore_n 2, 1) := dk_77 (dk_at dksL_law_0 15 rfl rfl)
theorem dL_law_16 : decode cL_law 16 = .ok (.iconst 0, 1) := dk_3 (dk_at dksL_law_0 16 rfl rfl)
theorem dL_law_17 : decode cL_law 17 = .ok (.istore_n 3, 1) := dk_62 (dk_at dksL_law_0 17 rfl rfl)
theorem dL_law_18 : decode cL_law 18 = .ok (.iload_n 3, 1) := dk_29 (dk_at dksL_law_0 18 rfl rfl)
theorem dL_law_19 : decode cL_law 19 = .ok (.aload_n 0, 1) := dk_42 (dk_at dksL_law_0 19 rfl rfl)
theorem dL_law_20 : decode cL_law 20 = .ok (.arraylength, 1) := dk_190 (dk_at dksL_law_0 20 rfl rfl)
theorem dL_law_21 : decode cL_law 21 = .ok (.bipush 8, 2) := dk_16 8 (dk_at dksL_law_0 21 rfl rfl)
theorem dL_law_23 : decode cL_law 23 = .ok (.isub, 1) := dk_100 (dk_at dksL_law_0 23 rfl rfl)
theorem dL_law_24 : decode cL_law 24 = .ok (.if_icmp .gt 902, 3) := dk_163 3 134 (dk_at dksL_law_1 0 rfl rfl)
theorem dL_law_27 : decode cL_law 27 = .ok (.aload_n 0, 1) := dk_42 (dk_at dksL_law_1 3 rfl rfl)
theorem dL_law_28 : decode cL_law 28 = .ok (.iload_n 3, 1) := dk_29 (dk_at dksL_law_1 4 rfl rfl)
theorem dL_law_29 : decode cL_law 29 = .ok (.iaload, 1) := dk_46 (dk_at dksL_law_1 5 rfl rfl)
theorem dL_law_30 : decode cL_law 30 = .ok (.bipush 31, 2) := dk_16 31 (dk_at dksL_law_1 6 rfl rfl)
theorem dL_law_32 : decode cL_law 32 = .ok (.iand, 1) := dk_126 (dk_at dksL_law_1 8 rfl rfl)
theorem dL_law_33 : decode cL_law 33 = .ok (.tableswitch 887 0 16 #[83, 116, 149, 232, 327, 390, 449, 536, 599, 622, 645, 668, 701, 734, 778, 821, 874], 83) := by decide +kernel
theorem dL_law_116 : decode cL_law 116 = .ok (.aload_n 1, 1) := dk_43 (dk_at dksL_law_3 0 rfl rfl)
theorem dL_law_117 : decode cL_law 117 = .ok (.aload_n 0, 1) := dk_42 (dk_at dksL_law_3 1 rfl rfl)
theorem dL_law_118 : decode cL_law 118 = .ok (.iload_n 3, 1) := dk_29 (dk_at dksL_law_3 2 rfl rfl)
theorem dL_law_119 : decode cL_law 119 = .ok (.iconst 1, 1) := dk_4 (dk_at dksL_law_3 3 rfl rfl)
theorem dL_law_120 : decode cL_law 120 = .ok (.iadd, 1) := dk_96 (dk_at dksL_law_3 4 rfl rfl)
theorem dL_law_121 : decode cL_law 121 = .ok (.iaload, 1) := dk_46 (dk_at dksL_law_3 5 rfl rfl)
theorem dL_law_122 : decode cL_law 122 = .ok (.aload_n 0, 1) := dk_42 (dk_at dksL_law_3 6 rfl rfl)
theorem dL_law_123 : decode cL_law 123 = .ok (.iload_n 3, 1) := dk_29 (dk_at dksL_law_3 7 rfl rfl)
theorem dL_law_124 : decode cL_law 124 = .ok (.iconst 2, 1) := dk_5 (dk_at dksL_law_3 8 rfl rfl)
theorem dL_law_125 : decode cL_law 125 = .ok (.iadd, 1) := dk_96 (dk_at dksL_law_3 9 rfl rfl)
theorem dL_law_126 : decode cL_law 126 = .ok (.iaload, 1) := dk_46 (dk_at dksL_law_3 10 rfl rfl)
theorem dL_law_127 : decode cL_law 127 = .ok (.invokevirtual 13, 3) := dk_182 0 13 (dk_at dksL_law_3 11 rfl rfl)
theorem dL_law_130 : decode cL_law 130 = .ok (.aload_n 2, 1) := dk_44 (dk_at dksL_law_3 14 rfl rfl)
theorem dL_law_131 : decode cL_law 131 = .ok (.aload_n 0, 1) := dk_42 (dk_at dksL_law_3 15 rfl rfl)
theorem dL_law_132 : decode cL_law 132 = .ok (.iload_n 3, 1) := dk_29 (dk_at dksL_law_3 16 rfl rfl)
theorem dL_law_133 : decode cL_law 133 = .ok (.iconst 1, 1) := dk_4 (dk_at dksL_law_3 17 rfl rfl)
theorem dL_law_134 : decode cL_law 134 = .ok (.iadd, 1) := dk_96 (dk_at dksL_law_3 18 rfl rfl)
theorem dL_law_135 : decode cL_law 135 = .ok (.iaload, 1) := dk_46 (dk_at dksL_law_3 19 rfl rfl)
theorem dL_law_136 : decode cL_law 136 = .ok (.aload_n 0, 1) := dk_42 (dk_at dksL_law_3 20 rfl rfl)
theorem dL_law_137 : decode cL_law 137 = .ok (.iload_n 3, 1) := dk_29 (dk_at dksL_law_3 21 rfl rfl)
theorem dL_law_138 : decode cL_law 138 = .ok (.iconst 2, 1) := dk_5 (dk_at dksL_law_3 22 rfl rfl)
theorem dL_law_139 : decode cL_law 139 = .ok (.iadd, 1) := dk_96 (dk_at dksL_law_3 23 rfl rfl)
theorem dL_law_140 : decode cL_law 140 = .ok (.iaload, 1) := dk_46 (dk_at dksL_law_4 0 rfl rfl)
theorem dL_law_141 : decode cL_law 141 = .ok (.invokevirtual 17, 3) := dk_182 0 17 (dk_at dksL_law_4 1 rfl rfl)
theorem dL_law_144 : decode cL_law 144 = .ok (.if_icmp .eq 776, 3) := dk_159 3 8 (dk_at dksL_law_4 4 rfl rfl)
theorem dL_law_147 : decode cL_law 147 = .ok (.iconst 0, 1) := dk_3 (dk_at dksL_law_4 7 rfl rfl)
theorem dL_law_148 : decode cL_law 148 = .ok (.ireturn, 1) := dk_172 (dk_at dksL_law_4 8 rfl rfl)
theorem dL_law_149 : decode cL_law 149 = .ok (.aload_n 1, 1) := dk_43 (dk_at dksL_law_4 9 rfl rfl)
theorem dL_law_150 : decode cL_law 150 = .ok (.aload_n 0, 1) := dk_42 (dk_at dksL_law_4 10 rfl rfl)
theorem dL_law_151 : decode cL_law 151 = .ok (.iload_n 3, 1) := dk_29 (dk_at dksL_law_4 11 rfl rfl)
theorem dL_law_152 : decode cL_law 152 = .ok (.iconst 1, 1) := dk_4 (dk_at dksL_law_4 12 rfl rfl)
theorem dL_law_153 : decode cL_law 153 = .ok (.iadd, 1) := dk_96 (dk_at dksL_law_4 13 rfl rfl)
theorem dL_law_154 : decode cL_law 154 = .ok (.iaload, 1) := dk_46 (dk_at dksL_law_4 14 rfl rfl)
theorem dL_law_155 : decode cL_law 155 = .ok (.aload_n 0, 1) := dk_42 (dk_at dksL_law_4 15 rfl rfl)
theorem dL_law_156 : decode cL_law 156 = .ok (.iload_n 3, 1) := dk_29 (dk_at dksL_law_4 16 rfl rfl)
theorem dL_law_157 : decode cL_law 157 = .ok (.iconst 2, 1) := dk_5 (dk_at dksL_law_4 17 rfl rfl)
theorem dL_law_158 : decode cL_law 158 = .ok (.iadd, 1) := dk_96 (dk_at dksL_law_4 18 rfl rfl)
theorem dL_law_159 : decode cL_law 159 = .ok (.iaload, 1) := dk_46 (dk_at dksL_law_4 19 rfl rfl)
theorem dL_law_160 : decode cL_law 160 = .ok (.invokevirtual 18, 3) := dk_182 0 18 (dk_at dksL_law_4 20 rfl rfl)
theorem dL_law_163 : decode cL_law 163 = .ok (.aload_n 2, 1) := dk_44 (dk_at dksL_law_4 23 rfl rfl)
theorem dL_law_164 : decode cL_law 164 = .ok (.aload_n 0, 1) := dk_42 (dk_at dksL_law_5 0 rfl rfl)
theorem dL_law_165 : decode cL_law 165 = .ok (.iload_n 3, 1) := dk_29 (dk_at dksL_law_5 1 rfl rfl)
theorem dL_law_166 : decode cL_law 166 = .ok (.iconst 1, 1) := dk_4 (dk_at dksL_law_5 2 rfl rfl)
theorem dL_law_167 : decode cL_law 167 = .ok (.iadd, 1) := dk_96 (dk_at dksL_law_5 3 rfl rfl)
theorem dL_law_168 : decode cL_law 168 = .ok (.iaload, 1) := dk_46 (dk_at dksL_law_5 4 rfl rfl)
theorem dL_law_169 : decode cL_law 169 = .ok (.aload_n 0, 1) := dk_42 (dk_at dksL_law_5 5 rfl rfl)
theorem dL_law_170 : decode cL_law 170 = .ok (.iload_n 3, 1) := dk_29 (dk_at dksL_law_5 6 rfl rfl)
theorem dL_law_171 : decode cL_law 171 = .ok (.iconst 2, 1) := dk_5 (dk_at dksL_law_5 7 rfl rfl)
theorem dL_law_172 : decode cL_law 172 = .ok (.iadd, 1) := dk_96 (dk_at dksL_law_5 8 rfl rfl)
theorem dL_law_173 : decode cL_law 173 = .ok (.iaload, 1) := dk_46 (dk_at dksL_law_5 9 rfl rfl)
theorem dL_law_174 : decode cL_law 174 = .ok (.invokevirtual 21, 3) := dk_182 0 21 (dk_at dksL_law_5 10 rfl rfl)
theorem dL_law_177 : decode cL_law 177 = .ok (.if_icmp .eq 743, 3) := dk_159 2 231 (dk_at dksL_law_5 13 rfl rfl)
theorem dL_law_180 : decode cL_law 180 = .ok (.iconst 0, 1) := dk_3 (dk_at dksL_law_5 16 rfl rfl)
theorem dL_law_181 : decode cL_law 181 = .ok (.ireturn, 1) := dk_172 (dk_at dksL_law_5 17 rfl rfl)
theorem dL_law_182 : decode cL_law 182 = .ok (.aload_n 1, 1) := dk_43 (dk_at dksL_law_5 18 rfl rfl)
theorem dL_law_183 : decode cL_law 183 = .ok (.aload_n 0, 1) := dk_42 (dk_at dksL_law_5 19 rfl rfl)
theorem dL_law_184 : decode cL_law 184 = .ok (.iload_n 3, 1) := dk_29 (dk_at dksL_law_5 20 rfl rfl)
theorem dL_law_185 : decode cL_law 185 = .ok (.iconst 1, 1) := dk_4 (dk_at dksL_law_5 21 rfl rfl)
theorem dL_law_186 : decode cL_law 186 = .ok (.iadd, 1) := dk_96 (dk_at dksL_law_5 22 rfl rfl)
theorem dL_law_187 : decode cL_law 187 = .ok (.iaload, 1) := dk_46 (dk_at dksL_law_5 23 rfl rfl)
theorem dL_law_188 : decode cL_law 188 = .ok (.aload_n 0, 1) := dk_42 (dk_at dksL_law_6 0 rfl rfl)
theorem dL_law_189 : decode cL_law 189 = .ok (.iload_n 3, 1) := dk_29 (dk_at dksL_law_6 1 rfl rfl)
theorem dL_law_190 : decode cL_law 190 = .ok (.iconst 2, 1) := dk_5 (dk_at dksL_law_6 2 rfl rfl)
theorem dL_law_191 : decode cL_law 191 = .ok (.iadd, 1) := dk_96 (dk_at dksL_law_6 3 rfl rfl)
theorem dL_law_192 : decode cL_law 192 = .ok (.iaload, 1) := dk_46 (dk_at dksL_law_6 4 rfl rfl)
theorem dL_law_193 : decode cL_law 193 = .ok (.aload_n 0, 1) := dk_42 (dk_at dksL_law_6 5 rfl rfl)
theorem dL_law_194 : decode cL_law 194 = .ok (.iload_n 3, 1) := dk_29 (dk_at dksL_law_6 6 rfl rfl)
theorem dL_law_195 : decode cL_law 195 = .ok (.iconst 3, 1) := dk_6 (dk_at dksL_law_6 7 rfl rfl)
theorem dL_law_196 : decode cL_law 196 = .ok (.iadd, 1) := dk_96 (dk_at dksL_law_6 8 rfl rfl)
theorem dL_law_197 : decode cL_law 197 = .ok (.iaload, 1) := dk_46 (dk_at dksL_law_6 9 rfl rfl)
theorem dL_law_198 : decode cL_law 198 = .ok (.aload_n 0, 1) := dk_42 (dk_at dksL_law_6 10 rfl rfl)
theorem dL_law_199 : decode cL_law 199 = .ok (.iload_n 3, 1) := dk_29 (dk_at dksL_law_6 11 rfl rfl)
theorem dL_law_200 : decode cL_law 200 = .ok (.iconst 4, 1) := dk_7 (dk_at dksL_law_6 12 rfl rfl)
theorem dL_law_201 : decode cL_law 201 = .ok (.iadd, 1) := dk_96 (dk_at dksL_law_6 13 rfl rfl)
theorem dL_law_202 : decode cL_law 202 = .ok (.iaload, 1) := dk_46 (dk_at dksL_law_6 14 rfl rfl)
theorem dL_law_203 : decode cL_law 203 = .ok (.i2l, 1) := dk_133 (dk_at dksL_law_6 15 rfl rfl)
theorem dL_law_204 : decode cL_law 204 = .ok (.bipush 32, 2) := dk_16 32 (dk_at dksL_law_6 16 rfl rfl)
theorem dL_law_206 : decode cL_law 206 = .ok (.lshl, 1) := dk_121 (dk_at dksL_law_6 18 rfl rfl)
theorem dL_law_207 : decode cL_law 207 = .ok (.aload_n 0, 1) := dk_42 (dk_at dksL_law_6 19 rfl rfl)
theorem dL_law_208 : decode cL_law 208 = .ok (.iload_n 3, 1) := dk_29 (dk_at dksL_law_6 20 rfl rfl)
theorem dL_law_209 : decode cL_law 209 = .ok (.iconst 5, 1) := dk_8 (dk_at dksL_law_6 21 rfl rfl)
theorem dL_law_210 : decode cL_law 210 = .ok (.iadd, 1) := dk_96 (dk_at dksL_law_6 22 rfl rfl)
theorem dL_law_211 : decode cL_law 211 = .ok (.iaload, 1) := dk_46 (dk_at dksL_law_6 23 rfl rfl)
theorem dL_law_212 : decode cL_law 212 = .ok (.i2l, 1) := dk_133 (dk_at dksL_law_7 0 rfl rfl)
theorem dL_law_213 : decode cL_law 213 = .ok (.ldc2_w 22, 3) := dk_20 0 22 (dk_at dksL_law_7 1 rfl rfl)
theorem dL_law_216 : decode cL_law 216 = .ok (.land, 1) := dk_127 (dk_at dksL_law_7 4 rfl rfl)
theorem dL_law_217 : decode cL_law 217 = .ok (.lor, 1) := dk_129 (dk_at dksL_law_7 5 rfl rfl)
theorem dL_law_218 : decode cL_law 218 = .ok (.invokevirtual 24, 3) := dk_182 0 24 (dk_at dksL_law_7 6 rfl rfl)
theorem dL_law_221 : decode cL_law 221 = .ok (.aload_n 2, 1) := dk_44 (dk_at dksL_law_7 9 rfl rfl)
theorem dL_law_222 : decode cL_law 222 = .ok (.aload_n 0, 1) := dk_42 (dk_at dksL_law_7 10 rfl rfl)
theorem dL_law_223 : decode cL_law 223 = .ok (.iload_n 3, 1) := dk_29 (dk_at dksL_law_7 11 rfl rfl)
theorem dL_law_224 : decode cL_law 224 = .ok (.iconst 1, 1) := dk_4 (dk_at dksL_law_7 12 rfl rfl)
theorem dL_law_225 : decode cL_law 225 = .ok (.iadd, 1) := dk_96 (dk_at dksL_law_7 13 rfl rfl)
theorem dL_law_226 : decode cL_law 226 = .ok (.iaload, 1) := dk_46 (dk_at dksL_law_7 14 rfl rfl)
theorem dL_law_227 : decode cL_law 227 = .ok (.aload_n 0, 1) := dk_42 (dk_at dksL_law_7 15 rfl rfl)
theorem dL_law_228 : decode cL_law 228 = .ok (.iload_n 3, 1) := dk_29 (dk_at dksL_law_7 16 rfl rfl)
theorem dL_law_229 : decode cL_law 229 = .ok (.iconst 2, 1) := dk_5 (dk_at dksL_law_7 17 rfl rfl)
theorem dL_law_230 : decode cL_law 230 = .ok (.iadd, 1) := dk_96 (dk_at dksL_law_7 18 rfl rfl)
theorem dL_law_231 : decode cL_law 231 = .ok (.iaload, 1) := dk_46 (dk_at dksL_law_7 19 rfl rfl)
theorem dL_law_232 : decode cL_law 232 = .ok (.aload_n 0, 1) := dk_42 (dk_at dksL_law_7 20 rfl rfl)
theorem dL_law_233 : decode cL_law 233 = .ok (.iload_n 3, 1) := dk_29 (dk_at dksL_law_7 21 rfl rfl)
theorem dL_law_234 : decode cL_law 234 = .ok (.iconst 3, 1) := dk_6 (dk_at dksL_law_7 22 rfl rfl)
theorem dL_law_235 : decode cL_law 235 = .ok (.iadd, 1) := dk_96 (dk_at dksL_law_7 23 rfl rfl)
theorem dL_law_236 : decode cL_law 236 = .ok (.iaload, 1) := dk_46 (dk_at dksL_law_8 0 rfl rfl)
theorem dL_law_237 : decode cL_law 237 = .ok (.aload_n 0, 1) := dk_42 (dk_at dksL_law_8 1 rfl rfl)
theorem dL_law_238 : decode cL_law 238 = .ok (.iload_n 3, 1) := dk_29 (dk_at dksL_law_8 2 rfl rfl)
theorem dL_law_239 : decode cL_law 239 = .ok (.iconst 4, 1) := dk_7 (dk_at dksL_law_8 3 rfl rfl)
theorem dL_law_240 : decode cL_law 240 = .ok (.iadd, 1) := dk_96 (dk_at dksL_law_8 4 rfl rfl)
theorem dL_law_241 : decode cL_law 241 = .ok (.iaload, 1) := dk_46 (dk_at dksL_law_8 5 rfl rfl)
theorem dL_law_242 : decode cL_law 242 = .ok (.i2l, 1) := dk_133 (dk_at dksL_law_8 6 rfl rfl)
theorem dL_law_243 : decode cL_law 243 = .ok (.bipush 32, 2) := dk_16 32 (dk_at dksL_law_8 7 rfl rfl)
theorem dL_law_245 : decode cL_law 245 = .ok (.lshl, 1) := dk_121 (dk_at dksL_law_8 9 rfl rfl)
theorem dL_law_246 : decode cL_law 246 = .ok (.aload_n 0, 1) := dk_42 (dk_at dksL_law_8 10 rfl rfl)
theorem dL_law_247 : decode cL_law 247 = .ok (.iload_n 3, 1) := dk_29 (dk_at dksL_law_8 11 rfl rfl)
theorem dL_law_248 : decode cL_law 248 = .ok (.iconst 5, 1) := dk_8 (dk_at dksL_law_8 12 rfl rfl)
theorem dL_law_249 : decode cL_law 249 = .ok (.iadd, 1) := dk_96 (dk_at dksL_law_8 13 rfl rfl)
theorem dL_law_250 : decode cL_law 250 = .ok (.iaload, 1) := dk_46 (dk_at dksL_law_8 14 rfl rfl)
theorem dL_law_251 : decode cL_law 251 = .ok (.i2l, 1) := dk_133 (dk_at dksL_law_8 15 rfl rfl)
theorem dL_law_252 : decode cL_law 252 = .ok (.ldc2_w 22, 3) := dk_20 0 22 (dk_at dksL_law_8 16 rfl rfl)
theorem dL_law_255 : decode cL_law 255 = .ok (.land, 1) := dk_127 (dk_at dksL_law_8 19 rfl rfl)
theorem dL_law_256 : decode cL_law 256 = .ok (.lor, 1) := dk_129 (dk_at dksL_law_8 20 rfl rfl)
theorem dL_law_257 : decode cL_law 257 = .ok (.invokevirtual 28, 3) := dk_182 0 28 (dk_at dksL_law_8 21 rfl rfl)
theorem dL_law_260 : decode cL_law 260 = .ok (.if_icmp .eq 660, 3) := dk_159 2 148 (dk_at dksL_law_9 0 rfl rfl)
theorem dL_law_263 : decode cL_law 263 = .ok (.iconst 0, 1) := dk_3 (dk_at dksL_law_9 3 rfl rfl)
theorem dL_law_264 : decode cL_law 264 = .ok (.ireturn, 1) := dk_172 (dk_at dksL_law_9 4 rfl rfl)
theorem dL_law_265 : decode cL_law 265 = .ok (.aload_n 1, 1) := dk_43 (dk_at dksL_law_9 5 rfl rfl)
theorem dL_law_266 : decode cL_law 266 = .ok (.aload_n 0, 1) := dk_42 (dk_at dksL_law_9 6 rfl rfl)
theorem dL_law_267 : decode cL_law 267 = .ok (.iload_n 3, 1) := dk_29 (dk_at dksL_law_9 7 rfl rfl)
theorem dL_law_268 : decode cL_law 268 = .ok (.iconst 1, 1) := dk_4 (dk_at dksL_law_9 8 rfl rfl)
theorem dL_law_269 : decode cL_law 269 = .ok (.iadd, 1) := dk_96 (dk_at dksL_law_9 9 rfl rfl)
theorem dL_law_270 : decode cL_law 270 = .ok (.iaload, 1) := dk_46 (dk_at dksL_law_9 10 rfl rfl)
theorem dL_law_271 : decode cL_law 271 = .ok (.aload_n 0, 1) := dk_42 (dk_at dksL_law_9 11 rfl rfl)
theorem dL_law_272 : decode cL_law 272 = .ok (.iload_n 3, 1) := dk_29 (dk_at dksL_law_9 12 rfl rfl)
theorem dL_law_273 : decode cL_law 273 = .ok (.iconst 2, 1) := dk_5 (dk_at dksL_law_9 13 rfl rfl)
theorem dL_law_274 : decode cL_law 274 = .ok (.iadd, 1) := dk_96 (dk_at dksL_law_9 14 rfl rfl)
theorem dL_law_275 : decode cL_law 275 = .ok (.iaload, 1) := dk_46 (dk_at dksL_law_9 15 rfl rfl)
theorem dL_law_276 : decode cL_law 276 = .ok (.aload_n 0, 1) := dk_42 (dk_at dksL_law_9 16 rfl rfl)
theorem dL_law_277 : decode cL_law 277 = .ok (.iload_n 3, 1) := dk_29 (dk_at dksL_law_9 17 rfl rfl)
theorem dL_law_278 : decode cL_law 278 = .ok (.iconst 3, 1) := dk_6 (dk_at dksL_law_9 18 rfl rfl)
theorem dL_law_279 : decode cL_law 279 = .ok (.iadd, 1) := dk_96 (dk_at dksL_law_9 19 rfl rfl)
theorem dL_law_280 : decode cL_law 280 = .ok (.iaload, 1) := dk_46 (dk_at dksL_law_9 20 rfl rfl)
theorem dL_law_281 : decode cL_law 281 = .ok (.aload_n 0, 1) := dk_42 (dk_at dksL_law_9 21 rfl rfl)
theorem dL_law_282 : decode cL_law 282 = .ok (.iload_n 3, 1) := dk_29 (dk_at dksL_law_9 22 rfl rfl)
theorem dL_law_283 : decode cL_law 283 = .ok (.iconst 4, 1) := dk_7 (dk_at dksL_law_9 23 rfl rfl)
theorem dL_law_284 : decode cL_law 284 = .ok (.iadd, 1) := dk_96 (dk_at dksL_law_10 0 rfl rfl)
theorem dL_law_285 : decode cL_law 285 = .ok (.iaload, 1) := dk_46 (dk_at dksL_law_10 1 rfl rfl)
theorem dL_law_286 : decode cL_law 286 = .ok (.aload_n 0, 1) := dk_42 (dk_at dksL_law_10 2 rfl rfl)
theorem dL_law_287 : decode cL_law 287 = .ok (.iload_n 3, 1) := dk_29 (dk_at dksL_law_10 3 rfl rfl)
theorem dL_law_288 : decode cL_law 288 = .ok (.iconst 5, 1) := dk_8 (dk_at dksL_law_10 4 rfl rfl)
theorem dL_law_289 : decode cL_law 289 = .ok (.iadd, 1) := dk_96 (dk_at dksL_law_10 5 rfl rfl)
theorem dL_law_290 : decode cL_law 290 = .ok (.iaload, 1) := dk_46 (dk_at dksL_law_10 6 rfl rfl)
theorem dL_law_291 : decode cL_law 291 = .ok (.i2l, 1) := dk_133 (dk_at dksL_law_10 7 rfl rfl)
theorem dL_law_292 : decode cL_law 292 = .ok (.bipush 32, 2) := dk_16 32 (dk_at dksL_law_10 8 rfl rfl)
theorem dL_law_294 : decode cL_law 294 = .ok (.lshl, 1) := dk_121 (dk_at dksL_law_10 10 rfl rfl)
theorem dL_law_295 : decode cL_law 295 = .ok (.aload_n 0, 1) := dk_42 (dk_at dksL_law_10 11 rfl rfl)
theorem dL_law_296 : decode cL_law 296 = .ok (.iload_n 3, 1) := dk_29 (dk_at dksL_law_10 12 rfl rfl)
theorem dL_law_297 : decode cL_law 297 = .ok (.bipush 6, 2) := dk_16 6 (dk_at dksL_law_10 13 rfl rfl)
theorem dL_law_299 : decode cL_law 299 = .ok (.iadd, 1) := dk_96 (dk_at dksL_law_10 15 rfl rfl)
theorem dL_law_300 : decode cL_law 300 = .ok (.iaload, 1) := dk_46 (dk_at dksL_law_10 16 rfl rfl)
theorem dL_law_301 : decode cL_law 301 = .ok (.i2l, 1) := dk_133 (dk_at dksL_law_10 17 rfl rfl)
theorem dL_law_302 : decode cL_law 302 = .ok (.ldc2_w 22, 3) := dk_20 0 22 (dk_at dksL_law_10 18 rfl rfl)
theorem dL_law_305 : decode cL_law 305 = .ok (.land, 1) := dk_127 (dk_at dksL_law_10 21 rfl rfl)
theorem dL_law_306 : decode cL_law 306 = .ok (.lor, 1) := dk_129 (dk_at dksL_law_10 22 rfl rfl)
theorem dL_law_307 : decode cL_law 307 = .ok (.invokevirtual 29, 3) := dk_182 0 29 (dk_at dksL_law_11 0 rfl rfl)
theorem dL_law_310 : decode cL_law 310 = .ok (.aload_n 2, 1) := dk_44 (dk_at dksL_law_11 3 rfl rfl)
theorem dL_law_311 : decode cL_law 311 = .ok (.aload_n 0, 1) := dk_42 (dk_at dksL_law_11 4 rfl rfl)
theorem dL_law_312 : decode cL_law 312 = .ok (.iload_n 3, 1) := dk_29 (dk_at dksL_law_11 5 rfl rfl)
theorem dL_law_313 : decode cL_law 313 = .ok (.iconst 1, 1) := dk_4 (dk_at dksL_law_11 6 rfl rfl)
theorem dL_law_314 : decode cL_law 314 = .ok (.iadd, 1) := dk_96 (dk_at dksL_law_11 7 rfl rfl)
theorem dL_law_315 : decode cL_law 315 = .ok (.iaload, 1) := dk_46 (dk_at dksL_law_11 8 rfl rfl)
theorem dL_law_316 : decode cL_law 316 = .ok (.aload_n 0, 1) := dk_42 (dk_at dksL_law_11 9 rfl rfl)
theorem dL_law_317 : decode cL_law 317 = .ok (.iload_n 3, 1) := dk_29 (dk_at dksL_law_11 10 rfl rfl)
theorem dL_law_318 : decode cL_law 318 = .ok (.iconst 2, 1) := dk_5 (dk_at dksL_law_11 11 rfl rfl)
theorem dL_law_319 : decode cL_law 319 = .ok (.iadd, 1) := dk_96 (dk_at dksL_law_11 12 rfl rfl)
theorem dL_law_320 : decode cL_law 320 = .ok (.iaload, 1) := dk_46 (dk_at dksL_law_11 13 rfl rfl)
theorem dL_law_321 : decode cL_law 321 = .ok (.aload_n 0, 1) := dk_42 (dk_at dksL_law_11 14 rfl rfl)
theorem dL_law_322 : decode cL_law 322 = .ok (.iload_n 3, 1) := dk_29 (dk_at dksL_law_11 15 rfl rfl)
theorem dL_law_323 : decode cL_law 323 = .ok (.iconst 3, 1) := dk_6 (dk_at dksL_law_11 16 rfl rfl)
theorem dL_law_324 : decode cL_law 324 = .ok (.iadd, 1) := dk_96 (dk_at dksL_law_11 17 rfl rfl)
theorem dL_law_325 : decode cL_law 325 = .ok (.iaload, 1) := dk_46 (dk_at dksL_law_11 18 rfl rfl)
theorem dL_law_326 : decode cL_law 326 = .ok (.aload_n 0, 1) := dk_42 (dk_at dksL_law_11 19 rfl rfl)
theorem dL_law_327 : decode cL_law 327 = .ok (.iload_n 3, 1) := dk_29 (dk_at dksL_law_11 20 rfl rfl)
theorem dL_law_328 : decode cL_law 328 = .ok (.iconst 4, 1) := dk_7 (dk_at dksL_law_11 21 rfl rfl)
theorem dL_law_329 : decode cL_law 329 = .ok (.iadd, 1) := dk_96 (dk_at dksL_law_11 22 rfl rfl)
theorem dL_law_330 : decode cL_law 330 = .ok (.iaload, 1) := dk_46 (dk_at dksL_law_11 23 rfl rfl)
theorem dL_law_331 : decode cL_law 331 = .ok (.aload_n 0, 1) := dk_42 (dk_at dksL_law_12 0 rfl rfl)
theorem dL_law_332 : decode cL_law 332 = .ok (.iload_n 3, 1) := dk_29 (dk_at dksL_law_12 1 rfl rfl)
theorem dL_law_333 : decode cL_law 333 = .ok (.iconst 5, 1) := dk_8 (dk_at dksL_law_12 2 rfl rfl)
theorem dL_law_334 : decode cL_law 334 = .ok (.iadd, 1) := dk_96 (dk_at dksL_law_12 3 rfl rfl)
theorem dL_law_335 : decode cL_law 335 = .ok (.iaload, 1) := dk_46 (dk_at dksL_law_12 4 rfl rfl)
theorem dL_law_336 : decode cL_law 336 = .ok (.i2l, 1) := dk_133 (dk_at dksL_law_12 5 rfl rfl)
theorem dL_law_337 : decode cL_law 337 = .ok (.bipush 32, 2) := dk_16 32 (dk_at dksL_law_12 6 rfl rfl)
theorem dL_law_339 : decode cL_law 339 = .ok (.lshl, 1) := dk_121 (dk_at dksL_law_12 8 rfl rfl)
theorem dL_law_340 : decode cL_law 340 = .ok (.aload_n 0, 1) := dk_42 (dk_at dksL_law_12 9 rfl rfl)
theorem dL_law_341 : decode cL_law 341 = .ok (.iload_n 3, 1) := dk_29 (dk_at dksL_law_12 10 rfl rfl)
theorem dL_law_342 : decode cL_law 342 = .ok (.bipush 6, 2) := dk_16 6 (dk_at dksL_law_12 11 rfl rfl)
theorem dL_law_344 : decode cL_law 344 = .ok (.iadd, 1) := dk_96 (dk_at dksL_law_12 13 rfl rfl)
theorem dL_law_345 : decode cL_law 345 = .ok (.iaload, 1) := dk_46 (dk_at dksL_law_12 14 rfl rfl)
theorem dL_law_346 : decode cL_law 346 = .ok (.i2l, 1) := dk_133 (dk_at dksL_law_12 15 rfl rfl)
theorem dL_law_347 : decode cL_law 347 = .ok (.ldc2_w 22, 3) := dk_20 0 22 (dk_at dksL_law_12 16 rfl rfl)
theorem dL_law_350 : decode cL_law 350 = .ok (.land, 1) := dk_127 (dk_at dksL_law_12 19 rfl rfl)
theorem dL_law_351 : decode cL_law 351 = .ok (.lor, 1) := dk_129 (dk_at dksL_law_12 20 rfl rfl)
theorem dL_law_352 : decode cL_law 352 = .ok (.invokevirtual 33, 3) := dk_182 0 33 (dk_at dksL_law_12 21 rfl rfl)
theorem dL_law_355 : decode cL_law 355 = .ok (.if_icmp .eq 565, 3) := dk_159 2 53 (dk_at dksL_law_13 0 rfl rfl)
theorem dL_law_358 : decode cL_law 358 = .ok (.iconst 0, 1) := dk_3 (dk_at dksL_law_13 3 rfl rfl)
theorem dL_law_359 : decode cL_law 359 = .ok (.ireturn, 1) := dk_172 (dk_at dksL_law_13 4 rfl rfl)
theorem dL_law_360 : decode cL_law 360 = .ok (.aload_n 1, 1) := dk_43 (dk_at dksL_law_13 5 rfl rfl)
theorem dL_law_361 : decode cL_law 361 = .ok (.aload_n 0, 1) := dk_42 (dk_at dksL_law_13 6 rfl rfl)
theorem dL_law_362 : decode cL_law 362 = .ok (.iload_n 3, 1) := dk_29 (dk_at dksL_law_13 7 rfl rfl)
theorem dL_law_363 : decode cL_law 363 = .ok (.iconst 1, 1) := dk_4 (dk_at dksL_law_13 8 rfl rfl)
theorem dL_law_364 : decode cL_law 364 = .ok (.iadd, 1) := dk_96 (dk_at dksL_law_13 9 rfl rfl)
theorem dL_law_365 : decode cL_law 365 = .ok (.iaload, 1) := dk_46 (dk_at dksL_law_13 10 rfl rfl)
theorem dL_law_366 : decode cL_law 366 = .ok (.aload_n 0, 1) := dk_42 (dk_at dksL_law_13 11 rfl rfl)
theorem dL_law_367 : decode cL_law 367 = .ok (.iload_n 3, 1) := dk_29 (dk_at dksL_law_13 12 rfl rfl)
theorem dL_law_368 : decode cL_law 368 = .ok (.iconst 2, 1) := dk_5 (dk_at dksL_law_13 13 rfl rfl)
theorem dL_law_369 : decode cL_law 369 = .ok (.iadd, 1) := dk_96 (dk_at dksL_law_13 14 rfl rfl)
theorem dL_law_370 : decode cL_law 370 = .ok (.iaload, 1) := dk_46 (dk_at dksL_law_13 15 rfl rfl)
theorem dL_law_371 : decode cL_law 371 = .ok (.aload_n 0, 1) := dk_42 (dk_at dksL_law_13 16 rfl rfl)
theorem dL_law_372 : decode cL_law 372 = .ok (.iload_n 3, 1) := dk_29 (dk_at dksL_law_13 17 rfl rfl)
theorem dL_law_373 : decode cL_law 373 = .ok (.iconst 3, 1) := dk_6 (dk_at dksL_law_13 18 rfl rfl)
theorem dL_law_374 : decode cL_law 374 = .ok (.iadd, 1) := dk_96 (dk_at dksL_law_13 19 rfl rfl)
theorem dL_law_375 : decode cL_law 375 = .ok (.iaload, 1) := dk_46 (dk_at dksL_law_13 20 rfl rfl)
theorem dL_law_376 : decode cL_law 376 = .ok (.aload_n 0, 1) := dk_42 (dk_at dksL_law_13 21 rfl rfl)
theorem dL_law_377 : decode cL_law 377 = .ok (.iload_n 3, 1) := dk_29 (dk_at dksL_law_13 22 rfl rfl)
theorem dL_law_378 : decode cL_law 378 = .ok (.iconst 4, 1) := dk_7 (dk_at dksL_law_13 23 rfl rfl)
theorem dL_law_379 : decode cL_law 379 = .ok (.iadd, 1) := dk_96 (dk_at dksL_law_14 0 rfl rfl)
theorem dL_law_380 : decode cL_law 380 = .ok (.iaload, 1) := dk_46 (dk_at dksL_law_14 1 rfl rfl)
theorem dL_law_381 : decode cL_law 381 = .ok (.aload_n 0, 1) := dk_42 (dk_at dksL_law_14 2 rfl rfl)
theorem dL_law_382 : decode cL_law 382 = .ok (.iload_n 3, 1) := dk_29 (dk_at dksL_law_14 3 rfl rfl)
theorem dL_law_383 : decode cL_law 383 = .ok (.iconst 5, 1) := dk_8 (dk_at dksL_law_14 4 rfl rfl)
theorem dL_law_384 : decode cL_law 384 = .ok (.iadd, 1) := dk_96 (dk_at dksL_law_14 5 rfl rfl)
theorem dL_law_385 : decode cL_law 385 = .ok (.iaload, 1) := dk_46 (dk_at dksL_law_14 6 rfl rfl)
theorem dL_law_386 : decode cL_law 386 = .ok (.invokevirtual 34, 3) := dk_182 0 34 (dk_at dksL_law_14 7 rfl rfl)
theorem dL_law_389 : decode cL_law 389 = .ok (.aload_n 2, 1) := dk_44 (dk_at dksL_law_14 10 rfl rfl)
theorem dL_law_390 : decode cL_law 390 = .ok (.aload_n 0, 1) := dk_42 (dk_at dksL_law_14 11 rfl rfl)
theorem dL_law_391 : decode cL_law 391 = .ok (.iload_n 3, 1) := dk_29 (dk_at dksL_law_14 12 rfl rfl)
theorem dL_law_392 : decode cL_law 392 = .ok (.iconst 1, 1) := dk_4 (dk_at dksL_law_14 13 rfl rfl)
theorem dL_law_393 : decode cL_law 393 = .ok (.iadd, 1) := dk_96 (dk_at dksL_law_14 14 rfl rfl)
theorem dL_law_394 : decode cL_law 394 = .ok (.iaload, 1) := dk_46 (dk_at dksL_law_14 15 rfl rfl)
theorem dL_law_395 : decode cL_law 395 = .ok (.aload_n 0, 1) := dk_42 (dk_at dksL_law_14 16 rfl rfl)
theorem dL_law_396 : decode cL_law 396 = .ok (.iload_n 3, 1) := dk_29 (dk_at dksL_law_14 17 rfl rfl)
theorem dL_law_397 : decode cL_law 397 = .ok (.iconst 2, 1) := dk_5 (dk_at dksL_law_14 18 rfl rfl)
theorem dL_law_398 : decode cL_law 398 = .ok (.iadd, 1) := dk_96 (dk_at dksL_law_14 19 rfl rfl)
theorem dL_law_399 : decode cL_law 399 = .ok (.iaload, 1) := dk_46 (dk_at dksL_law_14 20 rfl rfl)
theorem dL_law_400 : decode cL_law 400 = .ok (.aload_n 0, 1) := dk_42 (dk_at dksL_law_14 21 rfl rfl)
theorem dL_law_401 : decode cL_law 401 = .ok (.iload_n 3, 1) := dk_29 (dk_at dksL_law_14 22 rfl rfl)
theorem dL_law_402 : decode cL_law 402 = .ok (.iconst 3, 1) := dk_6 (dk_at dksL_law_14 23 rfl rfl)
theorem dL_law_403 : decode cL_law 403 = .ok (.iadd, 1) := dk_96 (dk_at dksL_law_15 0 rfl rfl)
theorem dL_law_404 : decode cL_law 404 = .ok (.iaload, 1) := dk_46 (dk_at dksL_law_15 1 rfl rfl)
theorem dL_law_405 : decode cL_law 405 = .ok (.aload_n 0, 1) := dk_42 (dk_at dksL_law_15 2 rfl rfl)
theorem dL_law_406 : decode cL_law 406 = .ok (.iload_n 3, 1) := dk_29 (dk_at dksL_law_15 3 rfl rfl)
theorem dL_law_407 : decode cL_law 407 = .ok (.iconst 4, 1) := dk_7 (dk_at dksL_law_15 4 rfl rfl)
theorem dL_law_408 : decode cL_law 408 = .ok (.iadd, 1) := dk_96 (dk_at dksL_law_15 5 rfl rfl)
theorem dL_law_409 : decode cL_law 409 = .ok (.iaload, 1) := dk_46 (dk_at dksL_law_15 6 rfl rfl)
theorem dL_law_410 : decode cL_law 410 = .ok (.aload_n 0, 1) := dk_42 (dk_at dksL_law_15 7 rfl rfl)
theorem dL_law_411 : decode cL_law 411 = .ok (.iload_n 3, 1) := dk_29 (dk_at dksL_law_15 8 rfl rfl)
theorem dL_law_412 : decode cL_law 412 = .ok (.iconst 5, 1) := dk_8 (dk_at dksL_law_15 9 rfl rfl)
theorem dL_law_413 : decode cL_law 413 = .ok (.iadd, 1) := dk_96 (dk_at dksL_law_15 10 rfl rfl)
theorem dL_law_414 : decode cL_law 414 = .ok (.iaload, 1) := dk_46 (dk_at dksL_law_15 11 rfl rfl)
theorem dL_law_415 : decode cL_law 415 = .ok (.invokevirtual 38, 3) := dk_182 0 38 (dk_at dksL_law_15 12 rfl rfl)
theorem dL_law_418 : decode cL_law 418 = .ok (.if_icmp .eq 502, 3) := dk_159 1 246 (dk_at dksL_law_15 15 rfl rfl)
theorem dL_law_421 : decode cL_law 421 = .ok (.iconst 0, 1) := dk_3 (dk_at dksL_law_15 18 rfl rfl)
theorem dL_law_422 : decode cL_law 422 = .ok (.ireturn, 1) := dk_172 (dk_at dksL_law_15 19 rfl rfl)
theorem dL_law_423 : decode cL_law 423 = .ok (.aload_n 1, 1) := dk_43 (dk_at dksL_law_15 20 rfl rfl)
theorem dL_law_424 : decode cL_law 424 = .ok (.aload_n 0, 1) := dk_42 (dk_at dksL_law_15 21 rfl rfl)
theorem dL_law_425 : decode cL_law 425 = .ok (.iload_n 3, 1) := dk_29 (dk_at dksL_law_15 22 rfl rfl)
theorem dL_law_426 : decode cL_law 426 = .ok (.iconst 1, 1) := dk_4 (dk_at dksL_law_15 23 rfl rfl)
theorem dL_law_427 : decode cL_law 427 = .ok (.iadd, 1) := dk_96 (dk_at dksL_law_16 0 rfl rfl)
theorem dL_law_428 : decode cL_law 428 = .ok (.iaload, 1) := dk_46 (dk_at dksL_law_16 1 rfl rfl)
theorem dL_law_429 : decode cL_law 429 = .ok (.aload_n 0, 1) := dk_42 (dk_at dksL_law_16 2 rfl rfl)
theorem dL_law_430 : decode cL_law 430 = .ok (.iload_n 3, 1) := dk_29 (dk_at dksL_law_16 3 rfl rfl)
theorem dL_law_431 : decode cL_law 431 = .ok (.iconst 2, 1) := dk_5 (dk_at dksL_law_16 4 rfl rfl)
theorem dL_law_432 : decode cL_law 432 = .ok (.iadd, 1) := dk_96 (dk_at dksL_law_16 5 rfl rfl)
theorem dL_law_433 : decode cL_law 433 = .ok (.iaload, 1) := dk_46 (dk_at dksL_law_16 6 rfl rfl)
theorem dL_law_434 : decode cL_law 434 = .ok (.aload_n 0, 1) := dk_42 (dk_at dksL_law_16 7 rfl rfl)
theorem dL_law_435 : decode cL_law 435 = .ok (.iload_n 3, 1) := dk_29 (dk_at dksL_law_16 8 rfl rfl)
theorem dL_law_436 : decode cL_law 436 = .ok (.iconst 3, 1) := dk_6 (dk_at dksL_law_16 9 rfl rfl)
theorem dL_law_437 : decode cL_law 437 = .ok (.iadd, 1) := dk_96 (dk_at dksL_law_16 10 rfl rfl)
theorem dL_law_438 : decode cL_law 438 = .ok (.iaload, 1) := dk_46 (dk_at dksL_law_16 11 rfl rfl)
theorem dL_law_439 : decode cL_law 439 = .ok (.ifCond .eq 7, 3) := dk_153 0 7 (dk_at dksL_law_16 12 rfl rfl)
theorem dL_law_442 : decode cL_law 442 = .ok (.iconst 1, 1) := dk_4 (dk_at dksL_law_16 15 rfl rfl)
theorem dL_law_443 : decode cL_law 443 = .ok (.goto 4, 3) := dk_167 0 4 (dk_at dksL_law_16 16 rfl rfl)
theorem dL_law_446 : decode cL_law 446 = .ok (.iconst 0, 1) := dk_3 (dk_at dksL_law_16 19 rfl rfl)
theorem dL_law_447 : decode cL_law 447 = .ok (.invokevirtual 39, 3) := dk_182 0 39 (dk_at dksL_law_16 20 rfl rfl)
theorem dL_law_450 : decode cL_law 450 = .ok (.aload_n 2, 1) := dk_44 (dk_at dksL_law_16 23 rfl rfl)
theorem dL_law_451 : decode cL_law 451 = .ok (.aload_n 0, 1) := dk_42 (dk_at dksL_law_17 0 rfl rfl)
theorem dL_law_452 : decode cL_law 452 = .ok (.iload_n 3, 1) := dk_29 (dk_at dksL_law_17 1 rfl rfl)
theorem dL_law_453 : decode cL_law 453 = .ok (.iconst 1, 1) := dk_4 (dk_at dksL_law_17 2 rfl rfl)
theorem dL_law_454 : decode cL_law 454 = .ok (.iadd, 1) := dk_96 (dk_at dksL_law_17 3 rfl rfl)
theorem dL_law_455 : decode cL_law 455 = .ok (.iaload, 1) := dk_46 (dk_at dksL_law_17 4 rfl rfl)
theorem dL_law_456 : decode cL_law 456 = .ok (.aload_n 0, 1) := dk_42 (dk_at dksL_law_17 5 rfl rfl)
theorem dL_law_457 : decode cL_law 457 = .ok (.iload_n 3, 1) := dk_29 (dk_at dksL_law_17 6 rfl rfl)
theorem dL_law_458 : decode cL_law 458 = .ok (.iconst 2, 1) := dk_5 (dk_at dksL_law_17 7 rfl rfl)
theorem dL_law_459 : decode cL_law 459 = .ok (.iadd, 1) := dk_96 (dk_at dksL_law_17 8 rfl rfl)
theorem dL_law_460 : decode cL_law 460 = .ok (.iaload, 1) := dk_46 (dk_at dksL_law_17 9 rfl rfl)
theorem dL_law_461 : decode cL_law 461 = .ok (.aload_n 0, 1) := dk_42 (dk_at dksL_law_17 10 rfl rfl)
theorem dL_law_462 : decode cL_law 462 = .ok (.iload_n 3, 1) := dk_29 (dk_at dksL_law_17 11 rfl rfl)
theorem dL_law_463 : decode cL_law 463 = .ok (.iconst 3, 1) := dk_6 (dk_at dksL_law_17 12 rfl rfl)
theorem dL_law_464 : decode cL_law 464 = .ok (.iadd, 1) := dk_96 (dk_at dksL_law_17 13 rfl rfl)
theorem dL_law_465 : decode cL_law 465 = .ok (.iaload, 1) := dk_46 (dk_at dksL_law_17 14 rfl rfl)
theorem dL_law_466 : decode cL_law 466 = .ok (.ifCond .eq 7, 3) := dk_153 0 7 (dk_at dksL_law_17 15 rfl rfl)
theorem dL_law_469 : decode cL_law 469 = .ok (.iconst 1, 1) := dk_4 (dk_at dksL_law_17 18 rfl rfl)
theorem dL_law_470 : decode cL_law 470 = .ok (.goto 4, 3) := dk_167 0 4 (dk_at dksL_law_17 19 rfl rfl)
theorem dL_law_473 : decode cL_law 473 = .ok (.iconst 0, 1) := dk_3 (dk_at dksL_law_17 22 rfl rfl)
theorem dL_law_474 : decode cL_law 474 = .ok (.invokevirtual 43, 3) := dk_182 0 43 (dk_at dksL_law_18 0 rfl rfl)
theorem dL_law_477 : decode cL_law 477 = .ok (.if_icmp .eq 443, 3) := dk_159 1 187 (dk_at dksL_law_18 3 rfl rfl)
theorem dL_law_480 : decode cL_law 480 = .ok (.iconst 0, 1) := dk_3 (dk_at dksL_law_18 6 rfl rfl)
theorem dL_law_481 : decode cL_law 481 = .ok (.ireturn, 1) := dk_172 (dk_at dksL_law_18 7 rfl rfl)
theorem dL_law_482 : decode cL_law 482 = .ok (.aload_n 1, 1) := dk_43 (dk_at dksL_law_18 8 rfl rfl)
theorem dL_law_483 : decode cL_law 483 = .ok (.aload_n 0, 1) := dk_42 (dk_at dksL_law_18 9 rfl rfl)
theorem dL_law_484 : decode cL_law 484 = .ok (.iload_n 3, 1) := dk_29 (dk_at dksL_law_18 10 rfl rfl)
theorem dL_law_485 : decode cL_law 485 = .ok (.iconst 1, 1) := dk_4 (dk_at dksL_law_18 11 rfl rfl)
theorem dL_law_486 : decode cL_law 486 = .ok (.iadd, 1) := dk_96 (dk_at dksL_law_18 12 rfl rfl)
theorem dL_law_487 : decode cL_law 487 = .ok (.iaload, 1) := dk_46 (dk_at dksL_law_18 13 rfl rfl)
theorem dL_law_488 : decode cL_law 488 = .ok (.aload_n 0, 1) := dk_42 (dk_at dksL_law_18 14 rfl rfl)
theorem dL_law_489 : decode cL_law 489 = .ok (.iload_n 3, 1) := dk_29 (dk_at dksL_law_18 15 rfl rfl)
theorem dL_law_490 : decode cL_law 490 = .ok (.iconst 2, 1) := dk_5 (dk_at dksL_law_18 16 rfl rfl)
theorem dL_law_491 : decode cL_law 491 = .ok (.iadd, 1) := dk_96 (dk_at dksL_law_18 17 rfl rfl)
theorem dL_law_492 : decode cL_law 492 = .ok (.iaload, 1) := dk_46 (dk_at dksL_law_18 18 rfl rfl)
theorem dL_law_493 : decode cL_law 493 = .ok (.aload_n 0, 1) := dk_42 (dk_at dksL_law_18 19 rfl rfl)
theorem dL_law_494 : decode cL_law 494 = .ok (.iload_n 3, 1) := dk_29 (dk_at dksL_law_18 20 rfl rfl)
theorem dL_law_495 : decode cL_law 495 = .ok (.iconst 3, 1) := dk_6 (dk_at dksL_law_18 21 rfl rfl)
theorem dL_law_496 : decode cL_law 496 = .ok (.iadd, 1) := dk_96 (dk_at dksL_law_18 22 rfl rfl)
theorem dL_law_497 : decode cL_law 497 = .ok (.iaload, 1) := dk_46 (dk_at dksL_law_18 23 rfl rfl)
theorem dL_law_498 : decode cL_law 498 = .ok (.aload_n 0, 1) := dk_42 (dk_at dksL_law_19 0 rfl rfl)
theorem dL_law_499 : decode cL_law 499 = .ok (.iload_n 3, 1) := dk_29 (dk_at dksL_law_19 1 rfl rfl)
theorem dL_law_500 : decode cL_law 500 = .ok (.iconst 4, 1) := dk_7 (dk_at dksL_law_19 2 rfl rfl)
theorem dL_law_501 : decode cL_law 501 = .ok (.iadd, 1) := dk_96 (dk_at dksL_law_19 3 rfl rfl)
theorem dL_law_502 : decode cL_law 502 = .ok (.iaload, 1) := dk_46 (dk_at dksL_law_19 4 rfl rfl)
theorem dL_law_503 : decode cL_law 503 = .ok (.aload_n 0, 1) := dk_42 (dk_at dksL_law_19 5 rfl rfl)
theorem dL_law_504 : decode cL_law 504 = .ok (.iload_n 3, 1) := dk_29 (dk_at dksL_law_19 6 rfl rfl)
theorem dL_law_505 : decode cL_law 505 = .ok (.iconst 5, 1) := dk_8 (dk_at dksL_law_19 7 rfl rfl)
theorem dL_law_506 : decode cL_law 506 = .ok (.iadd, 1) := dk_96 (dk_at dksL_law_19 8 rfl rfl)
theorem dL_law_507 : decode cL_law 507 = .ok (.iaload, 1) := dk_46 (dk_at dksL_law_19 9 rfl rfl)
theorem dL_law_508 : decode cL_law 508 = .ok (.aload_n 0, 1) := dk_42 (dk_at dksL_law_19 10 rfl rfl)
theorem dL_law_509 : decode cL_law 509 = .ok (.iload_n 3, 1) := dk_29 (dk_at dksL_law_19 11 rfl rfl)
theorem dL_law_510 : decode cL_law 510 = .ok (.bipush 6, 2) := dk_16 6 (dk_at dksL_law_19 12 rfl rfl)
theorem dL_law_512 : decode cL_law 512 = .ok (.iadd, 1) := dk_96 (dk_at dksL_law_19 14 rfl rfl)
theorem dL_law_513 : decode cL_law 513 = .ok (.iaload, 1) := dk_46 (dk_at dksL_law_19 15 rfl rfl)
theorem dL_law_514 : decode cL_law 514 = .ok (.aload_n 0, 1) := dk_42 (dk_at dksL_law_19 16 rfl rfl)
theorem dL_law_515 : decode cL_law 515 = .ok (.iload_n 3, 1) := dk_29 (dk_at dksL_law_19 17 rfl rfl)
theorem dL_law_516 : decode cL_law 516 = .ok (.bipush 7, 2) := dk_16 7 (dk_at dksL_law_19 18 rfl rfl)
theorem dL_law_518 : decode cL_law 518 = .ok (.iadd, 1) := dk_96 (dk_at dksL_law_19 20 rfl rfl)
theorem dL_law_519 : decode cL_law 519 = .ok (.iaload, 1) := dk_46 (dk_at dksL_law_19 21 rfl rfl)
theorem dL_law_520 : decode cL_law 520 = .ok (.invokevirtual 44, 3) := dk_182 0 44 (dk_at dksL_law_20 0 rfl rfl)
theorem dL_law_523 : decode cL_law 523 = .ok (.aload_n 2, 1) := dk_44 (dk_at dksL_law_20 3 rfl rfl)
theorem dL_law_524 : decode cL_law 524 = .ok (.aload_n 0, 1) := dk_42 (dk_at dksL_law_20 4 rfl rfl)
theorem dL_law_525 : decode cL_law 525 = .ok (.iload_n 3, 1) := dk_29 (dk_at dksL_law_20 5 rfl rfl)
theorem dL_law_526 : decode cL_law 526 = .ok (.iconst 1, 1) := dk_4 (dk_at dksL_law_20 6 rfl rfl)
theorem dL_law_527 : decode cL_law 527 = .ok (.iadd, 1) := dk_96 (dk_at dksL_law_20 7 rfl rfl)
theorem dL_law_528 : decode cL_law 528 = .ok (.iaload, 1) := dk_46 (dk_at dksL_law_20 8 rfl rfl)
theorem dL_law_529 : decode cL_law 529 = .ok (.aload_n 0, 1) := dk_42 (dk_at dksL_law_20 9 rfl rfl)
theorem dL_law_530 : decode cL_law 530 = .ok (.iload_n 3, 1) := dk_29 (dk_at dksL_law_20 10 rfl rfl)
theorem dL_law_531 : decode cL_law 531 = .ok (.iconst 2, 1) := dk_5 (dk_at dksL_law_20 11 rfl rfl)
theorem dL_law_532 : decode cL_law 532 = .ok (.iadd, 1) := dk_96 (dk_at dksL_law_20 12 rfl rfl)
theorem dL_law_533 : decode cL_law 533 = .ok (.iaload, 1) := dk_46 (dk_at dksL_law_20 13 rfl rfl)
theorem dL_law_534 : decode cL_law 534 = .ok (.aload_n 0, 1) := dk_42 (dk_at dksL_law_20 14 rfl rfl)
theorem dL_law_535 : decode cL_law 535 = .ok (.iload_n 3, 1) := dk_29 (dk_at dksL_law_20 15 rfl rfl)
theorem dL_law_536 : decode cL_law 536 = .ok (.iconst 3, 1) := dk_6 (dk_at dksL_law_20 16 rfl rfl)
theorem dL_law_537 : decode cL_law 537 = .ok (.iadd, 1) := dk_96 (dk_at dksL_law_20 17 rfl rfl)
theorem dL_law_538 : decode cL_law 538 = .ok (.iaload, 1) := dk_46 (dk_at dksL_law_20 18 rfl rfl)
theorem dL_law_539 : decode cL_law 539 = .ok (.aload_n 0, 1) := dk_42 (dk_at dksL_law_20 19 rfl rfl)
theorem dL_law_540 : decode cL_law 540 = .ok (.iload_n 3, 1) := dk_29 (dk_at dksL_law_20 20 rfl rfl)
theorem dL_law_541 : decode cL_law 541 = .ok (.iconst 4, 1) := dk_7 (dk_at dksL_law_20 21 rfl rfl)
theorem dL_law_542 : decode cL_law 542 = .ok (.iadd, 1) := dk_96 (dk_at dksL_law_20 22 rfl rfl)
theorem dL_law_543 : decode cL_law 543 = .ok (.iaload, 1) := dk_46 (dk_at dksL_law_20 23 rfl rfl)
theorem dL_law_544 : decode cL_law 544 = .ok (.aload_n 0, 1) := dk_42 (dk_at dksL_law_21 0 rfl rfl)
theorem dL_law_545 : decode cL_law 545 = .ok (.iload_n 3, 1) := dk_29 (dk_at dksL_law_21 1 rfl rfl)
theorem dL_law_546 : decode cL_law 546 = .ok (.iconst 5, 1) := dk_8 (dk_at dksL_law_21 2 rfl rfl)
theorem dL_law_547 : decode cL_law 547 = .ok (.iadd, 1) := dk_96 (dk_at dksL_law_21 3 rfl rfl)
theorem dL_law_548 : decode cL_law 548 = .ok (.iaload, 1) := dk_46 (dk_at dksL_law_21 4 rfl rfl)
theorem dL_law_549 : decode cL_law 549 = .ok (.aload_n 0, 1) := dk_42 (dk_at dksL_law_21 5 rfl rfl)
theorem dL_law_550 : decode cL_law 550 = .ok (.iload_n 3, 1) := dk_29 (dk_at dksL_law_21 6 rfl rfl)
theorem dL_law_551 : decode cL_law 551 = .ok (.bipush 6, 2) := dk_16 6 (dk_at dksL_law_21 7 rfl rfl)
theorem dL_law_553 : decode cL_law 553 = .ok (.iadd, 1) := dk_96 (dk_at dksL_law_21 9 rfl rfl)
theorem dL_law_554 : decode cL_law 554 = .ok (.iaload, 1) := dk_46 (dk_at dksL_law_21 10 rfl rfl)
theorem dL_law_555 : decode cL_law 555 = .ok (.aload_n 0, 1) := dk_42 (dk_at dksL_law_21 11 rfl rfl)
theorem dL_law_556 : decode cL_law 556 = .ok (.iload_n 3, 1) := dk_29 (dk_at dksL_law_21 12 rfl rfl)
theorem dL_law_557 : decode cL_law 557 = .ok (.bipush 7, 2) := dk_16 7 (dk_at dksL_law_21 13 rfl rfl)
theorem dL_law_559 : decode cL_law 559 = .ok (.iadd, 1) := dk_96 (dk_at dksL_law_21 15 rfl rfl)
theorem dL_law_560 : decode cL_law 560 = .ok (.iaload, 1) := dk_46 (dk_at dksL_law_21 16 rfl rfl)
theorem dL_law_561 : decode cL_law 561 = .ok (.invokevirtual 48, 3) := dk_182 0 48 (dk_at dksL_law_21 17 rfl rfl)
theorem dL_law_564 : decode cL_law 564 = .ok (.if_icmp .eq 356, 3) := dk_159 1 100 (dk_at dksL_law_21 20 rfl rfl)
theorem dL_law_567 : decode cL_law 567 = .ok (.iconst 0, 1) := dk_3 (dk_at dksL_law_21 23 rfl rfl)
theorem dL_law_568 : decode cL_law 568 = .ok (.ireturn, 1) := dk_172 (dk_at dksL_law_22 0 rfl rfl)
theorem dL_law_569 : decode cL_law 569 = .ok (.aload_n 1, 1) := dk_43 (dk_at dksL_law_22 1 rfl rfl)
theorem dL_law_570 : decode cL_law 570 = .ok (.aload_n 0, 1) := dk_42 (dk_at dksL_law_22 2 rfl rfl)
theorem dL_law_571 : decode cL_law 571 = .ok (.iload_n 3, 1) := dk_29 (dk_at dksL_law_22 3 rfl rfl)
theorem dL_law_572 : decode cL_law 572 = .ok (.iconst 1, 1) := dk_4 (dk_at dksL_law_22 4 rfl rfl)
theorem dL_law_573 : decode cL_law 573 = .ok (.iadd, 1) := dk_96 (dk_at dksL_law_22 5 rfl rfl)
theorem dL_law_574 : decode cL_law 574 = .ok (.iaload, 1) := dk_46 (dk_at dksL_law_22 6 rfl rfl)
theorem dL_law_575 : decode cL_law 575 = .ok (.aload_n 0, 1) := dk_42 (dk_at dksL_law_22 7 rfl rfl)
theorem dL_law_576 : decode cL_law 576 = .ok (.iload_n 3, 1) := dk_29 (dk_at dksL_law_22 8 rfl rfl)
theorem dL_law_577 : decode cL_law 577 = .ok (.iconst 2, 1) := dk_5 (dk_at dksL_law_22 9 rfl rfl)
theorem dL_law_578 : decode cL_law 578 = .ok (.iadd, 1) := dk_96 (dk_at dksL_law_22 10 rfl rfl)
theorem dL_law_579 : decode cL_law 579 = .ok (.iaload, 1) := dk_46 (dk_at dksL_law_22 11 rfl rfl)
theorem dL_law_580 : decode cL_law 580 = .ok (.aload_n 0, 1) := dk_42 (dk_at dksL_law_22 12 rfl rfl)
theorem dL_law_581 : decode cL_law 581 = .ok (.iload_n 3, 1) := dk_29 (dk_at dksL_law_22 13 rfl rfl)
theorem dL_law_582 : decode cL_law 582 = .ok (.iconst 3, 1) := dk_6 (dk_at dksL_law_22 14 rfl rfl)
theorem dL_law_583 : decode cL_law 583 = .ok (.iadd, 1) := dk_96 (dk_at dksL_law_22 15 rfl rfl)
theorem dL_law_584 : decode cL_law 584 = .ok (.iaload, 1) := dk_46 (dk_at dksL_law_22 16 rfl rfl)
theorem dL_law_585 : decode cL_law 585 = .ok (.aload_n 0, 1) := dk_42 (dk_at dksL_law_22 17 rfl rfl)
theorem dL_law_586 : decode cL_law 586 = .ok (.iload_n 3, 1) := dk_29 (dk_at dksL_law_22 18 rfl rfl)
theorem dL_law_587 : decode cL_law 587 = .ok (.iconst 4, 1) := dk_7 (dk_at dksL_law_22 19 rfl rfl)
theorem dL_law_588 : decode cL_law 588 = .ok (.iadd, 1) := dk_96 (dk_at dksL_law_22 20 rfl rfl)
theorem dL_law_589 : decode cL_law 589 = .ok (.iaload, 1) := dk_46 (dk_at dksL_law_22 21 rfl rfl)
theorem dL_law_590 : decode cL_law 590 = .ok (.aload_n 0, 1) := dk_42 (dk_at dksL_law_22 22 rfl rfl)
theorem dL_law_591 : decode cL_law 591 = .ok (.iload_n 3, 1) := dk_29 (dk_at dksL_law_22 23 rfl rfl)
theorem dL_law_592 : decode cL_law 592 = .ok (.iconst 5, 1) := dk_8 (dk_at dksL_law_23 0 rfl rfl)
theorem dL_law_593 : decode cL_law 593 = .ok (.iadd, 1) := dk_96 (dk_at dksL_law_23 1 rfl rfl)
theorem dL_law_594 : decode cL_law 594 = .ok (.iaload, 1) := dk_46 (dk_at dksL_law_23 2 rfl rfl)
theorem dL_law_595 : decode cL_law 595 = .ok (.invokevirtual 49, 3) := dk_182 0 49 (dk_at dksL_law_23 3 rfl rfl)
theorem dL_law_598 : decode cL_law 598 = .ok (.aload_n 2, 1) := dk_44 (dk_at dksL_law_23 6 rfl rfl)
theorem dL_law_599 : decode cL_law 599 = .ok (.aload_n 0, 1) := dk_42 (dk_at dksL_law_23 7 rfl rfl)
theorem dL_law_600 : decode cL_law 600 = .ok (.iload_n 3, 1) := dk_29 (dk_at dksL_law_23 8 rfl rfl)
theorem dL_law_601 : decode cL_law 601 = .ok (.iconst 1, 1) := dk_4 (dk_at dksL_law_23 9 rfl rfl)
theorem dL_law_602 : decode cL_law 602 = .ok (.iadd, 1) := dk_96 (dk_at dksL_law_23 10 rfl rfl)
theorem dL_law_603 : decode cL_law 603 = .ok (.iaload, 1) := dk_46 (dk_at dksL_law_23 11 rfl rfl)
theorem dL_law_604 : decode cL_law 604 = .ok (.aload_n 0, 1) := dk_42 (dk_at dksL_law_23 12 rfl rfl)
theorem dL_law_605 : decode cL_law 605 = .ok (.iload_n 3, 1) := dk_29 (dk_at dksL_law_23 13 rfl rfl)
theorem dL_law_606 : decode cL_law 606 = .ok (.iconst 2, 1) := dk_5 (dk_at dksL_law_23 14 rfl rfl)
theorem dL_law_607 : decode cL_law 607 = .ok (.iadd, 1) := dk_96 (dk_at dksL_law_23 15 rfl rfl)
theorem dL_law_608 : decode cL_law 608 = .ok (.iaload, 1) := dk_46 (dk_at dksL_law_23 16 rfl rfl)
theorem dL_law_609 : decode cL_law 609 = .ok (.aload_n 0, 1) := dk_42 (dk_at dksL_law_23 17 rfl rfl)
theorem dL_law_610 : decode cL_law 610 = .ok (.iload_n 3, 1) := dk_29 (dk_at dksL_law_23 18 rfl rfl)
theorem dL_law_611 : decode cL_law 611 = .ok (.iconst 3, 1) := dk_6 (dk_at dksL_law_23 19 rfl rfl)
theorem dL_law_612 : decode cL_law 612 = .ok (.iadd, 1) := dk_96 (dk_at dksL_law_23 20 rfl rfl)
theorem dL_law_613 : decode cL_law 613 = .ok (.iaload, 1) := dk_46 (dk_at dksL_law_23 21 rfl rfl)
theorem dL_law_614 : decode cL_law 614 = .ok (.aload_n 0, 1) := dk_42 (dk_at dksL_law_23 22 rfl rfl)
theorem dL_law_615 : decode cL_law 615 = .ok (.iload_n 3, 1) := dk_29 (dk_at dksL_law_23 23 rfl rfl)
theorem dL_law_616 : decode cL_law 616 = .ok (.iconst 4, 1) := dk_7 (dk_at dksL_law_24 0 rfl rfl)
theorem dL_law_617 : decode cL_law 617 = .ok (.iadd, 1) := dk_96 (dk_at dksL_law_24 1 rfl rfl)
theorem dL_law_618 : decode cL_law 618 = .ok (.iaload, 1) := dk_46 (dk_at dksL_law_24 2 rfl rfl)
theorem dL_law_619 : decode cL_law 619 = .ok (.aload_n 0, 1) := dk_42 (dk_at dksL_law_24 3 rfl rfl)
theorem dL_law_620 : decode cL_law 620 = .ok (.iload_n 3, 1) := dk_29 (dk_at dksL_law_24 4 rfl rfl)
theorem dL_law_621 : decode cL_law 621 = .ok (.iconst 5, 1) := dk_8 (dk_at dksL_law_24 5 rfl rfl)
theorem dL_law_622 : decode cL_law 622 = .ok (.iadd, 1) := dk_96 (dk_at dksL_law_24 6 rfl rfl)
theorem dL_law_623 : decode cL_law 623 = .ok (.iaload, 1) := dk_46 (dk_at dksL_law_24 7 rfl rfl)
theorem dL_law_624 : decode cL_law 624 = .ok (.invokevirtual 52, 3) := dk_182 0 52 (dk_at dksL_law_24 8 rfl rfl)
theorem dL_law_627 : decode cL_law 627 = .ok (.if_icmp .eq 293, 3) := dk_159 1 37 (dk_at dksL_law_24 11 rfl rfl)
theorem dL_law_630 : decode cL_law 630 = .ok (.iconst 0, 1) := dk_3 (dk_at dksL_law_24 14 rfl rfl)
theorem dL_law_631 : decode cL_law 631 = .ok (.ireturn, 1) := dk_172 (dk_at dksL_law_24 15 rfl rfl)
theorem dL_law_632 : decode cL_law 632 = .ok (.aload_n 1, 1) := dk_43 (dk_at dksL_law_24 16 rfl rfl)
theorem dL_law_633 : decode cL_law 633 = .ok (.aload_n 0, 1) := dk_42 (dk_at dksL_law_24 17 rfl rfl)
theorem dL_law_634 : decode cL_law 634 = .ok (.iload_n 3, 1) := dk_29 (dk_at dksL_law_24 18 rfl rfl)
theorem dL_law_635 : decode cL_law 635 = .ok (.iconst 1, 1) := dk_4 (dk_at dksL_law_24 19 rfl rfl)
theorem dL_law_636 : decode cL_law 636 = .ok (.iadd, 1) := dk_96 (dk_at dksL_law_24 20 rfl rfl)
theorem dL_law_637 : decode cL_law 637 = .ok (.iaload, 1) := dk_46 (dk_at dksL_law_24 21 rfl rfl)
theorem dL_law_638 : decode cL_law 638 = .ok (.invokevirtual 53, 3) := dk_182 0 53 (dk_at dksL_law_25 0 rfl rfl)
theorem dL_law_641 : decode cL_law 641 = .ok (.aload_n 2, 1) := dk_44 (dk_at dksL_law_25 3 rfl rfl)
theorem dL_law_642 : decode cL_law 642 = .ok (.aload_n 0, 1) := dk_42 (dk_at dksL_law_25 4 rfl rfl)
theorem dL_law_643 : decode cL_law 643 = .ok (.iload_n 3, 1) := dk_29 (dk_at dksL_law_25 5 rfl rfl)
theorem dL_law_644 : decode cL_law 644 = .ok (.iconst 1, 1) := dk_4 (dk_at dksL_law_25 6 rfl rfl)
theorem dL_law_645 : decode cL_law 645 = .ok (.iadd, 1) := dk_96 (dk_at dksL_law_25 7 rfl rfl)
theorem dL_law_646 : decode cL_law 646 = .ok (.iaload, 1) := dk_46 (dk_at dksL_law_25 8 rfl rfl)
theorem dL_law_647 : decode cL_law 647 = .ok (.invokevirtual 57, 3) := dk_182 0 57 (dk_at dksL_law_25 9 rfl rfl)
theorem dL_law_650 : decode cL_law 650 = .ok (.if_icmp .eq 270, 3) := dk_159 1 14 (dk_at dksL_law_25 12 rfl rfl)
theorem dL_law_653 : decode cL_law 653 = .ok (.iconst 0, 1) := dk_3 (dk_at dksL_law_25 15 rfl rfl)
theorem dL_law_654 : decode cL_law 654 = .ok (.ireturn, 1) := dk_172 (dk_at dksL_law_25 16 rfl rfl)
theorem dL_law_655 : decode cL_law 655 = .ok (.aload_n 1, 1) := dk_43 (dk_at dksL_law_25 17 rfl rfl)
theorem dL_law_656 : decode cL_law 656 = .ok (.aload_n 0, 1) := dk_42 (dk_at dksL_law_25 18 rfl rfl)
theorem dL_law_657 : decode cL_law 657 = .ok (.iload_n 3, 1) := dk_29 (dk_at dksL_law_25 19 rfl rfl)
theorem dL_law_658 : decode cL_law 658 = .ok (.iconst 1, 1) := dk_4 (dk_at dksL_law_25 20 rfl rfl)
theorem dL_law_659 : decode cL_law 659 = .ok (.iadd, 1) := dk_96 (dk_at dksL_law_25 21 rfl rfl)
theorem dL_law_660 : decode cL_law 660 = .ok (.iaload, 1) := dk_46 (dk_at dksL_law_25 22 rfl rfl)
theorem dL_law_661 : decode cL_law 661 = .ok (.invokevirtual 58, 3) := dk_182 0 58 (dk_at dksL_law_26 0 rfl rfl)
theorem dL_law_664 : decode cL_law 664 = .ok (.aload_n 2, 1) := dk_44 (dk_at dksL_law_26 3 rfl rfl)
theorem dL_law_665 : decode cL_law 665 = .ok (.aload_n 0, 1) := dk_42 (dk_at dksL_law_26 4 rfl rfl)
theorem dL_law_666 : decode cL_law 666 = .ok (.iload_n 3, 1) := dk_29 (dk_at dksL_law_26 5 rfl rfl)
theorem dL_law_667 : decode cL_law 667 = .ok (.iconst 1, 1) := dk_4 (dk_at dksL_law_26 6 rfl rfl)
theorem dL_law_668 : decode cL_law 668 = .ok (.iadd, 1) := dk_96 (dk_at dksL_law_26 7 rfl rfl)
theorem dL_law_669 : decode cL_law 669 = .ok (.iaload, 1) := dk_46 (dk_at dksL_law_26 8 rfl rfl)
theorem dL_law_670 : decode cL_law 670 = .ok (.invokevirtual 61, 3) := dk_182 0 61 (dk_at dksL_law_26 9 rfl rfl)
theorem dL_law_673 : decode cL_law 673 = .ok (.if_icmp .eq 247, 3) := dk_159 0 247 (dk_at dksL_law_26 12 rfl rfl)
theorem dL_law_676 : decode cL_law 676 = .ok (.iconst 0, 1) := dk_3 (dk_at dksL_law_26 15 rfl rfl)
theorem dL_law_677 : decode cL_law 677 = .ok (.ireturn, 1) := dk_172 (dk_at dksL_law_26 16 rfl rfl)
theorem dL_law_678 : decode cL_law 678 = .ok (.aload_n 1, 1) := dk_43 (dk_at dksL_law_26 17 rfl rfl)
theorem dL_law_679 : decode cL_law 679 = .ok (.aload_n 0, 1) := dk_42 (dk_at dksL_law_26 18 rfl rfl)
theorem dL_law_680 : decode cL_law 680 = .ok (.iload_n 3, 1) := dk_29 (dk_at dksL_law_26 19 rfl rfl)
theorem dL_law_681 : decode cL_law 681 = .ok (.iconst 1, 1) := dk_4 (dk_at dksL_law_26 20 rfl rfl)
theorem dL_law_682 : decode cL_law 682 = .ok (.iadd, 1) := dk_96 (dk_at dksL_law_26 21 rfl rfl)
theorem dL_law_683 : decode cL_law 683 = .ok (.iaload, 1) := dk_46 (dk_at dksL_law_26 22 rfl rfl)
theorem dL_law_684 : decode cL_law 684 = .ok (.invokevirtual 62, 3) := dk_182 0 62 (dk_at dksL_law_27 0 rfl rfl)
theorem dL_law_687 : decode cL_law 687 = .ok (.aload_n 2, 1) := dk_44 (dk_at dksL_law_27 3 rfl rfl)
theorem dL_law_688 : decode cL_law 688 = .ok (.aload_n 0, 1) := dk_42 (dk_at dksL_law_27 4 rfl rfl)
theorem dL_law_689 : decode cL_law 689 = .ok (.iload_n 3, 1) := dk_29 (dk_at dksL_law_27 5 rfl rfl)
theorem dL_law_690 : decode cL_law 690 = .ok (.iconst 1, 1) := dk_4 (dk_at dksL_law_27 6 rfl rfl)
theorem dL_law_691 : decode cL_law 691 = .ok (.iadd, 1) := dk_96 (dk_at dksL_law_27 7 rfl rfl)
theorem dL_law_692 : decode cL_law 692 = .ok (.iaload, 1) := dk_46 (dk_at dksL_law_27 8 rfl rfl)
theorem dL_law_693 : decode cL_law 693 = .ok (.invokevirtual 65, 3) := dk_182 0 65 (dk_at dksL_law_27 9 rfl rfl)
theorem dL_law_696 : decode cL_law 696 = .ok (.if_icmp .eq 224, 3) := dk_159 0 224 (dk_at dksL_law_27 12 rfl rfl)
theorem dL_law_699 : decode cL_law 699 = .ok (.iconst 0, 1) := dk_3 (dk_at dksL_law_27 15 rfl rfl)
theorem dL_law_700 : decode cL_law 700 = .ok (.ireturn, 1) := dk_172 (dk_at dksL_law_27 16 rfl rfl)
theorem dL_law_701 : decode cL_law 701 = .ok (.aload_n 1, 1) := dk_43 (dk_at dksL_law_27 17 rfl rfl)
theorem dL_law_702 : decode cL_law 702 = .ok (.aload_n 0, 1) := dk_42 (dk_at dksL_law_27 18 rfl rfl)
theorem dL_law_703 : decode cL_law 703 = .ok (.iload_n 3, 1) := dk_29 (dk_at dksL_law_27 19 rfl rfl)
theorem dL_law_704 : decode cL_law 704 = .ok (.iconst 1, 1) := dk_4 (dk_at dksL_law_27 20 rfl rfl)
theorem dL_law_705 : decode cL_law 705 = .ok (.iadd, 1) := dk_96 (dk_at dksL_law_27 21 rfl rfl)
theorem dL_law_706 : decode cL_law 706 = .ok (.iaload, 1) := dk_46 (dk_at dksL_law_27 22 rfl rfl)
theorem dL_law_707 : decode cL_law 707 = .ok (.aload_n 0, 1) := dk_42 (dk_at dksL_law_27 23 rfl rfl)
theorem dL_law_708 : decode cL_law 708 = .ok (.iload_n 3, 1) := dk_29 (dk_at dksL_law_28 0 rfl rfl)
theorem dL_law_709 : decode cL_law 709 = .ok (.iconst 2, 1) := dk_5 (dk_at dksL_law_28 1 rfl rfl)
theorem dL_law_710 : decode cL_law 710 = .ok (.iadd, 1) := dk_96 (dk_at dksL_law_28 2 rfl rfl)
theorem dL_law_711 : decode cL_law 711 = .ok (.iaload, 1) := dk_46 (dk_at dksL_law_28 3 rfl rfl)
theorem dL_law_712 : decode cL_law 712 = .ok (.invokevirtual 66, 3) := dk_182 0 66 (dk_at dksL_law_28 4 rfl rfl)
theorem dL_law_715 : decode cL_law 715 = .ok (.aload_n 2, 1) := dk_44 (dk_at dksL_law_28 7 rfl rfl)
theorem dL_law_716 : decode cL_law 716 = .ok (.aload_n 0, 1) := dk_42 (dk_at dksL_law_28 8 rfl rfl)
theorem dL_law_717 : decode cL_law 717 = .ok (.iload_n 3, 1) := dk_29 (dk_at dksL_law_28 9 rfl rfl)
theorem dL_law_718 : decode cL_law 718 = .ok (.iconst 1, 1) := dk_4 (dk_at dksL_law_28 10 rfl rfl)
theorem dL_law_719 : decode cL_law 719 = .ok (.iadd, 1) := dk_96 (dk_at dksL_law_28 11 rfl rfl)
theorem dL_law_720 : decode cL_law 720 = .ok (.iaload, 1) := dk_46 (dk_at dksL_law_28 12 rfl rfl)
theorem dL_law_721 : decode cL_law 721 = .ok (.aload_n 0, 1) := dk_42 (dk_at dksL_law_28 13 rfl rfl)
theorem dL_law_722 : decode cL_law 722 = .ok (.iload_n 3, 1) := dk_29 (dk_at dksL_law_28 14 rfl rfl)
theorem dL_law_723 : decode cL_law 723 = .ok (.iconst 2, 1) := dk_5 (dk_at dksL_law_28 15 rfl rfl)
theorem dL_law_724 : decode cL_law 724 = .ok (.iadd, 1) := dk_96 (dk_at dksL_law_28 16 rfl rfl)
theorem dL_law_725 : decode cL_law 725 = .ok (.iaload, 1) := dk_46 (dk_at dksL_law_28 17 rfl rfl)
theorem dL_law_726 : decode cL_law 726 = .ok (.invokevirtual 69, 3) := dk_182 0 69 (dk_at dksL_law_28 18 rfl rfl)
theorem dL_law_729 : decode cL_law 729 = .ok (.if_icmp .eq 191, 3) := dk_159 0 191 (dk_at dksL_law_28 21 rfl rfl)
theorem dL_law_732 : decode cL_law 732 = .ok (.iconst 0, 1) := dk_3 (dk_at dksL_law_29 0 rfl rfl)
theorem dL_law_733 : decode cL_law 733 = .ok (.ireturn, 1) := dk_172 (dk_at dksL_law_29 1 rfl rfl)
theorem dL_law_734 : decode cL_law 734 = .ok (.aload_n 1, 1) := dk_43 (dk_at dksL_law_29 2 rfl rfl)
theorem dL_law_735 : decode cL_law 735 = .ok (.aload_n 0, 1) := dk_42 (dk_at dksL_law_29 3 rfl rfl)
theorem dL_law_736 : decode cL_law 736 = .ok (.iload_n 3, 1) := dk_29 (dk_at dksL_law_29 4 rfl rfl)
theorem dL_law_737 : decode cL_law 737 = .ok (.iconst 1, 1) := dk_4 (dk_at dksL_law_29 5 rfl rfl)
theorem dL_law_738 : decode cL_law 738 = .ok (.iadd, 1) := dk_96 (dk_at dksL_law_29 6 rfl rfl)
theorem dL_law_739 : decode cL_law 739 = .ok (.iaload, 1) := dk_46 (dk_at dksL_law_29 7 rfl rfl)
theorem dL_law_740 : decode cL_law 740 = .ok (.aload_n 0, 1) := dk_42 (dk_at dksL_law_29 8 rfl rfl)
theorem dL_law_741 : decode cL_law 741 = .ok (.iload_n 3, 1) := dk_29 (dk_at dksL_law_29 9 rfl rfl)
theorem dL_law_742 : decode cL_law 742 = .ok (.iconst 2, 1) := dk_5 (dk_at dksL_law_29 10 rfl rfl)
theorem dL_law_743 : decode cL_law 743 = .ok (.iadd, 1) := dk_96 (dk_at dksL_law_29 11 rfl rfl)
theorem dL_law_744 : decode cL_law 744 = .ok (.iaload, 1) := dk_46 (dk_at dksL_law_29 12 rfl rfl)
theorem dL_law_745 : decode cL_law 745 = .ok (.invokevirtual 70, 3) := dk_182 0 70 (dk_at dksL_law_29 13 rfl rfl)
theorem dL_law_748 : decode cL_law 748 = .ok (.aload_n 2, 1) := dk_44 (dk_at dksL_law_29 16 rfl rfl)
theorem dL_law_749 : decode cL_law 749 = .ok (.aload_n 0, 1) := dk_42 (dk_at dksL_law_29 17 rfl rfl)
theorem dL_law_750 : decode cL_law 750 = .ok (.iload_n 3, 1) := dk_29 (dk_at dksL_law_29 18 rfl rfl)
theorem dL_law_751 : decode cL_law 751 = .ok (.iconst 1, 1) := dk_4 (dk_at dksL_law_29 19 rfl rfl)
theorem dL_law_752 : decode cL_law 752 = .ok (.iadd, 1) := dk_96 (dk_at dksL_law_29 20 rfl rfl)
theorem dL_law_753 : decode cL_law 753 = .ok (.iaload, 1) := dk_46 (dk_at dksL_law_29 21 rfl rfl)
theorem dL_law_754 : decode cL_law 754 = .ok (.aload_n 0, 1) := dk_42 (dk_at dksL_law_29 22 rfl rfl)
theorem dL_law_755 : decode cL_law 755 = .ok (.iload_n 3, 1) := dk_29 (dk_at dksL_law_29 23 rfl rfl)
theorem dL_law_756 : decode cL_law 756 = .ok (.iconst 2, 1) := dk_5 (dk_at dksL_law_30 0 rfl rfl)
theorem dL_law_757 : decode cL_law 757 = .ok (.iadd, 1) := dk_96 (dk_at dksL_law_30 1 rfl rfl)
theorem dL_law_758 : decode cL_law 758 = .ok (.iaload, 1) := dk_46 (dk_at dksL_law_30 2 rfl rfl)
theorem dL_law_759 : decode cL_law 759 = .ok (.invokevirtual 73, 3) := dk_182 0 73 (dk_at dksL_law_30 3 rfl rfl)
theorem dL_law_762 : decode cL_law 762 = .ok (.if_icmp .eq 158, 3) := dk_159 0 158 (dk_at dksL_law_30 6 rfl rfl)
theorem dL_law_765 : decode cL_law 765 = .ok (.iconst 0, 1) := dk_3 (dk_at dksL_law_30 9 rfl rfl)
theorem dL_law_766 : decode cL_law 766 = .ok (.ireturn, 1) := dk_172 (dk_at dksL_law_30 10 rfl rfl)
theorem dL_law_767 : decode cL_law 767 = .ok (.aload_n 1, 1) := dk_43 (dk_at dksL_law_30 11 rfl rfl)
theorem dL_law_768 : decode cL_law 768 = .ok (.aload_n 0, 1) := dk_42 (dk_at dksL_law_30 12 rfl rfl)
theorem dL_law_769 : decode cL_law 769 = .ok (.iload_n 3, 1) := dk_29 (dk_at dksL_law_30 13 rfl rfl)
theorem dL_law_770 : decode cL_law 770 = .ok (.iconst 1, 1) := dk_4 (dk_at dksL_law_30 14 rfl rfl)
theorem dL_law_771 : decode cL_law 771 = .ok (.iadd, 1) := dk_96 (dk_at dksL_law_30 15 rfl rfl)
theorem dL_law_772 : decode cL_law 772 = .ok (.iaload, 1) := dk_46 (dk_at dksL_law_30 16 rfl rfl)
theorem dL_law_773 : decode cL_law 773 = .ok (.aload_n 0, 1) := dk_42 (dk_at dksL_law_30 17 rfl rfl)
theorem dL_law_774 : decode cL_law 774 = .ok (.iload_n 3, 1) := dk_29 (dk_at dksL_law_30 18 rfl rfl)
theorem dL_law_775 : decode cL_law 775 = .ok (.iconst 2, 1) := dk_5 (dk_at dksL_law_30 19 rfl rfl)
theorem dL_law_776 : decode cL_law 776 = .ok (.iadd, 1) := dk_96 (dk_at dksL_law_30 20 rfl rfl)
theorem dL_law_777 : decode cL_law 777 = .ok (.iaload, 1) := dk_46 (dk_at dksL_law_30 21 rfl rfl)
theorem dL_law_778 : decode cL_law 778 = .ok (.aload_n 0, 1) := dk_42 (dk_at dksL_law_30 22 rfl rfl)
theorem dL_law_779 : decode cL_law 779 = .ok (.iload_n 3, 1) := dk_29 (dk_at dksL_law_30 23 rfl rfl)
theorem dL_law_780 : decode cL_law 780 = .ok (.iconst 3, 1) := dk_6 (dk_at dksL_law_31 0 rfl rfl)
theorem dL_law_781 : decode cL_law 781 = .ok (.iadd, 1) := dk_96 (dk_at dksL_law_31 1 rfl rfl)
theorem dL_law_782 : decode cL_law 782 = .ok (.iaload, 1) := dk_46 (dk_at dksL_law_31 2 rfl rfl)
theorem dL_law_783 : decode cL_law 783 = .ok (.invokevirtual 74, 3) := dk_182 0 74 (dk_at dksL_law_31 3 rfl rfl)
theorem dL_law_786 : decode cL_law 786 = .ok (.aload_n 2, 1) := dk_44 (dk_at dksL_law_31 6 rfl rfl)
theorem dL_law_787 : decode cL_law 787 = .ok (.aload_n 0, 1) := dk_42 (dk_at dksL_law_31 7 rfl rfl)
theorem dL_law_788 : decode cL_law 788 = .ok (.iload_n 3, 1) := dk_29 (dk_at dksL_law_31 8 rfl rfl)
theorem dL_law_789 : decode cL_law 789 = .ok (.iconst 1, 1) := dk_4 (dk_at dksL_law_31 9 rfl rfl)
theorem dL_law_790 : decode cL_law 790 = .ok (.iadd, 1) := dk_96 (dk_at dksL_law_31 10 rfl rfl)
theorem dL_law_791 : decode cL_law 791 = .ok (.iaload, 1) := dk_46 (dk_at dksL_law_31 11 rfl rfl)
theorem dL_law_792 : decode cL_law 792 = .ok (.aload_n 0, 1) := dk_42 (dk_at dksL_law_31 12 rfl rfl)
theorem dL_law_793 : decode cL_law 793 = .ok (.iload_n 3, 1) := dk_29 (dk_at dksL_law_31 13 rfl rfl)
theorem dL_law_794 : decode cL_law 794 = .ok (.iconst 2, 1) := dk_5 (dk_at dksL_law_31 14 rfl rfl)
theorem dL_law_795 : decode cL_law 795 = .ok (.iadd, 1) := dk_96 (dk_at dksL_law_31 15 rfl rfl)
theorem dL_law_796 : decode cL_law 796 = .ok (.iaload, 1) := dk_46 (dk_at dksL_law_31 16 rfl rfl)
theorem dL_law_797 : decode cL_law 797 = .ok (.aload_n 0, 1) := dk_42 (dk_at dksL_law_31 17 rfl rfl)
theorem dL_law_798 : decode cL_law 798 = .ok (.iload_n 3, 1) := dk_29 (dk_at dksL_law_31 18 rfl rfl)
theorem dL_law_799 : decode cL_law 799 = .ok (.iconst 3, 1) := dk_6 (dk_at dksL_law_31 19 rfl rfl)
theorem dL_law_800 : decode cL_law 800 = .ok (.iadd, 1) := dk_96 (dk_at dksL_law_31 20 rfl rfl)
theorem dL_law_801 : decode cL_law 801 = .ok (.iaload, 1) := dk_46 (dk_at dksL_law_31 21 rfl rfl)
theorem dL_law_802 : decode cL_law 802 = .ok (.invokevirtual 78, 3) := dk_182 0 78 (dk_at dksL_law_32 0 rfl rfl)
theorem dL_law_805 : decode cL_law 805 = .ok (.lcmp, 1) := dk_148 (dk_at dksL_law_32 3 rfl rfl)
theorem dL_law_806 : decode cL_law 806 = .ok (.ifCond .eq 114, 3) := dk_153 0 114 (dk_at dksL_law_32 4 rfl rfl)
theorem dL_law_809 : decode cL_law 809 = .ok (.iconst 0, 1) := dk_3 (dk_at dksL_law_32 7 rfl rfl)
theorem dL_law_810 : decode cL_law 810 = .ok (.ireturn, 1) := dk_172 (dk_at dksL_law_32 8 rfl rfl)
theorem dL_law_811 : decode cL_law 811 = .ok (.aload_n 1, 1) := dk_43 (dk_at dksL_law_32 9 rfl rfl)
theorem dL_law_812 : decode cL_law 812 = .ok (.aload_n 0, 1) := dk_42 (dk_at dksL_law_32 10 rfl rfl)
theorem dL_law_813 : decode cL_law 813 = .ok (.iload_n 3, 1) := dk_29 (dk_at dksL_law_32 11 rfl rfl)
theorem dL_law_814 : decode cL_law 814 = .ok (.iconst 1, 1) := dk_4 (dk_at dksL_law_32 12 rfl rfl)
theorem dL_law_815 : decode cL_law 815 = .ok (.iadd, 1) := dk_96 (dk_at dksL_law_32 13 rfl rfl)
theorem dL_law_816 : decode cL_law 816 = .ok (.iaload, 1) := dk_46 (dk_at dksL_law_32 14 rfl rfl)
theorem dL_law_817 : decode cL_law 817 = .ok (.aload_n 0, 1) := dk_42 (dk_at dksL_law_32 15 rfl rfl)
theorem dL_law_818 : decode cL_law 818 = .ok (.iload_n 3, 1) := dk_29 (dk_at dksL_law_32 16 rfl rfl)
theorem dL_law_819 : decode cL_law 819 = .ok (.iconst 2, 1) := dk_5 (dk_at dksL_law_32 17 rfl rfl)
theorem dL_law_820 : decode cL_law 820 = .ok (.iadd, 1) := dk_96 (dk_at dksL_law_32 18 rfl rfl)
theorem dL_law_821 : decode cL_law 821 = .ok (.iaload, 1) := dk_46 (dk_at dksL_law_32 19 rfl rfl)
theorem dL_law_822 : decode cL_law 822 = .ok (.aload_n 0, 1) := dk_42 (dk_at dksL_law_32 20 rfl rfl)
theorem dL_law_823 : decode cL_law 823 = .ok (.iload_n 3, 1) := dk_29 (dk_at dksL_law_32 21 rfl rfl)
theorem dL_law_824 : decode cL_law 824 = .ok (.iconst 3, 1) := dk_6 (dk_at dksL_law_32 22 rfl rfl)
theorem dL_law_825 : decode cL_law 825 = .ok (.iadd, 1) := dk_96 (dk_at dksL_law_32 23 rfl rfl)
theorem dL_law_826 : decode cL_law 826 = .ok (.iaload, 1) := dk_46 (dk_at dksL_law_33 0 rfl rfl)
theorem dL_law_827 : decode cL_law 827 = .ok (.invokevirtual 79, 3) := dk_182 0 79 (dk_at dksL_law_33 1 rfl rfl)
theorem dL_law_830 : decode cL_law 830 = .ok (.aload_n 2, 1) := dk_44 (dk_at dksL_law_33 4 rfl rfl)
theorem dL_law_831 : decode cL_law 831 = .ok (.aload_n 0, 1) := dk_42 (dk_at dksL_law_33 5 rfl rfl)
theorem dL_law_832 : decode cL_law 832 = .ok (.iload_n 3, 1) := dk_29 (dk_at dksL_law_33 6 rfl rfl)
theorem dL_law_833 : decode cL_law 833 = .ok (.iconst 1, 1) := dk_4 (dk_at dksL_law_33 7 rfl rfl)
theorem dL_law_834 : decode cL_law 834 = .ok (.iadd, 1) := dk_96 (dk_at dksL_law_33 8 rfl rfl)
theorem dL_law_835 : decode cL_law 835 = .ok (.iaload, 1) := dk_46 (dk_at dksL_law_33 9 rfl rfl)
theorem dL_law_836 : decode cL_law 836 = .ok (.aload_n 0, 1) := dk_42 (dk_at dksL_law_33 10 rfl rfl)
theorem dL_law_837 : decode cL_law 837 = .ok (.iload_n 3, 1) := dk_29 (dk_at dksL_law_33 11 rfl rfl)
theorem dL_law_838 : decode cL_law 838 = .ok (.iconst 2, 1) := dk_5 (dk_at dksL_law_33 12 rfl rfl)
theorem dL_law_839 : decode cL_law 839 = .ok (.iadd, 1) := dk_96 (dk_at dksL_law_33 13 rfl rfl)
theorem dL_law_840 : decode cL_law 840 = .ok (.iaload, 1) := dk_46 (dk_at dksL_law_33 14 rfl rfl)
theorem dL_law_841 : decode cL_law 841 = .ok (.aload_n 0, 1) := dk_42 (dk_at dksL_law_33 15 rfl rfl)
theorem dL_law_842 : decode cL_law 842 = .ok (.iload_n 3, 1) := dk_29 (dk_at dksL_law_33 16 rfl rfl)
theorem dL_law_843 : decode cL_law 843 = .ok (.iconst 3, 1) := dk_6 (dk_at dksL_law_33 17 rfl rfl)
theorem dL_law_844 : decode cL_law 844 = .ok (.iadd, 1) := dk_96 (dk_at dksL_law_33 18 rfl rfl)
theorem dL_law_845 : decode cL_law 845 = .ok (.iaload, 1) := dk_46 (dk_at dksL_law_33 19 rfl rfl)
theorem dL_law_846 : decode cL_law 846 = .ok (.invokevirtual 83, 3) := dk_182 0 83 (dk_at dksL_law_33 20 rfl rfl)
theorem dL_law_849 : decode cL_law 849 = .ok (.if_icmp .eq 71, 3) := dk_159 0 71 (dk_at dksL_law_34 0 rfl rfl)
theorem dL_law_852 : decode cL_law 852 = .ok (.iconst 0, 1) := dk_3 (dk_at dksL_law_34 3 rfl rfl)
theorem dL_law_853 : decode cL_law 853 = .ok (.ireturn, 1) := dk_172 (dk_at dksL_law_34 4 rfl rfl)
theorem dL_law_854 : decode cL_law 854 = .ok (.aload_n 1, 1) := dk_43 (dk_at dksL_law_34 5 rfl rfl)
theorem dL_law_855 : decode cL_law 855 = .ok (.aload_n 0, 1) := dk_42 (dk_at dksL_law_34 6 rfl rfl)
theorem dL_law_856 : decode cL_law 856 = .ok (.iload_n 3, 1) := dk_29 (dk_at dksL_law_34 7 rfl rfl)
theorem dL_law_857 : decode cL_law 857 = .ok (.iconst 1, 1) := dk_4 (dk_at dksL_law_34 8 rfl rfl)
theorem dL_law_858 : decode cL_law 858 = .ok (.iadd, 1) := dk_96 (dk_at dksL_law_34 9 rfl rfl)
theorem dL_law_859 : decode cL_law 859 = .ok (.iaload, 1) := dk_46 (dk_at dksL_law_34 10 rfl rfl)
theorem dL_law_860 : decode cL_law 860 = .ok (.aload_n 0, 1) := dk_42 (dk_at dksL_law_34 11 rfl rfl)
theorem dL_law_861 : decode cL_law 861 = .ok (.iload_n 3, 1) := dk_29 (dk_at dksL_law_34 12 rfl rfl)
theorem dL_law_862 : decode cL_law 862 = .ok (.iconst 2, 1) := dk_5 (dk_at dksL_law_34 13 rfl rfl)
theorem dL_law_863 : decode cL_law 863 = .ok (.iadd, 1) := dk_96 (dk_at dksL_law_34 14 rfl rfl)
theorem dL_law_864 : decode cL_law 864 = .ok (.iaload, 1) := dk_46 (dk_at dksL_law_34 15 rfl rfl)
theorem dL_law_865 : decode cL_law 865 = .ok (.aload_n 0, 1) := dk_42 (dk_at dksL_law_34 16 rfl rfl)
theorem dL_law_866 : decode cL_law 866 = .ok (.iload_n 3, 1) := dk_29 (dk_at dksL_law_34 17 rfl rfl)
theorem dL_law_867 : decode cL_law 867 = .ok (.iconst 3, 1) := dk_6 (dk_at dksL_law_34 18 rfl rfl)
theorem dL_law_868 : decode cL_law 868 = .ok (.iadd, 1) := dk_96 (dk_at dksL_law_34 19 rfl rfl)
theorem dL_law_869 : decode cL_law 869 = .ok (.iaload, 1) := dk_46 (dk_at dksL_law_34 20 rfl rfl)
theorem dL_law_870 : decode cL_law 870 = .ok (.aload_n 0, 1) := dk_42 (dk_at dksL_law_34 21 rfl rfl)
theorem dL_law_871 : decode cL_law 871 = .ok (.iload_n 3, 1) := dk_29 (dk_at dksL_law_34 22 rfl rfl)
theorem dL_law_872 : decode cL_law 872 = .ok (.iconst 4, 1) := dk_7 (dk_at dksL_law_34 23 rfl rfl)
theorem dL_law_873 : decode cL_law 873 = .ok (.iadd, 1) := dk_96 (dk_at dksL_law_35 0 rfl rfl)
theorem dL_law_874 : decode cL_law 874 = .ok (.iaload, 1) := dk_46 (dk_at dksL_law_35 1 rfl rfl)
theorem dL_law_875 : decode cL_law 875 = .ok (.invokevirtual 84, 3) := dk_182 0 84 (dk_at dksL_law_35 2 rfl rfl)
theorem dL_law_878 : decode cL_law 878 = .ok (.aload_n 2, 1) := dk_44 (dk_at dksL_law_35 5 rfl rfl)
theorem dL_law_879 : decode cL_law 879 = .ok (.aload_n 0, 1) := dk_42 (dk_at dksL_law_35 6 rfl rfl)
theorem dL_law_880 : decode cL_law 880 = .ok (.iload_n 3, 1) := dk_29 (dk_at dksL_law_35 7 rfl rfl)
theorem dL_law_881 : decode cL_law 881 = .ok (.iconst 1, 1) := dk_4 (dk_at dksL_law_35 8 rfl rfl)
theorem dL_law_882 : decode cL_law 882 = .ok (.iadd, 1) := dk_96 (dk_at dksL_law_35 9 rfl rfl)
theorem dL_law_883 : decode cL_law 883 = .ok (.iaload, 1) := dk_46 (dk_at dksL_law_35 10 rfl rfl)
theorem dL_law_884 : decode cL_law 884 = .ok (.aload_n 0, 1) := dk_42 (dk_at dksL_law_35 11 rfl rfl)
theorem dL_law_885 : decode cL_law 885 = .ok (.iload_n 3, 1) := dk_29 (dk_at dksL_law_35 12 rfl rfl)
theorem dL_law_886 : decode cL_law 886 = .ok (.iconst 2, 1) := dk_5 (dk_at dksL_law_35 13 rfl rfl)
theorem dL_law_887 : decode cL_law 887 = .ok (.iadd, 1) := dk_96 (dk_at dksL_law_35 14 rfl rfl)
theorem dL_law_888 : decode cL_law 888 = .ok (.iaload, 1) := dk_46 (dk_at dksL_law_35 15 rfl rfl)
theorem dL_law_889 : decode cL_law 889 = .ok (.aload_n 0, 1) := dk_42 (dk_at dksL_law_35 16 rfl rfl)
theorem dL_law_890 : decode cL_law 890 = .ok (.iload_n 3, 1) := dk_29 (dk_at dksL_law_35 17 rfl rfl)
theorem dL_law_891 : decode cL_law 891 = .ok (.iconst 3, 1) := dk_6 (dk_at dksL_law_35 18 rfl rfl)
theorem dL_law_892 : decode cL_law 892 = .ok (.iadd, 1) := dk_96 (dk_at dksL_law_35 19 rfl rfl)
theorem dL_law_893 : decode cL_law 893 = .ok (.iaload, 1) := dk_46 (dk_at dksL_law_35 20 rfl rfl)
theorem dL_law_894 : decode cL_law 894 = .ok (.aload_n 0, 1) := dk_42 (dk_at dksL_law_35 21 rfl rfl)
theorem dL_law_895 : decode cL_law 895 = .ok (.iload_n 3, 1) := dk_29 (dk_at dksL_law_35 22 rfl rfl)
theorem dL_law_896 : decode cL_law 896 = .ok (.iconst 4, 1) := dk_7 (dk_at dksL_law_35 23 rfl rfl)
theorem dL_law_897 : decode cL_law 897 = .ok (.iadd, 1) := dk_96 (dk_at dksL_law_36 0 rfl rfl)
theorem dL_law_898 : decode cL_law 898 = .ok (.iaload, 1) := dk_46 (dk_at dksL_law_36 1 rfl rfl)
theorem dL_law_899 : decode cL_law 899 = .ok (.invokevirtual 88, 3) := dk_182 0 88 (dk_at dksL_law_36 2 rfl rfl)
theorem dL_law_902 : decode cL_law 902 = .ok (.if_icmp .eq 18, 3) := dk_159 0 18 (dk_at dksL_law_36 5 rfl rfl)
theorem dL_law_905 : decode cL_law 905 = .ok (.iconst 0, 1) := dk_3 (dk_at dksL_law_36 8 rfl rfl)
theorem dL_law_906 : decode cL_law 906 = .ok (.ireturn, 1) := dk_172 (dk_at dksL_law_36 9 rfl rfl)
theorem dL_law_907 : decode cL_law 907 = .ok (.aload_n 1, 1) := dk_43 (dk_at dksL_law_36 10 rfl rfl)
theorem dL_law_908 : decode cL_law 908 = .ok (.invokevirtual 89, 3) := dk_182 0 89 (dk_at dksL_law_36 11 rfl rfl)
theorem dL_law_911 : decode cL_law 911 = .ok (.aload_n 2, 1) := dk_44 (dk_at dksL_law_36 14 rfl rfl)
theorem dL_law_912 : decode cL_law 912 = .ok (.invokevirtual 93, 3) := dk_182 0 93 (dk_at dksL_law_36 15 rfl rfl)
theorem dL_law_915 : decode cL_law 915 = .ok (.if_icmp .eq 5, 3) := dk_159 0 5 (dk_at dksL_law_36 18 rfl rfl)
theorem dL_law_918 : decode cL_law 918 = .ok (.iconst 0, 1) := dk_3 (dk_at dksL_law_36 21 rfl rfl)
theorem dL_law_919 : decode cL_law 919 = .ok (.ireturn, 1) := dk_172 (dk_at dksL_law_36 22 rfl rfl)
theorem dL_law_920 : decode cL_law 920 = .ok (.iinc 3 8, 3) := dk_132 3 8 (dk_at dksL_law_37 0 rfl rfl)
theorem dL_law_923 : decode cL_law 923 = .ok (.goto (-905), 3) := dk_167 252 119 (dk_at dksL_law_37 3 rfl rfl)
theorem dL_law_926 : decode cL_law 926 = .ok (.iconst 1, 1) := dk_4 (dk_at dksL_law_37 6 rfl rfl)
theorem dL_law_927 : decode cL_law 927 = .ok (.ireturn, 1) := dk_172 (dk_at dksL_law_37 7 rfl rfl)

/-! ColumnHouse$Fault -/
set_option maxRecDepth 100000
abbrev cX1_init : ByteArray := prog_4_method_1_code
def yX1_init : MethodName := ⟨RX1, "<init>", "()V"⟩
def dkwX1_init_0 : List UInt8 := [42, 183, 0, 3, 42, 2, 181, 0, 9, 42, 2, 181, 0, 15, 177]
abbrev dktX1_init_0 : List UInt8 := dkwX1_init_0 ++ []
theorem dksX1_init_0 : cX1_init.data.toList.drop 0 = dktX1_init_0 := by decide +kernel
theorem dX1_init_0 : decode cX1_init 0 = .ok (.aload_n 0, 1) := dk_42 (dk_at dksX1_init_0 0 rfl rfl)
theorem dX1_init_1 : decode cX1_init 1 = .ok (.invokespecial 3, 3) := dk_183 0 3 (dk_at dksX1_init_0 1 rfl rfl)
theorem dX1_init_4 : decode cX1_init 4 = .ok (.aload_n 0, 1) := dk_42 (dk_at dksX1_init_0 4 rfl rfl)
theorem dX1_init_5 : decode cX1_init 5 = .ok (.iconst (-1), 1) := dk_2 (dk_at dksX1_init_0 5 rfl rfl)
theorem dX1_init_6 : decode cX1_init 6 = .ok (.putfield 9, 3) := dk_181 0 9 (dk_at dksX1_init_0 6 rfl rfl)
theorem dX1_init_9 : decode cX1_init 9 = .ok (.aload_n 0, 1) := dk_42 (dk_at dksX1_init_0 9 rfl rfl)
theorem dX1_init_10 : decode cX1_init 10 = .ok (.iconst (-1), 1) := dk_2 (dk_at dksX1_init_0 10 rfl rfl)
theorem dX1_init_11 : decode cX1_init 11 = .ok (.putfield 15, 3) := dk_181 0 15 (dk_at dksX1_init_0 11 rfl rfl)
theorem dX1_init_14 : decode cX1_init 14 = .ok (.return_, 1) := dk_177 (dk_at dksX1_init_0 14 rfl rfl)
theorem q269 : (Jvm.Cond.initialized "ColumnHouse$Fault") ∈ lw_all := lw_g (lw_at lw_m1 5 rfl) rfl
theorem q306 : (Jvm.Cond.instantiable "ColumnHouse$Fault" (9 : Nat)) ∈ lw_all := lw_g (lw_at lw_m1 42 rfl) rfl
theorem q307 : (Jvm.Cond.castable "ColumnHouse$Fault" "ColumnHouse$Fault") ∈ lw_tbl := lw_at lw_m1 43 rfl
theorem q314 : (Jvm.Cond.selects "ColumnHouse$Fault" ({ cls := "java/lang/Throwable", name := "fillInStackTrace", desc := "(I)Ljava/lang/Throwable;" } : Jvm.MethodName) ({ cls := "java/lang/Throwable", name := "fillInStackTrace", desc := "(I)Ljava/lang/Throwable;" } : Jvm.MethodName)) ∈ lw_all := lw_g (lw_at lw_m1 50 rfl) rfl
theorem q315 : (Jvm.Cond.selects "ColumnHouse$Fault" ({ cls := "java/lang/Throwable", name := "fillInStackTrace", desc := "()Ljava/lang/Throwable;" } : Jvm.MethodName) ({ cls := "java/lang/Throwable", name := "fillInStackTrace", desc := "()Ljava/lang/Throwable;" } : Jvm.MethodName)) ∈ lw_all := lw_g (lw_at lw_m1 51 rfl) rfl
theorem q316 : (Jvm.Cond.lays "ColumnHouse$Fault" "java/lang/Throwable" "cause" "Ljava/lang/Throwable;") ∈ lw_all := lw_g (lw_at lw_m1 52 rfl) rfl
theorem q318 : (Jvm.Cond.lays "ColumnHouse$Fault" "java/lang/Throwable" "stackTrace" "[Ljava/lang/StackTraceElement;") ∈ lw_all := lw_g (lw_at lw_m1 54 rfl) rfl
theorem q320 : (Jvm.Cond.lays "ColumnHouse$Fault" "java/lang/Throwable" "suppressedExceptions" "Ljava/util/List;") ∈ lw_all := lw_g (lw_at lw_m1 56 rfl) rfl
theorem q322 : (Jvm.Cond.lays "ColumnHouse$Fault" "java/lang/Throwable" "detailMessage" "Ljava/lang/String;") ∈ lw_all := lw_g (lw_at lw_m1 58 rfl) rfl
theorem q324 : (Jvm.Cond.lays "ColumnHouse$Fault" "java/lang/Throwable" "backtrace" "Ljava/lang/Object;") ∈ lw_all := lw_g (lw_at lw_m1 60 rfl) rfl
theorem q364 : (Jvm.Cond.instanceMethod ({ cls := "ColumnHouse$Fault", name := "<init>", desc := "()V" } : Jvm.MethodName)) ∈ lw_all := lw_g (lw_at lw_m1 100 rfl) rfl
theorem q365 : (Jvm.Cond.code ({ cls := "ColumnHouse$Fault", name := "<init>", desc := "()V" } : Jvm.MethodName) prog_4_method_1_code (1 : Nat) (Option.none : Option Jvm.ClassFile.FieldType)) ∈ lw_all := lw_g (lw_at lw_m1 101 rfl) rfl
theorem q366 : (Jvm.Cond.methodLink "ColumnHouse$Fault" (3 : Nat) ({ cls := "java/lang/RuntimeException", name := "<init>", desc := "()V" } : Jvm.MethodName)) ∈ lw_all := lw_g (lw_at lw_m1 102 rfl) rfl
theorem q374 : (Jvm.Cond.fieldLink "ColumnHouse$Fault" (9 : Nat) "ColumnHouse$Fault" "place" "I") ∈ lw_all := lw_g (lw_at lw_m1 110 rfl) rfl
theorem q376 : (Jvm.Cond.fieldLink "ColumnHouse$Fault" (15 : Nat) "ColumnHouse$Fault" "row" "I") ∈ lw_all := lw_g (lw_at lw_m1 112 rfl) rfl
theorem q383 : (Jvm.Cond.lays "ColumnHouse$Fault" "ColumnHouse$Fault" "number" "I") ∈ lw_all := lw_g (lw_at lw_m1 119 rfl) rfl
theorem q384 : (Jvm.Cond.soleField "ColumnHouse$Fault" "number") ∈ lw_all := lw_g (lw_at lw_m1 120 rfl) rfl
theorem q385 : (Jvm.Cond.lays "ColumnHouse$Fault" "ColumnHouse$Fault" "place" "I") ∈ lw_all := lw_g (lw_at lw_m1 121 rfl) rfl
theorem q386 : (Jvm.Cond.soleField "ColumnHouse$Fault" "place") ∈ lw_all := lw_g (lw_at lw_m1 122 rfl) rfl
theorem q387 : (Jvm.Cond.lays "ColumnHouse$Fault" "ColumnHouse$Fault" "row" "I") ∈ lw_all := lw_g (lw_at lw_m1 123 rfl) rfl
theorem q388 : (Jvm.Cond.soleField "ColumnHouse$Fault" "row") ∈ lw_all := lw_g (lw_at lw_m1 124 rfl) rfl
theorem q393 : (Jvm.Cond.lays "ColumnHouse$Fault" "java/lang/Throwable" "depth" "I") ∈ lw_all := lw_g (lw_at lw_m1 129 rfl) rfl
theorem q396 : (Jvm.Cond.superclass "ColumnHouse$Fault" "java/lang/RuntimeException") ∈ lw_all := lw_g (lw_at lw_m1 132 rfl) rfl

/-! ColumnHouse$Table -/
set_option maxRecDepth 100000
abbrev cX2_init : ByteArray := prog_7_method_1_code
def yX2_init : MethodName := ⟨RX2, "<init>", "()V"⟩
def dkwX2_init_0 : List UInt8 := [42, 183, 0, 3, 42, 16, 16, 189, 0, 9, 181, 0, 11, 177]
abbrev dktX2_init_0 : List UInt8 := dkwX2_init_0 ++ []
theorem dksX2_init_0 : cX2_init.data.toList.drop 0 = dktX2_init_0 := by decide +kernel
theorem dX2_init_0 : decode cX2_init 0 = .ok (.aload_n 0, 1) := dk_42 (dk_at dksX2_init_0 0 rfl rfl)
theorem dX2_init_1 : decode cX2_init 1 = .ok (.invokespecial 3, 3) := dk_183 0 3 (dk_at dksX2_init_0 1 rfl rfl)
theorem dX2_init_4 : decode cX2_init 4 = .ok (.aload_n 0, 1) := dk_42 (dk_at dksX2_init_0 4 rfl rfl)
theorem dX2_init_5 : decode cX2_init 5 = .ok (.bipush 16, 2) := dk_16 16 (dk_at dksX2_init_0 5 rfl rfl)
theorem dX2_init_7 : decode cX2_init 7 = .ok (.anewarray 9, 3) := dk_189 0 9 (dk_at dksX2_init_0 7 rfl rfl)
theorem dX2_init_10 : decode cX2_init 10 = .ok (.putfield 11, 3) := dk_181 0 11 (dk_at dksX2_init_0 10 rfl rfl)
theorem dX2_init_13 : decode cX2_init 13 = .ok (.return_, 1) := dk_177 (dk_at dksX2_init_0 13 rfl rfl)
abbrev cX2_begin : ByteArray := prog_7_method_2_code
def yX2_begin : MethodName := ⟨RX2, "begin", "(I)V"⟩
def dkwX2_begin_0 : List UInt8 := [42, 27, 181, 0, 17, 42, 3, 181, 0, 21, 177]
abbrev dktX2_begin_0 : List UInt8 := dkwX2_begin_0 ++ []
theorem dksX2_begin_0 : cX2_begin.data.toList.drop 0 = dktX2_begin_0 := by decide +kernel
theorem dX2_begin_0 : decode cX2_begin 0 = .ok (.aload_n 0, 1) := dk_42 (dk_at dksX2_begin_0 0 rfl rfl)
theorem dX2_begin_1 : decode cX2_begin 1 = .ok (.iload_n 1, 1) := dk_27 (dk_at dksX2_begin_0 1 rfl rfl)
theorem dX2_begin_2 : decode cX2_begin 2 = .ok (.putfield 17, 3) := dk_181 0 17 (dk_at dksX2_begin_0 2 rfl rfl)
theorem dX2_begin_5 : decode cX2_begin 5 = .ok (.aload_n 0, 1) := dk_42 (dk_at dksX2_begin_0 5 rfl rfl)
theorem dX2_begin_6 : decode cX2_begin 6 = .ok (.iconst 0, 1) := dk_3 (dk_at dksX2_begin_0 6 rfl rfl)
theorem dX2_begin_7 : decode cX2_begin 7 = .ok (.putfield 21, 3) := dk_181 0 21 (dk_at dksX2_begin_0 7 rfl rfl)
theorem dX2_begin_10 : decode cX2_begin 10 = .ok (.return_, 1) := dk_177 (dk_at dksX2_begin_0 10 rfl rfl)
abbrev cX2_add : ByteArray := prog_7_method_3_code
def yX2_add : MethodName := ⟨RX2, "add", "(LColumnHouse$Column;)V"⟩
def dkwX2_add_0 : List UInt8 := [42, 180, 0, 11, 42, 180, 0, 21, 43, 83, 42, 89, 180, 0, 21, 4, 96, 181, 0, 21, 177]
abbrev dktX2_add_0 : List UInt8 := dkwX2_add_0 ++ []
theorem dksX2_add_0 : cX2_add.data.toList.drop 0 = dktX2_add_0 := by decide +kernel
theorem dX2_add_0 : decode cX2_add 0 = .ok (.aload_n 0, 1) := dk_42 (dk_at dksX2_add_0 0 rfl rfl)
theorem dX2_add_1 : decode cX2_add 1 = .ok (.getfield 11, 3) := dk_180 0 11 (dk_at dksX2_add_0 1 rfl rfl)
theorem dX2_add_4 : decode cX2_add 4 = .ok (.aload_n 0, 1) := dk_42 (dk_at dksX2_add_0 4 rfl rfl)
theorem dX2_add_5 : decode cX2_add 5 = .ok (.getfield 21, 3) := dk_180 0 21 (dk_at dksX2_add_0 5 rfl rfl)
theorem dX2_add_8 : decode cX2_add 8 = .ok (.aload_n 1, 1) := dk_43 (dk_at dksX2_add_0 8 rfl rfl)
theorem dX2_add_9 : decode cX2_add 9 = .ok (.aastore, 1) := dk_83 (dk_at dksX2_add_0 9 rfl rfl)
theorem dX2_add_10 : decode cX2_add 10 = .ok (.aload_n 0, 1) := dk_42 (dk_at dksX2_add_0 10 rfl rfl)
theorem dX2_add_11 : decode cX2_add 11 = .ok (.dup, 1) := dk_89 (dk_at dksX2_add_0 11 rfl rfl)
theorem dX2_add_12 : decode cX2_add 12 = .ok (.getfield 21, 3) := dk_180 0 21 (dk_at dksX2_add_0 12 rfl rfl)
theorem dX2_add_15 : decode cX2_add 15 = .ok (.iconst 1, 1) := dk_4 (dk_at dksX2_add_0 15 rfl rfl)
theorem dX2_add_16 : decode cX2_add 16 = .ok (.iadd, 1) := dk_96 (dk_at dksX2_add_0 16 rfl rfl)
theorem dX2_add_17 : decode cX2_add 17 = .ok (.putfield 21, 3) := dk_181 0 21 (dk_at dksX2_add_0 17 rfl rfl)
theorem dX2_add_20 : decode cX2_add 20 = .ok (.return_, 1) := dk_177 (dk_at dksX2_add_0 20 rfl rfl)
abbrev cX2_has : ByteArray := prog_7_method_4_code
def yX2_has : MethodName := ⟨RX2, "has", "(I)Z"⟩
def dkwX2_has_0 : List UInt8 := [27, 155, 0, 15, 27, 42, 180, 0, 21, 162, 0, 7, 4, 167, 0, 4, 3, 172]
abbrev dktX2_has_0 : List UInt8 := dkwX2_has_0 ++ []
theorem dksX2_has_0 : cX2_has.data.toList.drop 0 = dktX2_has_0 := by decide +kernel
theorem dX2_has_0 : decode cX2_has 0 = .ok (.iload_n 1, 1) := dk_27 (dk_at dksX2_has_0 0 rfl rfl)
theorem dX2_has_1 : decode cX2_has 1 = .ok (.ifCond .lt 15, 3) := dk_155 0 15 (dk_at dksX2_has_0 1 rfl rfl)
theorem dX2_has_4 : decode cX2_has 4 = .ok (.iload_n 1, 1) := dk_27 (dk_at dksX2_has_0 4 rfl rfl)
theorem dX2_has_5 : decode cX2_has 5 = .ok (.aload_n 0, 1) := dk_42 (dk_at dksX2_has_0 5 rfl rfl)
theorem dX2_has_6 : decode cX2_has 6 = .ok (.getfield 21, 3) := dk_180 0 21 (dk_at dksX2_has_0 6 rfl rfl)
theorem dX2_has_9 : decode cX2_has 9 = .ok (.if_icmp .ge 7, 3) := dk_162 0 7 (dk_at dksX2_has_0 9 rfl rfl)
theorem dX2_has_12 : decode cX2_has 12 = .ok (.iconst 1, 1) := dk_4 (dk_at dksX2_has_0 12 rfl rfl)
theorem dX2_has_13 : decode cX2_has 13 = .ok (.goto 4, 3) := dk_167 0 4 (dk_at dksX2_has_0 13 rfl rfl)
theorem dX2_has_16 : decode cX2_has 16 = .ok (.iconst 0, 1) := dk_3 (dk_at dksX2_has_0 16 rfl rfl)
theorem dX2_has_17 : decode cX2_has 17 = .ok (.ireturn, 1) := dk_172 (dk_at dksX2_has_0 17 rfl rfl)
abbrev cX2_takes : ByteArray := prog_7_method_6_code
def yX2_takes : MethodName := ⟨RX2, "takes", "(LColumnHouse$Table;)V"⟩
def dkwX2_takes_1 : List UInt8 := [162, 0, 21, 42, 180, 0, 11, 28, 43, 180, 0, 11, 28, 50, 83, 132, 2, 1, 167, 255, 233, 177]
abbrev dktX2_takes_1 : List UInt8 := dkwX2_takes_1 ++ []
def dkwX2_takes_0 : List UInt8 := [42, 43, 180, 0, 17, 181, 0, 17, 42, 43, 180, 0, 21, 181, 0, 21, 3, 61, 28, 42, 180, 0, 21]
abbrev dktX2_takes_0 : List UInt8 := dkwX2_takes_0 ++ dktX2_takes_1
theorem dksX2_takes_0 : cX2_takes.data.toList.drop 0 = dktX2_takes_0 := by decide +kernel
theorem dksX2_takes_1 : cX2_takes.data.toList.drop 23 = dktX2_takes_1 := dk_seg dksX2_takes_0 23 rfl rfl
theorem dX2_takes_0 : decode cX2_takes 0 = .ok (.aload_n 0, 1) := dk_42 (dk_at dksX2_takes_0 0 rfl rfl)
theorem dX2_takes_1 : decode cX2_takes 1 = .ok (.aload_n 1, 1) := dk_43 (dk_at dksX2_takes_0 1 rfl rfl)
theorem dX2_takes_2 : decode cX2_takes 2 = .ok (.getfield 17, 3) := dk_180 0 17 (dk_at dksX2_takes_0 2 rfl rfl)
theorem dX2_takes_5 : decode cX2_takes 5 = .ok (.putfield 17, 3) := dk_181 0 17 (dk_at dksX2_takes_0 5 rfl rfl)
theorem dX2_takes_8 : decode cX2_takes 8 = .ok (.aload_n 0, 1) := dk_42 (dk_at dksX2_takes_0 8 rfl rfl)
theorem dX2_takes_9 : decode cX2_takes 9 = .ok (.aload_n 1, 1) := dk_43 (dk_at dksX2_takes_0 9 rfl rfl)
theorem dX2_takes_10 : decode cX2_takes 10 = .ok (.getfield 21, 3) := dk_180 0 21 (dk_at dksX2_takes_0 10 rfl rfl)
theorem dX2_takes_13 : decode cX2_takes 13 = .ok (.putfield 21, 3) := dk_181 0 21 (dk_at dksX2_takes_0 13 rfl rfl)
theorem dX2_takes_16 : decode cX2_takes 16 = .ok (.iconst 0, 1) := dk_3 (dk_at dksX2_takes_0 16 rfl rfl)
theorem dX2_takes_17 : decode cX2_takes 17 = .ok (.istore_n 2, 1) := dk_61 (dk_at dksX2_takes_0 17 rfl rfl)
theorem dX2_takes_18 : decode cX2_takes 18 = .ok (.iload_n 2, 1) := dk_28 (dk_at dksX2_takes_0 18 rfl rfl)
theorem dX2_takes_19 : decode cX2_takes 19 = .ok (.aload_n 0, 1) := dk_42 (dk_at dksX2_takes_0 19 rfl rfl)
theorem dX2_takes_20 : decode cX2_takes 20 = .ok (.getfield 21, 3) := dk_180 0 21 (dk_at dksX2_takes_0 20 rfl rfl)
theorem dX2_takes_23 : decode cX2_takes 23 = .ok (.if_icmp .ge 21, 3) := dk_162 0 21 (dk_at dksX2_takes_1 0 rfl rfl)
theorem dX2_takes_26 : decode cX2_takes 26 = .ok (.aload_n 0, 1) := dk_42 (dk_at dksX2_takes_1 3 rfl rfl)
theorem dX2_takes_27 : decode cX2_takes 27 = .ok (.getfield 11, 3) := dk_180 0 11 (dk_at dksX2_takes_1 4 rfl rfl)
theorem dX2_takes_30 : decode cX2_takes 30 = .ok (.iload_n 2, 1) := dk_28 (dk_at dksX2_takes_1 7 rfl rfl)
theorem dX2_takes_31 : decode cX2_takes 31 = .ok (.aload_n 1, 1) := dk_43 (dk_at dksX2_takes_1 8 rfl rfl)
theorem dX2_takes_32 : decode cX2_takes 32 = .ok (.getfield 11, 3) := dk_180 0 11 (dk_at dksX2_takes_1 9 rfl rfl)
theorem dX2_takes_35 : decode cX2_takes 35 = .ok (.iload_n 2, 1) := dk_28 (dk_at dksX2_takes_1 12 rfl rfl)
theorem dX2_takes_36 : decode cX2_takes 36 = .ok (.aaload, 1) := dk_50 (dk_at dksX2_takes_1 13 rfl rfl)
theorem dX2_takes_37 : decode cX2_takes 37 = .ok (.aastore, 1) := dk_83 (dk_at dksX2_takes_1 14 rfl rfl)
theorem dX2_takes_38 : decode cX2_takes 38 = .ok (.iinc 2 1, 3) := dk_132 2 1 (dk_at dksX2_takes_1 15 rfl rfl)
theorem dX2_takes_41 : decode cX2_takes 41 = .ok (.goto (-23), 3) := dk_167 255 233 (dk_at dksX2_takes_1 18 rfl rfl)
theorem dX2_takes_44 : decode cX2_takes 44 = .ok (.return_, 1) := dk_177 (dk_at dksX2_takes_1 21 rfl rfl)
abbrev cX2_price : ByteArray := prog_7_method_5_code
def yX2_price : MethodName := ⟨RX2, "price", "()I"⟩
def dkwX2_price_1 : List UInt8 := [132, 2, 1, 167, 255, 233, 27, 172]
abbrev dktX2_price_1 : List UInt8 := dkwX2_price_1 ++ []
def dkwX2_price_0 : List UInt8 := [3, 60, 3, 61, 28, 42, 180, 0, 21, 162, 0, 21, 27, 42, 180, 0, 11, 28, 50, 182, 0, 24, 96, 60]
abbrev dktX2_price_0 : List UInt8 := dkwX2_price_0 ++ dktX2_price_1
theorem dksX2_price_0 : cX2_price.data.toList.drop 0 = dktX2_price_0 := by decide +kernel
theorem dksX2_price_1 : cX2_price.data.toList.drop 24 = dktX2_price_1 := dk_seg dksX2_price_0 24 rfl rfl
theorem dX2_price_0 : decode cX2_price 0 = .ok (.iconst 0, 1) := dk_3 (dk_at dksX2_price_0 0 rfl rfl)
theorem dX2_price_1 : decode cX2_price 1 = .ok (.istore_n 1, 1) := dk_60 (dk_at dksX2_price_0 1 rfl rfl)
theorem dX2_price_2 : decode cX2_price 2 = .ok (.iconst 0, 1) := dk_3 (dk_at dksX2_price_0 2 rfl rfl)
theorem dX2_price_3 : decode cX2_price 3 = .ok (.istore_n 2, 1) := dk_61 (dk_at dksX2_price_0 3 rfl rfl)
theorem dX2_price_4 : decode cX2_price 4 = .ok (.iload_n 2, 1) := dk_28 (dk_at dksX2_price_0 4 rfl rfl)
theorem dX2_price_5 : decode cX2_price 5 = .ok (.aload_n 0, 1) := dk_42 (dk_at dksX2_price_0 5 rfl rfl)
theorem dX2_price_6 : decode cX2_price 6 = .ok (.getfield 21, 3) := dk_180 0 21 (dk_at dksX2_price_0 6 rfl rfl)
theorem dX2_price_9 : decode cX2_price 9 = .ok (.if_icmp .ge 21, 3) := dk_162 0 21 (dk_at dksX2_price_0 9 rfl rfl)
theorem dX2_price_12 : decode cX2_price 12 = .ok (.iload_n 1, 1) := dk_27 (dk_at dksX2_price_0 12 rfl rfl)
theorem dX2_price_13 : decode cX2_price 13 = .ok (.aload_n 0, 1) := dk_42 (dk_at dksX2_price_0 13 rfl rfl)
theorem dX2_price_14 : decode cX2_price 14 = .ok (.getfield 11, 3) := dk_180 0 11 (dk_at dksX2_price_0 14 rfl rfl)
theorem dX2_price_17 : decode cX2_price 17 = .ok (.iload_n 2, 1) := dk_28 (dk_at dksX2_price_0 17 rfl rfl)
theorem dX2_price_18 : decode cX2_price 18 = .ok (.aaload, 1) := dk_50 (dk_at dksX2_price_0 18 rfl rfl)
theorem dX2_price_19 : decode cX2_price 19 = .ok (.invokevirtual 24, 3) := dk_182 0 24 (dk_at dksX2_price_0 19 rfl rfl)
theorem dX2_price_22 : decode cX2_price 22 = .ok (.iadd, 1) := dk_96 (dk_at dksX2_price_0 22 rfl rfl)
theorem dX2_price_23 : decode cX2_price 23 = .ok (.istore_n 1, 1) := dk_60 (dk_at dksX2_price_0 23 rfl rfl)
theorem dX2_price_24 : decode cX2_price 24 = .ok (.iinc 2 1, 3) := dk_132 2 1 (dk_at dksX2_price_1 0 rfl rfl)
theorem dX2_price_27 : decode cX2_price 27 = .ok (.goto (-23), 3) := dk_167 255 233 (dk_at dksX2_price_1 3 rfl rfl)
theorem dX2_price_30 : decode cX2_price 30 = .ok (.iload_n 1, 1) := dk_27 (dk_at dksX2_price_1 6 rfl rfl)
theorem dX2_price_31 : decode cX2_price 31 = .ok (.ireturn, 1) := dk_172 (dk_at dksX2_price_1 7 rfl rfl)
theorem q270 : (Jvm.Cond.initialized "ColumnHouse$Table") ∈ lw_all := lw_g (lw_at lw_m1 6 rfl) rfl
theorem q397 : (Jvm.Cond.instantiable "ColumnHouse$Table" (3 : Nat)) ∈ lw_all := lw_g (lw_at lw_m1 133 rfl) rfl
theorem q399 : (Jvm.Cond.instanceMethod ({ cls := "ColumnHouse$Table", name := "<init>", desc := "()V" } : Jvm.MethodName)) ∈ lw_all := lw_g (lw_at lw_m1 135 rfl) rfl
theorem q400 : (Jvm.Cond.code ({ cls := "ColumnHouse$Table", name := "<init>", desc := "()V" } : Jvm.MethodName) prog_7_method_1_code (1 : Nat) (Option.none : Option Jvm.ClassFile.FieldType)) ∈ lw_all := lw_g (lw_at lw_m1 136 rfl) rfl
theorem q401 : (Jvm.Cond.methodLink "ColumnHouse$Table" (3 : Nat) ({ cls := "java/lang/Object", name := "<init>", desc := "()V" } : Jvm.MethodName)) ∈ lw_all := lw_g (lw_at lw_m1 137 rfl) rfl
theorem q402 : (Jvm.Cond.classLink "ColumnHouse$Table" (9 : Nat) "ColumnHouse$Column") ∈ lw_all := lw_g (lw_at lw_m1 138 rfl) rfl
theorem q404 : (Jvm.Cond.fieldLink "ColumnHouse$Table" (17 : Nat) "ColumnHouse$Table" "rows" "I") ∈ lw_all := lw_g (lw_at lw_m1 140 rfl) rfl
theorem q406 : (Jvm.Cond.fieldLink "ColumnHouse$Table" (21 : Nat) "ColumnHouse$Table" "many" "I") ∈ lw_all := lw_g (lw_at lw_m1 142 rfl) rfl
theorem q408 : (Jvm.Cond.fieldLink "ColumnHouse$Table" (11 : Nat) "ColumnHouse$Table" "columns" "[LColumnHouse$Column;") ∈ lw_all := lw_g (lw_at lw_m1 144 rfl) rfl
theorem q410 : (Jvm.Cond.lays "ColumnHouse$Table" "ColumnHouse$Table" "rows" "I") ∈ lw_all := lw_g (lw_at lw_m1 146 rfl) rfl
theorem q411 : (Jvm.Cond.soleField "ColumnHouse$Table" "rows") ∈ lw_all := lw_g (lw_at lw_m1 147 rfl) rfl
theorem q412 : (Jvm.Cond.lays "ColumnHouse$Table" "ColumnHouse$Table" "many" "I") ∈ lw_all := lw_g (lw_at lw_m1 148 rfl) rfl
theorem q413 : (Jvm.Cond.soleField "ColumnHouse$Table" "many") ∈ lw_all := lw_g (lw_at lw_m1 149 rfl) rfl
theorem q414 : (Jvm.Cond.laysFinal "ColumnHouse$Table" "ColumnHouse$Table" "columns" "[LColumnHouse$Column;") ∈ lw_all := lw_g (lw_at lw_m1 150 rfl) rfl
theorem q415 : (Jvm.Cond.soleField "ColumnHouse$Table" "columns") ∈ lw_all := lw_g (lw_at lw_m1 151 rfl) rfl
theorem q416 : (Jvm.Cond.superclass "ColumnHouse$Table" "java/lang/Object") ∈ lw_all := lw_g (lw_at lw_m1 152 rfl) rfl
theorem q595 : (Jvm.Cond.instanceMethod ({ cls := "ColumnHouse$Table", name := "begin", desc := "(I)V" } : Jvm.MethodName)) ∈ lw_all := lw_g (lw_at lw_m2 91 rfl) rfl
theorem q596 : (Jvm.Cond.selects "ColumnHouse$Table" ({ cls := "ColumnHouse$Table", name := "begin", desc := "(I)V" } : Jvm.MethodName) ({ cls := "ColumnHouse$Table", name := "begin", desc := "(I)V" } : Jvm.MethodName)) ∈ lw_all := lw_g (lw_at lw_m2 92 rfl) rfl
theorem q597 : (Jvm.Cond.code ({ cls := "ColumnHouse$Table", name := "begin", desc := "(I)V" } : Jvm.MethodName) prog_7_method_2_code (2 : Nat) (Option.none : Option Jvm.ClassFile.FieldType)) ∈ lw_all := lw_g (lw_at lw_m2 93 rfl) rfl
theorem q680 : (Jvm.Cond.instanceMethod ({ cls := "ColumnHouse$Table", name := "add", desc := "(LColumnHouse$Column;)V" } : Jvm.MethodName)) ∈ lw_all := lw_g (lw_at lw_m2 176 rfl) rfl
theorem q681 : (Jvm.Cond.selects "ColumnHouse$Table" ({ cls := "ColumnHouse$Table", name := "add", desc := "(LColumnHouse$Column;)V" } : Jvm.MethodName) ({ cls := "ColumnHouse$Table", name := "add", desc := "(LColumnHouse$Column;)V" } : Jvm.MethodName)) ∈ lw_all := lw_g (lw_at lw_m2 177 rfl) rfl
theorem q682 : (Jvm.Cond.code ({ cls := "ColumnHouse$Table", name := "add", desc := "(LColumnHouse$Column;)V" } : Jvm.MethodName) prog_7_method_3_code (2 : Nat) (Option.none : Option Jvm.ClassFile.FieldType)) ∈ lw_all := lw_g (lw_at lw_m2 178 rfl) rfl
theorem q692 : (Jvm.Cond.instanceMethod ({ cls := "ColumnHouse$Table", name := "has", desc := "(I)Z" } : Jvm.MethodName)) ∈ lw_all := lw_g (lw_at lw_m2 188 rfl) rfl
theorem q693 : (Jvm.Cond.selects "ColumnHouse$Table" ({ cls := "ColumnHouse$Table", name := "has", desc := "(I)Z" } : Jvm.MethodName) ({ cls := "ColumnHouse$Table", name := "has", desc := "(I)Z" } : Jvm.MethodName)) ∈ lw_all := lw_g (lw_at lw_m2 189 rfl) rfl
theorem q694 : (Jvm.Cond.code ({ cls := "ColumnHouse$Table", name := "has", desc := "(I)Z" } : Jvm.MethodName) prog_7_method_4_code (2 : Nat) (Option.some Jvm.ClassFile.FieldType.boolean)) ∈ lw_all := lw_g (lw_at lw_m2 190 rfl) rfl
theorem q1226 : (Jvm.Cond.instanceMethod ({ cls := "ColumnHouse$Table", name := "takes", desc := "(LColumnHouse$Table;)V" } : Jvm.MethodName)) ∈ lw_all := lw_g (lw_at lw_m5 2 rfl) rfl
theorem q1227 : (Jvm.Cond.selects "ColumnHouse$Table" ({ cls := "ColumnHouse$Table", name := "takes", desc := "(LColumnHouse$Table;)V" } : Jvm.MethodName) ({ cls := "ColumnHouse$Table", name := "takes", desc := "(LColumnHouse$Table;)V" } : Jvm.MethodName)) ∈ lw_all := lw_g (lw_at lw_m5 3 rfl) rfl
theorem q1228 : (Jvm.Cond.code ({ cls := "ColumnHouse$Table", name := "takes", desc := "(LColumnHouse$Table;)V" } : Jvm.MethodName) prog_7_method_6_code (3 : Nat) (Option.none : Option Jvm.ClassFile.FieldType)) ∈ lw_all := lw_g (lw_at lw_m5 4 rfl) rfl
theorem q1246 : (Jvm.Cond.instanceMethod ({ cls := "ColumnHouse$Table", name := "price", desc := "()I" } : Jvm.MethodName)) ∈ lw_all := lw_g (lw_at lw_m5 22 rfl) rfl
theorem q1247 : (Jvm.Cond.selects "ColumnHouse$Table" ({ cls := "ColumnHouse$Table", name := "price", desc := "()I" } : Jvm.MethodName) ({ cls := "ColumnHouse$Table", name := "price", desc := "()I" } : Jvm.MethodName)) ∈ lw_all := lw_g (lw_at lw_m5 23 rfl) rfl
theorem q1248 : (Jvm.Cond.code ({ cls := "ColumnHouse$Table", name := "price", desc := "()I" } : Jvm.MethodName) prog_7_method_5_code (3 : Nat) (Option.some Jvm.ClassFile.FieldType.int)) ∈ lw_all := lw_g (lw_at lw_m5 24 rfl) rfl
theorem q1249 : (Jvm.Cond.methodLink "ColumnHouse$Table" (24 : Nat) ({ cls := "ColumnHouse$Column", name := "price", desc := "()I" } : Jvm.MethodName)) ∈ lw_all := lw_g (lw_at lw_m5 25 rfl) rfl

/-! ColumnHouse$Column -/
set_option maxRecDepth 100000
abbrev cX4_init : ByteArray := prog_3_method_1_code
def yX4_init : MethodName := ⟨RX4, "<init>", "(Ljava/lang/Object;)V"⟩
def dkwX4_init_0 : List UInt8 := [42, 183, 0, 3, 42, 43, 181, 0, 9, 42, 43, 181, 0, 15, 177]
abbrev dktX4_init_0 : List UInt8 := dkwX4_init_0 ++ []
theorem dksX4_init_0 : cX4_init.data.toList.drop 0 = dktX4_init_0 := by decide +kernel
theorem dX4_init_0 : decode cX4_init 0 = .ok (.aload_n 0, 1) := dk_42 (dk_at dksX4_init_0 0 rfl rfl)
theorem dX4_init_1 : decode cX4_init 1 = .ok (.invokespecial 3, 3) := dk_183 0 3 (dk_at dksX4_init_0 1 rfl rfl)
theorem dX4_init_4 : decode cX4_init 4 = .ok (.aload_n 0, 1) := dk_42 (dk_at dksX4_init_0 4 rfl rfl)
theorem dX4_init_5 : decode cX4_init 5 = .ok (.aload_n 1, 1) := dk_43 (dk_at dksX4_init_0 5 rfl rfl)
theorem dX4_init_6 : decode cX4_init 6 = .ok (.putfield 9, 3) := dk_181 0 9 (dk_at dksX4_init_0 6 rfl rfl)
theorem dX4_init_9 : decode cX4_init 9 = .ok (.aload_n 0, 1) := dk_42 (dk_at dksX4_init_0 9 rfl rfl)
theorem dX4_init_10 : decode cX4_init 10 = .ok (.aload_n 1, 1) := dk_43 (dk_at dksX4_init_0 10 rfl rfl)
theorem dX4_init_11 : decode cX4_init 11 = .ok (.putfield 15, 3) := dk_181 0 15 (dk_at dksX4_init_0 11 rfl rfl)
theorem dX4_init_14 : decode cX4_init 14 = .ok (.return_, 1) := dk_177 (dk_at dksX4_init_0 14 rfl rfl)
abbrev cX4_price : ByteArray := prog_3_method_5_code
def yX4_price : MethodName := ⟨RX4, "price", "()I"⟩
def dkwX4_price_0 : List UInt8 := [42, 182, 0, 40, 16, 8, 162, 0, 7, 4, 167, 0, 4, 7, 172]
abbrev dktX4_price_0 : List UInt8 := dkwX4_price_0 ++ []
theorem dksX4_price_0 : cX4_price.data.toList.drop 0 = dktX4_price_0 := by decide +kernel
theorem dX4_price_0 : decode cX4_price 0 = .ok (.aload_n 0, 1) := dk_42 (dk_at dksX4_price_0 0 rfl rfl)
theorem dX4_price_1 : decode cX4_price 1 = .ok (.invokevirtual 40, 3) := dk_182 0 40 (dk_at dksX4_price_0 1 rfl rfl)
theorem dX4_price_4 : decode cX4_price 4 = .ok (.bipush 8, 2) := dk_16 8 (dk_at dksX4_price_0 4 rfl rfl)
theorem dX4_price_6 : decode cX4_price 6 = .ok (.if_icmp .ge 7, 3) := dk_162 0 7 (dk_at dksX4_price_0 6 rfl rfl)
theorem dX4_price_9 : decode cX4_price 9 = .ok (.iconst 1, 1) := dk_4 (dk_at dksX4_price_0 9 rfl rfl)
theorem dX4_price_10 : decode cX4_price 10 = .ok (.goto 4, 3) := dk_167 0 4 (dk_at dksX4_price_0 10 rfl rfl)
theorem dX4_price_13 : decode cX4_price 13 = .ok (.iconst 4, 1) := dk_7 (dk_at dksX4_price_0 13 rfl rfl)
theorem dX4_price_14 : decode cX4_price 14 = .ok (.ireturn, 1) := dk_172 (dk_at dksX4_price_0 14 rfl rfl)
abbrev cX4_kind : ByteArray := prog_3_method_3_code
def yX4_kind : MethodName := ⟨RX4, "kind", "()I"⟩
def dkwX4_kind_5 : List UInt8 := [153, 0, 6, 16, 10, 172, 42, 180, 0, 9, 193, 0, 38, 153, 0, 8, 16, 8, 167, 0, 5, 16, 11, 172]
abbrev dktX4_kind_5 : List UInt8 := dkwX4_kind_5 ++ []
def dkwX4_kind_4 : List UInt8 := [16, 7, 172, 42, 180, 0, 9, 193, 0, 34, 153, 0, 6, 16, 9, 172, 42, 180, 0, 9, 193, 0, 36]
abbrev dktX4_kind_4 : List UInt8 := dkwX4_kind_4 ++ dktX4_kind_5
def dkwX4_kind_3 : List UInt8 := [42, 180, 0, 9, 193, 0, 30, 153, 0, 6, 16, 6, 172, 42, 180, 0, 9, 193, 0, 32, 153, 0, 6]
abbrev dktX4_kind_3 : List UInt8 := dkwX4_kind_3 ++ dktX4_kind_4
def dkwX4_kind_2 : List UInt8 := [42, 180, 0, 9, 193, 0, 26, 153, 0, 5, 7, 172, 42, 180, 0, 9, 193, 0, 28, 153, 0, 5, 8, 172]
abbrev dktX4_kind_2 : List UInt8 := dkwX4_kind_2 ++ dktX4_kind_3
def dkwX4_kind_1 : List UInt8 := [42, 180, 0, 9, 193, 0, 22, 153, 0, 5, 5, 172, 42, 180, 0, 9, 193, 0, 24, 153, 0, 5, 6, 172]
abbrev dktX4_kind_1 : List UInt8 := dkwX4_kind_1 ++ dktX4_kind_2
def dkwX4_kind_0 : List UInt8 := [42, 180, 0, 9, 193, 0, 18, 153, 0, 5, 3, 172, 42, 180, 0, 9, 193, 0, 20, 153, 0, 5, 4, 172]
abbrev dktX4_kind_0 : List UInt8 := dkwX4_kind_0 ++ dktX4_kind_1
theorem dksX4_kind_0 : cX4_kind.data.toList.drop 0 = dktX4_kind_0 := by decide +kernel
theorem dksX4_kind_1 : cX4_kind.data.toList.drop 24 = dktX4_kind_1 := dk_seg dksX4_kind_0 24 rfl rfl
theorem dksX4_kind_2 : cX4_kind.data.toList.drop 48 = dktX4_kind_2 := dk_seg dksX4_kind_1 24 rfl rfl
theorem dksX4_kind_3 : cX4_kind.data.toList.drop 72 = dktX4_kind_3 := dk_seg dksX4_kind_2 24 rfl rfl
theorem dksX4_kind_4 : cX4_kind.data.toList.drop 95 = dktX4_kind_4 := dk_seg dksX4_kind_3 23 rfl rfl
theorem dksX4_kind_5 : cX4_kind.data.toList.drop 118 = dktX4_kind_5 := dk_seg dksX4_kind_4 23 rfl rfl
theorem dX4_kind_0 : decode cX4_kind 0 = .ok (.aload_n 0, 1) := dk_42 (dk_at dksX4_kind_0 0 rfl rfl)
theorem dX4_kind_1 : decode cX4_kind 1 = .ok (.getfield 9, 3) := dk_180 0 9 (dk_at dksX4_kind_0 1 rfl rfl)
theorem dX4_kind_4 : decode cX4_kind 4 = .ok (.instanceof 18, 3) := dk_193 0 18 (dk_at dksX4_kind_0 4 rfl rfl)
theorem dX4_kind_7 : decode cX4_kind 7 = .ok (.ifCond .eq 5, 3) := dk_153 0 5 (dk_at dksX4_kind_0 7 rfl rfl)
theorem dX4_kind_10 : decode cX4_kind 10 = .ok (.iconst 0, 1) := dk_3 (dk_at dksX4_kind_0 10 rfl rfl)
theorem dX4_kind_11 : decode cX4_kind 11 = .ok (.ireturn, 1) := dk_172 (dk_at dksX4_kind_0 11 rfl rfl)
theorem dX4_kind_12 : decode cX4_kind 12 = .ok (.aload_n 0, 1) := dk_42 (dk_at dksX4_kind_0 12 rfl rfl)
theorem dX4_kind_13 : decode cX4_kind 13 = .ok (.getfield 9, 3) := dk_180 0 9 (dk_at dksX4_kind_0 13 rfl rfl)
theorem dX4_kind_16 : decode cX4_kind 16 = .ok (.instanceof 20, 3) := dk_193 0 20 (dk_at dksX4_kind_0 16 rfl rfl)
theorem dX4_kind_19 : decode cX4_kind 19 = .ok (.ifCond .eq 5, 3) := dk_153 0 5 (dk_at dksX4_kind_0 19 rfl rfl)
theorem dX4_kind_22 : decode cX4_kind 22 = .ok (.iconst 1, 1) := dk_4 (dk_at dksX4_kind_0 22 rfl rfl)
theorem dX4_kind_23 : decode cX4_kind 23 = .ok (.ireturn, 1) := dk_172 (dk_at dksX4_kind_0 23 rfl rfl)
theorem dX4_kind_24 : decode cX4_kind 24 = .ok (.aload_n 0, 1) := dk_42 (dk_at dksX4_kind_1 0 rfl rfl)
theorem dX4_kind_25 : decode cX4_kind 25 = .ok (.getfield 9, 3) := dk_180 0 9 (dk_at dksX4_kind_1 1 rfl rfl)
theorem dX4_kind_28 : decode cX4_kind 28 = .ok (.instanceof 22, 3) := dk_193 0 22 (dk_at dksX4_kind_1 4 rfl rfl)
theorem dX4_kind_31 : decode cX4_kind 31 = .ok (.ifCond .eq 5, 3) := dk_153 0 5 (dk_at dksX4_kind_1 7 rfl rfl)
theorem dX4_kind_34 : decode cX4_kind 34 = .ok (.iconst 2, 1) := dk_5 (dk_at dksX4_kind_1 10 rfl rfl)
theorem dX4_kind_35 : decode cX4_kind 35 = .ok (.ireturn, 1) := dk_172 (dk_at dksX4_kind_1 11 rfl rfl)
theorem dX4_kind_36 : decode cX4_kind 36 = .ok (.aload_n 0, 1) := dk_42 (dk_at dksX4_kind_1 12 rfl rfl)
theorem dX4_kind_37 : decode cX4_kind 37 = .ok (.getfield 9, 3) := dk_180 0 9 (dk_at dksX4_kind_1 13 rfl rfl)
theorem dX4_kind_40 : decode cX4_kind 40 = .ok (.instanceof 24, 3) := dk_193 0 24 (dk_at dksX4_kind_1 16 rfl rfl)
theorem dX4_kind_43 : decode cX4_kind 43 = .ok (.ifCond .eq 5, 3) := dk_153 0 5 (dk_at dksX4_kind_1 19 rfl rfl)
theorem dX4_kind_46 : decode cX4_kind 46 = .ok (.iconst 3, 1) := dk_6 (dk_at dksX4_kind_1 22 rfl rfl)
theorem dX4_kind_47 : decode cX4_kind 47 = .ok (.ireturn, 1) := dk_172 (dk_at dksX4_kind_1 23 rfl rfl)
theorem dX4_kind_48 : decode cX4_kind 48 = .ok (.aload_n 0, 1) := dk_42 (dk_at dksX4_kind_2 0 rfl rfl)
theorem dX4_kind_49 : decode cX4_kind 49 = .ok (.getfield 9, 3) := dk_180 0 9 (dk_at dksX4_kind_2 1 rfl rfl)
theorem dX4_kind_52 : decode cX4_kind 52 = .ok (.instanceof 26, 3) := dk_193 0 26 (dk_at dksX4_kind_2 4 rfl rfl)
theorem dX4_kind_55 : decode cX4_kind 55 = .ok (.ifCond .eq 5, 3) := dk_153 0 5 (dk_at dksX4_kind_2 7 rfl rfl)
theorem dX4_kind_58 : decode cX4_kind 58 = .ok (.iconst 4, 1) := dk_7 (dk_at dksX4_kind_2 10 rfl rfl)
theorem dX4_kind_59 : decode cX4_kind 59 = .ok (.ireturn, 1) := dk_172 (dk_at dksX4_kind_2 11 rfl rfl)
theorem dX4_kind_60 : decode cX4_kind 60 = .ok (.aload_n 0, 1) := dk_42 (dk_at dksX4_kind_2 12 rfl rfl)
theorem dX4_kind_61 : decode cX4_kind 61 = .ok (.getfield 9, 3) := dk_180 0 9 (dk_at dksX4_kind_2 13 rfl rfl)
theorem dX4_kind_64 : decode cX4_kind 64 = .ok (.instanceof 28, 3) := dk_193 0 28 (dk_at dksX4_kind_2 16 rfl rfl)
theorem dX4_kind_67 : decode cX4_kind 67 = .ok (.ifCond .eq 5, 3) := dk_153 0 5 (dk_at dksX4_kind_2 19 rfl rfl)
theorem dX4_kind_70 : decode cX4_kind 70 = .ok (.iconst 5, 1) := dk_8 (dk_at dksX4_kind_2 22 rfl rfl)
theorem dX4_kind_71 : decode cX4_kind 71 = .ok (.ireturn, 1) := dk_172 (dk_at dksX4_kind_2 23 rfl rfl)
theorem dX4_kind_72 : decode cX4_kind 72 = .ok (.aload_n 0, 1) := dk_42 (dk_at dksX4_kind_3 0 rfl rfl)
theorem dX4_kind_73 : decode cX4_kind 73 = .ok (.getfield 9, 3) := dk_180 0 9 (dk_at dksX4_kind_3 1 rfl rfl)
theorem dX4_kind_76 : decode cX4_kind 76 = .ok (.instanceof 30, 3) := dk_193 0 30 (dk_at dksX4_kind_3 4 rfl rfl)
theorem dX4_kind_79 : decode cX4_kind 79 = .ok (.ifCond .eq 6, 3) := dk_153 0 6 (dk_at dksX4_kind_3 7 rfl rfl)
theorem dX4_kind_82 : decode cX4_kind 82 = .ok (.bipush 6, 2) := dk_16 6 (dk_at dksX4_kind_3 10 rfl rfl)
theorem dX4_kind_84 : decode cX4_kind 84 = .ok (.ireturn, 1) := dk_172 (dk_at dksX4_kind_3 12 rfl rfl)
theorem dX4_kind_85 : decode cX4_kind 85 = .ok (.aload_n 0, 1) := dk_42 (dk_at dksX4_kind_3 13 rfl rfl)
theorem dX4_kind_86 : decode cX4_kind 86 = .ok (.getfield 9, 3) := dk_180 0 9 (dk_at dksX4_kind_3 14 rfl rfl)
theorem dX4_kind_89 : decode cX4_kind 89 = .ok (.instanceof 32, 3) := dk_193 0 32 (dk_at dksX4_kind_3 17 rfl rfl)
theorem dX4_kind_92 : decode cX4_kind 92 = .ok (.ifCond .eq 6, 3) := dk_153 0 6 (dk_at dksX4_kind_3 20 rfl rfl)
theorem dX4_kind_95 : decode cX4_kind 95 = .ok (.bipush 7, 2) := dk_16 7 (dk_at dksX4_kind_4 0 rfl rfl)
theorem dX4_kind_97 : decode cX4_kind 97 = .ok (.ireturn, 1) := dk_172 (dk_at dksX4_kind_4 2 rfl rfl)
theorem dX4_kind_98 : decode cX4_kind 98 = .ok (.aload_n 0, 1) := dk_42 (dk_at dksX4_kind_4 3 rfl rfl)
theorem dX4_kind_99 : decode cX4_kind 99 = .ok (.getfield 9, 3) := dk_180 0 9 (dk_at dksX4_kind_4 4 rfl rfl)
theorem dX4_kind_102 : decode cX4_kind 102 = .ok (.instanceof 34, 3) := dk_193 0 34 (dk_at dksX4_kind_4 7 rfl rfl)
theorem dX4_kind_105 : decode cX4_kind 105 = .ok (.ifCond .eq 6, 3) := dk_153 0 6 (dk_at dksX4_kind_4 10 rfl rfl)
theorem dX4_kind_108 : decode cX4_kind 108 = .ok (.bipush 9, 2) := dk_16 9 (dk_at dksX4_kind_4 13 rfl rfl)
theorem dX4_kind_110 : decode cX4_kind 110 = .ok (.ireturn, 1) := dk_172 (dk_at dksX4_kind_4 15 rfl rfl)
theorem dX4_kind_111 : decode cX4_kind 111 = .ok (.aload_n 0, 1) := dk_42 (dk_at dksX4_kind_4 16 rfl rfl)
theorem dX4_kind_112 : decode cX4_kind 112 = .ok (.getfield 9, 3) := dk_180 0 9 (dk_at dksX4_kind_4 17 rfl rfl)
theorem dX4_kind_115 : decode cX4_kind 115 = .ok (.instanceof 36, 3) := dk_193 0 36 (dk_at dksX4_kind_4 20 rfl rfl)
theorem dX4_kind_118 : decode cX4_kind 118 = .ok (.ifCond .eq 6, 3) := dk_153 0 6 (dk_at dksX4_kind_5 0 rfl rfl)
theorem dX4_kind_121 : decode cX4_kind 121 = .ok (.bipush 10, 2) := dk_16 10 (dk_at dksX4_kind_5 3 rfl rfl)
theorem dX4_kind_123 : decode cX4_kind 123 = .ok (.ireturn, 1) := dk_172 (dk_at dksX4_kind_5 5 rfl rfl)
theorem dX4_kind_124 : decode cX4_kind 124 = .ok (.aload_n 0, 1) := dk_42 (dk_at dksX4_kind_5 6 rfl rfl)
theorem dX4_kind_125 : decode cX4_kind 125 = .ok (.getfield 9, 3) := dk_180 0 9 (dk_at dksX4_kind_5 7 rfl rfl)
theorem dX4_kind_128 : decode cX4_kind 128 = .ok (.instanceof 38, 3) := dk_193 0 38 (dk_at dksX4_kind_5 10 rfl rfl)
theorem dX4_kind_131 : decode cX4_kind 131 = .ok (.ifCond .eq 8, 3) := dk_153 0 8 (dk_at dksX4_kind_5 13 rfl rfl)
theorem dX4_kind_134 : decode cX4_kind 134 = .ok (.bipush 8, 2) := dk_16 8 (dk_at dksX4_kind_5 16 rfl rfl)
theorem dX4_kind_136 : decode cX4_kind 136 = .ok (.goto 5, 3) := dk_167 0 5 (dk_at dksX4_kind_5 18 rfl rfl)
theorem dX4_kind_139 : decode cX4_kind 139 = .ok (.bipush 11, 2) := dk_16 11 (dk_at dksX4_kind_5 21 rfl rfl)
theorem dX4_kind_141 : decode cX4_kind 141 = .ok (.ireturn, 1) := dk_172 (dk_at dksX4_kind_5 23 rfl rfl)
abbrev cX4_isAway : ByteArray := prog_3_method_2_code
def yX4_isAway : MethodName := ⟨RX4, "isAway", "()Z"⟩
def dkwX4_isAway_0 : List UInt8 := [42, 180, 0, 15, 199, 0, 7, 4, 167, 0, 4, 3, 172]
abbrev dktX4_isAway_0 : List UInt8 := dkwX4_isAway_0 ++ []
theorem dksX4_isAway_0 : cX4_isAway.data.toList.drop 0 = dktX4_isAway_0 := by decide +kernel
theorem dX4_isAway_0 : decode cX4_isAway 0 = .ok (.aload_n 0, 1) := dk_42 (dk_at dksX4_isAway_0 0 rfl rfl)
theorem dX4_isAway_1 : decode cX4_isAway 1 = .ok (.getfield 15, 3) := dk_180 0 15 (dk_at dksX4_isAway_0 1 rfl rfl)
theorem dX4_isAway_4 : decode cX4_isAway 4 = .ok (.ifnonnull 7, 3) := dk_199 0 7 (dk_at dksX4_isAway_0 4 rfl rfl)
theorem dX4_isAway_7 : decode cX4_isAway 7 = .ok (.iconst 1, 1) := dk_4 (dk_at dksX4_isAway_0 7 rfl rfl)
theorem dX4_isAway_8 : decode cX4_isAway 8 = .ok (.goto 4, 3) := dk_167 0 4 (dk_at dksX4_isAway_0 8 rfl rfl)
theorem dX4_isAway_11 : decode cX4_isAway 11 = .ok (.iconst 0, 1) := dk_3 (dk_at dksX4_isAway_0 11 rfl rfl)
theorem dX4_isAway_12 : decode cX4_isAway 12 = .ok (.ireturn, 1) := dk_172 (dk_at dksX4_isAway_0 12 rfl rfl)
abbrev cX4_copied : ByteArray := prog_3_method_6_code
def yX4_copied : MethodName := ⟨RX4, "copied", "()LColumnHouse$Column;"⟩
def dkwX4_copied_1 : List UInt8 := [43, 176]
abbrev dktX4_copied_1 : List UInt8 := dkwX4_copied_1 ++ []
def dkwX4_copied_0 : List UInt8 := [187, 0, 10, 89, 42, 182, 0, 44, 183, 0, 48, 76, 42, 182, 0, 51, 153, 0, 8, 43, 1, 181, 0, 15]
abbrev dktX4_copied_0 : List UInt8 := dkwX4_copied_0 ++ dktX4_copied_1
theorem dksX4_copied_0 : cX4_copied.data.toList.drop 0 = dktX4_copied_0 := by decide +kernel
theorem dksX4_copied_1 : cX4_copied.data.toList.drop 24 = dktX4_copied_1 := dk_seg dksX4_copied_0 24 rfl rfl
theorem dX4_copied_0 : decode cX4_copied 0 = .ok (.new 10, 3) := dk_187 0 10 (dk_at dksX4_copied_0 0 rfl rfl)
theorem dX4_copied_3 : decode cX4_copied 3 = .ok (.dup, 1) := dk_89 (dk_at dksX4_copied_0 3 rfl rfl)
theorem dX4_copied_4 : decode cX4_copied 4 = .ok (.aload_n 0, 1) := dk_42 (dk_at dksX4_copied_0 4 rfl rfl)
theorem dX4_copied_5 : decode cX4_copied 5 = .ok (.invokevirtual 44, 3) := dk_182 0 44 (dk_at dksX4_copied_0 5 rfl rfl)
theorem dX4_copied_8 : decode cX4_copied 8 = .ok (.invokespecial 48, 3) := dk_183 0 48 (dk_at dksX4_copied_0 8 rfl rfl)
theorem dX4_copied_11 : decode cX4_copied 11 = .ok (.astore_n 1, 1) := dk_76 (dk_at dksX4_copied_0 11 rfl rfl)
theorem dX4_copied_12 : decode cX4_copied 12 = .ok (.aload_n 0, 1) := dk_42 (dk_at dksX4_copied_0 12 rfl rfl)
theorem dX4_copied_13 : decode cX4_copied 13 = .ok (.invokevirtual 51, 3) := dk_182 0 51 (dk_at dksX4_copied_0 13 rfl rfl)
theorem dX4_copied_16 : decode cX4_copied 16 = .ok (.ifCond .eq 8, 3) := dk_153 0 8 (dk_at dksX4_copied_0 16 rfl rfl)
theorem dX4_copied_19 : decode cX4_copied 19 = .ok (.aload_n 1, 1) := dk_43 (dk_at dksX4_copied_0 19 rfl rfl)
theorem dX4_copied_20 : decode cX4_copied 20 = .ok (.aconst_null, 1) := dk_1 (dk_at dksX4_copied_0 20 rfl rfl)
theorem dX4_copied_21 : decode cX4_copied 21 = .ok (.putfield 15, 3) := dk_181 0 15 (dk_at dksX4_copied_0 21 rfl rfl)
theorem dX4_copied_24 : decode cX4_copied 24 = .ok (.aload_n 1, 1) := dk_43 (dk_at dksX4_copied_1 0 rfl rfl)
theorem dX4_copied_25 : decode cX4_copied 25 = .ok (.areturn, 1) := dk_176 (dk_at dksX4_copied_1 1 rfl rfl)
abbrev cX4_copyOf : ByteArray := prog_3_method_7_code
def yX4_copyOf : MethodName := ⟨RX4, "copyOf", "()Ljava/lang/Object;"⟩
def dkwX4_copyOf_8 : List UInt8 := [176, 42, 180, 0, 9, 192, 0, 66, 182, 0, 68, 176]
abbrev dktX4_copyOf_8 : List UInt8 := dkwX4_copyOf_8 ++ []
def dkwX4_copyOf_7 : List UInt8 := [182, 0, 64, 176, 42, 180, 0, 9, 193, 0, 38, 153, 0, 14, 42, 180, 0, 9, 192, 0, 38, 182, 0, 65]
abbrev dktX4_copyOf_7 : List UInt8 := dkwX4_copyOf_7 ++ dktX4_copyOf_8
def dkwX4_copyOf_6 : List UInt8 := [192, 0, 30, 182, 0, 63, 176, 42, 180, 0, 9, 193, 0, 32, 153, 0, 14, 42, 180, 0, 9, 192, 0, 32]
abbrev dktX4_copyOf_6 : List UInt8 := dkwX4_copyOf_6 ++ dktX4_copyOf_7
def dkwX4_copyOf_5 : List UInt8 := [180, 0, 9, 192, 0, 28, 182, 0, 62, 176, 42, 180, 0, 9, 193, 0, 30, 153, 0, 14, 42, 180, 0, 9]
abbrev dktX4_copyOf_5 : List UInt8 := dkwX4_copyOf_5 ++ dktX4_copyOf_6
def dkwX4_copyOf_4 : List UInt8 := [42, 180, 0, 9, 192, 0, 26, 182, 0, 61, 176, 42, 180, 0, 9, 193, 0, 28, 153, 0, 14, 42]
abbrev dktX4_copyOf_4 : List UInt8 := dkwX4_copyOf_4 ++ dktX4_copyOf_5
def dkwX4_copyOf_3 : List UInt8 := [153, 0, 14, 42, 180, 0, 9, 192, 0, 24, 182, 0, 60, 176, 42, 180, 0, 9, 193, 0, 26, 153, 0, 14]
abbrev dktX4_copyOf_3 : List UInt8 := dkwX4_copyOf_3 ++ dktX4_copyOf_4
def dkwX4_copyOf_2 : List UInt8 := [193, 0, 22, 153, 0, 14, 42, 180, 0, 9, 192, 0, 22, 182, 0, 59, 176, 42, 180, 0, 9, 193, 0, 24]
abbrev dktX4_copyOf_2 : List UInt8 := dkwX4_copyOf_2 ++ dktX4_copyOf_3
def dkwX4_copyOf_1 : List UInt8 := [180, 0, 9, 193, 0, 20, 153, 0, 14, 42, 180, 0, 9, 192, 0, 20, 182, 0, 58, 176, 42, 180, 0, 9]
abbrev dktX4_copyOf_1 : List UInt8 := dkwX4_copyOf_1 ++ dktX4_copyOf_2
def dkwX4_copyOf_0 : List UInt8 := [42, 180, 0, 9, 193, 0, 18, 153, 0, 14, 42, 180, 0, 9, 192, 0, 18, 182, 0, 55, 176, 42]
abbrev dktX4_copyOf_0 : List UInt8 := dkwX4_copyOf_0 ++ dktX4_copyOf_1
theorem dksX4_copyOf_0 : cX4_copyOf.data.toList.drop 0 = dktX4_copyOf_0 := by decide +kernel
theorem dksX4_copyOf_1 : cX4_copyOf.data.toList.drop 22 = dktX4_copyOf_1 := dk_seg dksX4_copyOf_0 22 rfl rfl
theorem dksX4_copyOf_2 : cX4_copyOf.data.toList.drop 46 = dktX4_copyOf_2 := dk_seg dksX4_copyOf_1 24 rfl rfl
theorem dksX4_copyOf_3 : cX4_copyOf.data.toList.drop 70 = dktX4_copyOf_3 := dk_seg dksX4_copyOf_2 24 rfl rfl
theorem dksX4_copyOf_4 : cX4_copyOf.data.toList.drop 94 = dktX4_copyOf_4 := dk_seg dksX4_copyOf_3 24 rfl rfl
theorem dksX4_copyOf_5 : cX4_copyOf.data.toList.drop 116 = dktX4_copyOf_5 := dk_seg dksX4_copyOf_4 22 rfl rfl
theorem dksX4_copyOf_6 : cX4_copyOf.data.toList.drop 140 = dktX4_copyOf_6 := dk_seg dksX4_copyOf_5 24 rfl rfl
theorem dksX4_copyOf_7 : cX4_copyOf.data.toList.drop 164 = dktX4_copyOf_7 := dk_seg dksX4_copyOf_6 24 rfl rfl
theorem dksX4_copyOf_8 : cX4_copyOf.data.toList.drop 188 = dktX4_copyOf_8 := dk_seg dksX4_copyOf_7 24 rfl rfl
theorem dX4_copyOf_0 : decode cX4_copyOf 0 = .ok (.aload_n 0, 1) := dk_42 (dk_at dksX4_copyOf_0 0 rfl rfl)
theorem dX4_copyOf_1 : decode cX4_copyOf 1 = .ok (.getfield 9, 3) := dk_180 0 9 (dk_at dksX4_copyOf_0 1 rfl rfl)
theorem dX4_copyOf_4 : decode cX4_copyOf 4 = .ok (.instanceof 18, 3) := dk_193 0 18 (dk_at dksX4_copyOf_0 4 rfl rfl)
theorem dX4_copyOf_7 : decode cX4_copyOf 7 = .ok (.ifCond .eq 14, 3) := dk_153 0 14 (dk_at dksX4_copyOf_0 7 rfl rfl)
theorem dX4_copyOf_10 : decode cX4_copyOf 10 = .ok (.aload_n 0, 1) := dk_42 (dk_at dksX4_copyOf_0 10 rfl rfl)
theorem dX4_copyOf_11 : decode cX4_copyOf 11 = .ok (.getfield 9, 3) := dk_180 0 9 (dk_at dksX4_copyOf_0 11 rfl rfl)
theorem dX4_copyOf_14 : decode cX4_copyOf 14 = .ok (.checkcast 18, 3) := dk_192 0 18 (dk_at dksX4_copyOf_0 14 rfl rfl)
theorem dX4_copyOf_17 : decode cX4_copyOf 17 = .ok (.invokevirtual 55, 3) := dk_182 0 55 (dk_at dksX4_copyOf_0 17 rfl rfl)
theorem dX4_copyOf_20 : decode cX4_copyOf 20 = .ok (.areturn, 1) := dk_176 (dk_at dksX4_copyOf_0 20 rfl rfl)
theorem dX4_copyOf_21 : decode cX4_copyOf 21 = .ok (.aload_n 0, 1) := dk_42 (dk_at dksX4_copyOf_0 21 rfl rfl)
theorem dX4_copyOf_22 : decode cX4_copyOf 22 = .ok (.getfield 9, 3) := dk_180 0 9 (dk_at dksX4_copyOf_1 0 rfl rfl)
theorem dX4_copyOf_25 : decode cX4_copyOf 25 = .ok (.instanceof 20, 3) := dk_193 0 20 (dk_at dksX4_copyOf_1 3 rfl rfl)
theorem dX4_copyOf_28 : decode cX4_copyOf 28 = .ok (.ifCond .eq 14, 3) := dk_153 0 14 (dk_at dksX4_copyOf_1 6 rfl rfl)
theorem dX4_copyOf_31 : decode cX4_copyOf 31 = .ok (.aload_n 0, 1) := dk_42 (dk_at dksX4_copyOf_1 9 rfl rfl)
theorem dX4_copyOf_32 : decode cX4_copyOf 32 = .ok (.getfield 9, 3) := dk_180 0 9 (dk_at dksX4_copyOf_1 10 rfl rfl)
theorem dX4_copyOf_35 : decode cX4_copyOf 35 = .ok (.checkcast 20, 3) := dk_192 0 20 (dk_at dksX4_copyOf_1 13 rfl rfl)
theorem dX4_copyOf_38 : decode cX4_copyOf 38 = .ok (.invokevirtual 58, 3) := dk_182 0 58 (dk_at dksX4_copyOf_1 16 rfl rfl)
theorem dX4_copyOf_41 : decode cX4_copyOf 41 = .ok (.areturn, 1) := dk_176 (dk_at dksX4_copyOf_1 19 rfl rfl)
theorem dX4_copyOf_42 : decode cX4_copyOf 42 = .ok (.aload_n 0, 1) := dk_42 (dk_at dksX4_copyOf_1 20 rfl rfl)
theorem dX4_copyOf_43 : decode cX4_copyOf 43 = .ok (.getfield 9, 3) := dk_180 0 9 (dk_at dksX4_copyOf_1 21 rfl rfl)
theorem dX4_copyOf_46 : decode cX4_copyOf 46 = .ok (.instanceof 22, 3) := dk_193 0 22 (dk_at dksX4_copyOf_2 0 rfl rfl)
theorem dX4_copyOf_49 : decode cX4_copyOf 49 = .ok (.ifCond .eq 14, 3) := dk_153 0 14 (dk_at dksX4_copyOf_2 3 rfl rfl)
theorem dX4_copyOf_52 : decode cX4_copyOf 52 = .ok (.aload_n 0, 1) := dk_42 (dk_at dksX4_copyOf_2 6 rfl rfl)
theorem dX4_copyOf_53 : decode cX4_copyOf 53 = .ok (.getfield 9, 3) := dk_180 0 9 (dk_at dksX4_copyOf_2 7 rfl rfl)
theorem dX4_copyOf_56 : decode cX4_copyOf 56 = .ok (.checkcast 22, 3) := dk_192 0 22 (dk_at dksX4_copyOf_2 10 rfl rfl)
theorem dX4_copyOf_59 : decode cX4_copyOf 59 = .ok (.invokevirtual 59, 3) := dk_182 0 59 (dk_at dksX4_copyOf_2 13 rfl rfl)
theorem dX4_copyOf_62 : decode cX4_copyOf 62 = .ok (.areturn, 1) := dk_176 (dk_at dksX4_copyOf_2 16 rfl rfl)
theorem dX4_copyOf_63 : decode cX4_copyOf 63 = .ok (.aload_n 0, 1) := dk_42 (dk_at dksX4_copyOf_2 17 rfl rfl)
theorem dX4_copyOf_64 : decode cX4_copyOf 64 = .ok (.getfield 9, 3) := dk_180 0 9 (dk_at dksX4_copyOf_2 18 rfl rfl)
theorem dX4_copyOf_67 : decode cX4_copyOf 67 = .ok (.instanceof 24, 3) := dk_193 0 24 (dk_at dksX4_copyOf_2 21 rfl rfl)
theorem dX4_copyOf_70 : decode cX4_copyOf 70 = .ok (.ifCond .eq 14, 3) := dk_153 0 14 (dk_at dksX4_copyOf_3 0 rfl rfl)
theorem dX4_copyOf_73 : decode cX4_copyOf 73 = .ok (.aload_n 0, 1) := dk_42 (dk_at dksX4_copyOf_3 3 rfl rfl)
theorem dX4_copyOf_74 : decode cX4_copyOf 74 = .ok (.getfield 9, 3) := dk_180 0 9 (dk_at dksX4_copyOf_3 4 rfl rfl)
theorem dX4_copyOf_77 : decode cX4_copyOf 77 = .ok (.checkcast 24, 3) := dk_192 0 24 (dk_at dksX4_copyOf_3 7 rfl rfl)
theorem dX4_copyOf_80 : decode cX4_copyOf 80 = .ok (.invokevirtual 60, 3) := dk_182 0 60 (dk_at dksX4_copyOf_3 10 rfl rfl)
theorem dX4_copyOf_83 : decode cX4_copyOf 83 = .ok (.areturn, 1) := dk_176 (dk_at dksX4_copyOf_3 13 rfl rfl)
theorem dX4_copyOf_84 : decode cX4_copyOf 84 = .ok (.aload_n 0, 1) := dk_42 (dk_at dksX4_copyOf_3 14 rfl rfl)
theorem dX4_copyOf_85 : decode cX4_copyOf 85 = .ok (.getfield 9, 3) := dk_180 0 9 (dk_at dksX4_copyOf_3 15 rfl rfl)
theorem dX4_copyOf_88 : decode cX4_copyOf 88 = .ok (.instanceof 26, 3) := dk_193 0 26 (dk_at dksX4_copyOf_3 18 rfl rfl)
theorem dX4_copyOf_91 : decode cX4_copyOf 91 = .ok (.ifCond .eq 14, 3) := dk_153 0 14 (dk_at dksX4_copyOf_3 21 rfl rfl)
theorem dX4_copyOf_94 : decode cX4_copyOf 94 = .ok (.aload_n 0, 1) := dk_42 (dk_at dksX4_copyOf_4 0 rfl rfl)
theorem dX4_copyOf_95 : decode cX4_copyOf 95 = .ok (.getfield 9, 3) := dk_180 0 9 (dk_at dksX4_copyOf_4 1 rfl rfl)
theorem dX4_copyOf_98 : decode cX4_copyOf 98 = .ok (.checkcast 26, 3) := dk_192 0 26 (dk_at dksX4_copyOf_4 4 rfl rfl)
theorem dX4_copyOf_101 : decode cX4_copyOf 101 = .ok (.invokevirtual 61, 3) := dk_182 0 61 (dk_at dksX4_copyOf_4 7 rfl rfl)
theorem dX4_copyOf_104 : decode cX4_copyOf 104 = .ok (.areturn, 1) := dk_176 (dk_at dksX4_copyOf_4 10 rfl rfl)
theorem dX4_copyOf_105 : decode cX4_copyOf 105 = .ok (.aload_n 0, 1) := dk_42 (dk_at dksX4_copyOf_4 11 rfl rfl)
theorem dX4_copyOf_106 : decode cX4_copyOf 106 = .ok (.getfield 9, 3) := dk_180 0 9 (dk_at dksX4_copyOf_4 12 rfl rfl)
theorem dX4_copyOf_109 : decode cX4_copyOf 109 = .ok (.instanceof 28, 3) := dk_193 0 28 (dk_at dksX4_copyOf_4 15 rfl rfl)
theorem dX4_copyOf_112 : decode cX4_copyOf 112 = .ok (.ifCond .eq 14, 3) := dk_153 0 14 (dk_at dksX4_copyOf_4 18 rfl rfl)
theorem dX4_copyOf_115 : decode cX4_copyOf 115 = .ok (.aload_n 0, 1) := dk_42 (dk_at dksX4_copyOf_4 21 rfl rfl)
theorem dX4_copyOf_116 : decode cX4_copyOf 116 = .ok (.getfield 9, 3) := dk_180 0 9 (dk_at dksX4_copyOf_5 0 rfl rfl)
theorem dX4_copyOf_119 : decode cX4_copyOf 119 = .ok (.checkcast 28, 3) := dk_192 0 28 (dk_at dksX4_copyOf_5 3 rfl rfl)
theorem dX4_copyOf_122 : decode cX4_copyOf 122 = .ok (.invokevirtual 62, 3) := dk_182 0 62 (dk_at dksX4_copyOf_5 6 rfl rfl)
theorem dX4_copyOf_125 : decode cX4_copyOf 125 = .ok (.areturn, 1) := dk_176 (dk_at dksX4_copyOf_5 9 rfl rfl)
theorem dX4_copyOf_126 : decode cX4_copyOf 126 = .ok (.aload_n 0, 1) := dk_42 (dk_at dksX4_copyOf_5 10 rfl rfl)
theorem dX4_copyOf_127 : decode cX4_copyOf 127 = .ok (.getfield 9, 3) := dk_180 0 9 (dk_at dksX4_copyOf_5 11 rfl rfl)
theorem dX4_copyOf_130 : decode cX4_copyOf 130 = .ok (.instanceof 30, 3) := dk_193 0 30 (dk_at dksX4_copyOf_5 14 rfl rfl)
theorem dX4_copyOf_133 : decode cX4_copyOf 133 = .ok (.ifCond .eq 14, 3) := dk_153 0 14 (dk_at dksX4_copyOf_5 17 rfl rfl)
theorem dX4_copyOf_136 : decode cX4_copyOf 136 = .ok (.aload_n 0, 1) := dk_42 (dk_at dksX4_copyOf_5 20 rfl rfl)
theorem dX4_copyOf_137 : decode cX4_copyOf 137 = .ok (.getfield 9, 3) := dk_180 0 9 (dk_at dksX4_copyOf_5 21 rfl rfl)
theorem dX4_copyOf_140 : decode cX4_copyOf 140 = .ok (.checkcast 30, 3) := dk_192 0 30 (dk_at dksX4_copyOf_6 0 rfl rfl)
theorem dX4_copyOf_143 : decode cX4_copyOf 143 = .ok (.invokevirtual 63, 3) := dk_182 0 63 (dk_at dksX4_copyOf_6 3 rfl rfl)
theorem dX4_copyOf_146 : decode cX4_copyOf 146 = .ok (.areturn, 1) := dk_176 (dk_at dksX4_copyOf_6 6 rfl rfl)
theorem dX4_copyOf_147 : decode cX4_copyOf 147 = .ok (.aload_n 0, 1) := dk_42 (dk_at dksX4_copyOf_6 7 rfl rfl)
theorem dX4_copyOf_148 : decode cX4_copyOf 148 = .ok (.getfield 9, 3) := dk_180 0 9 (dk_at dksX4_copyOf_6 8 rfl rfl)
theorem dX4_copyOf_151 : decode cX4_copyOf 151 = .ok (.instanceof 32, 3) := dk_193 0 32 (dk_at dksX4_copyOf_6 11 rfl rfl)
theorem dX4_copyOf_154 : decode cX4_copyOf 154 = .ok (.ifCond .eq 14, 3) := dk_153 0 14 (dk_at dksX4_copyOf_6 14 rfl rfl)
theorem dX4_copyOf_157 : decode cX4_copyOf 157 = .ok (.aload_n 0, 1) := dk_42 (dk_at dksX4_copyOf_6 17 rfl rfl)
theorem dX4_copyOf_158 : decode cX4_copyOf 158 = .ok (.getfield 9, 3) := dk_180 0 9 (dk_at dksX4_copyOf_6 18 rfl rfl)
theorem dX4_copyOf_161 : decode cX4_copyOf 161 = .ok (.checkcast 32, 3) := dk_192 0 32 (dk_at dksX4_copyOf_6 21 rfl rfl)
theorem dX4_copyOf_164 : decode cX4_copyOf 164 = .ok (.invokevirtual 64, 3) := dk_182 0 64 (dk_at dksX4_copyOf_7 0 rfl rfl)
theorem dX4_copyOf_167 : decode cX4_copyOf 167 = .ok (.areturn, 1) := dk_176 (dk_at dksX4_copyOf_7 3 rfl rfl)
theorem dX4_copyOf_168 : decode cX4_copyOf 168 = .ok (.aload_n 0, 1) := dk_42 (dk_at dksX4_copyOf_7 4 rfl rfl)
theorem dX4_copyOf_169 : decode cX4_copyOf 169 = .ok (.getfield 9, 3) := dk_180 0 9 (dk_at dksX4_copyOf_7 5 rfl rfl)
theorem dX4_copyOf_172 : decode cX4_copyOf 172 = .ok (.instanceof 38, 3) := dk_193 0 38 (dk_at dksX4_copyOf_7 8 rfl rfl)
theorem dX4_copyOf_175 : decode cX4_copyOf 175 = .ok (.ifCond .eq 14, 3) := dk_153 0 14 (dk_at dksX4_copyOf_7 11 rfl rfl)
theorem dX4_copyOf_178 : decode cX4_copyOf 178 = .ok (.aload_n 0, 1) := dk_42 (dk_at dksX4_copyOf_7 14 rfl rfl)
theorem dX4_copyOf_179 : decode cX4_copyOf 179 = .ok (.getfield 9, 3) := dk_180 0 9 (dk_at dksX4_copyOf_7 15 rfl rfl)
theorem dX4_copyOf_182 : decode cX4_copyOf 182 = .ok (.checkcast 38, 3) := dk_192 0 38 (dk_at dksX4_copyOf_7 18 rfl rfl)
theorem dX4_copyOf_185 : decode cX4_copyOf 185 = .ok (.invokevirtual 65, 3) := dk_182 0 65 (dk_at dksX4_copyOf_7 21 rfl rfl)
theorem dX4_copyOf_188 : decode cX4_copyOf 188 = .ok (.areturn, 1) := dk_176 (dk_at dksX4_copyOf_8 0 rfl rfl)
theorem dX4_copyOf_189 : decode cX4_copyOf 189 = .ok (.aload_n 0, 1) := dk_42 (dk_at dksX4_copyOf_8 1 rfl rfl)
theorem dX4_copyOf_190 : decode cX4_copyOf 190 = .ok (.getfield 9, 3) := dk_180 0 9 (dk_at dksX4_copyOf_8 2 rfl rfl)
theorem dX4_copyOf_193 : decode cX4_copyOf 193 = .ok (.checkcast 66, 3) := dk_192 0 66 (dk_at dksX4_copyOf_8 5 rfl rfl)
theorem dX4_copyOf_196 : decode cX4_copyOf 196 = .ok (.invokevirtual 68, 3) := dk_182 0 68 (dk_at dksX4_copyOf_8 8 rfl rfl)
theorem dX4_copyOf_199 : decode cX4_copyOf 199 = .ok (.areturn, 1) := dk_176 (dk_at dksX4_copyOf_8 11 rfl rfl)
abbrev cX4_isBoxed : ByteArray := prog_3_method_4_code
def yX4_isBoxed : MethodName := ⟨RX4, "isBoxed", "()Z"⟩
def dkwX4_isBoxed_0 : List UInt8 := [42, 180, 0, 9, 193, 0, 38, 172]
abbrev dktX4_isBoxed_0 : List UInt8 := dkwX4_isBoxed_0 ++ []
theorem dksX4_isBoxed_0 : cX4_isBoxed.data.toList.drop 0 = dktX4_isBoxed_0 := by decide +kernel
theorem dX4_isBoxed_0 : decode cX4_isBoxed 0 = .ok (.aload_n 0, 1) := dk_42 (dk_at dksX4_isBoxed_0 0 rfl rfl)
theorem dX4_isBoxed_1 : decode cX4_isBoxed 1 = .ok (.getfield 9, 3) := dk_180 0 9 (dk_at dksX4_isBoxed_0 1 rfl rfl)
theorem dX4_isBoxed_4 : decode cX4_isBoxed 4 = .ok (.instanceof 38, 3) := dk_193 0 38 (dk_at dksX4_isBoxed_0 4 rfl rfl)
theorem dX4_isBoxed_7 : decode cX4_isBoxed 7 = .ok (.ireturn, 1) := dk_172 (dk_at dksX4_isBoxed_0 7 rfl rfl)
theorem q274 : (Jvm.Cond.initialized "ColumnHouse$Column") ∈ lw_all := lw_g (lw_at lw_m1 10 rfl) rfl
theorem q641 : (Jvm.Cond.instantiable "ColumnHouse$Column" (2 : Nat)) ∈ lw_all := lw_g (lw_at lw_m2 137 rfl) rfl
theorem q643 : (Jvm.Cond.instanceMethod ({ cls := "ColumnHouse$Column", name := "<init>", desc := "(Ljava/lang/Object;)V" } : Jvm.MethodName)) ∈ lw_all := lw_g (lw_at lw_m2 139 rfl) rfl
theorem q644 : (Jvm.Cond.code ({ cls := "ColumnHouse$Column", name := "<init>", desc := "(Ljava/lang/Object;)V" } : Jvm.MethodName) prog_3_method_1_code (2 : Nat) (Option.none : Option Jvm.ClassFile.FieldType)) ∈ lw_all := lw_g (lw_at lw_m2 140 rfl) rfl
theorem q645 : (Jvm.Cond.methodLink "ColumnHouse$Column" (3 : Nat) ({ cls := "java/lang/Object", name := "<init>", desc := "()V" } : Jvm.MethodName)) ∈ lw_all := lw_g (lw_at lw_m2 141 rfl) rfl
theorem q646 : (Jvm.Cond.fieldLink "ColumnHouse$Column" (9 : Nat) "ColumnHouse$Column" "kept" "Ljava/lang/Object;") ∈ lw_all := lw_g (lw_at lw_m2 142 rfl) rfl
theorem q648 : (Jvm.Cond.fieldLink "ColumnHouse$Column" (15 : Nat) "ColumnHouse$Column" "rows" "Ljava/lang/Object;") ∈ lw_all := lw_g (lw_at lw_m2 144 rfl) rfl
theorem q650 : (Jvm.Cond.laysFinal "ColumnHouse$Column" "ColumnHouse$Column" "kept" "Ljava/lang/Object;") ∈ lw_all := lw_g (lw_at lw_m2 146 rfl) rfl
theorem q651 : (Jvm.Cond.soleField "ColumnHouse$Column" "kept") ∈ lw_all := lw_g (lw_at lw_m2 147 rfl) rfl
theorem q652 : (Jvm.Cond.lays "ColumnHouse$Column" "ColumnHouse$Column" "rows" "Ljava/lang/Object;") ∈ lw_all := lw_g (lw_at lw_m2 148 rfl) rfl
theorem q653 : (Jvm.Cond.soleField "ColumnHouse$Column" "rows") ∈ lw_all := lw_g (lw_at lw_m2 149 rfl) rfl
theorem q654 : (Jvm.Cond.superclass "ColumnHouse$Column" "java/lang/Object") ∈ lw_all := lw_g (lw_at lw_m2 150 rfl) rfl
theorem q661 : (Jvm.Cond.instanceMethod ({ cls := "ColumnHouse$Column", name := "price", desc := "()I" } : Jvm.MethodName)) ∈ lw_all := lw_g (lw_at lw_m2 157 rfl) rfl
theorem q662 : (Jvm.Cond.selects "ColumnHouse$Column" ({ cls := "ColumnHouse$Column", name := "price", desc := "()I" } : Jvm.MethodName) ({ cls := "ColumnHouse$Column", name := "price", desc := "()I" } : Jvm.MethodName)) ∈ lw_all := lw_g (lw_at lw_m2 158 rfl) rfl
theorem q663 : (Jvm.Cond.code ({ cls := "ColumnHouse$Column", name := "price", desc := "()I" } : Jvm.MethodName) prog_3_method_5_code (1 : Nat) (Option.some Jvm.ClassFile.FieldType.int)) ∈ lw_all := lw_g (lw_at lw_m2 159 rfl) rfl
theorem q664 : (Jvm.Cond.methodLink "ColumnHouse$Column" (40 : Nat) ({ cls := "ColumnHouse$Column", name := "kind", desc := "()I" } : Jvm.MethodName)) ∈ lw_all := lw_g (lw_at lw_m2 160 rfl) rfl
theorem q665 : (Jvm.Cond.instanceMethod ({ cls := "ColumnHouse$Column", name := "kind", desc := "()I" } : Jvm.MethodName)) ∈ lw_all := lw_g (lw_at lw_m2 161 rfl) rfl
theorem q666 : (Jvm.Cond.selects "ColumnHouse$Column" ({ cls := "ColumnHouse$Column", name := "kind", desc := "()I" } : Jvm.MethodName) ({ cls := "ColumnHouse$Column", name := "kind", desc := "()I" } : Jvm.MethodName)) ∈ lw_all := lw_g (lw_at lw_m2 162 rfl) rfl
theorem q667 : (Jvm.Cond.code ({ cls := "ColumnHouse$Column", name := "kind", desc := "()I" } : Jvm.MethodName) prog_3_method_3_code (1 : Nat) (Option.some Jvm.ClassFile.FieldType.int)) ∈ lw_all := lw_g (lw_at lw_m2 163 rfl) rfl
theorem q668 : (Jvm.Cond.classLink "ColumnHouse$Column" (18 : Nat) "[B") ∈ lw_all := lw_g (lw_at lw_m2 164 rfl) rfl
theorem q669 : (Jvm.Cond.classLink "ColumnHouse$Column" (20 : Nat) "[C") ∈ lw_all := lw_g (lw_at lw_m2 165 rfl) rfl
theorem q670 : (Jvm.Cond.classLink "ColumnHouse$Column" (22 : Nat) "[S") ∈ lw_all := lw_g (lw_at lw_m2 166 rfl) rfl
theorem q671 : (Jvm.Cond.classLink "ColumnHouse$Column" (24 : Nat) "[I") ∈ lw_all := lw_g (lw_at lw_m2 167 rfl) rfl
theorem q672 : (Jvm.Cond.classLink "ColumnHouse$Column" (26 : Nat) "[J") ∈ lw_all := lw_g (lw_at lw_m2 168 rfl) rfl
theorem q673 : (Jvm.Cond.classLink "ColumnHouse$Column" (28 : Nat) "[F") ∈ lw_all := lw_g (lw_at lw_m2 169 rfl) rfl
theorem q674 : (Jvm.Cond.classLink "ColumnHouse$Column" (30 : Nat) "[D") ∈ lw_all := lw_g (lw_at lw_m2 170 rfl) rfl
theorem q675 : (Jvm.Cond.classLink "ColumnHouse$Column" (32 : Nat) "[Z") ∈ lw_all := lw_g (lw_at lw_m2 171 rfl) rfl
theorem q676 : (Jvm.Cond.classLink "ColumnHouse$Column" (34 : Nat) "[LColumnHouse$NumberBox;") ∈ lw_all := lw_g (lw_at lw_m2 172 rfl) rfl
theorem q677 : (Jvm.Cond.classLink "ColumnHouse$Column" (36 : Nat) "[LColumnHouse$TextBox;") ∈ lw_all := lw_g (lw_at lw_m2 173 rfl) rfl
theorem q678 : (Jvm.Cond.classLink "ColumnHouse$Column" (38 : Nat) "[LColumnHouse$Box;") ∈ lw_all := lw_g (lw_at lw_m2 174 rfl) rfl
theorem q800 : (Jvm.Cond.instanceMethod ({ cls := "ColumnHouse$Column", name := "isAway", desc := "()Z" } : Jvm.MethodName)) ∈ lw_all := lw_g (lw_at lw_m3 56 rfl) rfl
theorem q801 : (Jvm.Cond.selects "ColumnHouse$Column" ({ cls := "ColumnHouse$Column", name := "isAway", desc := "()Z" } : Jvm.MethodName) ({ cls := "ColumnHouse$Column", name := "isAway", desc := "()Z" } : Jvm.MethodName)) ∈ lw_all := lw_g (lw_at lw_m3 57 rfl) rfl
theorem q802 : (Jvm.Cond.code ({ cls := "ColumnHouse$Column", name := "isAway", desc := "()Z" } : Jvm.MethodName) prog_3_method_2_code (1 : Nat) (Option.some Jvm.ClassFile.FieldType.boolean)) ∈ lw_all := lw_g (lw_at lw_m3 58 rfl) rfl
theorem q1255 : (Jvm.Cond.instanceMethod ({ cls := "ColumnHouse$Column", name := "copied", desc := "()LColumnHouse$Column;" } : Jvm.MethodName)) ∈ lw_all := lw_g (lw_at lw_m5 31 rfl) rfl
theorem q1256 : (Jvm.Cond.selects "ColumnHouse$Column" ({ cls := "ColumnHouse$Column", name := "copied", desc := "()LColumnHouse$Column;" } : Jvm.MethodName) ({ cls := "ColumnHouse$Column", name := "copied", desc := "()LColumnHouse$Column;" } : Jvm.MethodName)) ∈ lw_all := lw_g (lw_at lw_m5 32 rfl) rfl
theorem q1257 : (Jvm.Cond.code ({ cls := "ColumnHouse$Column", name := "copied", desc := "()LColumnHouse$Column;" } : Jvm.MethodName) prog_3_method_6_code (2 : Nat) (Option.some (Jvm.ClassFile.FieldType.object "ColumnHouse$Column"))) ∈ lw_all := lw_g (lw_at lw_m5 33 rfl) rfl
theorem q1258 : (Jvm.Cond.classLink "ColumnHouse$Column" (10 : Nat) "ColumnHouse$Column") ∈ lw_all := lw_g (lw_at lw_m5 34 rfl) rfl
theorem q1259 : (Jvm.Cond.methodLink "ColumnHouse$Column" (44 : Nat) ({ cls := "ColumnHouse$Column", name := "copyOf", desc := "()Ljava/lang/Object;" } : Jvm.MethodName)) ∈ lw_all := lw_g (lw_at lw_m5 35 rfl) rfl
theorem q1260 : (Jvm.Cond.privateMethod ({ cls := "ColumnHouse$Column", name := "copyOf", desc := "()Ljava/lang/Object;" } : Jvm.MethodName)) ∈ lw_tbl := lw_at lw_m5 36 rfl
theorem q1261 : (Jvm.Cond.instanceMethod ({ cls := "ColumnHouse$Column", name := "copyOf", desc := "()Ljava/lang/Object;" } : Jvm.MethodName)) ∈ lw_all := lw_g (lw_at lw_m5 37 rfl) rfl
theorem q1262 : (Jvm.Cond.code ({ cls := "ColumnHouse$Column", name := "copyOf", desc := "()Ljava/lang/Object;" } : Jvm.MethodName) prog_3_method_7_code (1 : Nat) (Option.some (Jvm.ClassFile.FieldType.object "java/lang/Object"))) ∈ lw_all := lw_g (lw_at lw_m5 38 rfl) rfl
theorem q1263 : (Jvm.Cond.methodLink "ColumnHouse$Column" (55 : Nat) ({ cls := "[B", name := "clone", desc := "()Ljava/lang/Object;" } : Jvm.MethodName)) ∈ lw_all := lw_g (lw_at lw_m5 39 rfl) rfl
theorem q1267 : (Jvm.Cond.methodLink "ColumnHouse$Column" (58 : Nat) ({ cls := "[C", name := "clone", desc := "()Ljava/lang/Object;" } : Jvm.MethodName)) ∈ lw_all := lw_g (lw_at lw_m5 43 rfl) rfl
theorem q1271 : (Jvm.Cond.methodLink "ColumnHouse$Column" (59 : Nat) ({ cls := "[S", name := "clone", desc := "()Ljava/lang/Object;" } : Jvm.MethodName)) ∈ lw_all := lw_g (lw_at lw_m5 47 rfl) rfl
theorem q1275 : (Jvm.Cond.methodLink "ColumnHouse$Column" (60 : Nat) ({ cls := "[I", name := "clone", desc := "()Ljava/lang/Object;" } : Jvm.MethodName)) ∈ lw_all := lw_g (lw_at lw_m5 51 rfl) rfl
theorem q1276 : (Jvm.Cond.methodLink "ColumnHouse$Column" (61 : Nat) ({ cls := "[J", name := "clone", desc := "()Ljava/lang/Object;" } : Jvm.MethodName)) ∈ lw_all := lw_g (lw_at lw_m5 52 rfl) rfl
theorem q1280 : (Jvm.Cond.methodLink "ColumnHouse$Column" (62 : Nat) ({ cls := "[F", name := "clone", desc := "()Ljava/lang/Object;" } : Jvm.MethodName)) ∈ lw_all := lw_g (lw_at lw_m5 56 rfl) rfl
theorem q1284 : (Jvm.Cond.methodLink "ColumnHouse$Column" (63 : Nat) ({ cls := "[D", name := "clone", desc := "()Ljava/lang/Object;" } : Jvm.MethodName)) ∈ lw_all := lw_g (lw_at lw_m5 60 rfl) rfl
theorem q1288 : (Jvm.Cond.methodLink "ColumnHouse$Column" (64 : Nat) ({ cls := "[Z", name := "clone", desc := "()Ljava/lang/Object;" } : Jvm.MethodName)) ∈ lw_all := lw_g (lw_at lw_m5 64 rfl) rfl
theorem q1292 : (Jvm.Cond.methodLink "ColumnHouse$Column" (65 : Nat) ({ cls := "[LColumnHouse$Box;", name := "clone", desc := "()Ljava/lang/Object;" } : Jvm.MethodName)) ∈ lw_all := lw_g (lw_at lw_m5 68 rfl) rfl
theorem q1296 : (Jvm.Cond.classLink "ColumnHouse$Column" (66 : Nat) "[[I") ∈ lw_all := lw_g (lw_at lw_m5 72 rfl) rfl
theorem q1297 : (Jvm.Cond.methodLink "ColumnHouse$Column" (68 : Nat) ({ cls := "[[I", name := "clone", desc := "()Ljava/lang/Object;" } : Jvm.MethodName)) ∈ lw_all := lw_g (lw_at lw_m5 73 rfl) rfl
theorem q1301 : (Jvm.Cond.methodLink "ColumnHouse$Column" (48 : Nat) ({ cls := "ColumnHouse$Column", name := "<init>", desc := "(Ljava/lang/Object;)V" } : Jvm.MethodName)) ∈ lw_all := lw_g (lw_at lw_m5 77 rfl) rfl
theorem q1302 : (Jvm.Cond.methodLink "ColumnHouse$Column" (51 : Nat) ({ cls := "ColumnHouse$Column", name := "isAway", desc := "()Z" } : Jvm.MethodName)) ∈ lw_all := lw_g (lw_at lw_m5 78 rfl) rfl
theorem q1407 : (Jvm.Cond.instanceMethod ({ cls := "ColumnHouse$Column", name := "isBoxed", desc := "()Z" } : Jvm.MethodName)) ∈ lw_all := lw_g (lw_at lw_m5 183 rfl) rfl
theorem q1408 : (Jvm.Cond.selects "ColumnHouse$Column" ({ cls := "ColumnHouse$Column", name := "isBoxed", desc := "()Z" } : Jvm.MethodName) ({ cls := "ColumnHouse$Column", name := "isBoxed", desc := "()Z" } : Jvm.MethodName)) ∈ lw_all := lw_g (lw_at lw_m5 184 rfl) rfl
theorem q1409 : (Jvm.Cond.code ({ cls := "ColumnHouse$Column", name := "isBoxed", desc := "()Z" } : Jvm.MethodName) prog_3_method_4_code (1 : Nat) (Option.some Jvm.ClassFile.FieldType.boolean)) ∈ lw_all := lw_g (lw_at lw_m5 185 rfl) rfl

/-! ColumnHouse$NumberBox -/
set_option maxRecDepth 100000
abbrev cX5_init : ByteArray := prog_5_method_1_code
def yX5_init : MethodName := ⟨RX5, "<init>", "()V"⟩
theorem dX5_init_0 : decode cX5_init 0 = .ok (.aload_n 0, 1) := by decide +kernel
theorem dX5_init_1 : decode cX5_init 1 = .ok (.invokespecial 1, 3) := by decide +kernel
theorem dX5_init_4 : decode cX5_init 4 = .ok (.return_, 1) := by decide +kernel
abbrev cX5_isLike : ByteArray := prog_5_method_3_code
def yX5_isLike : MethodName := ⟨RX5, "isLike", "(LColumnHouse$Box;)Z"⟩
def dkwX5_isLike_1 : List UInt8 := [167, 0, 4, 3, 172]
abbrev dktX5_isLike_1 : List UInt8 := dkwX5_isLike_1 ++ []
def dkwX5_isLike_0 : List UInt8 := [43, 193, 0, 7, 153, 0, 22, 42, 182, 0, 9, 43, 192, 0, 7, 182, 0, 9, 151, 154, 0, 7, 4]
abbrev dktX5_isLike_0 : List UInt8 := dkwX5_isLike_0 ++ dktX5_isLike_1
theorem dksX5_isLike_0 : cX5_isLike.data.toList.drop 0 = dktX5_isLike_0 := by decide +kernel
theorem dksX5_isLike_1 : cX5_isLike.data.toList.drop 23 = dktX5_isLike_1 := dk_seg dksX5_isLike_0 23 rfl rfl
theorem dX5_isLike_0 : decode cX5_isLike 0 = .ok (.aload_n 1, 1) := dk_43 (dk_at dksX5_isLike_0 0 rfl rfl)
theorem dX5_isLike_1 : decode cX5_isLike 1 = .ok (.instanceof 7, 3) := dk_193 0 7 (dk_at dksX5_isLike_0 1 rfl rfl)
theorem dX5_isLike_4 : decode cX5_isLike 4 = .ok (.ifCond .eq 22, 3) := dk_153 0 22 (dk_at dksX5_isLike_0 4 rfl rfl)
theorem dX5_isLike_7 : decode cX5_isLike 7 = .ok (.aload_n 0, 1) := dk_42 (dk_at dksX5_isLike_0 7 rfl rfl)
theorem dX5_isLike_8 : decode cX5_isLike 8 = .ok (.invokevirtual 9, 3) := dk_182 0 9 (dk_at dksX5_isLike_0 8 rfl rfl)
theorem dX5_isLike_11 : decode cX5_isLike 11 = .ok (.aload_n 1, 1) := dk_43 (dk_at dksX5_isLike_0 11 rfl rfl)
theorem dX5_isLike_12 : decode cX5_isLike 12 = .ok (.checkcast 7, 3) := dk_192 0 7 (dk_at dksX5_isLike_0 12 rfl rfl)
theorem dX5_isLike_15 : decode cX5_isLike 15 = .ok (.invokevirtual 9, 3) := dk_182 0 9 (dk_at dksX5_isLike_0 15 rfl rfl)
theorem dX5_isLike_18 : decode cX5_isLike 18 = .ok (.dcmp .l, 1) := dk_151 (dk_at dksX5_isLike_0 18 rfl rfl)
theorem dX5_isLike_19 : decode cX5_isLike 19 = .ok (.ifCond .ne 7, 3) := dk_154 0 7 (dk_at dksX5_isLike_0 19 rfl rfl)
theorem dX5_isLike_22 : decode cX5_isLike 22 = .ok (.iconst 1, 1) := dk_4 (dk_at dksX5_isLike_0 22 rfl rfl)
theorem dX5_isLike_23 : decode cX5_isLike 23 = .ok (.goto 4, 3) := dk_167 0 4 (dk_at dksX5_isLike_1 0 rfl rfl)
theorem dX5_isLike_26 : decode cX5_isLike 26 = .ok (.iconst 0, 1) := dk_3 (dk_at dksX5_isLike_1 3 rfl rfl)
theorem dX5_isLike_27 : decode cX5_isLike 27 = .ok (.ireturn, 1) := dk_172 (dk_at dksX5_isLike_1 4 rfl rfl)
abbrev cX5_isAhead : ByteArray := prog_5_method_4_code
def yX5_isAhead : MethodName := ⟨RX5, "isAhead", "(LColumnHouse$Box;)Z"⟩
def dkwX5_isAhead_1 : List UInt8 := [167, 0, 4, 3, 172]
abbrev dktX5_isAhead_1 : List UInt8 := dkwX5_isAhead_1 ++ []
def dkwX5_isAhead_0 : List UInt8 := [43, 193, 0, 7, 153, 0, 18, 42, 182, 0, 9, 43, 192, 0, 7, 182, 0, 9, 152, 156, 0, 7, 4]
abbrev dktX5_isAhead_0 : List UInt8 := dkwX5_isAhead_0 ++ dktX5_isAhead_1
theorem dksX5_isAhead_0 : cX5_isAhead.data.toList.drop 0 = dktX5_isAhead_0 := by decide +kernel
theorem dksX5_isAhead_1 : cX5_isAhead.data.toList.drop 23 = dktX5_isAhead_1 := dk_seg dksX5_isAhead_0 23 rfl rfl
theorem dX5_isAhead_0 : decode cX5_isAhead 0 = .ok (.aload_n 1, 1) := dk_43 (dk_at dksX5_isAhead_0 0 rfl rfl)
theorem dX5_isAhead_1 : decode cX5_isAhead 1 = .ok (.instanceof 7, 3) := dk_193 0 7 (dk_at dksX5_isAhead_0 1 rfl rfl)
theorem dX5_isAhead_4 : decode cX5_isAhead 4 = .ok (.ifCond .eq 18, 3) := dk_153 0 18 (dk_at dksX5_isAhead_0 4 rfl rfl)
theorem dX5_isAhead_7 : decode cX5_isAhead 7 = .ok (.aload_n 0, 1) := dk_42 (dk_at dksX5_isAhead_0 7 rfl rfl)
theorem dX5_isAhead_8 : decode cX5_isAhead 8 = .ok (.invokevirtual 9, 3) := dk_182 0 9 (dk_at dksX5_isAhead_0 8 rfl rfl)
theorem dX5_isAhead_11 : decode cX5_isAhead 11 = .ok (.aload_n 1, 1) := dk_43 (dk_at dksX5_isAhead_0 11 rfl rfl)
theorem dX5_isAhead_12 : decode cX5_isAhead 12 = .ok (.checkcast 7, 3) := dk_192 0 7 (dk_at dksX5_isAhead_0 12 rfl rfl)
theorem dX5_isAhead_15 : decode cX5_isAhead 15 = .ok (.invokevirtual 9, 3) := dk_182 0 9 (dk_at dksX5_isAhead_0 15 rfl rfl)
theorem dX5_isAhead_18 : decode cX5_isAhead 18 = .ok (.dcmp .g, 1) := dk_152 (dk_at dksX5_isAhead_0 18 rfl rfl)
theorem dX5_isAhead_19 : decode cX5_isAhead 19 = .ok (.ifCond .ge 7, 3) := dk_156 0 7 (dk_at dksX5_isAhead_0 19 rfl rfl)
theorem dX5_isAhead_22 : decode cX5_isAhead 22 = .ok (.iconst 1, 1) := dk_4 (dk_at dksX5_isAhead_0 22 rfl rfl)
theorem dX5_isAhead_23 : decode cX5_isAhead 23 = .ok (.goto 4, 3) := dk_167 0 4 (dk_at dksX5_isAhead_1 0 rfl rfl)
theorem dX5_isAhead_26 : decode cX5_isAhead 26 = .ok (.iconst 0, 1) := dk_3 (dk_at dksX5_isAhead_1 3 rfl rfl)
theorem dX5_isAhead_27 : decode cX5_isAhead 27 = .ok (.ireturn, 1) := dk_172 (dk_at dksX5_isAhead_1 4 rfl rfl)
theorem q283 : (Jvm.Cond.initialized "ColumnHouse$NumberBox") ∈ lw_all := lw_g (lw_at lw_m1 19 rfl) rfl
theorem q829 : (Jvm.Cond.instanceMethod ({ cls := "ColumnHouse$NumberBox", name := "<init>", desc := "()V" } : Jvm.MethodName)) ∈ lw_all := lw_g (lw_at lw_m3 85 rfl) rfl
theorem q830 : (Jvm.Cond.code ({ cls := "ColumnHouse$NumberBox", name := "<init>", desc := "()V" } : Jvm.MethodName) prog_5_method_1_code (1 : Nat) (Option.none : Option Jvm.ClassFile.FieldType)) ∈ lw_all := lw_g (lw_at lw_m3 86 rfl) rfl
theorem q831 : (Jvm.Cond.methodLink "ColumnHouse$NumberBox" (1 : Nat) ({ cls := "java/lang/Object", name := "<init>", desc := "()V" } : Jvm.MethodName)) ∈ lw_all := lw_g (lw_at lw_m3 87 rfl) rfl
theorem q1423 : (Jvm.Cond.declares ({ cls := "ColumnHouse$NumberBox", name := "value", desc := "()D" } : Jvm.MethodName)) ∈ lw_tbl := lw_at lw_m5 199 rfl
theorem q1424 : (Jvm.Cond.sameMethod "ColumnHouse$NumberBox" "ColumnHouse$NumberBox" "value" "()D") ∈ lw_all := lw_g (lw_at lw_m5 200 rfl) rfl
theorem q1589 : (Jvm.Cond.instanceMethod ({ cls := "ColumnHouse$NumberBox", name := "isLike", desc := "(LColumnHouse$Box;)Z" } : Jvm.MethodName)) ∈ lw_all := lw_g (lw_at lw_m6 125 rfl) rfl
theorem q1590 : (Jvm.Cond.publicMethod ({ cls := "ColumnHouse$NumberBox", name := "isLike", desc := "(LColumnHouse$Box;)Z" } : Jvm.MethodName)) ∈ lw_tbl := lw_at lw_m6 126 rfl
theorem q1591 : (Jvm.Cond.code ({ cls := "ColumnHouse$NumberBox", name := "isLike", desc := "(LColumnHouse$Box;)Z" } : Jvm.MethodName) prog_5_method_3_code (2 : Nat) (Option.some Jvm.ClassFile.FieldType.boolean)) ∈ lw_all := lw_g (lw_at lw_m6 127 rfl) rfl
theorem q1592 : (Jvm.Cond.classLink "ColumnHouse$NumberBox" (7 : Nat) "ColumnHouse$NumberBox") ∈ lw_all := lw_g (lw_at lw_m6 128 rfl) rfl
theorem q1593 : (Jvm.Cond.methodLink "ColumnHouse$NumberBox" (9 : Nat) ({ cls := "ColumnHouse$NumberBox", name := "value", desc := "()D" } : Jvm.MethodName)) ∈ lw_all := lw_g (lw_at lw_m6 129 rfl) rfl
theorem q1997 : (Jvm.Cond.instanceMethod ({ cls := "ColumnHouse$NumberBox", name := "isAhead", desc := "(LColumnHouse$Box;)Z" } : Jvm.MethodName)) ∈ lw_all := lw_g (lw_at lw_m8 53 rfl) rfl
theorem q1998 : (Jvm.Cond.publicMethod ({ cls := "ColumnHouse$NumberBox", name := "isAhead", desc := "(LColumnHouse$Box;)Z" } : Jvm.MethodName)) ∈ lw_tbl := lw_at lw_m8 54 rfl
theorem q1999 : (Jvm.Cond.code ({ cls := "ColumnHouse$NumberBox", name := "isAhead", desc := "(LColumnHouse$Box;)Z" } : Jvm.MethodName) prog_5_method_4_code (2 : Nat) (Option.some Jvm.ClassFile.FieldType.boolean)) ∈ lw_all := lw_g (lw_at lw_m8 55 rfl) rfl
theorem q3084 : (Jvm.Cond.castable "ColumnHouse$NumberBox" "ColumnHouse$Box") ∈ lw_tbl := lw_at lw_m12 180 rfl

/-! ColumnHouse$WholeBox -/
set_option maxRecDepth 100000
abbrev cX6_init : ByteArray := prog_9_method_1_code
def yX6_init : MethodName := ⟨RX6, "<init>", "(I)V"⟩
def dkwX6_init_0 : List UInt8 := [42, 183, 0, 1, 42, 27, 181, 0, 7, 177]
abbrev dktX6_init_0 : List UInt8 := dkwX6_init_0 ++ []
theorem dksX6_init_0 : cX6_init.data.toList.drop 0 = dktX6_init_0 := by decide +kernel
theorem dX6_init_0 : decode cX6_init 0 = .ok (.aload_n 0, 1) := dk_42 (dk_at dksX6_init_0 0 rfl rfl)
theorem dX6_init_1 : decode cX6_init 1 = .ok (.invokespecial 1, 3) := dk_183 0 1 (dk_at dksX6_init_0 1 rfl rfl)
theorem dX6_init_4 : decode cX6_init 4 = .ok (.aload_n 0, 1) := dk_42 (dk_at dksX6_init_0 4 rfl rfl)
theorem dX6_init_5 : decode cX6_init 5 = .ok (.iload_n 1, 1) := dk_27 (dk_at dksX6_init_0 5 rfl rfl)
theorem dX6_init_6 : decode cX6_init 6 = .ok (.putfield 7, 3) := dk_181 0 7 (dk_at dksX6_init_0 6 rfl rfl)
theorem dX6_init_9 : decode cX6_init 9 = .ok (.return_, 1) := dk_177 (dk_at dksX6_init_0 9 rfl rfl)
abbrev cX6_value : ByteArray := prog_9_method_4_code
def yX6_value : MethodName := ⟨RX6, "value", "()D"⟩
def dkwX6_value_0 : List UInt8 := [42, 180, 0, 7, 135, 175]
abbrev dktX6_value_0 : List UInt8 := dkwX6_value_0 ++ []
theorem dksX6_value_0 : cX6_value.data.toList.drop 0 = dktX6_value_0 := by decide +kernel
theorem dX6_value_0 : decode cX6_value 0 = .ok (.aload_n 0, 1) := dk_42 (dk_at dksX6_value_0 0 rfl rfl)
theorem dX6_value_1 : decode cX6_value 1 = .ok (.getfield 7, 3) := dk_180 0 7 (dk_at dksX6_value_0 1 rfl rfl)
theorem dX6_value_4 : decode cX6_value 4 = .ok (.i2d, 1) := dk_135 (dk_at dksX6_value_0 4 rfl rfl)
theorem dX6_value_5 : decode cX6_value 5 = .ok (.dreturn, 1) := dk_175 (dk_at dksX6_value_0 5 rfl rfl)
abbrev cX6_sort : ByteArray := prog_9_method_2_code
def yX6_sort : MethodName := ⟨RX6, "sort", "()I"⟩
theorem dX6_sort_0 : decode cX6_sort 0 = .ok (.iconst 1, 1) := by decide +kernel
theorem dX6_sort_1 : decode cX6_sort 1 = .ok (.ireturn, 1) := by decide +kernel
abbrev cX6_told : ByteArray := prog_9_method_3_code
def yX6_told : MethodName := ⟨RX6, "told", "()J"⟩
def dkwX6_told_0 : List UInt8 := [42, 180, 0, 7, 133, 173]
abbrev dktX6_told_0 : List UInt8 := dkwX6_told_0 ++ []
theorem dksX6_told_0 : cX6_told.data.toList.drop 0 = dktX6_told_0 := by decide +kernel
theorem dX6_told_0 : decode cX6_told 0 = .ok (.aload_n 0, 1) := dk_42 (dk_at dksX6_told_0 0 rfl rfl)
theorem dX6_told_1 : decode cX6_told 1 = .ok (.getfield 7, 3) := dk_180 0 7 (dk_at dksX6_told_0 1 rfl rfl)
theorem dX6_told_4 : decode cX6_told 4 = .ok (.i2l, 1) := dk_133 (dk_at dksX6_told_0 4 rfl rfl)
theorem dX6_told_5 : decode cX6_told 5 = .ok (.lreturn, 1) := dk_173 (dk_at dksX6_told_0 5 rfl rfl)
theorem q284 : (Jvm.Cond.initialized "ColumnHouse$WholeBox") ∈ lw_all := lw_g (lw_at lw_m1 20 rfl) rfl
theorem q824 : (Jvm.Cond.instantiable "ColumnHouse$WholeBox" (1 : Nat)) ∈ lw_all := lw_g (lw_at lw_m3 80 rfl) rfl
theorem q826 : (Jvm.Cond.instanceMethod ({ cls := "ColumnHouse$WholeBox", name := "<init>", desc := "(I)V" } : Jvm.MethodName)) ∈ lw_all := lw_g (lw_at lw_m3 82 rfl) rfl
theorem q827 : (Jvm.Cond.code ({ cls := "ColumnHouse$WholeBox", name := "<init>", desc := "(I)V" } : Jvm.MethodName) prog_9_method_1_code (2 : Nat) (Option.none : Option Jvm.ClassFile.FieldType)) ∈ lw_all := lw_g (lw_at lw_m3 83 rfl) rfl
theorem q828 : (Jvm.Cond.methodLinkNest "ColumnHouse$WholeBox" (1 : Nat) ({ cls := "ColumnHouse$NumberBox", name := "<init>", desc := "()V" } : Jvm.MethodName) "ColumnHouse") ∈ lw_tbl := lw_at lw_m3 84 rfl
theorem q832 : (Jvm.Cond.fieldLink "ColumnHouse$WholeBox" (7 : Nat) "ColumnHouse$WholeBox" "whole" "I") ∈ lw_all := lw_g (lw_at lw_m3 88 rfl) rfl
theorem q833 : (Jvm.Cond.laysFinal "ColumnHouse$WholeBox" "ColumnHouse$WholeBox" "whole" "I") ∈ lw_all := lw_g (lw_at lw_m3 89 rfl) rfl
theorem q834 : (Jvm.Cond.soleField "ColumnHouse$WholeBox" "whole") ∈ lw_all := lw_g (lw_at lw_m3 90 rfl) rfl
theorem q835 : (Jvm.Cond.superclass "ColumnHouse$WholeBox" "ColumnHouse$NumberBox") ∈ lw_all := lw_g (lw_at lw_m3 91 rfl) rfl
theorem q1428 : (Jvm.Cond.selects "ColumnHouse$WholeBox" ({ cls := "ColumnHouse$NumberBox", name := "value", desc := "()D" } : Jvm.MethodName) ({ cls := "ColumnHouse$WholeBox", name := "value", desc := "()D" } : Jvm.MethodName)) ∈ lw_all := lw_g (lw_at lw_m5 204 rfl) rfl
theorem q1429 : (Jvm.Cond.instanceMethod ({ cls := "ColumnHouse$WholeBox", name := "value", desc := "()D" } : Jvm.MethodName)) ∈ lw_all := lw_g (lw_at lw_m5 205 rfl) rfl
theorem q1430 : (Jvm.Cond.code ({ cls := "ColumnHouse$WholeBox", name := "value", desc := "()D" } : Jvm.MethodName) prog_9_method_4_code (1 : Nat) (Option.some Jvm.ClassFile.FieldType.double)) ∈ lw_all := lw_g (lw_at lw_m5 206 rfl) rfl
theorem q1613 : (Jvm.Cond.castable "ColumnHouse$WholeBox" "ColumnHouse$Box") ∈ lw_tbl := lw_at lw_m6 149 rfl
theorem q1614 : (Jvm.Cond.selects "ColumnHouse$WholeBox" ({ cls := "ColumnHouse$Box", name := "sort", desc := "()I" } : Jvm.MethodName) ({ cls := "ColumnHouse$WholeBox", name := "sort", desc := "()I" } : Jvm.MethodName)) ∈ lw_all := lw_g (lw_at lw_m6 150 rfl) rfl
theorem q1615 : (Jvm.Cond.unhidden "ColumnHouse$WholeBox" "sort" "()I") ∈ lw_tbl := lw_at lw_m6 151 rfl
theorem q1616 : (Jvm.Cond.instanceMethod ({ cls := "ColumnHouse$WholeBox", name := "sort", desc := "()I" } : Jvm.MethodName)) ∈ lw_all := lw_g (lw_at lw_m6 152 rfl) rfl
theorem q1617 : (Jvm.Cond.publicMethod ({ cls := "ColumnHouse$WholeBox", name := "sort", desc := "()I" } : Jvm.MethodName)) ∈ lw_tbl := lw_at lw_m6 153 rfl
theorem q1618 : (Jvm.Cond.code ({ cls := "ColumnHouse$WholeBox", name := "sort", desc := "()I" } : Jvm.MethodName) prog_9_method_2_code (1 : Nat) (Option.some Jvm.ClassFile.FieldType.int)) ∈ lw_all := lw_g (lw_at lw_m6 154 rfl) rfl
theorem q1635 : (Jvm.Cond.selects "ColumnHouse$WholeBox" ({ cls := "ColumnHouse$Box", name := "told", desc := "()J" } : Jvm.MethodName) ({ cls := "ColumnHouse$WholeBox", name := "told", desc := "()J" } : Jvm.MethodName)) ∈ lw_all := lw_g (lw_at lw_m6 171 rfl) rfl
theorem q1636 : (Jvm.Cond.unhidden "ColumnHouse$WholeBox" "told" "()J") ∈ lw_tbl := lw_at lw_m6 172 rfl
theorem q1637 : (Jvm.Cond.instanceMethod ({ cls := "ColumnHouse$WholeBox", name := "told", desc := "()J" } : Jvm.MethodName)) ∈ lw_all := lw_g (lw_at lw_m6 173 rfl) rfl
theorem q1638 : (Jvm.Cond.publicMethod ({ cls := "ColumnHouse$WholeBox", name := "told", desc := "()J" } : Jvm.MethodName)) ∈ lw_tbl := lw_at lw_m6 174 rfl
theorem q1639 : (Jvm.Cond.code ({ cls := "ColumnHouse$WholeBox", name := "told", desc := "()J" } : Jvm.MethodName) prog_9_method_3_code (1 : Nat) (Option.some Jvm.ClassFile.FieldType.long)) ∈ lw_all := lw_g (lw_at lw_m6 175 rfl) rfl
theorem q1640 : (Jvm.Cond.selects "ColumnHouse$WholeBox" ({ cls := "ColumnHouse$Box", name := "isLike", desc := "(LColumnHouse$Box;)Z" } : Jvm.MethodName) ({ cls := "ColumnHouse$NumberBox", name := "isLike", desc := "(LColumnHouse$Box;)Z" } : Jvm.MethodName)) ∈ lw_all := lw_g (lw_at lw_m6 176 rfl) rfl
theorem q1641 : (Jvm.Cond.unhidden "ColumnHouse$WholeBox" "isLike" "(LColumnHouse$Box;)Z") ∈ lw_tbl := lw_at lw_m6 177 rfl
theorem q2007 : (Jvm.Cond.selects "ColumnHouse$WholeBox" ({ cls := "ColumnHouse$Box", name := "isAhead", desc := "(LColumnHouse$Box;)Z" } : Jvm.MethodName) ({ cls := "ColumnHouse$NumberBox", name := "isAhead", desc := "(LColumnHouse$Box;)Z" } : Jvm.MethodName)) ∈ lw_all := lw_g (lw_at lw_m8 63 rfl) rfl
theorem q2008 : (Jvm.Cond.unhidden "ColumnHouse$WholeBox" "isAhead" "(LColumnHouse$Box;)Z") ∈ lw_tbl := lw_at lw_m8 64 rfl
theorem q3077 : (Jvm.Cond.castable "ColumnHouse$WholeBox" "ColumnHouse$NumberBox") ∈ lw_tbl := lw_at lw_m12 173 rfl

/-! ColumnHouse$RealBox -/
set_option maxRecDepth 100000
abbrev cX7_init : ByteArray := prog_6_method_1_code
def yX7_init : MethodName := ⟨RX7, "<init>", "(D)V"⟩
def dkwX7_init_0 : List UInt8 := [42, 183, 0, 1, 42, 39, 181, 0, 7, 177]
abbrev dktX7_init_0 : List UInt8 := dkwX7_init_0 ++ []
theorem dksX7_init_0 : cX7_init.data.toList.drop 0 = dktX7_init_0 := by decide +kernel
theorem dX7_init_0 : decode cX7_init 0 = .ok (.aload_n 0, 1) := dk_42 (dk_at dksX7_init_0 0 rfl rfl)
theorem dX7_init_1 : decode cX7_init 1 = .ok (.invokespecial 1, 3) := dk_183 0 1 (dk_at dksX7_init_0 1 rfl rfl)
theorem dX7_init_4 : decode cX7_init 4 = .ok (.aload_n 0, 1) := dk_42 (dk_at dksX7_init_0 4 rfl rfl)
theorem dX7_init_5 : decode cX7_init 5 = .ok (.dload_n 1, 1) := dk_39 (dk_at dksX7_init_0 5 rfl rfl)
theorem dX7_init_6 : decode cX7_init 6 = .ok (.putfield 7, 3) := dk_181 0 7 (dk_at dksX7_init_0 6 rfl rfl)
theorem dX7_init_9 : decode cX7_init 9 = .ok (.return_, 1) := dk_177 (dk_at dksX7_init_0 9 rfl rfl)
abbrev cX7_value : ByteArray := prog_6_method_4_code
def yX7_value : MethodName := ⟨RX7, "value", "()D"⟩
theorem dX7_value_0 : decode cX7_value 0 = .ok (.aload_n 0, 1) := by decide +kernel
theorem dX7_value_1 : decode cX7_value 1 = .ok (.getfield 7, 3) := by decide +kernel
theorem dX7_value_4 : decode cX7_value 4 = .ok (.dreturn, 1) := by decide +kernel
abbrev cX7_sort : ByteArray := prog_6_method_2_code
def yX7_sort : MethodName := ⟨RX7, "sort", "()I"⟩
theorem dX7_sort_0 : decode cX7_sort 0 = .ok (.iconst 2, 1) := by decide +kernel
theorem dX7_sort_1 : decode cX7_sort 1 = .ok (.ireturn, 1) := by decide +kernel
abbrev cX7_told : ByteArray := prog_6_method_3_code
def yX7_told : MethodName := ⟨RX7, "told", "()J"⟩
def dkwX7_told_0 : List UInt8 := [42, 180, 0, 7, 184, 0, 13, 173]
abbrev dktX7_told_0 : List UInt8 := dkwX7_told_0 ++ []
theorem dksX7_told_0 : cX7_told.data.toList.drop 0 = dktX7_told_0 := by decide +kernel
theorem dX7_told_0 : decode cX7_told 0 = .ok (.aload_n 0, 1) := dk_42 (dk_at dksX7_told_0 0 rfl rfl)
theorem dX7_told_1 : decode cX7_told 1 = .ok (.getfield 7, 3) := dk_180 0 7 (dk_at dksX7_told_0 1 rfl rfl)
theorem dX7_told_4 : decode cX7_told 4 = .ok (.invokestatic 13, 3) := dk_184 0 13 (dk_at dksX7_told_0 4 rfl rfl)
theorem dX7_told_7 : decode cX7_told 7 = .ok (.lreturn, 1) := dk_173 (dk_at dksX7_told_0 7 rfl rfl)
theorem q285 : (Jvm.Cond.initialized "ColumnHouse$RealBox") ∈ lw_all := lw_g (lw_at lw_m1 21 rfl) rfl
theorem q837 : (Jvm.Cond.instantiable "ColumnHouse$RealBox" (1 : Nat)) ∈ lw_all := lw_g (lw_at lw_m3 93 rfl) rfl
theorem q839 : (Jvm.Cond.instanceMethod ({ cls := "ColumnHouse$RealBox", name := "<init>", desc := "(D)V" } : Jvm.MethodName)) ∈ lw_all := lw_g (lw_at lw_m3 95 rfl) rfl
theorem q840 : (Jvm.Cond.code ({ cls := "ColumnHouse$RealBox", name := "<init>", desc := "(D)V" } : Jvm.MethodName) prog_6_method_1_code (3 : Nat) (Option.none : Option Jvm.ClassFile.FieldType)) ∈ lw_all := lw_g (lw_at lw_m3 96 rfl) rfl
theorem q841 : (Jvm.Cond.methodLinkNest "ColumnHouse$RealBox" (1 : Nat) ({ cls := "ColumnHouse$NumberBox", name := "<init>", desc := "()V" } : Jvm.MethodName) "ColumnHouse") ∈ lw_tbl := lw_at lw_m3 97 rfl
theorem q842 : (Jvm.Cond.fieldLink "ColumnHouse$RealBox" (7 : Nat) "ColumnHouse$RealBox" "real" "D") ∈ lw_all := lw_g (lw_at lw_m3 98 rfl) rfl
theorem q843 : (Jvm.Cond.laysFinal "ColumnHouse$RealBox" "ColumnHouse$RealBox" "real" "D") ∈ lw_all := lw_g (lw_at lw_m3 99 rfl) rfl
theorem q844 : (Jvm.Cond.soleField "ColumnHouse$RealBox" "real") ∈ lw_all := lw_g (lw_at lw_m3 100 rfl) rfl
theorem q845 : (Jvm.Cond.superclass "ColumnHouse$RealBox" "ColumnHouse$NumberBox") ∈ lw_all := lw_g (lw_at lw_m3 101 rfl) rfl
theorem q1425 : (Jvm.Cond.selects "ColumnHouse$RealBox" ({ cls := "ColumnHouse$NumberBox", name := "value", desc := "()D" } : Jvm.MethodName) ({ cls := "ColumnHouse$RealBox", name := "value", desc := "()D" } : Jvm.MethodName)) ∈ lw_all := lw_g (lw_at lw_m5 201 rfl) rfl
theorem q1426 : (Jvm.Cond.instanceMethod ({ cls := "ColumnHouse$RealBox", name := "value", desc := "()D" } : Jvm.MethodName)) ∈ lw_all := lw_g (lw_at lw_m5 202 rfl) rfl
theorem q1427 : (Jvm.Cond.code ({ cls := "ColumnHouse$RealBox", name := "value", desc := "()D" } : Jvm.MethodName) prog_6_method_4_code (1 : Nat) (Option.some Jvm.ClassFile.FieldType.double)) ∈ lw_all := lw_g (lw_at lw_m5 203 rfl) rfl
theorem q1586 : (Jvm.Cond.castable "ColumnHouse$RealBox" "ColumnHouse$Box") ∈ lw_tbl := lw_at lw_m6 122 rfl
theorem q1587 : (Jvm.Cond.selects "ColumnHouse$RealBox" ({ cls := "ColumnHouse$Box", name := "isLike", desc := "(LColumnHouse$Box;)Z" } : Jvm.MethodName) ({ cls := "ColumnHouse$NumberBox", name := "isLike", desc := "(LColumnHouse$Box;)Z" } : Jvm.MethodName)) ∈ lw_all := lw_g (lw_at lw_m6 123 rfl) rfl
theorem q1588 : (Jvm.Cond.unhidden "ColumnHouse$RealBox" "isLike" "(LColumnHouse$Box;)Z") ∈ lw_tbl := lw_at lw_m6 124 rfl
theorem q1603 : (Jvm.Cond.selects "ColumnHouse$RealBox" ({ cls := "ColumnHouse$Box", name := "sort", desc := "()I" } : Jvm.MethodName) ({ cls := "ColumnHouse$RealBox", name := "sort", desc := "()I" } : Jvm.MethodName)) ∈ lw_all := lw_g (lw_at lw_m6 139 rfl) rfl
theorem q1604 : (Jvm.Cond.unhidden "ColumnHouse$RealBox" "sort" "()I") ∈ lw_tbl := lw_at lw_m6 140 rfl
theorem q1605 : (Jvm.Cond.instanceMethod ({ cls := "ColumnHouse$RealBox", name := "sort", desc := "()I" } : Jvm.MethodName)) ∈ lw_all := lw_g (lw_at lw_m6 141 rfl) rfl
theorem q1606 : (Jvm.Cond.publicMethod ({ cls := "ColumnHouse$RealBox", name := "sort", desc := "()I" } : Jvm.MethodName)) ∈ lw_tbl := lw_at lw_m6 142 rfl
theorem q1607 : (Jvm.Cond.code ({ cls := "ColumnHouse$RealBox", name := "sort", desc := "()I" } : Jvm.MethodName) prog_6_method_2_code (1 : Nat) (Option.some Jvm.ClassFile.FieldType.int)) ∈ lw_all := lw_g (lw_at lw_m6 143 rfl) rfl
theorem q1623 : (Jvm.Cond.selects "ColumnHouse$RealBox" ({ cls := "ColumnHouse$Box", name := "told", desc := "()J" } : Jvm.MethodName) ({ cls := "ColumnHouse$RealBox", name := "told", desc := "()J" } : Jvm.MethodName)) ∈ lw_all := lw_g (lw_at lw_m6 159 rfl) rfl
theorem q1624 : (Jvm.Cond.unhidden "ColumnHouse$RealBox" "told" "()J") ∈ lw_tbl := lw_at lw_m6 160 rfl
theorem q1625 : (Jvm.Cond.instanceMethod ({ cls := "ColumnHouse$RealBox", name := "told", desc := "()J" } : Jvm.MethodName)) ∈ lw_all := lw_g (lw_at lw_m6 161 rfl) rfl
theorem q1626 : (Jvm.Cond.publicMethod ({ cls := "ColumnHouse$RealBox", name := "told", desc := "()J" } : Jvm.MethodName)) ∈ lw_tbl := lw_at lw_m6 162 rfl
theorem q1627 : (Jvm.Cond.code ({ cls := "ColumnHouse$RealBox", name := "told", desc := "()J" } : Jvm.MethodName) prog_6_method_3_code (1 : Nat) (Option.some Jvm.ClassFile.FieldType.long)) ∈ lw_all := lw_g (lw_at lw_m6 163 rfl) rfl
theorem q1628 : (Jvm.Cond.methodLink "ColumnHouse$RealBox" (13 : Nat) ({ cls := "java/lang/Double", name := "doubleToLongBits", desc := "(D)J" } : Jvm.MethodName)) ∈ lw_all := lw_g (lw_at lw_m6 164 rfl) rfl
theorem q1995 : (Jvm.Cond.selects "ColumnHouse$RealBox" ({ cls := "ColumnHouse$Box", name := "isAhead", desc := "(LColumnHouse$Box;)Z" } : Jvm.MethodName) ({ cls := "ColumnHouse$NumberBox", name := "isAhead", desc := "(LColumnHouse$Box;)Z" } : Jvm.MethodName)) ∈ lw_all := lw_g (lw_at lw_m8 51 rfl) rfl
theorem q1996 : (Jvm.Cond.unhidden "ColumnHouse$RealBox" "isAhead" "(LColumnHouse$Box;)Z") ∈ lw_tbl := lw_at lw_m8 52 rfl
theorem q3076 : (Jvm.Cond.castable "ColumnHouse$RealBox" "ColumnHouse$NumberBox") ∈ lw_tbl := lw_at lw_m12 172 rfl

/-! ColumnHouse$TextBox -/
set_option maxRecDepth 100000
abbrev cX8_init : ByteArray := prog_8_method_1_code
def yX8_init : MethodName := ⟨RX8, "<init>", "(J)V"⟩
def dkwX8_init_0 : List UInt8 := [42, 183, 0, 1, 42, 31, 181, 0, 7, 177]
abbrev dktX8_init_0 : List UInt8 := dkwX8_init_0 ++ []
theorem dksX8_init_0 : cX8_init.data.toList.drop 0 = dktX8_init_0 := by decide +kernel
theorem dX8_init_0 : decode cX8_init 0 = .ok (.aload_n 0, 1) := dk_42 (dk_at dksX8_init_0 0 rfl rfl)
theorem dX8_init_1 : decode cX8_init 1 = .ok (.invokespecial 1, 3) := dk_183 0 1 (dk_at dksX8_init_0 1 rfl rfl)
theorem dX8_init_4 : decode cX8_init 4 = .ok (.aload_n 0, 1) := dk_42 (dk_at dksX8_init_0 4 rfl rfl)
theorem dX8_init_5 : decode cX8_init 5 = .ok (.lload_n 1, 1) := dk_31 (dk_at dksX8_init_0 5 rfl rfl)
theorem dX8_init_6 : decode cX8_init 6 = .ok (.putfield 7, 3) := dk_181 0 7 (dk_at dksX8_init_0 6 rfl rfl)
theorem dX8_init_9 : decode cX8_init 9 = .ok (.return_, 1) := dk_177 (dk_at dksX8_init_0 9 rfl rfl)
abbrev cX8_sort : ByteArray := prog_8_method_2_code
def yX8_sort : MethodName := ⟨RX8, "sort", "()I"⟩
theorem dX8_sort_0 : decode cX8_sort 0 = .ok (.iconst 3, 1) := by decide +kernel
theorem dX8_sort_1 : decode cX8_sort 1 = .ok (.ireturn, 1) := by decide +kernel
abbrev cX8_told : ByteArray := prog_8_method_3_code
def yX8_told : MethodName := ⟨RX8, "told", "()J"⟩
def dkwX8_told_1 : List UInt8 := [125, 64, 167, 255, 235, 31, 173]
abbrev dktX8_told_1 : List UInt8 := dkwX8_told_1 ++ []
def dkwX8_told_0 : List UInt8 := [42, 180, 0, 7, 64, 31, 9, 148, 153, 0, 21, 31, 20, 0, 13, 127, 9, 148, 154, 0, 11, 31, 16, 8]
abbrev dktX8_told_0 : List UInt8 := dkwX8_told_0 ++ dktX8_told_1
theorem dksX8_told_0 : cX8_told.data.toList.drop 0 = dktX8_told_0 := by decide +kernel
theorem dksX8_told_1 : cX8_told.data.toList.drop 24 = dktX8_told_1 := dk_seg dksX8_told_0 24 rfl rfl
theorem dX8_told_0 : decode cX8_told 0 = .ok (.aload_n 0, 1) := dk_42 (dk_at dksX8_told_0 0 rfl rfl)
theorem dX8_told_1 : decode cX8_told 1 = .ok (.getfield 7, 3) := dk_180 0 7 (dk_at dksX8_told_0 1 rfl rfl)
theorem dX8_told_4 : decode cX8_told 4 = .ok (.lstore_n 1, 1) := dk_64 (dk_at dksX8_told_0 4 rfl rfl)
theorem dX8_told_5 : decode cX8_told 5 = .ok (.lload_n 1, 1) := dk_31 (dk_at dksX8_told_0 5 rfl rfl)
theorem dX8_told_6 : decode cX8_told 6 = .ok (.lconst 0, 1) := dk_9 (dk_at dksX8_told_0 6 rfl rfl)
theorem dX8_told_7 : decode cX8_told 7 = .ok (.lcmp, 1) := dk_148 (dk_at dksX8_told_0 7 rfl rfl)
theorem dX8_told_8 : decode cX8_told 8 = .ok (.ifCond .eq 21, 3) := dk_153 0 21 (dk_at dksX8_told_0 8 rfl rfl)
theorem dX8_told_11 : decode cX8_told 11 = .ok (.lload_n 1, 1) := dk_31 (dk_at dksX8_told_0 11 rfl rfl)
theorem dX8_told_12 : decode cX8_told 12 = .ok (.ldc2_w 13, 3) := dk_20 0 13 (dk_at dksX8_told_0 12 rfl rfl)
theorem dX8_told_15 : decode cX8_told 15 = .ok (.land, 1) := dk_127 (dk_at dksX8_told_0 15 rfl rfl)
theorem dX8_told_16 : decode cX8_told 16 = .ok (.lconst 0, 1) := dk_9 (dk_at dksX8_told_0 16 rfl rfl)
theorem dX8_told_17 : decode cX8_told 17 = .ok (.lcmp, 1) := dk_148 (dk_at dksX8_told_0 17 rfl rfl)
theorem dX8_told_18 : decode cX8_told 18 = .ok (.ifCond .ne 11, 3) := dk_154 0 11 (dk_at dksX8_told_0 18 rfl rfl)
theorem dX8_told_21 : decode cX8_told 21 = .ok (.lload_n 1, 1) := dk_31 (dk_at dksX8_told_0 21 rfl rfl)
theorem dX8_told_22 : decode cX8_told 22 = .ok (.bipush 8, 2) := dk_16 8 (dk_at dksX8_told_0 22 rfl rfl)
theorem dX8_told_24 : decode cX8_told 24 = .ok (.lushr, 1) := dk_125 (dk_at dksX8_told_1 0 rfl rfl)
theorem dX8_told_25 : decode cX8_told 25 = .ok (.lstore_n 1, 1) := dk_64 (dk_at dksX8_told_1 1 rfl rfl)
theorem dX8_told_26 : decode cX8_told 26 = .ok (.goto (-21), 3) := dk_167 255 235 (dk_at dksX8_told_1 2 rfl rfl)
theorem dX8_told_29 : decode cX8_told 29 = .ok (.lload_n 1, 1) := dk_31 (dk_at dksX8_told_1 5 rfl rfl)
theorem dX8_told_30 : decode cX8_told 30 = .ok (.lreturn, 1) := dk_173 (dk_at dksX8_told_1 6 rfl rfl)
abbrev cX8_isLess : ByteArray := prog_8_method_4_code
def yX8_isLess : MethodName := ⟨RX8, "isLess", "(LColumnHouse$TextBox;)Z"⟩
def dkwX8_isLess_1 : List UInt8 := [3, 172]
abbrev dktX8_isLess_1 : List UInt8 := dkwX8_isLess_1 ++ []
def dkwX8_isLess_0 : List UInt8 := [42, 180, 0, 7, 20, 0, 17, 97, 43, 180, 0, 7, 20, 0, 17, 97, 148, 156, 0, 7, 4, 167, 0, 4]
abbrev dktX8_isLess_0 : List UInt8 := dkwX8_isLess_0 ++ dktX8_isLess_1
theorem dksX8_isLess_0 : cX8_isLess.data.toList.drop 0 = dktX8_isLess_0 := by decide +kernel
theorem dksX8_isLess_1 : cX8_isLess.data.toList.drop 24 = dktX8_isLess_1 := dk_seg dksX8_isLess_0 24 rfl rfl
theorem dX8_isLess_0 : decode cX8_isLess 0 = .ok (.aload_n 0, 1) := dk_42 (dk_at dksX8_isLess_0 0 rfl rfl)
theorem dX8_isLess_1 : decode cX8_isLess 1 = .ok (.getfield 7, 3) := dk_180 0 7 (dk_at dksX8_isLess_0 1 rfl rfl)
theorem dX8_isLess_4 : decode cX8_isLess 4 = .ok (.ldc2_w 17, 3) := dk_20 0 17 (dk_at dksX8_isLess_0 4 rfl rfl)
theorem dX8_isLess_7 : decode cX8_isLess 7 = .ok (.ladd, 1) := dk_97 (dk_at dksX8_isLess_0 7 rfl rfl)
theorem dX8_isLess_8 : decode cX8_isLess 8 = .ok (.aload_n 1, 1) := dk_43 (dk_at dksX8_isLess_0 8 rfl rfl)
theorem dX8_isLess_9 : decode cX8_isLess 9 = .ok (.getfield 7, 3) := dk_180 0 7 (dk_at dksX8_isLess_0 9 rfl rfl)
theorem dX8_isLess_12 : decode cX8_isLess 12 = .ok (.ldc2_w 17, 3) := dk_20 0 17 (dk_at dksX8_isLess_0 12 rfl rfl)
theorem dX8_isLess_15 : decode cX8_isLess 15 = .ok (.ladd, 1) := dk_97 (dk_at dksX8_isLess_0 15 rfl rfl)
theorem dX8_isLess_16 : decode cX8_isLess 16 = .ok (.lcmp, 1) := dk_148 (dk_at dksX8_isLess_0 16 rfl rfl)
theorem dX8_isLess_17 : decode cX8_isLess 17 = .ok (.ifCond .ge 7, 3) := dk_156 0 7 (dk_at dksX8_isLess_0 17 rfl rfl)
theorem dX8_isLess_20 : decode cX8_isLess 20 = .ok (.iconst 1, 1) := dk_4 (dk_at dksX8_isLess_0 20 rfl rfl)
theorem dX8_isLess_21 : decode cX8_isLess 21 = .ok (.goto 4, 3) := dk_167 0 4 (dk_at dksX8_isLess_0 21 rfl rfl)
theorem dX8_isLess_24 : decode cX8_isLess 24 = .ok (.iconst 0, 1) := dk_3 (dk_at dksX8_isLess_1 0 rfl rfl)
theorem dX8_isLess_25 : decode cX8_isLess 25 = .ok (.ireturn, 1) := dk_172 (dk_at dksX8_isLess_1 1 rfl rfl)
abbrev cX8_isAhead : ByteArray := prog_8_method_5_code
def yX8_isAhead : MethodName := ⟨RX8, "isAhead", "(LColumnHouse$Box;)Z"⟩
def dkwX8_isAhead_0 : List UInt8 := [43, 193, 0, 8, 153, 0, 18, 42, 43, 192, 0, 8, 182, 0, 19, 153, 0, 7, 4, 167, 0, 4, 3, 172]
abbrev dktX8_isAhead_0 : List UInt8 := dkwX8_isAhead_0 ++ []
theorem dksX8_isAhead_0 : cX8_isAhead.data.toList.drop 0 = dktX8_isAhead_0 := by decide +kernel
theorem dX8_isAhead_0 : decode cX8_isAhead 0 = .ok (.aload_n 1, 1) := dk_43 (dk_at dksX8_isAhead_0 0 rfl rfl)
theorem dX8_isAhead_1 : decode cX8_isAhead 1 = .ok (.instanceof 8, 3) := dk_193 0 8 (dk_at dksX8_isAhead_0 1 rfl rfl)
theorem dX8_isAhead_4 : decode cX8_isAhead 4 = .ok (.ifCond .eq 18, 3) := dk_153 0 18 (dk_at dksX8_isAhead_0 4 rfl rfl)
theorem dX8_isAhead_7 : decode cX8_isAhead 7 = .ok (.aload_n 0, 1) := dk_42 (dk_at dksX8_isAhead_0 7 rfl rfl)
theorem dX8_isAhead_8 : decode cX8_isAhead 8 = .ok (.aload_n 1, 1) := dk_43 (dk_at dksX8_isAhead_0 8 rfl rfl)
theorem dX8_isAhead_9 : decode cX8_isAhead 9 = .ok (.checkcast 8, 3) := dk_192 0 8 (dk_at dksX8_isAhead_0 9 rfl rfl)
theorem dX8_isAhead_12 : decode cX8_isAhead 12 = .ok (.invokevirtual 19, 3) := dk_182 0 19 (dk_at dksX8_isAhead_0 12 rfl rfl)
theorem dX8_isAhead_15 : decode cX8_isAhead 15 = .ok (.ifCond .eq 7, 3) := dk_153 0 7 (dk_at dksX8_isAhead_0 15 rfl rfl)
theorem dX8_isAhead_18 : decode cX8_isAhead 18 = .ok (.iconst 1, 1) := dk_4 (dk_at dksX8_isAhead_0 18 rfl rfl)
theorem dX8_isAhead_19 : decode cX8_isAhead 19 = .ok (.goto 4, 3) := dk_167 0 4 (dk_at dksX8_isAhead_0 19 rfl rfl)
theorem dX8_isAhead_22 : decode cX8_isAhead 22 = .ok (.iconst 0, 1) := dk_3 (dk_at dksX8_isAhead_0 22 rfl rfl)
theorem dX8_isAhead_23 : decode cX8_isAhead 23 = .ok (.ireturn, 1) := dk_172 (dk_at dksX8_isAhead_0 23 rfl rfl)
theorem q286 : (Jvm.Cond.initialized "ColumnHouse$TextBox") ∈ lw_all := lw_g (lw_at lw_m1 22 rfl) rfl
theorem q850 : (Jvm.Cond.instantiable "ColumnHouse$TextBox" (1 : Nat)) ∈ lw_all := lw_g (lw_at lw_m3 106 rfl) rfl
theorem q852 : (Jvm.Cond.instanceMethod ({ cls := "ColumnHouse$TextBox", name := "<init>", desc := "(J)V" } : Jvm.MethodName)) ∈ lw_all := lw_g (lw_at lw_m3 108 rfl) rfl
theorem q853 : (Jvm.Cond.code ({ cls := "ColumnHouse$TextBox", name := "<init>", desc := "(J)V" } : Jvm.MethodName) prog_8_method_1_code (3 : Nat) (Option.none : Option Jvm.ClassFile.FieldType)) ∈ lw_all := lw_g (lw_at lw_m3 109 rfl) rfl
theorem q854 : (Jvm.Cond.methodLink "ColumnHouse$TextBox" (1 : Nat) ({ cls := "java/lang/Object", name := "<init>", desc := "()V" } : Jvm.MethodName)) ∈ lw_all := lw_g (lw_at lw_m3 110 rfl) rfl
theorem q855 : (Jvm.Cond.fieldLink "ColumnHouse$TextBox" (7 : Nat) "ColumnHouse$TextBox" "bytes" "J") ∈ lw_all := lw_g (lw_at lw_m3 111 rfl) rfl
theorem q856 : (Jvm.Cond.laysFinal "ColumnHouse$TextBox" "ColumnHouse$TextBox" "bytes" "J") ∈ lw_all := lw_g (lw_at lw_m3 112 rfl) rfl
theorem q857 : (Jvm.Cond.soleField "ColumnHouse$TextBox" "bytes") ∈ lw_all := lw_g (lw_at lw_m3 113 rfl) rfl
theorem q858 : (Jvm.Cond.superclass "ColumnHouse$TextBox" "java/lang/Object") ∈ lw_all := lw_g (lw_at lw_m3 114 rfl) rfl
theorem q1594 : (Jvm.Cond.castable "ColumnHouse$TextBox" "ColumnHouse$Box") ∈ lw_tbl := lw_at lw_m6 130 rfl
theorem q1595 : (Jvm.Cond.unhidden "ColumnHouse$TextBox" "isLike" "(LColumnHouse$Box;)Z") ∈ lw_tbl := lw_at lw_m6 131 rfl
theorem q1608 : (Jvm.Cond.selects "ColumnHouse$TextBox" ({ cls := "ColumnHouse$Box", name := "sort", desc := "()I" } : Jvm.MethodName) ({ cls := "ColumnHouse$TextBox", name := "sort", desc := "()I" } : Jvm.MethodName)) ∈ lw_all := lw_g (lw_at lw_m6 144 rfl) rfl
theorem q1609 : (Jvm.Cond.unhidden "ColumnHouse$TextBox" "sort" "()I") ∈ lw_tbl := lw_at lw_m6 145 rfl
theorem q1610 : (Jvm.Cond.instanceMethod ({ cls := "ColumnHouse$TextBox", name := "sort", desc := "()I" } : Jvm.MethodName)) ∈ lw_all := lw_g (lw_at lw_m6 146 rfl) rfl
theorem q1611 : (Jvm.Cond.publicMethod ({ cls := "ColumnHouse$TextBox", name := "sort", desc := "()I" } : Jvm.MethodName)) ∈ lw_tbl := lw_at lw_m6 147 rfl
theorem q1612 : (Jvm.Cond.code ({ cls := "ColumnHouse$TextBox", name := "sort", desc := "()I" } : Jvm.MethodName) prog_8_method_2_code (1 : Nat) (Option.some Jvm.ClassFile.FieldType.int)) ∈ lw_all := lw_g (lw_at lw_m6 148 rfl) rfl
theorem q1629 : (Jvm.Cond.selects "ColumnHouse$TextBox" ({ cls := "ColumnHouse$Box", name := "told", desc := "()J" } : Jvm.MethodName) ({ cls := "ColumnHouse$TextBox", name := "told", desc := "()J" } : Jvm.MethodName)) ∈ lw_all := lw_g (lw_at lw_m6 165 rfl) rfl
theorem q1630 : (Jvm.Cond.unhidden "ColumnHouse$TextBox" "told" "()J") ∈ lw_tbl := lw_at lw_m6 166 rfl
theorem q1631 : (Jvm.Cond.instanceMethod ({ cls := "ColumnHouse$TextBox", name := "told", desc := "()J" } : Jvm.MethodName)) ∈ lw_all := lw_g (lw_at lw_m6 167 rfl) rfl
theorem q1632 : (Jvm.Cond.publicMethod ({ cls := "ColumnHouse$TextBox", name := "told", desc := "()J" } : Jvm.MethodName)) ∈ lw_tbl := lw_at lw_m6 168 rfl
theorem q1633 : (Jvm.Cond.code ({ cls := "ColumnHouse$TextBox", name := "told", desc := "()J" } : Jvm.MethodName) prog_8_method_3_code (3 : Nat) (Option.some Jvm.ClassFile.FieldType.long)) ∈ lw_all := lw_g (lw_at lw_m6 169 rfl) rfl
theorem q1634 : (Jvm.Cond.constantLong "ColumnHouse$TextBox" (13 : Nat) (255 : Int64)) ∈ lw_all := lw_g (lw_at lw_m6 170 rfl) rfl
theorem q1667 : (Jvm.Cond.instanceMethod ({ cls := "ColumnHouse$TextBox", name := "isLess", desc := "(LColumnHouse$TextBox;)Z" } : Jvm.MethodName)) ∈ lw_all := lw_g (lw_at lw_m6 203 rfl) rfl
theorem q1668 : (Jvm.Cond.selects "ColumnHouse$TextBox" ({ cls := "ColumnHouse$TextBox", name := "isLess", desc := "(LColumnHouse$TextBox;)Z" } : Jvm.MethodName) ({ cls := "ColumnHouse$TextBox", name := "isLess", desc := "(LColumnHouse$TextBox;)Z" } : Jvm.MethodName)) ∈ lw_all := lw_g (lw_at lw_m6 204 rfl) rfl
theorem q1669 : (Jvm.Cond.code ({ cls := "ColumnHouse$TextBox", name := "isLess", desc := "(LColumnHouse$TextBox;)Z" } : Jvm.MethodName) prog_8_method_4_code (2 : Nat) (Option.some Jvm.ClassFile.FieldType.boolean)) ∈ lw_all := lw_g (lw_at lw_m6 205 rfl) rfl
theorem q1670 : (Jvm.Cond.constantLong "ColumnHouse$TextBox" (17 : Nat) (-9223372036854775808 : Int64)) ∈ lw_all := lw_g (lw_at lw_m6 206 rfl) rfl
theorem q2000 : (Jvm.Cond.selects "ColumnHouse$TextBox" ({ cls := "ColumnHouse$Box", name := "isAhead", desc := "(LColumnHouse$Box;)Z" } : Jvm.MethodName) ({ cls := "ColumnHouse$TextBox", name := "isAhead", desc := "(LColumnHouse$Box;)Z" } : Jvm.MethodName)) ∈ lw_all := lw_g (lw_at lw_m8 56 rfl) rfl
theorem q2001 : (Jvm.Cond.unhidden "ColumnHouse$TextBox" "isAhead" "(LColumnHouse$Box;)Z") ∈ lw_tbl := lw_at lw_m8 57 rfl
theorem q2002 : (Jvm.Cond.instanceMethod ({ cls := "ColumnHouse$TextBox", name := "isAhead", desc := "(LColumnHouse$Box;)Z" } : Jvm.MethodName)) ∈ lw_all := lw_g (lw_at lw_m8 58 rfl) rfl
theorem q2003 : (Jvm.Cond.publicMethod ({ cls := "ColumnHouse$TextBox", name := "isAhead", desc := "(LColumnHouse$Box;)Z" } : Jvm.MethodName)) ∈ lw_tbl := lw_at lw_m8 59 rfl
theorem q2004 : (Jvm.Cond.code ({ cls := "ColumnHouse$TextBox", name := "isAhead", desc := "(LColumnHouse$Box;)Z" } : Jvm.MethodName) prog_8_method_5_code (2 : Nat) (Option.some Jvm.ClassFile.FieldType.boolean)) ∈ lw_all := lw_g (lw_at lw_m8 60 rfl) rfl
theorem q2005 : (Jvm.Cond.classLink "ColumnHouse$TextBox" (8 : Nat) "ColumnHouse$TextBox") ∈ lw_all := lw_g (lw_at lw_m8 61 rfl) rfl
theorem q2006 : (Jvm.Cond.methodLink "ColumnHouse$TextBox" (19 : Nat) ({ cls := "ColumnHouse$TextBox", name := "isLess", desc := "(LColumnHouse$TextBox;)Z" } : Jvm.MethodName)) ∈ lw_all := lw_g (lw_at lw_m8 62 rfl) rfl

/-! ColumnHouse$Box -/
set_option maxRecDepth 100000
abbrev cX9_isLike : ByteArray := prog_2_method_3_code
def yX9_isLike : MethodName := ⟨RX9, "isLike", "(LColumnHouse$Box;)Z"⟩
def dkwX9_isLike_1 : List UInt8 := [185, 0, 7, 1, 0, 43, 185, 0, 7, 1, 0, 148, 154, 0, 7, 4, 167, 0, 4, 3, 172]
abbrev dktX9_isLike_1 : List UInt8 := dkwX9_isLike_1 ++ []
def dkwX9_isLike_0 : List UInt8 := [43, 198, 0, 38, 42, 185, 0, 1, 1, 0, 43, 185, 0, 1, 1, 0, 160, 0, 23, 42]
abbrev dktX9_isLike_0 : List UInt8 := dkwX9_isLike_0 ++ dktX9_isLike_1
theorem dksX9_isLike_0 : cX9_isLike.data.toList.drop 0 = dktX9_isLike_0 := by decide +kernel
theorem dksX9_isLike_1 : cX9_isLike.data.toList.drop 20 = dktX9_isLike_1 := dk_seg dksX9_isLike_0 20 rfl rfl
theorem dX9_isLike_0 : decode cX9_isLike 0 = .ok (.aload_n 1, 1) := dk_43 (dk_at dksX9_isLike_0 0 rfl rfl)
theorem dX9_isLike_1 : decode cX9_isLike 1 = .ok (.ifnull 38, 3) := dk_198 0 38 (dk_at dksX9_isLike_0 1 rfl rfl)
theorem dX9_isLike_4 : decode cX9_isLike 4 = .ok (.aload_n 0, 1) := dk_42 (dk_at dksX9_isLike_0 4 rfl rfl)
theorem dX9_isLike_5 : decode cX9_isLike 5 = .ok (.invokeinterface 1 1, 5) := by decide +kernel
theorem dX9_isLike_10 : decode cX9_isLike 10 = .ok (.aload_n 1, 1) := dk_43 (dk_at dksX9_isLike_0 10 rfl rfl)
theorem dX9_isLike_11 : decode cX9_isLike 11 = .ok (.invokeinterface 1 1, 5) := by decide +kernel
theorem dX9_isLike_16 : decode cX9_isLike 16 = .ok (.if_icmp .ne 23, 3) := dk_160 0 23 (dk_at dksX9_isLike_0 16 rfl rfl)
theorem dX9_isLike_19 : decode cX9_isLike 19 = .ok (.aload_n 0, 1) := dk_42 (dk_at dksX9_isLike_0 19 rfl rfl)
theorem dX9_isLike_20 : decode cX9_isLike 20 = .ok (.invokeinterface 7 1, 5) := by decide +kernel
theorem dX9_isLike_25 : decode cX9_isLike 25 = .ok (.aload_n 1, 1) := dk_43 (dk_at dksX9_isLike_1 5 rfl rfl)
theorem dX9_isLike_26 : decode cX9_isLike 26 = .ok (.invokeinterface 7 1, 5) := by decide +kernel
theorem dX9_isLike_31 : decode cX9_isLike 31 = .ok (.lcmp, 1) := dk_148 (dk_at dksX9_isLike_1 11 rfl rfl)
theorem dX9_isLike_32 : decode cX9_isLike 32 = .ok (.ifCond .ne 7, 3) := dk_154 0 7 (dk_at dksX9_isLike_1 12 rfl rfl)
theorem dX9_isLike_35 : decode cX9_isLike 35 = .ok (.iconst 1, 1) := dk_4 (dk_at dksX9_isLike_1 15 rfl rfl)
theorem dX9_isLike_36 : decode cX9_isLike 36 = .ok (.goto 4, 3) := dk_167 0 4 (dk_at dksX9_isLike_1 16 rfl rfl)
theorem dX9_isLike_39 : decode cX9_isLike 39 = .ok (.iconst 0, 1) := dk_3 (dk_at dksX9_isLike_1 19 rfl rfl)
theorem dX9_isLike_40 : decode cX9_isLike 40 = .ok (.ireturn, 1) := dk_172 (dk_at dksX9_isLike_1 20 rfl rfl)
theorem q1584 : (Jvm.Cond.interfaceMethod "ColumnHouse$Box" "ColumnHouse$Box" "isLike" "(LColumnHouse$Box;)Z") ∈ lw_tbl := lw_at lw_m6 120 rfl
theorem q1585 : (Jvm.Cond.declares ({ cls := "ColumnHouse$Box", name := "isLike", desc := "(LColumnHouse$Box;)Z" } : Jvm.MethodName)) ∈ lw_tbl := lw_at lw_m6 121 rfl
theorem q1596 : (Jvm.Cond.instanceMethod ({ cls := "ColumnHouse$Box", name := "isLike", desc := "(LColumnHouse$Box;)Z" } : Jvm.MethodName)) ∈ lw_all := lw_g (lw_at lw_m6 132 rfl) rfl
theorem q1597 : (Jvm.Cond.publicMethod ({ cls := "ColumnHouse$Box", name := "isLike", desc := "(LColumnHouse$Box;)Z" } : Jvm.MethodName)) ∈ lw_tbl := lw_at lw_m6 133 rfl
theorem q1598 : (Jvm.Cond.code ({ cls := "ColumnHouse$Box", name := "isLike", desc := "(LColumnHouse$Box;)Z" } : Jvm.MethodName) prog_2_method_3_code (2 : Nat) (Option.some Jvm.ClassFile.FieldType.boolean)) ∈ lw_all := lw_g (lw_at lw_m6 134 rfl) rfl
theorem q1599 : (Jvm.Cond.interfaceEntry "ColumnHouse$Box" (1 : Nat)) ∈ lw_tbl := lw_at lw_m6 135 rfl
theorem q1600 : (Jvm.Cond.methodLink "ColumnHouse$Box" (1 : Nat) ({ cls := "ColumnHouse$Box", name := "sort", desc := "()I" } : Jvm.MethodName)) ∈ lw_all := lw_g (lw_at lw_m6 136 rfl) rfl
theorem q1601 : (Jvm.Cond.interfaceMethod "ColumnHouse$Box" "ColumnHouse$Box" "sort" "()I") ∈ lw_tbl := lw_at lw_m6 137 rfl
theorem q1602 : (Jvm.Cond.declares ({ cls := "ColumnHouse$Box", name := "sort", desc := "()I" } : Jvm.MethodName)) ∈ lw_tbl := lw_at lw_m6 138 rfl
theorem q1619 : (Jvm.Cond.interfaceEntry "ColumnHouse$Box" (7 : Nat)) ∈ lw_tbl := lw_at lw_m6 155 rfl
theorem q1620 : (Jvm.Cond.methodLink "ColumnHouse$Box" (7 : Nat) ({ cls := "ColumnHouse$Box", name := "told", desc := "()J" } : Jvm.MethodName)) ∈ lw_all := lw_g (lw_at lw_m6 156 rfl) rfl
theorem q1621 : (Jvm.Cond.interfaceMethod "ColumnHouse$Box" "ColumnHouse$Box" "told" "()J") ∈ lw_tbl := lw_at lw_m6 157 rfl
theorem q1622 : (Jvm.Cond.declares ({ cls := "ColumnHouse$Box", name := "told", desc := "()J" } : Jvm.MethodName)) ∈ lw_tbl := lw_at lw_m6 158 rfl
theorem q1993 : (Jvm.Cond.interfaceMethod "ColumnHouse$Box" "ColumnHouse$Box" "isAhead" "(LColumnHouse$Box;)Z") ∈ lw_tbl := lw_at lw_m8 49 rfl
theorem q1994 : (Jvm.Cond.declares ({ cls := "ColumnHouse$Box", name := "isAhead", desc := "(LColumnHouse$Box;)Z" } : Jvm.MethodName)) ∈ lw_tbl := lw_at lw_m8 50 rfl
theorem q3074 : (Jvm.Cond.initialized "ColumnHouse$Box") ∈ lw_all := lw_g (lw_at lw_m12 170 rfl) rfl

theorem q264 : (Jvm.Cond.initialized "ColumnHouseLaw") ∈ lw_all := lw_g (lw_at lw_m1 0 rfl) rfl
set_option maxRecDepth 100000
theorem q294 : (Jvm.Cond.classLink "ColumnHouseLaw" (7 : Nat) "ColumnHouse") ∈ lw_all := lw_g (lw_at lw_m1 30 rfl) rfl
theorem q296 : (Jvm.Cond.methodLink "ColumnHouseLaw" (9 : Nat) ({ cls := "ColumnHouse", name := "<init>", desc := "()V" } : Jvm.MethodName)) ∈ lw_all := lw_g (lw_at lw_m1 32 rfl) rfl
theorem q581 : (Jvm.Cond.methodLink "ColumnHouseLaw" (13 : Nat) ({ cls := "ColumnHouse", name := "table", desc := "(II)I" } : Jvm.MethodName)) ∈ lw_all := lw_g (lw_at lw_m2 77 rfl) rfl
theorem q598 : (Jvm.Cond.methodLink "ColumnHouseLaw" (18 : Nat) ({ cls := "ColumnHouse", name := "column", desc := "(II)I" } : Jvm.MethodName)) ∈ lw_all := lw_g (lw_at lw_m2 94 rfl) rfl
theorem q683 : (Jvm.Cond.methodLink "ColumnHouseLaw" (24 : Nat) ({ cls := "ColumnHouse", name := "put", desc := "(IIIJ)I" } : Jvm.MethodName)) ∈ lw_all := lw_g (lw_at lw_m2 179 rfl) rfl
theorem q803 : (Jvm.Cond.methodLink "ColumnHouseLaw" (29 : Nat) ({ cls := "ColumnHouse", name := "box", desc := "(IIIIJ)I" } : Jvm.MethodName)) ∈ lw_all := lw_g (lw_at lw_m3 59 rfl) rfl
theorem q876 : (Jvm.Cond.methodLink "ColumnHouseLaw" (34 : Nat) ({ cls := "ColumnHouse", name := "item", desc := "(IIIII)I" } : Jvm.MethodName)) ∈ lw_all := lw_g (lw_at lw_m3 132 rfl) rfl
theorem q886 : (Jvm.Cond.methodLink "ColumnHouseLaw" (39 : Nat) ({ cls := "ColumnHouse", name := "away", desc := "(IIZ)I" } : Jvm.MethodName)) ∈ lw_all := lw_g (lw_at lw_m3 142 rfl) rfl
theorem q890 : (Jvm.Cond.methodLink "ColumnHouseLaw" (44 : Nat) ({ cls := "ColumnHouse", name := "copy", desc := "(IIIIIII)I" } : Jvm.MethodName)) ∈ lw_all := lw_g (lw_at lw_m3 146 rfl) rfl
theorem q901 : (Jvm.Cond.methodLink "ColumnHouseLaw" (49 : Nat) ({ cls := "ColumnHouse", name := "feed", desc := "(IIIII)I" } : Jvm.MethodName)) ∈ lw_all := lw_g (lw_at lw_m3 157 rfl) rfl
theorem q909 : (Jvm.Cond.methodLink "ColumnHouseLaw" (53 : Nat) ({ cls := "ColumnHouse", name := "ask", desc := "(I)I" } : Jvm.MethodName)) ∈ lw_all := lw_g (lw_at lw_m3 165 rfl) rfl
theorem q2023 : (Jvm.Cond.methodLink "ColumnHouseLaw" (58 : Nat) ({ cls := "ColumnHouse", name := "fault", desc := "(I)I" } : Jvm.MethodName)) ∈ lw_all := lw_g (lw_at lw_m8 79 rfl) rfl
theorem q2027 : (Jvm.Cond.methodLink "ColumnHouseLaw" (62 : Nat) ({ cls := "ColumnHouse", name := "held", desc := "(I)I" } : Jvm.MethodName)) ∈ lw_all := lw_g (lw_at lw_m8 83 rfl) rfl
theorem q2031 : (Jvm.Cond.methodLink "ColumnHouseLaw" (66 : Nat) ({ cls := "ColumnHouse", name := "size", desc := "(II)I" } : Jvm.MethodName)) ∈ lw_all := lw_g (lw_at lw_m8 87 rfl) rfl
theorem q2040 : (Jvm.Cond.methodLink "ColumnHouseLaw" (70 : Nat) ({ cls := "ColumnHouse", name := "kind", desc := "(II)I" } : Jvm.MethodName)) ∈ lw_all := lw_g (lw_at lw_m8 96 rfl) rfl
theorem q2048 : (Jvm.Cond.methodLink "ColumnHouseLaw" (74 : Nat) ({ cls := "ColumnHouse", name := "cell", desc := "(III)J" } : Jvm.MethodName)) ∈ lw_all := lw_g (lw_at lw_m8 104 rfl) rfl
theorem q2058 : (Jvm.Cond.methodLink "ColumnHouseLaw" (79 : Nat) ({ cls := "ColumnHouse", name := "sort", desc := "(III)I" } : Jvm.MethodName)) ∈ lw_all := lw_g (lw_at lw_m8 114 rfl) rfl
theorem q2062 : (Jvm.Cond.methodLink "ColumnHouseLaw" (84 : Nat) ({ cls := "ColumnHouse", name := "number", desc := "(IIII)I" } : Jvm.MethodName)) ∈ lw_all := lw_g (lw_at lw_m8 118 rfl) rfl
theorem q2066 : (Jvm.Cond.methodLink "ColumnHouseLaw" (89 : Nat) ({ cls := "ColumnHouse", name := "credit", desc := "()I" } : Jvm.MethodName)) ∈ lw_all := lw_g (lw_at lw_m8 122 rfl) rfl
theorem q2070 : (Jvm.Cond.classLink "ColumnHouseLaw" (10 : Nat) "ColumnHouseModel") ∈ lw_all := lw_g (lw_at lw_m8 126 rfl) rfl
theorem q2072 : (Jvm.Cond.methodLink "ColumnHouseLaw" (12 : Nat) ({ cls := "ColumnHouseModel", name := "<init>", desc := "()V" } : Jvm.MethodName)) ∈ lw_all := lw_g (lw_at lw_m8 128 rfl) rfl
theorem q2321 : (Jvm.Cond.methodLink "ColumnHouseLaw" (17 : Nat) ({ cls := "ColumnHouseModel", name := "table", desc := "(II)I" } : Jvm.MethodName)) ∈ lw_all := lw_g (lw_at lw_m9 137 rfl) rfl
theorem q2329 : (Jvm.Cond.methodLink "ColumnHouseLaw" (21 : Nat) ({ cls := "ColumnHouseModel", name := "column", desc := "(II)I" } : Jvm.MethodName)) ∈ lw_all := lw_g (lw_at lw_m9 145 rfl) rfl
theorem q2344 : (Jvm.Cond.methodLink "ColumnHouseLaw" (28 : Nat) ({ cls := "ColumnHouseModel", name := "put", desc := "(IIIJ)I" } : Jvm.MethodName)) ∈ lw_all := lw_g (lw_at lw_m9 160 rfl) rfl
theorem q2365 : (Jvm.Cond.methodLink "ColumnHouseLaw" (33 : Nat) ({ cls := "ColumnHouseModel", name := "box", desc := "(IIIIJ)I" } : Jvm.MethodName)) ∈ lw_all := lw_g (lw_at lw_m9 181 rfl) rfl
theorem q2373 : (Jvm.Cond.methodLink "ColumnHouseLaw" (38 : Nat) ({ cls := "ColumnHouseModel", name := "item", desc := "(IIIII)I" } : Jvm.MethodName)) ∈ lw_all := lw_g (lw_at lw_m9 189 rfl) rfl
theorem q2377 : (Jvm.Cond.methodLink "ColumnHouseLaw" (43 : Nat) ({ cls := "ColumnHouseModel", name := "away", desc := "(IIZ)I" } : Jvm.MethodName)) ∈ lw_all := lw_g (lw_at lw_m9 193 rfl) rfl
theorem q2381 : (Jvm.Cond.methodLink "ColumnHouseLaw" (48 : Nat) ({ cls := "ColumnHouseModel", name := "copy", desc := "(IIIIIII)I" } : Jvm.MethodName)) ∈ lw_all := lw_g (lw_at lw_m9 197 rfl) rfl
theorem q2393 : (Jvm.Cond.methodLink "ColumnHouseLaw" (52 : Nat) ({ cls := "ColumnHouseModel", name := "feed", desc := "(IIIII)I" } : Jvm.MethodName)) ∈ lw_all := lw_g (lw_at lw_m9 209 rfl) rfl
theorem q2401 : (Jvm.Cond.methodLink "ColumnHouseLaw" (57 : Nat) ({ cls := "ColumnHouseModel", name := "ask", desc := "(I)I" } : Jvm.MethodName)) ∈ lw_all := lw_g (lw_at lw_m9 217 rfl) rfl
theorem q3035 : (Jvm.Cond.methodLink "ColumnHouseLaw" (61 : Nat) ({ cls := "ColumnHouseModel", name := "fault", desc := "(I)I" } : Jvm.MethodName)) ∈ lw_all := lw_g (lw_at lw_m12 131 rfl) rfl
theorem q3039 : (Jvm.Cond.methodLink "ColumnHouseLaw" (65 : Nat) ({ cls := "ColumnHouseModel", name := "held", desc := "(I)I" } : Jvm.MethodName)) ∈ lw_all := lw_g (lw_at lw_m12 135 rfl) rfl
theorem q3043 : (Jvm.Cond.methodLink "ColumnHouseLaw" (69 : Nat) ({ cls := "ColumnHouseModel", name := "size", desc := "(II)I" } : Jvm.MethodName)) ∈ lw_all := lw_g (lw_at lw_m12 139 rfl) rfl
theorem q3047 : (Jvm.Cond.methodLink "ColumnHouseLaw" (73 : Nat) ({ cls := "ColumnHouseModel", name := "kind", desc := "(II)I" } : Jvm.MethodName)) ∈ lw_all := lw_g (lw_at lw_m12 143 rfl) rfl
theorem q3055 : (Jvm.Cond.methodLink "ColumnHouseLaw" (78 : Nat) ({ cls := "ColumnHouseModel", name := "cell", desc := "(III)J" } : Jvm.MethodName)) ∈ lw_all := lw_g (lw_at lw_m12 151 rfl) rfl
theorem q3059 : (Jvm.Cond.methodLink "ColumnHouseLaw" (83 : Nat) ({ cls := "ColumnHouseModel", name := "sort", desc := "(III)I" } : Jvm.MethodName)) ∈ lw_all := lw_g (lw_at lw_m12 155 rfl) rfl
theorem q3063 : (Jvm.Cond.methodLink "ColumnHouseLaw" (88 : Nat) ({ cls := "ColumnHouseModel", name := "number", desc := "(IIII)I" } : Jvm.MethodName)) ∈ lw_all := lw_g (lw_at lw_m12 159 rfl) rfl
theorem q3067 : (Jvm.Cond.methodLink "ColumnHouseLaw" (93 : Nat) ({ cls := "ColumnHouseModel", name := "credit", desc := "()I" } : Jvm.MethodName)) ∈ lw_all := lw_g (lw_at lw_m12 163 rfl) rfl
theorem q3071 : (Jvm.Cond.constantLong "ColumnHouseLaw" (22 : Nat) (4294967295 : Int64)) ∈ lw_all := lw_g (lw_at lw_m12 167 rfl) rfl

theorem q1264 : (Jvm.Cond.sameMethod "[B" "java/lang/Object" "clone" "()Ljava/lang/Object;") ∈ lw_all := lw_g (lw_at lw_m5 40 rfl) rfl
set_option maxRecDepth 100000
theorem q1265 : (Jvm.Cond.selects "[B" ({ cls := "[B", name := "clone", desc := "()Ljava/lang/Object;" } : Jvm.MethodName) ({ cls := "java/lang/Object", name := "clone", desc := "()Ljava/lang/Object;" } : Jvm.MethodName)) ∈ lw_all := lw_g (lw_at lw_m5 41 rfl) rfl
theorem q1266 : (Jvm.Cond.castable "[B" "java/lang/Cloneable") ∈ lw_tbl := lw_at lw_m5 42 rfl

theorem q1268 : (Jvm.Cond.sameMethod "[C" "java/lang/Object" "clone" "()Ljava/lang/Object;") ∈ lw_all := lw_g (lw_at lw_m5 44 rfl) rfl
set_option maxRecDepth 100000
theorem q1269 : (Jvm.Cond.selects "[C" ({ cls := "[C", name := "clone", desc := "()Ljava/lang/Object;" } : Jvm.MethodName) ({ cls := "java/lang/Object", name := "clone", desc := "()Ljava/lang/Object;" } : Jvm.MethodName)) ∈ lw_all := lw_g (lw_at lw_m5 45 rfl) rfl
theorem q1270 : (Jvm.Cond.castable "[C" "java/lang/Cloneable") ∈ lw_tbl := lw_at lw_m5 46 rfl

theorem q1285 : (Jvm.Cond.sameMethod "[D" "java/lang/Object" "clone" "()Ljava/lang/Object;") ∈ lw_all := lw_g (lw_at lw_m5 61 rfl) rfl
set_option maxRecDepth 100000
theorem q1286 : (Jvm.Cond.selects "[D" ({ cls := "[D", name := "clone", desc := "()Ljava/lang/Object;" } : Jvm.MethodName) ({ cls := "java/lang/Object", name := "clone", desc := "()Ljava/lang/Object;" } : Jvm.MethodName)) ∈ lw_all := lw_g (lw_at lw_m5 62 rfl) rfl
theorem q1287 : (Jvm.Cond.castable "[D" "java/lang/Cloneable") ∈ lw_tbl := lw_at lw_m5 63 rfl

theorem q1281 : (Jvm.Cond.sameMethod "[F" "java/lang/Object" "clone" "()Ljava/lang/Object;") ∈ lw_all := lw_g (lw_at lw_m5 57 rfl) rfl
set_option maxRecDepth 100000
theorem q1282 : (Jvm.Cond.selects "[F" ({ cls := "[F", name := "clone", desc := "()Ljava/lang/Object;" } : Jvm.MethodName) ({ cls := "java/lang/Object", name := "clone", desc := "()Ljava/lang/Object;" } : Jvm.MethodName)) ∈ lw_all := lw_g (lw_at lw_m5 58 rfl) rfl
theorem q1283 : (Jvm.Cond.castable "[F" "java/lang/Cloneable") ∈ lw_tbl := lw_at lw_m5 59 rfl

theorem q881 : (Jvm.Cond.sameMethod "[I" "java/lang/Object" "clone" "()Ljava/lang/Object;") ∈ lw_all := lw_g (lw_at lw_m3 137 rfl) rfl
set_option maxRecDepth 100000
theorem q884 : (Jvm.Cond.selects "[I" ({ cls := "[I", name := "clone", desc := "()Ljava/lang/Object;" } : Jvm.MethodName) ({ cls := "java/lang/Object", name := "clone", desc := "()Ljava/lang/Object;" } : Jvm.MethodName)) ∈ lw_all := lw_g (lw_at lw_m3 140 rfl) rfl
theorem q885 : (Jvm.Cond.castable "[I" "java/lang/Cloneable") ∈ lw_tbl := lw_at lw_m3 141 rfl

theorem q1277 : (Jvm.Cond.sameMethod "[J" "java/lang/Object" "clone" "()Ljava/lang/Object;") ∈ lw_all := lw_g (lw_at lw_m5 53 rfl) rfl
set_option maxRecDepth 100000
theorem q1278 : (Jvm.Cond.selects "[J" ({ cls := "[J", name := "clone", desc := "()Ljava/lang/Object;" } : Jvm.MethodName) ({ cls := "java/lang/Object", name := "clone", desc := "()Ljava/lang/Object;" } : Jvm.MethodName)) ∈ lw_all := lw_g (lw_at lw_m5 54 rfl) rfl
theorem q1279 : (Jvm.Cond.castable "[J" "java/lang/Cloneable") ∈ lw_tbl := lw_at lw_m5 55 rfl

theorem q1293 : (Jvm.Cond.sameMethod "[LColumnHouse$Box;" "java/lang/Object" "clone" "()Ljava/lang/Object;") ∈ lw_all := lw_g (lw_at lw_m5 69 rfl) rfl
set_option maxRecDepth 100000
theorem q1294 : (Jvm.Cond.selects "[LColumnHouse$Box;" ({ cls := "[LColumnHouse$Box;", name := "clone", desc := "()Ljava/lang/Object;" } : Jvm.MethodName) ({ cls := "java/lang/Object", name := "clone", desc := "()Ljava/lang/Object;" } : Jvm.MethodName)) ∈ lw_all := lw_g (lw_at lw_m5 70 rfl) rfl
theorem q1295 : (Jvm.Cond.castable "[LColumnHouse$Box;" "java/lang/Cloneable") ∈ lw_tbl := lw_at lw_m5 71 rfl

theorem q3078 : (Jvm.Cond.sameMethod "[LColumnHouse$NumberBox;" "java/lang/Object" "clone" "()Ljava/lang/Object;") ∈ lw_all := lw_g (lw_at lw_m12 174 rfl) rfl
set_option maxRecDepth 100000
theorem q3079 : (Jvm.Cond.selects "[LColumnHouse$NumberBox;" ({ cls := "[LColumnHouse$NumberBox;", name := "clone", desc := "()Ljava/lang/Object;" } : Jvm.MethodName) ({ cls := "java/lang/Object", name := "clone", desc := "()Ljava/lang/Object;" } : Jvm.MethodName)) ∈ lw_all := lw_g (lw_at lw_m12 175 rfl) rfl
theorem q3080 : (Jvm.Cond.castable "[LColumnHouse$NumberBox;" "java/lang/Cloneable") ∈ lw_tbl := lw_at lw_m12 176 rfl

theorem q3081 : (Jvm.Cond.sameMethod "[LColumnHouse$TextBox;" "java/lang/Object" "clone" "()Ljava/lang/Object;") ∈ lw_all := lw_g (lw_at lw_m12 177 rfl) rfl
set_option maxRecDepth 100000
theorem q3082 : (Jvm.Cond.selects "[LColumnHouse$TextBox;" ({ cls := "[LColumnHouse$TextBox;", name := "clone", desc := "()Ljava/lang/Object;" } : Jvm.MethodName) ({ cls := "java/lang/Object", name := "clone", desc := "()Ljava/lang/Object;" } : Jvm.MethodName)) ∈ lw_all := lw_g (lw_at lw_m12 178 rfl) rfl
theorem q3083 : (Jvm.Cond.castable "[LColumnHouse$TextBox;" "java/lang/Cloneable") ∈ lw_tbl := lw_at lw_m12 179 rfl

theorem q1272 : (Jvm.Cond.sameMethod "[S" "java/lang/Object" "clone" "()Ljava/lang/Object;") ∈ lw_all := lw_g (lw_at lw_m5 48 rfl) rfl
set_option maxRecDepth 100000
theorem q1273 : (Jvm.Cond.selects "[S" ({ cls := "[S", name := "clone", desc := "()Ljava/lang/Object;" } : Jvm.MethodName) ({ cls := "java/lang/Object", name := "clone", desc := "()Ljava/lang/Object;" } : Jvm.MethodName)) ∈ lw_all := lw_g (lw_at lw_m5 49 rfl) rfl
theorem q1274 : (Jvm.Cond.castable "[S" "java/lang/Cloneable") ∈ lw_tbl := lw_at lw_m5 50 rfl

theorem q1289 : (Jvm.Cond.sameMethod "[Z" "java/lang/Object" "clone" "()Ljava/lang/Object;") ∈ lw_all := lw_g (lw_at lw_m5 65 rfl) rfl
set_option maxRecDepth 100000
theorem q1290 : (Jvm.Cond.selects "[Z" ({ cls := "[Z", name := "clone", desc := "()Ljava/lang/Object;" } : Jvm.MethodName) ({ cls := "java/lang/Object", name := "clone", desc := "()Ljava/lang/Object;" } : Jvm.MethodName)) ∈ lw_all := lw_g (lw_at lw_m5 66 rfl) rfl
theorem q1291 : (Jvm.Cond.castable "[Z" "java/lang/Cloneable") ∈ lw_tbl := lw_at lw_m5 67 rfl

theorem q1298 : (Jvm.Cond.sameMethod "[[I" "java/lang/Object" "clone" "()Ljava/lang/Object;") ∈ lw_all := lw_g (lw_at lw_m5 74 rfl) rfl
set_option maxRecDepth 100000
theorem q1299 : (Jvm.Cond.selects "[[I" ({ cls := "[[I", name := "clone", desc := "()Ljava/lang/Object;" } : Jvm.MethodName) ({ cls := "java/lang/Object", name := "clone", desc := "()Ljava/lang/Object;" } : Jvm.MethodName)) ∈ lw_all := lw_g (lw_at lw_m5 75 rfl) rfl
theorem q1300 : (Jvm.Cond.castable "[[I" "java/lang/Cloneable") ∈ lw_tbl := lw_at lw_m5 76 rfl

theorem q278 : (Jvm.Cond.initialized "java/lang/Number") ∈ lw_all := lw_g (lw_at lw_m1 14 rfl) rfl
set_option maxRecDepth 100000

theorem q288 : (Jvm.Cond.initialized "java/lang/System") ∈ lw_all := lw_g (lw_at lw_m1 24 rfl) rfl
set_option maxRecDepth 100000
theorem q899 : (Jvm.Cond.static ({ cls := "java/lang/System", name := "arraycopy", desc := "(Ljava/lang/Object;ILjava/lang/Object;II)V" } : Jvm.MethodName)) ∈ lw_all := lw_g (lw_at lw_m3 155 rfl) rfl
theorem q900 : (Jvm.Cond.native ({ cls := "java/lang/System", name := "arraycopy", desc := "(Ljava/lang/Object;ILjava/lang/Object;II)V" } : Jvm.MethodName)) ∈ lw_all := lw_g (lw_at lw_m3 156 rfl) rfl

theorem q303 : (Jvm.Cond.arrayOver (Jvm.ClassFile.FieldType.object "ColumnHouse$Table")) ∈ lw_tbl := lw_at lw_m1 39 rfl
set_option maxRecDepth 100000
theorem q403 : (Jvm.Cond.arrayOver (Jvm.ClassFile.FieldType.object "ColumnHouse$Column")) ∈ lw_tbl := lw_at lw_m1 139 rfl
theorem q417 : (Jvm.Cond.arrayClass Jvm.ClassFile.FieldType.byte) ∈ lw_all := lw_g (lw_at lw_m1 153 rfl) rfl
theorem q418 : (Jvm.Cond.arrayClass Jvm.ClassFile.FieldType.int) ∈ lw_all := lw_g (lw_at lw_m1 154 rfl) rfl
theorem q419 : (Jvm.Cond.arrayClass Jvm.ClassFile.FieldType.long) ∈ lw_all := lw_g (lw_at lw_m1 155 rfl) rfl
theorem q634 : (Jvm.Cond.arrayOver (Jvm.ClassFile.FieldType.object "ColumnHouse$Box")) ∈ lw_tbl := lw_at lw_m2 130 rfl
theorem q636 : (Jvm.Cond.arrayOver (Jvm.ClassFile.FieldType.object "ColumnHouse$NumberBox")) ∈ lw_tbl := lw_at lw_m2 132 rfl
theorem q638 : (Jvm.Cond.arrayOver (Jvm.ClassFile.FieldType.object "ColumnHouse$TextBox")) ∈ lw_tbl := lw_at lw_m2 134 rfl
theorem q640 : (Jvm.Cond.arrayOver (Jvm.ClassFile.FieldType.array Jvm.ClassFile.FieldType.int)) ∈ lw_tbl := lw_at lw_m2 136 rfl
theorem q655 : (Jvm.Cond.arrayClass Jvm.ClassFile.FieldType.char) ∈ lw_all := lw_g (lw_at lw_m2 151 rfl) rfl
theorem q656 : (Jvm.Cond.arrayClass Jvm.ClassFile.FieldType.short) ∈ lw_all := lw_g (lw_at lw_m2 152 rfl) rfl
theorem q657 : (Jvm.Cond.arrayClass Jvm.ClassFile.FieldType.float) ∈ lw_all := lw_g (lw_at lw_m2 153 rfl) rfl
theorem q658 : (Jvm.Cond.arrayClass Jvm.ClassFile.FieldType.double) ∈ lw_all := lw_g (lw_at lw_m2 154 rfl) rfl
theorem q659 : (Jvm.Cond.arrayClass Jvm.ClassFile.FieldType.boolean) ∈ lw_all := lw_g (lw_at lw_m2 155 rfl) rfl

