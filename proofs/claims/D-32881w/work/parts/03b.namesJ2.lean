/-! java/lang/Throwable -/
set_option maxRecDepth 100000
def RJ5 : String := "java/lang/Throwable"
def TJ5 : u_T := fun k => match k with
  | 0 => ("java/lang/Throwable", "cause", "Ljava/lang/Throwable;", false)
  | 1 => ("java/lang/Throwable", "stackTrace", "[Ljava/lang/StackTraceElement;", false)
  | 2 => ("java/lang/Throwable", "suppressedExceptions", "Ljava/util/List;", false)
  | 3 => ("java/lang/Throwable", "detailMessage", "Ljava/lang/String;", false)
  | _ => ("java/lang/Throwable", "backtrace", "Ljava/lang/Object;", false)
def tyJ5 : Nat → FieldType := fun k => match k with
  | 0 => .object "java/lang/Throwable"
  | 1 => .array (.object "java/lang/StackTraceElement")
  | 2 => .object "java/util/List"
  | 3 => .object "java/lang/String"
  | _ => .object "java/lang/Object"
abbrev wsJ50 : List Cond := u_ws RJ5 TJ5 5
theorem nmJ5 : ∀ a, a < 5 → ∀ b, b < 5 → a ≠ b → (TJ5 a).2.1 ≠ (TJ5 b).2.1 := by decide +kernel
theorem tyJ5_ok : ∀ k, k < 5 → parseFieldDescriptor (TJ5 k).2.2.1 = some (tyJ5 k) := by decide +kernel
abbrev cJ5_init : ByteArray := prog_41_method_1_code
def yJ5_init : MethodName := ⟨RJ5, "<init>", "()V"⟩
def dkwJ5_init_1 : List UInt8 := [182, 0, 27, 87, 177]
abbrev dktJ5_init_1 : List UInt8 := dkwJ5_init_1 ++ []
def dkwJ5_init_0 : List UInt8 := [42, 183, 0, 1, 42, 42, 181, 0, 7, 42, 178, 0, 13, 181, 0, 17, 42, 178, 0, 20, 181, 0, 24, 42]
abbrev dktJ5_init_0 : List UInt8 := dkwJ5_init_0 ++ dktJ5_init_1
theorem dksJ5_init_0 : cJ5_init.data.toList.drop 0 = dktJ5_init_0 := by decide +kernel
theorem dksJ5_init_1 : cJ5_init.data.toList.drop 24 = dktJ5_init_1 := dk_seg dksJ5_init_0 24 rfl rfl
theorem dJ5_init_0 : decode cJ5_init 0 = .ok (.aload_n 0, 1) := dk_42 (dk_at dksJ5_init_0 0 rfl rfl)
theorem dJ5_init_1 : decode cJ5_init 1 = .ok (.invokespecial 1, 3) := dk_183 0 1 (dk_at dksJ5_init_0 1 rfl rfl)
theorem dJ5_init_4 : decode cJ5_init 4 = .ok (.aload_n 0, 1) := dk_42 (dk_at dksJ5_init_0 4 rfl rfl)
theorem dJ5_init_5 : decode cJ5_init 5 = .ok (.aload_n 0, 1) := dk_42 (dk_at dksJ5_init_0 5 rfl rfl)
theorem dJ5_init_6 : decode cJ5_init 6 = .ok (.putfield 7, 3) := dk_181 0 7 (dk_at dksJ5_init_0 6 rfl rfl)
theorem dJ5_init_9 : decode cJ5_init 9 = .ok (.aload_n 0, 1) := dk_42 (dk_at dksJ5_init_0 9 rfl rfl)
theorem dJ5_init_10 : decode cJ5_init 10 = .ok (.getstatic 13, 3) := dk_178 0 13 (dk_at dksJ5_init_0 10 rfl rfl)
theorem dJ5_init_13 : decode cJ5_init 13 = .ok (.putfield 17, 3) := dk_181 0 17 (dk_at dksJ5_init_0 13 rfl rfl)
theorem dJ5_init_16 : decode cJ5_init 16 = .ok (.aload_n 0, 1) := dk_42 (dk_at dksJ5_init_0 16 rfl rfl)
theorem dJ5_init_17 : decode cJ5_init 17 = .ok (.getstatic 20, 3) := dk_178 0 20 (dk_at dksJ5_init_0 17 rfl rfl)
theorem dJ5_init_20 : decode cJ5_init 20 = .ok (.putfield 24, 3) := dk_181 0 24 (dk_at dksJ5_init_0 20 rfl rfl)
theorem dJ5_init_23 : decode cJ5_init 23 = .ok (.aload_n 0, 1) := dk_42 (dk_at dksJ5_init_0 23 rfl rfl)
theorem dJ5_init_24 : decode cJ5_init 24 = .ok (.invokevirtual 27, 3) := dk_182 0 27 (dk_at dksJ5_init_1 0 rfl rfl)
theorem dJ5_init_27 : decode cJ5_init 27 = .ok (.pop, 1) := dk_87 (dk_at dksJ5_init_1 3 rfl rfl)
theorem dJ5_init_28 : decode cJ5_init 28 = .ok (.return_, 1) := dk_177 (dk_at dksJ5_init_1 4 rfl rfl)
abbrev cJ5_init_2 : ByteArray := prog_41_method_2_code
def yJ5_init_2 : MethodName := ⟨RJ5, "<init>", "(Ljava/lang/String;)V"⟩
def dkwJ5_init_2_1 : List UInt8 := [182, 0, 27, 87, 42, 43, 181, 0, 31, 177]
abbrev dktJ5_init_2_1 : List UInt8 := dkwJ5_init_2_1 ++ []
def dkwJ5_init_2_0 : List UInt8 := [42, 183, 0, 1, 42, 42, 181, 0, 7, 42, 178, 0, 13, 181, 0, 17, 42, 178, 0, 20, 181, 0, 24, 42]
abbrev dktJ5_init_2_0 : List UInt8 := dkwJ5_init_2_0 ++ dktJ5_init_2_1
theorem dksJ5_init_2_0 : cJ5_init_2.data.toList.drop 0 = dktJ5_init_2_0 := by decide +kernel
theorem dksJ5_init_2_1 : cJ5_init_2.data.toList.drop 24 = dktJ5_init_2_1 := dk_seg dksJ5_init_2_0 24 rfl rfl
theorem dJ5_init_2_0 : decode cJ5_init_2 0 = .ok (.aload_n 0, 1) := dk_42 (dk_at dksJ5_init_2_0 0 rfl rfl)
theorem dJ5_init_2_1 : decode cJ5_init_2 1 = .ok (.invokespecial 1, 3) := dk_183 0 1 (dk_at dksJ5_init_2_0 1 rfl rfl)
theorem dJ5_init_2_4 : decode cJ5_init_2 4 = .ok (.aload_n 0, 1) := dk_42 (dk_at dksJ5_init_2_0 4 rfl rfl)
theorem dJ5_init_2_5 : decode cJ5_init_2 5 = .ok (.aload_n 0, 1) := dk_42 (dk_at dksJ5_init_2_0 5 rfl rfl)
theorem dJ5_init_2_6 : decode cJ5_init_2 6 = .ok (.putfield 7, 3) := dk_181 0 7 (dk_at dksJ5_init_2_0 6 rfl rfl)
theorem dJ5_init_2_9 : decode cJ5_init_2 9 = .ok (.aload_n 0, 1) := dk_42 (dk_at dksJ5_init_2_0 9 rfl rfl)
theorem dJ5_init_2_10 : decode cJ5_init_2 10 = .ok (.getstatic 13, 3) := dk_178 0 13 (dk_at dksJ5_init_2_0 10 rfl rfl)
theorem dJ5_init_2_13 : decode cJ5_init_2 13 = .ok (.putfield 17, 3) := dk_181 0 17 (dk_at dksJ5_init_2_0 13 rfl rfl)
theorem dJ5_init_2_16 : decode cJ5_init_2 16 = .ok (.aload_n 0, 1) := dk_42 (dk_at dksJ5_init_2_0 16 rfl rfl)
theorem dJ5_init_2_17 : decode cJ5_init_2 17 = .ok (.getstatic 20, 3) := dk_178 0 20 (dk_at dksJ5_init_2_0 17 rfl rfl)
theorem dJ5_init_2_20 : decode cJ5_init_2 20 = .ok (.putfield 24, 3) := dk_181 0 24 (dk_at dksJ5_init_2_0 20 rfl rfl)
theorem dJ5_init_2_23 : decode cJ5_init_2 23 = .ok (.aload_n 0, 1) := dk_42 (dk_at dksJ5_init_2_0 23 rfl rfl)
theorem dJ5_init_2_24 : decode cJ5_init_2 24 = .ok (.invokevirtual 27, 3) := dk_182 0 27 (dk_at dksJ5_init_2_1 0 rfl rfl)
theorem dJ5_init_2_27 : decode cJ5_init_2 27 = .ok (.pop, 1) := dk_87 (dk_at dksJ5_init_2_1 3 rfl rfl)
theorem dJ5_init_2_28 : decode cJ5_init_2 28 = .ok (.aload_n 0, 1) := dk_42 (dk_at dksJ5_init_2_1 4 rfl rfl)
theorem dJ5_init_2_29 : decode cJ5_init_2 29 = .ok (.aload_n 1, 1) := dk_43 (dk_at dksJ5_init_2_1 5 rfl rfl)
theorem dJ5_init_2_30 : decode cJ5_init_2 30 = .ok (.putfield 31, 3) := dk_181 0 31 (dk_at dksJ5_init_2_1 6 rfl rfl)
theorem dJ5_init_2_33 : decode cJ5_init_2 33 = .ok (.return_, 1) := dk_177 (dk_at dksJ5_init_2_1 9 rfl rfl)
theorem q81 : (Jvm.Cond.initialized "java/lang/Throwable") ∈ lw_all := lw_g (lw_at lw_m1 8 rfl) rfl
theorem q299 : (Jvm.Cond.declares ({ cls := "java/lang/Throwable", name := "<init>", desc := "()V" } : Jvm.MethodName)) ∈ lw_tbl := lw_at lw_m1 226 rfl
theorem q300 : (Jvm.Cond.declares ({ cls := "java/lang/Throwable", name := "<init>", desc := "(Ljava/lang/String;)V" } : Jvm.MethodName)) ∈ lw_tbl := lw_at lw_m1 227 rfl
theorem q304 : (Jvm.Cond.lays "java/lang/Throwable" "java/lang/Throwable" "cause" "Ljava/lang/Throwable;") ∈ lw_all := lw_g (lw_at lw_m1 231 rfl) rfl
theorem q306 : (Jvm.Cond.lays "java/lang/Throwable" "java/lang/Throwable" "stackTrace" "[Ljava/lang/StackTraceElement;") ∈ lw_all := lw_g (lw_at lw_m1 233 rfl) rfl
theorem q308 : (Jvm.Cond.lays "java/lang/Throwable" "java/lang/Throwable" "suppressedExceptions" "Ljava/util/List;") ∈ lw_all := lw_g (lw_at lw_m1 235 rfl) rfl
theorem q310 : (Jvm.Cond.lays "java/lang/Throwable" "java/lang/Throwable" "detailMessage" "Ljava/lang/String;") ∈ lw_all := lw_g (lw_at lw_m1 237 rfl) rfl
theorem q312 : (Jvm.Cond.lays "java/lang/Throwable" "java/lang/Throwable" "backtrace" "Ljava/lang/Object;") ∈ lw_all := lw_g (lw_at lw_m1 239 rfl) rfl
theorem q313 : (Jvm.Cond.fieldLink "java/lang/Throwable" (198 : Nat) "java/lang/Throwable" "backtrace" "Ljava/lang/Object;") ∈ lw_all := lw_g (lw_at lw_m2 0 rfl) rfl
theorem q314 : (Jvm.Cond.superclass "java/lang/Throwable" "java/lang/Object") ∈ lw_all := lw_g (lw_at lw_m2 1 rfl) rfl
theorem q315 : (Jvm.Cond.instanceMethod ({ cls := "java/lang/Throwable", name := "<init>", desc := "()V" } : Jvm.MethodName)) ∈ lw_all := lw_g (lw_at lw_m2 2 rfl) rfl
theorem q316 : (Jvm.Cond.code ({ cls := "java/lang/Throwable", name := "<init>", desc := "()V" } : Jvm.MethodName) prog_41_method_1_code (1 : Nat) (Option.none : Option Jvm.ClassFile.FieldType)) ∈ lw_all := lw_g (lw_at lw_m2 3 rfl) rfl
theorem q317 : (Jvm.Cond.methodLink "java/lang/Throwable" (1 : Nat) ({ cls := "java/lang/Object", name := "<init>", desc := "()V" } : Jvm.MethodName)) ∈ lw_all := lw_g (lw_at lw_m2 4 rfl) rfl
theorem q318 : (Jvm.Cond.fieldLink "java/lang/Throwable" (13 : Nat) "java/lang/Throwable" "UNASSIGNED_STACK" "[Ljava/lang/StackTraceElement;") ∈ lw_all := lw_g (lw_at lw_m2 5 rfl) rfl
theorem q319 : (Jvm.Cond.laysStatic "java/lang/Throwable" "UNASSIGNED_STACK" "[Ljava/lang/StackTraceElement;") ∈ lw_tbl := lw_at lw_m2 6 rfl
theorem q320 : (Jvm.Cond.fieldLink "java/lang/Throwable" (20 : Nat) "java/lang/Throwable" "SUPPRESSED_SENTINEL" "Ljava/util/List;") ∈ lw_all := lw_g (lw_at lw_m2 7 rfl) rfl
theorem q321 : (Jvm.Cond.laysStatic "java/lang/Throwable" "SUPPRESSED_SENTINEL" "Ljava/util/List;") ∈ lw_tbl := lw_at lw_m2 8 rfl
theorem q322 : (Jvm.Cond.methodLink "java/lang/Throwable" (27 : Nat) ({ cls := "java/lang/Throwable", name := "fillInStackTrace", desc := "()Ljava/lang/Throwable;" } : Jvm.MethodName)) ∈ lw_all := lw_g (lw_at lw_m2 9 rfl) rfl
theorem q323 : (Jvm.Cond.instanceMethod ({ cls := "java/lang/Throwable", name := "fillInStackTrace", desc := "()Ljava/lang/Throwable;" } : Jvm.MethodName)) ∈ lw_all := lw_g (lw_at lw_m2 10 rfl) rfl
theorem q324 : (Jvm.Cond.sameMethod "java/lang/Throwable" "java/lang/Throwable" "fillInStackTrace" "()Ljava/lang/Throwable;") ∈ lw_all := lw_g (lw_at lw_m2 11 rfl) rfl
theorem q328 : (Jvm.Cond.codeSync ({ cls := "java/lang/Throwable", name := "fillInStackTrace", desc := "()Ljava/lang/Throwable;" } : Jvm.MethodName) prog_41_method_18_code (1 : Nat) (Option.some (Jvm.ClassFile.FieldType.object "java/lang/Throwable"))) ∈ lw_all := lw_g (lw_at lw_m2 15 rfl) rfl
theorem q329 : (Jvm.Cond.methodLink "java/lang/Throwable" (202 : Nat) ({ cls := "java/lang/Throwable", name := "fillInStackTrace", desc := "(I)Ljava/lang/Throwable;" } : Jvm.MethodName)) ∈ lw_all := lw_g (lw_at lw_m2 16 rfl) rfl
theorem q330 : (Jvm.Cond.privateMethod ({ cls := "java/lang/Throwable", name := "fillInStackTrace", desc := "(I)Ljava/lang/Throwable;" } : Jvm.MethodName)) ∈ lw_tbl := lw_at lw_m2 17 rfl
theorem q331 : (Jvm.Cond.instanceMethod ({ cls := "java/lang/Throwable", name := "fillInStackTrace", desc := "(I)Ljava/lang/Throwable;" } : Jvm.MethodName)) ∈ lw_all := lw_g (lw_at lw_m2 18 rfl) rfl
theorem q332 : (Jvm.Cond.instantiable "java/lang/Throwable" (6 : Nat)) ∈ lw_all := lw_g (lw_at lw_m2 19 rfl) rfl
theorem q333 : (Jvm.Cond.native ({ cls := "java/lang/Throwable", name := "fillInStackTrace", desc := "(I)Ljava/lang/Throwable;" } : Jvm.MethodName)) ∈ lw_all := lw_g (lw_at lw_m2 20 rfl) rfl
theorem q344 : (Jvm.Cond.fieldLink "java/lang/Throwable" (198 : Nat) "java/lang/Throwable" "backtrace" "Ljava/lang/Object;") ∈ lw_all := lw_g (lw_at lw_m2 31 rfl) rfl
theorem q345 : (Jvm.Cond.fieldLink "java/lang/Throwable" (31 : Nat) "java/lang/Throwable" "detailMessage" "Ljava/lang/String;") ∈ lw_all := lw_g (lw_at lw_m2 32 rfl) rfl
theorem q346 : (Jvm.Cond.fieldLink "java/lang/Throwable" (7 : Nat) "java/lang/Throwable" "cause" "Ljava/lang/Throwable;") ∈ lw_all := lw_g (lw_at lw_m2 33 rfl) rfl
theorem q347 : (Jvm.Cond.fieldLink "java/lang/Throwable" (17 : Nat) "java/lang/Throwable" "stackTrace" "[Ljava/lang/StackTraceElement;") ∈ lw_all := lw_g (lw_at lw_m2 34 rfl) rfl
theorem q348 : (Jvm.Cond.fieldLink "java/lang/Throwable" (24 : Nat) "java/lang/Throwable" "suppressedExceptions" "Ljava/util/List;") ∈ lw_all := lw_g (lw_at lw_m2 35 rfl) rfl
theorem q349 : (Jvm.Cond.soleField "java/lang/Throwable" "backtrace") ∈ lw_all := lw_g (lw_at lw_m2 36 rfl) rfl
theorem q350 : (Jvm.Cond.soleField "java/lang/Throwable" "detailMessage") ∈ lw_all := lw_g (lw_at lw_m2 37 rfl) rfl
theorem q351 : (Jvm.Cond.soleField "java/lang/Throwable" "cause") ∈ lw_all := lw_g (lw_at lw_m2 38 rfl) rfl
theorem q352 : (Jvm.Cond.soleField "java/lang/Throwable" "stackTrace") ∈ lw_all := lw_g (lw_at lw_m2 39 rfl) rfl
theorem q354 : (Jvm.Cond.soleField "java/lang/Throwable" "depth") ∈ lw_all := lw_g (lw_at lw_m2 41 rfl) rfl
theorem q355 : (Jvm.Cond.soleField "java/lang/Throwable" "suppressedExceptions") ∈ lw_all := lw_g (lw_at lw_m2 42 rfl) rfl
theorem q1593 : (Jvm.Cond.instanceMethod ({ cls := "java/lang/Throwable", name := "<init>", desc := "(Ljava/lang/String;)V" } : Jvm.MethodName)) ∈ lw_all := lw_g (lw_at lw_m7 80 rfl) rfl
theorem q1594 : (Jvm.Cond.code ({ cls := "java/lang/Throwable", name := "<init>", desc := "(Ljava/lang/String;)V" } : Jvm.MethodName) prog_41_method_2_code (2 : Nat) (Option.none : Option Jvm.ClassFile.FieldType)) ∈ lw_all := lw_g (lw_at lw_m7 81 rfl) rfl
theorem q2921 : (Jvm.Cond.sameMethod "java/lang/Throwable" "java/lang/Throwable" "fillInStackTrace" "(I)Ljava/lang/Throwable;") ∈ lw_all := lw_g (lw_at lw_m12 208 rfl) rfl
theorem q2960 : (Jvm.Cond.castable "java/lang/Throwable" "java/lang/Object") ∈ lw_tbl := lw_at lw_m13 7 rfl
theorem in_J5 : ∀ w ∈ wsJ50, w ∈ lw_all := lw_in wsJ50 [304, 306, 308, 310, 312] (by decide +kernel) (by decide +kernel)
/-! java/lang/Exception -/
set_option maxRecDepth 100000
def RJ6 : String := "java/lang/Exception"
abbrev cJ6_init : ByteArray := prog_25_method_1_code
def yJ6_init : MethodName := ⟨RJ6, "<init>", "()V"⟩
theorem dJ6_init_0 : decode cJ6_init 0 = .ok (.aload_n 0, 1) := by decide +kernel
theorem dJ6_init_1 : decode cJ6_init 1 = .ok (.invokespecial 1, 3) := by decide +kernel
theorem dJ6_init_4 : decode cJ6_init 4 = .ok (.return_, 1) := by decide +kernel
abbrev cJ6_init_2 : ByteArray := prog_25_method_2_code
def yJ6_init_2 : MethodName := ⟨RJ6, "<init>", "(Ljava/lang/String;)V"⟩
def dkwJ6_init_2_0 : List UInt8 := [42, 43, 183, 0, 7, 177]
abbrev dktJ6_init_2_0 : List UInt8 := dkwJ6_init_2_0 ++ []
theorem dksJ6_init_2_0 : cJ6_init_2.data.toList.drop 0 = dktJ6_init_2_0 := by decide +kernel
theorem dJ6_init_2_0 : decode cJ6_init_2 0 = .ok (.aload_n 0, 1) := dk_42 (dk_at dksJ6_init_2_0 0 rfl rfl)
theorem dJ6_init_2_1 : decode cJ6_init_2 1 = .ok (.aload_n 1, 1) := dk_43 (dk_at dksJ6_init_2_0 1 rfl rfl)
theorem dJ6_init_2_2 : decode cJ6_init_2 2 = .ok (.invokespecial 7, 3) := dk_183 0 7 (dk_at dksJ6_init_2_0 2 rfl rfl)
theorem dJ6_init_2_5 : decode cJ6_init_2 5 = .ok (.return_, 1) := dk_177 (dk_at dksJ6_init_2_0 5 rfl rfl)
theorem q82 : (Jvm.Cond.initialized "java/lang/Exception") ∈ lw_all := lw_g (lw_at lw_m1 9 rfl) rfl
theorem q297 : (Jvm.Cond.declares ({ cls := "java/lang/Exception", name := "<init>", desc := "()V" } : Jvm.MethodName)) ∈ lw_tbl := lw_at lw_m1 224 rfl
theorem q298 : (Jvm.Cond.declares ({ cls := "java/lang/Exception", name := "<init>", desc := "(Ljava/lang/String;)V" } : Jvm.MethodName)) ∈ lw_tbl := lw_at lw_m1 225 rfl
theorem q341 : (Jvm.Cond.instanceMethod ({ cls := "java/lang/Exception", name := "<init>", desc := "()V" } : Jvm.MethodName)) ∈ lw_all := lw_g (lw_at lw_m2 28 rfl) rfl
theorem q342 : (Jvm.Cond.code ({ cls := "java/lang/Exception", name := "<init>", desc := "()V" } : Jvm.MethodName) prog_25_method_1_code (1 : Nat) (Option.none : Option Jvm.ClassFile.FieldType)) ∈ lw_all := lw_g (lw_at lw_m2 29 rfl) rfl
theorem q343 : (Jvm.Cond.methodLink "java/lang/Exception" (1 : Nat) ({ cls := "java/lang/Throwable", name := "<init>", desc := "()V" } : Jvm.MethodName)) ∈ lw_all := lw_g (lw_at lw_m2 30 rfl) rfl
theorem q1590 : (Jvm.Cond.instanceMethod ({ cls := "java/lang/Exception", name := "<init>", desc := "(Ljava/lang/String;)V" } : Jvm.MethodName)) ∈ lw_all := lw_g (lw_at lw_m7 77 rfl) rfl
theorem q1591 : (Jvm.Cond.code ({ cls := "java/lang/Exception", name := "<init>", desc := "(Ljava/lang/String;)V" } : Jvm.MethodName) prog_25_method_2_code (2 : Nat) (Option.none : Option Jvm.ClassFile.FieldType)) ∈ lw_all := lw_g (lw_at lw_m7 78 rfl) rfl
theorem q1592 : (Jvm.Cond.methodLink "java/lang/Exception" (7 : Nat) ({ cls := "java/lang/Throwable", name := "<init>", desc := "(Ljava/lang/String;)V" } : Jvm.MethodName)) ∈ lw_all := lw_g (lw_at lw_m7 79 rfl) rfl
/-! java/lang/RuntimeException -/
set_option maxRecDepth 100000
def RJ7 : String := "java/lang/RuntimeException"
abbrev cJ7_init : ByteArray := prog_36_method_1_code
def yJ7_init : MethodName := ⟨RJ7, "<init>", "()V"⟩
theorem dJ7_init_0 : decode cJ7_init 0 = .ok (.aload_n 0, 1) := by decide +kernel
theorem dJ7_init_1 : decode cJ7_init 1 = .ok (.invokespecial 1, 3) := by decide +kernel
theorem dJ7_init_4 : decode cJ7_init 4 = .ok (.return_, 1) := by decide +kernel
abbrev cJ7_init_2 : ByteArray := prog_36_method_2_code
def yJ7_init_2 : MethodName := ⟨RJ7, "<init>", "(Ljava/lang/String;)V"⟩
def dkwJ7_init_2_0 : List UInt8 := [42, 43, 183, 0, 7, 177]
abbrev dktJ7_init_2_0 : List UInt8 := dkwJ7_init_2_0 ++ []
theorem dksJ7_init_2_0 : cJ7_init_2.data.toList.drop 0 = dktJ7_init_2_0 := by decide +kernel
theorem dJ7_init_2_0 : decode cJ7_init_2 0 = .ok (.aload_n 0, 1) := dk_42 (dk_at dksJ7_init_2_0 0 rfl rfl)
theorem dJ7_init_2_1 : decode cJ7_init_2 1 = .ok (.aload_n 1, 1) := dk_43 (dk_at dksJ7_init_2_0 1 rfl rfl)
theorem dJ7_init_2_2 : decode cJ7_init_2 2 = .ok (.invokespecial 7, 3) := dk_183 0 7 (dk_at dksJ7_init_2_0 2 rfl rfl)
theorem dJ7_init_2_5 : decode cJ7_init_2 5 = .ok (.return_, 1) := dk_177 (dk_at dksJ7_init_2_0 5 rfl rfl)
theorem q83 : (Jvm.Cond.initialized "java/lang/RuntimeException") ∈ lw_all := lw_g (lw_at lw_m1 10 rfl) rfl
theorem q295 : (Jvm.Cond.declares ({ cls := "java/lang/RuntimeException", name := "<init>", desc := "()V" } : Jvm.MethodName)) ∈ lw_tbl := lw_at lw_m1 222 rfl
theorem q296 : (Jvm.Cond.declares ({ cls := "java/lang/RuntimeException", name := "<init>", desc := "(Ljava/lang/String;)V" } : Jvm.MethodName)) ∈ lw_tbl := lw_at lw_m1 223 rfl
theorem q338 : (Jvm.Cond.instanceMethod ({ cls := "java/lang/RuntimeException", name := "<init>", desc := "()V" } : Jvm.MethodName)) ∈ lw_all := lw_g (lw_at lw_m2 25 rfl) rfl
theorem q339 : (Jvm.Cond.code ({ cls := "java/lang/RuntimeException", name := "<init>", desc := "()V" } : Jvm.MethodName) prog_36_method_1_code (1 : Nat) (Option.none : Option Jvm.ClassFile.FieldType)) ∈ lw_all := lw_g (lw_at lw_m2 26 rfl) rfl
theorem q340 : (Jvm.Cond.methodLink "java/lang/RuntimeException" (1 : Nat) ({ cls := "java/lang/Exception", name := "<init>", desc := "()V" } : Jvm.MethodName)) ∈ lw_all := lw_g (lw_at lw_m2 27 rfl) rfl
theorem q1587 : (Jvm.Cond.instanceMethod ({ cls := "java/lang/RuntimeException", name := "<init>", desc := "(Ljava/lang/String;)V" } : Jvm.MethodName)) ∈ lw_all := lw_g (lw_at lw_m7 74 rfl) rfl
theorem q1588 : (Jvm.Cond.code ({ cls := "java/lang/RuntimeException", name := "<init>", desc := "(Ljava/lang/String;)V" } : Jvm.MethodName) prog_36_method_2_code (2 : Nat) (Option.none : Option Jvm.ClassFile.FieldType)) ∈ lw_all := lw_g (lw_at lw_m7 75 rfl) rfl
theorem q1589 : (Jvm.Cond.methodLink "java/lang/RuntimeException" (7 : Nat) ({ cls := "java/lang/Exception", name := "<init>", desc := "(Ljava/lang/String;)V" } : Jvm.MethodName)) ∈ lw_all := lw_g (lw_at lw_m7 76 rfl) rfl
/-! java/lang/IllegalArgumentException -/
set_option maxRecDepth 100000
def RJ8 : String := "java/lang/IllegalArgumentException"
def TJ8 : u_T := fun k => match k with
  | 0 => ("java/lang/Throwable", "cause", "Ljava/lang/Throwable;", false)
  | 1 => ("java/lang/Throwable", "stackTrace", "[Ljava/lang/StackTraceElement;", false)
  | 2 => ("java/lang/Throwable", "suppressedExceptions", "Ljava/util/List;", false)
  | 3 => ("java/lang/Throwable", "detailMessage", "Ljava/lang/String;", false)
  | 4 => ("java/lang/Throwable", "backtrace", "Ljava/lang/Object;", false)
  | _ => ("java/lang/Throwable", "depth", "I", false)
def tyJ8 : Nat → FieldType := fun k => match k with
  | 0 => .object "java/lang/Throwable"
  | 1 => .array (.object "java/lang/StackTraceElement")
  | 2 => .object "java/util/List"
  | 3 => .object "java/lang/String"
  | 4 => .object "java/lang/Object"
  | _ => .int
abbrev wsJ80 : List Cond := u_ws RJ8 TJ8 6
theorem nmJ8 : ∀ a, a < 6 → ∀ b, b < 6 → a ≠ b → (TJ8 a).2.1 ≠ (TJ8 b).2.1 := by decide +kernel
theorem tyJ8_ok : ∀ k, k < 6 → parseFieldDescriptor (TJ8 k).2.2.1 = some (tyJ8 k) := by decide +kernel
abbrev cJ8_init : ByteArray := prog_26_method_1_code
def yJ8_init : MethodName := ⟨RJ8, "<init>", "()V"⟩
theorem dJ8_init_0 : decode cJ8_init 0 = .ok (.aload_n 0, 1) := by decide +kernel
theorem dJ8_init_1 : decode cJ8_init 1 = .ok (.invokespecial 1, 3) := by decide +kernel
theorem dJ8_init_4 : decode cJ8_init 4 = .ok (.return_, 1) := by decide +kernel
abbrev cJ8_init_2 : ByteArray := prog_26_method_2_code
def yJ8_init_2 : MethodName := ⟨RJ8, "<init>", "(Ljava/lang/String;)V"⟩
def dkwJ8_init_2_0 : List UInt8 := [42, 43, 183, 0, 7, 177]
abbrev dktJ8_init_2_0 : List UInt8 := dkwJ8_init_2_0 ++ []
theorem dksJ8_init_2_0 : cJ8_init_2.data.toList.drop 0 = dktJ8_init_2_0 := by decide +kernel
theorem dJ8_init_2_0 : decode cJ8_init_2 0 = .ok (.aload_n 0, 1) := dk_42 (dk_at dksJ8_init_2_0 0 rfl rfl)
theorem dJ8_init_2_1 : decode cJ8_init_2 1 = .ok (.aload_n 1, 1) := dk_43 (dk_at dksJ8_init_2_0 1 rfl rfl)
theorem dJ8_init_2_2 : decode cJ8_init_2 2 = .ok (.invokespecial 7, 3) := dk_183 0 7 (dk_at dksJ8_init_2_0 2 rfl rfl)
theorem dJ8_init_2_5 : decode cJ8_init_2 5 = .ok (.return_, 1) := dk_177 (dk_at dksJ8_init_2_0 5 rfl rfl)
theorem q84 : (Jvm.Cond.initialized "java/lang/IllegalArgumentException") ∈ lw_all := lw_g (lw_at lw_m1 11 rfl) rfl
theorem q293 : (Jvm.Cond.instantiable "java/lang/IllegalArgumentException" (6 : Nat)) ∈ lw_all := lw_g (lw_at lw_m1 220 rfl) rfl
theorem q294 : (Jvm.Cond.castable "java/lang/IllegalArgumentException" "java/lang/IllegalArgumentException") ∈ lw_tbl := lw_at lw_m1 221 rfl
theorem q301 : (Jvm.Cond.selects "java/lang/IllegalArgumentException" ({ cls := "java/lang/Throwable", name := "fillInStackTrace", desc := "(I)Ljava/lang/Throwable;" } : Jvm.MethodName) ({ cls := "java/lang/Throwable", name := "fillInStackTrace", desc := "(I)Ljava/lang/Throwable;" } : Jvm.MethodName)) ∈ lw_all := lw_g (lw_at lw_m1 228 rfl) rfl
theorem q302 : (Jvm.Cond.selects "java/lang/IllegalArgumentException" ({ cls := "java/lang/Throwable", name := "fillInStackTrace", desc := "()Ljava/lang/Throwable;" } : Jvm.MethodName) ({ cls := "java/lang/Throwable", name := "fillInStackTrace", desc := "()Ljava/lang/Throwable;" } : Jvm.MethodName)) ∈ lw_all := lw_g (lw_at lw_m1 229 rfl) rfl
theorem q303 : (Jvm.Cond.lays "java/lang/IllegalArgumentException" "java/lang/Throwable" "cause" "Ljava/lang/Throwable;") ∈ lw_all := lw_g (lw_at lw_m1 230 rfl) rfl
theorem q305 : (Jvm.Cond.lays "java/lang/IllegalArgumentException" "java/lang/Throwable" "stackTrace" "[Ljava/lang/StackTraceElement;") ∈ lw_all := lw_g (lw_at lw_m1 232 rfl) rfl
theorem q307 : (Jvm.Cond.lays "java/lang/IllegalArgumentException" "java/lang/Throwable" "suppressedExceptions" "Ljava/util/List;") ∈ lw_all := lw_g (lw_at lw_m1 234 rfl) rfl
theorem q309 : (Jvm.Cond.lays "java/lang/IllegalArgumentException" "java/lang/Throwable" "detailMessage" "Ljava/lang/String;") ∈ lw_all := lw_g (lw_at lw_m1 236 rfl) rfl
theorem q311 : (Jvm.Cond.lays "java/lang/IllegalArgumentException" "java/lang/Throwable" "backtrace" "Ljava/lang/Object;") ∈ lw_all := lw_g (lw_at lw_m1 238 rfl) rfl
theorem q335 : (Jvm.Cond.instanceMethod ({ cls := "java/lang/IllegalArgumentException", name := "<init>", desc := "()V" } : Jvm.MethodName)) ∈ lw_all := lw_g (lw_at lw_m2 22 rfl) rfl
theorem q336 : (Jvm.Cond.code ({ cls := "java/lang/IllegalArgumentException", name := "<init>", desc := "()V" } : Jvm.MethodName) prog_26_method_1_code (1 : Nat) (Option.none : Option Jvm.ClassFile.FieldType)) ∈ lw_all := lw_g (lw_at lw_m2 23 rfl) rfl
theorem q337 : (Jvm.Cond.methodLink "java/lang/IllegalArgumentException" (1 : Nat) ({ cls := "java/lang/RuntimeException", name := "<init>", desc := "()V" } : Jvm.MethodName)) ∈ lw_all := lw_g (lw_at lw_m2 24 rfl) rfl
theorem q353 : (Jvm.Cond.lays "java/lang/IllegalArgumentException" "java/lang/Throwable" "depth" "I") ∈ lw_all := lw_g (lw_at lw_m2 40 rfl) rfl
theorem q356 : (Jvm.Cond.superclass "java/lang/IllegalArgumentException" "java/lang/RuntimeException") ∈ lw_all := lw_g (lw_at lw_m2 43 rfl) rfl
theorem q452 : (Jvm.Cond.selects "java/lang/IllegalArgumentException" ({ cls := "java/lang/Object", name := "getClass", desc := "()Ljava/lang/Class;" } : Jvm.MethodName) ({ cls := "java/lang/Object", name := "getClass", desc := "()Ljava/lang/Class;" } : Jvm.MethodName)) ∈ lw_all := lw_g (lw_at lw_m2 139 rfl) rfl
theorem q1222 : (Jvm.Cond.selects "java/lang/IllegalArgumentException" ({ cls := "java/lang/Object", name := "equals", desc := "(Ljava/lang/Object;)Z" } : Jvm.MethodName) ({ cls := "java/lang/Object", name := "equals", desc := "(Ljava/lang/Object;)Z" } : Jvm.MethodName)) ∈ lw_all := lw_g (lw_at lw_m5 189 rfl) rfl
theorem q1584 : (Jvm.Cond.instanceMethod ({ cls := "java/lang/IllegalArgumentException", name := "<init>", desc := "(Ljava/lang/String;)V" } : Jvm.MethodName)) ∈ lw_all := lw_g (lw_at lw_m7 71 rfl) rfl
theorem q1585 : (Jvm.Cond.code ({ cls := "java/lang/IllegalArgumentException", name := "<init>", desc := "(Ljava/lang/String;)V" } : Jvm.MethodName) prog_26_method_2_code (2 : Nat) (Option.none : Option Jvm.ClassFile.FieldType)) ∈ lw_all := lw_g (lw_at lw_m7 72 rfl) rfl
theorem q1586 : (Jvm.Cond.methodLink "java/lang/IllegalArgumentException" (7 : Nat) ({ cls := "java/lang/RuntimeException", name := "<init>", desc := "(Ljava/lang/String;)V" } : Jvm.MethodName)) ∈ lw_all := lw_g (lw_at lw_m7 73 rfl) rfl
theorem q2930 : (Jvm.Cond.castable "java/lang/IllegalArgumentException" "java/lang/Object") ∈ lw_tbl := lw_at lw_m12 217 rfl
theorem in_J8 : ∀ w ∈ wsJ80, w ∈ lw_all := lw_in wsJ80 [303, 305, 307, 309, 311, 353] (by decide +kernel) (by decide +kernel)
/-! java/lang/IllegalStateException -/
set_option maxRecDepth 100000
def RJ9 : String := "java/lang/IllegalStateException"
def TJ9 : u_T := fun k => match k with
  | 0 => ("java/lang/Throwable", "cause", "Ljava/lang/Throwable;", false)
  | 1 => ("java/lang/Throwable", "stackTrace", "[Ljava/lang/StackTraceElement;", false)
  | 2 => ("java/lang/Throwable", "suppressedExceptions", "Ljava/util/List;", false)
  | 3 => ("java/lang/Throwable", "detailMessage", "Ljava/lang/String;", false)
  | 4 => ("java/lang/Throwable", "backtrace", "Ljava/lang/Object;", false)
  | _ => ("java/lang/Throwable", "depth", "I", false)
def tyJ9 : Nat → FieldType := fun k => match k with
  | 0 => .object "java/lang/Throwable"
  | 1 => .array (.object "java/lang/StackTraceElement")
  | 2 => .object "java/util/List"
  | 3 => .object "java/lang/String"
  | 4 => .object "java/lang/Object"
  | _ => .int
abbrev wsJ90 : List Cond := u_ws RJ9 TJ9 6
theorem nmJ9 : ∀ a, a < 6 → ∀ b, b < 6 → a ≠ b → (TJ9 a).2.1 ≠ (TJ9 b).2.1 := by decide +kernel
theorem tyJ9_ok : ∀ k, k < 6 → parseFieldDescriptor (TJ9 k).2.2.1 = some (tyJ9 k) := by decide +kernel
abbrev cJ9_init : ByteArray := prog_27_method_2_code
def yJ9_init : MethodName := ⟨RJ9, "<init>", "(Ljava/lang/String;)V"⟩
def dkwJ9_init_0 : List UInt8 := [42, 43, 183, 0, 7, 177]
abbrev dktJ9_init_0 : List UInt8 := dkwJ9_init_0 ++ []
theorem dksJ9_init_0 : cJ9_init.data.toList.drop 0 = dktJ9_init_0 := by decide +kernel
theorem dJ9_init_0 : decode cJ9_init 0 = .ok (.aload_n 0, 1) := dk_42 (dk_at dksJ9_init_0 0 rfl rfl)
theorem dJ9_init_1 : decode cJ9_init 1 = .ok (.aload_n 1, 1) := dk_43 (dk_at dksJ9_init_0 1 rfl rfl)
theorem dJ9_init_2 : decode cJ9_init 2 = .ok (.invokespecial 7, 3) := dk_183 0 7 (dk_at dksJ9_init_0 2 rfl rfl)
theorem dJ9_init_5 : decode cJ9_init 5 = .ok (.return_, 1) := dk_177 (dk_at dksJ9_init_0 5 rfl rfl)
theorem q85 : (Jvm.Cond.initialized "java/lang/IllegalStateException") ∈ lw_all := lw_g (lw_at lw_m1 12 rfl) rfl
theorem q326 : (Jvm.Cond.selects "java/lang/IllegalStateException" ({ cls := "java/lang/Throwable", name := "fillInStackTrace", desc := "()Ljava/lang/Throwable;" } : Jvm.MethodName) ({ cls := "java/lang/Throwable", name := "fillInStackTrace", desc := "()Ljava/lang/Throwable;" } : Jvm.MethodName)) ∈ lw_all := lw_g (lw_at lw_m2 13 rfl) rfl
theorem q453 : (Jvm.Cond.selects "java/lang/IllegalStateException" ({ cls := "java/lang/Object", name := "getClass", desc := "()Ljava/lang/Class;" } : Jvm.MethodName) ({ cls := "java/lang/Object", name := "getClass", desc := "()Ljava/lang/Class;" } : Jvm.MethodName)) ∈ lw_all := lw_g (lw_at lw_m2 140 rfl) rfl
theorem q1223 : (Jvm.Cond.selects "java/lang/IllegalStateException" ({ cls := "java/lang/Object", name := "equals", desc := "(Ljava/lang/Object;)Z" } : Jvm.MethodName) ({ cls := "java/lang/Object", name := "equals", desc := "(Ljava/lang/Object;)Z" } : Jvm.MethodName)) ∈ lw_all := lw_g (lw_at lw_m5 190 rfl) rfl
theorem q1599 : (Jvm.Cond.instantiable "java/lang/IllegalStateException" (6 : Nat)) ∈ lw_all := lw_g (lw_at lw_m7 86 rfl) rfl
theorem q1600 : (Jvm.Cond.castable "java/lang/IllegalStateException" "java/lang/IllegalStateException") ∈ lw_tbl := lw_at lw_m7 87 rfl
theorem q1601 : (Jvm.Cond.selects "java/lang/IllegalStateException" ({ cls := "java/lang/Throwable", name := "fillInStackTrace", desc := "(I)Ljava/lang/Throwable;" } : Jvm.MethodName) ({ cls := "java/lang/Throwable", name := "fillInStackTrace", desc := "(I)Ljava/lang/Throwable;" } : Jvm.MethodName)) ∈ lw_all := lw_g (lw_at lw_m7 88 rfl) rfl
theorem q1602 : (Jvm.Cond.lays "java/lang/IllegalStateException" "java/lang/Throwable" "cause" "Ljava/lang/Throwable;") ∈ lw_all := lw_g (lw_at lw_m7 89 rfl) rfl
theorem q1603 : (Jvm.Cond.lays "java/lang/IllegalStateException" "java/lang/Throwable" "stackTrace" "[Ljava/lang/StackTraceElement;") ∈ lw_all := lw_g (lw_at lw_m7 90 rfl) rfl
theorem q1604 : (Jvm.Cond.lays "java/lang/IllegalStateException" "java/lang/Throwable" "suppressedExceptions" "Ljava/util/List;") ∈ lw_all := lw_g (lw_at lw_m7 91 rfl) rfl
theorem q1605 : (Jvm.Cond.lays "java/lang/IllegalStateException" "java/lang/Throwable" "detailMessage" "Ljava/lang/String;") ∈ lw_all := lw_g (lw_at lw_m7 92 rfl) rfl
theorem q1606 : (Jvm.Cond.lays "java/lang/IllegalStateException" "java/lang/Throwable" "backtrace" "Ljava/lang/Object;") ∈ lw_all := lw_g (lw_at lw_m7 93 rfl) rfl
theorem q1609 : (Jvm.Cond.instanceMethod ({ cls := "java/lang/IllegalStateException", name := "<init>", desc := "(Ljava/lang/String;)V" } : Jvm.MethodName)) ∈ lw_all := lw_g (lw_at lw_m7 96 rfl) rfl
theorem q1610 : (Jvm.Cond.code ({ cls := "java/lang/IllegalStateException", name := "<init>", desc := "(Ljava/lang/String;)V" } : Jvm.MethodName) prog_27_method_2_code (2 : Nat) (Option.none : Option Jvm.ClassFile.FieldType)) ∈ lw_all := lw_g (lw_at lw_m7 97 rfl) rfl
theorem q1611 : (Jvm.Cond.methodLink "java/lang/IllegalStateException" (7 : Nat) ({ cls := "java/lang/RuntimeException", name := "<init>", desc := "(Ljava/lang/String;)V" } : Jvm.MethodName)) ∈ lw_all := lw_g (lw_at lw_m7 98 rfl) rfl
theorem q1612 : (Jvm.Cond.lays "java/lang/IllegalStateException" "java/lang/Throwable" "depth" "I") ∈ lw_all := lw_g (lw_at lw_m7 99 rfl) rfl
theorem q1613 : (Jvm.Cond.superclass "java/lang/IllegalStateException" "java/lang/RuntimeException") ∈ lw_all := lw_g (lw_at lw_m7 100 rfl) rfl
theorem q2931 : (Jvm.Cond.castable "java/lang/IllegalStateException" "java/lang/Object") ∈ lw_tbl := lw_at lw_m12 218 rfl
theorem in_J9 : ∀ w ∈ wsJ90, w ∈ lw_all := lw_in wsJ90 [1602, 1603, 1604, 1605, 1606, 1612] (by decide +kernel) (by decide +kernel)
/-! jdk/internal/util/ArraysSupport -/
set_option maxRecDepth 100000
def RJ10 : String := "jdk/internal/util/ArraysSupport"
abbrev cJ10_newLength : ByteArray := prog_85_method_27_code
def yJ10_newLength : MethodName := ⟨RJ10, "newLength", "(III)I"⟩
def dkwJ10_newLength_1 : List UInt8 := [184, 0, 201, 172]
abbrev dktJ10_newLength_1 : List UInt8 := dkwJ10_newLength_1 ++ []
def dkwJ10_newLength_0 : List UInt8 := [26, 27, 28, 184, 0, 194, 96, 62, 3, 29, 162, 0, 11, 29, 18, 200, 163, 0, 5, 29, 172, 26, 27]
abbrev dktJ10_newLength_0 : List UInt8 := dkwJ10_newLength_0 ++ dktJ10_newLength_1
theorem dksJ10_newLength_0 : cJ10_newLength.data.toList.drop 0 = dktJ10_newLength_0 := by decide +kernel
theorem dksJ10_newLength_1 : cJ10_newLength.data.toList.drop 23 = dktJ10_newLength_1 := dk_seg dksJ10_newLength_0 23 rfl rfl
theorem dJ10_newLength_0 : decode cJ10_newLength 0 = .ok (.iload_n 0, 1) := dk_26 (dk_at dksJ10_newLength_0 0 rfl rfl)
theorem dJ10_newLength_1 : decode cJ10_newLength 1 = .ok (.iload_n 1, 1) := dk_27 (dk_at dksJ10_newLength_0 1 rfl rfl)
theorem dJ10_newLength_2 : decode cJ10_newLength 2 = .ok (.iload_n 2, 1) := dk_28 (dk_at dksJ10_newLength_0 2 rfl rfl)
theorem dJ10_newLength_3 : decode cJ10_newLength 3 = .ok (.invokestatic 194, 3) := dk_184 0 194 (dk_at dksJ10_newLength_0 3 rfl rfl)
theorem dJ10_newLength_6 : decode cJ10_newLength 6 = .ok (.iadd, 1) := dk_96 (dk_at dksJ10_newLength_0 6 rfl rfl)
theorem dJ10_newLength_7 : decode cJ10_newLength 7 = .ok (.istore_n 3, 1) := dk_62 (dk_at dksJ10_newLength_0 7 rfl rfl)
theorem dJ10_newLength_8 : decode cJ10_newLength 8 = .ok (.iconst 0, 1) := dk_3 (dk_at dksJ10_newLength_0 8 rfl rfl)
theorem dJ10_newLength_9 : decode cJ10_newLength 9 = .ok (.iload_n 3, 1) := dk_29 (dk_at dksJ10_newLength_0 9 rfl rfl)
theorem dJ10_newLength_10 : decode cJ10_newLength 10 = .ok (.if_icmp .ge 11, 3) := dk_162 0 11 (dk_at dksJ10_newLength_0 10 rfl rfl)
theorem dJ10_newLength_13 : decode cJ10_newLength 13 = .ok (.iload_n 3, 1) := dk_29 (dk_at dksJ10_newLength_0 13 rfl rfl)
theorem dJ10_newLength_14 : decode cJ10_newLength 14 = .ok (.ldc 200, 2) := dk_18 200 (dk_at dksJ10_newLength_0 14 rfl rfl)
theorem dJ10_newLength_16 : decode cJ10_newLength 16 = .ok (.if_icmp .gt 5, 3) := dk_163 0 5 (dk_at dksJ10_newLength_0 16 rfl rfl)
theorem dJ10_newLength_19 : decode cJ10_newLength 19 = .ok (.iload_n 3, 1) := dk_29 (dk_at dksJ10_newLength_0 19 rfl rfl)
theorem dJ10_newLength_20 : decode cJ10_newLength 20 = .ok (.ireturn, 1) := dk_172 (dk_at dksJ10_newLength_0 20 rfl rfl)
theorem dJ10_newLength_21 : decode cJ10_newLength 21 = .ok (.iload_n 0, 1) := dk_26 (dk_at dksJ10_newLength_0 21 rfl rfl)
theorem dJ10_newLength_22 : decode cJ10_newLength 22 = .ok (.iload_n 1, 1) := dk_27 (dk_at dksJ10_newLength_0 22 rfl rfl)
theorem dJ10_newLength_23 : decode cJ10_newLength 23 = .ok (.invokestatic 201, 3) := dk_184 0 201 (dk_at dksJ10_newLength_1 0 rfl rfl)
theorem dJ10_newLength_26 : decode cJ10_newLength 26 = .ok (.ireturn, 1) := dk_172 (dk_at dksJ10_newLength_1 3 rfl rfl)
abbrev cJ10_hugeLength : ByteArray := prog_85_method_28_code
def yJ10_hugeLength : MethodName := ⟨RJ10, "hugeLength", "(II)I"⟩
def dkwJ10_hugeLength_2 : List UInt8 := [191, 28, 18, 200, 163, 0, 6, 18, 200, 172, 28, 172]
abbrev dktJ10_hugeLength_2 : List UInt8 := dkwJ10_hugeLength_2 ++ []
def dkwJ10_hugeLength_1 : List UInt8 := [26, 182, 0, 98, 18, 208, 182, 0, 94, 27, 182, 0, 98, 18, 210, 182, 0, 94, 182, 0, 101, 183, 0, 212]
abbrev dktJ10_hugeLength_1 : List UInt8 := dkwJ10_hugeLength_1 ++ dktJ10_hugeLength_2
def dkwJ10_hugeLength_0 : List UInt8 := [26, 27, 96, 61, 28, 156, 0, 44, 187, 0, 204, 89, 187, 0, 89, 89, 183, 0, 91, 18, 206, 182, 0, 94]
abbrev dktJ10_hugeLength_0 : List UInt8 := dkwJ10_hugeLength_0 ++ dktJ10_hugeLength_1
theorem dksJ10_hugeLength_0 : cJ10_hugeLength.data.toList.drop 0 = dktJ10_hugeLength_0 := by decide +kernel
theorem dksJ10_hugeLength_1 : cJ10_hugeLength.data.toList.drop 24 = dktJ10_hugeLength_1 := dk_seg dksJ10_hugeLength_0 24 rfl rfl
theorem dksJ10_hugeLength_2 : cJ10_hugeLength.data.toList.drop 48 = dktJ10_hugeLength_2 := dk_seg dksJ10_hugeLength_1 24 rfl rfl
theorem dJ10_hugeLength_0 : decode cJ10_hugeLength 0 = .ok (.iload_n 0, 1) := dk_26 (dk_at dksJ10_hugeLength_0 0 rfl rfl)
theorem dJ10_hugeLength_1 : decode cJ10_hugeLength 1 = .ok (.iload_n 1, 1) := dk_27 (dk_at dksJ10_hugeLength_0 1 rfl rfl)
theorem dJ10_hugeLength_2 : decode cJ10_hugeLength 2 = .ok (.iadd, 1) := dk_96 (dk_at dksJ10_hugeLength_0 2 rfl rfl)
theorem dJ10_hugeLength_3 : decode cJ10_hugeLength 3 = .ok (.istore_n 2, 1) := dk_61 (dk_at dksJ10_hugeLength_0 3 rfl rfl)
theorem dJ10_hugeLength_4 : decode cJ10_hugeLength 4 = .ok (.iload_n 2, 1) := dk_28 (dk_at dksJ10_hugeLength_0 4 rfl rfl)
theorem dJ10_hugeLength_5 : decode cJ10_hugeLength 5 = .ok (.ifCond .ge 44, 3) := dk_156 0 44 (dk_at dksJ10_hugeLength_0 5 rfl rfl)
theorem dJ10_hugeLength_8 : decode cJ10_hugeLength 8 = .ok (.new 204, 3) := dk_187 0 204 (dk_at dksJ10_hugeLength_0 8 rfl rfl)
theorem dJ10_hugeLength_11 : decode cJ10_hugeLength 11 = .ok (.dup, 1) := dk_89 (dk_at dksJ10_hugeLength_0 11 rfl rfl)
theorem dJ10_hugeLength_12 : decode cJ10_hugeLength 12 = .ok (.new 89, 3) := dk_187 0 89 (dk_at dksJ10_hugeLength_0 12 rfl rfl)
theorem dJ10_hugeLength_15 : decode cJ10_hugeLength 15 = .ok (.dup, 1) := dk_89 (dk_at dksJ10_hugeLength_0 15 rfl rfl)
theorem dJ10_hugeLength_16 : decode cJ10_hugeLength 16 = .ok (.invokespecial 91, 3) := dk_183 0 91 (dk_at dksJ10_hugeLength_0 16 rfl rfl)
theorem dJ10_hugeLength_19 : decode cJ10_hugeLength 19 = .ok (.ldc 206, 2) := dk_18 206 (dk_at dksJ10_hugeLength_0 19 rfl rfl)
theorem dJ10_hugeLength_21 : decode cJ10_hugeLength 21 = .ok (.invokevirtual 94, 3) := dk_182 0 94 (dk_at dksJ10_hugeLength_0 21 rfl rfl)
theorem dJ10_hugeLength_24 : decode cJ10_hugeLength 24 = .ok (.iload_n 0, 1) := dk_26 (dk_at dksJ10_hugeLength_1 0 rfl rfl)
theorem dJ10_hugeLength_25 : decode cJ10_hugeLength 25 = .ok (.invokevirtual 98, 3) := dk_182 0 98 (dk_at dksJ10_hugeLength_1 1 rfl rfl)
theorem dJ10_hugeLength_28 : decode cJ10_hugeLength 28 = .ok (.ldc 208, 2) := dk_18 208 (dk_at dksJ10_hugeLength_1 4 rfl rfl)
theorem dJ10_hugeLength_30 : decode cJ10_hugeLength 30 = .ok (.invokevirtual 94, 3) := dk_182 0 94 (dk_at dksJ10_hugeLength_1 6 rfl rfl)
theorem dJ10_hugeLength_33 : decode cJ10_hugeLength 33 = .ok (.iload_n 1, 1) := dk_27 (dk_at dksJ10_hugeLength_1 9 rfl rfl)
theorem dJ10_hugeLength_34 : decode cJ10_hugeLength 34 = .ok (.invokevirtual 98, 3) := dk_182 0 98 (dk_at dksJ10_hugeLength_1 10 rfl rfl)
theorem dJ10_hugeLength_37 : decode cJ10_hugeLength 37 = .ok (.ldc 210, 2) := dk_18 210 (dk_at dksJ10_hugeLength_1 13 rfl rfl)
theorem dJ10_hugeLength_39 : decode cJ10_hugeLength 39 = .ok (.invokevirtual 94, 3) := dk_182 0 94 (dk_at dksJ10_hugeLength_1 15 rfl rfl)
theorem dJ10_hugeLength_42 : decode cJ10_hugeLength 42 = .ok (.invokevirtual 101, 3) := dk_182 0 101 (dk_at dksJ10_hugeLength_1 18 rfl rfl)
theorem dJ10_hugeLength_45 : decode cJ10_hugeLength 45 = .ok (.invokespecial 212, 3) := dk_183 0 212 (dk_at dksJ10_hugeLength_1 21 rfl rfl)
theorem dJ10_hugeLength_48 : decode cJ10_hugeLength 48 = .ok (.athrow, 1) := dk_191 (dk_at dksJ10_hugeLength_2 0 rfl rfl)
theorem dJ10_hugeLength_49 : decode cJ10_hugeLength 49 = .ok (.iload_n 2, 1) := dk_28 (dk_at dksJ10_hugeLength_2 1 rfl rfl)
theorem dJ10_hugeLength_50 : decode cJ10_hugeLength 50 = .ok (.ldc 200, 2) := dk_18 200 (dk_at dksJ10_hugeLength_2 2 rfl rfl)
theorem dJ10_hugeLength_52 : decode cJ10_hugeLength 52 = .ok (.if_icmp .gt 6, 3) := dk_163 0 6 (dk_at dksJ10_hugeLength_2 4 rfl rfl)
theorem dJ10_hugeLength_55 : decode cJ10_hugeLength 55 = .ok (.ldc 200, 2) := dk_18 200 (dk_at dksJ10_hugeLength_2 7 rfl rfl)
theorem dJ10_hugeLength_57 : decode cJ10_hugeLength 57 = .ok (.ireturn, 1) := dk_172 (dk_at dksJ10_hugeLength_2 9 rfl rfl)
theorem dJ10_hugeLength_58 : decode cJ10_hugeLength 58 = .ok (.iload_n 2, 1) := dk_28 (dk_at dksJ10_hugeLength_2 10 rfl rfl)
theorem dJ10_hugeLength_59 : decode cJ10_hugeLength 59 = .ok (.ireturn, 1) := dk_172 (dk_at dksJ10_hugeLength_2 11 rfl rfl)
abbrev cJ10_mismatch : ByteArray := prog_85_method_13_code
def yJ10_mismatch : MethodName := ⟨RJ10, "mismatch", "([B[BI)I"⟩
def dkwJ10_mismatch_3 : List UInt8 := [172]
abbrev dktJ10_mismatch_3 : List UInt8 := dkwJ10_mismatch_3 ++ []
def dkwJ10_mismatch_2 : List UInt8 := [62, 29, 28, 162, 0, 20, 42, 29, 51, 43, 29, 51, 159, 0, 5, 29, 172, 132, 3, 1, 167, 255, 237, 2]
abbrev dktJ10_mismatch_2 : List UInt8 := dkwJ10_mismatch_2 ++ dktJ10_mismatch_3
def dkwJ10_mismatch_1 : List UInt8 := [43, 178, 0, 126, 133, 28, 178, 0, 129, 184, 0, 122, 62, 29, 155, 0, 5, 29, 172, 28, 29, 2, 130, 100]
abbrev dktJ10_mismatch_1 : List UInt8 := dkwJ10_mismatch_1 ++ dktJ10_mismatch_2
def dkwJ10_mismatch_0 : List UInt8 := [3, 62, 28, 16, 7, 164, 0, 44, 42, 3, 51, 43, 3, 51, 159, 0, 5, 3, 172, 42, 178, 0, 126, 133]
abbrev dktJ10_mismatch_0 : List UInt8 := dkwJ10_mismatch_0 ++ dktJ10_mismatch_1
theorem dksJ10_mismatch_0 : cJ10_mismatch.data.toList.drop 0 = dktJ10_mismatch_0 := by decide +kernel
theorem dksJ10_mismatch_1 : cJ10_mismatch.data.toList.drop 24 = dktJ10_mismatch_1 := dk_seg dksJ10_mismatch_0 24 rfl rfl
theorem dksJ10_mismatch_2 : cJ10_mismatch.data.toList.drop 48 = dktJ10_mismatch_2 := dk_seg dksJ10_mismatch_1 24 rfl rfl
theorem dksJ10_mismatch_3 : cJ10_mismatch.data.toList.drop 72 = dktJ10_mismatch_3 := dk_seg dksJ10_mismatch_2 24 rfl rfl
theorem dJ10_mismatch_0 : decode cJ10_mismatch 0 = .ok (.iconst 0, 1) := dk_3 (dk_at dksJ10_mismatch_0 0 rfl rfl)
theorem dJ10_mismatch_1 : decode cJ10_mismatch 1 = .ok (.istore_n 3, 1) := dk_62 (dk_at dksJ10_mismatch_0 1 rfl rfl)
theorem dJ10_mismatch_2 : decode cJ10_mismatch 2 = .ok (.iload_n 2, 1) := dk_28 (dk_at dksJ10_mismatch_0 2 rfl rfl)
theorem dJ10_mismatch_3 : decode cJ10_mismatch 3 = .ok (.bipush 7, 2) := dk_16 7 (dk_at dksJ10_mismatch_0 3 rfl rfl)
theorem dJ10_mismatch_5 : decode cJ10_mismatch 5 = .ok (.if_icmp .le 44, 3) := dk_164 0 44 (dk_at dksJ10_mismatch_0 5 rfl rfl)
theorem dJ10_mismatch_8 : decode cJ10_mismatch 8 = .ok (.aload_n 0, 1) := dk_42 (dk_at dksJ10_mismatch_0 8 rfl rfl)
theorem dJ10_mismatch_9 : decode cJ10_mismatch 9 = .ok (.iconst 0, 1) := dk_3 (dk_at dksJ10_mismatch_0 9 rfl rfl)
theorem dJ10_mismatch_10 : decode cJ10_mismatch 10 = .ok (.baload, 1) := dk_51 (dk_at dksJ10_mismatch_0 10 rfl rfl)
theorem dJ10_mismatch_11 : decode cJ10_mismatch 11 = .ok (.aload_n 1, 1) := dk_43 (dk_at dksJ10_mismatch_0 11 rfl rfl)
theorem dJ10_mismatch_12 : decode cJ10_mismatch 12 = .ok (.iconst 0, 1) := dk_3 (dk_at dksJ10_mismatch_0 12 rfl rfl)
theorem dJ10_mismatch_13 : decode cJ10_mismatch 13 = .ok (.baload, 1) := dk_51 (dk_at dksJ10_mismatch_0 13 rfl rfl)
theorem dJ10_mismatch_14 : decode cJ10_mismatch 14 = .ok (.if_icmp .eq 5, 3) := dk_159 0 5 (dk_at dksJ10_mismatch_0 14 rfl rfl)
theorem dJ10_mismatch_17 : decode cJ10_mismatch 17 = .ok (.iconst 0, 1) := dk_3 (dk_at dksJ10_mismatch_0 17 rfl rfl)
theorem dJ10_mismatch_18 : decode cJ10_mismatch 18 = .ok (.ireturn, 1) := dk_172 (dk_at dksJ10_mismatch_0 18 rfl rfl)
theorem dJ10_mismatch_19 : decode cJ10_mismatch 19 = .ok (.aload_n 0, 1) := dk_42 (dk_at dksJ10_mismatch_0 19 rfl rfl)
theorem dJ10_mismatch_20 : decode cJ10_mismatch 20 = .ok (.getstatic 126, 3) := dk_178 0 126 (dk_at dksJ10_mismatch_0 20 rfl rfl)
theorem dJ10_mismatch_23 : decode cJ10_mismatch 23 = .ok (.i2l, 1) := dk_133 (dk_at dksJ10_mismatch_0 23 rfl rfl)
theorem dJ10_mismatch_24 : decode cJ10_mismatch 24 = .ok (.aload_n 1, 1) := dk_43 (dk_at dksJ10_mismatch_1 0 rfl rfl)
theorem dJ10_mismatch_25 : decode cJ10_mismatch 25 = .ok (.getstatic 126, 3) := dk_178 0 126 (dk_at dksJ10_mismatch_1 1 rfl rfl)
theorem dJ10_mismatch_28 : decode cJ10_mismatch 28 = .ok (.i2l, 1) := dk_133 (dk_at dksJ10_mismatch_1 4 rfl rfl)
theorem dJ10_mismatch_29 : decode cJ10_mismatch 29 = .ok (.iload_n 2, 1) := dk_28 (dk_at dksJ10_mismatch_1 5 rfl rfl)
theorem dJ10_mismatch_30 : decode cJ10_mismatch 30 = .ok (.getstatic 129, 3) := dk_178 0 129 (dk_at dksJ10_mismatch_1 6 rfl rfl)
theorem dJ10_mismatch_33 : decode cJ10_mismatch 33 = .ok (.invokestatic 122, 3) := dk_184 0 122 (dk_at dksJ10_mismatch_1 9 rfl rfl)
theorem dJ10_mismatch_36 : decode cJ10_mismatch 36 = .ok (.istore_n 3, 1) := dk_62 (dk_at dksJ10_mismatch_1 12 rfl rfl)
theorem dJ10_mismatch_37 : decode cJ10_mismatch 37 = .ok (.iload_n 3, 1) := dk_29 (dk_at dksJ10_mismatch_1 13 rfl rfl)
theorem dJ10_mismatch_38 : decode cJ10_mismatch 38 = .ok (.ifCond .lt 5, 3) := dk_155 0 5 (dk_at dksJ10_mismatch_1 14 rfl rfl)
theorem dJ10_mismatch_41 : decode cJ10_mismatch 41 = .ok (.iload_n 3, 1) := dk_29 (dk_at dksJ10_mismatch_1 17 rfl rfl)
theorem dJ10_mismatch_42 : decode cJ10_mismatch 42 = .ok (.ireturn, 1) := dk_172 (dk_at dksJ10_mismatch_1 18 rfl rfl)
theorem dJ10_mismatch_43 : decode cJ10_mismatch 43 = .ok (.iload_n 2, 1) := dk_28 (dk_at dksJ10_mismatch_1 19 rfl rfl)
theorem dJ10_mismatch_44 : decode cJ10_mismatch 44 = .ok (.iload_n 3, 1) := dk_29 (dk_at dksJ10_mismatch_1 20 rfl rfl)
theorem dJ10_mismatch_45 : decode cJ10_mismatch 45 = .ok (.iconst (-1), 1) := dk_2 (dk_at dksJ10_mismatch_1 21 rfl rfl)
theorem dJ10_mismatch_46 : decode cJ10_mismatch 46 = .ok (.ixor, 1) := dk_130 (dk_at dksJ10_mismatch_1 22 rfl rfl)
theorem dJ10_mismatch_47 : decode cJ10_mismatch 47 = .ok (.isub, 1) := dk_100 (dk_at dksJ10_mismatch_1 23 rfl rfl)
theorem dJ10_mismatch_48 : decode cJ10_mismatch 48 = .ok (.istore_n 3, 1) := dk_62 (dk_at dksJ10_mismatch_2 0 rfl rfl)
theorem dJ10_mismatch_49 : decode cJ10_mismatch 49 = .ok (.iload_n 3, 1) := dk_29 (dk_at dksJ10_mismatch_2 1 rfl rfl)
theorem dJ10_mismatch_50 : decode cJ10_mismatch 50 = .ok (.iload_n 2, 1) := dk_28 (dk_at dksJ10_mismatch_2 2 rfl rfl)
theorem dJ10_mismatch_51 : decode cJ10_mismatch 51 = .ok (.if_icmp .ge 20, 3) := dk_162 0 20 (dk_at dksJ10_mismatch_2 3 rfl rfl)
theorem dJ10_mismatch_54 : decode cJ10_mismatch 54 = .ok (.aload_n 0, 1) := dk_42 (dk_at dksJ10_mismatch_2 6 rfl rfl)
theorem dJ10_mismatch_55 : decode cJ10_mismatch 55 = .ok (.iload_n 3, 1) := dk_29 (dk_at dksJ10_mismatch_2 7 rfl rfl)
theorem dJ10_mismatch_56 : decode cJ10_mismatch 56 = .ok (.baload, 1) := dk_51 (dk_at dksJ10_mismatch_2 8 rfl rfl)
theorem dJ10_mismatch_57 : decode cJ10_mismatch 57 = .ok (.aload_n 1, 1) := dk_43 (dk_at dksJ10_mismatch_2 9 rfl rfl)
theorem dJ10_mismatch_58 : decode cJ10_mismatch 58 = .ok (.iload_n 3, 1) := dk_29 (dk_at dksJ10_mismatch_2 10 rfl rfl)
theorem dJ10_mismatch_59 : decode cJ10_mismatch 59 = .ok (.baload, 1) := dk_51 (dk_at dksJ10_mismatch_2 11 rfl rfl)
theorem dJ10_mismatch_60 : decode cJ10_mismatch 60 = .ok (.if_icmp .eq 5, 3) := dk_159 0 5 (dk_at dksJ10_mismatch_2 12 rfl rfl)
theorem dJ10_mismatch_63 : decode cJ10_mismatch 63 = .ok (.iload_n 3, 1) := dk_29 (dk_at dksJ10_mismatch_2 15 rfl rfl)
theorem dJ10_mismatch_64 : decode cJ10_mismatch 64 = .ok (.ireturn, 1) := dk_172 (dk_at dksJ10_mismatch_2 16 rfl rfl)
theorem dJ10_mismatch_65 : decode cJ10_mismatch 65 = .ok (.iinc 3 1, 3) := dk_132 3 1 (dk_at dksJ10_mismatch_2 17 rfl rfl)
theorem dJ10_mismatch_68 : decode cJ10_mismatch 68 = .ok (.goto (-19), 3) := dk_167 255 237 (dk_at dksJ10_mismatch_2 20 rfl rfl)
theorem dJ10_mismatch_71 : decode cJ10_mismatch 71 = .ok (.iconst (-1), 1) := dk_2 (dk_at dksJ10_mismatch_2 23 rfl rfl)
theorem dJ10_mismatch_72 : decode cJ10_mismatch 72 = .ok (.ireturn, 1) := dk_172 (dk_at dksJ10_mismatch_3 0 rfl rfl)
abbrev cJ10_vectorizedMismatch : ByteArray := prog_85_method_3_code
def yJ10_vectorizedMismatch : MethodName := ⟨RJ10, "vectorizedMismatch", "(Ljava/lang/Object;JLjava/lang/Object;JII)I"⟩
def dkwJ10_vectorizedMismatch_11 : List UInt8 := [54, 10, 21, 10, 2, 130, 172, 21, 10, 2, 130, 172]
abbrev dktJ10_vectorizedMismatch_11 : List UInt8 := dkwJ10_vectorizedMismatch_11 ++ []
def dkwJ10_vectorizedMismatch_10 : List UInt8 := [178, 0, 46, 21, 7, 96, 122, 54, 17, 21, 9, 21, 8, 120, 21, 17, 96, 172, 21, 10, 21, 11, 100]
abbrev dktJ10_vectorizedMismatch_10 : List UInt8 := dkwJ10_vectorizedMismatch_10 ++ dktJ10_vectorizedMismatch_11
def dkwJ10_vectorizedMismatch_9 : List UInt8 := [153, 0, 18, 21, 16, 184, 0, 58, 178, 0, 46, 21, 7, 96, 122, 167, 0, 15, 21, 16, 184, 0, 11]
abbrev dktJ10_vectorizedMismatch_9 : List UInt8 := dkwJ10_vectorizedMismatch_9 ++ dktJ10_vectorizedMismatch_10
def dkwJ10_vectorizedMismatch_8 : List UInt8 := [182, 0, 54, 54, 15, 21, 14, 21, 15, 159, 0, 54, 21, 14, 21, 15, 130, 54, 16, 178, 0, 36]
abbrev dktJ10_vectorizedMismatch_8 : List UInt8 := dkwJ10_vectorizedMismatch_8 ++ dktJ10_vectorizedMismatch_9
def dkwJ10_vectorizedMismatch_7 : List UInt8 := [55, 12, 178, 0, 26, 42, 31, 22, 12, 97, 182, 0, 54, 54, 14, 178, 0, 26, 45, 22, 4, 22, 12, 97]
abbrev dktJ10_vectorizedMismatch_7 : List UInt8 := dkwJ10_vectorizedMismatch_7 ++ dktJ10_vectorizedMismatch_8
def dkwJ10_vectorizedMismatch_6 : List UInt8 := [4, 178, 0, 51, 21, 7, 100, 120, 54, 11, 21, 10, 21, 11, 161, 0, 104, 21, 9, 133, 178, 0, 20, 121]
abbrev dktJ10_vectorizedMismatch_6 : List UInt8 := dkwJ10_vectorizedMismatch_6 ++ dktJ10_vectorizedMismatch_7
def dkwJ10_vectorizedMismatch_5 : List UInt8 := [132, 9, 1, 167, 255, 148, 21, 6, 21, 9, 21, 8, 120, 100, 54, 10, 21, 7, 178, 0, 51, 162, 0, 126]
abbrev dktJ10_vectorizedMismatch_5 : List UInt8 := dkwJ10_vectorizedMismatch_5 ++ dktJ10_vectorizedMismatch_6
def dkwJ10_vectorizedMismatch_4 : List UInt8 := [22, 16, 184, 0, 49, 178, 0, 46, 21, 7, 96, 122, 54, 18, 21, 9, 21, 8, 120, 21, 18, 96, 172]
abbrev dktJ10_vectorizedMismatch_4 : List UInt8 := dkwJ10_vectorizedMismatch_4 ++ dktJ10_vectorizedMismatch_5
def dkwJ10_vectorizedMismatch_3 : List UInt8 := [55, 16, 178, 0, 36, 153, 0, 18, 22, 16, 184, 0, 40, 178, 0, 46, 21, 7, 96, 122, 167, 0, 15]
abbrev dktJ10_vectorizedMismatch_3 : List UInt8 := dkwJ10_vectorizedMismatch_3 ++ dktJ10_vectorizedMismatch_4
def dkwJ10_vectorizedMismatch_2 : List UInt8 := [22, 4, 22, 10, 97, 182, 0, 30, 55, 14, 22, 12, 22, 14, 148, 153, 0, 54, 22, 12, 22, 14, 131]
abbrev dktJ10_vectorizedMismatch_2 : List UInt8 := dkwJ10_vectorizedMismatch_2 ++ dktJ10_vectorizedMismatch_3
def dkwJ10_vectorizedMismatch_1 : List UInt8 := [178, 0, 20, 121, 55, 10, 178, 0, 26, 42, 31, 22, 10, 97, 182, 0, 30, 55, 12, 178, 0, 26, 45]
abbrev dktJ10_vectorizedMismatch_1 : List UInt8 := dkwJ10_vectorizedMismatch_1 ++ dktJ10_vectorizedMismatch_2
def dkwJ10_vectorizedMismatch_0 : List UInt8 := [178, 0, 20, 21, 7, 100, 54, 8, 3, 54, 9, 21, 9, 21, 6, 21, 8, 122, 162, 0, 104, 21, 9, 133]
abbrev dktJ10_vectorizedMismatch_0 : List UInt8 := dkwJ10_vectorizedMismatch_0 ++ dktJ10_vectorizedMismatch_1
theorem dksJ10_vectorizedMismatch_0 : cJ10_vectorizedMismatch.data.toList.drop 0 = dktJ10_vectorizedMismatch_0 := by decide +kernel
theorem dksJ10_vectorizedMismatch_1 : cJ10_vectorizedMismatch.data.toList.drop 24 = dktJ10_vectorizedMismatch_1 := dk_seg dksJ10_vectorizedMismatch_0 24 rfl rfl
theorem dksJ10_vectorizedMismatch_2 : cJ10_vectorizedMismatch.data.toList.drop 47 = dktJ10_vectorizedMismatch_2 := dk_seg dksJ10_vectorizedMismatch_1 23 rfl rfl
theorem dksJ10_vectorizedMismatch_3 : cJ10_vectorizedMismatch.data.toList.drop 70 = dktJ10_vectorizedMismatch_3 := dk_seg dksJ10_vectorizedMismatch_2 23 rfl rfl
theorem dksJ10_vectorizedMismatch_4 : cJ10_vectorizedMismatch.data.toList.drop 93 = dktJ10_vectorizedMismatch_4 := dk_seg dksJ10_vectorizedMismatch_3 23 rfl rfl
theorem dksJ10_vectorizedMismatch_5 : cJ10_vectorizedMismatch.data.toList.drop 116 = dktJ10_vectorizedMismatch_5 := dk_seg dksJ10_vectorizedMismatch_4 23 rfl rfl
theorem dksJ10_vectorizedMismatch_6 : cJ10_vectorizedMismatch.data.toList.drop 140 = dktJ10_vectorizedMismatch_6 := dk_seg dksJ10_vectorizedMismatch_5 24 rfl rfl
theorem dksJ10_vectorizedMismatch_7 : cJ10_vectorizedMismatch.data.toList.drop 164 = dktJ10_vectorizedMismatch_7 := dk_seg dksJ10_vectorizedMismatch_6 24 rfl rfl
theorem dksJ10_vectorizedMismatch_8 : cJ10_vectorizedMismatch.data.toList.drop 188 = dktJ10_vectorizedMismatch_8 := dk_seg dksJ10_vectorizedMismatch_7 24 rfl rfl
theorem dksJ10_vectorizedMismatch_9 : cJ10_vectorizedMismatch.data.toList.drop 210 = dktJ10_vectorizedMismatch_9 := dk_seg dksJ10_vectorizedMismatch_8 22 rfl rfl
theorem dksJ10_vectorizedMismatch_10 : cJ10_vectorizedMismatch.data.toList.drop 233 = dktJ10_vectorizedMismatch_10 := dk_seg dksJ10_vectorizedMismatch_9 23 rfl rfl
theorem dksJ10_vectorizedMismatch_11 : cJ10_vectorizedMismatch.data.toList.drop 256 = dktJ10_vectorizedMismatch_11 := dk_seg dksJ10_vectorizedMismatch_10 23 rfl rfl
theorem dJ10_vectorizedMismatch_0 : decode cJ10_vectorizedMismatch 0 = .ok (.getstatic 20, 3) := dk_178 0 20 (dk_at dksJ10_vectorizedMismatch_0 0 rfl rfl)
theorem dJ10_vectorizedMismatch_3 : decode cJ10_vectorizedMismatch 3 = .ok (.iload 7, 2) := dk_21 7 (dk_at dksJ10_vectorizedMismatch_0 3 rfl rfl)
theorem dJ10_vectorizedMismatch_5 : decode cJ10_vectorizedMismatch 5 = .ok (.isub, 1) := dk_100 (dk_at dksJ10_vectorizedMismatch_0 5 rfl rfl)
theorem dJ10_vectorizedMismatch_6 : decode cJ10_vectorizedMismatch 6 = .ok (.istore 8, 2) := dk_54 8 (dk_at dksJ10_vectorizedMismatch_0 6 rfl rfl)
theorem dJ10_vectorizedMismatch_8 : decode cJ10_vectorizedMismatch 8 = .ok (.iconst 0, 1) := dk_3 (dk_at dksJ10_vectorizedMismatch_0 8 rfl rfl)
theorem dJ10_vectorizedMismatch_9 : decode cJ10_vectorizedMismatch 9 = .ok (.istore 9, 2) := dk_54 9 (dk_at dksJ10_vectorizedMismatch_0 9 rfl rfl)
theorem dJ10_vectorizedMismatch_11 : decode cJ10_vectorizedMismatch 11 = .ok (.iload 9, 2) := dk_21 9 (dk_at dksJ10_vectorizedMismatch_0 11 rfl rfl)
theorem dJ10_vectorizedMismatch_13 : decode cJ10_vectorizedMismatch 13 = .ok (.iload 6, 2) := dk_21 6 (dk_at dksJ10_vectorizedMismatch_0 13 rfl rfl)
theorem dJ10_vectorizedMismatch_15 : decode cJ10_vectorizedMismatch 15 = .ok (.iload 8, 2) := dk_21 8 (dk_at dksJ10_vectorizedMismatch_0 15 rfl rfl)
theorem dJ10_vectorizedMismatch_17 : decode cJ10_vectorizedMismatch 17 = .ok (.ishr, 1) := dk_122 (dk_at dksJ10_vectorizedMismatch_0 17 rfl rfl)
theorem dJ10_vectorizedMismatch_18 : decode cJ10_vectorizedMismatch 18 = .ok (.if_icmp .ge 104, 3) := dk_162 0 104 (dk_at dksJ10_vectorizedMismatch_0 18 rfl rfl)
theorem dJ10_vectorizedMismatch_21 : decode cJ10_vectorizedMismatch 21 = .ok (.iload 9, 2) := dk_21 9 (dk_at dksJ10_vectorizedMismatch_0 21 rfl rfl)
theorem dJ10_vectorizedMismatch_23 : decode cJ10_vectorizedMismatch 23 = .ok (.i2l, 1) := dk_133 (dk_at dksJ10_vectorizedMismatch_0 23 rfl rfl)
theorem dJ10_vectorizedMismatch_24 : decode cJ10_vectorizedMismatch 24 = .ok (.getstatic 20, 3) := dk_178 0 20 (dk_at dksJ10_vectorizedMismatch_1 0 rfl rfl)
theorem dJ10_vectorizedMismatch_27 : decode cJ10_vectorizedMismatch 27 = .ok (.lshl, 1) := dk_121 (dk_at dksJ10_vectorizedMismatch_1 3 rfl rfl)
theorem dJ10_vectorizedMismatch_28 : decode cJ10_vectorizedMismatch 28 = .ok (.lstore 10, 2) := dk_55 10 (dk_at dksJ10_vectorizedMismatch_1 4 rfl rfl)
theorem dJ10_vectorizedMismatch_30 : decode cJ10_vectorizedMismatch 30 = .ok (.getstatic 26, 3) := dk_178 0 26 (dk_at dksJ10_vectorizedMismatch_1 6 rfl rfl)
theorem dJ10_vectorizedMismatch_33 : decode cJ10_vectorizedMismatch 33 = .ok (.aload_n 0, 1) := dk_42 (dk_at dksJ10_vectorizedMismatch_1 9 rfl rfl)
theorem dJ10_vectorizedMismatch_34 : decode cJ10_vectorizedMismatch 34 = .ok (.lload_n 1, 1) := dk_31 (dk_at dksJ10_vectorizedMismatch_1 10 rfl rfl)
theorem dJ10_vectorizedMismatch_35 : decode cJ10_vectorizedMismatch 35 = .ok (.lload 10, 2) := dk_22 10 (dk_at dksJ10_vectorizedMismatch_1 11 rfl rfl)
theorem dJ10_vectorizedMismatch_37 : decode cJ10_vectorizedMismatch 37 = .ok (.ladd, 1) := dk_97 (dk_at dksJ10_vectorizedMismatch_1 13 rfl rfl)
theorem dJ10_vectorizedMismatch_38 : decode cJ10_vectorizedMismatch 38 = .ok (.invokevirtual 30, 3) := dk_182 0 30 (dk_at dksJ10_vectorizedMismatch_1 14 rfl rfl)
theorem dJ10_vectorizedMismatch_41 : decode cJ10_vectorizedMismatch 41 = .ok (.lstore 12, 2) := dk_55 12 (dk_at dksJ10_vectorizedMismatch_1 17 rfl rfl)
theorem dJ10_vectorizedMismatch_43 : decode cJ10_vectorizedMismatch 43 = .ok (.getstatic 26, 3) := dk_178 0 26 (dk_at dksJ10_vectorizedMismatch_1 19 rfl rfl)
theorem dJ10_vectorizedMismatch_46 : decode cJ10_vectorizedMismatch 46 = .ok (.aload_n 3, 1) := dk_45 (dk_at dksJ10_vectorizedMismatch_1 22 rfl rfl)
theorem dJ10_vectorizedMismatch_47 : decode cJ10_vectorizedMismatch 47 = .ok (.lload 4, 2) := dk_22 4 (dk_at dksJ10_vectorizedMismatch_2 0 rfl rfl)
theorem dJ10_vectorizedMismatch_49 : decode cJ10_vectorizedMismatch 49 = .ok (.lload 10, 2) := dk_22 10 (dk_at dksJ10_vectorizedMismatch_2 2 rfl rfl)
theorem dJ10_vectorizedMismatch_51 : decode cJ10_vectorizedMismatch 51 = .ok (.ladd, 1) := dk_97 (dk_at dksJ10_vectorizedMismatch_2 4 rfl rfl)
theorem dJ10_vectorizedMismatch_52 : decode cJ10_vectorizedMismatch 52 = .ok (.invokevirtual 30, 3) := dk_182 0 30 (dk_at dksJ10_vectorizedMismatch_2 5 rfl rfl)
theorem dJ10_vectorizedMismatch_55 : decode cJ10_vectorizedMismatch 55 = .ok (.lstore 14, 2) := dk_55 14 (dk_at dksJ10_vectorizedMismatch_2 8 rfl rfl)
theorem dJ10_vectorizedMismatch_57 : decode cJ10_vectorizedMismatch 57 = .ok (.lload 12, 2) := dk_22 12 (dk_at dksJ10_vectorizedMismatch_2 10 rfl rfl)
theorem dJ10_vectorizedMismatch_59 : decode cJ10_vectorizedMismatch 59 = .ok (.lload 14, 2) := dk_22 14 (dk_at dksJ10_vectorizedMismatch_2 12 rfl rfl)
theorem dJ10_vectorizedMismatch_61 : decode cJ10_vectorizedMismatch 61 = .ok (.lcmp, 1) := dk_148 (dk_at dksJ10_vectorizedMismatch_2 14 rfl rfl)
theorem dJ10_vectorizedMismatch_62 : decode cJ10_vectorizedMismatch 62 = .ok (.ifCond .eq 54, 3) := dk_153 0 54 (dk_at dksJ10_vectorizedMismatch_2 15 rfl rfl)
theorem dJ10_vectorizedMismatch_65 : decode cJ10_vectorizedMismatch 65 = .ok (.lload 12, 2) := dk_22 12 (dk_at dksJ10_vectorizedMismatch_2 18 rfl rfl)
theorem dJ10_vectorizedMismatch_67 : decode cJ10_vectorizedMismatch 67 = .ok (.lload 14, 2) := dk_22 14 (dk_at dksJ10_vectorizedMismatch_2 20 rfl rfl)
theorem dJ10_vectorizedMismatch_69 : decode cJ10_vectorizedMismatch 69 = .ok (.lxor, 1) := dk_131 (dk_at dksJ10_vectorizedMismatch_2 22 rfl rfl)
theorem dJ10_vectorizedMismatch_70 : decode cJ10_vectorizedMismatch 70 = .ok (.lstore 16, 2) := dk_55 16 (dk_at dksJ10_vectorizedMismatch_3 0 rfl rfl)
theorem dJ10_vectorizedMismatch_72 : decode cJ10_vectorizedMismatch 72 = .ok (.getstatic 36, 3) := dk_178 0 36 (dk_at dksJ10_vectorizedMismatch_3 2 rfl rfl)
theorem dJ10_vectorizedMismatch_75 : decode cJ10_vectorizedMismatch 75 = .ok (.ifCond .eq 18, 3) := dk_153 0 18 (dk_at dksJ10_vectorizedMismatch_3 5 rfl rfl)
theorem dJ10_vectorizedMismatch_78 : decode cJ10_vectorizedMismatch 78 = .ok (.lload 16, 2) := dk_22 16 (dk_at dksJ10_vectorizedMismatch_3 8 rfl rfl)
theorem dJ10_vectorizedMismatch_80 : decode cJ10_vectorizedMismatch 80 = .ok (.invokestatic 40, 3) := dk_184 0 40 (dk_at dksJ10_vectorizedMismatch_3 10 rfl rfl)
theorem dJ10_vectorizedMismatch_83 : decode cJ10_vectorizedMismatch 83 = .ok (.getstatic 46, 3) := dk_178 0 46 (dk_at dksJ10_vectorizedMismatch_3 13 rfl rfl)
theorem dJ10_vectorizedMismatch_86 : decode cJ10_vectorizedMismatch 86 = .ok (.iload 7, 2) := dk_21 7 (dk_at dksJ10_vectorizedMismatch_3 16 rfl rfl)
theorem dJ10_vectorizedMismatch_88 : decode cJ10_vectorizedMismatch 88 = .ok (.iadd, 1) := dk_96 (dk_at dksJ10_vectorizedMismatch_3 18 rfl rfl)
theorem dJ10_vectorizedMismatch_89 : decode cJ10_vectorizedMismatch 89 = .ok (.ishr, 1) := dk_122 (dk_at dksJ10_vectorizedMismatch_3 19 rfl rfl)
theorem dJ10_vectorizedMismatch_90 : decode cJ10_vectorizedMismatch 90 = .ok (.goto 15, 3) := dk_167 0 15 (dk_at dksJ10_vectorizedMismatch_3 20 rfl rfl)
theorem dJ10_vectorizedMismatch_93 : decode cJ10_vectorizedMismatch 93 = .ok (.lload 16, 2) := dk_22 16 (dk_at dksJ10_vectorizedMismatch_4 0 rfl rfl)
theorem dJ10_vectorizedMismatch_95 : decode cJ10_vectorizedMismatch 95 = .ok (.invokestatic 49, 3) := dk_184 0 49 (dk_at dksJ10_vectorizedMismatch_4 2 rfl rfl)
theorem dJ10_vectorizedMismatch_98 : decode cJ10_vectorizedMismatch 98 = .ok (.getstatic 46, 3) := dk_178 0 46 (dk_at dksJ10_vectorizedMismatch_4 5 rfl rfl)
theorem dJ10_vectorizedMismatch_101 : decode cJ10_vectorizedMismatch 101 = .ok (.iload 7, 2) := dk_21 7 (dk_at dksJ10_vectorizedMismatch_4 8 rfl rfl)
theorem dJ10_vectorizedMismatch_103 : decode cJ10_vectorizedMismatch 103 = .ok (.iadd, 1) := dk_96 (dk_at dksJ10_vectorizedMismatch_4 10 rfl rfl)
theorem dJ10_vectorizedMismatch_104 : decode cJ10_vectorizedMismatch 104 = .ok (.ishr, 1) := dk_122 (dk_at dksJ10_vectorizedMismatch_4 11 rfl rfl)
theorem dJ10_vectorizedMismatch_105 : decode cJ10_vectorizedMismatch 105 = .ok (.istore 18, 2) := dk_54 18 (dk_at dksJ10_vectorizedMismatch_4 12 rfl rfl)
theorem dJ10_vectorizedMismatch_107 : decode cJ10_vectorizedMismatch 107 = .ok (.iload 9, 2) := dk_21 9 (dk_at dksJ10_vectorizedMismatch_4 14 rfl rfl)
theorem dJ10_vectorizedMismatch_109 : decode cJ10_vectorizedMismatch 109 = .ok (.iload 8, 2) := dk_21 8 (dk_at dksJ10_vectorizedMismatch_4 16 rfl rfl)
theorem dJ10_vectorizedMismatch_111 : decode cJ10_vectorizedMismatch 111 = .ok (.ishl, 1) := dk_120 (dk_at dksJ10_vectorizedMismatch_4 18 rfl rfl)
theorem dJ10_vectorizedMismatch_112 : decode cJ10_vectorizedMismatch 112 = .ok (.iload 18, 2) := dk_21 18 (dk_at dksJ10_vectorizedMismatch_4 19 rfl rfl)
theorem dJ10_vectorizedMismatch_114 : decode cJ10_vectorizedMismatch 114 = .ok (.iadd, 1) := dk_96 (dk_at dksJ10_vectorizedMismatch_4 21 rfl rfl)
theorem dJ10_vectorizedMismatch_115 : decode cJ10_vectorizedMismatch 115 = .ok (.ireturn, 1) := dk_172 (dk_at dksJ10_vectorizedMismatch_4 22 rfl rfl)
theorem dJ10_vectorizedMismatch_116 : decode cJ10_vectorizedMismatch 116 = .ok (.iinc 9 1, 3) := dk_132 9 1 (dk_at dksJ10_vectorizedMismatch_5 0 rfl rfl)
theorem dJ10_vectorizedMismatch_119 : decode cJ10_vectorizedMismatch 119 = .ok (.goto (-108), 3) := dk_167 255 148 (dk_at dksJ10_vectorizedMismatch_5 3 rfl rfl)
theorem dJ10_vectorizedMismatch_122 : decode cJ10_vectorizedMismatch 122 = .ok (.iload 6, 2) := dk_21 6 (dk_at dksJ10_vectorizedMismatch_5 6 rfl rfl)
theorem dJ10_vectorizedMismatch_124 : decode cJ10_vectorizedMismatch 124 = .ok (.iload 9, 2) := dk_21 9 (dk_at dksJ10_vectorizedMismatch_5 8 rfl rfl)
theorem dJ10_vectorizedMismatch_126 : decode cJ10_vectorizedMismatch 126 = .ok (.iload 8, 2) := dk_21 8 (dk_at dksJ10_vectorizedMismatch_5 10 rfl rfl)
theorem dJ10_vectorizedMismatch_128 : decode cJ10_vectorizedMismatch 128 = .ok (.ishl, 1) := dk_120 (dk_at dksJ10_vectorizedMismatch_5 12 rfl rfl)
theorem dJ10_vectorizedMismatch_129 : decode cJ10_vectorizedMismatch 129 = .ok (.isub, 1) := dk_100 (dk_at dksJ10_vectorizedMismatch_5 13 rfl rfl)
theorem dJ10_vectorizedMismatch_130 : decode cJ10_vectorizedMismatch 130 = .ok (.istore 10, 2) := dk_54 10 (dk_at dksJ10_vectorizedMismatch_5 14 rfl rfl)
theorem dJ10_vectorizedMismatch_132 : decode cJ10_vectorizedMismatch 132 = .ok (.iload 7, 2) := dk_21 7 (dk_at dksJ10_vectorizedMismatch_5 16 rfl rfl)
theorem dJ10_vectorizedMismatch_134 : decode cJ10_vectorizedMismatch 134 = .ok (.getstatic 51, 3) := dk_178 0 51 (dk_at dksJ10_vectorizedMismatch_5 18 rfl rfl)
theorem dJ10_vectorizedMismatch_137 : decode cJ10_vectorizedMismatch 137 = .ok (.if_icmp .ge 126, 3) := dk_162 0 126 (dk_at dksJ10_vectorizedMismatch_5 21 rfl rfl)
theorem dJ10_vectorizedMismatch_140 : decode cJ10_vectorizedMismatch 140 = .ok (.iconst 1, 1) := dk_4 (dk_at dksJ10_vectorizedMismatch_6 0 rfl rfl)
theorem dJ10_vectorizedMismatch_141 : decode cJ10_vectorizedMismatch 141 = .ok (.getstatic 51, 3) := dk_178 0 51 (dk_at dksJ10_vectorizedMismatch_6 1 rfl rfl)
theorem dJ10_vectorizedMismatch_144 : decode cJ10_vectorizedMismatch 144 = .ok (.iload 7, 2) := dk_21 7 (dk_at dksJ10_vectorizedMismatch_6 4 rfl rfl)
theorem dJ10_vectorizedMismatch_146 : decode cJ10_vectorizedMismatch 146 = .ok (.isub, 1) := dk_100 (dk_at dksJ10_vectorizedMismatch_6 6 rfl rfl)
theorem dJ10_vectorizedMismatch_147 : decode cJ10_vectorizedMismatch 147 = .ok (.ishl, 1) := dk_120 (dk_at dksJ10_vectorizedMismatch_6 7 rfl rfl)
theorem dJ10_vectorizedMismatch_148 : decode cJ10_vectorizedMismatch 148 = .ok (.istore 11, 2) := dk_54 11 (dk_at dksJ10_vectorizedMismatch_6 8 rfl rfl)
theorem dJ10_vectorizedMismatch_150 : decode cJ10_vectorizedMismatch 150 = .ok (.iload 10, 2) := dk_21 10 (dk_at dksJ10_vectorizedMismatch_6 10 rfl rfl)
theorem dJ10_vectorizedMismatch_152 : decode cJ10_vectorizedMismatch 152 = .ok (.iload 11, 2) := dk_21 11 (dk_at dksJ10_vectorizedMismatch_6 12 rfl rfl)
theorem dJ10_vectorizedMismatch_154 : decode cJ10_vectorizedMismatch 154 = .ok (.if_icmp .lt 104, 3) := dk_161 0 104 (dk_at dksJ10_vectorizedMismatch_6 14 rfl rfl)
theorem dJ10_vectorizedMismatch_157 : decode cJ10_vectorizedMismatch 157 = .ok (.iload 9, 2) := dk_21 9 (dk_at dksJ10_vectorizedMismatch_6 17 rfl rfl)
theorem dJ10_vectorizedMismatch_159 : decode cJ10_vectorizedMismatch 159 = .ok (.i2l, 1) := dk_133 (dk_at dksJ10_vectorizedMismatch_6 19 rfl rfl)
theorem dJ10_vectorizedMismatch_160 : decode cJ10_vectorizedMismatch 160 = .ok (.getstatic 20, 3) := dk_178 0 20 (dk_at dksJ10_vectorizedMismatch_6 20 rfl rfl)
theorem dJ10_vectorizedMismatch_163 : decode cJ10_vectorizedMismatch 163 = .ok (.lshl, 1) := dk_121 (dk_at dksJ10_vectorizedMismatch_6 23 rfl rfl)
theorem dJ10_vectorizedMismatch_164 : decode cJ10_vectorizedMismatch 164 = .ok (.lstore 12, 2) := dk_55 12 (dk_at dksJ10_vectorizedMismatch_7 0 rfl rfl)
theorem dJ10_vectorizedMismatch_166 : decode cJ10_vectorizedMismatch 166 = .ok (.getstatic 26, 3) := dk_178 0 26 (dk_at dksJ10_vectorizedMismatch_7 2 rfl rfl)
theorem dJ10_vectorizedMismatch_169 : decode cJ10_vectorizedMismatch 169 = .ok (.aload_n 0, 1) := dk_42 (dk_at dksJ10_vectorizedMismatch_7 5 rfl rfl)
theorem dJ10_vectorizedMismatch_170 : decode cJ10_vectorizedMismatch 170 = .ok (.lload_n 1, 1) := dk_31 (dk_at dksJ10_vectorizedMismatch_7 6 rfl rfl)
theorem dJ10_vectorizedMismatch_171 : decode cJ10_vectorizedMismatch 171 = .ok (.lload 12, 2) := dk_22 12 (dk_at dksJ10_vectorizedMismatch_7 7 rfl rfl)
theorem dJ10_vectorizedMismatch_173 : decode cJ10_vectorizedMismatch 173 = .ok (.ladd, 1) := dk_97 (dk_at dksJ10_vectorizedMismatch_7 9 rfl rfl)
theorem dJ10_vectorizedMismatch_174 : decode cJ10_vectorizedMismatch 174 = .ok (.invokevirtual 54, 3) := dk_182 0 54 (dk_at dksJ10_vectorizedMismatch_7 10 rfl rfl)
theorem dJ10_vectorizedMismatch_177 : decode cJ10_vectorizedMismatch 177 = .ok (.istore 14, 2) := dk_54 14 (dk_at dksJ10_vectorizedMismatch_7 13 rfl rfl)
theorem dJ10_vectorizedMismatch_179 : decode cJ10_vectorizedMismatch 179 = .ok (.getstatic 26, 3) := dk_178 0 26 (dk_at dksJ10_vectorizedMismatch_7 15 rfl rfl)
theorem dJ10_vectorizedMismatch_182 : decode cJ10_vectorizedMismatch 182 = .ok (.aload_n 3, 1) := dk_45 (dk_at dksJ10_vectorizedMismatch_7 18 rfl rfl)
theorem dJ10_vectorizedMismatch_183 : decode cJ10_vectorizedMismatch 183 = .ok (.lload 4, 2) := dk_22 4 (dk_at dksJ10_vectorizedMismatch_7 19 rfl rfl)
theorem dJ10_vectorizedMismatch_185 : decode cJ10_vectorizedMismatch 185 = .ok (.lload 12, 2) := dk_22 12 (dk_at dksJ10_vectorizedMismatch_7 21 rfl rfl)
theorem dJ10_vectorizedMismatch_187 : decode cJ10_vectorizedMismatch 187 = .ok (.ladd, 1) := dk_97 (dk_at dksJ10_vectorizedMismatch_7 23 rfl rfl)
theorem dJ10_vectorizedMismatch_188 : decode cJ10_vectorizedMismatch 188 = .ok (.invokevirtual 54, 3) := dk_182 0 54 (dk_at dksJ10_vectorizedMismatch_8 0 rfl rfl)
theorem dJ10_vectorizedMismatch_191 : decode cJ10_vectorizedMismatch 191 = .ok (.istore 15, 2) := dk_54 15 (dk_at dksJ10_vectorizedMismatch_8 3 rfl rfl)
theorem dJ10_vectorizedMismatch_193 : decode cJ10_vectorizedMismatch 193 = .ok (.iload 14, 2) := dk_21 14 (dk_at dksJ10_vectorizedMismatch_8 5 rfl rfl)
theorem dJ10_vectorizedMismatch_195 : decode cJ10_vectorizedMismatch 195 = .ok (.iload 15, 2) := dk_21 15 (dk_at dksJ10_vectorizedMismatch_8 7 rfl rfl)
theorem dJ10_vectorizedMismatch_197 : decode cJ10_vectorizedMismatch 197 = .ok (.if_icmp .eq 54, 3) := dk_159 0 54 (dk_at dksJ10_vectorizedMismatch_8 9 rfl rfl)
theorem dJ10_vectorizedMismatch_200 : decode cJ10_vectorizedMismatch 200 = .ok (.iload 14, 2) := dk_21 14 (dk_at dksJ10_vectorizedMismatch_8 12 rfl rfl)
theorem dJ10_vectorizedMismatch_202 : decode cJ10_vectorizedMismatch 202 = .ok (.iload 15, 2) := dk_21 15 (dk_at dksJ10_vectorizedMismatch_8 14 rfl rfl)
theorem dJ10_vectorizedMismatch_204 : decode cJ10_vectorizedMismatch 204 = .ok (.ixor, 1) := dk_130 (dk_at dksJ10_vectorizedMismatch_8 16 rfl rfl)
theorem dJ10_vectorizedMismatch_205 : decode cJ10_vectorizedMismatch 205 = .ok (.istore 16, 2) := dk_54 16 (dk_at dksJ10_vectorizedMismatch_8 17 rfl rfl)
theorem dJ10_vectorizedMismatch_207 : decode cJ10_vectorizedMismatch 207 = .ok (.getstatic 36, 3) := dk_178 0 36 (dk_at dksJ10_vectorizedMismatch_8 19 rfl rfl)
theorem dJ10_vectorizedMismatch_210 : decode cJ10_vectorizedMismatch 210 = .ok (.ifCond .eq 18, 3) := dk_153 0 18 (dk_at dksJ10_vectorizedMismatch_9 0 rfl rfl)
theorem dJ10_vectorizedMismatch_213 : decode cJ10_vectorizedMismatch 213 = .ok (.iload 16, 2) := dk_21 16 (dk_at dksJ10_vectorizedMismatch_9 3 rfl rfl)
theorem dJ10_vectorizedMismatch_215 : decode cJ10_vectorizedMismatch 215 = .ok (.invokestatic 58, 3) := dk_184 0 58 (dk_at dksJ10_vectorizedMismatch_9 5 rfl rfl)
theorem dJ10_vectorizedMismatch_218 : decode cJ10_vectorizedMismatch 218 = .ok (.getstatic 46, 3) := dk_178 0 46 (dk_at dksJ10_vectorizedMismatch_9 8 rfl rfl)
theorem dJ10_vectorizedMismatch_221 : decode cJ10_vectorizedMismatch 221 = .ok (.iload 7, 2) := dk_21 7 (dk_at dksJ10_vectorizedMismatch_9 11 rfl rfl)
theorem dJ10_vectorizedMismatch_223 : decode cJ10_vectorizedMismatch 223 = .ok (.iadd, 1) := dk_96 (dk_at dksJ10_vectorizedMismatch_9 13 rfl rfl)
theorem dJ10_vectorizedMismatch_224 : decode cJ10_vectorizedMismatch 224 = .ok (.ishr, 1) := dk_122 (dk_at dksJ10_vectorizedMismatch_9 14 rfl rfl)
theorem dJ10_vectorizedMismatch_225 : decode cJ10_vectorizedMismatch 225 = .ok (.goto 15, 3) := dk_167 0 15 (dk_at dksJ10_vectorizedMismatch_9 15 rfl rfl)
theorem dJ10_vectorizedMismatch_228 : decode cJ10_vectorizedMismatch 228 = .ok (.iload 16, 2) := dk_21 16 (dk_at dksJ10_vectorizedMismatch_9 18 rfl rfl)
theorem dJ10_vectorizedMismatch_230 : decode cJ10_vectorizedMismatch 230 = .ok (.invokestatic 11, 3) := dk_184 0 11 (dk_at dksJ10_vectorizedMismatch_9 20 rfl rfl)
theorem dJ10_vectorizedMismatch_233 : decode cJ10_vectorizedMismatch 233 = .ok (.getstatic 46, 3) := dk_178 0 46 (dk_at dksJ10_vectorizedMismatch_10 0 rfl rfl)
theorem dJ10_vectorizedMismatch_236 : decode cJ10_vectorizedMismatch 236 = .ok (.iload 7, 2) := dk_21 7 (dk_at dksJ10_vectorizedMismatch_10 3 rfl rfl)
theorem dJ10_vectorizedMismatch_238 : decode cJ10_vectorizedMismatch 238 = .ok (.iadd, 1) := dk_96 (dk_at dksJ10_vectorizedMismatch_10 5 rfl rfl)
theorem dJ10_vectorizedMismatch_239 : decode cJ10_vectorizedMismatch 239 = .ok (.ishr, 1) := dk_122 (dk_at dksJ10_vectorizedMismatch_10 6 rfl rfl)
theorem dJ10_vectorizedMismatch_240 : decode cJ10_vectorizedMismatch 240 = .ok (.istore 17, 2) := dk_54 17 (dk_at dksJ10_vectorizedMismatch_10 7 rfl rfl)
theorem dJ10_vectorizedMismatch_242 : decode cJ10_vectorizedMismatch 242 = .ok (.iload 9, 2) := dk_21 9 (dk_at dksJ10_vectorizedMismatch_10 9 rfl rfl)
theorem dJ10_vectorizedMismatch_244 : decode cJ10_vectorizedMismatch 244 = .ok (.iload 8, 2) := dk_21 8 (dk_at dksJ10_vectorizedMismatch_10 11 rfl rfl)
theorem dJ10_vectorizedMismatch_246 : decode cJ10_vectorizedMismatch 246 = .ok (.ishl, 1) := dk_120 (dk_at dksJ10_vectorizedMismatch_10 13 rfl rfl)
theorem dJ10_vectorizedMismatch_247 : decode cJ10_vectorizedMismatch 247 = .ok (.iload 17, 2) := dk_21 17 (dk_at dksJ10_vectorizedMismatch_10 14 rfl rfl)
theorem dJ10_vectorizedMismatch_249 : decode cJ10_vectorizedMismatch 249 = .ok (.iadd, 1) := dk_96 (dk_at dksJ10_vectorizedMismatch_10 16 rfl rfl)
theorem dJ10_vectorizedMismatch_250 : decode cJ10_vectorizedMismatch 250 = .ok (.ireturn, 1) := dk_172 (dk_at dksJ10_vectorizedMismatch_10 17 rfl rfl)
theorem dJ10_vectorizedMismatch_251 : decode cJ10_vectorizedMismatch 251 = .ok (.iload 10, 2) := dk_21 10 (dk_at dksJ10_vectorizedMismatch_10 18 rfl rfl)
theorem dJ10_vectorizedMismatch_253 : decode cJ10_vectorizedMismatch 253 = .ok (.iload 11, 2) := dk_21 11 (dk_at dksJ10_vectorizedMismatch_10 20 rfl rfl)
theorem dJ10_vectorizedMismatch_255 : decode cJ10_vectorizedMismatch 255 = .ok (.isub, 1) := dk_100 (dk_at dksJ10_vectorizedMismatch_10 22 rfl rfl)
theorem dJ10_vectorizedMismatch_256 : decode cJ10_vectorizedMismatch 256 = .ok (.istore 10, 2) := dk_54 10 (dk_at dksJ10_vectorizedMismatch_11 0 rfl rfl)
theorem dJ10_vectorizedMismatch_258 : decode cJ10_vectorizedMismatch 258 = .ok (.iload 10, 2) := dk_21 10 (dk_at dksJ10_vectorizedMismatch_11 2 rfl rfl)
theorem dJ10_vectorizedMismatch_260 : decode cJ10_vectorizedMismatch 260 = .ok (.iconst (-1), 1) := dk_2 (dk_at dksJ10_vectorizedMismatch_11 4 rfl rfl)
theorem dJ10_vectorizedMismatch_261 : decode cJ10_vectorizedMismatch 261 = .ok (.ixor, 1) := dk_130 (dk_at dksJ10_vectorizedMismatch_11 5 rfl rfl)
theorem dJ10_vectorizedMismatch_262 : decode cJ10_vectorizedMismatch 262 = .ok (.ireturn, 1) := dk_172 (dk_at dksJ10_vectorizedMismatch_11 6 rfl rfl)
theorem dJ10_vectorizedMismatch_263 : decode cJ10_vectorizedMismatch 263 = .ok (.iload 10, 2) := dk_21 10 (dk_at dksJ10_vectorizedMismatch_11 7 rfl rfl)
theorem dJ10_vectorizedMismatch_265 : decode cJ10_vectorizedMismatch 265 = .ok (.iconst (-1), 1) := dk_2 (dk_at dksJ10_vectorizedMismatch_11 9 rfl rfl)
theorem dJ10_vectorizedMismatch_266 : decode cJ10_vectorizedMismatch 266 = .ok (.ixor, 1) := dk_130 (dk_at dksJ10_vectorizedMismatch_11 10 rfl rfl)
theorem dJ10_vectorizedMismatch_267 : decode cJ10_vectorizedMismatch 267 = .ok (.ireturn, 1) := dk_172 (dk_at dksJ10_vectorizedMismatch_11 11 rfl rfl)
theorem q87 : (Jvm.Cond.initialized "jdk/internal/util/ArraysSupport") ∈ lw_all := lw_g (lw_at lw_m1 14 rfl) rfl
theorem q421 : (Jvm.Cond.static ({ cls := "jdk/internal/util/ArraysSupport", name := "newLength", desc := "(III)I" } : Jvm.MethodName)) ∈ lw_all := lw_g (lw_at lw_m2 108 rfl) rfl
theorem q422 : (Jvm.Cond.code ({ cls := "jdk/internal/util/ArraysSupport", name := "newLength", desc := "(III)I" } : Jvm.MethodName) prog_85_method_27_code (4 : Nat) (Option.some Jvm.ClassFile.FieldType.int)) ∈ lw_all := lw_g (lw_at lw_m2 109 rfl) rfl
theorem q423 : (Jvm.Cond.methodLink "jdk/internal/util/ArraysSupport" (194 : Nat) ({ cls := "java/lang/Math", name := "max", desc := "(II)I" } : Jvm.MethodName)) ∈ lw_all := lw_g (lw_at lw_m2 110 rfl) rfl
theorem q426 : (Jvm.Cond.constant "jdk/internal/util/ArraysSupport" (200 : Nat) (2147483639 : Int32)) ∈ lw_all := lw_g (lw_at lw_m2 113 rfl) rfl
theorem q427 : (Jvm.Cond.methodLink "jdk/internal/util/ArraysSupport" (201 : Nat) ({ cls := "jdk/internal/util/ArraysSupport", name := "hugeLength", desc := "(II)I" } : Jvm.MethodName)) ∈ lw_all := lw_g (lw_at lw_m2 114 rfl) rfl
theorem q428 : (Jvm.Cond.static ({ cls := "jdk/internal/util/ArraysSupport", name := "hugeLength", desc := "(II)I" } : Jvm.MethodName)) ∈ lw_all := lw_g (lw_at lw_m2 115 rfl) rfl
theorem q429 : (Jvm.Cond.code ({ cls := "jdk/internal/util/ArraysSupport", name := "hugeLength", desc := "(II)I" } : Jvm.MethodName) prog_85_method_28_code (3 : Nat) (Option.some Jvm.ClassFile.FieldType.int)) ∈ lw_all := lw_g (lw_at lw_m2 116 rfl) rfl
theorem q667 : (Jvm.Cond.static ({ cls := "jdk/internal/util/ArraysSupport", name := "mismatch", desc := "([B[BI)I" } : Jvm.MethodName)) ∈ lw_all := lw_g (lw_at lw_m3 114 rfl) rfl
theorem q668 : (Jvm.Cond.code ({ cls := "jdk/internal/util/ArraysSupport", name := "mismatch", desc := "([B[BI)I" } : Jvm.MethodName) prog_85_method_13_code (4 : Nat) (Option.some Jvm.ClassFile.FieldType.int)) ∈ lw_all := lw_g (lw_at lw_m3 115 rfl) rfl
theorem q669 : (Jvm.Cond.fieldLink "jdk/internal/util/ArraysSupport" (126 : Nat) "jdk/internal/misc/Unsafe" "ARRAY_BYTE_BASE_OFFSET" "I") ∈ lw_all := lw_g (lw_at lw_m3 116 rfl) rfl
theorem q671 : (Jvm.Cond.fieldLink "jdk/internal/util/ArraysSupport" (129 : Nat) "jdk/internal/util/ArraysSupport" "LOG2_ARRAY_BYTE_INDEX_SCALE" "I") ∈ lw_all := lw_g (lw_at lw_m3 118 rfl) rfl
theorem q672 : (Jvm.Cond.laysStatic "jdk/internal/util/ArraysSupport" "LOG2_ARRAY_BYTE_INDEX_SCALE" "I") ∈ lw_tbl := lw_at lw_m3 119 rfl
theorem q673 : (Jvm.Cond.methodLink "jdk/internal/util/ArraysSupport" (122 : Nat) ({ cls := "jdk/internal/util/ArraysSupport", name := "vectorizedMismatch", desc := "(Ljava/lang/Object;JLjava/lang/Object;JII)I" } : Jvm.MethodName)) ∈ lw_all := lw_g (lw_at lw_m3 120 rfl) rfl
theorem q674 : (Jvm.Cond.static ({ cls := "jdk/internal/util/ArraysSupport", name := "vectorizedMismatch", desc := "(Ljava/lang/Object;JLjava/lang/Object;JII)I" } : Jvm.MethodName)) ∈ lw_all := lw_g (lw_at lw_m3 121 rfl) rfl
theorem q675 : (Jvm.Cond.code ({ cls := "jdk/internal/util/ArraysSupport", name := "vectorizedMismatch", desc := "(Ljava/lang/Object;JLjava/lang/Object;JII)I" } : Jvm.MethodName) prog_85_method_3_code (19 : Nat) (Option.some Jvm.ClassFile.FieldType.int)) ∈ lw_all := lw_g (lw_at lw_m3 122 rfl) rfl
theorem q676 : (Jvm.Cond.fieldLink "jdk/internal/util/ArraysSupport" (20 : Nat) "jdk/internal/util/ArraysSupport" "LOG2_ARRAY_LONG_INDEX_SCALE" "I") ∈ lw_all := lw_g (lw_at lw_m3 123 rfl) rfl
theorem q677 : (Jvm.Cond.laysStatic "jdk/internal/util/ArraysSupport" "LOG2_ARRAY_LONG_INDEX_SCALE" "I") ∈ lw_tbl := lw_at lw_m3 124 rfl
theorem q678 : (Jvm.Cond.fieldLink "jdk/internal/util/ArraysSupport" (26 : Nat) "jdk/internal/util/ArraysSupport" "U" "Ljdk/internal/misc/Unsafe;") ∈ lw_all := lw_g (lw_at lw_m3 125 rfl) rfl
theorem q679 : (Jvm.Cond.laysStatic "jdk/internal/util/ArraysSupport" "U" "Ljdk/internal/misc/Unsafe;") ∈ lw_tbl := lw_at lw_m3 126 rfl
theorem q680 : (Jvm.Cond.methodLink "jdk/internal/util/ArraysSupport" (30 : Nat) ({ cls := "jdk/internal/misc/Unsafe", name := "getLongUnaligned", desc := "(Ljava/lang/Object;J)J" } : Jvm.MethodName)) ∈ lw_all := lw_g (lw_at lw_m3 127 rfl) rfl
theorem q732 : (Jvm.Cond.fieldLink "jdk/internal/util/ArraysSupport" (36 : Nat) "jdk/internal/util/ArraysSupport" "BIG_ENDIAN" "Z") ∈ lw_all := lw_g (lw_at lw_m3 179 rfl) rfl
theorem q733 : (Jvm.Cond.laysStatic "jdk/internal/util/ArraysSupport" "BIG_ENDIAN" "Z") ∈ lw_tbl := lw_at lw_m3 180 rfl
theorem q734 : (Jvm.Cond.methodLink "jdk/internal/util/ArraysSupport" (40 : Nat) ({ cls := "java/lang/Long", name := "numberOfLeadingZeros", desc := "(J)I" } : Jvm.MethodName)) ∈ lw_all := lw_g (lw_at lw_m3 181 rfl) rfl
theorem q741 : (Jvm.Cond.fieldLink "jdk/internal/util/ArraysSupport" (46 : Nat) "jdk/internal/util/ArraysSupport" "LOG2_BYTE_BIT_SIZE" "I") ∈ lw_all := lw_g (lw_at lw_m3 188 rfl) rfl
theorem q742 : (Jvm.Cond.laysStatic "jdk/internal/util/ArraysSupport" "LOG2_BYTE_BIT_SIZE" "I") ∈ lw_tbl := lw_at lw_m3 189 rfl
theorem q743 : (Jvm.Cond.methodLink "jdk/internal/util/ArraysSupport" (49 : Nat) ({ cls := "java/lang/Long", name := "numberOfTrailingZeros", desc := "(J)I" } : Jvm.MethodName)) ∈ lw_all := lw_g (lw_at lw_m3 190 rfl) rfl
theorem q749 : (Jvm.Cond.fieldLink "jdk/internal/util/ArraysSupport" (51 : Nat) "jdk/internal/util/ArraysSupport" "LOG2_ARRAY_INT_INDEX_SCALE" "I") ∈ lw_all := lw_g (lw_at lw_m3 196 rfl) rfl
theorem q750 : (Jvm.Cond.laysStatic "jdk/internal/util/ArraysSupport" "LOG2_ARRAY_INT_INDEX_SCALE" "I") ∈ lw_tbl := lw_at lw_m3 197 rfl
theorem q751 : (Jvm.Cond.methodLink "jdk/internal/util/ArraysSupport" (54 : Nat) ({ cls := "jdk/internal/misc/Unsafe", name := "getIntUnaligned", desc := "(Ljava/lang/Object;J)I" } : Jvm.MethodName)) ∈ lw_all := lw_g (lw_at lw_m3 198 rfl) rfl
theorem q768 : (Jvm.Cond.methodLink "jdk/internal/util/ArraysSupport" (58 : Nat) ({ cls := "java/lang/Integer", name := "numberOfLeadingZeros", desc := "(I)I" } : Jvm.MethodName)) ∈ lw_all := lw_g (lw_at lw_m3 215 rfl) rfl
theorem q769 : (Jvm.Cond.methodLink "jdk/internal/util/ArraysSupport" (11 : Nat) ({ cls := "java/lang/Integer", name := "numberOfTrailingZeros", desc := "(I)I" } : Jvm.MethodName)) ∈ lw_all := lw_g (lw_at lw_m3 216 rfl) rfl
/-! java/lang/Math -/
set_option maxRecDepth 100000
def RJ11 : String := "java/lang/Math"
abbrev cJ11_max : ByteArray := prog_33_method_65_code
def yJ11_max : MethodName := ⟨RJ11, "max", "(II)I"⟩
def dkwJ11_max_0 : List UInt8 := [26, 27, 161, 0, 7, 26, 167, 0, 4, 27, 172]
abbrev dktJ11_max_0 : List UInt8 := dkwJ11_max_0 ++ []
theorem dksJ11_max_0 : cJ11_max.data.toList.drop 0 = dktJ11_max_0 := by decide +kernel
theorem dJ11_max_0 : decode cJ11_max 0 = .ok (.iload_n 0, 1) := dk_26 (dk_at dksJ11_max_0 0 rfl rfl)
theorem dJ11_max_1 : decode cJ11_max 1 = .ok (.iload_n 1, 1) := dk_27 (dk_at dksJ11_max_0 1 rfl rfl)
theorem dJ11_max_2 : decode cJ11_max 2 = .ok (.if_icmp .lt 7, 3) := dk_161 0 7 (dk_at dksJ11_max_0 2 rfl rfl)
theorem dJ11_max_5 : decode cJ11_max 5 = .ok (.iload_n 0, 1) := dk_26 (dk_at dksJ11_max_0 5 rfl rfl)
theorem dJ11_max_6 : decode cJ11_max 6 = .ok (.goto 4, 3) := dk_167 0 4 (dk_at dksJ11_max_0 6 rfl rfl)
theorem dJ11_max_9 : decode cJ11_max 9 = .ok (.iload_n 1, 1) := dk_27 (dk_at dksJ11_max_0 9 rfl rfl)
theorem dJ11_max_10 : decode cJ11_max 10 = .ok (.ireturn, 1) := dk_172 (dk_at dksJ11_max_0 10 rfl rfl)
abbrev cJ11_min : ByteArray := prog_33_method_69_code
def yJ11_min : MethodName := ⟨RJ11, "min", "(II)I"⟩
def dkwJ11_min_0 : List UInt8 := [26, 27, 163, 0, 7, 26, 167, 0, 4, 27, 172]
abbrev dktJ11_min_0 : List UInt8 := dkwJ11_min_0 ++ []
theorem dksJ11_min_0 : cJ11_min.data.toList.drop 0 = dktJ11_min_0 := by decide +kernel
theorem dJ11_min_0 : decode cJ11_min 0 = .ok (.iload_n 0, 1) := dk_26 (dk_at dksJ11_min_0 0 rfl rfl)
theorem dJ11_min_1 : decode cJ11_min 1 = .ok (.iload_n 1, 1) := dk_27 (dk_at dksJ11_min_0 1 rfl rfl)
theorem dJ11_min_2 : decode cJ11_min 2 = .ok (.if_icmp .gt 7, 3) := dk_163 0 7 (dk_at dksJ11_min_0 2 rfl rfl)
theorem dJ11_min_5 : decode cJ11_min 5 = .ok (.iload_n 0, 1) := dk_26 (dk_at dksJ11_min_0 5 rfl rfl)
theorem dJ11_min_6 : decode cJ11_min 6 = .ok (.goto 4, 3) := dk_167 0 4 (dk_at dksJ11_min_0 6 rfl rfl)
theorem dJ11_min_9 : decode cJ11_min 9 = .ok (.iload_n 1, 1) := dk_27 (dk_at dksJ11_min_0 9 rfl rfl)
theorem dJ11_min_10 : decode cJ11_min 10 = .ok (.ireturn, 1) := dk_172 (dk_at dksJ11_min_0 10 rfl rfl)
abbrev cJ11_abs : ByteArray := prog_33_method_59_code
def yJ11_abs : MethodName := ⟨RJ11, "abs", "(I)I"⟩
def dkwJ11_abs_0 : List UInt8 := [26, 156, 0, 8, 26, 116, 167, 0, 4, 26, 172]
abbrev dktJ11_abs_0 : List UInt8 := dkwJ11_abs_0 ++ []
theorem dksJ11_abs_0 : cJ11_abs.data.toList.drop 0 = dktJ11_abs_0 := by decide +kernel
theorem dJ11_abs_0 : decode cJ11_abs 0 = .ok (.iload_n 0, 1) := dk_26 (dk_at dksJ11_abs_0 0 rfl rfl)
theorem dJ11_abs_1 : decode cJ11_abs 1 = .ok (.ifCond .ge 8, 3) := dk_156 0 8 (dk_at dksJ11_abs_0 1 rfl rfl)
theorem dJ11_abs_4 : decode cJ11_abs 4 = .ok (.iload_n 0, 1) := dk_26 (dk_at dksJ11_abs_0 4 rfl rfl)
theorem dJ11_abs_5 : decode cJ11_abs 5 = .ok (.ineg, 1) := dk_116 (dk_at dksJ11_abs_0 5 rfl rfl)
theorem dJ11_abs_6 : decode cJ11_abs 6 = .ok (.goto 4, 3) := dk_167 0 4 (dk_at dksJ11_abs_0 6 rfl rfl)
theorem dJ11_abs_9 : decode cJ11_abs 9 = .ok (.iload_n 0, 1) := dk_26 (dk_at dksJ11_abs_0 9 rfl rfl)
theorem dJ11_abs_10 : decode cJ11_abs 10 = .ok (.ireturn, 1) := dk_172 (dk_at dksJ11_abs_0 10 rfl rfl)
theorem q88 : (Jvm.Cond.initialized "java/lang/Math") ∈ lw_all := lw_g (lw_at lw_m1 15 rfl) rfl
theorem q424 : (Jvm.Cond.static ({ cls := "java/lang/Math", name := "max", desc := "(II)I" } : Jvm.MethodName)) ∈ lw_all := lw_g (lw_at lw_m2 111 rfl) rfl
theorem q425 : (Jvm.Cond.code ({ cls := "java/lang/Math", name := "max", desc := "(II)I" } : Jvm.MethodName) prog_33_method_65_code (2 : Nat) (Option.some Jvm.ClassFile.FieldType.int)) ∈ lw_all := lw_g (lw_at lw_m2 112 rfl) rfl
theorem q477 : (Jvm.Cond.static ({ cls := "java/lang/Math", name := "min", desc := "(II)I" } : Jvm.MethodName)) ∈ lw_all := lw_g (lw_at lw_m2 164 rfl) rfl
theorem q478 : (Jvm.Cond.code ({ cls := "java/lang/Math", name := "min", desc := "(II)I" } : Jvm.MethodName) prog_33_method_69_code (2 : Nat) (Option.some Jvm.ClassFile.FieldType.int)) ∈ lw_all := lw_g (lw_at lw_m2 165 rfl) rfl
theorem q592 : (Jvm.Cond.static ({ cls := "java/lang/Math", name := "abs", desc := "(I)I" } : Jvm.MethodName)) ∈ lw_all := lw_g (lw_at lw_m3 39 rfl) rfl
theorem q593 : (Jvm.Cond.code ({ cls := "java/lang/Math", name := "abs", desc := "(I)I" } : Jvm.MethodName) prog_33_method_59_code (1 : Nat) (Option.some Jvm.ClassFile.FieldType.int)) ∈ lw_all := lw_g (lw_at lw_m3 40 rfl) rfl
/-! java/util/Arrays -/
set_option maxRecDepth 100000
def RJ12 : String := "java/util/Arrays"
abbrev cJ12_copyOf : ByteArray := prog_52_method_119_code
def yJ12_copyOf : MethodName := ⟨RJ12, "copyOf", "([Ljava/lang/Object;I)[Ljava/lang/Object;"⟩
def dkwJ12_copyOf_0 : List UInt8 := [42, 27, 42, 182, 0, 86, 184, 1, 44, 176]
abbrev dktJ12_copyOf_0 : List UInt8 := dkwJ12_copyOf_0 ++ []
theorem dksJ12_copyOf_0 : cJ12_copyOf.data.toList.drop 0 = dktJ12_copyOf_0 := by decide +kernel
theorem dJ12_copyOf_0 : decode cJ12_copyOf 0 = .ok (.aload_n 0, 1) := dk_42 (dk_at dksJ12_copyOf_0 0 rfl rfl)
theorem dJ12_copyOf_1 : decode cJ12_copyOf 1 = .ok (.iload_n 1, 1) := dk_27 (dk_at dksJ12_copyOf_0 1 rfl rfl)
theorem dJ12_copyOf_2 : decode cJ12_copyOf 2 = .ok (.aload_n 0, 1) := dk_42 (dk_at dksJ12_copyOf_0 2 rfl rfl)
theorem dJ12_copyOf_3 : decode cJ12_copyOf 3 = .ok (.invokevirtual 86, 3) := dk_182 0 86 (dk_at dksJ12_copyOf_0 3 rfl rfl)
theorem dJ12_copyOf_6 : decode cJ12_copyOf 6 = .ok (.invokestatic 300, 3) := dk_184 1 44 (dk_at dksJ12_copyOf_0 6 rfl rfl)
theorem dJ12_copyOf_9 : decode cJ12_copyOf 9 = .ok (.areturn, 1) := dk_176 (dk_at dksJ12_copyOf_0 9 rfl rfl)
abbrev cJ12_copyOf_2 : ByteArray := prog_52_method_120_code
def yJ12_copyOf_2 : MethodName := ⟨RJ12, "copyOf", "([Ljava/lang/Object;ILjava/lang/Class;)[Ljava/lang/Object;"⟩
def dkwJ12_copyOf_2_1 : List UInt8 := [78, 42, 3, 45, 3, 42, 190, 27, 184, 1, 48, 184, 0, 150, 45, 176]
abbrev dktJ12_copyOf_2_1 : List UInt8 := dkwJ12_copyOf_2_1 ++ []
def dkwJ12_copyOf_2_0 : List UInt8 := [44, 18, 110, 166, 0, 10, 27, 189, 0, 2, 167, 0, 14, 44, 182, 0, 90, 27, 184, 0, 95, 192, 0, 110]
abbrev dktJ12_copyOf_2_0 : List UInt8 := dkwJ12_copyOf_2_0 ++ dktJ12_copyOf_2_1
theorem dksJ12_copyOf_2_0 : cJ12_copyOf_2.data.toList.drop 0 = dktJ12_copyOf_2_0 := by decide +kernel
theorem dksJ12_copyOf_2_1 : cJ12_copyOf_2.data.toList.drop 24 = dktJ12_copyOf_2_1 := dk_seg dksJ12_copyOf_2_0 24 rfl rfl
theorem dJ12_copyOf_2_0 : decode cJ12_copyOf_2 0 = .ok (.aload_n 2, 1) := dk_44 (dk_at dksJ12_copyOf_2_0 0 rfl rfl)
theorem dJ12_copyOf_2_1 : decode cJ12_copyOf_2 1 = .ok (.ldc 110, 2) := dk_18 110 (dk_at dksJ12_copyOf_2_0 1 rfl rfl)
theorem dJ12_copyOf_2_3 : decode cJ12_copyOf_2 3 = .ok (.if_acmp .ne 10, 3) := dk_166 0 10 (dk_at dksJ12_copyOf_2_0 3 rfl rfl)
theorem dJ12_copyOf_2_6 : decode cJ12_copyOf_2 6 = .ok (.iload_n 1, 1) := dk_27 (dk_at dksJ12_copyOf_2_0 6 rfl rfl)
theorem dJ12_copyOf_2_7 : decode cJ12_copyOf_2 7 = .ok (.anewarray 2, 3) := dk_189 0 2 (dk_at dksJ12_copyOf_2_0 7 rfl rfl)
theorem dJ12_copyOf_2_10 : decode cJ12_copyOf_2 10 = .ok (.goto 14, 3) := dk_167 0 14 (dk_at dksJ12_copyOf_2_0 10 rfl rfl)
theorem dJ12_copyOf_2_13 : decode cJ12_copyOf_2 13 = .ok (.aload_n 2, 1) := dk_44 (dk_at dksJ12_copyOf_2_0 13 rfl rfl)
theorem dJ12_copyOf_2_14 : decode cJ12_copyOf_2 14 = .ok (.invokevirtual 90, 3) := dk_182 0 90 (dk_at dksJ12_copyOf_2_0 14 rfl rfl)
theorem dJ12_copyOf_2_17 : decode cJ12_copyOf_2 17 = .ok (.iload_n 1, 1) := dk_27 (dk_at dksJ12_copyOf_2_0 17 rfl rfl)
theorem dJ12_copyOf_2_18 : decode cJ12_copyOf_2 18 = .ok (.invokestatic 95, 3) := dk_184 0 95 (dk_at dksJ12_copyOf_2_0 18 rfl rfl)
theorem dJ12_copyOf_2_21 : decode cJ12_copyOf_2 21 = .ok (.checkcast 110, 3) := dk_192 0 110 (dk_at dksJ12_copyOf_2_0 21 rfl rfl)
theorem dJ12_copyOf_2_24 : decode cJ12_copyOf_2 24 = .ok (.astore_n 3, 1) := dk_78 (dk_at dksJ12_copyOf_2_1 0 rfl rfl)
theorem dJ12_copyOf_2_25 : decode cJ12_copyOf_2 25 = .ok (.aload_n 0, 1) := dk_42 (dk_at dksJ12_copyOf_2_1 1 rfl rfl)
theorem dJ12_copyOf_2_26 : decode cJ12_copyOf_2 26 = .ok (.iconst 0, 1) := dk_3 (dk_at dksJ12_copyOf_2_1 2 rfl rfl)
theorem dJ12_copyOf_2_27 : decode cJ12_copyOf_2 27 = .ok (.aload_n 3, 1) := dk_45 (dk_at dksJ12_copyOf_2_1 3 rfl rfl)
theorem dJ12_copyOf_2_28 : decode cJ12_copyOf_2 28 = .ok (.iconst 0, 1) := dk_3 (dk_at dksJ12_copyOf_2_1 4 rfl rfl)
theorem dJ12_copyOf_2_29 : decode cJ12_copyOf_2 29 = .ok (.aload_n 0, 1) := dk_42 (dk_at dksJ12_copyOf_2_1 5 rfl rfl)
theorem dJ12_copyOf_2_30 : decode cJ12_copyOf_2 30 = .ok (.arraylength, 1) := dk_190 (dk_at dksJ12_copyOf_2_1 6 rfl rfl)
theorem dJ12_copyOf_2_31 : decode cJ12_copyOf_2 31 = .ok (.iload_n 1, 1) := dk_27 (dk_at dksJ12_copyOf_2_1 7 rfl rfl)
theorem dJ12_copyOf_2_32 : decode cJ12_copyOf_2 32 = .ok (.invokestatic 304, 3) := dk_184 1 48 (dk_at dksJ12_copyOf_2_1 8 rfl rfl)
theorem dJ12_copyOf_2_35 : decode cJ12_copyOf_2 35 = .ok (.invokestatic 150, 3) := dk_184 0 150 (dk_at dksJ12_copyOf_2_1 11 rfl rfl)
theorem dJ12_copyOf_2_38 : decode cJ12_copyOf_2 38 = .ok (.aload_n 3, 1) := dk_45 (dk_at dksJ12_copyOf_2_1 14 rfl rfl)
theorem dJ12_copyOf_2_39 : decode cJ12_copyOf_2 39 = .ok (.areturn, 1) := dk_176 (dk_at dksJ12_copyOf_2_1 15 rfl rfl)
theorem q89 : (Jvm.Cond.initialized "java/util/Arrays") ∈ lw_all := lw_g (lw_at lw_m1 16 rfl) rfl
theorem q431 : (Jvm.Cond.static ({ cls := "java/util/Arrays", name := "copyOf", desc := "([Ljava/lang/Object;I)[Ljava/lang/Object;" } : Jvm.MethodName)) ∈ lw_all := lw_g (lw_at lw_m2 118 rfl) rfl
theorem q432 : (Jvm.Cond.code ({ cls := "java/util/Arrays", name := "copyOf", desc := "([Ljava/lang/Object;I)[Ljava/lang/Object;" } : Jvm.MethodName) prog_52_method_119_code (2 : Nat) (Option.some (Jvm.ClassFile.FieldType.array (Jvm.ClassFile.FieldType.object "java/lang/Object")))) ∈ lw_all := lw_g (lw_at lw_m2 119 rfl) rfl
theorem q433 : (Jvm.Cond.methodLink "java/util/Arrays" (86 : Nat) ({ cls := "java/lang/Object", name := "getClass", desc := "()Ljava/lang/Class;" } : Jvm.MethodName)) ∈ lw_all := lw_g (lw_at lw_m2 120 rfl) rfl
theorem q471 : (Jvm.Cond.methodLink "java/util/Arrays" (300 : Nat) ({ cls := "java/util/Arrays", name := "copyOf", desc := "([Ljava/lang/Object;ILjava/lang/Class;)[Ljava/lang/Object;" } : Jvm.MethodName)) ∈ lw_all := lw_g (lw_at lw_m2 158 rfl) rfl
theorem q472 : (Jvm.Cond.static ({ cls := "java/util/Arrays", name := "copyOf", desc := "([Ljava/lang/Object;ILjava/lang/Class;)[Ljava/lang/Object;" } : Jvm.MethodName)) ∈ lw_all := lw_g (lw_at lw_m2 159 rfl) rfl
theorem q473 : (Jvm.Cond.code ({ cls := "java/util/Arrays", name := "copyOf", desc := "([Ljava/lang/Object;ILjava/lang/Class;)[Ljava/lang/Object;" } : Jvm.MethodName) prog_52_method_120_code (4 : Nat) (Option.some (Jvm.ClassFile.FieldType.array (Jvm.ClassFile.FieldType.object "java/lang/Object")))) ∈ lw_all := lw_g (lw_at lw_m2 160 rfl) rfl
theorem q474 : (Jvm.Cond.classLink "java/util/Arrays" (110 : Nat) "[Ljava/lang/Object;") ∈ lw_all := lw_g (lw_at lw_m2 161 rfl) rfl
theorem q475 : (Jvm.Cond.classLink "java/util/Arrays" (2 : Nat) "java/lang/Object") ∈ lw_all := lw_g (lw_at lw_m2 162 rfl) rfl
theorem q476 : (Jvm.Cond.methodLink "java/util/Arrays" (304 : Nat) ({ cls := "java/lang/Math", name := "min", desc := "(II)I" } : Jvm.MethodName)) ∈ lw_all := lw_g (lw_at lw_m2 163 rfl) rfl
theorem q479 : (Jvm.Cond.methodLink "java/util/Arrays" (150 : Nat) ({ cls := "java/lang/System", name := "arraycopy", desc := "(Ljava/lang/Object;ILjava/lang/Object;II)V" } : Jvm.MethodName)) ∈ lw_all := lw_g (lw_at lw_m2 166 rfl) rfl
/-! java/lang/IndexOutOfBoundsException -/
set_option maxRecDepth 100000
def RJ13 : String := "java/lang/IndexOutOfBoundsException"
def TJ13 : u_T := fun k => match k with
  | 0 => ("java/lang/Throwable", "cause", "Ljava/lang/Throwable;", false)
  | 1 => ("java/lang/Throwable", "stackTrace", "[Ljava/lang/StackTraceElement;", false)
  | 2 => ("java/lang/Throwable", "suppressedExceptions", "Ljava/util/List;", false)
  | 3 => ("java/lang/Throwable", "detailMessage", "Ljava/lang/String;", false)
  | 4 => ("java/lang/Throwable", "backtrace", "Ljava/lang/Object;", false)
  | _ => ("java/lang/Throwable", "depth", "I", false)
def tyJ13 : Nat → FieldType := fun k => match k with
  | 0 => .object "java/lang/Throwable"
  | 1 => .array (.object "java/lang/StackTraceElement")
  | 2 => .object "java/util/List"
  | 3 => .object "java/lang/String"
  | 4 => .object "java/lang/Object"
  | _ => .int
abbrev wsJ130 : List Cond := u_ws RJ13 TJ13 6
theorem nmJ13 : ∀ a, a < 6 → ∀ b, b < 6 → a ≠ b → (TJ13 a).2.1 ≠ (TJ13 b).2.1 := by decide +kernel
theorem tyJ13_ok : ∀ k, k < 6 → parseFieldDescriptor (TJ13 k).2.2.1 = some (tyJ13 k) := by decide +kernel
abbrev cJ13_init : ByteArray := prog_28_method_2_code
def yJ13_init : MethodName := ⟨RJ13, "<init>", "(Ljava/lang/String;)V"⟩
def dkwJ13_init_0 : List UInt8 := [42, 43, 183, 0, 7, 177]
abbrev dktJ13_init_0 : List UInt8 := dkwJ13_init_0 ++ []
theorem dksJ13_init_0 : cJ13_init.data.toList.drop 0 = dktJ13_init_0 := by decide +kernel
theorem dJ13_init_0 : decode cJ13_init 0 = .ok (.aload_n 0, 1) := dk_42 (dk_at dksJ13_init_0 0 rfl rfl)
theorem dJ13_init_1 : decode cJ13_init 1 = .ok (.aload_n 1, 1) := dk_43 (dk_at dksJ13_init_0 1 rfl rfl)
theorem dJ13_init_2 : decode cJ13_init 2 = .ok (.invokespecial 7, 3) := dk_183 0 7 (dk_at dksJ13_init_0 2 rfl rfl)
theorem dJ13_init_5 : decode cJ13_init 5 = .ok (.return_, 1) := dk_177 (dk_at dksJ13_init_0 5 rfl rfl)
theorem q91 : (Jvm.Cond.initialized "java/lang/IndexOutOfBoundsException") ∈ lw_all := lw_g (lw_at lw_m1 18 rfl) rfl
theorem q327 : (Jvm.Cond.selects "java/lang/IndexOutOfBoundsException" ({ cls := "java/lang/Throwable", name := "fillInStackTrace", desc := "()Ljava/lang/Throwable;" } : Jvm.MethodName) ({ cls := "java/lang/Throwable", name := "fillInStackTrace", desc := "()Ljava/lang/Throwable;" } : Jvm.MethodName)) ∈ lw_all := lw_g (lw_at lw_m2 14 rfl) rfl
theorem q454 : (Jvm.Cond.selects "java/lang/IndexOutOfBoundsException" ({ cls := "java/lang/Object", name := "getClass", desc := "()Ljava/lang/Class;" } : Jvm.MethodName) ({ cls := "java/lang/Object", name := "getClass", desc := "()Ljava/lang/Class;" } : Jvm.MethodName)) ∈ lw_all := lw_g (lw_at lw_m2 141 rfl) rfl
theorem q1224 : (Jvm.Cond.selects "java/lang/IndexOutOfBoundsException" ({ cls := "java/lang/Object", name := "equals", desc := "(Ljava/lang/Object;)Z" } : Jvm.MethodName) ({ cls := "java/lang/Object", name := "equals", desc := "(Ljava/lang/Object;)Z" } : Jvm.MethodName)) ∈ lw_all := lw_g (lw_at lw_m5 191 rfl) rfl
theorem q1682 : (Jvm.Cond.instanceMethod ({ cls := "java/lang/IndexOutOfBoundsException", name := "<init>", desc := "(Ljava/lang/String;)V" } : Jvm.MethodName)) ∈ lw_all := lw_g (lw_at lw_m7 169 rfl) rfl
theorem q1683 : (Jvm.Cond.code ({ cls := "java/lang/IndexOutOfBoundsException", name := "<init>", desc := "(Ljava/lang/String;)V" } : Jvm.MethodName) prog_28_method_2_code (2 : Nat) (Option.none : Option Jvm.ClassFile.FieldType)) ∈ lw_all := lw_g (lw_at lw_m7 170 rfl) rfl
theorem q1684 : (Jvm.Cond.methodLink "java/lang/IndexOutOfBoundsException" (7 : Nat) ({ cls := "java/lang/RuntimeException", name := "<init>", desc := "(Ljava/lang/String;)V" } : Jvm.MethodName)) ∈ lw_all := lw_g (lw_at lw_m7 171 rfl) rfl
theorem q1693 : (Jvm.Cond.declares ({ cls := "java/lang/IndexOutOfBoundsException", name := "<init>", desc := "()V" } : Jvm.MethodName)) ∈ lw_tbl := lw_at lw_m7 180 rfl
theorem q1694 : (Jvm.Cond.declares ({ cls := "java/lang/IndexOutOfBoundsException", name := "<init>", desc := "(Ljava/lang/String;)V" } : Jvm.MethodName)) ∈ lw_tbl := lw_at lw_m7 181 rfl
theorem q1713 : (Jvm.Cond.instantiable "java/lang/IndexOutOfBoundsException" (6 : Nat)) ∈ lw_all := lw_g (lw_at lw_m7 200 rfl) rfl
theorem q1714 : (Jvm.Cond.castable "java/lang/IndexOutOfBoundsException" "java/lang/IndexOutOfBoundsException") ∈ lw_tbl := lw_at lw_m7 201 rfl
theorem q1715 : (Jvm.Cond.selects "java/lang/IndexOutOfBoundsException" ({ cls := "java/lang/Throwable", name := "fillInStackTrace", desc := "(I)Ljava/lang/Throwable;" } : Jvm.MethodName) ({ cls := "java/lang/Throwable", name := "fillInStackTrace", desc := "(I)Ljava/lang/Throwable;" } : Jvm.MethodName)) ∈ lw_all := lw_g (lw_at lw_m7 202 rfl) rfl
theorem q1716 : (Jvm.Cond.lays "java/lang/IndexOutOfBoundsException" "java/lang/Throwable" "cause" "Ljava/lang/Throwable;") ∈ lw_all := lw_g (lw_at lw_m7 203 rfl) rfl
theorem q1717 : (Jvm.Cond.lays "java/lang/IndexOutOfBoundsException" "java/lang/Throwable" "stackTrace" "[Ljava/lang/StackTraceElement;") ∈ lw_all := lw_g (lw_at lw_m7 204 rfl) rfl
theorem q1718 : (Jvm.Cond.lays "java/lang/IndexOutOfBoundsException" "java/lang/Throwable" "suppressedExceptions" "Ljava/util/List;") ∈ lw_all := lw_g (lw_at lw_m7 205 rfl) rfl
theorem q1719 : (Jvm.Cond.lays "java/lang/IndexOutOfBoundsException" "java/lang/Throwable" "detailMessage" "Ljava/lang/String;") ∈ lw_all := lw_g (lw_at lw_m7 206 rfl) rfl
theorem q1720 : (Jvm.Cond.lays "java/lang/IndexOutOfBoundsException" "java/lang/Throwable" "backtrace" "Ljava/lang/Object;") ∈ lw_all := lw_g (lw_at lw_m7 207 rfl) rfl
theorem q1723 : (Jvm.Cond.lays "java/lang/IndexOutOfBoundsException" "java/lang/Throwable" "depth" "I") ∈ lw_all := lw_g (lw_at lw_m7 210 rfl) rfl
theorem q1724 : (Jvm.Cond.superclass "java/lang/IndexOutOfBoundsException" "java/lang/RuntimeException") ∈ lw_all := lw_g (lw_at lw_m7 211 rfl) rfl
theorem q2934 : (Jvm.Cond.castable "java/lang/IndexOutOfBoundsException" "java/lang/Object") ∈ lw_tbl := lw_at lw_m12 221 rfl
theorem in_J13 : ∀ w ∈ wsJ130, w ∈ lw_all := lw_in wsJ130 [1716, 1717, 1718, 1719, 1720, 1723] (by decide +kernel) (by decide +kernel)
/-! java/util/Objects -/
set_option maxRecDepth 100000
def RJ16 : String := "java/util/Objects"
abbrev cJ16_checkIndex : ByteArray := prog_61_method_17_code
def yJ16_checkIndex : MethodName := ⟨RJ16, "checkIndex", "(II)I"⟩
def dkwJ16_checkIndex_0 : List UInt8 := [26, 27, 1, 184, 0, 105, 172]
abbrev dktJ16_checkIndex_0 : List UInt8 := dkwJ16_checkIndex_0 ++ []
theorem dksJ16_checkIndex_0 : cJ16_checkIndex.data.toList.drop 0 = dktJ16_checkIndex_0 := by decide +kernel
theorem dJ16_checkIndex_0 : decode cJ16_checkIndex 0 = .ok (.iload_n 0, 1) := dk_26 (dk_at dksJ16_checkIndex_0 0 rfl rfl)
theorem dJ16_checkIndex_1 : decode cJ16_checkIndex 1 = .ok (.iload_n 1, 1) := dk_27 (dk_at dksJ16_checkIndex_0 1 rfl rfl)
theorem dJ16_checkIndex_2 : decode cJ16_checkIndex 2 = .ok (.aconst_null, 1) := dk_1 (dk_at dksJ16_checkIndex_0 2 rfl rfl)
theorem dJ16_checkIndex_3 : decode cJ16_checkIndex 3 = .ok (.invokestatic 105, 3) := dk_184 0 105 (dk_at dksJ16_checkIndex_0 3 rfl rfl)
theorem dJ16_checkIndex_6 : decode cJ16_checkIndex 6 = .ok (.ireturn, 1) := dk_172 (dk_at dksJ16_checkIndex_0 6 rfl rfl)
abbrev cJ16_requireNonNull : ByteArray := prog_61_method_10_code
def yJ16_requireNonNull : MethodName := ⟨RJ16, "requireNonNull", "(Ljava/lang/Object;)Ljava/lang/Object;"⟩
def dkwJ16_requireNonNull_0 : List UInt8 := [42, 199, 0, 11, 187, 0, 84, 89, 183, 0, 86, 191, 42, 176]
abbrev dktJ16_requireNonNull_0 : List UInt8 := dkwJ16_requireNonNull_0 ++ []
theorem dksJ16_requireNonNull_0 : cJ16_requireNonNull.data.toList.drop 0 = dktJ16_requireNonNull_0 := by decide +kernel
theorem dJ16_requireNonNull_0 : decode cJ16_requireNonNull 0 = .ok (.aload_n 0, 1) := dk_42 (dk_at dksJ16_requireNonNull_0 0 rfl rfl)
theorem dJ16_requireNonNull_1 : decode cJ16_requireNonNull 1 = .ok (.ifnonnull 11, 3) := dk_199 0 11 (dk_at dksJ16_requireNonNull_0 1 rfl rfl)
theorem dJ16_requireNonNull_4 : decode cJ16_requireNonNull 4 = .ok (.new 84, 3) := dk_187 0 84 (dk_at dksJ16_requireNonNull_0 4 rfl rfl)
theorem dJ16_requireNonNull_7 : decode cJ16_requireNonNull 7 = .ok (.dup, 1) := dk_89 (dk_at dksJ16_requireNonNull_0 7 rfl rfl)
theorem dJ16_requireNonNull_8 : decode cJ16_requireNonNull 8 = .ok (.invokespecial 86, 3) := dk_183 0 86 (dk_at dksJ16_requireNonNull_0 8 rfl rfl)
theorem dJ16_requireNonNull_11 : decode cJ16_requireNonNull 11 = .ok (.athrow, 1) := dk_191 (dk_at dksJ16_requireNonNull_0 11 rfl rfl)
theorem dJ16_requireNonNull_12 : decode cJ16_requireNonNull 12 = .ok (.aload_n 0, 1) := dk_42 (dk_at dksJ16_requireNonNull_0 12 rfl rfl)
theorem dJ16_requireNonNull_13 : decode cJ16_requireNonNull 13 = .ok (.areturn, 1) := dk_176 (dk_at dksJ16_requireNonNull_0 13 rfl rfl)
theorem q94 : (Jvm.Cond.initialized "java/util/Objects") ∈ lw_all := lw_g (lw_at lw_m1 21 rfl) rfl
theorem q384 : (Jvm.Cond.static ({ cls := "java/util/Objects", name := "checkIndex", desc := "(II)I" } : Jvm.MethodName)) ∈ lw_all := lw_g (lw_at lw_m2 71 rfl) rfl
theorem q385 : (Jvm.Cond.code ({ cls := "java/util/Objects", name := "checkIndex", desc := "(II)I" } : Jvm.MethodName) prog_61_method_17_code (2 : Nat) (Option.some Jvm.ClassFile.FieldType.int)) ∈ lw_all := lw_g (lw_at lw_m2 72 rfl) rfl
theorem q386 : (Jvm.Cond.methodLink "java/util/Objects" (105 : Nat) ({ cls := "jdk/internal/util/Preconditions", name := "checkIndex", desc := "(IILjava/util/function/BiFunction;)I" } : Jvm.MethodName)) ∈ lw_all := lw_g (lw_at lw_m2 73 rfl) rfl
theorem q1454 : (Jvm.Cond.static ({ cls := "java/util/Objects", name := "requireNonNull", desc := "(Ljava/lang/Object;)Ljava/lang/Object;" } : Jvm.MethodName)) ∈ lw_all := lw_g (lw_at lw_m6 181 rfl) rfl
theorem q1455 : (Jvm.Cond.code ({ cls := "java/util/Objects", name := "requireNonNull", desc := "(Ljava/lang/Object;)Ljava/lang/Object;" } : Jvm.MethodName) prog_61_method_10_code (1 : Nat) (Option.some (Jvm.ClassFile.FieldType.object "java/lang/Object"))) ∈ lw_all := lw_g (lw_at lw_m6 182 rfl) rfl
/-! jdk/internal/util/Preconditions -/
set_option maxRecDepth 100000
def RJ17 : String := "jdk/internal/util/Preconditions"
abbrev cJ17_checkIndex : ByteArray := prog_86_method_11_code
def yJ17_checkIndex : MethodName := ⟨RJ17, "checkIndex", "(IILjava/util/function/BiFunction;)I"⟩
def dkwJ17_checkIndex_0 : List UInt8 := [26, 155, 0, 8, 26, 27, 161, 0, 10, 44, 26, 27, 184, 0, 95, 191, 26, 172]
abbrev dktJ17_checkIndex_0 : List UInt8 := dkwJ17_checkIndex_0 ++ []
theorem dksJ17_checkIndex_0 : cJ17_checkIndex.data.toList.drop 0 = dktJ17_checkIndex_0 := by decide +kernel
theorem dJ17_checkIndex_0 : decode cJ17_checkIndex 0 = .ok (.iload_n 0, 1) := dk_26 (dk_at dksJ17_checkIndex_0 0 rfl rfl)
theorem dJ17_checkIndex_1 : decode cJ17_checkIndex 1 = .ok (.ifCond .lt 8, 3) := dk_155 0 8 (dk_at dksJ17_checkIndex_0 1 rfl rfl)
theorem dJ17_checkIndex_4 : decode cJ17_checkIndex 4 = .ok (.iload_n 0, 1) := dk_26 (dk_at dksJ17_checkIndex_0 4 rfl rfl)
theorem dJ17_checkIndex_5 : decode cJ17_checkIndex 5 = .ok (.iload_n 1, 1) := dk_27 (dk_at dksJ17_checkIndex_0 5 rfl rfl)
theorem dJ17_checkIndex_6 : decode cJ17_checkIndex 6 = .ok (.if_icmp .lt 10, 3) := dk_161 0 10 (dk_at dksJ17_checkIndex_0 6 rfl rfl)
theorem dJ17_checkIndex_9 : decode cJ17_checkIndex 9 = .ok (.aload_n 2, 1) := dk_44 (dk_at dksJ17_checkIndex_0 9 rfl rfl)
theorem dJ17_checkIndex_10 : decode cJ17_checkIndex 10 = .ok (.iload_n 0, 1) := dk_26 (dk_at dksJ17_checkIndex_0 10 rfl rfl)
theorem dJ17_checkIndex_11 : decode cJ17_checkIndex 11 = .ok (.iload_n 1, 1) := dk_27 (dk_at dksJ17_checkIndex_0 11 rfl rfl)
theorem dJ17_checkIndex_12 : decode cJ17_checkIndex 12 = .ok (.invokestatic 95, 3) := dk_184 0 95 (dk_at dksJ17_checkIndex_0 12 rfl rfl)
theorem dJ17_checkIndex_15 : decode cJ17_checkIndex 15 = .ok (.athrow, 1) := dk_191 (dk_at dksJ17_checkIndex_0 15 rfl rfl)
theorem dJ17_checkIndex_16 : decode cJ17_checkIndex 16 = .ok (.iload_n 0, 1) := dk_26 (dk_at dksJ17_checkIndex_0 16 rfl rfl)
theorem dJ17_checkIndex_17 : decode cJ17_checkIndex 17 = .ok (.ireturn, 1) := dk_172 (dk_at dksJ17_checkIndex_0 17 rfl rfl)
theorem q95 : (Jvm.Cond.initialized "jdk/internal/util/Preconditions") ∈ lw_all := lw_g (lw_at lw_m1 22 rfl) rfl
theorem q387 : (Jvm.Cond.static ({ cls := "jdk/internal/util/Preconditions", name := "checkIndex", desc := "(IILjava/util/function/BiFunction;)I" } : Jvm.MethodName)) ∈ lw_all := lw_g (lw_at lw_m2 74 rfl) rfl
theorem q388 : (Jvm.Cond.code ({ cls := "jdk/internal/util/Preconditions", name := "checkIndex", desc := "(IILjava/util/function/BiFunction;)I" } : Jvm.MethodName) prog_86_method_11_code (3 : Nat) (Option.some Jvm.ClassFile.FieldType.int)) ∈ lw_all := lw_g (lw_at lw_m2 75 rfl) rfl
/-! java/lang/Number -/
set_option maxRecDepth 100000
def RJ18 : String := "java/lang/Number"
abbrev cJ18_init : ByteArray := prog_34_method_1_code
def yJ18_init : MethodName := ⟨RJ18, "<init>", "()V"⟩
theorem dJ18_init_0 : decode cJ18_init 0 = .ok (.aload_n 0, 1) := by decide +kernel
theorem dJ18_init_1 : decode cJ18_init 1 = .ok (.invokespecial 1, 3) := by decide +kernel
theorem dJ18_init_4 : decode cJ18_init 4 = .ok (.return_, 1) := by decide +kernel
theorem q96 : (Jvm.Cond.initialized "java/lang/Number") ∈ lw_all := lw_g (lw_at lw_m1 23 rfl) rfl
theorem q2071 : (Jvm.Cond.instanceMethod ({ cls := "java/lang/Number", name := "<init>", desc := "()V" } : Jvm.MethodName)) ∈ lw_all := lw_g (lw_at lw_m9 78 rfl) rfl
theorem q2072 : (Jvm.Cond.code ({ cls := "java/lang/Number", name := "<init>", desc := "()V" } : Jvm.MethodName) prog_34_method_1_code (1 : Nat) (Option.none : Option Jvm.ClassFile.FieldType)) ∈ lw_all := lw_g (lw_at lw_m9 79 rfl) rfl
theorem q2073 : (Jvm.Cond.methodLink "java/lang/Number" (1 : Nat) ({ cls := "java/lang/Object", name := "<init>", desc := "()V" } : Jvm.MethodName)) ∈ lw_all := lw_g (lw_at lw_m9 80 rfl) rfl
/-! java/lang/Integer -/
set_option maxRecDepth 100000
def RJ19 : String := "java/lang/Integer"
def TJ19 : u_T := fun k => match k with
  | _ => ("java/lang/Integer", "value", "I", true)
def tyJ19 : Nat → FieldType := fun k => match k with
  | _ => .int
abbrev wsJ190 : List Cond := u_ws RJ19 TJ19 1
theorem nmJ19 : ∀ a, a < 1 → ∀ b, b < 1 → a ≠ b → (TJ19 a).2.1 ≠ (TJ19 b).2.1 := by decide +kernel
theorem tyJ19_ok : ∀ k, k < 1 → parseFieldDescriptor (TJ19 k).2.2.1 = some (tyJ19 k) := by decide +kernel
abbrev cJ19_bitCount : ByteArray := prog_29_method_49_code
def yJ19_bitCount : MethodName := ⟨RJ19, "bitCount", "(I)I"⟩
def dkwJ19_bitCount_2 : List UInt8 := [26, 16, 63, 126, 172]
abbrev dktJ19_bitCount_2 : List UInt8 := dkwJ19_bitCount_2 ++ []
def dkwJ19_bitCount_1 : List UInt8 := [26, 26, 7, 124, 96, 19, 1, 11, 126, 59, 26, 26, 16, 8, 124, 96, 59, 26, 26, 16, 16, 124, 96, 59]
abbrev dktJ19_bitCount_1 : List UInt8 := dkwJ19_bitCount_1 ++ dktJ19_bitCount_2
def dkwJ19_bitCount_0 : List UInt8 := [26, 26, 4, 124, 19, 1, 9, 126, 100, 59, 26, 19, 1, 10, 126, 26, 5, 124, 19, 1, 10, 126, 96, 59]
abbrev dktJ19_bitCount_0 : List UInt8 := dkwJ19_bitCount_0 ++ dktJ19_bitCount_1
theorem dksJ19_bitCount_0 : cJ19_bitCount.data.toList.drop 0 = dktJ19_bitCount_0 := by decide +kernel
theorem dksJ19_bitCount_1 : cJ19_bitCount.data.toList.drop 24 = dktJ19_bitCount_1 := dk_seg dksJ19_bitCount_0 24 rfl rfl
theorem dksJ19_bitCount_2 : cJ19_bitCount.data.toList.drop 48 = dktJ19_bitCount_2 := dk_seg dksJ19_bitCount_1 24 rfl rfl
theorem dJ19_bitCount_0 : decode cJ19_bitCount 0 = .ok (.iload_n 0, 1) := dk_26 (dk_at dksJ19_bitCount_0 0 rfl rfl)
theorem dJ19_bitCount_1 : decode cJ19_bitCount 1 = .ok (.iload_n 0, 1) := dk_26 (dk_at dksJ19_bitCount_0 1 rfl rfl)
theorem dJ19_bitCount_2 : decode cJ19_bitCount 2 = .ok (.iconst 1, 1) := dk_4 (dk_at dksJ19_bitCount_0 2 rfl rfl)
theorem dJ19_bitCount_3 : decode cJ19_bitCount 3 = .ok (.iushr, 1) := dk_124 (dk_at dksJ19_bitCount_0 3 rfl rfl)
theorem dJ19_bitCount_4 : decode cJ19_bitCount 4 = .ok (.ldc_w 265, 3) := dk_19 1 9 (dk_at dksJ19_bitCount_0 4 rfl rfl)
theorem dJ19_bitCount_7 : decode cJ19_bitCount 7 = .ok (.iand, 1) := dk_126 (dk_at dksJ19_bitCount_0 7 rfl rfl)
theorem dJ19_bitCount_8 : decode cJ19_bitCount 8 = .ok (.isub, 1) := dk_100 (dk_at dksJ19_bitCount_0 8 rfl rfl)
theorem dJ19_bitCount_9 : decode cJ19_bitCount 9 = .ok (.istore_n 0, 1) := dk_59 (dk_at dksJ19_bitCount_0 9 rfl rfl)
theorem dJ19_bitCount_10 : decode cJ19_bitCount 10 = .ok (.iload_n 0, 1) := dk_26 (dk_at dksJ19_bitCount_0 10 rfl rfl)
theorem dJ19_bitCount_11 : decode cJ19_bitCount 11 = .ok (.ldc_w 266, 3) := dk_19 1 10 (dk_at dksJ19_bitCount_0 11 rfl rfl)
theorem dJ19_bitCount_14 : decode cJ19_bitCount 14 = .ok (.iand, 1) := dk_126 (dk_at dksJ19_bitCount_0 14 rfl rfl)
theorem dJ19_bitCount_15 : decode cJ19_bitCount 15 = .ok (.iload_n 0, 1) := dk_26 (dk_at dksJ19_bitCount_0 15 rfl rfl)
theorem dJ19_bitCount_16 : decode cJ19_bitCount 16 = .ok (.iconst 2, 1) := dk_5 (dk_at dksJ19_bitCount_0 16 rfl rfl)
theorem dJ19_bitCount_17 : decode cJ19_bitCount 17 = .ok (.iushr, 1) := dk_124 (dk_at dksJ19_bitCount_0 17 rfl rfl)
theorem dJ19_bitCount_18 : decode cJ19_bitCount 18 = .ok (.ldc_w 266, 3) := dk_19 1 10 (dk_at dksJ19_bitCount_0 18 rfl rfl)
theorem dJ19_bitCount_21 : decode cJ19_bitCount 21 = .ok (.iand, 1) := dk_126 (dk_at dksJ19_bitCount_0 21 rfl rfl)
theorem dJ19_bitCount_22 : decode cJ19_bitCount 22 = .ok (.iadd, 1) := dk_96 (dk_at dksJ19_bitCount_0 22 rfl rfl)
theorem dJ19_bitCount_23 : decode cJ19_bitCount 23 = .ok (.istore_n 0, 1) := dk_59 (dk_at dksJ19_bitCount_0 23 rfl rfl)
theorem dJ19_bitCount_24 : decode cJ19_bitCount 24 = .ok (.iload_n 0, 1) := dk_26 (dk_at dksJ19_bitCount_1 0 rfl rfl)
theorem dJ19_bitCount_25 : decode cJ19_bitCount 25 = .ok (.iload_n 0, 1) := dk_26 (dk_at dksJ19_bitCount_1 1 rfl rfl)
theorem dJ19_bitCount_26 : decode cJ19_bitCount 26 = .ok (.iconst 4, 1) := dk_7 (dk_at dksJ19_bitCount_1 2 rfl rfl)
theorem dJ19_bitCount_27 : decode cJ19_bitCount 27 = .ok (.iushr, 1) := dk_124 (dk_at dksJ19_bitCount_1 3 rfl rfl)
theorem dJ19_bitCount_28 : decode cJ19_bitCount 28 = .ok (.iadd, 1) := dk_96 (dk_at dksJ19_bitCount_1 4 rfl rfl)
theorem dJ19_bitCount_29 : decode cJ19_bitCount 29 = .ok (.ldc_w 267, 3) := dk_19 1 11 (dk_at dksJ19_bitCount_1 5 rfl rfl)
theorem dJ19_bitCount_32 : decode cJ19_bitCount 32 = .ok (.iand, 1) := dk_126 (dk_at dksJ19_bitCount_1 8 rfl rfl)
theorem dJ19_bitCount_33 : decode cJ19_bitCount 33 = .ok (.istore_n 0, 1) := dk_59 (dk_at dksJ19_bitCount_1 9 rfl rfl)
theorem dJ19_bitCount_34 : decode cJ19_bitCount 34 = .ok (.iload_n 0, 1) := dk_26 (dk_at dksJ19_bitCount_1 10 rfl rfl)
theorem dJ19_bitCount_35 : decode cJ19_bitCount 35 = .ok (.iload_n 0, 1) := dk_26 (dk_at dksJ19_bitCount_1 11 rfl rfl)
theorem dJ19_bitCount_36 : decode cJ19_bitCount 36 = .ok (.bipush 8, 2) := dk_16 8 (dk_at dksJ19_bitCount_1 12 rfl rfl)
theorem dJ19_bitCount_38 : decode cJ19_bitCount 38 = .ok (.iushr, 1) := dk_124 (dk_at dksJ19_bitCount_1 14 rfl rfl)
theorem dJ19_bitCount_39 : decode cJ19_bitCount 39 = .ok (.iadd, 1) := dk_96 (dk_at dksJ19_bitCount_1 15 rfl rfl)
theorem dJ19_bitCount_40 : decode cJ19_bitCount 40 = .ok (.istore_n 0, 1) := dk_59 (dk_at dksJ19_bitCount_1 16 rfl rfl)
theorem dJ19_bitCount_41 : decode cJ19_bitCount 41 = .ok (.iload_n 0, 1) := dk_26 (dk_at dksJ19_bitCount_1 17 rfl rfl)
theorem dJ19_bitCount_42 : decode cJ19_bitCount 42 = .ok (.iload_n 0, 1) := dk_26 (dk_at dksJ19_bitCount_1 18 rfl rfl)
theorem dJ19_bitCount_43 : decode cJ19_bitCount 43 = .ok (.bipush 16, 2) := dk_16 16 (dk_at dksJ19_bitCount_1 19 rfl rfl)
theorem dJ19_bitCount_45 : decode cJ19_bitCount 45 = .ok (.iushr, 1) := dk_124 (dk_at dksJ19_bitCount_1 21 rfl rfl)
theorem dJ19_bitCount_46 : decode cJ19_bitCount 46 = .ok (.iadd, 1) := dk_96 (dk_at dksJ19_bitCount_1 22 rfl rfl)
theorem dJ19_bitCount_47 : decode cJ19_bitCount 47 = .ok (.istore_n 0, 1) := dk_59 (dk_at dksJ19_bitCount_1 23 rfl rfl)
theorem dJ19_bitCount_48 : decode cJ19_bitCount 48 = .ok (.iload_n 0, 1) := dk_26 (dk_at dksJ19_bitCount_2 0 rfl rfl)
theorem dJ19_bitCount_49 : decode cJ19_bitCount 49 = .ok (.bipush 63, 2) := dk_16 63 (dk_at dksJ19_bitCount_2 1 rfl rfl)
theorem dJ19_bitCount_51 : decode cJ19_bitCount 51 = .ok (.iand, 1) := dk_126 (dk_at dksJ19_bitCount_2 3 rfl rfl)
theorem dJ19_bitCount_52 : decode cJ19_bitCount 52 = .ok (.ireturn, 1) := dk_172 (dk_at dksJ19_bitCount_2 4 rfl rfl)
abbrev cJ19_compare : ByteArray := prog_29_method_40_code
def yJ19_compare : MethodName := ⟨RJ19, "compare", "(II)I"⟩
def dkwJ19_compare_0 : List UInt8 := [26, 27, 162, 0, 7, 2, 167, 0, 13, 26, 27, 160, 0, 7, 3, 167, 0, 4, 4, 172]
abbrev dktJ19_compare_0 : List UInt8 := dkwJ19_compare_0 ++ []
theorem dksJ19_compare_0 : cJ19_compare.data.toList.drop 0 = dktJ19_compare_0 := by decide +kernel
theorem dJ19_compare_0 : decode cJ19_compare 0 = .ok (.iload_n 0, 1) := dk_26 (dk_at dksJ19_compare_0 0 rfl rfl)
theorem dJ19_compare_1 : decode cJ19_compare 1 = .ok (.iload_n 1, 1) := dk_27 (dk_at dksJ19_compare_0 1 rfl rfl)
theorem dJ19_compare_2 : decode cJ19_compare 2 = .ok (.if_icmp .ge 7, 3) := dk_162 0 7 (dk_at dksJ19_compare_0 2 rfl rfl)
theorem dJ19_compare_5 : decode cJ19_compare 5 = .ok (.iconst (-1), 1) := dk_2 (dk_at dksJ19_compare_0 5 rfl rfl)
theorem dJ19_compare_6 : decode cJ19_compare 6 = .ok (.goto 13, 3) := dk_167 0 13 (dk_at dksJ19_compare_0 6 rfl rfl)
theorem dJ19_compare_9 : decode cJ19_compare 9 = .ok (.iload_n 0, 1) := dk_26 (dk_at dksJ19_compare_0 9 rfl rfl)
theorem dJ19_compare_10 : decode cJ19_compare 10 = .ok (.iload_n 1, 1) := dk_27 (dk_at dksJ19_compare_0 10 rfl rfl)
theorem dJ19_compare_11 : decode cJ19_compare 11 = .ok (.if_icmp .ne 7, 3) := dk_160 0 7 (dk_at dksJ19_compare_0 11 rfl rfl)
theorem dJ19_compare_14 : decode cJ19_compare 14 = .ok (.iconst 0, 1) := dk_3 (dk_at dksJ19_compare_0 14 rfl rfl)
theorem dJ19_compare_15 : decode cJ19_compare 15 = .ok (.goto 4, 3) := dk_167 0 4 (dk_at dksJ19_compare_0 15 rfl rfl)
theorem dJ19_compare_18 : decode cJ19_compare 18 = .ok (.iconst 1, 1) := dk_4 (dk_at dksJ19_compare_0 18 rfl rfl)
theorem dJ19_compare_19 : decode cJ19_compare 19 = .ok (.ireturn, 1) := dk_172 (dk_at dksJ19_compare_0 19 rfl rfl)
abbrev cJ19_compareTo : ByteArray := prog_29_method_63_code
def yJ19_compareTo : MethodName := ⟨RJ19, "compareTo", "(Ljava/lang/Object;)I"⟩
def dkwJ19_compareTo_0 : List UInt8 := [42, 43, 192, 0, 1, 182, 1, 28, 172]
abbrev dktJ19_compareTo_0 : List UInt8 := dkwJ19_compareTo_0 ++ []
theorem dksJ19_compareTo_0 : cJ19_compareTo.data.toList.drop 0 = dktJ19_compareTo_0 := by decide +kernel
theorem dJ19_compareTo_0 : decode cJ19_compareTo 0 = .ok (.aload_n 0, 1) := dk_42 (dk_at dksJ19_compareTo_0 0 rfl rfl)
theorem dJ19_compareTo_1 : decode cJ19_compareTo 1 = .ok (.aload_n 1, 1) := dk_43 (dk_at dksJ19_compareTo_0 1 rfl rfl)
theorem dJ19_compareTo_2 : decode cJ19_compareTo 2 = .ok (.checkcast 1, 3) := dk_192 0 1 (dk_at dksJ19_compareTo_0 2 rfl rfl)
theorem dJ19_compareTo_5 : decode cJ19_compareTo 5 = .ok (.invokevirtual 284, 3) := dk_182 1 28 (dk_at dksJ19_compareTo_0 5 rfl rfl)
theorem dJ19_compareTo_8 : decode cJ19_compareTo 8 = .ok (.ireturn, 1) := dk_172 (dk_at dksJ19_compareTo_0 8 rfl rfl)
abbrev cJ19_compareTo_2 : ByteArray := prog_29_method_39_code
def yJ19_compareTo_2 : MethodName := ⟨RJ19, "compareTo", "(Ljava/lang/Integer;)I"⟩
def dkwJ19_compareTo_2_0 : List UInt8 := [42, 180, 0, 205, 43, 180, 0, 205, 184, 1, 3, 172]
abbrev dktJ19_compareTo_2_0 : List UInt8 := dkwJ19_compareTo_2_0 ++ []
theorem dksJ19_compareTo_2_0 : cJ19_compareTo_2.data.toList.drop 0 = dktJ19_compareTo_2_0 := by decide +kernel
theorem dJ19_compareTo_2_0 : decode cJ19_compareTo_2 0 = .ok (.aload_n 0, 1) := dk_42 (dk_at dksJ19_compareTo_2_0 0 rfl rfl)
theorem dJ19_compareTo_2_1 : decode cJ19_compareTo_2 1 = .ok (.getfield 205, 3) := dk_180 0 205 (dk_at dksJ19_compareTo_2_0 1 rfl rfl)
theorem dJ19_compareTo_2_4 : decode cJ19_compareTo_2 4 = .ok (.aload_n 1, 1) := dk_43 (dk_at dksJ19_compareTo_2_0 4 rfl rfl)
theorem dJ19_compareTo_2_5 : decode cJ19_compareTo_2 5 = .ok (.getfield 205, 3) := dk_180 0 205 (dk_at dksJ19_compareTo_2_0 5 rfl rfl)
theorem dJ19_compareTo_2_8 : decode cJ19_compareTo_2 8 = .ok (.invokestatic 259, 3) := dk_184 1 3 (dk_at dksJ19_compareTo_2_0 8 rfl rfl)
theorem dJ19_compareTo_2_11 : decode cJ19_compareTo_2 11 = .ok (.ireturn, 1) := dk_172 (dk_at dksJ19_compareTo_2_0 11 rfl rfl)
abbrev cJ19_numberOfLeadingZeros : ByteArray := prog_29_method_47_code
def yJ19_numberOfLeadingZeros : MethodName := ⟨RJ19, "numberOfLeadingZeros", "(I)I"⟩
def dkwJ19_numberOfLeadingZeros_3 : List UInt8 := [5, 124, 59, 27, 26, 4, 124, 100, 172]
abbrev dktJ19_numberOfLeadingZeros_3 : List UInt8 := dkwJ19_numberOfLeadingZeros_3 ++ []
def dkwJ19_numberOfLeadingZeros_2 : List UInt8 := [124, 59, 26, 16, 16, 161, 0, 10, 132, 1, 252, 26, 7, 124, 59, 26, 7, 161, 0, 10, 132, 1, 254, 26]
abbrev dktJ19_numberOfLeadingZeros_2 : List UInt8 := dkwJ19_numberOfLeadingZeros_2 ++ dktJ19_numberOfLeadingZeros_3
def dkwJ19_numberOfLeadingZeros_1 : List UInt8 := [161, 0, 11, 132, 1, 240, 26, 16, 16, 124, 59, 26, 17, 1, 0, 161, 0, 11, 132, 1, 248, 26, 16, 8]
abbrev dktJ19_numberOfLeadingZeros_1 : List UInt8 := dkwJ19_numberOfLeadingZeros_1 ++ dktJ19_numberOfLeadingZeros_2
def dkwJ19_numberOfLeadingZeros_0 : List UInt8 := [26, 157, 0, 14, 26, 154, 0, 8, 16, 32, 167, 0, 4, 3, 172, 16, 31, 60, 26, 19, 1, 8]
abbrev dktJ19_numberOfLeadingZeros_0 : List UInt8 := dkwJ19_numberOfLeadingZeros_0 ++ dktJ19_numberOfLeadingZeros_1
theorem dksJ19_numberOfLeadingZeros_0 : cJ19_numberOfLeadingZeros.data.toList.drop 0 = dktJ19_numberOfLeadingZeros_0 := by decide +kernel
theorem dksJ19_numberOfLeadingZeros_1 : cJ19_numberOfLeadingZeros.data.toList.drop 22 = dktJ19_numberOfLeadingZeros_1 := dk_seg dksJ19_numberOfLeadingZeros_0 22 rfl rfl
theorem dksJ19_numberOfLeadingZeros_2 : cJ19_numberOfLeadingZeros.data.toList.drop 46 = dktJ19_numberOfLeadingZeros_2 := dk_seg dksJ19_numberOfLeadingZeros_1 24 rfl rfl
theorem dksJ19_numberOfLeadingZeros_3 : cJ19_numberOfLeadingZeros.data.toList.drop 70 = dktJ19_numberOfLeadingZeros_3 := dk_seg dksJ19_numberOfLeadingZeros_2 24 rfl rfl
theorem dJ19_numberOfLeadingZeros_0 : decode cJ19_numberOfLeadingZeros 0 = .ok (.iload_n 0, 1) := dk_26 (dk_at dksJ19_numberOfLeadingZeros_0 0 rfl rfl)
theorem dJ19_numberOfLeadingZeros_1 : decode cJ19_numberOfLeadingZeros 1 = .ok (.ifCond .gt 14, 3) := dk_157 0 14 (dk_at dksJ19_numberOfLeadingZeros_0 1 rfl rfl)
theorem dJ19_numberOfLeadingZeros_4 : decode cJ19_numberOfLeadingZeros 4 = .ok (.iload_n 0, 1) := dk_26 (dk_at dksJ19_numberOfLeadingZeros_0 4 rfl rfl)
theorem dJ19_numberOfLeadingZeros_5 : decode cJ19_numberOfLeadingZeros 5 = .ok (.ifCond .ne 8, 3) := dk_154 0 8 (dk_at dksJ19_numberOfLeadingZeros_0 5 rfl rfl)
theorem dJ19_numberOfLeadingZeros_8 : decode cJ19_numberOfLeadingZeros 8 = .ok (.bipush 32, 2) := dk_16 32 (dk_at dksJ19_numberOfLeadingZeros_0 8 rfl rfl)
theorem dJ19_numberOfLeadingZeros_10 : decode cJ19_numberOfLeadingZeros 10 = .ok (.goto 4, 3) := dk_167 0 4 (dk_at dksJ19_numberOfLeadingZeros_0 10 rfl rfl)
theorem dJ19_numberOfLeadingZeros_13 : decode cJ19_numberOfLeadingZeros 13 = .ok (.iconst 0, 1) := dk_3 (dk_at dksJ19_numberOfLeadingZeros_0 13 rfl rfl)
theorem dJ19_numberOfLeadingZeros_14 : decode cJ19_numberOfLeadingZeros 14 = .ok (.ireturn, 1) := dk_172 (dk_at dksJ19_numberOfLeadingZeros_0 14 rfl rfl)
theorem dJ19_numberOfLeadingZeros_15 : decode cJ19_numberOfLeadingZeros 15 = .ok (.bipush 31, 2) := dk_16 31 (dk_at dksJ19_numberOfLeadingZeros_0 15 rfl rfl)
theorem dJ19_numberOfLeadingZeros_17 : decode cJ19_numberOfLeadingZeros 17 = .ok (.istore_n 1, 1) := dk_60 (dk_at dksJ19_numberOfLeadingZeros_0 17 rfl rfl)
theorem dJ19_numberOfLeadingZeros_18 : decode cJ19_numberOfLeadingZeros 18 = .ok (.iload_n 0, 1) := dk_26 (dk_at dksJ19_numberOfLeadingZeros_0 18 rfl rfl)
theorem dJ19_numberOfLeadingZeros_19 : decode cJ19_numberOfLeadingZeros 19 = .ok (.ldc_w 264, 3) := dk_19 1 8 (dk_at dksJ19_numberOfLeadingZeros_0 19 rfl rfl)
theorem dJ19_numberOfLeadingZeros_22 : decode cJ19_numberOfLeadingZeros 22 = .ok (.if_icmp .lt 11, 3) := dk_161 0 11 (dk_at dksJ19_numberOfLeadingZeros_1 0 rfl rfl)
theorem dJ19_numberOfLeadingZeros_25 : decode cJ19_numberOfLeadingZeros 25 = .ok (.iinc 1 (-16), 3) := dk_132 1 240 (dk_at dksJ19_numberOfLeadingZeros_1 3 rfl rfl)
theorem dJ19_numberOfLeadingZeros_28 : decode cJ19_numberOfLeadingZeros 28 = .ok (.iload_n 0, 1) := dk_26 (dk_at dksJ19_numberOfLeadingZeros_1 6 rfl rfl)
theorem dJ19_numberOfLeadingZeros_29 : decode cJ19_numberOfLeadingZeros 29 = .ok (.bipush 16, 2) := dk_16 16 (dk_at dksJ19_numberOfLeadingZeros_1 7 rfl rfl)
theorem dJ19_numberOfLeadingZeros_31 : decode cJ19_numberOfLeadingZeros 31 = .ok (.iushr, 1) := dk_124 (dk_at dksJ19_numberOfLeadingZeros_1 9 rfl rfl)
theorem dJ19_numberOfLeadingZeros_32 : decode cJ19_numberOfLeadingZeros 32 = .ok (.istore_n 0, 1) := dk_59 (dk_at dksJ19_numberOfLeadingZeros_1 10 rfl rfl)
theorem dJ19_numberOfLeadingZeros_33 : decode cJ19_numberOfLeadingZeros 33 = .ok (.iload_n 0, 1) := dk_26 (dk_at dksJ19_numberOfLeadingZeros_1 11 rfl rfl)
theorem dJ19_numberOfLeadingZeros_34 : decode cJ19_numberOfLeadingZeros 34 = .ok (.sipush 256, 3) := dk_17 1 0 (dk_at dksJ19_numberOfLeadingZeros_1 12 rfl rfl)
theorem dJ19_numberOfLeadingZeros_37 : decode cJ19_numberOfLeadingZeros 37 = .ok (.if_icmp .lt 11, 3) := dk_161 0 11 (dk_at dksJ19_numberOfLeadingZeros_1 15 rfl rfl)
theorem dJ19_numberOfLeadingZeros_40 : decode cJ19_numberOfLeadingZeros 40 = .ok (.iinc 1 (-8), 3) := dk_132 1 248 (dk_at dksJ19_numberOfLeadingZeros_1 18 rfl rfl)
theorem dJ19_numberOfLeadingZeros_43 : decode cJ19_numberOfLeadingZeros 43 = .ok (.iload_n 0, 1) := dk_26 (dk_at dksJ19_numberOfLeadingZeros_1 21 rfl rfl)
theorem dJ19_numberOfLeadingZeros_44 : decode cJ19_numberOfLeadingZeros 44 = .ok (.bipush 8, 2) := dk_16 8 (dk_at dksJ19_numberOfLeadingZeros_1 22 rfl rfl)
theorem dJ19_numberOfLeadingZeros_46 : decode cJ19_numberOfLeadingZeros 46 = .ok (.iushr, 1) := dk_124 (dk_at dksJ19_numberOfLeadingZeros_2 0 rfl rfl)
theorem dJ19_numberOfLeadingZeros_47 : decode cJ19_numberOfLeadingZeros 47 = .ok (.istore_n 0, 1) := dk_59 (dk_at dksJ19_numberOfLeadingZeros_2 1 rfl rfl)
theorem dJ19_numberOfLeadingZeros_48 : decode cJ19_numberOfLeadingZeros 48 = .ok (.iload_n 0, 1) := dk_26 (dk_at dksJ19_numberOfLeadingZeros_2 2 rfl rfl)
theorem dJ19_numberOfLeadingZeros_49 : decode cJ19_numberOfLeadingZeros 49 = .ok (.bipush 16, 2) := dk_16 16 (dk_at dksJ19_numberOfLeadingZeros_2 3 rfl rfl)
theorem dJ19_numberOfLeadingZeros_51 : decode cJ19_numberOfLeadingZeros 51 = .ok (.if_icmp .lt 10, 3) := dk_161 0 10 (dk_at dksJ19_numberOfLeadingZeros_2 5 rfl rfl)
theorem dJ19_numberOfLeadingZeros_54 : decode cJ19_numberOfLeadingZeros 54 = .ok (.iinc 1 (-4), 3) := dk_132 1 252 (dk_at dksJ19_numberOfLeadingZeros_2 8 rfl rfl)
theorem dJ19_numberOfLeadingZeros_57 : decode cJ19_numberOfLeadingZeros 57 = .ok (.iload_n 0, 1) := dk_26 (dk_at dksJ19_numberOfLeadingZeros_2 11 rfl rfl)
theorem dJ19_numberOfLeadingZeros_58 : decode cJ19_numberOfLeadingZeros 58 = .ok (.iconst 4, 1) := dk_7 (dk_at dksJ19_numberOfLeadingZeros_2 12 rfl rfl)
theorem dJ19_numberOfLeadingZeros_59 : decode cJ19_numberOfLeadingZeros 59 = .ok (.iushr, 1) := dk_124 (dk_at dksJ19_numberOfLeadingZeros_2 13 rfl rfl)
theorem dJ19_numberOfLeadingZeros_60 : decode cJ19_numberOfLeadingZeros 60 = .ok (.istore_n 0, 1) := dk_59 (dk_at dksJ19_numberOfLeadingZeros_2 14 rfl rfl)
theorem dJ19_numberOfLeadingZeros_61 : decode cJ19_numberOfLeadingZeros 61 = .ok (.iload_n 0, 1) := dk_26 (dk_at dksJ19_numberOfLeadingZeros_2 15 rfl rfl)
theorem dJ19_numberOfLeadingZeros_62 : decode cJ19_numberOfLeadingZeros 62 = .ok (.iconst 4, 1) := dk_7 (dk_at dksJ19_numberOfLeadingZeros_2 16 rfl rfl)
theorem dJ19_numberOfLeadingZeros_63 : decode cJ19_numberOfLeadingZeros 63 = .ok (.if_icmp .lt 10, 3) := dk_161 0 10 (dk_at dksJ19_numberOfLeadingZeros_2 17 rfl rfl)
theorem dJ19_numberOfLeadingZeros_66 : decode cJ19_numberOfLeadingZeros 66 = .ok (.iinc 1 (-2), 3) := dk_132 1 254 (dk_at dksJ19_numberOfLeadingZeros_2 20 rfl rfl)
theorem dJ19_numberOfLeadingZeros_69 : decode cJ19_numberOfLeadingZeros 69 = .ok (.iload_n 0, 1) := dk_26 (dk_at dksJ19_numberOfLeadingZeros_2 23 rfl rfl)
theorem dJ19_numberOfLeadingZeros_70 : decode cJ19_numberOfLeadingZeros 70 = .ok (.iconst 2, 1) := dk_5 (dk_at dksJ19_numberOfLeadingZeros_3 0 rfl rfl)
theorem dJ19_numberOfLeadingZeros_71 : decode cJ19_numberOfLeadingZeros 71 = .ok (.iushr, 1) := dk_124 (dk_at dksJ19_numberOfLeadingZeros_3 1 rfl rfl)
theorem dJ19_numberOfLeadingZeros_72 : decode cJ19_numberOfLeadingZeros 72 = .ok (.istore_n 0, 1) := dk_59 (dk_at dksJ19_numberOfLeadingZeros_3 2 rfl rfl)
theorem dJ19_numberOfLeadingZeros_73 : decode cJ19_numberOfLeadingZeros 73 = .ok (.iload_n 1, 1) := dk_27 (dk_at dksJ19_numberOfLeadingZeros_3 3 rfl rfl)
theorem dJ19_numberOfLeadingZeros_74 : decode cJ19_numberOfLeadingZeros 74 = .ok (.iload_n 0, 1) := dk_26 (dk_at dksJ19_numberOfLeadingZeros_3 4 rfl rfl)
theorem dJ19_numberOfLeadingZeros_75 : decode cJ19_numberOfLeadingZeros 75 = .ok (.iconst 1, 1) := dk_4 (dk_at dksJ19_numberOfLeadingZeros_3 5 rfl rfl)
theorem dJ19_numberOfLeadingZeros_76 : decode cJ19_numberOfLeadingZeros 76 = .ok (.iushr, 1) := dk_124 (dk_at dksJ19_numberOfLeadingZeros_3 6 rfl rfl)
theorem dJ19_numberOfLeadingZeros_77 : decode cJ19_numberOfLeadingZeros 77 = .ok (.isub, 1) := dk_100 (dk_at dksJ19_numberOfLeadingZeros_3 7 rfl rfl)
theorem dJ19_numberOfLeadingZeros_78 : decode cJ19_numberOfLeadingZeros 78 = .ok (.ireturn, 1) := dk_172 (dk_at dksJ19_numberOfLeadingZeros_3 8 rfl rfl)
abbrev cJ19_numberOfTrailingZeros : ByteArray := prog_29_method_48_code
def yJ19_numberOfTrailingZeros : MethodName := ⟨RJ19, "numberOfTrailingZeros", "(I)I"⟩
def dkwJ19_numberOfTrailingZeros_3 : List UInt8 := [5, 124, 59, 27, 26, 4, 124, 96, 172]
abbrev dktJ19_numberOfTrailingZeros_3 : List UInt8 := dkwJ19_numberOfTrailingZeros_3 ++ []
def dkwJ19_numberOfTrailingZeros_2 : List UInt8 := [124, 59, 26, 16, 16, 164, 0, 10, 132, 1, 4, 26, 7, 124, 59, 26, 7, 164, 0, 10, 132, 1, 2, 26]
abbrev dktJ19_numberOfTrailingZeros_2 : List UInt8 := dkwJ19_numberOfTrailingZeros_2 ++ dktJ19_numberOfTrailingZeros_3
def dkwJ19_numberOfTrailingZeros_1 : List UInt8 := [164, 0, 11, 132, 1, 16, 26, 16, 16, 124, 59, 26, 17, 1, 0, 164, 0, 11, 132, 1, 8, 26, 16, 8]
abbrev dktJ19_numberOfTrailingZeros_1 : List UInt8 := dkwJ19_numberOfTrailingZeros_1 ++ dktJ19_numberOfTrailingZeros_2
def dkwJ19_numberOfTrailingZeros_0 : List UInt8 := [26, 2, 130, 26, 4, 100, 126, 59, 26, 157, 0, 8, 26, 16, 32, 126, 172, 4, 60, 26, 19, 1, 8]
abbrev dktJ19_numberOfTrailingZeros_0 : List UInt8 := dkwJ19_numberOfTrailingZeros_0 ++ dktJ19_numberOfTrailingZeros_1
theorem dksJ19_numberOfTrailingZeros_0 : cJ19_numberOfTrailingZeros.data.toList.drop 0 = dktJ19_numberOfTrailingZeros_0 := by decide +kernel
theorem dksJ19_numberOfTrailingZeros_1 : cJ19_numberOfTrailingZeros.data.toList.drop 23 = dktJ19_numberOfTrailingZeros_1 := dk_seg dksJ19_numberOfTrailingZeros_0 23 rfl rfl
theorem dksJ19_numberOfTrailingZeros_2 : cJ19_numberOfTrailingZeros.data.toList.drop 47 = dktJ19_numberOfTrailingZeros_2 := dk_seg dksJ19_numberOfTrailingZeros_1 24 rfl rfl
theorem dksJ19_numberOfTrailingZeros_3 : cJ19_numberOfTrailingZeros.data.toList.drop 71 = dktJ19_numberOfTrailingZeros_3 := dk_seg dksJ19_numberOfTrailingZeros_2 24 rfl rfl
theorem dJ19_numberOfTrailingZeros_0 : decode cJ19_numberOfTrailingZeros 0 = .ok (.iload_n 0, 1) := dk_26 (dk_at dksJ19_numberOfTrailingZeros_0 0 rfl rfl)
theorem dJ19_numberOfTrailingZeros_1 : decode cJ19_numberOfTrailingZeros 1 = .ok (.iconst (-1), 1) := dk_2 (dk_at dksJ19_numberOfTrailingZeros_0 1 rfl rfl)
theorem dJ19_numberOfTrailingZeros_2 : decode cJ19_numberOfTrailingZeros 2 = .ok (.ixor, 1) := dk_130 (dk_at dksJ19_numberOfTrailingZeros_0 2 rfl rfl)
theorem dJ19_numberOfTrailingZeros_3 : decode cJ19_numberOfTrailingZeros 3 = .ok (.iload_n 0, 1) := dk_26 (dk_at dksJ19_numberOfTrailingZeros_0 3 rfl rfl)
theorem dJ19_numberOfTrailingZeros_4 : decode cJ19_numberOfTrailingZeros 4 = .ok (.iconst 1, 1) := dk_4 (dk_at dksJ19_numberOfTrailingZeros_0 4 rfl rfl)
theorem dJ19_numberOfTrailingZeros_5 : decode cJ19_numberOfTrailingZeros 5 = .ok (.isub, 1) := dk_100 (dk_at dksJ19_numberOfTrailingZeros_0 5 rfl rfl)
theorem dJ19_numberOfTrailingZeros_6 : decode cJ19_numberOfTrailingZeros 6 = .ok (.iand, 1) := dk_126 (dk_at dksJ19_numberOfTrailingZeros_0 6 rfl rfl)
theorem dJ19_numberOfTrailingZeros_7 : decode cJ19_numberOfTrailingZeros 7 = .ok (.istore_n 0, 1) := dk_59 (dk_at dksJ19_numberOfTrailingZeros_0 7 rfl rfl)
theorem dJ19_numberOfTrailingZeros_8 : decode cJ19_numberOfTrailingZeros 8 = .ok (.iload_n 0, 1) := dk_26 (dk_at dksJ19_numberOfTrailingZeros_0 8 rfl rfl)
theorem dJ19_numberOfTrailingZeros_9 : decode cJ19_numberOfTrailingZeros 9 = .ok (.ifCond .gt 8, 3) := dk_157 0 8 (dk_at dksJ19_numberOfTrailingZeros_0 9 rfl rfl)
theorem dJ19_numberOfTrailingZeros_12 : decode cJ19_numberOfTrailingZeros 12 = .ok (.iload_n 0, 1) := dk_26 (dk_at dksJ19_numberOfTrailingZeros_0 12 rfl rfl)
theorem dJ19_numberOfTrailingZeros_13 : decode cJ19_numberOfTrailingZeros 13 = .ok (.bipush 32, 2) := dk_16 32 (dk_at dksJ19_numberOfTrailingZeros_0 13 rfl rfl)
theorem dJ19_numberOfTrailingZeros_15 : decode cJ19_numberOfTrailingZeros 15 = .ok (.iand, 1) := dk_126 (dk_at dksJ19_numberOfTrailingZeros_0 15 rfl rfl)
theorem dJ19_numberOfTrailingZeros_16 : decode cJ19_numberOfTrailingZeros 16 = .ok (.ireturn, 1) := dk_172 (dk_at dksJ19_numberOfTrailingZeros_0 16 rfl rfl)
theorem dJ19_numberOfTrailingZeros_17 : decode cJ19_numberOfTrailingZeros 17 = .ok (.iconst 1, 1) := dk_4 (dk_at dksJ19_numberOfTrailingZeros_0 17 rfl rfl)
theorem dJ19_numberOfTrailingZeros_18 : decode cJ19_numberOfTrailingZeros 18 = .ok (.istore_n 1, 1) := dk_60 (dk_at dksJ19_numberOfTrailingZeros_0 18 rfl rfl)
theorem dJ19_numberOfTrailingZeros_19 : decode cJ19_numberOfTrailingZeros 19 = .ok (.iload_n 0, 1) := dk_26 (dk_at dksJ19_numberOfTrailingZeros_0 19 rfl rfl)
theorem dJ19_numberOfTrailingZeros_20 : decode cJ19_numberOfTrailingZeros 20 = .ok (.ldc_w 264, 3) := dk_19 1 8 (dk_at dksJ19_numberOfTrailingZeros_0 20 rfl rfl)
theorem dJ19_numberOfTrailingZeros_23 : decode cJ19_numberOfTrailingZeros 23 = .ok (.if_icmp .le 11, 3) := dk_164 0 11 (dk_at dksJ19_numberOfTrailingZeros_1 0 rfl rfl)
theorem dJ19_numberOfTrailingZeros_26 : decode cJ19_numberOfTrailingZeros 26 = .ok (.iinc 1 16, 3) := dk_132 1 16 (dk_at dksJ19_numberOfTrailingZeros_1 3 rfl rfl)
theorem dJ19_numberOfTrailingZeros_29 : decode cJ19_numberOfTrailingZeros 29 = .ok (.iload_n 0, 1) := dk_26 (dk_at dksJ19_numberOfTrailingZeros_1 6 rfl rfl)
theorem dJ19_numberOfTrailingZeros_30 : decode cJ19_numberOfTrailingZeros 30 = .ok (.bipush 16, 2) := dk_16 16 (dk_at dksJ19_numberOfTrailingZeros_1 7 rfl rfl)
theorem dJ19_numberOfTrailingZeros_32 : decode cJ19_numberOfTrailingZeros 32 = .ok (.iushr, 1) := dk_124 (dk_at dksJ19_numberOfTrailingZeros_1 9 rfl rfl)
theorem dJ19_numberOfTrailingZeros_33 : decode cJ19_numberOfTrailingZeros 33 = .ok (.istore_n 0, 1) := dk_59 (dk_at dksJ19_numberOfTrailingZeros_1 10 rfl rfl)
theorem dJ19_numberOfTrailingZeros_34 : decode cJ19_numberOfTrailingZeros 34 = .ok (.iload_n 0, 1) := dk_26 (dk_at dksJ19_numberOfTrailingZeros_1 11 rfl rfl)
theorem dJ19_numberOfTrailingZeros_35 : decode cJ19_numberOfTrailingZeros 35 = .ok (.sipush 256, 3) := dk_17 1 0 (dk_at dksJ19_numberOfTrailingZeros_1 12 rfl rfl)
theorem dJ19_numberOfTrailingZeros_38 : decode cJ19_numberOfTrailingZeros 38 = .ok (.if_icmp .le 11, 3) := dk_164 0 11 (dk_at dksJ19_numberOfTrailingZeros_1 15 rfl rfl)
theorem dJ19_numberOfTrailingZeros_41 : decode cJ19_numberOfTrailingZeros 41 = .ok (.iinc 1 8, 3) := dk_132 1 8 (dk_at dksJ19_numberOfTrailingZeros_1 18 rfl rfl)
theorem dJ19_numberOfTrailingZeros_44 : decode cJ19_numberOfTrailingZeros 44 = .ok (.iload_n 0, 1) := dk_26 (dk_at dksJ19_numberOfTrailingZeros_1 21 rfl rfl)
theorem dJ19_numberOfTrailingZeros_45 : decode cJ19_numberOfTrailingZeros 45 = .ok (.bipush 8, 2) := dk_16 8 (dk_at dksJ19_numberOfTrailingZeros_1 22 rfl rfl)
theorem dJ19_numberOfTrailingZeros_47 : decode cJ19_numberOfTrailingZeros 47 = .ok (.iushr, 1) := dk_124 (dk_at dksJ19_numberOfTrailingZeros_2 0 rfl rfl)
theorem dJ19_numberOfTrailingZeros_48 : decode cJ19_numberOfTrailingZeros 48 = .ok (.istore_n 0, 1) := dk_59 (dk_at dksJ19_numberOfTrailingZeros_2 1 rfl rfl)
theorem dJ19_numberOfTrailingZeros_49 : decode cJ19_numberOfTrailingZeros 49 = .ok (.iload_n 0, 1) := dk_26 (dk_at dksJ19_numberOfTrailingZeros_2 2 rfl rfl)
theorem dJ19_numberOfTrailingZeros_50 : decode cJ19_numberOfTrailingZeros 50 = .ok (.bipush 16, 2) := dk_16 16 (dk_at dksJ19_numberOfTrailingZeros_2 3 rfl rfl)
theorem dJ19_numberOfTrailingZeros_52 : decode cJ19_numberOfTrailingZeros 52 = .ok (.if_icmp .le 10, 3) := dk_164 0 10 (dk_at dksJ19_numberOfTrailingZeros_2 5 rfl rfl)
theorem dJ19_numberOfTrailingZeros_55 : decode cJ19_numberOfTrailingZeros 55 = .ok (.iinc 1 4, 3) := dk_132 1 4 (dk_at dksJ19_numberOfTrailingZeros_2 8 rfl rfl)
theorem dJ19_numberOfTrailingZeros_58 : decode cJ19_numberOfTrailingZeros 58 = .ok (.iload_n 0, 1) := dk_26 (dk_at dksJ19_numberOfTrailingZeros_2 11 rfl rfl)
theorem dJ19_numberOfTrailingZeros_59 : decode cJ19_numberOfTrailingZeros 59 = .ok (.iconst 4, 1) := dk_7 (dk_at dksJ19_numberOfTrailingZeros_2 12 rfl rfl)
theorem dJ19_numberOfTrailingZeros_60 : decode cJ19_numberOfTrailingZeros 60 = .ok (.iushr, 1) := dk_124 (dk_at dksJ19_numberOfTrailingZeros_2 13 rfl rfl)
theorem dJ19_numberOfTrailingZeros_61 : decode cJ19_numberOfTrailingZeros 61 = .ok (.istore_n 0, 1) := dk_59 (dk_at dksJ19_numberOfTrailingZeros_2 14 rfl rfl)
theorem dJ19_numberOfTrailingZeros_62 : decode cJ19_numberOfTrailingZeros 62 = .ok (.iload_n 0, 1) := dk_26 (dk_at dksJ19_numberOfTrailingZeros_2 15 rfl rfl)
theorem dJ19_numberOfTrailingZeros_63 : decode cJ19_numberOfTrailingZeros 63 = .ok (.iconst 4, 1) := dk_7 (dk_at dksJ19_numberOfTrailingZeros_2 16 rfl rfl)
theorem dJ19_numberOfTrailingZeros_64 : decode cJ19_numberOfTrailingZeros 64 = .ok (.if_icmp .le 10, 3) := dk_164 0 10 (dk_at dksJ19_numberOfTrailingZeros_2 17 rfl rfl)
theorem dJ19_numberOfTrailingZeros_67 : decode cJ19_numberOfTrailingZeros 67 = .ok (.iinc 1 2, 3) := dk_132 1 2 (dk_at dksJ19_numberOfTrailingZeros_2 20 rfl rfl)
theorem dJ19_numberOfTrailingZeros_70 : decode cJ19_numberOfTrailingZeros 70 = .ok (.iload_n 0, 1) := dk_26 (dk_at dksJ19_numberOfTrailingZeros_2 23 rfl rfl)
theorem dJ19_numberOfTrailingZeros_71 : decode cJ19_numberOfTrailingZeros 71 = .ok (.iconst 2, 1) := dk_5 (dk_at dksJ19_numberOfTrailingZeros_3 0 rfl rfl)
theorem dJ19_numberOfTrailingZeros_72 : decode cJ19_numberOfTrailingZeros 72 = .ok (.iushr, 1) := dk_124 (dk_at dksJ19_numberOfTrailingZeros_3 1 rfl rfl)
theorem dJ19_numberOfTrailingZeros_73 : decode cJ19_numberOfTrailingZeros 73 = .ok (.istore_n 0, 1) := dk_59 (dk_at dksJ19_numberOfTrailingZeros_3 2 rfl rfl)
theorem dJ19_numberOfTrailingZeros_74 : decode cJ19_numberOfTrailingZeros 74 = .ok (.iload_n 1, 1) := dk_27 (dk_at dksJ19_numberOfTrailingZeros_3 3 rfl rfl)
theorem dJ19_numberOfTrailingZeros_75 : decode cJ19_numberOfTrailingZeros 75 = .ok (.iload_n 0, 1) := dk_26 (dk_at dksJ19_numberOfTrailingZeros_3 4 rfl rfl)
theorem dJ19_numberOfTrailingZeros_76 : decode cJ19_numberOfTrailingZeros 76 = .ok (.iconst 1, 1) := dk_4 (dk_at dksJ19_numberOfTrailingZeros_3 5 rfl rfl)
theorem dJ19_numberOfTrailingZeros_77 : decode cJ19_numberOfTrailingZeros 77 = .ok (.iushr, 1) := dk_124 (dk_at dksJ19_numberOfTrailingZeros_3 6 rfl rfl)
theorem dJ19_numberOfTrailingZeros_78 : decode cJ19_numberOfTrailingZeros 78 = .ok (.iadd, 1) := dk_96 (dk_at dksJ19_numberOfTrailingZeros_3 7 rfl rfl)
theorem dJ19_numberOfTrailingZeros_79 : decode cJ19_numberOfTrailingZeros 79 = .ok (.ireturn, 1) := dk_172 (dk_at dksJ19_numberOfTrailingZeros_3 8 rfl rfl)
abbrev cJ19_equals : ByteArray := prog_29_method_34_code
def yJ19_equals : MethodName := ⟨RJ19, "equals", "(Ljava/lang/Object;)Z"⟩
def dkwJ19_equals_1 : List UInt8 := [167, 0, 4, 3, 172, 3, 172]
abbrev dktJ19_equals_1 : List UInt8 := dkwJ19_equals_1 ++ []
def dkwJ19_equals_0 : List UInt8 := [43, 193, 0, 1, 153, 0, 23, 42, 180, 0, 205, 43, 192, 0, 1, 182, 0, 211, 160, 0, 7, 4]
abbrev dktJ19_equals_0 : List UInt8 := dkwJ19_equals_0 ++ dktJ19_equals_1
theorem dksJ19_equals_0 : cJ19_equals.data.toList.drop 0 = dktJ19_equals_0 := by decide +kernel
theorem dksJ19_equals_1 : cJ19_equals.data.toList.drop 22 = dktJ19_equals_1 := dk_seg dksJ19_equals_0 22 rfl rfl
theorem dJ19_equals_0 : decode cJ19_equals 0 = .ok (.aload_n 1, 1) := dk_43 (dk_at dksJ19_equals_0 0 rfl rfl)
theorem dJ19_equals_1 : decode cJ19_equals 1 = .ok (.instanceof 1, 3) := dk_193 0 1 (dk_at dksJ19_equals_0 1 rfl rfl)
theorem dJ19_equals_4 : decode cJ19_equals 4 = .ok (.ifCond .eq 23, 3) := dk_153 0 23 (dk_at dksJ19_equals_0 4 rfl rfl)
theorem dJ19_equals_7 : decode cJ19_equals 7 = .ok (.aload_n 0, 1) := dk_42 (dk_at dksJ19_equals_0 7 rfl rfl)
theorem dJ19_equals_8 : decode cJ19_equals 8 = .ok (.getfield 205, 3) := dk_180 0 205 (dk_at dksJ19_equals_0 8 rfl rfl)
theorem dJ19_equals_11 : decode cJ19_equals 11 = .ok (.aload_n 1, 1) := dk_43 (dk_at dksJ19_equals_0 11 rfl rfl)
theorem dJ19_equals_12 : decode cJ19_equals 12 = .ok (.checkcast 1, 3) := dk_192 0 1 (dk_at dksJ19_equals_0 12 rfl rfl)
theorem dJ19_equals_15 : decode cJ19_equals 15 = .ok (.invokevirtual 211, 3) := dk_182 0 211 (dk_at dksJ19_equals_0 15 rfl rfl)
theorem dJ19_equals_18 : decode cJ19_equals 18 = .ok (.if_icmp .ne 7, 3) := dk_160 0 7 (dk_at dksJ19_equals_0 18 rfl rfl)
theorem dJ19_equals_21 : decode cJ19_equals 21 = .ok (.iconst 1, 1) := dk_4 (dk_at dksJ19_equals_0 21 rfl rfl)
theorem dJ19_equals_22 : decode cJ19_equals 22 = .ok (.goto 4, 3) := dk_167 0 4 (dk_at dksJ19_equals_1 0 rfl rfl)
theorem dJ19_equals_25 : decode cJ19_equals 25 = .ok (.iconst 0, 1) := dk_3 (dk_at dksJ19_equals_1 3 rfl rfl)
theorem dJ19_equals_26 : decode cJ19_equals 26 = .ok (.ireturn, 1) := dk_172 (dk_at dksJ19_equals_1 4 rfl rfl)
theorem dJ19_equals_27 : decode cJ19_equals 27 = .ok (.iconst 0, 1) := dk_3 (dk_at dksJ19_equals_1 5 rfl rfl)
theorem dJ19_equals_28 : decode cJ19_equals 28 = .ok (.ireturn, 1) := dk_172 (dk_at dksJ19_equals_1 6 rfl rfl)
abbrev cJ19_intValue : ByteArray := prog_29_method_27_code
def yJ19_intValue : MethodName := ⟨RJ19, "intValue", "()I"⟩
theorem dJ19_intValue_0 : decode cJ19_intValue 0 = .ok (.aload_n 0, 1) := by decide +kernel
theorem dJ19_intValue_1 : decode cJ19_intValue 1 = .ok (.getfield 205, 3) := by decide +kernel
theorem dJ19_intValue_4 : decode cJ19_intValue 4 = .ok (.ireturn, 1) := by decide +kernel
abbrev cJ19_valueOf : ByteArray := prog_29_method_22_code
def yJ19_valueOf : MethodName := ⟨RJ19, "valueOf", "(I)Ljava/lang/Integer;"⟩
def dkwJ19_valueOf_1 : List UInt8 := [187, 0, 1, 89, 26, 183, 0, 199, 176]
abbrev dktJ19_valueOf_1 : List UInt8 := dkwJ19_valueOf_1 ++ []
def dkwJ19_valueOf_0 : List UInt8 := [26, 16, 128, 161, 0, 20, 26, 178, 0, 191, 163, 0, 13, 178, 0, 195, 26, 17, 0, 128, 96, 50, 176]
abbrev dktJ19_valueOf_0 : List UInt8 := dkwJ19_valueOf_0 ++ dktJ19_valueOf_1
theorem dksJ19_valueOf_0 : cJ19_valueOf.data.toList.drop 0 = dktJ19_valueOf_0 := by decide +kernel
theorem dksJ19_valueOf_1 : cJ19_valueOf.data.toList.drop 23 = dktJ19_valueOf_1 := dk_seg dksJ19_valueOf_0 23 rfl rfl
theorem dJ19_valueOf_0 : decode cJ19_valueOf 0 = .ok (.iload_n 0, 1) := dk_26 (dk_at dksJ19_valueOf_0 0 rfl rfl)
theorem dJ19_valueOf_1 : decode cJ19_valueOf 1 = .ok (.bipush (-128), 2) := dk_16 128 (dk_at dksJ19_valueOf_0 1 rfl rfl)
theorem dJ19_valueOf_3 : decode cJ19_valueOf 3 = .ok (.if_icmp .lt 20, 3) := dk_161 0 20 (dk_at dksJ19_valueOf_0 3 rfl rfl)
theorem dJ19_valueOf_6 : decode cJ19_valueOf 6 = .ok (.iload_n 0, 1) := dk_26 (dk_at dksJ19_valueOf_0 6 rfl rfl)
theorem dJ19_valueOf_7 : decode cJ19_valueOf 7 = .ok (.getstatic 191, 3) := dk_178 0 191 (dk_at dksJ19_valueOf_0 7 rfl rfl)
theorem dJ19_valueOf_10 : decode cJ19_valueOf 10 = .ok (.if_icmp .gt 13, 3) := dk_163 0 13 (dk_at dksJ19_valueOf_0 10 rfl rfl)
theorem dJ19_valueOf_13 : decode cJ19_valueOf 13 = .ok (.getstatic 195, 3) := dk_178 0 195 (dk_at dksJ19_valueOf_0 13 rfl rfl)
theorem dJ19_valueOf_16 : decode cJ19_valueOf 16 = .ok (.iload_n 0, 1) := dk_26 (dk_at dksJ19_valueOf_0 16 rfl rfl)
theorem dJ19_valueOf_17 : decode cJ19_valueOf 17 = .ok (.sipush 128, 3) := dk_17 0 128 (dk_at dksJ19_valueOf_0 17 rfl rfl)
theorem dJ19_valueOf_20 : decode cJ19_valueOf 20 = .ok (.iadd, 1) := dk_96 (dk_at dksJ19_valueOf_0 20 rfl rfl)
theorem dJ19_valueOf_21 : decode cJ19_valueOf 21 = .ok (.aaload, 1) := dk_50 (dk_at dksJ19_valueOf_0 21 rfl rfl)
theorem dJ19_valueOf_22 : decode cJ19_valueOf 22 = .ok (.areturn, 1) := dk_176 (dk_at dksJ19_valueOf_0 22 rfl rfl)
theorem dJ19_valueOf_23 : decode cJ19_valueOf 23 = .ok (.new 1, 3) := dk_187 0 1 (dk_at dksJ19_valueOf_1 0 rfl rfl)
theorem dJ19_valueOf_26 : decode cJ19_valueOf 26 = .ok (.dup, 1) := dk_89 (dk_at dksJ19_valueOf_1 3 rfl rfl)
theorem dJ19_valueOf_27 : decode cJ19_valueOf 27 = .ok (.iload_n 0, 1) := dk_26 (dk_at dksJ19_valueOf_1 4 rfl rfl)
theorem dJ19_valueOf_28 : decode cJ19_valueOf 28 = .ok (.invokespecial 199, 3) := dk_183 0 199 (dk_at dksJ19_valueOf_1 5 rfl rfl)
theorem dJ19_valueOf_31 : decode cJ19_valueOf 31 = .ok (.areturn, 1) := dk_176 (dk_at dksJ19_valueOf_1 8 rfl rfl)
abbrev cJ19_init : ByteArray := prog_29_method_23_code
def yJ19_init : MethodName := ⟨RJ19, "<init>", "(I)V"⟩
def dkwJ19_init_0 : List UInt8 := [42, 183, 0, 202, 42, 27, 181, 0, 205, 177]
abbrev dktJ19_init_0 : List UInt8 := dkwJ19_init_0 ++ []
theorem dksJ19_init_0 : cJ19_init.data.toList.drop 0 = dktJ19_init_0 := by decide +kernel
theorem dJ19_init_0 : decode cJ19_init 0 = .ok (.aload_n 0, 1) := dk_42 (dk_at dksJ19_init_0 0 rfl rfl)
theorem dJ19_init_1 : decode cJ19_init 1 = .ok (.invokespecial 202, 3) := dk_183 0 202 (dk_at dksJ19_init_0 1 rfl rfl)
theorem dJ19_init_4 : decode cJ19_init 4 = .ok (.aload_n 0, 1) := dk_42 (dk_at dksJ19_init_0 4 rfl rfl)
theorem dJ19_init_5 : decode cJ19_init 5 = .ok (.iload_n 1, 1) := dk_27 (dk_at dksJ19_init_0 5 rfl rfl)
theorem dJ19_init_6 : decode cJ19_init 6 = .ok (.putfield 205, 3) := dk_181 0 205 (dk_at dksJ19_init_0 6 rfl rfl)
theorem dJ19_init_9 : decode cJ19_init 9 = .ok (.return_, 1) := dk_177 (dk_at dksJ19_init_0 9 rfl rfl)
theorem q97 : (Jvm.Cond.initialized "java/lang/Integer") ∈ lw_all := lw_g (lw_at lw_m1 24 rfl) rfl
theorem q403 : (Jvm.Cond.static ({ cls := "java/lang/Integer", name := "bitCount", desc := "(I)I" } : Jvm.MethodName)) ∈ lw_all := lw_g (lw_at lw_m2 90 rfl) rfl
theorem q404 : (Jvm.Cond.code ({ cls := "java/lang/Integer", name := "bitCount", desc := "(I)I" } : Jvm.MethodName) prog_29_method_49_code (1 : Nat) (Option.some Jvm.ClassFile.FieldType.int)) ∈ lw_all := lw_g (lw_at lw_m2 91 rfl) rfl
theorem q405 : (Jvm.Cond.constant "java/lang/Integer" (265 : Nat) (1431655765 : Int32)) ∈ lw_all := lw_g (lw_at lw_m2 92 rfl) rfl
theorem q406 : (Jvm.Cond.constant "java/lang/Integer" (266 : Nat) (858993459 : Int32)) ∈ lw_all := lw_g (lw_at lw_m2 93 rfl) rfl
theorem q407 : (Jvm.Cond.constant "java/lang/Integer" (267 : Nat) (252645135 : Int32)) ∈ lw_all := lw_g (lw_at lw_m2 94 rfl) rfl
theorem q455 : (Jvm.Cond.selects "java/lang/Integer" ({ cls := "java/lang/Object", name := "getClass", desc := "()Ljava/lang/Class;" } : Jvm.MethodName) ({ cls := "java/lang/Object", name := "getClass", desc := "()Ljava/lang/Class;" } : Jvm.MethodName)) ∈ lw_all := lw_g (lw_at lw_m2 142 rfl) rfl
theorem q505 : (Jvm.Cond.static ({ cls := "java/lang/Integer", name := "compare", desc := "(II)I" } : Jvm.MethodName)) ∈ lw_all := lw_g (lw_at lw_m2 192 rfl) rfl
theorem q506 : (Jvm.Cond.code ({ cls := "java/lang/Integer", name := "compare", desc := "(II)I" } : Jvm.MethodName) prog_29_method_40_code (2 : Nat) (Option.some Jvm.ClassFile.FieldType.int)) ∈ lw_all := lw_g (lw_at lw_m2 193 rfl) rfl
theorem q630 : (Jvm.Cond.castable "java/lang/Integer" "java/lang/Comparable") ∈ lw_tbl := lw_at lw_m3 77 rfl
theorem q631 : (Jvm.Cond.selects "java/lang/Integer" ({ cls := "java/lang/Comparable", name := "compareTo", desc := "(Ljava/lang/Object;)I" } : Jvm.MethodName) ({ cls := "java/lang/Integer", name := "compareTo", desc := "(Ljava/lang/Object;)I" } : Jvm.MethodName)) ∈ lw_all := lw_g (lw_at lw_m3 78 rfl) rfl
theorem q632 : (Jvm.Cond.unhidden "java/lang/Integer" "compareTo" "(Ljava/lang/Object;)I") ∈ lw_tbl := lw_at lw_m3 79 rfl
theorem q633 : (Jvm.Cond.instanceMethod ({ cls := "java/lang/Integer", name := "compareTo", desc := "(Ljava/lang/Object;)I" } : Jvm.MethodName)) ∈ lw_all := lw_g (lw_at lw_m3 80 rfl) rfl
theorem q634 : (Jvm.Cond.publicMethod ({ cls := "java/lang/Integer", name := "compareTo", desc := "(Ljava/lang/Object;)I" } : Jvm.MethodName)) ∈ lw_tbl := lw_at lw_m3 81 rfl
theorem q635 : (Jvm.Cond.code ({ cls := "java/lang/Integer", name := "compareTo", desc := "(Ljava/lang/Object;)I" } : Jvm.MethodName) prog_29_method_63_code (2 : Nat) (Option.some Jvm.ClassFile.FieldType.int)) ∈ lw_all := lw_g (lw_at lw_m3 82 rfl) rfl
theorem q636 : (Jvm.Cond.classLink "java/lang/Integer" (1 : Nat) "java/lang/Integer") ∈ lw_all := lw_g (lw_at lw_m3 83 rfl) rfl
theorem q637 : (Jvm.Cond.methodLink "java/lang/Integer" (284 : Nat) ({ cls := "java/lang/Integer", name := "compareTo", desc := "(Ljava/lang/Integer;)I" } : Jvm.MethodName)) ∈ lw_all := lw_g (lw_at lw_m3 84 rfl) rfl
theorem q638 : (Jvm.Cond.instanceMethod ({ cls := "java/lang/Integer", name := "compareTo", desc := "(Ljava/lang/Integer;)I" } : Jvm.MethodName)) ∈ lw_all := lw_g (lw_at lw_m3 85 rfl) rfl
theorem q639 : (Jvm.Cond.selects "java/lang/Integer" ({ cls := "java/lang/Integer", name := "compareTo", desc := "(Ljava/lang/Integer;)I" } : Jvm.MethodName) ({ cls := "java/lang/Integer", name := "compareTo", desc := "(Ljava/lang/Integer;)I" } : Jvm.MethodName)) ∈ lw_all := lw_g (lw_at lw_m3 86 rfl) rfl
theorem q640 : (Jvm.Cond.code ({ cls := "java/lang/Integer", name := "compareTo", desc := "(Ljava/lang/Integer;)I" } : Jvm.MethodName) prog_29_method_39_code (2 : Nat) (Option.some Jvm.ClassFile.FieldType.int)) ∈ lw_all := lw_g (lw_at lw_m3 87 rfl) rfl
theorem q641 : (Jvm.Cond.methodLink "java/lang/Integer" (259 : Nat) ({ cls := "java/lang/Integer", name := "compare", desc := "(II)I" } : Jvm.MethodName)) ∈ lw_all := lw_g (lw_at lw_m3 88 rfl) rfl
theorem q738 : (Jvm.Cond.static ({ cls := "java/lang/Integer", name := "numberOfLeadingZeros", desc := "(I)I" } : Jvm.MethodName)) ∈ lw_all := lw_g (lw_at lw_m3 185 rfl) rfl
theorem q739 : (Jvm.Cond.code ({ cls := "java/lang/Integer", name := "numberOfLeadingZeros", desc := "(I)I" } : Jvm.MethodName) prog_29_method_47_code (2 : Nat) (Option.some Jvm.ClassFile.FieldType.int)) ∈ lw_all := lw_g (lw_at lw_m3 186 rfl) rfl
theorem q740 : (Jvm.Cond.constant "java/lang/Integer" (264 : Nat) (65536 : Int32)) ∈ lw_all := lw_g (lw_at lw_m3 187 rfl) rfl
theorem q747 : (Jvm.Cond.static ({ cls := "java/lang/Integer", name := "numberOfTrailingZeros", desc := "(I)I" } : Jvm.MethodName)) ∈ lw_all := lw_g (lw_at lw_m3 194 rfl) rfl
theorem q748 : (Jvm.Cond.code ({ cls := "java/lang/Integer", name := "numberOfTrailingZeros", desc := "(I)I" } : Jvm.MethodName) prog_29_method_48_code (2 : Nat) (Option.some Jvm.ClassFile.FieldType.int)) ∈ lw_all := lw_g (lw_at lw_m3 195 rfl) rfl
theorem q1225 : (Jvm.Cond.selects "java/lang/Integer" ({ cls := "java/lang/Object", name := "equals", desc := "(Ljava/lang/Object;)Z" } : Jvm.MethodName) ({ cls := "java/lang/Integer", name := "equals", desc := "(Ljava/lang/Object;)Z" } : Jvm.MethodName)) ∈ lw_all := lw_g (lw_at lw_m5 192 rfl) rfl
theorem q1226 : (Jvm.Cond.instanceMethod ({ cls := "java/lang/Integer", name := "equals", desc := "(Ljava/lang/Object;)Z" } : Jvm.MethodName)) ∈ lw_all := lw_g (lw_at lw_m5 193 rfl) rfl
theorem q1227 : (Jvm.Cond.code ({ cls := "java/lang/Integer", name := "equals", desc := "(Ljava/lang/Object;)Z" } : Jvm.MethodName) prog_29_method_34_code (2 : Nat) (Option.some Jvm.ClassFile.FieldType.boolean)) ∈ lw_all := lw_g (lw_at lw_m5 194 rfl) rfl
theorem q1228 : (Jvm.Cond.methodLink "java/lang/Integer" (211 : Nat) ({ cls := "java/lang/Integer", name := "intValue", desc := "()I" } : Jvm.MethodName)) ∈ lw_all := lw_g (lw_at lw_m5 195 rfl) rfl
theorem q1229 : (Jvm.Cond.instanceMethod ({ cls := "java/lang/Integer", name := "intValue", desc := "()I" } : Jvm.MethodName)) ∈ lw_all := lw_g (lw_at lw_m5 196 rfl) rfl
theorem q1230 : (Jvm.Cond.selects "java/lang/Integer" ({ cls := "java/lang/Integer", name := "intValue", desc := "()I" } : Jvm.MethodName) ({ cls := "java/lang/Integer", name := "intValue", desc := "()I" } : Jvm.MethodName)) ∈ lw_all := lw_g (lw_at lw_m5 197 rfl) rfl
theorem q1231 : (Jvm.Cond.code ({ cls := "java/lang/Integer", name := "intValue", desc := "()I" } : Jvm.MethodName) prog_29_method_27_code (1 : Nat) (Option.some Jvm.ClassFile.FieldType.int)) ∈ lw_all := lw_g (lw_at lw_m5 198 rfl) rfl
theorem q2060 : (Jvm.Cond.static ({ cls := "java/lang/Integer", name := "valueOf", desc := "(I)Ljava/lang/Integer;" } : Jvm.MethodName)) ∈ lw_all := lw_g (lw_at lw_m9 67 rfl) rfl
theorem q2061 : (Jvm.Cond.code ({ cls := "java/lang/Integer", name := "valueOf", desc := "(I)Ljava/lang/Integer;" } : Jvm.MethodName) prog_29_method_22_code (1 : Nat) (Option.some (Jvm.ClassFile.FieldType.object "java/lang/Integer"))) ∈ lw_all := lw_g (lw_at lw_m9 68 rfl) rfl
theorem q2062 : (Jvm.Cond.fieldLink "java/lang/Integer" (191 : Nat) "java/lang/Integer$IntegerCache" "high" "I") ∈ lw_all := lw_g (lw_at lw_m9 69 rfl) rfl
theorem q2064 : (Jvm.Cond.fieldLink "java/lang/Integer" (195 : Nat) "java/lang/Integer$IntegerCache" "cache" "[Ljava/lang/Integer;") ∈ lw_all := lw_g (lw_at lw_m9 71 rfl) rfl
theorem q2066 : (Jvm.Cond.instantiable "java/lang/Integer" (1 : Nat)) ∈ lw_all := lw_g (lw_at lw_m9 73 rfl) rfl
theorem q2067 : (Jvm.Cond.methodLink "java/lang/Integer" (199 : Nat) ({ cls := "java/lang/Integer", name := "<init>", desc := "(I)V" } : Jvm.MethodName)) ∈ lw_all := lw_g (lw_at lw_m9 74 rfl) rfl
theorem q2068 : (Jvm.Cond.instanceMethod ({ cls := "java/lang/Integer", name := "<init>", desc := "(I)V" } : Jvm.MethodName)) ∈ lw_all := lw_g (lw_at lw_m9 75 rfl) rfl
theorem q2069 : (Jvm.Cond.code ({ cls := "java/lang/Integer", name := "<init>", desc := "(I)V" } : Jvm.MethodName) prog_29_method_23_code (2 : Nat) (Option.none : Option Jvm.ClassFile.FieldType)) ∈ lw_all := lw_g (lw_at lw_m9 76 rfl) rfl
theorem q2070 : (Jvm.Cond.methodLink "java/lang/Integer" (202 : Nat) ({ cls := "java/lang/Number", name := "<init>", desc := "()V" } : Jvm.MethodName)) ∈ lw_all := lw_g (lw_at lw_m9 77 rfl) rfl
theorem q2074 : (Jvm.Cond.fieldLink "java/lang/Integer" (205 : Nat) "java/lang/Integer" "value" "I") ∈ lw_all := lw_g (lw_at lw_m9 81 rfl) rfl
theorem q2075 : (Jvm.Cond.laysFinal "java/lang/Integer" "java/lang/Integer" "value" "I") ∈ lw_all := lw_g (lw_at lw_m9 82 rfl) rfl
theorem q2076 : (Jvm.Cond.soleField "java/lang/Integer" "value") ∈ lw_all := lw_g (lw_at lw_m9 83 rfl) rfl
theorem q2077 : (Jvm.Cond.superclass "java/lang/Integer" "java/lang/Number") ∈ lw_all := lw_g (lw_at lw_m9 84 rfl) rfl
theorem q2943 : (Jvm.Cond.castable "java/lang/Integer" "java/lang/Object") ∈ lw_tbl := lw_at lw_m12 230 rfl
theorem in_J19 : ∀ w ∈ wsJ190, w ∈ lw_all := lw_in wsJ190 [2075] (by decide +kernel) (by decide +kernel)
/-! java/lang/Long -/
set_option maxRecDepth 100000
def RJ21 : String := "java/lang/Long"
abbrev cJ21_bitCount : ByteArray := prog_32_method_50_code
def yJ21_bitCount : MethodName := ⟨RJ21, "bitCount", "(J)I"⟩
def dkwJ21_bitCount_2 : List UInt8 := [30, 30, 16, 32, 125, 97, 63, 30, 136, 16, 127, 126, 172]
abbrev dktJ21_bitCount_2 : List UInt8 := dkwJ21_bitCount_2 ++ []
def dkwJ21_bitCount_1 : List UInt8 := [30, 30, 7, 125, 97, 20, 1, 62, 127, 63, 30, 30, 16, 8, 125, 97, 63, 30, 30, 16, 16, 125, 97, 63]
abbrev dktJ21_bitCount_1 : List UInt8 := dkwJ21_bitCount_1 ++ dktJ21_bitCount_2
def dkwJ21_bitCount_0 : List UInt8 := [30, 30, 4, 125, 20, 1, 58, 127, 101, 63, 30, 20, 1, 60, 127, 30, 5, 125, 20, 1, 60, 127, 97, 63]
abbrev dktJ21_bitCount_0 : List UInt8 := dkwJ21_bitCount_0 ++ dktJ21_bitCount_1
theorem dksJ21_bitCount_0 : cJ21_bitCount.data.toList.drop 0 = dktJ21_bitCount_0 := by decide +kernel
theorem dksJ21_bitCount_1 : cJ21_bitCount.data.toList.drop 24 = dktJ21_bitCount_1 := dk_seg dksJ21_bitCount_0 24 rfl rfl
theorem dksJ21_bitCount_2 : cJ21_bitCount.data.toList.drop 48 = dktJ21_bitCount_2 := dk_seg dksJ21_bitCount_1 24 rfl rfl
theorem dJ21_bitCount_0 : decode cJ21_bitCount 0 = .ok (.lload_n 0, 1) := dk_30 (dk_at dksJ21_bitCount_0 0 rfl rfl)
theorem dJ21_bitCount_1 : decode cJ21_bitCount 1 = .ok (.lload_n 0, 1) := dk_30 (dk_at dksJ21_bitCount_0 1 rfl rfl)
theorem dJ21_bitCount_2 : decode cJ21_bitCount 2 = .ok (.iconst 1, 1) := dk_4 (dk_at dksJ21_bitCount_0 2 rfl rfl)
theorem dJ21_bitCount_3 : decode cJ21_bitCount 3 = .ok (.lushr, 1) := dk_125 (dk_at dksJ21_bitCount_0 3 rfl rfl)
theorem dJ21_bitCount_4 : decode cJ21_bitCount 4 = .ok (.ldc2_w 314, 3) := dk_20 1 58 (dk_at dksJ21_bitCount_0 4 rfl rfl)
theorem dJ21_bitCount_7 : decode cJ21_bitCount 7 = .ok (.land, 1) := dk_127 (dk_at dksJ21_bitCount_0 7 rfl rfl)
theorem dJ21_bitCount_8 : decode cJ21_bitCount 8 = .ok (.lsub, 1) := dk_101 (dk_at dksJ21_bitCount_0 8 rfl rfl)
theorem dJ21_bitCount_9 : decode cJ21_bitCount 9 = .ok (.lstore_n 0, 1) := dk_63 (dk_at dksJ21_bitCount_0 9 rfl rfl)
theorem dJ21_bitCount_10 : decode cJ21_bitCount 10 = .ok (.lload_n 0, 1) := dk_30 (dk_at dksJ21_bitCount_0 10 rfl rfl)
theorem dJ21_bitCount_11 : decode cJ21_bitCount 11 = .ok (.ldc2_w 316, 3) := dk_20 1 60 (dk_at dksJ21_bitCount_0 11 rfl rfl)
theorem dJ21_bitCount_14 : decode cJ21_bitCount 14 = .ok (.land, 1) := dk_127 (dk_at dksJ21_bitCount_0 14 rfl rfl)
theorem dJ21_bitCount_15 : decode cJ21_bitCount 15 = .ok (.lload_n 0, 1) := dk_30 (dk_at dksJ21_bitCount_0 15 rfl rfl)
theorem dJ21_bitCount_16 : decode cJ21_bitCount 16 = .ok (.iconst 2, 1) := dk_5 (dk_at dksJ21_bitCount_0 16 rfl rfl)
theorem dJ21_bitCount_17 : decode cJ21_bitCount 17 = .ok (.lushr, 1) := dk_125 (dk_at dksJ21_bitCount_0 17 rfl rfl)
theorem dJ21_bitCount_18 : decode cJ21_bitCount 18 = .ok (.ldc2_w 316, 3) := dk_20 1 60 (dk_at dksJ21_bitCount_0 18 rfl rfl)
theorem dJ21_bitCount_21 : decode cJ21_bitCount 21 = .ok (.land, 1) := dk_127 (dk_at dksJ21_bitCount_0 21 rfl rfl)
theorem dJ21_bitCount_22 : decode cJ21_bitCount 22 = .ok (.ladd, 1) := dk_97 (dk_at dksJ21_bitCount_0 22 rfl rfl)
theorem dJ21_bitCount_23 : decode cJ21_bitCount 23 = .ok (.lstore_n 0, 1) := dk_63 (dk_at dksJ21_bitCount_0 23 rfl rfl)
theorem dJ21_bitCount_24 : decode cJ21_bitCount 24 = .ok (.lload_n 0, 1) := dk_30 (dk_at dksJ21_bitCount_1 0 rfl rfl)
theorem dJ21_bitCount_25 : decode cJ21_bitCount 25 = .ok (.lload_n 0, 1) := dk_30 (dk_at dksJ21_bitCount_1 1 rfl rfl)
theorem dJ21_bitCount_26 : decode cJ21_bitCount 26 = .ok (.iconst 4, 1) := dk_7 (dk_at dksJ21_bitCount_1 2 rfl rfl)
theorem dJ21_bitCount_27 : decode cJ21_bitCount 27 = .ok (.lushr, 1) := dk_125 (dk_at dksJ21_bitCount_1 3 rfl rfl)
theorem dJ21_bitCount_28 : decode cJ21_bitCount 28 = .ok (.ladd, 1) := dk_97 (dk_at dksJ21_bitCount_1 4 rfl rfl)
theorem dJ21_bitCount_29 : decode cJ21_bitCount 29 = .ok (.ldc2_w 318, 3) := dk_20 1 62 (dk_at dksJ21_bitCount_1 5 rfl rfl)
theorem dJ21_bitCount_32 : decode cJ21_bitCount 32 = .ok (.land, 1) := dk_127 (dk_at dksJ21_bitCount_1 8 rfl rfl)
theorem dJ21_bitCount_33 : decode cJ21_bitCount 33 = .ok (.lstore_n 0, 1) := dk_63 (dk_at dksJ21_bitCount_1 9 rfl rfl)
theorem dJ21_bitCount_34 : decode cJ21_bitCount 34 = .ok (.lload_n 0, 1) := dk_30 (dk_at dksJ21_bitCount_1 10 rfl rfl)
theorem dJ21_bitCount_35 : decode cJ21_bitCount 35 = .ok (.lload_n 0, 1) := dk_30 (dk_at dksJ21_bitCount_1 11 rfl rfl)
theorem dJ21_bitCount_36 : decode cJ21_bitCount 36 = .ok (.bipush 8, 2) := dk_16 8 (dk_at dksJ21_bitCount_1 12 rfl rfl)
theorem dJ21_bitCount_38 : decode cJ21_bitCount 38 = .ok (.lushr, 1) := dk_125 (dk_at dksJ21_bitCount_1 14 rfl rfl)
theorem dJ21_bitCount_39 : decode cJ21_bitCount 39 = .ok (.ladd, 1) := dk_97 (dk_at dksJ21_bitCount_1 15 rfl rfl)
theorem dJ21_bitCount_40 : decode cJ21_bitCount 40 = .ok (.lstore_n 0, 1) := dk_63 (dk_at dksJ21_bitCount_1 16 rfl rfl)
theorem dJ21_bitCount_41 : decode cJ21_bitCount 41 = .ok (.lload_n 0, 1) := dk_30 (dk_at dksJ21_bitCount_1 17 rfl rfl)
theorem dJ21_bitCount_42 : decode cJ21_bitCount 42 = .ok (.lload_n 0, 1) := dk_30 (dk_at dksJ21_bitCount_1 18 rfl rfl)
theorem dJ21_bitCount_43 : decode cJ21_bitCount 43 = .ok (.bipush 16, 2) := dk_16 16 (dk_at dksJ21_bitCount_1 19 rfl rfl)
theorem dJ21_bitCount_45 : decode cJ21_bitCount 45 = .ok (.lushr, 1) := dk_125 (dk_at dksJ21_bitCount_1 21 rfl rfl)
theorem dJ21_bitCount_46 : decode cJ21_bitCount 46 = .ok (.ladd, 1) := dk_97 (dk_at dksJ21_bitCount_1 22 rfl rfl)
theorem dJ21_bitCount_47 : decode cJ21_bitCount 47 = .ok (.lstore_n 0, 1) := dk_63 (dk_at dksJ21_bitCount_1 23 rfl rfl)
theorem dJ21_bitCount_48 : decode cJ21_bitCount 48 = .ok (.lload_n 0, 1) := dk_30 (dk_at dksJ21_bitCount_2 0 rfl rfl)
theorem dJ21_bitCount_49 : decode cJ21_bitCount 49 = .ok (.lload_n 0, 1) := dk_30 (dk_at dksJ21_bitCount_2 1 rfl rfl)
theorem dJ21_bitCount_50 : decode cJ21_bitCount 50 = .ok (.bipush 32, 2) := dk_16 32 (dk_at dksJ21_bitCount_2 2 rfl rfl)
theorem dJ21_bitCount_52 : decode cJ21_bitCount 52 = .ok (.lushr, 1) := dk_125 (dk_at dksJ21_bitCount_2 4 rfl rfl)
theorem dJ21_bitCount_53 : decode cJ21_bitCount 53 = .ok (.ladd, 1) := dk_97 (dk_at dksJ21_bitCount_2 5 rfl rfl)
theorem dJ21_bitCount_54 : decode cJ21_bitCount 54 = .ok (.lstore_n 0, 1) := dk_63 (dk_at dksJ21_bitCount_2 6 rfl rfl)
theorem dJ21_bitCount_55 : decode cJ21_bitCount 55 = .ok (.lload_n 0, 1) := dk_30 (dk_at dksJ21_bitCount_2 7 rfl rfl)
theorem dJ21_bitCount_56 : decode cJ21_bitCount 56 = .ok (.l2i, 1) := dk_136 (dk_at dksJ21_bitCount_2 8 rfl rfl)
theorem dJ21_bitCount_57 : decode cJ21_bitCount 57 = .ok (.bipush 127, 2) := dk_16 127 (dk_at dksJ21_bitCount_2 9 rfl rfl)
theorem dJ21_bitCount_59 : decode cJ21_bitCount 59 = .ok (.iand, 1) := dk_126 (dk_at dksJ21_bitCount_2 11 rfl rfl)
theorem dJ21_bitCount_60 : decode cJ21_bitCount 60 = .ok (.ireturn, 1) := dk_172 (dk_at dksJ21_bitCount_2 12 rfl rfl)
abbrev cJ21_numberOfLeadingZeros : ByteArray := prog_32_method_48_code
def yJ21_numberOfLeadingZeros : MethodName := ⟨RJ21, "numberOfLeadingZeros", "(J)I"⟩
def dkwJ21_numberOfLeadingZeros_1 : List UInt8 := [184, 1, 52, 172]
abbrev dktJ21_numberOfLeadingZeros_1 : List UInt8 := dkwJ21_numberOfLeadingZeros_1 ++ []
def dkwJ21_numberOfLeadingZeros_0 : List UInt8 := [30, 16, 32, 125, 136, 61, 28, 154, 0, 14, 16, 32, 30, 136, 184, 1, 52, 96, 167, 0, 7, 28]
abbrev dktJ21_numberOfLeadingZeros_0 : List UInt8 := dkwJ21_numberOfLeadingZeros_0 ++ dktJ21_numberOfLeadingZeros_1
theorem dksJ21_numberOfLeadingZeros_0 : cJ21_numberOfLeadingZeros.data.toList.drop 0 = dktJ21_numberOfLeadingZeros_0 := by decide +kernel
theorem dksJ21_numberOfLeadingZeros_1 : cJ21_numberOfLeadingZeros.data.toList.drop 22 = dktJ21_numberOfLeadingZeros_1 := dk_seg dksJ21_numberOfLeadingZeros_0 22 rfl rfl
theorem dJ21_numberOfLeadingZeros_0 : decode cJ21_numberOfLeadingZeros 0 = .ok (.lload_n 0, 1) := dk_30 (dk_at dksJ21_numberOfLeadingZeros_0 0 rfl rfl)
theorem dJ21_numberOfLeadingZeros_1 : decode cJ21_numberOfLeadingZeros 1 = .ok (.bipush 32, 2) := dk_16 32 (dk_at dksJ21_numberOfLeadingZeros_0 1 rfl rfl)
theorem dJ21_numberOfLeadingZeros_3 : decode cJ21_numberOfLeadingZeros 3 = .ok (.lushr, 1) := dk_125 (dk_at dksJ21_numberOfLeadingZeros_0 3 rfl rfl)
theorem dJ21_numberOfLeadingZeros_4 : decode cJ21_numberOfLeadingZeros 4 = .ok (.l2i, 1) := dk_136 (dk_at dksJ21_numberOfLeadingZeros_0 4 rfl rfl)
theorem dJ21_numberOfLeadingZeros_5 : decode cJ21_numberOfLeadingZeros 5 = .ok (.istore_n 2, 1) := dk_61 (dk_at dksJ21_numberOfLeadingZeros_0 5 rfl rfl)
theorem dJ21_numberOfLeadingZeros_6 : decode cJ21_numberOfLeadingZeros 6 = .ok (.iload_n 2, 1) := dk_28 (dk_at dksJ21_numberOfLeadingZeros_0 6 rfl rfl)
theorem dJ21_numberOfLeadingZeros_7 : decode cJ21_numberOfLeadingZeros 7 = .ok (.ifCond .ne 14, 3) := dk_154 0 14 (dk_at dksJ21_numberOfLeadingZeros_0 7 rfl rfl)
theorem dJ21_numberOfLeadingZeros_10 : decode cJ21_numberOfLeadingZeros 10 = .ok (.bipush 32, 2) := dk_16 32 (dk_at dksJ21_numberOfLeadingZeros_0 10 rfl rfl)
theorem dJ21_numberOfLeadingZeros_12 : decode cJ21_numberOfLeadingZeros 12 = .ok (.lload_n 0, 1) := dk_30 (dk_at dksJ21_numberOfLeadingZeros_0 12 rfl rfl)
theorem dJ21_numberOfLeadingZeros_13 : decode cJ21_numberOfLeadingZeros 13 = .ok (.l2i, 1) := dk_136 (dk_at dksJ21_numberOfLeadingZeros_0 13 rfl rfl)
theorem dJ21_numberOfLeadingZeros_14 : decode cJ21_numberOfLeadingZeros 14 = .ok (.invokestatic 308, 3) := dk_184 1 52 (dk_at dksJ21_numberOfLeadingZeros_0 14 rfl rfl)
theorem dJ21_numberOfLeadingZeros_17 : decode cJ21_numberOfLeadingZeros 17 = .ok (.iadd, 1) := dk_96 (dk_at dksJ21_numberOfLeadingZeros_0 17 rfl rfl)
theorem dJ21_numberOfLeadingZeros_18 : decode cJ21_numberOfLeadingZeros 18 = .ok (.goto 7, 3) := dk_167 0 7 (dk_at dksJ21_numberOfLeadingZeros_0 18 rfl rfl)
theorem dJ21_numberOfLeadingZeros_21 : decode cJ21_numberOfLeadingZeros 21 = .ok (.iload_n 2, 1) := dk_28 (dk_at dksJ21_numberOfLeadingZeros_0 21 rfl rfl)
theorem dJ21_numberOfLeadingZeros_22 : decode cJ21_numberOfLeadingZeros 22 = .ok (.invokestatic 308, 3) := dk_184 1 52 (dk_at dksJ21_numberOfLeadingZeros_1 0 rfl rfl)
theorem dJ21_numberOfLeadingZeros_25 : decode cJ21_numberOfLeadingZeros 25 = .ok (.ireturn, 1) := dk_172 (dk_at dksJ21_numberOfLeadingZeros_1 3 rfl rfl)
abbrev cJ21_numberOfTrailingZeros : ByteArray := prog_32_method_49_code
def yJ21_numberOfTrailingZeros : MethodName := ⟨RJ21, "numberOfTrailingZeros", "(J)I"⟩
def dkwJ21_numberOfTrailingZeros_1 : List UInt8 := [184, 1, 55, 172]
abbrev dktJ21_numberOfTrailingZeros_1 : List UInt8 := dkwJ21_numberOfTrailingZeros_1 ++ []
def dkwJ21_numberOfTrailingZeros_0 : List UInt8 := [30, 136, 61, 28, 154, 0, 17, 16, 32, 30, 16, 32, 125, 136, 184, 1, 55, 96, 167, 0, 7, 28]
abbrev dktJ21_numberOfTrailingZeros_0 : List UInt8 := dkwJ21_numberOfTrailingZeros_0 ++ dktJ21_numberOfTrailingZeros_1
theorem dksJ21_numberOfTrailingZeros_0 : cJ21_numberOfTrailingZeros.data.toList.drop 0 = dktJ21_numberOfTrailingZeros_0 := by decide +kernel
theorem dksJ21_numberOfTrailingZeros_1 : cJ21_numberOfTrailingZeros.data.toList.drop 22 = dktJ21_numberOfTrailingZeros_1 := dk_seg dksJ21_numberOfTrailingZeros_0 22 rfl rfl
theorem dJ21_numberOfTrailingZeros_0 : decode cJ21_numberOfTrailingZeros 0 = .ok (.lload_n 0, 1) := dk_30 (dk_at dksJ21_numberOfTrailingZeros_0 0 rfl rfl)
theorem dJ21_numberOfTrailingZeros_1 : decode cJ21_numberOfTrailingZeros 1 = .ok (.l2i, 1) := dk_136 (dk_at dksJ21_numberOfTrailingZeros_0 1 rfl rfl)
theorem dJ21_numberOfTrailingZeros_2 : decode cJ21_numberOfTrailingZeros 2 = .ok (.istore_n 2, 1) := dk_61 (dk_at dksJ21_numberOfTrailingZeros_0 2 rfl rfl)
theorem dJ21_numberOfTrailingZeros_3 : decode cJ21_numberOfTrailingZeros 3 = .ok (.iload_n 2, 1) := dk_28 (dk_at dksJ21_numberOfTrailingZeros_0 3 rfl rfl)
theorem dJ21_numberOfTrailingZeros_4 : decode cJ21_numberOfTrailingZeros 4 = .ok (.ifCond .ne 17, 3) := dk_154 0 17 (dk_at dksJ21_numberOfTrailingZeros_0 4 rfl rfl)
theorem dJ21_numberOfTrailingZeros_7 : decode cJ21_numberOfTrailingZeros 7 = .ok (.bipush 32, 2) := dk_16 32 (dk_at dksJ21_numberOfTrailingZeros_0 7 rfl rfl)
theorem dJ21_numberOfTrailingZeros_9 : decode cJ21_numberOfTrailingZeros 9 = .ok (.lload_n 0, 1) := dk_30 (dk_at dksJ21_numberOfTrailingZeros_0 9 rfl rfl)
theorem dJ21_numberOfTrailingZeros_10 : decode cJ21_numberOfTrailingZeros 10 = .ok (.bipush 32, 2) := dk_16 32 (dk_at dksJ21_numberOfTrailingZeros_0 10 rfl rfl)
theorem dJ21_numberOfTrailingZeros_12 : decode cJ21_numberOfTrailingZeros 12 = .ok (.lushr, 1) := dk_125 (dk_at dksJ21_numberOfTrailingZeros_0 12 rfl rfl)
theorem dJ21_numberOfTrailingZeros_13 : decode cJ21_numberOfTrailingZeros 13 = .ok (.l2i, 1) := dk_136 (dk_at dksJ21_numberOfTrailingZeros_0 13 rfl rfl)
theorem dJ21_numberOfTrailingZeros_14 : decode cJ21_numberOfTrailingZeros 14 = .ok (.invokestatic 311, 3) := dk_184 1 55 (dk_at dksJ21_numberOfTrailingZeros_0 14 rfl rfl)
theorem dJ21_numberOfTrailingZeros_17 : decode cJ21_numberOfTrailingZeros 17 = .ok (.iadd, 1) := dk_96 (dk_at dksJ21_numberOfTrailingZeros_0 17 rfl rfl)
theorem dJ21_numberOfTrailingZeros_18 : decode cJ21_numberOfTrailingZeros 18 = .ok (.goto 7, 3) := dk_167 0 7 (dk_at dksJ21_numberOfTrailingZeros_0 18 rfl rfl)
theorem dJ21_numberOfTrailingZeros_21 : decode cJ21_numberOfTrailingZeros 21 = .ok (.iload_n 2, 1) := dk_28 (dk_at dksJ21_numberOfTrailingZeros_0 21 rfl rfl)
theorem dJ21_numberOfTrailingZeros_22 : decode cJ21_numberOfTrailingZeros 22 = .ok (.invokestatic 311, 3) := dk_184 1 55 (dk_at dksJ21_numberOfTrailingZeros_1 0 rfl rfl)
theorem dJ21_numberOfTrailingZeros_25 : decode cJ21_numberOfTrailingZeros 25 = .ok (.ireturn, 1) := dk_172 (dk_at dksJ21_numberOfTrailingZeros_1 3 rfl rfl)
theorem q101 : (Jvm.Cond.initialized "java/lang/Long") ∈ lw_all := lw_g (lw_at lw_m1 28 rfl) rfl
theorem q558 : (Jvm.Cond.static ({ cls := "java/lang/Long", name := "bitCount", desc := "(J)I" } : Jvm.MethodName)) ∈ lw_all := lw_g (lw_at lw_m3 5 rfl) rfl
theorem q559 : (Jvm.Cond.code ({ cls := "java/lang/Long", name := "bitCount", desc := "(J)I" } : Jvm.MethodName) prog_32_method_50_code (2 : Nat) (Option.some Jvm.ClassFile.FieldType.int)) ∈ lw_all := lw_g (lw_at lw_m3 6 rfl) rfl
theorem q560 : (Jvm.Cond.constantLong "java/lang/Long" (314 : Nat) (6148914691236517205 : Int64)) ∈ lw_all := lw_g (lw_at lw_m3 7 rfl) rfl
theorem q561 : (Jvm.Cond.constantLong "java/lang/Long" (316 : Nat) (3689348814741910323 : Int64)) ∈ lw_all := lw_g (lw_at lw_m3 8 rfl) rfl
theorem q562 : (Jvm.Cond.constantLong "java/lang/Long" (318 : Nat) (1085102592571150095 : Int64)) ∈ lw_all := lw_g (lw_at lw_m3 9 rfl) rfl
theorem q735 : (Jvm.Cond.static ({ cls := "java/lang/Long", name := "numberOfLeadingZeros", desc := "(J)I" } : Jvm.MethodName)) ∈ lw_all := lw_g (lw_at lw_m3 182 rfl) rfl
theorem q736 : (Jvm.Cond.code ({ cls := "java/lang/Long", name := "numberOfLeadingZeros", desc := "(J)I" } : Jvm.MethodName) prog_32_method_48_code (3 : Nat) (Option.some Jvm.ClassFile.FieldType.int)) ∈ lw_all := lw_g (lw_at lw_m3 183 rfl) rfl
theorem q737 : (Jvm.Cond.methodLink "java/lang/Long" (308 : Nat) ({ cls := "java/lang/Integer", name := "numberOfLeadingZeros", desc := "(I)I" } : Jvm.MethodName)) ∈ lw_all := lw_g (lw_at lw_m3 184 rfl) rfl
theorem q744 : (Jvm.Cond.static ({ cls := "java/lang/Long", name := "numberOfTrailingZeros", desc := "(J)I" } : Jvm.MethodName)) ∈ lw_all := lw_g (lw_at lw_m3 191 rfl) rfl
theorem q745 : (Jvm.Cond.code ({ cls := "java/lang/Long", name := "numberOfTrailingZeros", desc := "(J)I" } : Jvm.MethodName) prog_32_method_49_code (3 : Nat) (Option.some Jvm.ClassFile.FieldType.int)) ∈ lw_all := lw_g (lw_at lw_m3 192 rfl) rfl
theorem q746 : (Jvm.Cond.methodLink "java/lang/Long" (311 : Nat) ({ cls := "java/lang/Integer", name := "numberOfTrailingZeros", desc := "(I)I" } : Jvm.MethodName)) ∈ lw_all := lw_g (lw_at lw_m3 193 rfl) rfl
/-! java/util/TreeMap$Values -/
set_option maxRecDepth 100000
def RJ22 : String := "java/util/TreeMap$Values"
def TJ22 : u_T := fun k => match k with
  | _ => ("java/util/TreeMap$Values", "this$0", "Ljava/util/TreeMap;", true)
def tyJ22 : Nat → FieldType := fun k => match k with
  | _ => .object "java/util/TreeMap"
abbrev wsJ220 : List Cond := u_ws RJ22 TJ22 1
theorem nmJ22 : ∀ a, a < 1 → ∀ b, b < 1 → a ≠ b → (TJ22 a).2.1 ≠ (TJ22 b).2.1 := by decide +kernel
theorem tyJ22_ok : ∀ k, k < 1 → parseFieldDescriptor (TJ22 k).2.2.1 = some (tyJ22 k) := by decide +kernel
abbrev cJ22_size : ByteArray := prog_81_method_3_code
def yJ22_size : MethodName := ⟨RJ22, "size", "()I"⟩
def dkwJ22_size_0 : List UInt8 := [42, 180, 0, 1, 182, 0, 24, 172]
abbrev dktJ22_size_0 : List UInt8 := dkwJ22_size_0 ++ []
theorem dksJ22_size_0 : cJ22_size.data.toList.drop 0 = dktJ22_size_0 := by decide +kernel
theorem dJ22_size_0 : decode cJ22_size 0 = .ok (.aload_n 0, 1) := dk_42 (dk_at dksJ22_size_0 0 rfl rfl)
theorem dJ22_size_1 : decode cJ22_size 1 = .ok (.getfield 1, 3) := dk_180 0 1 (dk_at dksJ22_size_0 1 rfl rfl)
theorem dJ22_size_4 : decode cJ22_size 4 = .ok (.invokevirtual 24, 3) := dk_182 0 24 (dk_at dksJ22_size_0 4 rfl rfl)
theorem dJ22_size_7 : decode cJ22_size 7 = .ok (.ireturn, 1) := dk_172 (dk_at dksJ22_size_0 7 rfl rfl)
abbrev cJ22_init : ByteArray := prog_81_method_1_code
def yJ22_init : MethodName := ⟨RJ22, "<init>", "(Ljava/util/TreeMap;)V"⟩
def dkwJ22_init_0 : List UInt8 := [42, 43, 181, 0, 1, 42, 183, 0, 7, 177]
abbrev dktJ22_init_0 : List UInt8 := dkwJ22_init_0 ++ []
theorem dksJ22_init_0 : cJ22_init.data.toList.drop 0 = dktJ22_init_0 := by decide +kernel
theorem dJ22_init_0 : decode cJ22_init 0 = .ok (.aload_n 0, 1) := dk_42 (dk_at dksJ22_init_0 0 rfl rfl)
theorem dJ22_init_1 : decode cJ22_init 1 = .ok (.aload_n 1, 1) := dk_43 (dk_at dksJ22_init_0 1 rfl rfl)
theorem dJ22_init_2 : decode cJ22_init 2 = .ok (.putfield 1, 3) := dk_181 0 1 (dk_at dksJ22_init_0 2 rfl rfl)
theorem dJ22_init_5 : decode cJ22_init 5 = .ok (.aload_n 0, 1) := dk_42 (dk_at dksJ22_init_0 5 rfl rfl)
theorem dJ22_init_6 : decode cJ22_init 6 = .ok (.invokespecial 7, 3) := dk_183 0 7 (dk_at dksJ22_init_0 6 rfl rfl)
theorem dJ22_init_9 : decode cJ22_init 9 = .ok (.return_, 1) := dk_177 (dk_at dksJ22_init_0 9 rfl rfl)
abbrev cJ22_iterator : ByteArray := prog_81_method_2_code
def yJ22_iterator : MethodName := ⟨RJ22, "iterator", "()Ljava/util/Iterator;"⟩
def dkwJ22_iterator_0 : List UInt8 := [187, 0, 13, 89, 42, 180, 0, 1, 42, 180, 0, 1, 182, 0, 15, 183, 0, 21, 176]
abbrev dktJ22_iterator_0 : List UInt8 := dkwJ22_iterator_0 ++ []
theorem dksJ22_iterator_0 : cJ22_iterator.data.toList.drop 0 = dktJ22_iterator_0 := by decide +kernel
theorem dJ22_iterator_0 : decode cJ22_iterator 0 = .ok (.new 13, 3) := dk_187 0 13 (dk_at dksJ22_iterator_0 0 rfl rfl)
theorem dJ22_iterator_3 : decode cJ22_iterator 3 = .ok (.dup, 1) := dk_89 (dk_at dksJ22_iterator_0 3 rfl rfl)
theorem dJ22_iterator_4 : decode cJ22_iterator 4 = .ok (.aload_n 0, 1) := dk_42 (dk_at dksJ22_iterator_0 4 rfl rfl)
theorem dJ22_iterator_5 : decode cJ22_iterator 5 = .ok (.getfield 1, 3) := dk_180 0 1 (dk_at dksJ22_iterator_0 5 rfl rfl)
theorem dJ22_iterator_8 : decode cJ22_iterator 8 = .ok (.aload_n 0, 1) := dk_42 (dk_at dksJ22_iterator_0 8 rfl rfl)
theorem dJ22_iterator_9 : decode cJ22_iterator 9 = .ok (.getfield 1, 3) := dk_180 0 1 (dk_at dksJ22_iterator_0 9 rfl rfl)
theorem dJ22_iterator_12 : decode cJ22_iterator 12 = .ok (.invokevirtual 15, 3) := dk_182 0 15 (dk_at dksJ22_iterator_0 12 rfl rfl)
theorem dJ22_iterator_15 : decode cJ22_iterator 15 = .ok (.invokespecial 21, 3) := dk_183 0 21 (dk_at dksJ22_iterator_0 15 rfl rfl)
theorem dJ22_iterator_18 : decode cJ22_iterator 18 = .ok (.areturn, 1) := dk_176 (dk_at dksJ22_iterator_0 18 rfl rfl)
theorem q104 : (Jvm.Cond.initialized "java/util/TreeMap$Values") ∈ lw_all := lw_g (lw_at lw_m1 31 rfl) rfl
theorem q467 : (Jvm.Cond.selects "java/util/TreeMap$Values" ({ cls := "java/lang/Object", name := "getClass", desc := "()Ljava/lang/Class;" } : Jvm.MethodName) ({ cls := "java/lang/Object", name := "getClass", desc := "()Ljava/lang/Class;" } : Jvm.MethodName)) ∈ lw_all := lw_g (lw_at lw_m2 154 rfl) rfl
theorem q837 : (Jvm.Cond.selects "java/util/TreeMap$Values" ({ cls := "java/util/AbstractCollection", name := "size", desc := "()I" } : Jvm.MethodName) ({ cls := "java/util/TreeMap$Values", name := "size", desc := "()I" } : Jvm.MethodName)) ∈ lw_all := lw_g (lw_at lw_m4 44 rfl) rfl
theorem q838 : (Jvm.Cond.instanceMethod ({ cls := "java/util/TreeMap$Values", name := "size", desc := "()I" } : Jvm.MethodName)) ∈ lw_all := lw_g (lw_at lw_m4 45 rfl) rfl
theorem q839 : (Jvm.Cond.code ({ cls := "java/util/TreeMap$Values", name := "size", desc := "()I" } : Jvm.MethodName) prog_81_method_3_code (1 : Nat) (Option.some Jvm.ClassFile.FieldType.int)) ∈ lw_all := lw_g (lw_at lw_m4 46 rfl) rfl
theorem q840 : (Jvm.Cond.methodLink "java/util/TreeMap$Values" (24 : Nat) ({ cls := "java/util/TreeMap", name := "size", desc := "()I" } : Jvm.MethodName)) ∈ lw_all := lw_g (lw_at lw_m4 47 rfl) rfl
theorem q899 : (Jvm.Cond.instantiable "java/util/TreeMap$Values" (1 : Nat)) ∈ lw_all := lw_g (lw_at lw_m4 106 rfl) rfl
theorem q901 : (Jvm.Cond.instanceMethod ({ cls := "java/util/TreeMap$Values", name := "<init>", desc := "(Ljava/util/TreeMap;)V" } : Jvm.MethodName)) ∈ lw_all := lw_g (lw_at lw_m4 108 rfl) rfl
theorem q902 : (Jvm.Cond.code ({ cls := "java/util/TreeMap$Values", name := "<init>", desc := "(Ljava/util/TreeMap;)V" } : Jvm.MethodName) prog_81_method_1_code (2 : Nat) (Option.none : Option Jvm.ClassFile.FieldType)) ∈ lw_all := lw_g (lw_at lw_m4 109 rfl) rfl
theorem q903 : (Jvm.Cond.methodLink "java/util/TreeMap$Values" (7 : Nat) ({ cls := "java/util/AbstractCollection", name := "<init>", desc := "()V" } : Jvm.MethodName)) ∈ lw_all := lw_g (lw_at lw_m4 110 rfl) rfl
theorem q904 : (Jvm.Cond.fieldLink "java/util/TreeMap$Values" (1 : Nat) "java/util/TreeMap$Values" "this$0" "Ljava/util/TreeMap;") ∈ lw_all := lw_g (lw_at lw_m4 111 rfl) rfl
theorem q905 : (Jvm.Cond.laysFinal "java/util/TreeMap$Values" "java/util/TreeMap$Values" "this$0" "Ljava/util/TreeMap;") ∈ lw_all := lw_g (lw_at lw_m4 112 rfl) rfl
theorem q906 : (Jvm.Cond.soleField "java/util/TreeMap$Values" "this$0") ∈ lw_all := lw_g (lw_at lw_m4 113 rfl) rfl
theorem q907 : (Jvm.Cond.superclass "java/util/TreeMap$Values" "java/util/AbstractCollection") ∈ lw_all := lw_g (lw_at lw_m4 114 rfl) rfl
theorem q1027 : (Jvm.Cond.castable "java/util/TreeMap$Values" "java/util/Collection") ∈ lw_tbl := lw_at lw_m4 234 rfl
theorem q1028 : (Jvm.Cond.selects "java/util/TreeMap$Values" ({ cls := "java/util/Collection", name := "iterator", desc := "()Ljava/util/Iterator;" } : Jvm.MethodName) ({ cls := "java/util/TreeMap$Values", name := "iterator", desc := "()Ljava/util/Iterator;" } : Jvm.MethodName)) ∈ lw_all := lw_g (lw_at lw_m4 235 rfl) rfl
theorem q1029 : (Jvm.Cond.unhidden "java/util/TreeMap$Values" "iterator" "()Ljava/util/Iterator;") ∈ lw_tbl := lw_at lw_m4 236 rfl
theorem q1030 : (Jvm.Cond.instanceMethod ({ cls := "java/util/TreeMap$Values", name := "iterator", desc := "()Ljava/util/Iterator;" } : Jvm.MethodName)) ∈ lw_all := lw_g (lw_at lw_m4 237 rfl) rfl
theorem q1031 : (Jvm.Cond.publicMethod ({ cls := "java/util/TreeMap$Values", name := "iterator", desc := "()Ljava/util/Iterator;" } : Jvm.MethodName)) ∈ lw_tbl := lw_at lw_m4 238 rfl
theorem q1032 : (Jvm.Cond.code ({ cls := "java/util/TreeMap$Values", name := "iterator", desc := "()Ljava/util/Iterator;" } : Jvm.MethodName) prog_81_method_2_code (1 : Nat) (Option.some (Jvm.ClassFile.FieldType.object "java/util/Iterator"))) ∈ lw_all := lw_g (lw_at lw_m4 239 rfl) rfl
theorem q1033 : (Jvm.Cond.classLink "java/util/TreeMap$Values" (13 : Nat) "java/util/TreeMap$ValueIterator") ∈ lw_all := lw_g (lw_at lw_m5 0 rfl) rfl
theorem q1035 : (Jvm.Cond.methodLink "java/util/TreeMap$Values" (15 : Nat) ({ cls := "java/util/TreeMap", name := "getFirstEntry", desc := "()Ljava/util/TreeMap$Entry;" } : Jvm.MethodName)) ∈ lw_all := lw_g (lw_at lw_m5 2 rfl) rfl
theorem q1036 : (Jvm.Cond.methodLink "java/util/TreeMap$Values" (21 : Nat) ({ cls := "java/util/TreeMap$ValueIterator", name := "<init>", desc := "(Ljava/util/TreeMap;Ljava/util/TreeMap$Entry;)V" } : Jvm.MethodName)) ∈ lw_all := lw_g (lw_at lw_m5 3 rfl) rfl
theorem q2939 : (Jvm.Cond.castable "java/util/TreeMap$Values" "java/lang/Object") ∈ lw_tbl := lw_at lw_m12 226 rfl
theorem in_J22 : ∀ w ∈ wsJ220, w ∈ lw_all := lw_in wsJ220 [905] (by decide +kernel) (by decide +kernel)
/-! java/util/TreeMap$PrivateEntryIterator -/
set_option maxRecDepth 100000
def RJ25 : String := "java/util/TreeMap$PrivateEntryIterator"
abbrev cJ25_init : ByteArray := prog_79_method_1_code
def yJ25_init : MethodName := ⟨RJ25, "<init>", "(Ljava/util/TreeMap;Ljava/util/TreeMap$Entry;)V"⟩
def dkwJ25_init_1 : List UInt8 := [181, 0, 26, 177]
abbrev dktJ25_init_1 : List UInt8 := dkwJ25_init_1 ++ []
def dkwJ25_init_0 : List UInt8 := [42, 43, 181, 0, 1, 42, 183, 0, 7, 42, 43, 180, 0, 13, 181, 0, 19, 42, 1, 181, 0, 22, 42, 44]
abbrev dktJ25_init_0 : List UInt8 := dkwJ25_init_0 ++ dktJ25_init_1
theorem dksJ25_init_0 : cJ25_init.data.toList.drop 0 = dktJ25_init_0 := by decide +kernel
theorem dksJ25_init_1 : cJ25_init.data.toList.drop 24 = dktJ25_init_1 := dk_seg dksJ25_init_0 24 rfl rfl
theorem dJ25_init_0 : decode cJ25_init 0 = .ok (.aload_n 0, 1) := dk_42 (dk_at dksJ25_init_0 0 rfl rfl)
theorem dJ25_init_1 : decode cJ25_init 1 = .ok (.aload_n 1, 1) := dk_43 (dk_at dksJ25_init_0 1 rfl rfl)
theorem dJ25_init_2 : decode cJ25_init 2 = .ok (.putfield 1, 3) := dk_181 0 1 (dk_at dksJ25_init_0 2 rfl rfl)
theorem dJ25_init_5 : decode cJ25_init 5 = .ok (.aload_n 0, 1) := dk_42 (dk_at dksJ25_init_0 5 rfl rfl)
theorem dJ25_init_6 : decode cJ25_init 6 = .ok (.invokespecial 7, 3) := dk_183 0 7 (dk_at dksJ25_init_0 6 rfl rfl)
theorem dJ25_init_9 : decode cJ25_init 9 = .ok (.aload_n 0, 1) := dk_42 (dk_at dksJ25_init_0 9 rfl rfl)
theorem dJ25_init_10 : decode cJ25_init 10 = .ok (.aload_n 1, 1) := dk_43 (dk_at dksJ25_init_0 10 rfl rfl)
theorem dJ25_init_11 : decode cJ25_init 11 = .ok (.getfield 13, 3) := dk_180 0 13 (dk_at dksJ25_init_0 11 rfl rfl)
theorem dJ25_init_14 : decode cJ25_init 14 = .ok (.putfield 19, 3) := dk_181 0 19 (dk_at dksJ25_init_0 14 rfl rfl)
theorem dJ25_init_17 : decode cJ25_init 17 = .ok (.aload_n 0, 1) := dk_42 (dk_at dksJ25_init_0 17 rfl rfl)
theorem dJ25_init_18 : decode cJ25_init 18 = .ok (.aconst_null, 1) := dk_1 (dk_at dksJ25_init_0 18 rfl rfl)
theorem dJ25_init_19 : decode cJ25_init 19 = .ok (.putfield 22, 3) := dk_181 0 22 (dk_at dksJ25_init_0 19 rfl rfl)
theorem dJ25_init_22 : decode cJ25_init 22 = .ok (.aload_n 0, 1) := dk_42 (dk_at dksJ25_init_0 22 rfl rfl)
theorem dJ25_init_23 : decode cJ25_init 23 = .ok (.aload_n 2, 1) := dk_44 (dk_at dksJ25_init_0 23 rfl rfl)
theorem dJ25_init_24 : decode cJ25_init 24 = .ok (.putfield 26, 3) := dk_181 0 26 (dk_at dksJ25_init_1 0 rfl rfl)
theorem dJ25_init_27 : decode cJ25_init 27 = .ok (.return_, 1) := dk_177 (dk_at dksJ25_init_1 3 rfl rfl)
abbrev cJ25_hasNext : ByteArray := prog_79_method_2_code
def yJ25_hasNext : MethodName := ⟨RJ25, "hasNext", "()Z"⟩
def dkwJ25_hasNext_0 : List UInt8 := [42, 180, 0, 26, 198, 0, 7, 4, 167, 0, 4, 3, 172]
abbrev dktJ25_hasNext_0 : List UInt8 := dkwJ25_hasNext_0 ++ []
theorem dksJ25_hasNext_0 : cJ25_hasNext.data.toList.drop 0 = dktJ25_hasNext_0 := by decide +kernel
theorem dJ25_hasNext_0 : decode cJ25_hasNext 0 = .ok (.aload_n 0, 1) := dk_42 (dk_at dksJ25_hasNext_0 0 rfl rfl)
theorem dJ25_hasNext_1 : decode cJ25_hasNext 1 = .ok (.getfield 26, 3) := dk_180 0 26 (dk_at dksJ25_hasNext_0 1 rfl rfl)
theorem dJ25_hasNext_4 : decode cJ25_hasNext 4 = .ok (.ifnull 7, 3) := dk_198 0 7 (dk_at dksJ25_hasNext_0 4 rfl rfl)
theorem dJ25_hasNext_7 : decode cJ25_hasNext 7 = .ok (.iconst 1, 1) := dk_4 (dk_at dksJ25_hasNext_0 7 rfl rfl)
theorem dJ25_hasNext_8 : decode cJ25_hasNext 8 = .ok (.goto 4, 3) := dk_167 0 4 (dk_at dksJ25_hasNext_0 8 rfl rfl)
theorem dJ25_hasNext_11 : decode cJ25_hasNext 11 = .ok (.iconst 0, 1) := dk_3 (dk_at dksJ25_hasNext_0 11 rfl rfl)
theorem dJ25_hasNext_12 : decode cJ25_hasNext 12 = .ok (.ireturn, 1) := dk_172 (dk_at dksJ25_hasNext_0 12 rfl rfl)
abbrev cJ25_nextEntry : ByteArray := prog_79_method_3_code
def yJ25_nextEntry : MethodName := ⟨RJ25, "nextEntry", "()Ljava/util/TreeMap$Entry;"⟩
def dkwJ25_nextEntry_2 : List UInt8 := [43, 181, 0, 22, 43, 176]
abbrev dktJ25_nextEntry_2 : List UInt8 := dkwJ25_nextEntry_2 ++ []
def dkwJ25_nextEntry_1 : List UInt8 := [42, 180, 0, 19, 159, 0, 11, 187, 0, 32, 89, 183, 0, 34, 191, 42, 43, 184, 0, 35, 181, 0, 26, 42]
abbrev dktJ25_nextEntry_1 : List UInt8 := dkwJ25_nextEntry_1 ++ dktJ25_nextEntry_2
def dkwJ25_nextEntry_0 : List UInt8 := [42, 180, 0, 26, 76, 43, 199, 0, 11, 187, 0, 29, 89, 183, 0, 31, 191, 42, 180, 0, 1, 180, 0, 13]
abbrev dktJ25_nextEntry_0 : List UInt8 := dkwJ25_nextEntry_0 ++ dktJ25_nextEntry_1
theorem dksJ25_nextEntry_0 : cJ25_nextEntry.data.toList.drop 0 = dktJ25_nextEntry_0 := by decide +kernel
theorem dksJ25_nextEntry_1 : cJ25_nextEntry.data.toList.drop 24 = dktJ25_nextEntry_1 := dk_seg dksJ25_nextEntry_0 24 rfl rfl
theorem dksJ25_nextEntry_2 : cJ25_nextEntry.data.toList.drop 48 = dktJ25_nextEntry_2 := dk_seg dksJ25_nextEntry_1 24 rfl rfl
theorem dJ25_nextEntry_0 : decode cJ25_nextEntry 0 = .ok (.aload_n 0, 1) := dk_42 (dk_at dksJ25_nextEntry_0 0 rfl rfl)
theorem dJ25_nextEntry_1 : decode cJ25_nextEntry 1 = .ok (.getfield 26, 3) := dk_180 0 26 (dk_at dksJ25_nextEntry_0 1 rfl rfl)
theorem dJ25_nextEntry_4 : decode cJ25_nextEntry 4 = .ok (.astore_n 1, 1) := dk_76 (dk_at dksJ25_nextEntry_0 4 rfl rfl)
theorem dJ25_nextEntry_5 : decode cJ25_nextEntry 5 = .ok (.aload_n 1, 1) := dk_43 (dk_at dksJ25_nextEntry_0 5 rfl rfl)
theorem dJ25_nextEntry_6 : decode cJ25_nextEntry 6 = .ok (.ifnonnull 11, 3) := dk_199 0 11 (dk_at dksJ25_nextEntry_0 6 rfl rfl)
theorem dJ25_nextEntry_9 : decode cJ25_nextEntry 9 = .ok (.new 29, 3) := dk_187 0 29 (dk_at dksJ25_nextEntry_0 9 rfl rfl)
theorem dJ25_nextEntry_12 : decode cJ25_nextEntry 12 = .ok (.dup, 1) := dk_89 (dk_at dksJ25_nextEntry_0 12 rfl rfl)
theorem dJ25_nextEntry_13 : decode cJ25_nextEntry 13 = .ok (.invokespecial 31, 3) := dk_183 0 31 (dk_at dksJ25_nextEntry_0 13 rfl rfl)
theorem dJ25_nextEntry_16 : decode cJ25_nextEntry 16 = .ok (.athrow, 1) := dk_191 (dk_at dksJ25_nextEntry_0 16 rfl rfl)
theorem dJ25_nextEntry_17 : decode cJ25_nextEntry 17 = .ok (.aload_n 0, 1) := dk_42 (dk_at dksJ25_nextEntry_0 17 rfl rfl)
theorem dJ25_nextEntry_18 : decode cJ25_nextEntry 18 = .ok (.getfield 1, 3) := dk_180 0 1 (dk_at dksJ25_nextEntry_0 18 rfl rfl)
theorem dJ25_nextEntry_21 : decode cJ25_nextEntry 21 = .ok (.getfield 13, 3) := dk_180 0 13 (dk_at dksJ25_nextEntry_0 21 rfl rfl)
theorem dJ25_nextEntry_24 : decode cJ25_nextEntry 24 = .ok (.aload_n 0, 1) := dk_42 (dk_at dksJ25_nextEntry_1 0 rfl rfl)
theorem dJ25_nextEntry_25 : decode cJ25_nextEntry 25 = .ok (.getfield 19, 3) := dk_180 0 19 (dk_at dksJ25_nextEntry_1 1 rfl rfl)
theorem dJ25_nextEntry_28 : decode cJ25_nextEntry 28 = .ok (.if_icmp .eq 11, 3) := dk_159 0 11 (dk_at dksJ25_nextEntry_1 4 rfl rfl)
theorem dJ25_nextEntry_31 : decode cJ25_nextEntry 31 = .ok (.new 32, 3) := dk_187 0 32 (dk_at dksJ25_nextEntry_1 7 rfl rfl)
theorem dJ25_nextEntry_34 : decode cJ25_nextEntry 34 = .ok (.dup, 1) := dk_89 (dk_at dksJ25_nextEntry_1 10 rfl rfl)
theorem dJ25_nextEntry_35 : decode cJ25_nextEntry 35 = .ok (.invokespecial 34, 3) := dk_183 0 34 (dk_at dksJ25_nextEntry_1 11 rfl rfl)
theorem dJ25_nextEntry_38 : decode cJ25_nextEntry 38 = .ok (.athrow, 1) := dk_191 (dk_at dksJ25_nextEntry_1 14 rfl rfl)
theorem dJ25_nextEntry_39 : decode cJ25_nextEntry 39 = .ok (.aload_n 0, 1) := dk_42 (dk_at dksJ25_nextEntry_1 15 rfl rfl)
theorem dJ25_nextEntry_40 : decode cJ25_nextEntry 40 = .ok (.aload_n 1, 1) := dk_43 (dk_at dksJ25_nextEntry_1 16 rfl rfl)
theorem dJ25_nextEntry_41 : decode cJ25_nextEntry 41 = .ok (.invokestatic 35, 3) := dk_184 0 35 (dk_at dksJ25_nextEntry_1 17 rfl rfl)
theorem dJ25_nextEntry_44 : decode cJ25_nextEntry 44 = .ok (.putfield 26, 3) := dk_181 0 26 (dk_at dksJ25_nextEntry_1 20 rfl rfl)
theorem dJ25_nextEntry_47 : decode cJ25_nextEntry 47 = .ok (.aload_n 0, 1) := dk_42 (dk_at dksJ25_nextEntry_1 23 rfl rfl)
theorem dJ25_nextEntry_48 : decode cJ25_nextEntry 48 = .ok (.aload_n 1, 1) := dk_43 (dk_at dksJ25_nextEntry_2 0 rfl rfl)
theorem dJ25_nextEntry_49 : decode cJ25_nextEntry 49 = .ok (.putfield 22, 3) := dk_181 0 22 (dk_at dksJ25_nextEntry_2 1 rfl rfl)
theorem dJ25_nextEntry_52 : decode cJ25_nextEntry 52 = .ok (.aload_n 1, 1) := dk_43 (dk_at dksJ25_nextEntry_2 4 rfl rfl)
theorem dJ25_nextEntry_53 : decode cJ25_nextEntry 53 = .ok (.areturn, 1) := dk_176 (dk_at dksJ25_nextEntry_2 5 rfl rfl)
theorem q107 : (Jvm.Cond.initialized "java/util/TreeMap$PrivateEntryIterator") ∈ lw_all := lw_g (lw_at lw_m1 34 rfl) rfl
theorem q183 : (Jvm.Cond.fieldLinkNest "java/util/TreeMap$PrivateEntryIterator" (13 : Nat) "java/util/TreeMap" "modCount" "I" "java/util/TreeMap") ∈ lw_tbl := lw_at lw_m1 110 rfl
theorem q984 : (Jvm.Cond.instanceMethod ({ cls := "java/util/TreeMap$PrivateEntryIterator", name := "<init>", desc := "(Ljava/util/TreeMap;Ljava/util/TreeMap$Entry;)V" } : Jvm.MethodName)) ∈ lw_all := lw_g (lw_at lw_m4 191 rfl) rfl
theorem q985 : (Jvm.Cond.code ({ cls := "java/util/TreeMap$PrivateEntryIterator", name := "<init>", desc := "(Ljava/util/TreeMap;Ljava/util/TreeMap$Entry;)V" } : Jvm.MethodName) prog_79_method_1_code (3 : Nat) (Option.none : Option Jvm.ClassFile.FieldType)) ∈ lw_all := lw_g (lw_at lw_m4 192 rfl) rfl
theorem q986 : (Jvm.Cond.methodLink "java/util/TreeMap$PrivateEntryIterator" (7 : Nat) ({ cls := "java/lang/Object", name := "<init>", desc := "()V" } : Jvm.MethodName)) ∈ lw_all := lw_g (lw_at lw_m4 193 rfl) rfl
theorem q987 : (Jvm.Cond.fieldLink "java/util/TreeMap$PrivateEntryIterator" (26 : Nat) "java/util/TreeMap$PrivateEntryIterator" "next" "Ljava/util/TreeMap$Entry;") ∈ lw_all := lw_g (lw_at lw_m4 194 rfl) rfl
theorem q988 : (Jvm.Cond.fieldLink "java/util/TreeMap$PrivateEntryIterator" (22 : Nat) "java/util/TreeMap$PrivateEntryIterator" "lastReturned" "Ljava/util/TreeMap$Entry;") ∈ lw_all := lw_g (lw_at lw_m4 195 rfl) rfl
theorem q989 : (Jvm.Cond.fieldLink "java/util/TreeMap$PrivateEntryIterator" (19 : Nat) "java/util/TreeMap$PrivateEntryIterator" "expectedModCount" "I") ∈ lw_all := lw_g (lw_at lw_m4 196 rfl) rfl
theorem q990 : (Jvm.Cond.fieldLink "java/util/TreeMap$PrivateEntryIterator" (1 : Nat) "java/util/TreeMap$PrivateEntryIterator" "this$0" "Ljava/util/TreeMap;") ∈ lw_all := lw_g (lw_at lw_m4 197 rfl) rfl
theorem q992 : (Jvm.Cond.soleField "java/util/TreeMap$PrivateEntryIterator" "next") ∈ lw_all := lw_g (lw_at lw_m4 199 rfl) rfl
theorem q994 : (Jvm.Cond.soleField "java/util/TreeMap$PrivateEntryIterator" "lastReturned") ∈ lw_all := lw_g (lw_at lw_m4 201 rfl) rfl
theorem q996 : (Jvm.Cond.soleField "java/util/TreeMap$PrivateEntryIterator" "expectedModCount") ∈ lw_all := lw_g (lw_at lw_m4 203 rfl) rfl
theorem q998 : (Jvm.Cond.soleField "java/util/TreeMap$PrivateEntryIterator" "this$0") ∈ lw_all := lw_g (lw_at lw_m4 205 rfl) rfl
theorem q1104 : (Jvm.Cond.instanceMethod ({ cls := "java/util/TreeMap$PrivateEntryIterator", name := "hasNext", desc := "()Z" } : Jvm.MethodName)) ∈ lw_all := lw_g (lw_at lw_m5 71 rfl) rfl
theorem q1105 : (Jvm.Cond.publicMethod ({ cls := "java/util/TreeMap$PrivateEntryIterator", name := "hasNext", desc := "()Z" } : Jvm.MethodName)) ∈ lw_tbl := lw_at lw_m5 72 rfl
theorem q1106 : (Jvm.Cond.code ({ cls := "java/util/TreeMap$PrivateEntryIterator", name := "hasNext", desc := "()Z" } : Jvm.MethodName) prog_79_method_2_code (1 : Nat) (Option.some Jvm.ClassFile.FieldType.boolean)) ∈ lw_all := lw_g (lw_at lw_m5 73 rfl) rfl
theorem q1156 : (Jvm.Cond.declares ({ cls := "java/util/TreeMap$PrivateEntryIterator", name := "nextEntry", desc := "()Ljava/util/TreeMap$Entry;" } : Jvm.MethodName)) ∈ lw_tbl := lw_at lw_m5 123 rfl
theorem q1158 : (Jvm.Cond.instanceMethod ({ cls := "java/util/TreeMap$PrivateEntryIterator", name := "nextEntry", desc := "()Ljava/util/TreeMap$Entry;" } : Jvm.MethodName)) ∈ lw_all := lw_g (lw_at lw_m5 125 rfl) rfl
theorem q1159 : (Jvm.Cond.code ({ cls := "java/util/TreeMap$PrivateEntryIterator", name := "nextEntry", desc := "()Ljava/util/TreeMap$Entry;" } : Jvm.MethodName) prog_79_method_3_code (2 : Nat) (Option.some (Jvm.ClassFile.FieldType.object "java/util/TreeMap$Entry"))) ∈ lw_all := lw_g (lw_at lw_m5 126 rfl) rfl
theorem q1160 : (Jvm.Cond.methodLink "java/util/TreeMap$PrivateEntryIterator" (35 : Nat) ({ cls := "java/util/TreeMap", name := "successor", desc := "(Ljava/util/TreeMap$Entry;)Ljava/util/TreeMap$Entry;" } : Jvm.MethodName)) ∈ lw_all := lw_g (lw_at lw_m5 127 rfl) rfl
/-! java/util/TreeMap$EntryIterator -/
set_option maxRecDepth 100000
def RJ26 : String := "java/util/TreeMap$EntryIterator"
def TJ26 : u_T := fun k => match k with
  | 0 => ("java/util/TreeMap$PrivateEntryIterator", "next", "Ljava/util/TreeMap$Entry;", false)
  | 1 => ("java/util/TreeMap$PrivateEntryIterator", "lastReturned", "Ljava/util/TreeMap$Entry;", false)
  | 2 => ("java/util/TreeMap$PrivateEntryIterator", "expectedModCount", "I", false)
  | _ => ("java/util/TreeMap$PrivateEntryIterator", "this$0", "Ljava/util/TreeMap;", true)
def tyJ26 : Nat → FieldType := fun k => match k with
  | 0 => .object "java/util/TreeMap$Entry"
  | 1 => .object "java/util/TreeMap$Entry"
  | 2 => .int
  | _ => .object "java/util/TreeMap"
abbrev wsJ260 : List Cond := u_ws RJ26 TJ26 4
theorem nmJ26 : ∀ a, a < 4 → ∀ b, b < 4 → a ≠ b → (TJ26 a).2.1 ≠ (TJ26 b).2.1 := by decide +kernel
theorem tyJ26_ok : ∀ k, k < 4 → parseFieldDescriptor (TJ26 k).2.2.1 = some (tyJ26 k) := by decide +kernel
abbrev cJ26_init : ByteArray := prog_74_method_1_code
def yJ26_init : MethodName := ⟨RJ26, "<init>", "(Ljava/util/TreeMap;Ljava/util/TreeMap$Entry;)V"⟩
def dkwJ26_init_0 : List UInt8 := [42, 43, 44, 183, 0, 1, 177]
abbrev dktJ26_init_0 : List UInt8 := dkwJ26_init_0 ++ []
theorem dksJ26_init_0 : cJ26_init.data.toList.drop 0 = dktJ26_init_0 := by decide +kernel
theorem dJ26_init_0 : decode cJ26_init 0 = .ok (.aload_n 0, 1) := dk_42 (dk_at dksJ26_init_0 0 rfl rfl)
theorem dJ26_init_1 : decode cJ26_init 1 = .ok (.aload_n 1, 1) := dk_43 (dk_at dksJ26_init_0 1 rfl rfl)
theorem dJ26_init_2 : decode cJ26_init 2 = .ok (.aload_n 2, 1) := dk_44 (dk_at dksJ26_init_0 2 rfl rfl)
theorem dJ26_init_3 : decode cJ26_init 3 = .ok (.invokespecial 1, 3) := dk_183 0 1 (dk_at dksJ26_init_0 3 rfl rfl)
theorem dJ26_init_6 : decode cJ26_init 6 = .ok (.return_, 1) := dk_177 (dk_at dksJ26_init_0 6 rfl rfl)
abbrev cJ26_next : ByteArray := prog_74_method_3_code
def yJ26_next : MethodName := ⟨RJ26, "next", "()Ljava/lang/Object;"⟩
theorem dJ26_next_0 : decode cJ26_next 0 = .ok (.aload_n 0, 1) := by decide +kernel
theorem dJ26_next_1 : decode cJ26_next 1 = .ok (.invokevirtual 13, 3) := by decide +kernel
theorem dJ26_next_4 : decode cJ26_next 4 = .ok (.areturn, 1) := by decide +kernel
abbrev cJ26_next_2 : ByteArray := prog_74_method_2_code
def yJ26_next_2 : MethodName := ⟨RJ26, "next", "()Ljava/util/Map$Entry;"⟩
theorem dJ26_next_2_0 : decode cJ26_next_2 0 = .ok (.aload_n 0, 1) := by decide +kernel
theorem dJ26_next_2_1 : decode cJ26_next_2 1 = .ok (.invokevirtual 7, 3) := by decide +kernel
theorem dJ26_next_2_4 : decode cJ26_next_2 4 = .ok (.areturn, 1) := by decide +kernel
theorem q108 : (Jvm.Cond.initialized "java/util/TreeMap$EntryIterator") ∈ lw_all := lw_g (lw_at lw_m1 35 rfl) rfl
theorem q462 : (Jvm.Cond.selects "java/util/TreeMap$EntryIterator" ({ cls := "java/lang/Object", name := "getClass", desc := "()Ljava/lang/Class;" } : Jvm.MethodName) ({ cls := "java/lang/Object", name := "getClass", desc := "()Ljava/lang/Class;" } : Jvm.MethodName)) ∈ lw_all := lw_g (lw_at lw_m2 149 rfl) rfl
theorem q975 : (Jvm.Cond.instantiable "java/util/TreeMap$EntryIterator" (4 : Nat)) ∈ lw_all := lw_g (lw_at lw_m4 182 rfl) rfl
theorem q981 : (Jvm.Cond.instanceMethod ({ cls := "java/util/TreeMap$EntryIterator", name := "<init>", desc := "(Ljava/util/TreeMap;Ljava/util/TreeMap$Entry;)V" } : Jvm.MethodName)) ∈ lw_all := lw_g (lw_at lw_m4 188 rfl) rfl
theorem q982 : (Jvm.Cond.code ({ cls := "java/util/TreeMap$EntryIterator", name := "<init>", desc := "(Ljava/util/TreeMap;Ljava/util/TreeMap$Entry;)V" } : Jvm.MethodName) prog_74_method_1_code (3 : Nat) (Option.none : Option Jvm.ClassFile.FieldType)) ∈ lw_all := lw_g (lw_at lw_m4 189 rfl) rfl
theorem q983 : (Jvm.Cond.methodLink "java/util/TreeMap$EntryIterator" (1 : Nat) ({ cls := "java/util/TreeMap$PrivateEntryIterator", name := "<init>", desc := "(Ljava/util/TreeMap;Ljava/util/TreeMap$Entry;)V" } : Jvm.MethodName)) ∈ lw_all := lw_g (lw_at lw_m4 190 rfl) rfl
theorem q991 : (Jvm.Cond.lays "java/util/TreeMap$EntryIterator" "java/util/TreeMap$PrivateEntryIterator" "next" "Ljava/util/TreeMap$Entry;") ∈ lw_all := lw_g (lw_at lw_m4 198 rfl) rfl
theorem q993 : (Jvm.Cond.lays "java/util/TreeMap$EntryIterator" "java/util/TreeMap$PrivateEntryIterator" "lastReturned" "Ljava/util/TreeMap$Entry;") ∈ lw_all := lw_g (lw_at lw_m4 200 rfl) rfl
theorem q995 : (Jvm.Cond.lays "java/util/TreeMap$EntryIterator" "java/util/TreeMap$PrivateEntryIterator" "expectedModCount" "I") ∈ lw_all := lw_g (lw_at lw_m4 202 rfl) rfl
theorem q997 : (Jvm.Cond.laysFinal "java/util/TreeMap$EntryIterator" "java/util/TreeMap$PrivateEntryIterator" "this$0" "Ljava/util/TreeMap;") ∈ lw_all := lw_g (lw_at lw_m4 204 rfl) rfl
theorem q999 : (Jvm.Cond.superclass "java/util/TreeMap$EntryIterator" "java/util/TreeMap$PrivateEntryIterator") ∈ lw_all := lw_g (lw_at lw_m4 206 rfl) rfl
theorem q1101 : (Jvm.Cond.castable "java/util/TreeMap$EntryIterator" "java/util/Iterator") ∈ lw_tbl := lw_at lw_m5 68 rfl
theorem q1102 : (Jvm.Cond.selects "java/util/TreeMap$EntryIterator" ({ cls := "java/util/Iterator", name := "hasNext", desc := "()Z" } : Jvm.MethodName) ({ cls := "java/util/TreeMap$PrivateEntryIterator", name := "hasNext", desc := "()Z" } : Jvm.MethodName)) ∈ lw_all := lw_g (lw_at lw_m5 69 rfl) rfl
theorem q1103 : (Jvm.Cond.unhidden "java/util/TreeMap$EntryIterator" "hasNext" "()Z") ∈ lw_tbl := lw_at lw_m5 70 rfl
theorem q1145 : (Jvm.Cond.selects "java/util/TreeMap$EntryIterator" ({ cls := "java/util/Iterator", name := "next", desc := "()Ljava/lang/Object;" } : Jvm.MethodName) ({ cls := "java/util/TreeMap$EntryIterator", name := "next", desc := "()Ljava/lang/Object;" } : Jvm.MethodName)) ∈ lw_all := lw_g (lw_at lw_m5 112 rfl) rfl
theorem q1146 : (Jvm.Cond.unhidden "java/util/TreeMap$EntryIterator" "next" "()Ljava/lang/Object;") ∈ lw_tbl := lw_at lw_m5 113 rfl
theorem q1147 : (Jvm.Cond.instanceMethod ({ cls := "java/util/TreeMap$EntryIterator", name := "next", desc := "()Ljava/lang/Object;" } : Jvm.MethodName)) ∈ lw_all := lw_g (lw_at lw_m5 114 rfl) rfl
theorem q1148 : (Jvm.Cond.publicMethod ({ cls := "java/util/TreeMap$EntryIterator", name := "next", desc := "()Ljava/lang/Object;" } : Jvm.MethodName)) ∈ lw_tbl := lw_at lw_m5 115 rfl
theorem q1149 : (Jvm.Cond.code ({ cls := "java/util/TreeMap$EntryIterator", name := "next", desc := "()Ljava/lang/Object;" } : Jvm.MethodName) prog_74_method_3_code (1 : Nat) (Option.some (Jvm.ClassFile.FieldType.object "java/lang/Object"))) ∈ lw_all := lw_g (lw_at lw_m5 116 rfl) rfl
theorem q1150 : (Jvm.Cond.methodLink "java/util/TreeMap$EntryIterator" (13 : Nat) ({ cls := "java/util/TreeMap$EntryIterator", name := "next", desc := "()Ljava/util/Map$Entry;" } : Jvm.MethodName)) ∈ lw_all := lw_g (lw_at lw_m5 117 rfl) rfl
theorem q1151 : (Jvm.Cond.instanceMethod ({ cls := "java/util/TreeMap$EntryIterator", name := "next", desc := "()Ljava/util/Map$Entry;" } : Jvm.MethodName)) ∈ lw_all := lw_g (lw_at lw_m5 118 rfl) rfl
theorem q1152 : (Jvm.Cond.selects "java/util/TreeMap$EntryIterator" ({ cls := "java/util/TreeMap$EntryIterator", name := "next", desc := "()Ljava/util/Map$Entry;" } : Jvm.MethodName) ({ cls := "java/util/TreeMap$EntryIterator", name := "next", desc := "()Ljava/util/Map$Entry;" } : Jvm.MethodName)) ∈ lw_all := lw_g (lw_at lw_m5 119 rfl) rfl
theorem q1153 : (Jvm.Cond.code ({ cls := "java/util/TreeMap$EntryIterator", name := "next", desc := "()Ljava/util/Map$Entry;" } : Jvm.MethodName) prog_74_method_2_code (1 : Nat) (Option.some (Jvm.ClassFile.FieldType.object "java/util/Map$Entry"))) ∈ lw_all := lw_g (lw_at lw_m5 120 rfl) rfl
theorem q1154 : (Jvm.Cond.methodLink "java/util/TreeMap$EntryIterator" (7 : Nat) ({ cls := "java/util/TreeMap$EntryIterator", name := "nextEntry", desc := "()Ljava/util/TreeMap$Entry;" } : Jvm.MethodName)) ∈ lw_all := lw_g (lw_at lw_m5 121 rfl) rfl
theorem q1155 : (Jvm.Cond.sameMethod "java/util/TreeMap$EntryIterator" "java/util/TreeMap$PrivateEntryIterator" "nextEntry" "()Ljava/util/TreeMap$Entry;") ∈ lw_all := lw_g (lw_at lw_m5 122 rfl) rfl
theorem q1157 : (Jvm.Cond.selects "java/util/TreeMap$EntryIterator" ({ cls := "java/util/TreeMap$EntryIterator", name := "nextEntry", desc := "()Ljava/util/TreeMap$Entry;" } : Jvm.MethodName) ({ cls := "java/util/TreeMap$PrivateEntryIterator", name := "nextEntry", desc := "()Ljava/util/TreeMap$Entry;" } : Jvm.MethodName)) ∈ lw_all := lw_g (lw_at lw_m5 124 rfl) rfl
theorem q2957 : (Jvm.Cond.castable "java/util/TreeMap$EntryIterator" "java/lang/Object") ∈ lw_tbl := lw_at lw_m13 4 rfl
theorem in_J26 : ∀ w ∈ wsJ260, w ∈ lw_all := lw_in wsJ260 [991, 993, 995, 997] (by decide +kernel) (by decide +kernel)
/-! java/util/TreeMap$ValueIterator -/
set_option maxRecDepth 100000
def RJ28 : String := "java/util/TreeMap$ValueIterator"
def TJ28 : u_T := fun k => match k with
  | 0 => ("java/util/TreeMap$PrivateEntryIterator", "next", "Ljava/util/TreeMap$Entry;", false)
  | 1 => ("java/util/TreeMap$PrivateEntryIterator", "lastReturned", "Ljava/util/TreeMap$Entry;", false)
  | 2 => ("java/util/TreeMap$PrivateEntryIterator", "expectedModCount", "I", false)
  | _ => ("java/util/TreeMap$PrivateEntryIterator", "this$0", "Ljava/util/TreeMap;", true)
def tyJ28 : Nat → FieldType := fun k => match k with
  | 0 => .object "java/util/TreeMap$Entry"
  | 1 => .object "java/util/TreeMap$Entry"
  | 2 => .int
  | _ => .object "java/util/TreeMap"
abbrev wsJ280 : List Cond := u_ws RJ28 TJ28 4
theorem nmJ28 : ∀ a, a < 4 → ∀ b, b < 4 → a ≠ b → (TJ28 a).2.1 ≠ (TJ28 b).2.1 := by decide +kernel
theorem tyJ28_ok : ∀ k, k < 4 → parseFieldDescriptor (TJ28 k).2.2.1 = some (tyJ28 k) := by decide +kernel
abbrev cJ28_init : ByteArray := prog_80_method_1_code
def yJ28_init : MethodName := ⟨RJ28, "<init>", "(Ljava/util/TreeMap;Ljava/util/TreeMap$Entry;)V"⟩
def dkwJ28_init_0 : List UInt8 := [42, 43, 44, 183, 0, 1, 177]
abbrev dktJ28_init_0 : List UInt8 := dkwJ28_init_0 ++ []
theorem dksJ28_init_0 : cJ28_init.data.toList.drop 0 = dktJ28_init_0 := by decide +kernel
theorem dJ28_init_0 : decode cJ28_init 0 = .ok (.aload_n 0, 1) := dk_42 (dk_at dksJ28_init_0 0 rfl rfl)
theorem dJ28_init_1 : decode cJ28_init 1 = .ok (.aload_n 1, 1) := dk_43 (dk_at dksJ28_init_0 1 rfl rfl)
theorem dJ28_init_2 : decode cJ28_init 2 = .ok (.aload_n 2, 1) := dk_44 (dk_at dksJ28_init_0 2 rfl rfl)
theorem dJ28_init_3 : decode cJ28_init 3 = .ok (.invokespecial 1, 3) := dk_183 0 1 (dk_at dksJ28_init_0 3 rfl rfl)
theorem dJ28_init_6 : decode cJ28_init 6 = .ok (.return_, 1) := dk_177 (dk_at dksJ28_init_0 6 rfl rfl)
abbrev cJ28_next : ByteArray := prog_80_method_2_code
def yJ28_next : MethodName := ⟨RJ28, "next", "()Ljava/lang/Object;"⟩
def dkwJ28_next_0 : List UInt8 := [42, 182, 0, 7, 180, 0, 13, 176]
abbrev dktJ28_next_0 : List UInt8 := dkwJ28_next_0 ++ []
theorem dksJ28_next_0 : cJ28_next.data.toList.drop 0 = dktJ28_next_0 := by decide +kernel
theorem dJ28_next_0 : decode cJ28_next 0 = .ok (.aload_n 0, 1) := dk_42 (dk_at dksJ28_next_0 0 rfl rfl)
theorem dJ28_next_1 : decode cJ28_next 1 = .ok (.invokevirtual 7, 3) := dk_182 0 7 (dk_at dksJ28_next_0 1 rfl rfl)
theorem dJ28_next_4 : decode cJ28_next 4 = .ok (.getfield 13, 3) := dk_180 0 13 (dk_at dksJ28_next_0 4 rfl rfl)
theorem dJ28_next_7 : decode cJ28_next 7 = .ok (.areturn, 1) := dk_176 (dk_at dksJ28_next_0 7 rfl rfl)
theorem q110 : (Jvm.Cond.initialized "java/util/TreeMap$ValueIterator") ∈ lw_all := lw_g (lw_at lw_m1 37 rfl) rfl
theorem q466 : (Jvm.Cond.selects "java/util/TreeMap$ValueIterator" ({ cls := "java/lang/Object", name := "getClass", desc := "()Ljava/lang/Class;" } : Jvm.MethodName) ({ cls := "java/lang/Object", name := "getClass", desc := "()Ljava/lang/Class;" } : Jvm.MethodName)) ∈ lw_all := lw_g (lw_at lw_m2 153 rfl) rfl
theorem q1034 : (Jvm.Cond.instantiable "java/util/TreeMap$ValueIterator" (4 : Nat)) ∈ lw_all := lw_g (lw_at lw_m5 1 rfl) rfl
theorem q1037 : (Jvm.Cond.instanceMethod ({ cls := "java/util/TreeMap$ValueIterator", name := "<init>", desc := "(Ljava/util/TreeMap;Ljava/util/TreeMap$Entry;)V" } : Jvm.MethodName)) ∈ lw_all := lw_g (lw_at lw_m5 4 rfl) rfl
theorem q1038 : (Jvm.Cond.code ({ cls := "java/util/TreeMap$ValueIterator", name := "<init>", desc := "(Ljava/util/TreeMap;Ljava/util/TreeMap$Entry;)V" } : Jvm.MethodName) prog_80_method_1_code (3 : Nat) (Option.none : Option Jvm.ClassFile.FieldType)) ∈ lw_all := lw_g (lw_at lw_m5 5 rfl) rfl
theorem q1039 : (Jvm.Cond.methodLink "java/util/TreeMap$ValueIterator" (1 : Nat) ({ cls := "java/util/TreeMap$PrivateEntryIterator", name := "<init>", desc := "(Ljava/util/TreeMap;Ljava/util/TreeMap$Entry;)V" } : Jvm.MethodName)) ∈ lw_all := lw_g (lw_at lw_m5 6 rfl) rfl
theorem q1040 : (Jvm.Cond.lays "java/util/TreeMap$ValueIterator" "java/util/TreeMap$PrivateEntryIterator" "next" "Ljava/util/TreeMap$Entry;") ∈ lw_all := lw_g (lw_at lw_m5 7 rfl) rfl
theorem q1041 : (Jvm.Cond.lays "java/util/TreeMap$ValueIterator" "java/util/TreeMap$PrivateEntryIterator" "lastReturned" "Ljava/util/TreeMap$Entry;") ∈ lw_all := lw_g (lw_at lw_m5 8 rfl) rfl
theorem q1042 : (Jvm.Cond.lays "java/util/TreeMap$ValueIterator" "java/util/TreeMap$PrivateEntryIterator" "expectedModCount" "I") ∈ lw_all := lw_g (lw_at lw_m5 9 rfl) rfl
theorem q1043 : (Jvm.Cond.laysFinal "java/util/TreeMap$ValueIterator" "java/util/TreeMap$PrivateEntryIterator" "this$0" "Ljava/util/TreeMap;") ∈ lw_all := lw_g (lw_at lw_m5 10 rfl) rfl
theorem q1044 : (Jvm.Cond.superclass "java/util/TreeMap$ValueIterator" "java/util/TreeMap$PrivateEntryIterator") ∈ lw_all := lw_g (lw_at lw_m5 11 rfl) rfl
theorem q1110 : (Jvm.Cond.castable "java/util/TreeMap$ValueIterator" "java/util/Iterator") ∈ lw_tbl := lw_at lw_m5 77 rfl
theorem q1111 : (Jvm.Cond.selects "java/util/TreeMap$ValueIterator" ({ cls := "java/util/Iterator", name := "hasNext", desc := "()Z" } : Jvm.MethodName) ({ cls := "java/util/TreeMap$PrivateEntryIterator", name := "hasNext", desc := "()Z" } : Jvm.MethodName)) ∈ lw_all := lw_g (lw_at lw_m5 78 rfl) rfl
theorem q1112 : (Jvm.Cond.unhidden "java/util/TreeMap$ValueIterator" "hasNext" "()Z") ∈ lw_tbl := lw_at lw_m5 79 rfl
theorem q1171 : (Jvm.Cond.selects "java/util/TreeMap$ValueIterator" ({ cls := "java/util/Iterator", name := "next", desc := "()Ljava/lang/Object;" } : Jvm.MethodName) ({ cls := "java/util/TreeMap$ValueIterator", name := "next", desc := "()Ljava/lang/Object;" } : Jvm.MethodName)) ∈ lw_all := lw_g (lw_at lw_m5 138 rfl) rfl
theorem q1172 : (Jvm.Cond.unhidden "java/util/TreeMap$ValueIterator" "next" "()Ljava/lang/Object;") ∈ lw_tbl := lw_at lw_m5 139 rfl
theorem q1173 : (Jvm.Cond.instanceMethod ({ cls := "java/util/TreeMap$ValueIterator", name := "next", desc := "()Ljava/lang/Object;" } : Jvm.MethodName)) ∈ lw_all := lw_g (lw_at lw_m5 140 rfl) rfl
theorem q1174 : (Jvm.Cond.publicMethod ({ cls := "java/util/TreeMap$ValueIterator", name := "next", desc := "()Ljava/lang/Object;" } : Jvm.MethodName)) ∈ lw_tbl := lw_at lw_m5 141 rfl
theorem q1175 : (Jvm.Cond.code ({ cls := "java/util/TreeMap$ValueIterator", name := "next", desc := "()Ljava/lang/Object;" } : Jvm.MethodName) prog_80_method_2_code (1 : Nat) (Option.some (Jvm.ClassFile.FieldType.object "java/lang/Object"))) ∈ lw_all := lw_g (lw_at lw_m5 142 rfl) rfl
theorem q1176 : (Jvm.Cond.methodLink "java/util/TreeMap$ValueIterator" (7 : Nat) ({ cls := "java/util/TreeMap$ValueIterator", name := "nextEntry", desc := "()Ljava/util/TreeMap$Entry;" } : Jvm.MethodName)) ∈ lw_all := lw_g (lw_at lw_m5 143 rfl) rfl
theorem q1177 : (Jvm.Cond.sameMethod "java/util/TreeMap$ValueIterator" "java/util/TreeMap$PrivateEntryIterator" "nextEntry" "()Ljava/util/TreeMap$Entry;") ∈ lw_all := lw_g (lw_at lw_m5 144 rfl) rfl
theorem q1178 : (Jvm.Cond.selects "java/util/TreeMap$ValueIterator" ({ cls := "java/util/TreeMap$ValueIterator", name := "nextEntry", desc := "()Ljava/util/TreeMap$Entry;" } : Jvm.MethodName) ({ cls := "java/util/TreeMap$PrivateEntryIterator", name := "nextEntry", desc := "()Ljava/util/TreeMap$Entry;" } : Jvm.MethodName)) ∈ lw_all := lw_g (lw_at lw_m5 145 rfl) rfl
theorem q1432 : (Jvm.Cond.fieldLink "java/util/TreeMap$ValueIterator" (13 : Nat) "java/util/TreeMap$Entry" "value" "Ljava/lang/Object;") ∈ lw_all := lw_g (lw_at lw_m6 159 rfl) rfl
theorem q2941 : (Jvm.Cond.castable "java/util/TreeMap$ValueIterator" "java/lang/Object") ∈ lw_tbl := lw_at lw_m12 228 rfl
theorem in_J28 : ∀ w ∈ wsJ280, w ∈ lw_all := lw_in wsJ280 [1040, 1041, 1042, 1043] (by decide +kernel) (by decide +kernel)
/-! java/util/AbstractSet -/
set_option maxRecDepth 100000
def RJ29 : String := "java/util/AbstractSet"
abbrev cJ29_init : ByteArray := prog_48_method_1_code
def yJ29_init : MethodName := ⟨RJ29, "<init>", "()V"⟩
theorem dJ29_init_0 : decode cJ29_init 0 = .ok (.aload_n 0, 1) := by decide +kernel
theorem dJ29_init_1 : decode cJ29_init 1 = .ok (.invokespecial 1, 3) := by decide +kernel
theorem dJ29_init_4 : decode cJ29_init 4 = .ok (.return_, 1) := by decide +kernel
theorem q111 : (Jvm.Cond.initialized "java/util/AbstractSet") ∈ lw_all := lw_g (lw_at lw_m1 38 rfl) rfl
theorem q1066 : (Jvm.Cond.instanceMethod ({ cls := "java/util/AbstractSet", name := "<init>", desc := "()V" } : Jvm.MethodName)) ∈ lw_all := lw_g (lw_at lw_m5 33 rfl) rfl
theorem q1067 : (Jvm.Cond.code ({ cls := "java/util/AbstractSet", name := "<init>", desc := "()V" } : Jvm.MethodName) prog_48_method_1_code (1 : Nat) (Option.none : Option Jvm.ClassFile.FieldType)) ∈ lw_all := lw_g (lw_at lw_m5 34 rfl) rfl
theorem q1068 : (Jvm.Cond.methodLink "java/util/AbstractSet" (1 : Nat) ({ cls := "java/util/AbstractCollection", name := "<init>", desc := "()V" } : Jvm.MethodName)) ∈ lw_all := lw_g (lw_at lw_m5 35 rfl) rfl
/-! java/util/TreeMap$Entry -/
set_option maxRecDepth 100000
def RJ34 : String := "java/util/TreeMap$Entry"
def TJ34 : u_T := fun k => match k with
  | 0 => ("java/util/TreeMap$Entry", "key", "Ljava/lang/Object;", false)
  | 1 => ("java/util/TreeMap$Entry", "value", "Ljava/lang/Object;", false)
  | 2 => ("java/util/TreeMap$Entry", "left", "Ljava/util/TreeMap$Entry;", false)
  | 3 => ("java/util/TreeMap$Entry", "right", "Ljava/util/TreeMap$Entry;", false)
  | 4 => ("java/util/TreeMap$Entry", "parent", "Ljava/util/TreeMap$Entry;", false)
  | _ => ("java/util/TreeMap$Entry", "color", "Z", false)
def tyJ34 : Nat → FieldType := fun k => match k with
  | 0 => .object "java/lang/Object"
  | 1 => .object "java/lang/Object"
  | 2 => .object "java/util/TreeMap$Entry"
  | 3 => .object "java/util/TreeMap$Entry"
  | 4 => .object "java/util/TreeMap$Entry"
  | _ => .boolean
abbrev wsJ340 : List Cond := u_ws RJ34 TJ34 6
theorem nmJ34 : ∀ a, a < 6 → ∀ b, b < 6 → a ≠ b → (TJ34 a).2.1 ≠ (TJ34 b).2.1 := by decide +kernel
theorem tyJ34_ok : ∀ k, k < 6 → parseFieldDescriptor (TJ34 k).2.2.1 = some (tyJ34 k) := by decide +kernel
abbrev cJ34_init : ByteArray := prog_73_method_1_code
def yJ34_init : MethodName := ⟨RJ34, "<init>", "(Ljava/lang/Object;Ljava/lang/Object;Ljava/util/TreeMap$Entry;)V"⟩
def dkwJ34_init_1 : List UInt8 := [177]
abbrev dktJ34_init_1 : List UInt8 := dkwJ34_init_1 ++ []
def dkwJ34_init_0 : List UInt8 := [42, 183, 0, 3, 42, 4, 181, 0, 9, 42, 43, 181, 0, 15, 42, 44, 181, 0, 19, 42, 45, 181, 0, 22]
abbrev dktJ34_init_0 : List UInt8 := dkwJ34_init_0 ++ dktJ34_init_1
theorem dksJ34_init_0 : cJ34_init.data.toList.drop 0 = dktJ34_init_0 := by decide +kernel
theorem dksJ34_init_1 : cJ34_init.data.toList.drop 24 = dktJ34_init_1 := dk_seg dksJ34_init_0 24 rfl rfl
theorem dJ34_init_0 : decode cJ34_init 0 = .ok (.aload_n 0, 1) := dk_42 (dk_at dksJ34_init_0 0 rfl rfl)
theorem dJ34_init_1 : decode cJ34_init 1 = .ok (.invokespecial 3, 3) := dk_183 0 3 (dk_at dksJ34_init_0 1 rfl rfl)
theorem dJ34_init_4 : decode cJ34_init 4 = .ok (.aload_n 0, 1) := dk_42 (dk_at dksJ34_init_0 4 rfl rfl)
theorem dJ34_init_5 : decode cJ34_init 5 = .ok (.iconst 1, 1) := dk_4 (dk_at dksJ34_init_0 5 rfl rfl)
theorem dJ34_init_6 : decode cJ34_init 6 = .ok (.putfield 9, 3) := dk_181 0 9 (dk_at dksJ34_init_0 6 rfl rfl)
theorem dJ34_init_9 : decode cJ34_init 9 = .ok (.aload_n 0, 1) := dk_42 (dk_at dksJ34_init_0 9 rfl rfl)
theorem dJ34_init_10 : decode cJ34_init 10 = .ok (.aload_n 1, 1) := dk_43 (dk_at dksJ34_init_0 10 rfl rfl)
theorem dJ34_init_11 : decode cJ34_init 11 = .ok (.putfield 15, 3) := dk_181 0 15 (dk_at dksJ34_init_0 11 rfl rfl)
theorem dJ34_init_14 : decode cJ34_init 14 = .ok (.aload_n 0, 1) := dk_42 (dk_at dksJ34_init_0 14 rfl rfl)
theorem dJ34_init_15 : decode cJ34_init 15 = .ok (.aload_n 2, 1) := dk_44 (dk_at dksJ34_init_0 15 rfl rfl)
theorem dJ34_init_16 : decode cJ34_init 16 = .ok (.putfield 19, 3) := dk_181 0 19 (dk_at dksJ34_init_0 16 rfl rfl)
theorem dJ34_init_19 : decode cJ34_init 19 = .ok (.aload_n 0, 1) := dk_42 (dk_at dksJ34_init_0 19 rfl rfl)
theorem dJ34_init_20 : decode cJ34_init 20 = .ok (.aload_n 3, 1) := dk_45 (dk_at dksJ34_init_0 20 rfl rfl)
theorem dJ34_init_21 : decode cJ34_init 21 = .ok (.putfield 22, 3) := dk_181 0 22 (dk_at dksJ34_init_0 21 rfl rfl)
theorem dJ34_init_24 : decode cJ34_init 24 = .ok (.return_, 1) := dk_177 (dk_at dksJ34_init_1 0 rfl rfl)
theorem q119 : (Jvm.Cond.initialized "java/util/TreeMap$Entry") ∈ lw_all := lw_g (lw_at lw_m1 46 rfl) rfl
theorem q461 : (Jvm.Cond.selects "java/util/TreeMap$Entry" ({ cls := "java/lang/Object", name := "getClass", desc := "()Ljava/lang/Class;" } : Jvm.MethodName) ({ cls := "java/lang/Object", name := "getClass", desc := "()Ljava/lang/Class;" } : Jvm.MethodName)) ∈ lw_all := lw_g (lw_at lw_m2 148 rfl) rfl
theorem q1423 : (Jvm.Cond.instantiable "java/util/TreeMap$Entry" (6 : Nat)) ∈ lw_all := lw_g (lw_at lw_m6 150 rfl) rfl
theorem q1425 : (Jvm.Cond.instanceMethod ({ cls := "java/util/TreeMap$Entry", name := "<init>", desc := "(Ljava/lang/Object;Ljava/lang/Object;Ljava/util/TreeMap$Entry;)V" } : Jvm.MethodName)) ∈ lw_all := lw_g (lw_at lw_m6 152 rfl) rfl
theorem q1426 : (Jvm.Cond.code ({ cls := "java/util/TreeMap$Entry", name := "<init>", desc := "(Ljava/lang/Object;Ljava/lang/Object;Ljava/util/TreeMap$Entry;)V" } : Jvm.MethodName) prog_73_method_1_code (4 : Nat) (Option.none : Option Jvm.ClassFile.FieldType)) ∈ lw_all := lw_g (lw_at lw_m6 153 rfl) rfl
theorem q1427 : (Jvm.Cond.methodLink "java/util/TreeMap$Entry" (3 : Nat) ({ cls := "java/lang/Object", name := "<init>", desc := "()V" } : Jvm.MethodName)) ∈ lw_all := lw_g (lw_at lw_m6 154 rfl) rfl
theorem q1428 : (Jvm.Cond.fieldLink "java/util/TreeMap$Entry" (15 : Nat) "java/util/TreeMap$Entry" "key" "Ljava/lang/Object;") ∈ lw_all := lw_g (lw_at lw_m6 155 rfl) rfl
theorem q1431 : (Jvm.Cond.fieldLink "java/util/TreeMap$Entry" (19 : Nat) "java/util/TreeMap$Entry" "value" "Ljava/lang/Object;") ∈ lw_all := lw_g (lw_at lw_m6 158 rfl) rfl
theorem q1436 : (Jvm.Cond.fieldLink "java/util/TreeMap$Entry" (22 : Nat) "java/util/TreeMap$Entry" "parent" "Ljava/util/TreeMap$Entry;") ∈ lw_all := lw_g (lw_at lw_m6 163 rfl) rfl
theorem q1438 : (Jvm.Cond.fieldLink "java/util/TreeMap$Entry" (9 : Nat) "java/util/TreeMap$Entry" "color" "Z") ∈ lw_all := lw_g (lw_at lw_m6 165 rfl) rfl
theorem q1440 : (Jvm.Cond.lays "java/util/TreeMap$Entry" "java/util/TreeMap$Entry" "key" "Ljava/lang/Object;") ∈ lw_all := lw_g (lw_at lw_m6 167 rfl) rfl
theorem q1441 : (Jvm.Cond.soleField "java/util/TreeMap$Entry" "key") ∈ lw_all := lw_g (lw_at lw_m6 168 rfl) rfl
theorem q1442 : (Jvm.Cond.lays "java/util/TreeMap$Entry" "java/util/TreeMap$Entry" "value" "Ljava/lang/Object;") ∈ lw_all := lw_g (lw_at lw_m6 169 rfl) rfl
theorem q1443 : (Jvm.Cond.soleField "java/util/TreeMap$Entry" "value") ∈ lw_all := lw_g (lw_at lw_m6 170 rfl) rfl
theorem q1444 : (Jvm.Cond.lays "java/util/TreeMap$Entry" "java/util/TreeMap$Entry" "left" "Ljava/util/TreeMap$Entry;") ∈ lw_all := lw_g (lw_at lw_m6 171 rfl) rfl
theorem q1445 : (Jvm.Cond.soleField "java/util/TreeMap$Entry" "left") ∈ lw_all := lw_g (lw_at lw_m6 172 rfl) rfl
theorem q1446 : (Jvm.Cond.lays "java/util/TreeMap$Entry" "java/util/TreeMap$Entry" "right" "Ljava/util/TreeMap$Entry;") ∈ lw_all := lw_g (lw_at lw_m6 173 rfl) rfl
theorem q1447 : (Jvm.Cond.soleField "java/util/TreeMap$Entry" "right") ∈ lw_all := lw_g (lw_at lw_m6 174 rfl) rfl
theorem q1448 : (Jvm.Cond.lays "java/util/TreeMap$Entry" "java/util/TreeMap$Entry" "parent" "Ljava/util/TreeMap$Entry;") ∈ lw_all := lw_g (lw_at lw_m6 175 rfl) rfl
theorem q1449 : (Jvm.Cond.soleField "java/util/TreeMap$Entry" "parent") ∈ lw_all := lw_g (lw_at lw_m6 176 rfl) rfl
theorem q1450 : (Jvm.Cond.lays "java/util/TreeMap$Entry" "java/util/TreeMap$Entry" "color" "Z") ∈ lw_all := lw_g (lw_at lw_m6 177 rfl) rfl
theorem q1451 : (Jvm.Cond.soleField "java/util/TreeMap$Entry" "color") ∈ lw_all := lw_g (lw_at lw_m6 178 rfl) rfl
theorem q1452 : (Jvm.Cond.superclass "java/util/TreeMap$Entry" "java/lang/Object") ∈ lw_all := lw_g (lw_at lw_m6 179 rfl) rfl
theorem q2945 : (Jvm.Cond.castable "java/util/TreeMap$Entry" "java/lang/Object") ∈ lw_tbl := lw_at lw_m12 232 rfl
theorem in_J34 : ∀ w ∈ wsJ340, w ∈ lw_all := lw_in wsJ340 [1440, 1442, 1444, 1446, 1448, 1450] (by decide +kernel) (by decide +kernel)
/-! java/util/TreeSet -/
set_option maxRecDepth 100000
def RJ35 : String := "java/util/TreeSet"
def TJ35 : u_T := fun k => match k with
  | _ => ("java/util/TreeSet", "m", "Ljava/util/NavigableMap;", false)
def tyJ35 : Nat → FieldType := fun k => match k with
  | _ => .object "java/util/NavigableMap"
abbrev wsJ350 : List Cond := u_ws RJ35 TJ35 1
theorem nmJ35 : ∀ a, a < 1 → ∀ b, b < 1 → a ≠ b → (TJ35 a).2.1 ≠ (TJ35 b).2.1 := by decide +kernel
theorem tyJ35_ok : ∀ k, k < 1 → parseFieldDescriptor (TJ35 k).2.2.1 = some (tyJ35 k) := by decide +kernel
abbrev cJ35_size : ByteArray := prog_82_method_9_code
def yJ35_size : MethodName := ⟨RJ35, "size", "()I"⟩
def dkwJ35_size_0 : List UInt8 := [42, 180, 0, 7, 185, 0, 53, 1, 0, 172]
abbrev dktJ35_size_0 : List UInt8 := dkwJ35_size_0 ++ []
theorem dksJ35_size_0 : cJ35_size.data.toList.drop 0 = dktJ35_size_0 := by decide +kernel
theorem dJ35_size_0 : decode cJ35_size 0 = .ok (.aload_n 0, 1) := dk_42 (dk_at dksJ35_size_0 0 rfl rfl)
theorem dJ35_size_1 : decode cJ35_size 1 = .ok (.getfield 7, 3) := dk_180 0 7 (dk_at dksJ35_size_0 1 rfl rfl)
theorem dJ35_size_4 : decode cJ35_size 4 = .ok (.invokeinterface 53 1, 5) := by decide +kernel
theorem dJ35_size_9 : decode cJ35_size 9 = .ok (.ireturn, 1) := dk_172 (dk_at dksJ35_size_0 9 rfl rfl)
abbrev cJ35_iterator : ByteArray := prog_82_method_6_code
def yJ35_iterator : MethodName := ⟨RJ35, "iterator", "()Ljava/util/Iterator;"⟩
def dkwJ35_iterator_0 : List UInt8 := [42, 180, 0, 7, 185, 0, 34, 1, 0, 185, 0, 40, 1, 0, 176]
abbrev dktJ35_iterator_0 : List UInt8 := dkwJ35_iterator_0 ++ []
theorem dksJ35_iterator_0 : cJ35_iterator.data.toList.drop 0 = dktJ35_iterator_0 := by decide +kernel
theorem dJ35_iterator_0 : decode cJ35_iterator 0 = .ok (.aload_n 0, 1) := dk_42 (dk_at dksJ35_iterator_0 0 rfl rfl)
theorem dJ35_iterator_1 : decode cJ35_iterator 1 = .ok (.getfield 7, 3) := dk_180 0 7 (dk_at dksJ35_iterator_0 1 rfl rfl)
theorem dJ35_iterator_4 : decode cJ35_iterator 4 = .ok (.invokeinterface 34 1, 5) := by decide +kernel
theorem dJ35_iterator_9 : decode cJ35_iterator 9 = .ok (.invokeinterface 40 1, 5) := by decide +kernel
theorem dJ35_iterator_14 : decode cJ35_iterator 14 = .ok (.areturn, 1) := dk_176 (dk_at dksJ35_iterator_0 14 rfl rfl)
abbrev cJ35_init : ByteArray := prog_82_method_2_code
def yJ35_init : MethodName := ⟨RJ35, "<init>", "()V"⟩
def dkwJ35_init_0 : List UInt8 := [42, 187, 0, 13, 89, 183, 0, 15, 183, 0, 16, 177]
abbrev dktJ35_init_0 : List UInt8 := dkwJ35_init_0 ++ []
theorem dksJ35_init_0 : cJ35_init.data.toList.drop 0 = dktJ35_init_0 := by decide +kernel
theorem dJ35_init_0 : decode cJ35_init 0 = .ok (.aload_n 0, 1) := dk_42 (dk_at dksJ35_init_0 0 rfl rfl)
theorem dJ35_init_1 : decode cJ35_init 1 = .ok (.new 13, 3) := dk_187 0 13 (dk_at dksJ35_init_0 1 rfl rfl)
theorem dJ35_init_4 : decode cJ35_init 4 = .ok (.dup, 1) := dk_89 (dk_at dksJ35_init_0 4 rfl rfl)
theorem dJ35_init_5 : decode cJ35_init 5 = .ok (.invokespecial 15, 3) := dk_183 0 15 (dk_at dksJ35_init_0 5 rfl rfl)
theorem dJ35_init_8 : decode cJ35_init 8 = .ok (.invokespecial 16, 3) := dk_183 0 16 (dk_at dksJ35_init_0 8 rfl rfl)
theorem dJ35_init_11 : decode cJ35_init 11 = .ok (.return_, 1) := dk_177 (dk_at dksJ35_init_0 11 rfl rfl)
abbrev cJ35_init_2 : ByteArray := prog_82_method_1_code
def yJ35_init_2 : MethodName := ⟨RJ35, "<init>", "(Ljava/util/NavigableMap;)V"⟩
def dkwJ35_init_2_0 : List UInt8 := [42, 183, 0, 1, 42, 43, 181, 0, 7, 177]
abbrev dktJ35_init_2_0 : List UInt8 := dkwJ35_init_2_0 ++ []
theorem dksJ35_init_2_0 : cJ35_init_2.data.toList.drop 0 = dktJ35_init_2_0 := by decide +kernel
theorem dJ35_init_2_0 : decode cJ35_init_2 0 = .ok (.aload_n 0, 1) := dk_42 (dk_at dksJ35_init_2_0 0 rfl rfl)
theorem dJ35_init_2_1 : decode cJ35_init_2 1 = .ok (.invokespecial 1, 3) := dk_183 0 1 (dk_at dksJ35_init_2_0 1 rfl rfl)
theorem dJ35_init_2_4 : decode cJ35_init_2 4 = .ok (.aload_n 0, 1) := dk_42 (dk_at dksJ35_init_2_0 4 rfl rfl)
theorem dJ35_init_2_5 : decode cJ35_init_2 5 = .ok (.aload_n 1, 1) := dk_43 (dk_at dksJ35_init_2_0 5 rfl rfl)
theorem dJ35_init_2_6 : decode cJ35_init_2 6 = .ok (.putfield 7, 3) := dk_181 0 7 (dk_at dksJ35_init_2_0 6 rfl rfl)
theorem dJ35_init_2_9 : decode cJ35_init_2 9 = .ok (.return_, 1) := dk_177 (dk_at dksJ35_init_2_0 9 rfl rfl)
abbrev cJ35_add : ByteArray := prog_82_method_12_code
def yJ35_add : MethodName := ⟨RJ35, "add", "(Ljava/lang/Object;)Z"⟩
def dkwJ35_add_0 : List UInt8 := [42, 180, 0, 7, 43, 178, 0, 65, 185, 0, 69, 3, 0, 199, 0, 7, 4, 167, 0, 4, 3, 172]
abbrev dktJ35_add_0 : List UInt8 := dkwJ35_add_0 ++ []
theorem dksJ35_add_0 : cJ35_add.data.toList.drop 0 = dktJ35_add_0 := by decide +kernel
theorem dJ35_add_0 : decode cJ35_add 0 = .ok (.aload_n 0, 1) := dk_42 (dk_at dksJ35_add_0 0 rfl rfl)
theorem dJ35_add_1 : decode cJ35_add 1 = .ok (.getfield 7, 3) := dk_180 0 7 (dk_at dksJ35_add_0 1 rfl rfl)
theorem dJ35_add_4 : decode cJ35_add 4 = .ok (.aload_n 1, 1) := dk_43 (dk_at dksJ35_add_0 4 rfl rfl)
theorem dJ35_add_5 : decode cJ35_add 5 = .ok (.getstatic 65, 3) := dk_178 0 65 (dk_at dksJ35_add_0 5 rfl rfl)
theorem dJ35_add_8 : decode cJ35_add 8 = .ok (.invokeinterface 69 3, 5) := by decide +kernel
theorem dJ35_add_13 : decode cJ35_add 13 = .ok (.ifnonnull 7, 3) := dk_199 0 7 (dk_at dksJ35_add_0 13 rfl rfl)
theorem dJ35_add_16 : decode cJ35_add 16 = .ok (.iconst 1, 1) := dk_4 (dk_at dksJ35_add_0 16 rfl rfl)
theorem dJ35_add_17 : decode cJ35_add 17 = .ok (.goto 4, 3) := dk_167 0 4 (dk_at dksJ35_add_0 17 rfl rfl)
theorem dJ35_add_20 : decode cJ35_add 20 = .ok (.iconst 0, 1) := dk_3 (dk_at dksJ35_add_0 20 rfl rfl)
theorem dJ35_add_21 : decode cJ35_add 21 = .ok (.ireturn, 1) := dk_172 (dk_at dksJ35_add_0 21 rfl rfl)
abbrev cJ35_isEmpty : ByteArray := prog_82_method_10_code
def yJ35_isEmpty : MethodName := ⟨RJ35, "isEmpty", "()Z"⟩
def dkwJ35_isEmpty_0 : List UInt8 := [42, 180, 0, 7, 185, 0, 57, 1, 0, 172]
abbrev dktJ35_isEmpty_0 : List UInt8 := dkwJ35_isEmpty_0 ++ []
theorem dksJ35_isEmpty_0 : cJ35_isEmpty.data.toList.drop 0 = dktJ35_isEmpty_0 := by decide +kernel
theorem dJ35_isEmpty_0 : decode cJ35_isEmpty 0 = .ok (.aload_n 0, 1) := dk_42 (dk_at dksJ35_isEmpty_0 0 rfl rfl)
theorem dJ35_isEmpty_1 : decode cJ35_isEmpty 1 = .ok (.getfield 7, 3) := dk_180 0 7 (dk_at dksJ35_isEmpty_0 1 rfl rfl)
theorem dJ35_isEmpty_4 : decode cJ35_isEmpty 4 = .ok (.invokeinterface 57 1, 5) := by decide +kernel
theorem dJ35_isEmpty_9 : decode cJ35_isEmpty 9 = .ok (.ireturn, 1) := dk_172 (dk_at dksJ35_isEmpty_0 9 rfl rfl)
abbrev cJ35_first : ByteArray := prog_82_method_23_code
def yJ35_first : MethodName := ⟨RJ35, "first", "()Ljava/lang/Object;"⟩
def dkwJ35_first_0 : List UInt8 := [42, 180, 0, 7, 185, 0, 118, 1, 0, 176]
abbrev dktJ35_first_0 : List UInt8 := dkwJ35_first_0 ++ []
theorem dksJ35_first_0 : cJ35_first.data.toList.drop 0 = dktJ35_first_0 := by decide +kernel
theorem dJ35_first_0 : decode cJ35_first 0 = .ok (.aload_n 0, 1) := dk_42 (dk_at dksJ35_first_0 0 rfl rfl)
theorem dJ35_first_1 : decode cJ35_first 1 = .ok (.getfield 7, 3) := dk_180 0 7 (dk_at dksJ35_first_0 1 rfl rfl)
theorem dJ35_first_4 : decode cJ35_first 4 = .ok (.invokeinterface 118 1, 5) := by decide +kernel
theorem dJ35_first_9 : decode cJ35_first 9 = .ok (.areturn, 1) := dk_176 (dk_at dksJ35_first_0 9 rfl rfl)
abbrev cJ35_last : ByteArray := prog_82_method_24_code
def yJ35_last : MethodName := ⟨RJ35, "last", "()Ljava/lang/Object;"⟩
def dkwJ35_last_0 : List UInt8 := [42, 180, 0, 7, 185, 0, 122, 1, 0, 176]
abbrev dktJ35_last_0 : List UInt8 := dkwJ35_last_0 ++ []
theorem dksJ35_last_0 : cJ35_last.data.toList.drop 0 = dktJ35_last_0 := by decide +kernel
theorem dJ35_last_0 : decode cJ35_last 0 = .ok (.aload_n 0, 1) := dk_42 (dk_at dksJ35_last_0 0 rfl rfl)
theorem dJ35_last_1 : decode cJ35_last 1 = .ok (.getfield 7, 3) := dk_180 0 7 (dk_at dksJ35_last_0 1 rfl rfl)
theorem dJ35_last_4 : decode cJ35_last 4 = .ok (.invokeinterface 122 1, 5) := by decide +kernel
theorem dJ35_last_9 : decode cJ35_last 9 = .ok (.areturn, 1) := dk_176 (dk_at dksJ35_last_0 9 rfl rfl)
abbrev cJ35_ceiling : ByteArray := prog_82_method_27_code
def yJ35_ceiling : MethodName := ⟨RJ35, "ceiling", "(Ljava/lang/Object;)Ljava/lang/Object;"⟩
def dkwJ35_ceiling_0 : List UInt8 := [42, 180, 0, 7, 43, 185, 0, 131, 2, 0, 176]
abbrev dktJ35_ceiling_0 : List UInt8 := dkwJ35_ceiling_0 ++ []
theorem dksJ35_ceiling_0 : cJ35_ceiling.data.toList.drop 0 = dktJ35_ceiling_0 := by decide +kernel
theorem dJ35_ceiling_0 : decode cJ35_ceiling 0 = .ok (.aload_n 0, 1) := dk_42 (dk_at dksJ35_ceiling_0 0 rfl rfl)
theorem dJ35_ceiling_1 : decode cJ35_ceiling 1 = .ok (.getfield 7, 3) := dk_180 0 7 (dk_at dksJ35_ceiling_0 1 rfl rfl)
theorem dJ35_ceiling_4 : decode cJ35_ceiling 4 = .ok (.aload_n 1, 1) := dk_43 (dk_at dksJ35_ceiling_0 4 rfl rfl)
theorem dJ35_ceiling_5 : decode cJ35_ceiling 5 = .ok (.invokeinterface 131 2, 5) := by decide +kernel
theorem dJ35_ceiling_10 : decode cJ35_ceiling 10 = .ok (.areturn, 1) := dk_176 (dk_at dksJ35_ceiling_0 10 rfl rfl)
theorem q122 : (Jvm.Cond.initialized "java/util/TreeSet") ∈ lw_all := lw_g (lw_at lw_m1 49 rfl) rfl
theorem q468 : (Jvm.Cond.selects "java/util/TreeSet" ({ cls := "java/lang/Object", name := "getClass", desc := "()Ljava/lang/Class;" } : Jvm.MethodName) ({ cls := "java/lang/Object", name := "getClass", desc := "()Ljava/lang/Class;" } : Jvm.MethodName)) ∈ lw_all := lw_g (lw_at lw_m2 155 rfl) rfl
theorem q841 : (Jvm.Cond.selects "java/util/TreeSet" ({ cls := "java/util/AbstractCollection", name := "size", desc := "()I" } : Jvm.MethodName) ({ cls := "java/util/TreeSet", name := "size", desc := "()I" } : Jvm.MethodName)) ∈ lw_all := lw_g (lw_at lw_m4 48 rfl) rfl
theorem q842 : (Jvm.Cond.instanceMethod ({ cls := "java/util/TreeSet", name := "size", desc := "()I" } : Jvm.MethodName)) ∈ lw_all := lw_g (lw_at lw_m4 49 rfl) rfl
theorem q843 : (Jvm.Cond.code ({ cls := "java/util/TreeSet", name := "size", desc := "()I" } : Jvm.MethodName) prog_82_method_9_code (1 : Nat) (Option.some Jvm.ClassFile.FieldType.int)) ∈ lw_all := lw_g (lw_at lw_m4 50 rfl) rfl
theorem q844 : (Jvm.Cond.interfaceEntry "java/util/TreeSet" (53 : Nat)) ∈ lw_tbl := lw_at lw_m4 51 rfl
theorem q1045 : (Jvm.Cond.castable "java/util/TreeSet" "java/util/Collection") ∈ lw_tbl := lw_at lw_m5 12 rfl
theorem q1046 : (Jvm.Cond.selects "java/util/TreeSet" ({ cls := "java/util/Collection", name := "iterator", desc := "()Ljava/util/Iterator;" } : Jvm.MethodName) ({ cls := "java/util/TreeSet", name := "iterator", desc := "()Ljava/util/Iterator;" } : Jvm.MethodName)) ∈ lw_all := lw_g (lw_at lw_m5 13 rfl) rfl
theorem q1047 : (Jvm.Cond.unhidden "java/util/TreeSet" "iterator" "()Ljava/util/Iterator;") ∈ lw_tbl := lw_at lw_m5 14 rfl
theorem q1048 : (Jvm.Cond.instanceMethod ({ cls := "java/util/TreeSet", name := "iterator", desc := "()Ljava/util/Iterator;" } : Jvm.MethodName)) ∈ lw_all := lw_g (lw_at lw_m5 15 rfl) rfl
theorem q1049 : (Jvm.Cond.publicMethod ({ cls := "java/util/TreeSet", name := "iterator", desc := "()Ljava/util/Iterator;" } : Jvm.MethodName)) ∈ lw_tbl := lw_at lw_m5 16 rfl
theorem q1050 : (Jvm.Cond.code ({ cls := "java/util/TreeSet", name := "iterator", desc := "()Ljava/util/Iterator;" } : Jvm.MethodName) prog_82_method_6_code (1 : Nat) (Option.some (Jvm.ClassFile.FieldType.object "java/util/Iterator"))) ∈ lw_all := lw_g (lw_at lw_m5 17 rfl) rfl
theorem q1051 : (Jvm.Cond.interfaceEntry "java/util/TreeSet" (34 : Nat)) ∈ lw_tbl := lw_at lw_m5 18 rfl
theorem q1052 : (Jvm.Cond.methodLink "java/util/TreeSet" (34 : Nat) ({ cls := "java/util/NavigableMap", name := "navigableKeySet", desc := "()Ljava/util/NavigableSet;" } : Jvm.MethodName)) ∈ lw_all := lw_g (lw_at lw_m5 19 rfl) rfl
theorem q1073 : (Jvm.Cond.interfaceEntry "java/util/TreeSet" (40 : Nat)) ∈ lw_tbl := lw_at lw_m5 40 rfl
theorem q1074 : (Jvm.Cond.methodLink "java/util/TreeSet" (40 : Nat) ({ cls := "java/util/NavigableSet", name := "iterator", desc := "()Ljava/util/Iterator;" } : Jvm.MethodName)) ∈ lw_all := lw_g (lw_at lw_m5 41 rfl) rfl
theorem q1079 : (Jvm.Cond.castable "java/util/TreeSet" "java/util/NavigableSet") ∈ lw_tbl := lw_at lw_m5 46 rfl
theorem q1080 : (Jvm.Cond.selects "java/util/TreeSet" ({ cls := "java/util/NavigableSet", name := "iterator", desc := "()Ljava/util/Iterator;" } : Jvm.MethodName) ({ cls := "java/util/TreeSet", name := "iterator", desc := "()Ljava/util/Iterator;" } : Jvm.MethodName)) ∈ lw_all := lw_g (lw_at lw_m5 47 rfl) rfl
theorem q1362 : (Jvm.Cond.instantiable "java/util/TreeSet" (1 : Nat)) ∈ lw_all := lw_g (lw_at lw_m6 89 rfl) rfl
theorem q1364 : (Jvm.Cond.instanceMethod ({ cls := "java/util/TreeSet", name := "<init>", desc := "()V" } : Jvm.MethodName)) ∈ lw_all := lw_g (lw_at lw_m6 91 rfl) rfl
theorem q1365 : (Jvm.Cond.code ({ cls := "java/util/TreeSet", name := "<init>", desc := "()V" } : Jvm.MethodName) prog_82_method_2_code (1 : Nat) (Option.none : Option Jvm.ClassFile.FieldType)) ∈ lw_all := lw_g (lw_at lw_m6 92 rfl) rfl
theorem q1366 : (Jvm.Cond.classLink "java/util/TreeSet" (13 : Nat) "java/util/TreeMap") ∈ lw_all := lw_g (lw_at lw_m6 93 rfl) rfl
theorem q1367 : (Jvm.Cond.methodLink "java/util/TreeSet" (15 : Nat) ({ cls := "java/util/TreeMap", name := "<init>", desc := "()V" } : Jvm.MethodName)) ∈ lw_all := lw_g (lw_at lw_m6 94 rfl) rfl
theorem q1368 : (Jvm.Cond.methodLink "java/util/TreeSet" (16 : Nat) ({ cls := "java/util/TreeSet", name := "<init>", desc := "(Ljava/util/NavigableMap;)V" } : Jvm.MethodName)) ∈ lw_all := lw_g (lw_at lw_m6 95 rfl) rfl
theorem q1369 : (Jvm.Cond.instanceMethod ({ cls := "java/util/TreeSet", name := "<init>", desc := "(Ljava/util/NavigableMap;)V" } : Jvm.MethodName)) ∈ lw_all := lw_g (lw_at lw_m6 96 rfl) rfl
theorem q1370 : (Jvm.Cond.code ({ cls := "java/util/TreeSet", name := "<init>", desc := "(Ljava/util/NavigableMap;)V" } : Jvm.MethodName) prog_82_method_1_code (2 : Nat) (Option.none : Option Jvm.ClassFile.FieldType)) ∈ lw_all := lw_g (lw_at lw_m6 97 rfl) rfl
theorem q1371 : (Jvm.Cond.methodLink "java/util/TreeSet" (1 : Nat) ({ cls := "java/util/AbstractSet", name := "<init>", desc := "()V" } : Jvm.MethodName)) ∈ lw_all := lw_g (lw_at lw_m6 98 rfl) rfl
theorem q1372 : (Jvm.Cond.fieldLink "java/util/TreeSet" (7 : Nat) "java/util/TreeSet" "m" "Ljava/util/NavigableMap;") ∈ lw_all := lw_g (lw_at lw_m6 99 rfl) rfl
theorem q1373 : (Jvm.Cond.lays "java/util/TreeSet" "java/util/TreeSet" "m" "Ljava/util/NavigableMap;") ∈ lw_all := lw_g (lw_at lw_m6 100 rfl) rfl
theorem q1374 : (Jvm.Cond.soleField "java/util/TreeSet" "m") ∈ lw_all := lw_g (lw_at lw_m6 101 rfl) rfl
theorem q1375 : (Jvm.Cond.superclass "java/util/TreeSet" "java/util/AbstractSet") ∈ lw_all := lw_g (lw_at lw_m6 102 rfl) rfl
theorem q1392 : (Jvm.Cond.instanceMethod ({ cls := "java/util/TreeSet", name := "add", desc := "(Ljava/lang/Object;)Z" } : Jvm.MethodName)) ∈ lw_all := lw_g (lw_at lw_m6 119 rfl) rfl
theorem q1393 : (Jvm.Cond.selects "java/util/TreeSet" ({ cls := "java/util/TreeSet", name := "add", desc := "(Ljava/lang/Object;)Z" } : Jvm.MethodName) ({ cls := "java/util/TreeSet", name := "add", desc := "(Ljava/lang/Object;)Z" } : Jvm.MethodName)) ∈ lw_all := lw_g (lw_at lw_m6 120 rfl) rfl
theorem q1394 : (Jvm.Cond.code ({ cls := "java/util/TreeSet", name := "add", desc := "(Ljava/lang/Object;)Z" } : Jvm.MethodName) prog_82_method_12_code (2 : Nat) (Option.some Jvm.ClassFile.FieldType.boolean)) ∈ lw_all := lw_g (lw_at lw_m6 121 rfl) rfl
theorem q1395 : (Jvm.Cond.fieldLink "java/util/TreeSet" (65 : Nat) "java/util/TreeSet" "PRESENT" "Ljava/lang/Object;") ∈ lw_all := lw_g (lw_at lw_m6 122 rfl) rfl
theorem q1396 : (Jvm.Cond.laysStatic "java/util/TreeSet" "PRESENT" "Ljava/lang/Object;") ∈ lw_tbl := lw_at lw_m6 123 rfl
theorem q1397 : (Jvm.Cond.interfaceEntry "java/util/TreeSet" (69 : Nat)) ∈ lw_tbl := lw_at lw_m6 124 rfl
theorem q1488 : (Jvm.Cond.instanceMethod ({ cls := "java/util/TreeSet", name := "isEmpty", desc := "()Z" } : Jvm.MethodName)) ∈ lw_all := lw_g (lw_at lw_m6 215 rfl) rfl
theorem q1489 : (Jvm.Cond.selects "java/util/TreeSet" ({ cls := "java/util/TreeSet", name := "isEmpty", desc := "()Z" } : Jvm.MethodName) ({ cls := "java/util/TreeSet", name := "isEmpty", desc := "()Z" } : Jvm.MethodName)) ∈ lw_all := lw_g (lw_at lw_m6 216 rfl) rfl
theorem q1490 : (Jvm.Cond.code ({ cls := "java/util/TreeSet", name := "isEmpty", desc := "()Z" } : Jvm.MethodName) prog_82_method_10_code (1 : Nat) (Option.some Jvm.ClassFile.FieldType.boolean)) ∈ lw_all := lw_g (lw_at lw_m6 217 rfl) rfl
theorem q1491 : (Jvm.Cond.interfaceEntry "java/util/TreeSet" (57 : Nat)) ∈ lw_tbl := lw_at lw_m6 218 rfl
theorem q1505 : (Jvm.Cond.instanceMethod ({ cls := "java/util/TreeSet", name := "first", desc := "()Ljava/lang/Object;" } : Jvm.MethodName)) ∈ lw_all := lw_g (lw_at lw_m6 232 rfl) rfl
theorem q1506 : (Jvm.Cond.selects "java/util/TreeSet" ({ cls := "java/util/TreeSet", name := "first", desc := "()Ljava/lang/Object;" } : Jvm.MethodName) ({ cls := "java/util/TreeSet", name := "first", desc := "()Ljava/lang/Object;" } : Jvm.MethodName)) ∈ lw_all := lw_g (lw_at lw_m6 233 rfl) rfl
theorem q1507 : (Jvm.Cond.code ({ cls := "java/util/TreeSet", name := "first", desc := "()Ljava/lang/Object;" } : Jvm.MethodName) prog_82_method_23_code (1 : Nat) (Option.some (Jvm.ClassFile.FieldType.object "java/lang/Object"))) ∈ lw_all := lw_g (lw_at lw_m6 234 rfl) rfl
theorem q1508 : (Jvm.Cond.interfaceEntry "java/util/TreeSet" (118 : Nat)) ∈ lw_tbl := lw_at lw_m6 235 rfl
theorem q1520 : (Jvm.Cond.instanceMethod ({ cls := "java/util/TreeSet", name := "last", desc := "()Ljava/lang/Object;" } : Jvm.MethodName)) ∈ lw_all := lw_g (lw_at lw_m7 7 rfl) rfl
theorem q1521 : (Jvm.Cond.selects "java/util/TreeSet" ({ cls := "java/util/TreeSet", name := "last", desc := "()Ljava/lang/Object;" } : Jvm.MethodName) ({ cls := "java/util/TreeSet", name := "last", desc := "()Ljava/lang/Object;" } : Jvm.MethodName)) ∈ lw_all := lw_g (lw_at lw_m7 8 rfl) rfl
theorem q1522 : (Jvm.Cond.code ({ cls := "java/util/TreeSet", name := "last", desc := "()Ljava/lang/Object;" } : Jvm.MethodName) prog_82_method_24_code (1 : Nat) (Option.some (Jvm.ClassFile.FieldType.object "java/lang/Object"))) ∈ lw_all := lw_g (lw_at lw_m7 9 rfl) rfl
theorem q1523 : (Jvm.Cond.interfaceEntry "java/util/TreeSet" (122 : Nat)) ∈ lw_tbl := lw_at lw_m7 10 rfl
theorem q1536 : (Jvm.Cond.instanceMethod ({ cls := "java/util/TreeSet", name := "ceiling", desc := "(Ljava/lang/Object;)Ljava/lang/Object;" } : Jvm.MethodName)) ∈ lw_all := lw_g (lw_at lw_m7 23 rfl) rfl
theorem q1537 : (Jvm.Cond.selects "java/util/TreeSet" ({ cls := "java/util/TreeSet", name := "ceiling", desc := "(Ljava/lang/Object;)Ljava/lang/Object;" } : Jvm.MethodName) ({ cls := "java/util/TreeSet", name := "ceiling", desc := "(Ljava/lang/Object;)Ljava/lang/Object;" } : Jvm.MethodName)) ∈ lw_all := lw_g (lw_at lw_m7 24 rfl) rfl
theorem q1538 : (Jvm.Cond.code ({ cls := "java/util/TreeSet", name := "ceiling", desc := "(Ljava/lang/Object;)Ljava/lang/Object;" } : Jvm.MethodName) prog_82_method_27_code (2 : Nat) (Option.some (Jvm.ClassFile.FieldType.object "java/lang/Object"))) ∈ lw_all := lw_g (lw_at lw_m7 25 rfl) rfl
theorem q1539 : (Jvm.Cond.interfaceEntry "java/util/TreeSet" (131 : Nat)) ∈ lw_tbl := lw_at lw_m7 26 rfl
theorem q1540 : (Jvm.Cond.methodLink "java/util/TreeSet" (131 : Nat) ({ cls := "java/util/NavigableMap", name := "ceilingKey", desc := "(Ljava/lang/Object;)Ljava/lang/Object;" } : Jvm.MethodName)) ∈ lw_all := lw_g (lw_at lw_m7 27 rfl) rfl
theorem q2948 : (Jvm.Cond.castable "java/util/TreeSet" "java/lang/Object") ∈ lw_tbl := lw_at lw_m12 235 rfl
theorem in_J35 : ∀ w ∈ wsJ350, w ∈ lw_all := lw_in wsJ350 [1373] (by decide +kernel) (by decide +kernel)
/-! java/lang/Record -/
set_option maxRecDepth 100000
def RJ37 : String := "java/lang/Record"
abbrev cJ37_init : ByteArray := prog_35_method_1_code
def yJ37_init : MethodName := ⟨RJ37, "<init>", "()V"⟩
theorem dJ37_init_0 : decode cJ37_init 0 = .ok (.aload_n 0, 1) := by decide +kernel
theorem dJ37_init_1 : decode cJ37_init 1 = .ok (.invokespecial 1, 3) := by decide +kernel
theorem dJ37_init_4 : decode cJ37_init 4 = .ok (.return_, 1) := by decide +kernel
theorem q126 : (Jvm.Cond.initialized "java/lang/Record") ∈ lw_all := lw_g (lw_at lw_m1 53 rfl) rfl
theorem q2260 : (Jvm.Cond.instanceMethod ({ cls := "java/lang/Record", name := "<init>", desc := "()V" } : Jvm.MethodName)) ∈ lw_all := lw_g (lw_at lw_m10 27 rfl) rfl
theorem q2261 : (Jvm.Cond.code ({ cls := "java/lang/Record", name := "<init>", desc := "()V" } : Jvm.MethodName) prog_35_method_1_code (1 : Nat) (Option.none : Option Jvm.ClassFile.FieldType)) ∈ lw_all := lw_g (lw_at lw_m10 28 rfl) rfl
theorem q2262 : (Jvm.Cond.methodLink "java/lang/Record" (1 : Nat) ({ cls := "java/lang/Object", name := "<init>", desc := "()V" } : Jvm.MethodName)) ∈ lw_all := lw_g (lw_at lw_m10 29 rfl) rfl
/-! java/util/AbstractQueue -/
set_option maxRecDepth 100000
def RJ38 : String := "java/util/AbstractQueue"
abbrev cJ38_init : ByteArray := prog_47_method_1_code
def yJ38_init : MethodName := ⟨RJ38, "<init>", "()V"⟩
theorem dJ38_init_0 : decode cJ38_init 0 = .ok (.aload_n 0, 1) := by decide +kernel
theorem dJ38_init_1 : decode cJ38_init 1 = .ok (.invokespecial 1, 3) := by decide +kernel
theorem dJ38_init_4 : decode cJ38_init 4 = .ok (.return_, 1) := by decide +kernel
theorem q129 : (Jvm.Cond.initialized "java/util/AbstractQueue") ∈ lw_all := lw_g (lw_at lw_m1 56 rfl) rfl
theorem q289 : (Jvm.Cond.instanceMethod ({ cls := "java/util/AbstractQueue", name := "<init>", desc := "()V" } : Jvm.MethodName)) ∈ lw_all := lw_g (lw_at lw_m1 216 rfl) rfl
theorem q290 : (Jvm.Cond.code ({ cls := "java/util/AbstractQueue", name := "<init>", desc := "()V" } : Jvm.MethodName) prog_47_method_1_code (1 : Nat) (Option.none : Option Jvm.ClassFile.FieldType)) ∈ lw_all := lw_g (lw_at lw_m1 217 rfl) rfl
theorem q291 : (Jvm.Cond.methodLink "java/util/AbstractQueue" (1 : Nat) ({ cls := "java/util/AbstractCollection", name := "<init>", desc := "()V" } : Jvm.MethodName)) ∈ lw_all := lw_g (lw_at lw_m1 218 rfl) rfl
/-! java/util/PriorityQueue -/
set_option maxRecDepth 100000
def RJ39 : String := "java/util/PriorityQueue"
def TJ39 : u_T := fun k => match k with
  | 0 => ("java/util/PriorityQueue", "queue", "[Ljava/lang/Object;", false)
  | 1 => ("java/util/PriorityQueue", "size", "I", false)
  | 2 => ("java/util/PriorityQueue", "comparator", "Ljava/util/Comparator;", true)
  | _ => ("java/util/PriorityQueue", "modCount", "I", false)
def tyJ39 : Nat → FieldType := fun k => match k with
  | 0 => .array (.object "java/lang/Object")
  | 1 => .int
  | 2 => .object "java/util/Comparator"
  | _ => .int
abbrev wsJ390 : List Cond := u_ws RJ39 TJ39 4
theorem nmJ39 : ∀ a, a < 4 → ∀ b, b < 4 → a ≠ b → (TJ39 a).2.1 ≠ (TJ39 b).2.1 := by decide +kernel
theorem tyJ39_ok : ∀ k, k < 4 → parseFieldDescriptor (TJ39 k).2.2.1 = some (tyJ39 k) := by decide +kernel
abbrev cJ39_init : ByteArray := prog_62_method_3_code
def yJ39_init : MethodName := ⟨RJ39, "<init>", "(Ljava/util/Comparator;)V"⟩
def dkwJ39_init_0 : List UInt8 := [42, 16, 11, 43, 183, 0, 3, 177]
abbrev dktJ39_init_0 : List UInt8 := dkwJ39_init_0 ++ []
theorem dksJ39_init_0 : cJ39_init.data.toList.drop 0 = dktJ39_init_0 := by decide +kernel
theorem dJ39_init_0 : decode cJ39_init 0 = .ok (.aload_n 0, 1) := dk_42 (dk_at dksJ39_init_0 0 rfl rfl)
theorem dJ39_init_1 : decode cJ39_init 1 = .ok (.bipush 11, 2) := dk_16 11 (dk_at dksJ39_init_0 1 rfl rfl)
theorem dJ39_init_3 : decode cJ39_init 3 = .ok (.aload_n 1, 1) := dk_43 (dk_at dksJ39_init_0 3 rfl rfl)
theorem dJ39_init_4 : decode cJ39_init 4 = .ok (.invokespecial 3, 3) := dk_183 0 3 (dk_at dksJ39_init_0 4 rfl rfl)
theorem dJ39_init_7 : decode cJ39_init 7 = .ok (.return_, 1) := dk_177 (dk_at dksJ39_init_0 7 rfl rfl)
abbrev cJ39_init_2 : ByteArray := prog_62_method_4_code
def yJ39_init_2 : MethodName := ⟨RJ39, "<init>", "(ILjava/util/Comparator;)V"⟩
def dkwJ39_init_2_1 : List UInt8 := [181, 0, 17, 42, 44, 181, 0, 21, 177]
abbrev dktJ39_init_2_1 : List UInt8 := dkwJ39_init_2_1 ++ []
def dkwJ39_init_2_0 : List UInt8 := [42, 183, 0, 7, 27, 4, 162, 0, 11, 187, 0, 12, 89, 183, 0, 14, 191, 42, 27, 189, 0, 15]
abbrev dktJ39_init_2_0 : List UInt8 := dkwJ39_init_2_0 ++ dktJ39_init_2_1
theorem dksJ39_init_2_0 : cJ39_init_2.data.toList.drop 0 = dktJ39_init_2_0 := by decide +kernel
theorem dksJ39_init_2_1 : cJ39_init_2.data.toList.drop 22 = dktJ39_init_2_1 := dk_seg dksJ39_init_2_0 22 rfl rfl
theorem dJ39_init_2_0 : decode cJ39_init_2 0 = .ok (.aload_n 0, 1) := dk_42 (dk_at dksJ39_init_2_0 0 rfl rfl)
theorem dJ39_init_2_1 : decode cJ39_init_2 1 = .ok (.invokespecial 7, 3) := dk_183 0 7 (dk_at dksJ39_init_2_0 1 rfl rfl)
theorem dJ39_init_2_4 : decode cJ39_init_2 4 = .ok (.iload_n 1, 1) := dk_27 (dk_at dksJ39_init_2_0 4 rfl rfl)
theorem dJ39_init_2_5 : decode cJ39_init_2 5 = .ok (.iconst 1, 1) := dk_4 (dk_at dksJ39_init_2_0 5 rfl rfl)
theorem dJ39_init_2_6 : decode cJ39_init_2 6 = .ok (.if_icmp .ge 11, 3) := dk_162 0 11 (dk_at dksJ39_init_2_0 6 rfl rfl)
theorem dJ39_init_2_9 : decode cJ39_init_2 9 = .ok (.new 12, 3) := dk_187 0 12 (dk_at dksJ39_init_2_0 9 rfl rfl)
theorem dJ39_init_2_12 : decode cJ39_init_2 12 = .ok (.dup, 1) := dk_89 (dk_at dksJ39_init_2_0 12 rfl rfl)
theorem dJ39_init_2_13 : decode cJ39_init_2 13 = .ok (.invokespecial 14, 3) := dk_183 0 14 (dk_at dksJ39_init_2_0 13 rfl rfl)
theorem dJ39_init_2_16 : decode cJ39_init_2 16 = .ok (.athrow, 1) := dk_191 (dk_at dksJ39_init_2_0 16 rfl rfl)
theorem dJ39_init_2_17 : decode cJ39_init_2 17 = .ok (.aload_n 0, 1) := dk_42 (dk_at dksJ39_init_2_0 17 rfl rfl)
theorem dJ39_init_2_18 : decode cJ39_init_2 18 = .ok (.iload_n 1, 1) := dk_27 (dk_at dksJ39_init_2_0 18 rfl rfl)
theorem dJ39_init_2_19 : decode cJ39_init_2 19 = .ok (.anewarray 15, 3) := dk_189 0 15 (dk_at dksJ39_init_2_0 19 rfl rfl)
theorem dJ39_init_2_22 : decode cJ39_init_2 22 = .ok (.putfield 17, 3) := dk_181 0 17 (dk_at dksJ39_init_2_1 0 rfl rfl)
theorem dJ39_init_2_25 : decode cJ39_init_2 25 = .ok (.aload_n 0, 1) := dk_42 (dk_at dksJ39_init_2_1 3 rfl rfl)
theorem dJ39_init_2_26 : decode cJ39_init_2 26 = .ok (.aload_n 2, 1) := dk_44 (dk_at dksJ39_init_2_1 4 rfl rfl)
theorem dJ39_init_2_27 : decode cJ39_init_2 27 = .ok (.putfield 21, 3) := dk_181 0 21 (dk_at dksJ39_init_2_1 5 rfl rfl)
theorem dJ39_init_2_30 : decode cJ39_init_2 30 = .ok (.return_, 1) := dk_177 (dk_at dksJ39_init_2_1 8 rfl rfl)
abbrev cJ39_add : ByteArray := prog_62_method_13_code
def yJ39_add : MethodName := ⟨RJ39, "add", "(Ljava/lang/Object;)Z"⟩
def dkwJ39_add_0 : List UInt8 := [42, 43, 182, 0, 89, 172]
abbrev dktJ39_add_0 : List UInt8 := dkwJ39_add_0 ++ []
theorem dksJ39_add_0 : cJ39_add.data.toList.drop 0 = dktJ39_add_0 := by decide +kernel
theorem dJ39_add_0 : decode cJ39_add 0 = .ok (.aload_n 0, 1) := dk_42 (dk_at dksJ39_add_0 0 rfl rfl)
theorem dJ39_add_1 : decode cJ39_add 1 = .ok (.aload_n 1, 1) := dk_43 (dk_at dksJ39_add_0 1 rfl rfl)
theorem dJ39_add_2 : decode cJ39_add 2 = .ok (.invokevirtual 89, 3) := dk_182 0 89 (dk_at dksJ39_add_0 2 rfl rfl)
theorem dJ39_add_5 : decode cJ39_add 5 = .ok (.ireturn, 1) := dk_172 (dk_at dksJ39_add_0 5 rfl rfl)
abbrev cJ39_offer : ByteArray := prog_62_method_14_code
def yJ39_offer : MethodName := ⟨RJ39, "offer", "(Ljava/lang/Object;)Z"⟩
def dkwJ39_offer_2 : List UInt8 := [182, 0, 100, 42, 28, 4, 96, 181, 0, 58, 4, 172]
abbrev dktJ39_offer_2 : List UInt8 := dkwJ39_offer_2 ++ []
def dkwJ39_offer_1 : List UInt8 := [180, 0, 58, 61, 28, 42, 180, 0, 17, 190, 161, 0, 10, 42, 28, 4, 96, 182, 0, 96, 42, 28, 43]
abbrev dktJ39_offer_1 : List UInt8 := dkwJ39_offer_1 ++ dktJ39_offer_2
def dkwJ39_offer_0 : List UInt8 := [43, 199, 0, 11, 187, 0, 74, 89, 183, 0, 76, 191, 42, 89, 180, 0, 93, 4, 96, 181, 0, 93, 42]
abbrev dktJ39_offer_0 : List UInt8 := dkwJ39_offer_0 ++ dktJ39_offer_1
theorem dksJ39_offer_0 : cJ39_offer.data.toList.drop 0 = dktJ39_offer_0 := by decide +kernel
theorem dksJ39_offer_1 : cJ39_offer.data.toList.drop 23 = dktJ39_offer_1 := dk_seg dksJ39_offer_0 23 rfl rfl
theorem dksJ39_offer_2 : cJ39_offer.data.toList.drop 46 = dktJ39_offer_2 := dk_seg dksJ39_offer_1 23 rfl rfl
theorem dJ39_offer_0 : decode cJ39_offer 0 = .ok (.aload_n 1, 1) := dk_43 (dk_at dksJ39_offer_0 0 rfl rfl)
theorem dJ39_offer_1 : decode cJ39_offer 1 = .ok (.ifnonnull 11, 3) := dk_199 0 11 (dk_at dksJ39_offer_0 1 rfl rfl)
theorem dJ39_offer_4 : decode cJ39_offer 4 = .ok (.new 74, 3) := dk_187 0 74 (dk_at dksJ39_offer_0 4 rfl rfl)
theorem dJ39_offer_7 : decode cJ39_offer 7 = .ok (.dup, 1) := dk_89 (dk_at dksJ39_offer_0 7 rfl rfl)
theorem dJ39_offer_8 : decode cJ39_offer 8 = .ok (.invokespecial 76, 3) := dk_183 0 76 (dk_at dksJ39_offer_0 8 rfl rfl)
theorem dJ39_offer_11 : decode cJ39_offer 11 = .ok (.athrow, 1) := dk_191 (dk_at dksJ39_offer_0 11 rfl rfl)
theorem dJ39_offer_12 : decode cJ39_offer 12 = .ok (.aload_n 0, 1) := dk_42 (dk_at dksJ39_offer_0 12 rfl rfl)
theorem dJ39_offer_13 : decode cJ39_offer 13 = .ok (.dup, 1) := dk_89 (dk_at dksJ39_offer_0 13 rfl rfl)
theorem dJ39_offer_14 : decode cJ39_offer 14 = .ok (.getfield 93, 3) := dk_180 0 93 (dk_at dksJ39_offer_0 14 rfl rfl)
theorem dJ39_offer_17 : decode cJ39_offer 17 = .ok (.iconst 1, 1) := dk_4 (dk_at dksJ39_offer_0 17 rfl rfl)
theorem dJ39_offer_18 : decode cJ39_offer 18 = .ok (.iadd, 1) := dk_96 (dk_at dksJ39_offer_0 18 rfl rfl)
theorem dJ39_offer_19 : decode cJ39_offer 19 = .ok (.putfield 93, 3) := dk_181 0 93 (dk_at dksJ39_offer_0 19 rfl rfl)
theorem dJ39_offer_22 : decode cJ39_offer 22 = .ok (.aload_n 0, 1) := dk_42 (dk_at dksJ39_offer_0 22 rfl rfl)
theorem dJ39_offer_23 : decode cJ39_offer 23 = .ok (.getfield 58, 3) := dk_180 0 58 (dk_at dksJ39_offer_1 0 rfl rfl)
theorem dJ39_offer_26 : decode cJ39_offer 26 = .ok (.istore_n 2, 1) := dk_61 (dk_at dksJ39_offer_1 3 rfl rfl)
theorem dJ39_offer_27 : decode cJ39_offer 27 = .ok (.iload_n 2, 1) := dk_28 (dk_at dksJ39_offer_1 4 rfl rfl)
theorem dJ39_offer_28 : decode cJ39_offer 28 = .ok (.aload_n 0, 1) := dk_42 (dk_at dksJ39_offer_1 5 rfl rfl)
theorem dJ39_offer_29 : decode cJ39_offer 29 = .ok (.getfield 17, 3) := dk_180 0 17 (dk_at dksJ39_offer_1 6 rfl rfl)
theorem dJ39_offer_32 : decode cJ39_offer 32 = .ok (.arraylength, 1) := dk_190 (dk_at dksJ39_offer_1 9 rfl rfl)
theorem dJ39_offer_33 : decode cJ39_offer 33 = .ok (.if_icmp .lt 10, 3) := dk_161 0 10 (dk_at dksJ39_offer_1 10 rfl rfl)
theorem dJ39_offer_36 : decode cJ39_offer 36 = .ok (.aload_n 0, 1) := dk_42 (dk_at dksJ39_offer_1 13 rfl rfl)
theorem dJ39_offer_37 : decode cJ39_offer 37 = .ok (.iload_n 2, 1) := dk_28 (dk_at dksJ39_offer_1 14 rfl rfl)
theorem dJ39_offer_38 : decode cJ39_offer 38 = .ok (.iconst 1, 1) := dk_4 (dk_at dksJ39_offer_1 15 rfl rfl)
theorem dJ39_offer_39 : decode cJ39_offer 39 = .ok (.iadd, 1) := dk_96 (dk_at dksJ39_offer_1 16 rfl rfl)
theorem dJ39_offer_40 : decode cJ39_offer 40 = .ok (.invokevirtual 96, 3) := dk_182 0 96 (dk_at dksJ39_offer_1 17 rfl rfl)
theorem dJ39_offer_43 : decode cJ39_offer 43 = .ok (.aload_n 0, 1) := dk_42 (dk_at dksJ39_offer_1 20 rfl rfl)
theorem dJ39_offer_44 : decode cJ39_offer 44 = .ok (.iload_n 2, 1) := dk_28 (dk_at dksJ39_offer_1 21 rfl rfl)
theorem dJ39_offer_45 : decode cJ39_offer 45 = .ok (.aload_n 1, 1) := dk_43 (dk_at dksJ39_offer_1 22 rfl rfl)
theorem dJ39_offer_46 : decode cJ39_offer 46 = .ok (.invokevirtual 100, 3) := dk_182 0 100 (dk_at dksJ39_offer_2 0 rfl rfl)
theorem dJ39_offer_49 : decode cJ39_offer 49 = .ok (.aload_n 0, 1) := dk_42 (dk_at dksJ39_offer_2 3 rfl rfl)
theorem dJ39_offer_50 : decode cJ39_offer 50 = .ok (.iload_n 2, 1) := dk_28 (dk_at dksJ39_offer_2 4 rfl rfl)
theorem dJ39_offer_51 : decode cJ39_offer 51 = .ok (.iconst 1, 1) := dk_4 (dk_at dksJ39_offer_2 5 rfl rfl)
theorem dJ39_offer_52 : decode cJ39_offer 52 = .ok (.iadd, 1) := dk_96 (dk_at dksJ39_offer_2 6 rfl rfl)
theorem dJ39_offer_53 : decode cJ39_offer 53 = .ok (.putfield 58, 3) := dk_181 0 58 (dk_at dksJ39_offer_2 7 rfl rfl)
theorem dJ39_offer_56 : decode cJ39_offer 56 = .ok (.iconst 1, 1) := dk_4 (dk_at dksJ39_offer_2 10 rfl rfl)
theorem dJ39_offer_57 : decode cJ39_offer 57 = .ok (.ireturn, 1) := dk_172 (dk_at dksJ39_offer_2 11 rfl rfl)
abbrev cJ39_grow : ByteArray := prog_62_method_12_code
def yJ39_grow : MethodName := ⟨RJ39, "grow", "(I)V"⟩
def dkwJ39_grow_1 : List UInt8 := [122, 184, 0, 80, 62, 42, 42, 180, 0, 17, 29, 184, 0, 86, 181, 0, 17, 177]
abbrev dktJ39_grow_1 : List UInt8 := dkwJ39_grow_1 ++ []
def dkwJ39_grow_0 : List UInt8 := [42, 180, 0, 17, 190, 61, 28, 27, 28, 100, 28, 16, 64, 162, 0, 9, 28, 5, 96, 167, 0, 6, 28, 4]
abbrev dktJ39_grow_0 : List UInt8 := dkwJ39_grow_0 ++ dktJ39_grow_1
theorem dksJ39_grow_0 : cJ39_grow.data.toList.drop 0 = dktJ39_grow_0 := by decide +kernel
theorem dksJ39_grow_1 : cJ39_grow.data.toList.drop 24 = dktJ39_grow_1 := dk_seg dksJ39_grow_0 24 rfl rfl
theorem dJ39_grow_0 : decode cJ39_grow 0 = .ok (.aload_n 0, 1) := dk_42 (dk_at dksJ39_grow_0 0 rfl rfl)
theorem dJ39_grow_1 : decode cJ39_grow 1 = .ok (.getfield 17, 3) := dk_180 0 17 (dk_at dksJ39_grow_0 1 rfl rfl)
theorem dJ39_grow_4 : decode cJ39_grow 4 = .ok (.arraylength, 1) := dk_190 (dk_at dksJ39_grow_0 4 rfl rfl)
theorem dJ39_grow_5 : decode cJ39_grow 5 = .ok (.istore_n 2, 1) := dk_61 (dk_at dksJ39_grow_0 5 rfl rfl)
theorem dJ39_grow_6 : decode cJ39_grow 6 = .ok (.iload_n 2, 1) := dk_28 (dk_at dksJ39_grow_0 6 rfl rfl)
theorem dJ39_grow_7 : decode cJ39_grow 7 = .ok (.iload_n 1, 1) := dk_27 (dk_at dksJ39_grow_0 7 rfl rfl)
theorem dJ39_grow_8 : decode cJ39_grow 8 = .ok (.iload_n 2, 1) := dk_28 (dk_at dksJ39_grow_0 8 rfl rfl)
theorem dJ39_grow_9 : decode cJ39_grow 9 = .ok (.isub, 1) := dk_100 (dk_at dksJ39_grow_0 9 rfl rfl)
theorem dJ39_grow_10 : decode cJ39_grow 10 = .ok (.iload_n 2, 1) := dk_28 (dk_at dksJ39_grow_0 10 rfl rfl)
theorem dJ39_grow_11 : decode cJ39_grow 11 = .ok (.bipush 64, 2) := dk_16 64 (dk_at dksJ39_grow_0 11 rfl rfl)
theorem dJ39_grow_13 : decode cJ39_grow 13 = .ok (.if_icmp .ge 9, 3) := dk_162 0 9 (dk_at dksJ39_grow_0 13 rfl rfl)
theorem dJ39_grow_16 : decode cJ39_grow 16 = .ok (.iload_n 2, 1) := dk_28 (dk_at dksJ39_grow_0 16 rfl rfl)
theorem dJ39_grow_17 : decode cJ39_grow 17 = .ok (.iconst 2, 1) := dk_5 (dk_at dksJ39_grow_0 17 rfl rfl)
theorem dJ39_grow_18 : decode cJ39_grow 18 = .ok (.iadd, 1) := dk_96 (dk_at dksJ39_grow_0 18 rfl rfl)
theorem dJ39_grow_19 : decode cJ39_grow 19 = .ok (.goto 6, 3) := dk_167 0 6 (dk_at dksJ39_grow_0 19 rfl rfl)
theorem dJ39_grow_22 : decode cJ39_grow 22 = .ok (.iload_n 2, 1) := dk_28 (dk_at dksJ39_grow_0 22 rfl rfl)
theorem dJ39_grow_23 : decode cJ39_grow 23 = .ok (.iconst 1, 1) := dk_4 (dk_at dksJ39_grow_0 23 rfl rfl)
theorem dJ39_grow_24 : decode cJ39_grow 24 = .ok (.ishr, 1) := dk_122 (dk_at dksJ39_grow_1 0 rfl rfl)
theorem dJ39_grow_25 : decode cJ39_grow 25 = .ok (.invokestatic 80, 3) := dk_184 0 80 (dk_at dksJ39_grow_1 1 rfl rfl)
theorem dJ39_grow_28 : decode cJ39_grow 28 = .ok (.istore_n 3, 1) := dk_62 (dk_at dksJ39_grow_1 4 rfl rfl)
theorem dJ39_grow_29 : decode cJ39_grow 29 = .ok (.aload_n 0, 1) := dk_42 (dk_at dksJ39_grow_1 5 rfl rfl)
theorem dJ39_grow_30 : decode cJ39_grow 30 = .ok (.aload_n 0, 1) := dk_42 (dk_at dksJ39_grow_1 6 rfl rfl)
theorem dJ39_grow_31 : decode cJ39_grow 31 = .ok (.getfield 17, 3) := dk_180 0 17 (dk_at dksJ39_grow_1 7 rfl rfl)
theorem dJ39_grow_34 : decode cJ39_grow 34 = .ok (.iload_n 3, 1) := dk_29 (dk_at dksJ39_grow_1 10 rfl rfl)
theorem dJ39_grow_35 : decode cJ39_grow 35 = .ok (.invokestatic 86, 3) := dk_184 0 86 (dk_at dksJ39_grow_1 11 rfl rfl)
theorem dJ39_grow_38 : decode cJ39_grow 38 = .ok (.putfield 17, 3) := dk_181 0 17 (dk_at dksJ39_grow_1 14 rfl rfl)
theorem dJ39_grow_41 : decode cJ39_grow 41 = .ok (.return_, 1) := dk_177 (dk_at dksJ39_grow_1 17 rfl rfl)
abbrev cJ39_siftUp : ByteArray := prog_62_method_27_code
def yJ39_siftUp : MethodName := ⟨RJ39, "siftUp", "(ILjava/lang/Object;)V"⟩
def dkwJ39_siftUp_1 : List UInt8 := [44, 42, 180, 0, 17, 184, 0, 140, 177]
abbrev dktJ39_siftUp_1 : List UInt8 := dkwJ39_siftUp_1 ++ []
def dkwJ39_siftUp_0 : List UInt8 := [42, 180, 0, 21, 198, 0, 19, 27, 44, 42, 180, 0, 17, 42, 180, 0, 21, 184, 0, 136, 167, 0, 12, 27]
abbrev dktJ39_siftUp_0 : List UInt8 := dkwJ39_siftUp_0 ++ dktJ39_siftUp_1
theorem dksJ39_siftUp_0 : cJ39_siftUp.data.toList.drop 0 = dktJ39_siftUp_0 := by decide +kernel
theorem dksJ39_siftUp_1 : cJ39_siftUp.data.toList.drop 24 = dktJ39_siftUp_1 := dk_seg dksJ39_siftUp_0 24 rfl rfl
theorem dJ39_siftUp_0 : decode cJ39_siftUp 0 = .ok (.aload_n 0, 1) := dk_42 (dk_at dksJ39_siftUp_0 0 rfl rfl)
theorem dJ39_siftUp_1 : decode cJ39_siftUp 1 = .ok (.getfield 21, 3) := dk_180 0 21 (dk_at dksJ39_siftUp_0 1 rfl rfl)
theorem dJ39_siftUp_4 : decode cJ39_siftUp 4 = .ok (.ifnull 19, 3) := dk_198 0 19 (dk_at dksJ39_siftUp_0 4 rfl rfl)
theorem dJ39_siftUp_7 : decode cJ39_siftUp 7 = .ok (.iload_n 1, 1) := dk_27 (dk_at dksJ39_siftUp_0 7 rfl rfl)
theorem dJ39_siftUp_8 : decode cJ39_siftUp 8 = .ok (.aload_n 2, 1) := dk_44 (dk_at dksJ39_siftUp_0 8 rfl rfl)
theorem dJ39_siftUp_9 : decode cJ39_siftUp 9 = .ok (.aload_n 0, 1) := dk_42 (dk_at dksJ39_siftUp_0 9 rfl rfl)
theorem dJ39_siftUp_10 : decode cJ39_siftUp 10 = .ok (.getfield 17, 3) := dk_180 0 17 (dk_at dksJ39_siftUp_0 10 rfl rfl)
theorem dJ39_siftUp_13 : decode cJ39_siftUp 13 = .ok (.aload_n 0, 1) := dk_42 (dk_at dksJ39_siftUp_0 13 rfl rfl)
theorem dJ39_siftUp_14 : decode cJ39_siftUp 14 = .ok (.getfield 21, 3) := dk_180 0 21 (dk_at dksJ39_siftUp_0 14 rfl rfl)
theorem dJ39_siftUp_17 : decode cJ39_siftUp 17 = .ok (.invokestatic 136, 3) := dk_184 0 136 (dk_at dksJ39_siftUp_0 17 rfl rfl)
theorem dJ39_siftUp_20 : decode cJ39_siftUp 20 = .ok (.goto 12, 3) := dk_167 0 12 (dk_at dksJ39_siftUp_0 20 rfl rfl)
theorem dJ39_siftUp_23 : decode cJ39_siftUp 23 = .ok (.iload_n 1, 1) := dk_27 (dk_at dksJ39_siftUp_0 23 rfl rfl)
theorem dJ39_siftUp_24 : decode cJ39_siftUp 24 = .ok (.aload_n 2, 1) := dk_44 (dk_at dksJ39_siftUp_1 0 rfl rfl)
theorem dJ39_siftUp_25 : decode cJ39_siftUp 25 = .ok (.aload_n 0, 1) := dk_42 (dk_at dksJ39_siftUp_1 1 rfl rfl)
theorem dJ39_siftUp_26 : decode cJ39_siftUp 26 = .ok (.getfield 17, 3) := dk_180 0 17 (dk_at dksJ39_siftUp_1 2 rfl rfl)
theorem dJ39_siftUp_29 : decode cJ39_siftUp 29 = .ok (.invokestatic 140, 3) := dk_184 0 140 (dk_at dksJ39_siftUp_1 5 rfl rfl)
theorem dJ39_siftUp_32 : decode cJ39_siftUp 32 = .ok (.return_, 1) := dk_177 (dk_at dksJ39_siftUp_1 8 rfl rfl)
abbrev cJ39_siftUpUsingComparator : ByteArray := prog_62_method_29_code
def yJ39_siftUpUsingComparator : MethodName := ⟨RJ39, "siftUpUsingComparator", "(ILjava/lang/Object;[Ljava/lang/Object;Ljava/util/Comparator;)V"⟩
def dkwJ39_siftUpUsingComparator_2 : List UInt8 := [43, 83, 177]
abbrev dktJ39_siftUpUsingComparator_2 : List UInt8 := dkwJ39_siftUpUsingComparator_2 ++ []
def dkwJ39_siftUpUsingComparator_1 : List UInt8 := [185, 0, 149, 3, 0, 155, 0, 6, 167, 0, 14, 44, 26, 25, 5, 83, 21, 4, 59, 167, 255, 216, 44, 26]
abbrev dktJ39_siftUpUsingComparator_1 : List UInt8 := dkwJ39_siftUpUsingComparator_1 ++ dktJ39_siftUpUsingComparator_2
def dkwJ39_siftUpUsingComparator_0 : List UInt8 := [26, 158, 0, 42, 26, 4, 100, 4, 124, 54, 4, 44, 21, 4, 50, 58, 5, 45, 43, 25, 5]
abbrev dktJ39_siftUpUsingComparator_0 : List UInt8 := dkwJ39_siftUpUsingComparator_0 ++ dktJ39_siftUpUsingComparator_1
theorem dksJ39_siftUpUsingComparator_0 : cJ39_siftUpUsingComparator.data.toList.drop 0 = dktJ39_siftUpUsingComparator_0 := by decide +kernel
theorem dksJ39_siftUpUsingComparator_1 : cJ39_siftUpUsingComparator.data.toList.drop 21 = dktJ39_siftUpUsingComparator_1 := dk_seg dksJ39_siftUpUsingComparator_0 21 rfl rfl
theorem dksJ39_siftUpUsingComparator_2 : cJ39_siftUpUsingComparator.data.toList.drop 45 = dktJ39_siftUpUsingComparator_2 := dk_seg dksJ39_siftUpUsingComparator_1 24 rfl rfl
theorem dJ39_siftUpUsingComparator_0 : decode cJ39_siftUpUsingComparator 0 = .ok (.iload_n 0, 1) := dk_26 (dk_at dksJ39_siftUpUsingComparator_0 0 rfl rfl)
theorem dJ39_siftUpUsingComparator_1 : decode cJ39_siftUpUsingComparator 1 = .ok (.ifCond .le 42, 3) := dk_158 0 42 (dk_at dksJ39_siftUpUsingComparator_0 1 rfl rfl)
theorem dJ39_siftUpUsingComparator_4 : decode cJ39_siftUpUsingComparator 4 = .ok (.iload_n 0, 1) := dk_26 (dk_at dksJ39_siftUpUsingComparator_0 4 rfl rfl)
theorem dJ39_siftUpUsingComparator_5 : decode cJ39_siftUpUsingComparator 5 = .ok (.iconst 1, 1) := dk_4 (dk_at dksJ39_siftUpUsingComparator_0 5 rfl rfl)
theorem dJ39_siftUpUsingComparator_6 : decode cJ39_siftUpUsingComparator 6 = .ok (.isub, 1) := dk_100 (dk_at dksJ39_siftUpUsingComparator_0 6 rfl rfl)
theorem dJ39_siftUpUsingComparator_7 : decode cJ39_siftUpUsingComparator 7 = .ok (.iconst 1, 1) := dk_4 (dk_at dksJ39_siftUpUsingComparator_0 7 rfl rfl)
theorem dJ39_siftUpUsingComparator_8 : decode cJ39_siftUpUsingComparator 8 = .ok (.iushr, 1) := dk_124 (dk_at dksJ39_siftUpUsingComparator_0 8 rfl rfl)
theorem dJ39_siftUpUsingComparator_9 : decode cJ39_siftUpUsingComparator 9 = .ok (.istore 4, 2) := dk_54 4 (dk_at dksJ39_siftUpUsingComparator_0 9 rfl rfl)
theorem dJ39_siftUpUsingComparator_11 : decode cJ39_siftUpUsingComparator 11 = .ok (.aload_n 2, 1) := dk_44 (dk_at dksJ39_siftUpUsingComparator_0 11 rfl rfl)
theorem dJ39_siftUpUsingComparator_12 : decode cJ39_siftUpUsingComparator 12 = .ok (.iload 4, 2) := dk_21 4 (dk_at dksJ39_siftUpUsingComparator_0 12 rfl rfl)
theorem dJ39_siftUpUsingComparator_14 : decode cJ39_siftUpUsingComparator 14 = .ok (.aaload, 1) := dk_50 (dk_at dksJ39_siftUpUsingComparator_0 14 rfl rfl)
theorem dJ39_siftUpUsingComparator_15 : decode cJ39_siftUpUsingComparator 15 = .ok (.astore 5, 2) := dk_58 5 (dk_at dksJ39_siftUpUsingComparator_0 15 rfl rfl)
theorem dJ39_siftUpUsingComparator_17 : decode cJ39_siftUpUsingComparator 17 = .ok (.aload_n 3, 1) := dk_45 (dk_at dksJ39_siftUpUsingComparator_0 17 rfl rfl)
theorem dJ39_siftUpUsingComparator_18 : decode cJ39_siftUpUsingComparator 18 = .ok (.aload_n 1, 1) := dk_43 (dk_at dksJ39_siftUpUsingComparator_0 18 rfl rfl)
theorem dJ39_siftUpUsingComparator_19 : decode cJ39_siftUpUsingComparator 19 = .ok (.aload 5, 2) := dk_25 5 (dk_at dksJ39_siftUpUsingComparator_0 19 rfl rfl)
theorem dJ39_siftUpUsingComparator_21 : decode cJ39_siftUpUsingComparator 21 = .ok (.invokeinterface 149 3, 5) := by decide +kernel
theorem dJ39_siftUpUsingComparator_26 : decode cJ39_siftUpUsingComparator 26 = .ok (.ifCond .lt 6, 3) := dk_155 0 6 (dk_at dksJ39_siftUpUsingComparator_1 5 rfl rfl)
theorem dJ39_siftUpUsingComparator_29 : decode cJ39_siftUpUsingComparator 29 = .ok (.goto 14, 3) := dk_167 0 14 (dk_at dksJ39_siftUpUsingComparator_1 8 rfl rfl)
theorem dJ39_siftUpUsingComparator_32 : decode cJ39_siftUpUsingComparator 32 = .ok (.aload_n 2, 1) := dk_44 (dk_at dksJ39_siftUpUsingComparator_1 11 rfl rfl)
theorem dJ39_siftUpUsingComparator_33 : decode cJ39_siftUpUsingComparator 33 = .ok (.iload_n 0, 1) := dk_26 (dk_at dksJ39_siftUpUsingComparator_1 12 rfl rfl)
theorem dJ39_siftUpUsingComparator_34 : decode cJ39_siftUpUsingComparator 34 = .ok (.aload 5, 2) := dk_25 5 (dk_at dksJ39_siftUpUsingComparator_1 13 rfl rfl)
theorem dJ39_siftUpUsingComparator_36 : decode cJ39_siftUpUsingComparator 36 = .ok (.aastore, 1) := dk_83 (dk_at dksJ39_siftUpUsingComparator_1 15 rfl rfl)
theorem dJ39_siftUpUsingComparator_37 : decode cJ39_siftUpUsingComparator 37 = .ok (.iload 4, 2) := dk_21 4 (dk_at dksJ39_siftUpUsingComparator_1 16 rfl rfl)
theorem dJ39_siftUpUsingComparator_39 : decode cJ39_siftUpUsingComparator 39 = .ok (.istore_n 0, 1) := dk_59 (dk_at dksJ39_siftUpUsingComparator_1 18 rfl rfl)
theorem dJ39_siftUpUsingComparator_40 : decode cJ39_siftUpUsingComparator 40 = .ok (.goto (-40), 3) := dk_167 255 216 (dk_at dksJ39_siftUpUsingComparator_1 19 rfl rfl)
theorem dJ39_siftUpUsingComparator_43 : decode cJ39_siftUpUsingComparator 43 = .ok (.aload_n 2, 1) := dk_44 (dk_at dksJ39_siftUpUsingComparator_1 22 rfl rfl)
theorem dJ39_siftUpUsingComparator_44 : decode cJ39_siftUpUsingComparator 44 = .ok (.iload_n 0, 1) := dk_26 (dk_at dksJ39_siftUpUsingComparator_1 23 rfl rfl)
theorem dJ39_siftUpUsingComparator_45 : decode cJ39_siftUpUsingComparator 45 = .ok (.aload_n 1, 1) := dk_43 (dk_at dksJ39_siftUpUsingComparator_2 0 rfl rfl)
theorem dJ39_siftUpUsingComparator_46 : decode cJ39_siftUpUsingComparator 46 = .ok (.aastore, 1) := dk_83 (dk_at dksJ39_siftUpUsingComparator_2 1 rfl rfl)
theorem dJ39_siftUpUsingComparator_47 : decode cJ39_siftUpUsingComparator 47 = .ok (.return_, 1) := dk_177 (dk_at dksJ39_siftUpUsingComparator_2 2 rfl rfl)
abbrev cJ39_siftUpComparable : ByteArray := prog_62_method_28_code
def yJ39_siftUpComparable : MethodName := ⟨RJ39, "siftUpComparable", "(ILjava/lang/Object;[Ljava/lang/Object;)V"⟩
def dkwJ39_siftUpComparable_2 : List UInt8 := [44, 26, 45, 83, 177]
abbrev dktJ39_siftUpComparable_2 : List UInt8 := dkwJ39_siftUpComparable_2 ++ []
def dkwJ39_siftUpComparable_1 : List UInt8 := [25, 5, 185, 0, 146, 2, 0, 155, 0, 6, 167, 0, 14, 44, 26, 25, 5, 83, 21, 4, 59, 167, 255, 217]
abbrev dktJ39_siftUpComparable_1 : List UInt8 := dkwJ39_siftUpComparable_1 ++ dktJ39_siftUpComparable_2
def dkwJ39_siftUpComparable_0 : List UInt8 := [43, 192, 0, 144, 78, 26, 158, 0, 41, 26, 4, 100, 4, 124, 54, 4, 44, 21, 4, 50, 58, 5, 45]
abbrev dktJ39_siftUpComparable_0 : List UInt8 := dkwJ39_siftUpComparable_0 ++ dktJ39_siftUpComparable_1
theorem dksJ39_siftUpComparable_0 : cJ39_siftUpComparable.data.toList.drop 0 = dktJ39_siftUpComparable_0 := by decide +kernel
theorem dksJ39_siftUpComparable_1 : cJ39_siftUpComparable.data.toList.drop 23 = dktJ39_siftUpComparable_1 := dk_seg dksJ39_siftUpComparable_0 23 rfl rfl
theorem dksJ39_siftUpComparable_2 : cJ39_siftUpComparable.data.toList.drop 47 = dktJ39_siftUpComparable_2 := dk_seg dksJ39_siftUpComparable_1 24 rfl rfl
theorem dJ39_siftUpComparable_0 : decode cJ39_siftUpComparable 0 = .ok (.aload_n 1, 1) := dk_43 (dk_at dksJ39_siftUpComparable_0 0 rfl rfl)
theorem dJ39_siftUpComparable_1 : decode cJ39_siftUpComparable 1 = .ok (.checkcast 144, 3) := dk_192 0 144 (dk_at dksJ39_siftUpComparable_0 1 rfl rfl)
theorem dJ39_siftUpComparable_4 : decode cJ39_siftUpComparable 4 = .ok (.astore_n 3, 1) := dk_78 (dk_at dksJ39_siftUpComparable_0 4 rfl rfl)
theorem dJ39_siftUpComparable_5 : decode cJ39_siftUpComparable 5 = .ok (.iload_n 0, 1) := dk_26 (dk_at dksJ39_siftUpComparable_0 5 rfl rfl)
theorem dJ39_siftUpComparable_6 : decode cJ39_siftUpComparable 6 = .ok (.ifCond .le 41, 3) := dk_158 0 41 (dk_at dksJ39_siftUpComparable_0 6 rfl rfl)
theorem dJ39_siftUpComparable_9 : decode cJ39_siftUpComparable 9 = .ok (.iload_n 0, 1) := dk_26 (dk_at dksJ39_siftUpComparable_0 9 rfl rfl)
theorem dJ39_siftUpComparable_10 : decode cJ39_siftUpComparable 10 = .ok (.iconst 1, 1) := dk_4 (dk_at dksJ39_siftUpComparable_0 10 rfl rfl)
theorem dJ39_siftUpComparable_11 : decode cJ39_siftUpComparable 11 = .ok (.isub, 1) := dk_100 (dk_at dksJ39_siftUpComparable_0 11 rfl rfl)
theorem dJ39_siftUpComparable_12 : decode cJ39_siftUpComparable 12 = .ok (.iconst 1, 1) := dk_4 (dk_at dksJ39_siftUpComparable_0 12 rfl rfl)
theorem dJ39_siftUpComparable_13 : decode cJ39_siftUpComparable 13 = .ok (.iushr, 1) := dk_124 (dk_at dksJ39_siftUpComparable_0 13 rfl rfl)
theorem dJ39_siftUpComparable_14 : decode cJ39_siftUpComparable 14 = .ok (.istore 4, 2) := dk_54 4 (dk_at dksJ39_siftUpComparable_0 14 rfl rfl)
theorem dJ39_siftUpComparable_16 : decode cJ39_siftUpComparable 16 = .ok (.aload_n 2, 1) := dk_44 (dk_at dksJ39_siftUpComparable_0 16 rfl rfl)
theorem dJ39_siftUpComparable_17 : decode cJ39_siftUpComparable 17 = .ok (.iload 4, 2) := dk_21 4 (dk_at dksJ39_siftUpComparable_0 17 rfl rfl)
theorem dJ39_siftUpComparable_19 : decode cJ39_siftUpComparable 19 = .ok (.aaload, 1) := dk_50 (dk_at dksJ39_siftUpComparable_0 19 rfl rfl)
theorem dJ39_siftUpComparable_20 : decode cJ39_siftUpComparable 20 = .ok (.astore 5, 2) := dk_58 5 (dk_at dksJ39_siftUpComparable_0 20 rfl rfl)
theorem dJ39_siftUpComparable_22 : decode cJ39_siftUpComparable 22 = .ok (.aload_n 3, 1) := dk_45 (dk_at dksJ39_siftUpComparable_0 22 rfl rfl)
theorem dJ39_siftUpComparable_23 : decode cJ39_siftUpComparable 23 = .ok (.aload 5, 2) := dk_25 5 (dk_at dksJ39_siftUpComparable_1 0 rfl rfl)
theorem dJ39_siftUpComparable_25 : decode cJ39_siftUpComparable 25 = .ok (.invokeinterface 146 2, 5) := by decide +kernel
theorem dJ39_siftUpComparable_30 : decode cJ39_siftUpComparable 30 = .ok (.ifCond .lt 6, 3) := dk_155 0 6 (dk_at dksJ39_siftUpComparable_1 7 rfl rfl)
theorem dJ39_siftUpComparable_33 : decode cJ39_siftUpComparable 33 = .ok (.goto 14, 3) := dk_167 0 14 (dk_at dksJ39_siftUpComparable_1 10 rfl rfl)
theorem dJ39_siftUpComparable_36 : decode cJ39_siftUpComparable 36 = .ok (.aload_n 2, 1) := dk_44 (dk_at dksJ39_siftUpComparable_1 13 rfl rfl)
theorem dJ39_siftUpComparable_37 : decode cJ39_siftUpComparable 37 = .ok (.iload_n 0, 1) := dk_26 (dk_at dksJ39_siftUpComparable_1 14 rfl rfl)
theorem dJ39_siftUpComparable_38 : decode cJ39_siftUpComparable 38 = .ok (.aload 5, 2) := dk_25 5 (dk_at dksJ39_siftUpComparable_1 15 rfl rfl)
theorem dJ39_siftUpComparable_40 : decode cJ39_siftUpComparable 40 = .ok (.aastore, 1) := dk_83 (dk_at dksJ39_siftUpComparable_1 17 rfl rfl)
theorem dJ39_siftUpComparable_41 : decode cJ39_siftUpComparable 41 = .ok (.iload 4, 2) := dk_21 4 (dk_at dksJ39_siftUpComparable_1 18 rfl rfl)
theorem dJ39_siftUpComparable_43 : decode cJ39_siftUpComparable 43 = .ok (.istore_n 0, 1) := dk_59 (dk_at dksJ39_siftUpComparable_1 20 rfl rfl)
theorem dJ39_siftUpComparable_44 : decode cJ39_siftUpComparable 44 = .ok (.goto (-39), 3) := dk_167 255 217 (dk_at dksJ39_siftUpComparable_1 21 rfl rfl)
theorem dJ39_siftUpComparable_47 : decode cJ39_siftUpComparable 47 = .ok (.aload_n 2, 1) := dk_44 (dk_at dksJ39_siftUpComparable_2 0 rfl rfl)
theorem dJ39_siftUpComparable_48 : decode cJ39_siftUpComparable 48 = .ok (.iload_n 0, 1) := dk_26 (dk_at dksJ39_siftUpComparable_2 1 rfl rfl)
theorem dJ39_siftUpComparable_49 : decode cJ39_siftUpComparable 49 = .ok (.aload_n 3, 1) := dk_45 (dk_at dksJ39_siftUpComparable_2 2 rfl rfl)
theorem dJ39_siftUpComparable_50 : decode cJ39_siftUpComparable 50 = .ok (.aastore, 1) := dk_83 (dk_at dksJ39_siftUpComparable_2 3 rfl rfl)
theorem dJ39_siftUpComparable_51 : decode cJ39_siftUpComparable 51 = .ok (.return_, 1) := dk_177 (dk_at dksJ39_siftUpComparable_2 4 rfl rfl)
abbrev cJ39_size : ByteArray := prog_62_method_23_code
def yJ39_size : MethodName := ⟨RJ39, "size", "()I"⟩
theorem dJ39_size_0 : decode cJ39_size 0 = .ok (.aload_n 0, 1) := by decide +kernel
theorem dJ39_size_1 : decode cJ39_size 1 = .ok (.getfield 58, 3) := by decide +kernel
theorem dJ39_size_4 : decode cJ39_size 4 = .ok (.ireturn, 1) := by decide +kernel
abbrev cJ39_poll : ByteArray := prog_62_method_25_code
def yJ39_poll : MethodName := ⟨RJ39, "poll", "()Ljava/lang/Object;"⟩
def dkwJ39_poll_3 : List UInt8 := [43, 29, 25, 5, 184, 0, 129, 44, 176]
abbrev dktJ39_poll_3 : List UInt8 := dkwJ39_poll_3 ++ []
def dkwJ39_poll_2 : List UInt8 := [42, 180, 0, 21, 89, 58, 5, 199, 0, 14, 3, 25, 4, 43, 29, 184, 0, 125, 167, 0, 13, 3, 25, 4]
abbrev dktJ39_poll_2 : List UInt8 := dkwJ39_poll_2 ++ dktJ39_poll_3
def dkwJ39_poll_1 : List UInt8 := [42, 89, 180, 0, 58, 4, 100, 90, 181, 0, 58, 89, 62, 50, 58, 4, 43, 29, 1, 83, 29, 158, 0, 34]
abbrev dktJ39_poll_1 : List UInt8 := dkwJ39_poll_1 ++ dktJ39_poll_2
def dkwJ39_poll_0 : List UInt8 := [42, 180, 0, 17, 89, 76, 3, 50, 89, 77, 198, 0, 69, 42, 89, 180, 0, 93, 4, 96, 181, 0, 93, 43]
abbrev dktJ39_poll_0 : List UInt8 := dkwJ39_poll_0 ++ dktJ39_poll_1
theorem dksJ39_poll_0 : cJ39_poll.data.toList.drop 0 = dktJ39_poll_0 := by decide +kernel
theorem dksJ39_poll_1 : cJ39_poll.data.toList.drop 24 = dktJ39_poll_1 := dk_seg dksJ39_poll_0 24 rfl rfl
theorem dksJ39_poll_2 : cJ39_poll.data.toList.drop 48 = dktJ39_poll_2 := dk_seg dksJ39_poll_1 24 rfl rfl
theorem dksJ39_poll_3 : cJ39_poll.data.toList.drop 72 = dktJ39_poll_3 := dk_seg dksJ39_poll_2 24 rfl rfl
theorem dJ39_poll_0 : decode cJ39_poll 0 = .ok (.aload_n 0, 1) := dk_42 (dk_at dksJ39_poll_0 0 rfl rfl)
theorem dJ39_poll_1 : decode cJ39_poll 1 = .ok (.getfield 17, 3) := dk_180 0 17 (dk_at dksJ39_poll_0 1 rfl rfl)
theorem dJ39_poll_4 : decode cJ39_poll 4 = .ok (.dup, 1) := dk_89 (dk_at dksJ39_poll_0 4 rfl rfl)
theorem dJ39_poll_5 : decode cJ39_poll 5 = .ok (.astore_n 1, 1) := dk_76 (dk_at dksJ39_poll_0 5 rfl rfl)
theorem dJ39_poll_6 : decode cJ39_poll 6 = .ok (.iconst 0, 1) := dk_3 (dk_at dksJ39_poll_0 6 rfl rfl)
theorem dJ39_poll_7 : decode cJ39_poll 7 = .ok (.aaload, 1) := dk_50 (dk_at dksJ39_poll_0 7 rfl rfl)
theorem dJ39_poll_8 : decode cJ39_poll 8 = .ok (.dup, 1) := dk_89 (dk_at dksJ39_poll_0 8 rfl rfl)
theorem dJ39_poll_9 : decode cJ39_poll 9 = .ok (.astore_n 2, 1) := dk_77 (dk_at dksJ39_poll_0 9 rfl rfl)
theorem dJ39_poll_10 : decode cJ39_poll 10 = .ok (.ifnull 69, 3) := dk_198 0 69 (dk_at dksJ39_poll_0 10 rfl rfl)
theorem dJ39_poll_13 : decode cJ39_poll 13 = .ok (.aload_n 0, 1) := dk_42 (dk_at dksJ39_poll_0 13 rfl rfl)
theorem dJ39_poll_14 : decode cJ39_poll 14 = .ok (.dup, 1) := dk_89 (dk_at dksJ39_poll_0 14 rfl rfl)
theorem dJ39_poll_15 : decode cJ39_poll 15 = .ok (.getfield 93, 3) := dk_180 0 93 (dk_at dksJ39_poll_0 15 rfl rfl)
theorem dJ39_poll_18 : decode cJ39_poll 18 = .ok (.iconst 1, 1) := dk_4 (dk_at dksJ39_poll_0 18 rfl rfl)
theorem dJ39_poll_19 : decode cJ39_poll 19 = .ok (.iadd, 1) := dk_96 (dk_at dksJ39_poll_0 19 rfl rfl)
theorem dJ39_poll_20 : decode cJ39_poll 20 = .ok (.putfield 93, 3) := dk_181 0 93 (dk_at dksJ39_poll_0 20 rfl rfl)
theorem dJ39_poll_23 : decode cJ39_poll 23 = .ok (.aload_n 1, 1) := dk_43 (dk_at dksJ39_poll_0 23 rfl rfl)
theorem dJ39_poll_24 : decode cJ39_poll 24 = .ok (.aload_n 0, 1) := dk_42 (dk_at dksJ39_poll_1 0 rfl rfl)
theorem dJ39_poll_25 : decode cJ39_poll 25 = .ok (.dup, 1) := dk_89 (dk_at dksJ39_poll_1 1 rfl rfl)
theorem dJ39_poll_26 : decode cJ39_poll 26 = .ok (.getfield 58, 3) := dk_180 0 58 (dk_at dksJ39_poll_1 2 rfl rfl)
theorem dJ39_poll_29 : decode cJ39_poll 29 = .ok (.iconst 1, 1) := dk_4 (dk_at dksJ39_poll_1 5 rfl rfl)
theorem dJ39_poll_30 : decode cJ39_poll 30 = .ok (.isub, 1) := dk_100 (dk_at dksJ39_poll_1 6 rfl rfl)
theorem dJ39_poll_31 : decode cJ39_poll 31 = .ok (.dup_x1, 1) := dk_90 (dk_at dksJ39_poll_1 7 rfl rfl)
theorem dJ39_poll_32 : decode cJ39_poll 32 = .ok (.putfield 58, 3) := dk_181 0 58 (dk_at dksJ39_poll_1 8 rfl rfl)
theorem dJ39_poll_35 : decode cJ39_poll 35 = .ok (.dup, 1) := dk_89 (dk_at dksJ39_poll_1 11 rfl rfl)
theorem dJ39_poll_36 : decode cJ39_poll 36 = .ok (.istore_n 3, 1) := dk_62 (dk_at dksJ39_poll_1 12 rfl rfl)
theorem dJ39_poll_37 : decode cJ39_poll 37 = .ok (.aaload, 1) := dk_50 (dk_at dksJ39_poll_1 13 rfl rfl)
theorem dJ39_poll_38 : decode cJ39_poll 38 = .ok (.astore 4, 2) := dk_58 4 (dk_at dksJ39_poll_1 14 rfl rfl)
theorem dJ39_poll_40 : decode cJ39_poll 40 = .ok (.aload_n 1, 1) := dk_43 (dk_at dksJ39_poll_1 16 rfl rfl)
theorem dJ39_poll_41 : decode cJ39_poll 41 = .ok (.iload_n 3, 1) := dk_29 (dk_at dksJ39_poll_1 17 rfl rfl)
theorem dJ39_poll_42 : decode cJ39_poll 42 = .ok (.aconst_null, 1) := dk_1 (dk_at dksJ39_poll_1 18 rfl rfl)
theorem dJ39_poll_43 : decode cJ39_poll 43 = .ok (.aastore, 1) := dk_83 (dk_at dksJ39_poll_1 19 rfl rfl)
theorem dJ39_poll_44 : decode cJ39_poll 44 = .ok (.iload_n 3, 1) := dk_29 (dk_at dksJ39_poll_1 20 rfl rfl)
theorem dJ39_poll_45 : decode cJ39_poll 45 = .ok (.ifCond .le 34, 3) := dk_158 0 34 (dk_at dksJ39_poll_1 21 rfl rfl)
theorem dJ39_poll_48 : decode cJ39_poll 48 = .ok (.aload_n 0, 1) := dk_42 (dk_at dksJ39_poll_2 0 rfl rfl)
theorem dJ39_poll_49 : decode cJ39_poll 49 = .ok (.getfield 21, 3) := dk_180 0 21 (dk_at dksJ39_poll_2 1 rfl rfl)
theorem dJ39_poll_52 : decode cJ39_poll 52 = .ok (.dup, 1) := dk_89 (dk_at dksJ39_poll_2 4 rfl rfl)
theorem dJ39_poll_53 : decode cJ39_poll 53 = .ok (.astore 5, 2) := dk_58 5 (dk_at dksJ39_poll_2 5 rfl rfl)
theorem dJ39_poll_55 : decode cJ39_poll 55 = .ok (.ifnonnull 14, 3) := dk_199 0 14 (dk_at dksJ39_poll_2 7 rfl rfl)
theorem dJ39_poll_58 : decode cJ39_poll 58 = .ok (.iconst 0, 1) := dk_3 (dk_at dksJ39_poll_2 10 rfl rfl)
theorem dJ39_poll_59 : decode cJ39_poll 59 = .ok (.aload 4, 2) := dk_25 4 (dk_at dksJ39_poll_2 11 rfl rfl)
theorem dJ39_poll_61 : decode cJ39_poll 61 = .ok (.aload_n 1, 1) := dk_43 (dk_at dksJ39_poll_2 13 rfl rfl)
theorem dJ39_poll_62 : decode cJ39_poll 62 = .ok (.iload_n 3, 1) := dk_29 (dk_at dksJ39_poll_2 14 rfl rfl)
theorem dJ39_poll_63 : decode cJ39_poll 63 = .ok (.invokestatic 125, 3) := dk_184 0 125 (dk_at dksJ39_poll_2 15 rfl rfl)
theorem dJ39_poll_66 : decode cJ39_poll 66 = .ok (.goto 13, 3) := dk_167 0 13 (dk_at dksJ39_poll_2 18 rfl rfl)
theorem dJ39_poll_69 : decode cJ39_poll 69 = .ok (.iconst 0, 1) := dk_3 (dk_at dksJ39_poll_2 21 rfl rfl)
theorem dJ39_poll_70 : decode cJ39_poll 70 = .ok (.aload 4, 2) := dk_25 4 (dk_at dksJ39_poll_2 22 rfl rfl)
theorem dJ39_poll_72 : decode cJ39_poll 72 = .ok (.aload_n 1, 1) := dk_43 (dk_at dksJ39_poll_3 0 rfl rfl)
theorem dJ39_poll_73 : decode cJ39_poll 73 = .ok (.iload_n 3, 1) := dk_29 (dk_at dksJ39_poll_3 1 rfl rfl)
theorem dJ39_poll_74 : decode cJ39_poll 74 = .ok (.aload 5, 2) := dk_25 5 (dk_at dksJ39_poll_3 2 rfl rfl)
theorem dJ39_poll_76 : decode cJ39_poll 76 = .ok (.invokestatic 129, 3) := dk_184 0 129 (dk_at dksJ39_poll_3 4 rfl rfl)
theorem dJ39_poll_79 : decode cJ39_poll 79 = .ok (.aload_n 2, 1) := dk_44 (dk_at dksJ39_poll_3 7 rfl rfl)
theorem dJ39_poll_80 : decode cJ39_poll 80 = .ok (.areturn, 1) := dk_176 (dk_at dksJ39_poll_3 8 rfl rfl)
abbrev cJ39_siftDownComparable : ByteArray := prog_62_method_31_code
def yJ39_siftDownComparable : MethodName := ⟨RJ39, "siftDownComparable", "(ILjava/lang/Object;[Ljava/lang/Object;I)V"⟩
def dkwJ39_siftDownComparable_4 : List UInt8 := [25, 4, 83, 177]
abbrev dktJ39_siftDownComparable_4 : List UInt8 := dkwJ39_siftDownComparable_4 ++ []
def dkwJ39_siftDownComparable_3 : List UInt8 := [185, 0, 146, 2, 0, 157, 0, 6, 167, 0, 14, 44, 26, 25, 7, 83, 21, 6, 59, 167, 255, 176, 44, 26]
abbrev dktJ39_siftDownComparable_3 : List UInt8 := dkwJ39_siftDownComparable_3 ++ dktJ39_siftDownComparable_4
def dkwJ39_siftDownComparable_2 : List UInt8 := [21, 8, 50, 185, 0, 146, 2, 0, 158, 0, 12, 44, 21, 8, 89, 54, 6, 50, 58, 7, 25, 4, 25, 7]
abbrev dktJ39_siftDownComparable_2 : List UInt8 := dkwJ39_siftDownComparable_2 ++ dktJ39_siftDownComparable_3
def dkwJ39_siftDownComparable_1 : List UInt8 := [44, 21, 6, 50, 58, 7, 21, 6, 4, 96, 54, 8, 21, 8, 29, 162, 0, 29, 25, 7, 192, 0, 144, 44]
abbrev dktJ39_siftDownComparable_1 : List UInt8 := dkwJ39_siftDownComparable_1 ++ dktJ39_siftDownComparable_2
def dkwJ39_siftDownComparable_0 : List UInt8 := [43, 192, 0, 144, 58, 4, 29, 4, 124, 54, 5, 26, 21, 5, 162, 0, 80, 26, 4, 120, 4, 96, 54, 6]
abbrev dktJ39_siftDownComparable_0 : List UInt8 := dkwJ39_siftDownComparable_0 ++ dktJ39_siftDownComparable_1
theorem dksJ39_siftDownComparable_0 : cJ39_siftDownComparable.data.toList.drop 0 = dktJ39_siftDownComparable_0 := by decide +kernel
theorem dksJ39_siftDownComparable_1 : cJ39_siftDownComparable.data.toList.drop 24 = dktJ39_siftDownComparable_1 := dk_seg dksJ39_siftDownComparable_0 24 rfl rfl
theorem dksJ39_siftDownComparable_2 : cJ39_siftDownComparable.data.toList.drop 48 = dktJ39_siftDownComparable_2 := dk_seg dksJ39_siftDownComparable_1 24 rfl rfl
theorem dksJ39_siftDownComparable_3 : cJ39_siftDownComparable.data.toList.drop 72 = dktJ39_siftDownComparable_3 := dk_seg dksJ39_siftDownComparable_2 24 rfl rfl
theorem dksJ39_siftDownComparable_4 : cJ39_siftDownComparable.data.toList.drop 96 = dktJ39_siftDownComparable_4 := dk_seg dksJ39_siftDownComparable_3 24 rfl rfl
theorem dJ39_siftDownComparable_0 : decode cJ39_siftDownComparable 0 = .ok (.aload_n 1, 1) := dk_43 (dk_at dksJ39_siftDownComparable_0 0 rfl rfl)
theorem dJ39_siftDownComparable_1 : decode cJ39_siftDownComparable 1 = .ok (.checkcast 144, 3) := dk_192 0 144 (dk_at dksJ39_siftDownComparable_0 1 rfl rfl)
theorem dJ39_siftDownComparable_4 : decode cJ39_siftDownComparable 4 = .ok (.astore 4, 2) := dk_58 4 (dk_at dksJ39_siftDownComparable_0 4 rfl rfl)
theorem dJ39_siftDownComparable_6 : decode cJ39_siftDownComparable 6 = .ok (.iload_n 3, 1) := dk_29 (dk_at dksJ39_siftDownComparable_0 6 rfl rfl)
theorem dJ39_siftDownComparable_7 : decode cJ39_siftDownComparable 7 = .ok (.iconst 1, 1) := dk_4 (dk_at dksJ39_siftDownComparable_0 7 rfl rfl)
theorem dJ39_siftDownComparable_8 : decode cJ39_siftDownComparable 8 = .ok (.iushr, 1) := dk_124 (dk_at dksJ39_siftDownComparable_0 8 rfl rfl)
theorem dJ39_siftDownComparable_9 : decode cJ39_siftDownComparable 9 = .ok (.istore 5, 2) := dk_54 5 (dk_at dksJ39_siftDownComparable_0 9 rfl rfl)
theorem dJ39_siftDownComparable_11 : decode cJ39_siftDownComparable 11 = .ok (.iload_n 0, 1) := dk_26 (dk_at dksJ39_siftDownComparable_0 11 rfl rfl)
theorem dJ39_siftDownComparable_12 : decode cJ39_siftDownComparable 12 = .ok (.iload 5, 2) := dk_21 5 (dk_at dksJ39_siftDownComparable_0 12 rfl rfl)
theorem dJ39_siftDownComparable_14 : decode cJ39_siftDownComparable 14 = .ok (.if_icmp .ge 80, 3) := dk_162 0 80 (dk_at dksJ39_siftDownComparable_0 14 rfl rfl)
theorem dJ39_siftDownComparable_17 : decode cJ39_siftDownComparable 17 = .ok (.iload_n 0, 1) := dk_26 (dk_at dksJ39_siftDownComparable_0 17 rfl rfl)
theorem dJ39_siftDownComparable_18 : decode cJ39_siftDownComparable 18 = .ok (.iconst 1, 1) := dk_4 (dk_at dksJ39_siftDownComparable_0 18 rfl rfl)
theorem dJ39_siftDownComparable_19 : decode cJ39_siftDownComparable 19 = .ok (.ishl, 1) := dk_120 (dk_at dksJ39_siftDownComparable_0 19 rfl rfl)
theorem dJ39_siftDownComparable_20 : decode cJ39_siftDownComparable 20 = .ok (.iconst 1, 1) := dk_4 (dk_at dksJ39_siftDownComparable_0 20 rfl rfl)
theorem dJ39_siftDownComparable_21 : decode cJ39_siftDownComparable 21 = .ok (.iadd, 1) := dk_96 (dk_at dksJ39_siftDownComparable_0 21 rfl rfl)
theorem dJ39_siftDownComparable_22 : decode cJ39_siftDownComparable 22 = .ok (.istore 6, 2) := dk_54 6 (dk_at dksJ39_siftDownComparable_0 22 rfl rfl)
theorem dJ39_siftDownComparable_24 : decode cJ39_siftDownComparable 24 = .ok (.aload_n 2, 1) := dk_44 (dk_at dksJ39_siftDownComparable_1 0 rfl rfl)
theorem dJ39_siftDownComparable_25 : decode cJ39_siftDownComparable 25 = .ok (.iload 6, 2) := dk_21 6 (dk_at dksJ39_siftDownComparable_1 1 rfl rfl)
theorem dJ39_siftDownComparable_27 : decode cJ39_siftDownComparable 27 = .ok (.aaload, 1) := dk_50 (dk_at dksJ39_siftDownComparable_1 3 rfl rfl)
theorem dJ39_siftDownComparable_28 : decode cJ39_siftDownComparable 28 = .ok (.astore 7, 2) := dk_58 7 (dk_at dksJ39_siftDownComparable_1 4 rfl rfl)
theorem dJ39_siftDownComparable_30 : decode cJ39_siftDownComparable 30 = .ok (.iload 6, 2) := dk_21 6 (dk_at dksJ39_siftDownComparable_1 6 rfl rfl)
theorem dJ39_siftDownComparable_32 : decode cJ39_siftDownComparable 32 = .ok (.iconst 1, 1) := dk_4 (dk_at dksJ39_siftDownComparable_1 8 rfl rfl)
theorem dJ39_siftDownComparable_33 : decode cJ39_siftDownComparable 33 = .ok (.iadd, 1) := dk_96 (dk_at dksJ39_siftDownComparable_1 9 rfl rfl)
theorem dJ39_siftDownComparable_34 : decode cJ39_siftDownComparable 34 = .ok (.istore 8, 2) := dk_54 8 (dk_at dksJ39_siftDownComparable_1 10 rfl rfl)
theorem dJ39_siftDownComparable_36 : decode cJ39_siftDownComparable 36 = .ok (.iload 8, 2) := dk_21 8 (dk_at dksJ39_siftDownComparable_1 12 rfl rfl)
theorem dJ39_siftDownComparable_38 : decode cJ39_siftDownComparable 38 = .ok (.iload_n 3, 1) := dk_29 (dk_at dksJ39_siftDownComparable_1 14 rfl rfl)
theorem dJ39_siftDownComparable_39 : decode cJ39_siftDownComparable 39 = .ok (.if_icmp .ge 29, 3) := dk_162 0 29 (dk_at dksJ39_siftDownComparable_1 15 rfl rfl)
theorem dJ39_siftDownComparable_42 : decode cJ39_siftDownComparable 42 = .ok (.aload 7, 2) := dk_25 7 (dk_at dksJ39_siftDownComparable_1 18 rfl rfl)
theorem dJ39_siftDownComparable_44 : decode cJ39_siftDownComparable 44 = .ok (.checkcast 144, 3) := dk_192 0 144 (dk_at dksJ39_siftDownComparable_1 20 rfl rfl)
theorem dJ39_siftDownComparable_47 : decode cJ39_siftDownComparable 47 = .ok (.aload_n 2, 1) := dk_44 (dk_at dksJ39_siftDownComparable_1 23 rfl rfl)
theorem dJ39_siftDownComparable_48 : decode cJ39_siftDownComparable 48 = .ok (.iload 8, 2) := dk_21 8 (dk_at dksJ39_siftDownComparable_2 0 rfl rfl)
theorem dJ39_siftDownComparable_50 : decode cJ39_siftDownComparable 50 = .ok (.aaload, 1) := dk_50 (dk_at dksJ39_siftDownComparable_2 2 rfl rfl)
theorem dJ39_siftDownComparable_51 : decode cJ39_siftDownComparable 51 = .ok (.invokeinterface 146 2, 5) := by decide +kernel
theorem dJ39_siftDownComparable_56 : decode cJ39_siftDownComparable 56 = .ok (.ifCond .le 12, 3) := dk_158 0 12 (dk_at dksJ39_siftDownComparable_2 8 rfl rfl)
theorem dJ39_siftDownComparable_59 : decode cJ39_siftDownComparable 59 = .ok (.aload_n 2, 1) := dk_44 (dk_at dksJ39_siftDownComparable_2 11 rfl rfl)
theorem dJ39_siftDownComparable_60 : decode cJ39_siftDownComparable 60 = .ok (.iload 8, 2) := dk_21 8 (dk_at dksJ39_siftDownComparable_2 12 rfl rfl)
theorem dJ39_siftDownComparable_62 : decode cJ39_siftDownComparable 62 = .ok (.dup, 1) := dk_89 (dk_at dksJ39_siftDownComparable_2 14 rfl rfl)
theorem dJ39_siftDownComparable_63 : decode cJ39_siftDownComparable 63 = .ok (.istore 6, 2) := dk_54 6 (dk_at dksJ39_siftDownComparable_2 15 rfl rfl)
theorem dJ39_siftDownComparable_65 : decode cJ39_siftDownComparable 65 = .ok (.aaload, 1) := dk_50 (dk_at dksJ39_siftDownComparable_2 17 rfl rfl)
theorem dJ39_siftDownComparable_66 : decode cJ39_siftDownComparable 66 = .ok (.astore 7, 2) := dk_58 7 (dk_at dksJ39_siftDownComparable_2 18 rfl rfl)
theorem dJ39_siftDownComparable_68 : decode cJ39_siftDownComparable 68 = .ok (.aload 4, 2) := dk_25 4 (dk_at dksJ39_siftDownComparable_2 20 rfl rfl)
theorem dJ39_siftDownComparable_70 : decode cJ39_siftDownComparable 70 = .ok (.aload 7, 2) := dk_25 7 (dk_at dksJ39_siftDownComparable_2 22 rfl rfl)
theorem dJ39_siftDownComparable_72 : decode cJ39_siftDownComparable 72 = .ok (.invokeinterface 146 2, 5) := by decide +kernel
theorem dJ39_siftDownComparable_77 : decode cJ39_siftDownComparable 77 = .ok (.ifCond .gt 6, 3) := dk_157 0 6 (dk_at dksJ39_siftDownComparable_3 5 rfl rfl)
theorem dJ39_siftDownComparable_80 : decode cJ39_siftDownComparable 80 = .ok (.goto 14, 3) := dk_167 0 14 (dk_at dksJ39_siftDownComparable_3 8 rfl rfl)
theorem dJ39_siftDownComparable_83 : decode cJ39_siftDownComparable 83 = .ok (.aload_n 2, 1) := dk_44 (dk_at dksJ39_siftDownComparable_3 11 rfl rfl)
theorem dJ39_siftDownComparable_84 : decode cJ39_siftDownComparable 84 = .ok (.iload_n 0, 1) := dk_26 (dk_at dksJ39_siftDownComparable_3 12 rfl rfl)
theorem dJ39_siftDownComparable_85 : decode cJ39_siftDownComparable 85 = .ok (.aload 7, 2) := dk_25 7 (dk_at dksJ39_siftDownComparable_3 13 rfl rfl)
theorem dJ39_siftDownComparable_87 : decode cJ39_siftDownComparable 87 = .ok (.aastore, 1) := dk_83 (dk_at dksJ39_siftDownComparable_3 15 rfl rfl)
theorem dJ39_siftDownComparable_88 : decode cJ39_siftDownComparable 88 = .ok (.iload 6, 2) := dk_21 6 (dk_at dksJ39_siftDownComparable_3 16 rfl rfl)
theorem dJ39_siftDownComparable_90 : decode cJ39_siftDownComparable 90 = .ok (.istore_n 0, 1) := dk_59 (dk_at dksJ39_siftDownComparable_3 18 rfl rfl)
theorem dJ39_siftDownComparable_91 : decode cJ39_siftDownComparable 91 = .ok (.goto (-80), 3) := dk_167 255 176 (dk_at dksJ39_siftDownComparable_3 19 rfl rfl)
theorem dJ39_siftDownComparable_94 : decode cJ39_siftDownComparable 94 = .ok (.aload_n 2, 1) := dk_44 (dk_at dksJ39_siftDownComparable_3 22 rfl rfl)
theorem dJ39_siftDownComparable_95 : decode cJ39_siftDownComparable 95 = .ok (.iload_n 0, 1) := dk_26 (dk_at dksJ39_siftDownComparable_3 23 rfl rfl)
theorem dJ39_siftDownComparable_96 : decode cJ39_siftDownComparable 96 = .ok (.aload 4, 2) := dk_25 4 (dk_at dksJ39_siftDownComparable_4 0 rfl rfl)
theorem dJ39_siftDownComparable_98 : decode cJ39_siftDownComparable 98 = .ok (.aastore, 1) := dk_83 (dk_at dksJ39_siftDownComparable_4 2 rfl rfl)
theorem dJ39_siftDownComparable_99 : decode cJ39_siftDownComparable 99 = .ok (.return_, 1) := dk_177 (dk_at dksJ39_siftDownComparable_4 3 rfl rfl)
abbrev cJ39_siftDownUsingComparator : ByteArray := prog_62_method_32_code
def yJ39_siftDownUsingComparator : MethodName := ⟨RJ39, "siftDownUsingComparator", "(ILjava/lang/Object;[Ljava/lang/Object;ILjava/util/Comparator;)V"⟩
def dkwJ39_siftDownUsingComparator_4 : List UInt8 := [43, 83, 177]
abbrev dktJ39_siftDownUsingComparator_4 : List UInt8 := dkwJ39_siftDownUsingComparator_4 ++ []
def dkwJ39_siftDownUsingComparator_3 : List UInt8 := [185, 0, 149, 3, 0, 157, 0, 6, 167, 0, 14, 44, 26, 25, 7, 83, 21, 6, 59, 167, 255, 176, 44, 26]
abbrev dktJ39_siftDownUsingComparator_3 : List UInt8 := dkwJ39_siftDownUsingComparator_3 ++ dktJ39_siftDownUsingComparator_4
def dkwJ39_siftDownUsingComparator_2 : List UInt8 := [185, 0, 149, 3, 0, 158, 0, 12, 44, 21, 8, 89, 54, 6, 50, 58, 7, 25, 4, 43, 25, 7]
abbrev dktJ39_siftDownUsingComparator_2 : List UInt8 := dkwJ39_siftDownUsingComparator_2 ++ dktJ39_siftDownUsingComparator_3
def dkwJ39_siftDownUsingComparator_1 : List UInt8 := [21, 6, 4, 96, 54, 8, 21, 8, 29, 162, 0, 28, 25, 4, 25, 7, 44, 21, 8, 50]
abbrev dktJ39_siftDownUsingComparator_1 : List UInt8 := dkwJ39_siftDownUsingComparator_1 ++ dktJ39_siftDownUsingComparator_2
def dkwJ39_siftDownUsingComparator_0 : List UInt8 := [29, 4, 124, 54, 5, 26, 21, 5, 162, 0, 80, 26, 4, 120, 4, 96, 54, 6, 44, 21, 6, 50, 58, 7]
abbrev dktJ39_siftDownUsingComparator_0 : List UInt8 := dkwJ39_siftDownUsingComparator_0 ++ dktJ39_siftDownUsingComparator_1
theorem dksJ39_siftDownUsingComparator_0 : cJ39_siftDownUsingComparator.data.toList.drop 0 = dktJ39_siftDownUsingComparator_0 := by decide +kernel
theorem dksJ39_siftDownUsingComparator_1 : cJ39_siftDownUsingComparator.data.toList.drop 24 = dktJ39_siftDownUsingComparator_1 := dk_seg dksJ39_siftDownUsingComparator_0 24 rfl rfl
theorem dksJ39_siftDownUsingComparator_2 : cJ39_siftDownUsingComparator.data.toList.drop 44 = dktJ39_siftDownUsingComparator_2 := dk_seg dksJ39_siftDownUsingComparator_1 20 rfl rfl
theorem dksJ39_siftDownUsingComparator_3 : cJ39_siftDownUsingComparator.data.toList.drop 66 = dktJ39_siftDownUsingComparator_3 := dk_seg dksJ39_siftDownUsingComparator_2 22 rfl rfl
theorem dksJ39_siftDownUsingComparator_4 : cJ39_siftDownUsingComparator.data.toList.drop 90 = dktJ39_siftDownUsingComparator_4 := dk_seg dksJ39_siftDownUsingComparator_3 24 rfl rfl
theorem dJ39_siftDownUsingComparator_0 : decode cJ39_siftDownUsingComparator 0 = .ok (.iload_n 3, 1) := dk_29 (dk_at dksJ39_siftDownUsingComparator_0 0 rfl rfl)
theorem dJ39_siftDownUsingComparator_1 : decode cJ39_siftDownUsingComparator 1 = .ok (.iconst 1, 1) := dk_4 (dk_at dksJ39_siftDownUsingComparator_0 1 rfl rfl)
theorem dJ39_siftDownUsingComparator_2 : decode cJ39_siftDownUsingComparator 2 = .ok (.iushr, 1) := dk_124 (dk_at dksJ39_siftDownUsingComparator_0 2 rfl rfl)
theorem dJ39_siftDownUsingComparator_3 : decode cJ39_siftDownUsingComparator 3 = .ok (.istore 5, 2) := dk_54 5 (dk_at dksJ39_siftDownUsingComparator_0 3 rfl rfl)
theorem dJ39_siftDownUsingComparator_5 : decode cJ39_siftDownUsingComparator 5 = .ok (.iload_n 0, 1) := dk_26 (dk_at dksJ39_siftDownUsingComparator_0 5 rfl rfl)
theorem dJ39_siftDownUsingComparator_6 : decode cJ39_siftDownUsingComparator 6 = .ok (.iload 5, 2) := dk_21 5 (dk_at dksJ39_siftDownUsingComparator_0 6 rfl rfl)
theorem dJ39_siftDownUsingComparator_8 : decode cJ39_siftDownUsingComparator 8 = .ok (.if_icmp .ge 80, 3) := dk_162 0 80 (dk_at dksJ39_siftDownUsingComparator_0 8 rfl rfl)
theorem dJ39_siftDownUsingComparator_11 : decode cJ39_siftDownUsingComparator 11 = .ok (.iload_n 0, 1) := dk_26 (dk_at dksJ39_siftDownUsingComparator_0 11 rfl rfl)
theorem dJ39_siftDownUsingComparator_12 : decode cJ39_siftDownUsingComparator 12 = .ok (.iconst 1, 1) := dk_4 (dk_at dksJ39_siftDownUsingComparator_0 12 rfl rfl)
theorem dJ39_siftDownUsingComparator_13 : decode cJ39_siftDownUsingComparator 13 = .ok (.ishl, 1) := dk_120 (dk_at dksJ39_siftDownUsingComparator_0 13 rfl rfl)
theorem dJ39_siftDownUsingComparator_14 : decode cJ39_siftDownUsingComparator 14 = .ok (.iconst 1, 1) := dk_4 (dk_at dksJ39_siftDownUsingComparator_0 14 rfl rfl)
theorem dJ39_siftDownUsingComparator_15 : decode cJ39_siftDownUsingComparator 15 = .ok (.iadd, 1) := dk_96 (dk_at dksJ39_siftDownUsingComparator_0 15 rfl rfl)
theorem dJ39_siftDownUsingComparator_16 : decode cJ39_siftDownUsingComparator 16 = .ok (.istore 6, 2) := dk_54 6 (dk_at dksJ39_siftDownUsingComparator_0 16 rfl rfl)
theorem dJ39_siftDownUsingComparator_18 : decode cJ39_siftDownUsingComparator 18 = .ok (.aload_n 2, 1) := dk_44 (dk_at dksJ39_siftDownUsingComparator_0 18 rfl rfl)
theorem dJ39_siftDownUsingComparator_19 : decode cJ39_siftDownUsingComparator 19 = .ok (.iload 6, 2) := dk_21 6 (dk_at dksJ39_siftDownUsingComparator_0 19 rfl rfl)
theorem dJ39_siftDownUsingComparator_21 : decode cJ39_siftDownUsingComparator 21 = .ok (.aaload, 1) := dk_50 (dk_at dksJ39_siftDownUsingComparator_0 21 rfl rfl)
theorem dJ39_siftDownUsingComparator_22 : decode cJ39_siftDownUsingComparator 22 = .ok (.astore 7, 2) := dk_58 7 (dk_at dksJ39_siftDownUsingComparator_0 22 rfl rfl)
theorem dJ39_siftDownUsingComparator_24 : decode cJ39_siftDownUsingComparator 24 = .ok (.iload 6, 2) := dk_21 6 (dk_at dksJ39_siftDownUsingComparator_1 0 rfl rfl)
theorem dJ39_siftDownUsingComparator_26 : decode cJ39_siftDownUsingComparator 26 = .ok (.iconst 1, 1) := dk_4 (dk_at dksJ39_siftDownUsingComparator_1 2 rfl rfl)
theorem dJ39_siftDownUsingComparator_27 : decode cJ39_siftDownUsingComparator 27 = .ok (.iadd, 1) := dk_96 (dk_at dksJ39_siftDownUsingComparator_1 3 rfl rfl)
theorem dJ39_siftDownUsingComparator_28 : decode cJ39_siftDownUsingComparator 28 = .ok (.istore 8, 2) := dk_54 8 (dk_at dksJ39_siftDownUsingComparator_1 4 rfl rfl)
theorem dJ39_siftDownUsingComparator_30 : decode cJ39_siftDownUsingComparator 30 = .ok (.iload 8, 2) := dk_21 8 (dk_at dksJ39_siftDownUsingComparator_1 6 rfl rfl)
theorem dJ39_siftDownUsingComparator_32 : decode cJ39_siftDownUsingComparator 32 = .ok (.iload_n 3, 1) := dk_29 (dk_at dksJ39_siftDownUsingComparator_1 8 rfl rfl)
theorem dJ39_siftDownUsingComparator_33 : decode cJ39_siftDownUsingComparator 33 = .ok (.if_icmp .ge 28, 3) := dk_162 0 28 (dk_at dksJ39_siftDownUsingComparator_1 9 rfl rfl)
theorem dJ39_siftDownUsingComparator_36 : decode cJ39_siftDownUsingComparator 36 = .ok (.aload 4, 2) := dk_25 4 (dk_at dksJ39_siftDownUsingComparator_1 12 rfl rfl)
theorem dJ39_siftDownUsingComparator_38 : decode cJ39_siftDownUsingComparator 38 = .ok (.aload 7, 2) := dk_25 7 (dk_at dksJ39_siftDownUsingComparator_1 14 rfl rfl)
theorem dJ39_siftDownUsingComparator_40 : decode cJ39_siftDownUsingComparator 40 = .ok (.aload_n 2, 1) := dk_44 (dk_at dksJ39_siftDownUsingComparator_1 16 rfl rfl)
theorem dJ39_siftDownUsingComparator_41 : decode cJ39_siftDownUsingComparator 41 = .ok (.iload 8, 2) := dk_21 8 (dk_at dksJ39_siftDownUsingComparator_1 17 rfl rfl)
theorem dJ39_siftDownUsingComparator_43 : decode cJ39_siftDownUsingComparator 43 = .ok (.aaload, 1) := dk_50 (dk_at dksJ39_siftDownUsingComparator_1 19 rfl rfl)
theorem dJ39_siftDownUsingComparator_44 : decode cJ39_siftDownUsingComparator 44 = .ok (.invokeinterface 149 3, 5) := by decide +kernel
theorem dJ39_siftDownUsingComparator_49 : decode cJ39_siftDownUsingComparator 49 = .ok (.ifCond .le 12, 3) := dk_158 0 12 (dk_at dksJ39_siftDownUsingComparator_2 5 rfl rfl)
theorem dJ39_siftDownUsingComparator_52 : decode cJ39_siftDownUsingComparator 52 = .ok (.aload_n 2, 1) := dk_44 (dk_at dksJ39_siftDownUsingComparator_2 8 rfl rfl)
theorem dJ39_siftDownUsingComparator_53 : decode cJ39_siftDownUsingComparator 53 = .ok (.iload 8, 2) := dk_21 8 (dk_at dksJ39_siftDownUsingComparator_2 9 rfl rfl)
theorem dJ39_siftDownUsingComparator_55 : decode cJ39_siftDownUsingComparator 55 = .ok (.dup, 1) := dk_89 (dk_at dksJ39_siftDownUsingComparator_2 11 rfl rfl)
theorem dJ39_siftDownUsingComparator_56 : decode cJ39_siftDownUsingComparator 56 = .ok (.istore 6, 2) := dk_54 6 (dk_at dksJ39_siftDownUsingComparator_2 12 rfl rfl)
theorem dJ39_siftDownUsingComparator_58 : decode cJ39_siftDownUsingComparator 58 = .ok (.aaload, 1) := dk_50 (dk_at dksJ39_siftDownUsingComparator_2 14 rfl rfl)
theorem dJ39_siftDownUsingComparator_59 : decode cJ39_siftDownUsingComparator 59 = .ok (.astore 7, 2) := dk_58 7 (dk_at dksJ39_siftDownUsingComparator_2 15 rfl rfl)
theorem dJ39_siftDownUsingComparator_61 : decode cJ39_siftDownUsingComparator 61 = .ok (.aload 4, 2) := dk_25 4 (dk_at dksJ39_siftDownUsingComparator_2 17 rfl rfl)
theorem dJ39_siftDownUsingComparator_63 : decode cJ39_siftDownUsingComparator 63 = .ok (.aload_n 1, 1) := dk_43 (dk_at dksJ39_siftDownUsingComparator_2 19 rfl rfl)
theorem dJ39_siftDownUsingComparator_64 : decode cJ39_siftDownUsingComparator 64 = .ok (.aload 7, 2) := dk_25 7 (dk_at dksJ39_siftDownUsingComparator_2 20 rfl rfl)
theorem dJ39_siftDownUsingComparator_66 : decode cJ39_siftDownUsingComparator 66 = .ok (.invokeinterface 149 3, 5) := by decide +kernel
theorem dJ39_siftDownUsingComparator_71 : decode cJ39_siftDownUsingComparator 71 = .ok (.ifCond .gt 6, 3) := dk_157 0 6 (dk_at dksJ39_siftDownUsingComparator_3 5 rfl rfl)
theorem dJ39_siftDownUsingComparator_74 : decode cJ39_siftDownUsingComparator 74 = .ok (.goto 14, 3) := dk_167 0 14 (dk_at dksJ39_siftDownUsingComparator_3 8 rfl rfl)
theorem dJ39_siftDownUsingComparator_77 : decode cJ39_siftDownUsingComparator 77 = .ok (.aload_n 2, 1) := dk_44 (dk_at dksJ39_siftDownUsingComparator_3 11 rfl rfl)
theorem dJ39_siftDownUsingComparator_78 : decode cJ39_siftDownUsingComparator 78 = .ok (.iload_n 0, 1) := dk_26 (dk_at dksJ39_siftDownUsingComparator_3 12 rfl rfl)
theorem dJ39_siftDownUsingComparator_79 : decode cJ39_siftDownUsingComparator 79 = .ok (.aload 7, 2) := dk_25 7 (dk_at dksJ39_siftDownUsingComparator_3 13 rfl rfl)
theorem dJ39_siftDownUsingComparator_81 : decode cJ39_siftDownUsingComparator 81 = .ok (.aastore, 1) := dk_83 (dk_at dksJ39_siftDownUsingComparator_3 15 rfl rfl)
theorem dJ39_siftDownUsingComparator_82 : decode cJ39_siftDownUsingComparator 82 = .ok (.iload 6, 2) := dk_21 6 (dk_at dksJ39_siftDownUsingComparator_3 16 rfl rfl)
theorem dJ39_siftDownUsingComparator_84 : decode cJ39_siftDownUsingComparator 84 = .ok (.istore_n 0, 1) := dk_59 (dk_at dksJ39_siftDownUsingComparator_3 18 rfl rfl)
theorem dJ39_siftDownUsingComparator_85 : decode cJ39_siftDownUsingComparator 85 = .ok (.goto (-80), 3) := dk_167 255 176 (dk_at dksJ39_siftDownUsingComparator_3 19 rfl rfl)
theorem dJ39_siftDownUsingComparator_88 : decode cJ39_siftDownUsingComparator 88 = .ok (.aload_n 2, 1) := dk_44 (dk_at dksJ39_siftDownUsingComparator_3 22 rfl rfl)
theorem dJ39_siftDownUsingComparator_89 : decode cJ39_siftDownUsingComparator 89 = .ok (.iload_n 0, 1) := dk_26 (dk_at dksJ39_siftDownUsingComparator_3 23 rfl rfl)
theorem dJ39_siftDownUsingComparator_90 : decode cJ39_siftDownUsingComparator 90 = .ok (.aload_n 1, 1) := dk_43 (dk_at dksJ39_siftDownUsingComparator_4 0 rfl rfl)
theorem dJ39_siftDownUsingComparator_91 : decode cJ39_siftDownUsingComparator 91 = .ok (.aastore, 1) := dk_83 (dk_at dksJ39_siftDownUsingComparator_4 1 rfl rfl)
theorem dJ39_siftDownUsingComparator_92 : decode cJ39_siftDownUsingComparator 92 = .ok (.return_, 1) := dk_177 (dk_at dksJ39_siftDownUsingComparator_4 2 rfl rfl)
abbrev cJ39_iterator : ByteArray := prog_62_method_22_code
def yJ39_iterator : MethodName := ⟨RJ39, "iterator", "()Ljava/util/Iterator;"⟩
def dkwJ39_iterator_0 : List UInt8 := [187, 0, 121, 89, 42, 183, 0, 123, 176]
abbrev dktJ39_iterator_0 : List UInt8 := dkwJ39_iterator_0 ++ []
theorem dksJ39_iterator_0 : cJ39_iterator.data.toList.drop 0 = dktJ39_iterator_0 := by decide +kernel
theorem dJ39_iterator_0 : decode cJ39_iterator 0 = .ok (.new 121, 3) := dk_187 0 121 (dk_at dksJ39_iterator_0 0 rfl rfl)
theorem dJ39_iterator_3 : decode cJ39_iterator 3 = .ok (.dup, 1) := dk_89 (dk_at dksJ39_iterator_0 3 rfl rfl)
theorem dJ39_iterator_4 : decode cJ39_iterator 4 = .ok (.aload_n 0, 1) := dk_42 (dk_at dksJ39_iterator_0 4 rfl rfl)
theorem dJ39_iterator_5 : decode cJ39_iterator 5 = .ok (.invokespecial 123, 3) := dk_183 0 123 (dk_at dksJ39_iterator_0 5 rfl rfl)
theorem dJ39_iterator_8 : decode cJ39_iterator 8 = .ok (.areturn, 1) := dk_176 (dk_at dksJ39_iterator_0 8 rfl rfl)
theorem q130 : (Jvm.Cond.initialized "java/util/PriorityQueue") ∈ lw_all := lw_g (lw_at lw_m1 57 rfl) rfl
theorem q271 : (Jvm.Cond.instantiable "java/util/PriorityQueue" (4 : Nat)) ∈ lw_all := lw_g (lw_at lw_m1 198 rfl) rfl
theorem q283 : (Jvm.Cond.instanceMethod ({ cls := "java/util/PriorityQueue", name := "<init>", desc := "(Ljava/util/Comparator;)V" } : Jvm.MethodName)) ∈ lw_all := lw_g (lw_at lw_m1 210 rfl) rfl
theorem q284 : (Jvm.Cond.code ({ cls := "java/util/PriorityQueue", name := "<init>", desc := "(Ljava/util/Comparator;)V" } : Jvm.MethodName) prog_62_method_3_code (2 : Nat) (Option.none : Option Jvm.ClassFile.FieldType)) ∈ lw_all := lw_g (lw_at lw_m1 211 rfl) rfl
theorem q285 : (Jvm.Cond.methodLink "java/util/PriorityQueue" (3 : Nat) ({ cls := "java/util/PriorityQueue", name := "<init>", desc := "(ILjava/util/Comparator;)V" } : Jvm.MethodName)) ∈ lw_all := lw_g (lw_at lw_m1 212 rfl) rfl
theorem q286 : (Jvm.Cond.instanceMethod ({ cls := "java/util/PriorityQueue", name := "<init>", desc := "(ILjava/util/Comparator;)V" } : Jvm.MethodName)) ∈ lw_all := lw_g (lw_at lw_m1 213 rfl) rfl
theorem q287 : (Jvm.Cond.code ({ cls := "java/util/PriorityQueue", name := "<init>", desc := "(ILjava/util/Comparator;)V" } : Jvm.MethodName) prog_62_method_4_code (3 : Nat) (Option.none : Option Jvm.ClassFile.FieldType)) ∈ lw_all := lw_g (lw_at lw_m1 214 rfl) rfl
theorem q288 : (Jvm.Cond.methodLink "java/util/PriorityQueue" (7 : Nat) ({ cls := "java/util/AbstractQueue", name := "<init>", desc := "()V" } : Jvm.MethodName)) ∈ lw_all := lw_g (lw_at lw_m1 215 rfl) rfl
theorem q292 : (Jvm.Cond.classLink "java/util/PriorityQueue" (12 : Nat) "java/lang/IllegalArgumentException") ∈ lw_all := lw_g (lw_at lw_m1 219 rfl) rfl
theorem q334 : (Jvm.Cond.methodLink "java/util/PriorityQueue" (14 : Nat) ({ cls := "java/lang/IllegalArgumentException", name := "<init>", desc := "()V" } : Jvm.MethodName)) ∈ lw_all := lw_g (lw_at lw_m2 21 rfl) rfl
theorem q357 : (Jvm.Cond.classLink "java/util/PriorityQueue" (15 : Nat) "java/lang/Object") ∈ lw_all := lw_g (lw_at lw_m2 44 rfl) rfl
theorem q360 : (Jvm.Cond.fieldLink "java/util/PriorityQueue" (17 : Nat) "java/util/PriorityQueue" "queue" "[Ljava/lang/Object;") ∈ lw_all := lw_g (lw_at lw_m2 47 rfl) rfl
theorem q362 : (Jvm.Cond.fieldLink "java/util/PriorityQueue" (58 : Nat) "java/util/PriorityQueue" "size" "I") ∈ lw_all := lw_g (lw_at lw_m2 49 rfl) rfl
theorem q363 : (Jvm.Cond.fieldLink "java/util/PriorityQueue" (21 : Nat) "java/util/PriorityQueue" "comparator" "Ljava/util/Comparator;") ∈ lw_all := lw_g (lw_at lw_m2 50 rfl) rfl
theorem q365 : (Jvm.Cond.fieldLink "java/util/PriorityQueue" (93 : Nat) "java/util/PriorityQueue" "modCount" "I") ∈ lw_all := lw_g (lw_at lw_m2 52 rfl) rfl
theorem q366 : (Jvm.Cond.lays "java/util/PriorityQueue" "java/util/PriorityQueue" "queue" "[Ljava/lang/Object;") ∈ lw_all := lw_g (lw_at lw_m2 53 rfl) rfl
theorem q367 : (Jvm.Cond.soleField "java/util/PriorityQueue" "queue") ∈ lw_all := lw_g (lw_at lw_m2 54 rfl) rfl
theorem q368 : (Jvm.Cond.lays "java/util/PriorityQueue" "java/util/PriorityQueue" "size" "I") ∈ lw_all := lw_g (lw_at lw_m2 55 rfl) rfl
theorem q369 : (Jvm.Cond.soleField "java/util/PriorityQueue" "size") ∈ lw_all := lw_g (lw_at lw_m2 56 rfl) rfl
theorem q370 : (Jvm.Cond.laysFinal "java/util/PriorityQueue" "java/util/PriorityQueue" "comparator" "Ljava/util/Comparator;") ∈ lw_all := lw_g (lw_at lw_m2 57 rfl) rfl
theorem q371 : (Jvm.Cond.soleField "java/util/PriorityQueue" "comparator") ∈ lw_all := lw_g (lw_at lw_m2 58 rfl) rfl
theorem q372 : (Jvm.Cond.lays "java/util/PriorityQueue" "java/util/PriorityQueue" "modCount" "I") ∈ lw_all := lw_g (lw_at lw_m2 59 rfl) rfl
theorem q373 : (Jvm.Cond.soleField "java/util/PriorityQueue" "modCount") ∈ lw_all := lw_g (lw_at lw_m2 60 rfl) rfl
theorem q374 : (Jvm.Cond.superclass "java/util/PriorityQueue" "java/util/AbstractQueue") ∈ lw_all := lw_g (lw_at lw_m2 61 rfl) rfl
theorem q409 : (Jvm.Cond.instanceMethod ({ cls := "java/util/PriorityQueue", name := "add", desc := "(Ljava/lang/Object;)Z" } : Jvm.MethodName)) ∈ lw_all := lw_g (lw_at lw_m2 96 rfl) rfl
theorem q410 : (Jvm.Cond.selects "java/util/PriorityQueue" ({ cls := "java/util/PriorityQueue", name := "add", desc := "(Ljava/lang/Object;)Z" } : Jvm.MethodName) ({ cls := "java/util/PriorityQueue", name := "add", desc := "(Ljava/lang/Object;)Z" } : Jvm.MethodName)) ∈ lw_all := lw_g (lw_at lw_m2 97 rfl) rfl
theorem q411 : (Jvm.Cond.code ({ cls := "java/util/PriorityQueue", name := "add", desc := "(Ljava/lang/Object;)Z" } : Jvm.MethodName) prog_62_method_13_code (2 : Nat) (Option.some Jvm.ClassFile.FieldType.boolean)) ∈ lw_all := lw_g (lw_at lw_m2 98 rfl) rfl
theorem q412 : (Jvm.Cond.methodLink "java/util/PriorityQueue" (89 : Nat) ({ cls := "java/util/PriorityQueue", name := "offer", desc := "(Ljava/lang/Object;)Z" } : Jvm.MethodName)) ∈ lw_all := lw_g (lw_at lw_m2 99 rfl) rfl
theorem q413 : (Jvm.Cond.instanceMethod ({ cls := "java/util/PriorityQueue", name := "offer", desc := "(Ljava/lang/Object;)Z" } : Jvm.MethodName)) ∈ lw_all := lw_g (lw_at lw_m2 100 rfl) rfl
theorem q414 : (Jvm.Cond.selects "java/util/PriorityQueue" ({ cls := "java/util/PriorityQueue", name := "offer", desc := "(Ljava/lang/Object;)Z" } : Jvm.MethodName) ({ cls := "java/util/PriorityQueue", name := "offer", desc := "(Ljava/lang/Object;)Z" } : Jvm.MethodName)) ∈ lw_all := lw_g (lw_at lw_m2 101 rfl) rfl
theorem q415 : (Jvm.Cond.code ({ cls := "java/util/PriorityQueue", name := "offer", desc := "(Ljava/lang/Object;)Z" } : Jvm.MethodName) prog_62_method_14_code (3 : Nat) (Option.some Jvm.ClassFile.FieldType.boolean)) ∈ lw_all := lw_g (lw_at lw_m2 102 rfl) rfl
theorem q416 : (Jvm.Cond.methodLink "java/util/PriorityQueue" (96 : Nat) ({ cls := "java/util/PriorityQueue", name := "grow", desc := "(I)V" } : Jvm.MethodName)) ∈ lw_all := lw_g (lw_at lw_m2 103 rfl) rfl
theorem q417 : (Jvm.Cond.privateMethod ({ cls := "java/util/PriorityQueue", name := "grow", desc := "(I)V" } : Jvm.MethodName)) ∈ lw_tbl := lw_at lw_m2 104 rfl
theorem q418 : (Jvm.Cond.instanceMethod ({ cls := "java/util/PriorityQueue", name := "grow", desc := "(I)V" } : Jvm.MethodName)) ∈ lw_all := lw_g (lw_at lw_m2 105 rfl) rfl
theorem q419 : (Jvm.Cond.code ({ cls := "java/util/PriorityQueue", name := "grow", desc := "(I)V" } : Jvm.MethodName) prog_62_method_12_code (4 : Nat) (Option.none : Option Jvm.ClassFile.FieldType)) ∈ lw_all := lw_g (lw_at lw_m2 106 rfl) rfl
theorem q420 : (Jvm.Cond.methodLink "java/util/PriorityQueue" (80 : Nat) ({ cls := "jdk/internal/util/ArraysSupport", name := "newLength", desc := "(III)I" } : Jvm.MethodName)) ∈ lw_all := lw_g (lw_at lw_m2 107 rfl) rfl
theorem q430 : (Jvm.Cond.methodLink "java/util/PriorityQueue" (86 : Nat) ({ cls := "java/util/Arrays", name := "copyOf", desc := "([Ljava/lang/Object;I)[Ljava/lang/Object;" } : Jvm.MethodName)) ∈ lw_all := lw_g (lw_at lw_m2 117 rfl) rfl
theorem q458 : (Jvm.Cond.selects "java/util/PriorityQueue" ({ cls := "java/lang/Object", name := "getClass", desc := "()Ljava/lang/Class;" } : Jvm.MethodName) ({ cls := "java/lang/Object", name := "getClass", desc := "()Ljava/lang/Class;" } : Jvm.MethodName)) ∈ lw_all := lw_g (lw_at lw_m2 145 rfl) rfl
theorem q482 : (Jvm.Cond.methodLink "java/util/PriorityQueue" (100 : Nat) ({ cls := "java/util/PriorityQueue", name := "siftUp", desc := "(ILjava/lang/Object;)V" } : Jvm.MethodName)) ∈ lw_all := lw_g (lw_at lw_m2 169 rfl) rfl
theorem q483 : (Jvm.Cond.privateMethod ({ cls := "java/util/PriorityQueue", name := "siftUp", desc := "(ILjava/lang/Object;)V" } : Jvm.MethodName)) ∈ lw_tbl := lw_at lw_m2 170 rfl
theorem q484 : (Jvm.Cond.instanceMethod ({ cls := "java/util/PriorityQueue", name := "siftUp", desc := "(ILjava/lang/Object;)V" } : Jvm.MethodName)) ∈ lw_all := lw_g (lw_at lw_m2 171 rfl) rfl
theorem q485 : (Jvm.Cond.code ({ cls := "java/util/PriorityQueue", name := "siftUp", desc := "(ILjava/lang/Object;)V" } : Jvm.MethodName) prog_62_method_27_code (3 : Nat) (Option.none : Option Jvm.ClassFile.FieldType)) ∈ lw_all := lw_g (lw_at lw_m2 172 rfl) rfl
theorem q486 : (Jvm.Cond.methodLink "java/util/PriorityQueue" (136 : Nat) ({ cls := "java/util/PriorityQueue", name := "siftUpUsingComparator", desc := "(ILjava/lang/Object;[Ljava/lang/Object;Ljava/util/Comparator;)V" } : Jvm.MethodName)) ∈ lw_all := lw_g (lw_at lw_m2 173 rfl) rfl
theorem q487 : (Jvm.Cond.static ({ cls := "java/util/PriorityQueue", name := "siftUpUsingComparator", desc := "(ILjava/lang/Object;[Ljava/lang/Object;Ljava/util/Comparator;)V" } : Jvm.MethodName)) ∈ lw_all := lw_g (lw_at lw_m2 174 rfl) rfl
theorem q488 : (Jvm.Cond.code ({ cls := "java/util/PriorityQueue", name := "siftUpUsingComparator", desc := "(ILjava/lang/Object;[Ljava/lang/Object;Ljava/util/Comparator;)V" } : Jvm.MethodName) prog_62_method_29_code (6 : Nat) (Option.none : Option Jvm.ClassFile.FieldType)) ∈ lw_all := lw_g (lw_at lw_m2 175 rfl) rfl
theorem q489 : (Jvm.Cond.interfaceEntry "java/util/PriorityQueue" (149 : Nat)) ∈ lw_tbl := lw_at lw_m2 176 rfl
theorem q490 : (Jvm.Cond.methodLink "java/util/PriorityQueue" (149 : Nat) ({ cls := "java/util/Comparator", name := "compare", desc := "(Ljava/lang/Object;Ljava/lang/Object;)I" } : Jvm.MethodName)) ∈ lw_all := lw_g (lw_at lw_m2 177 rfl) rfl
theorem q602 : (Jvm.Cond.methodLink "java/util/PriorityQueue" (140 : Nat) ({ cls := "java/util/PriorityQueue", name := "siftUpComparable", desc := "(ILjava/lang/Object;[Ljava/lang/Object;)V" } : Jvm.MethodName)) ∈ lw_all := lw_g (lw_at lw_m3 49 rfl) rfl
theorem q603 : (Jvm.Cond.static ({ cls := "java/util/PriorityQueue", name := "siftUpComparable", desc := "(ILjava/lang/Object;[Ljava/lang/Object;)V" } : Jvm.MethodName)) ∈ lw_all := lw_g (lw_at lw_m3 50 rfl) rfl
theorem q604 : (Jvm.Cond.code ({ cls := "java/util/PriorityQueue", name := "siftUpComparable", desc := "(ILjava/lang/Object;[Ljava/lang/Object;)V" } : Jvm.MethodName) prog_62_method_28_code (6 : Nat) (Option.none : Option Jvm.ClassFile.FieldType)) ∈ lw_all := lw_g (lw_at lw_m3 51 rfl) rfl
theorem q605 : (Jvm.Cond.classLink "java/util/PriorityQueue" (144 : Nat) "java/lang/Comparable") ∈ lw_all := lw_g (lw_at lw_m3 52 rfl) rfl
theorem q606 : (Jvm.Cond.interfaceEntry "java/util/PriorityQueue" (146 : Nat)) ∈ lw_tbl := lw_at lw_m3 53 rfl
theorem q607 : (Jvm.Cond.methodLink "java/util/PriorityQueue" (146 : Nat) ({ cls := "java/lang/Comparable", name := "compareTo", desc := "(Ljava/lang/Object;)I" } : Jvm.MethodName)) ∈ lw_all := lw_g (lw_at lw_m3 54 rfl) rfl
theorem q808 : (Jvm.Cond.sameMethod "java/util/PriorityQueue" "java/util/AbstractCollection" "isEmpty" "()Z") ∈ lw_all := lw_g (lw_at lw_m4 15 rfl) rfl
theorem q810 : (Jvm.Cond.selects "java/util/PriorityQueue" ({ cls := "java/util/PriorityQueue", name := "isEmpty", desc := "()Z" } : Jvm.MethodName) ({ cls := "java/util/AbstractCollection", name := "isEmpty", desc := "()Z" } : Jvm.MethodName)) ∈ lw_all := lw_g (lw_at lw_m4 17 rfl) rfl
theorem q817 : (Jvm.Cond.selects "java/util/PriorityQueue" ({ cls := "java/util/AbstractCollection", name := "size", desc := "()I" } : Jvm.MethodName) ({ cls := "java/util/PriorityQueue", name := "size", desc := "()I" } : Jvm.MethodName)) ∈ lw_all := lw_g (lw_at lw_m4 24 rfl) rfl
theorem q818 : (Jvm.Cond.instanceMethod ({ cls := "java/util/PriorityQueue", name := "size", desc := "()I" } : Jvm.MethodName)) ∈ lw_all := lw_g (lw_at lw_m4 25 rfl) rfl
theorem q819 : (Jvm.Cond.code ({ cls := "java/util/PriorityQueue", name := "size", desc := "()I" } : Jvm.MethodName) prog_62_method_23_code (1 : Nat) (Option.some Jvm.ClassFile.FieldType.int)) ∈ lw_all := lw_g (lw_at lw_m4 26 rfl) rfl
theorem q846 : (Jvm.Cond.instanceMethod ({ cls := "java/util/PriorityQueue", name := "poll", desc := "()Ljava/lang/Object;" } : Jvm.MethodName)) ∈ lw_all := lw_g (lw_at lw_m4 53 rfl) rfl
theorem q847 : (Jvm.Cond.selects "java/util/PriorityQueue" ({ cls := "java/util/PriorityQueue", name := "poll", desc := "()Ljava/lang/Object;" } : Jvm.MethodName) ({ cls := "java/util/PriorityQueue", name := "poll", desc := "()Ljava/lang/Object;" } : Jvm.MethodName)) ∈ lw_all := lw_g (lw_at lw_m4 54 rfl) rfl
theorem q848 : (Jvm.Cond.code ({ cls := "java/util/PriorityQueue", name := "poll", desc := "()Ljava/lang/Object;" } : Jvm.MethodName) prog_62_method_25_code (6 : Nat) (Option.some (Jvm.ClassFile.FieldType.object "java/lang/Object"))) ∈ lw_all := lw_g (lw_at lw_m4 55 rfl) rfl
theorem q849 : (Jvm.Cond.methodLink "java/util/PriorityQueue" (125 : Nat) ({ cls := "java/util/PriorityQueue", name := "siftDownComparable", desc := "(ILjava/lang/Object;[Ljava/lang/Object;I)V" } : Jvm.MethodName)) ∈ lw_all := lw_g (lw_at lw_m4 56 rfl) rfl
theorem q850 : (Jvm.Cond.static ({ cls := "java/util/PriorityQueue", name := "siftDownComparable", desc := "(ILjava/lang/Object;[Ljava/lang/Object;I)V" } : Jvm.MethodName)) ∈ lw_all := lw_g (lw_at lw_m4 57 rfl) rfl
theorem q851 : (Jvm.Cond.code ({ cls := "java/util/PriorityQueue", name := "siftDownComparable", desc := "(ILjava/lang/Object;[Ljava/lang/Object;I)V" } : Jvm.MethodName) prog_62_method_31_code (9 : Nat) (Option.none : Option Jvm.ClassFile.FieldType)) ∈ lw_all := lw_g (lw_at lw_m4 58 rfl) rfl
theorem q852 : (Jvm.Cond.methodLink "java/util/PriorityQueue" (129 : Nat) ({ cls := "java/util/PriorityQueue", name := "siftDownUsingComparator", desc := "(ILjava/lang/Object;[Ljava/lang/Object;ILjava/util/Comparator;)V" } : Jvm.MethodName)) ∈ lw_all := lw_g (lw_at lw_m4 59 rfl) rfl
theorem q853 : (Jvm.Cond.static ({ cls := "java/util/PriorityQueue", name := "siftDownUsingComparator", desc := "(ILjava/lang/Object;[Ljava/lang/Object;ILjava/util/Comparator;)V" } : Jvm.MethodName)) ∈ lw_all := lw_g (lw_at lw_m4 60 rfl) rfl
theorem q854 : (Jvm.Cond.code ({ cls := "java/util/PriorityQueue", name := "siftDownUsingComparator", desc := "(ILjava/lang/Object;[Ljava/lang/Object;ILjava/util/Comparator;)V" } : Jvm.MethodName) prog_62_method_32_code (9 : Nat) (Option.none : Option Jvm.ClassFile.FieldType)) ∈ lw_all := lw_g (lw_at lw_m4 61 rfl) rfl
theorem q937 : (Jvm.Cond.castable "java/util/PriorityQueue" "java/util/Collection") ∈ lw_tbl := lw_at lw_m4 144 rfl
theorem q938 : (Jvm.Cond.selects "java/util/PriorityQueue" ({ cls := "java/util/Collection", name := "iterator", desc := "()Ljava/util/Iterator;" } : Jvm.MethodName) ({ cls := "java/util/PriorityQueue", name := "iterator", desc := "()Ljava/util/Iterator;" } : Jvm.MethodName)) ∈ lw_all := lw_g (lw_at lw_m4 145 rfl) rfl
theorem q939 : (Jvm.Cond.unhidden "java/util/PriorityQueue" "iterator" "()Ljava/util/Iterator;") ∈ lw_tbl := lw_at lw_m4 146 rfl
theorem q940 : (Jvm.Cond.instanceMethod ({ cls := "java/util/PriorityQueue", name := "iterator", desc := "()Ljava/util/Iterator;" } : Jvm.MethodName)) ∈ lw_all := lw_g (lw_at lw_m4 147 rfl) rfl
theorem q941 : (Jvm.Cond.publicMethod ({ cls := "java/util/PriorityQueue", name := "iterator", desc := "()Ljava/util/Iterator;" } : Jvm.MethodName)) ∈ lw_tbl := lw_at lw_m4 148 rfl
theorem q942 : (Jvm.Cond.code ({ cls := "java/util/PriorityQueue", name := "iterator", desc := "()Ljava/util/Iterator;" } : Jvm.MethodName) prog_62_method_22_code (1 : Nat) (Option.some (Jvm.ClassFile.FieldType.object "java/util/Iterator"))) ∈ lw_all := lw_g (lw_at lw_m4 149 rfl) rfl
theorem q943 : (Jvm.Cond.classLink "java/util/PriorityQueue" (121 : Nat) "java/util/PriorityQueue$Itr") ∈ lw_all := lw_g (lw_at lw_m4 150 rfl) rfl
theorem q945 : (Jvm.Cond.methodLink "java/util/PriorityQueue" (123 : Nat) ({ cls := "java/util/PriorityQueue$Itr", name := "<init>", desc := "(Ljava/util/PriorityQueue;)V" } : Jvm.MethodName)) ∈ lw_all := lw_g (lw_at lw_m4 152 rfl) rfl
theorem q2954 : (Jvm.Cond.castable "java/util/PriorityQueue" "java/lang/Object") ∈ lw_tbl := lw_at lw_m13 1 rfl
theorem in_J39 : ∀ w ∈ wsJ390, w ∈ lw_all := lw_in wsJ390 [366, 368, 370, 372] (by decide +kernel) (by decide +kernel)
/-! java/lang/Object -/
set_option maxRecDepth 100000
def RJ40 : String := "java/lang/Object"
abbrev cJ40_init : ByteArray := object_method_1_code
def yJ40_init : MethodName := ⟨RJ40, "<init>", "()V"⟩
theorem dJ40_init_0 : decode cJ40_init 0 = .ok (.return_, 1) := by decide +kernel
abbrev cJ40_equals : ByteArray := object_method_4_code
def yJ40_equals : MethodName := ⟨RJ40, "equals", "(Ljava/lang/Object;)Z"⟩
def dkwJ40_equals_0 : List UInt8 := [42, 43, 166, 0, 7, 4, 167, 0, 4, 3, 172]
abbrev dktJ40_equals_0 : List UInt8 := dkwJ40_equals_0 ++ []
theorem dksJ40_equals_0 : cJ40_equals.data.toList.drop 0 = dktJ40_equals_0 := by decide +kernel
theorem dJ40_equals_0 : decode cJ40_equals 0 = .ok (.aload_n 0, 1) := dk_42 (dk_at dksJ40_equals_0 0 rfl rfl)
theorem dJ40_equals_1 : decode cJ40_equals 1 = .ok (.aload_n 1, 1) := dk_43 (dk_at dksJ40_equals_0 1 rfl rfl)
theorem dJ40_equals_2 : decode cJ40_equals 2 = .ok (.if_acmp .ne 7, 3) := dk_166 0 7 (dk_at dksJ40_equals_0 2 rfl rfl)
theorem dJ40_equals_5 : decode cJ40_equals 5 = .ok (.iconst 1, 1) := dk_4 (dk_at dksJ40_equals_0 5 rfl rfl)
theorem dJ40_equals_6 : decode cJ40_equals 6 = .ok (.goto 4, 3) := dk_167 0 4 (dk_at dksJ40_equals_0 6 rfl rfl)
theorem dJ40_equals_9 : decode cJ40_equals 9 = .ok (.iconst 0, 1) := dk_3 (dk_at dksJ40_equals_0 9 rfl rfl)
theorem dJ40_equals_10 : decode cJ40_equals 10 = .ok (.ireturn, 1) := dk_172 (dk_at dksJ40_equals_0 10 rfl rfl)
theorem q138 : (Jvm.Cond.instanceMethod ({ cls := "java/lang/Object", name := "<init>", desc := "()V" } : Jvm.MethodName)) ∈ lw_all := lw_g (lw_at lw_m1 65 rfl) rfl
theorem q139 : (Jvm.Cond.code ({ cls := "java/lang/Object", name := "<init>", desc := "()V" } : Jvm.MethodName) object_method_1_code (1 : Nat) (Option.none : Option Jvm.ClassFile.FieldType)) ∈ lw_all := lw_g (lw_at lw_m1 66 rfl) rfl
theorem q434 : (Jvm.Cond.instanceMethod ({ cls := "java/lang/Object", name := "getClass", desc := "()Ljava/lang/Class;" } : Jvm.MethodName)) ∈ lw_all := lw_g (lw_at lw_m2 121 rfl) rfl
theorem q435 : (Jvm.Cond.sameMethod "java/lang/Object" "java/lang/Object" "getClass" "()Ljava/lang/Class;") ∈ lw_all := lw_g (lw_at lw_m2 122 rfl) rfl
theorem q470 : (Jvm.Cond.native ({ cls := "java/lang/Object", name := "getClass", desc := "()Ljava/lang/Class;" } : Jvm.MethodName)) ∈ lw_all := lw_g (lw_at lw_m2 157 rfl) rfl
theorem q1200 : (Jvm.Cond.declares ({ cls := "java/lang/Object", name := "equals", desc := "(Ljava/lang/Object;)Z" } : Jvm.MethodName)) ∈ lw_tbl := lw_at lw_m5 167 rfl
theorem q1202 : (Jvm.Cond.instanceMethod ({ cls := "java/lang/Object", name := "equals", desc := "(Ljava/lang/Object;)Z" } : Jvm.MethodName)) ∈ lw_all := lw_g (lw_at lw_m5 169 rfl) rfl
theorem q1203 : (Jvm.Cond.sameMethod "java/lang/Object" "java/lang/Object" "equals" "(Ljava/lang/Object;)Z") ∈ lw_all := lw_g (lw_at lw_m5 170 rfl) rfl
theorem q1239 : (Jvm.Cond.code ({ cls := "java/lang/Object", name := "equals", desc := "(Ljava/lang/Object;)Z" } : Jvm.MethodName) object_method_4_code (2 : Nat) (Option.some Jvm.ClassFile.FieldType.boolean)) ∈ lw_all := lw_g (lw_at lw_m5 206 rfl) rfl
theorem q2923 : (Jvm.Cond.initialized "java/lang/Object") ∈ lw_all := lw_g (lw_at lw_m12 210 rfl) rfl
theorem q2925 : (Jvm.Cond.selects "java/lang/Object" ({ cls := "java/lang/Object", name := "equals", desc := "(Ljava/lang/Object;)Z" } : Jvm.MethodName) ({ cls := "java/lang/Object", name := "equals", desc := "(Ljava/lang/Object;)Z" } : Jvm.MethodName)) ∈ lw_all := lw_g (lw_at lw_m12 212 rfl) rfl
theorem q2964 : (Jvm.Cond.declares ({ cls := "java/lang/Object", name := "getClass", desc := "()Ljava/lang/Class;" } : Jvm.MethodName)) ∈ lw_tbl := lw_at lw_m13 11 rfl
theorem q2978 : (Jvm.Cond.instantiable "java/lang/Object" (0 : Nat)) ∈ lw_all := lw_g (lw_at lw_m13 25 rfl) rfl
theorem q1286 : (Jvm.Cond.interfaceMethod "FigureSurvey$Clash" "FigureSurvey$Clash" "of" "(II)Z") ∈ lw_tbl := lw_at lw_m6 13 rfl
set_option maxRecDepth 100000
theorem q1287 : (Jvm.Cond.declares ({ cls := "FigureSurvey$Clash", name := "of", desc := "(II)Z" } : Jvm.MethodName)) ∈ lw_tbl := lw_at lw_m6 14 rfl
theorem q599 : (Jvm.Cond.interfaceMethod "FigureSurvey$Pick" "FigureSurvey$Pick" "takes" "(I)Z") ∈ lw_tbl := lw_at lw_m3 46 rfl
set_option maxRecDepth 100000
theorem q600 : (Jvm.Cond.declares ({ cls := "FigureSurvey$Pick", name := "takes", desc := "(I)Z" } : Jvm.MethodName)) ∈ lw_tbl := lw_at lw_m3 47 rfl
theorem q1254 : (Jvm.Cond.interfaceMethod "FigureSurvey$Price" "FigureSurvey$Price" "of" "(II)I") ∈ lw_tbl := lw_at lw_m5 221 rfl
set_option maxRecDepth 100000
theorem q1255 : (Jvm.Cond.declares ({ cls := "FigureSurvey$Price", name := "of", desc := "(II)I" } : Jvm.MethodName)) ∈ lw_tbl := lw_at lw_m5 222 rfl
theorem q2970 : (Jvm.Cond.castable "[B" "java/lang/Object") ∈ lw_tbl := lw_at lw_m13 17 rfl
set_option maxRecDepth 100000
theorem q2965 : (Jvm.Cond.castable "[I" "java/lang/Object") ∈ lw_tbl := lw_at lw_m13 12 rfl
set_option maxRecDepth 100000
theorem q2971 : (Jvm.Cond.castable "[J" "java/lang/Object") ∈ lw_tbl := lw_at lw_m13 18 rfl
set_option maxRecDepth 100000
theorem q2962 : (Jvm.Cond.sameMethod "[Ljava/lang/Object;" "java/lang/Object" "getClass" "()Ljava/lang/Class;") ∈ lw_all := lw_g (lw_at lw_m13 9 rfl) rfl
set_option maxRecDepth 100000
theorem q2963 : (Jvm.Cond.selects "[Ljava/lang/Object;" ({ cls := "java/lang/Object", name := "getClass", desc := "()Ljava/lang/Class;" } : Jvm.MethodName) ({ cls := "java/lang/Object", name := "getClass", desc := "()Ljava/lang/Class;" } : Jvm.MethodName)) ∈ lw_all := lw_g (lw_at lw_m13 10 rfl) rfl
theorem q2967 : (Jvm.Cond.castable "[Ljava/lang/Object;" "java/lang/Object") ∈ lw_tbl := lw_at lw_m13 14 rfl
theorem q2969 : (Jvm.Cond.castable "[Z" "java/lang/Object") ∈ lw_tbl := lw_at lw_m13 16 rfl
set_option maxRecDepth 100000
theorem q2966 : (Jvm.Cond.castable "[[I" "java/lang/Object") ∈ lw_tbl := lw_at lw_m13 13 rfl
set_option maxRecDepth 100000
theorem q2968 : (Jvm.Cond.castable "[[Z" "java/lang/Object") ∈ lw_tbl := lw_at lw_m13 15 rfl
set_option maxRecDepth 100000
theorem q608 : (Jvm.Cond.interfaceMethod "java/lang/Comparable" "java/lang/Comparable" "compareTo" "(Ljava/lang/Object;)I") ∈ lw_tbl := lw_at lw_m3 55 rfl
set_option maxRecDepth 100000
theorem q609 : (Jvm.Cond.declares ({ cls := "java/lang/Comparable", name := "compareTo", desc := "(Ljava/lang/Object;)I" } : Jvm.MethodName)) ∈ lw_tbl := lw_at lw_m3 56 rfl
theorem q115 : (Jvm.Cond.initialized "java/lang/Integer$IntegerCache") ∈ lw_all := lw_g (lw_at lw_m1 42 rfl) rfl
set_option maxRecDepth 100000
theorem q2063 : (Jvm.Cond.laysStatic "java/lang/Integer$IntegerCache" "high" "I") ∈ lw_tbl := lw_at lw_m9 70 rfl
theorem q2065 : (Jvm.Cond.laysStatic "java/lang/Integer$IntegerCache" "cache" "[Ljava/lang/Integer;") ∈ lw_tbl := lw_at lw_m9 72 rfl
theorem q90 : (Jvm.Cond.initialized "java/lang/System") ∈ lw_all := lw_g (lw_at lw_m1 17 rfl) rfl
set_option maxRecDepth 100000
theorem q480 : (Jvm.Cond.static ({ cls := "java/lang/System", name := "arraycopy", desc := "(Ljava/lang/Object;ILjava/lang/Object;II)V" } : Jvm.MethodName)) ∈ lw_all := lw_g (lw_at lw_m2 167 rfl) rfl
theorem q481 : (Jvm.Cond.native ({ cls := "java/lang/System", name := "arraycopy", desc := "(Ljava/lang/Object;ILjava/lang/Object;II)V" } : Jvm.MethodName)) ∈ lw_all := lw_g (lw_at lw_m2 168 rfl) rfl
theorem q910 : (Jvm.Cond.interfaceMethod "java/util/Collection" "java/util/Collection" "iterator" "()Ljava/util/Iterator;") ∈ lw_tbl := lw_at lw_m4 117 rfl
set_option maxRecDepth 100000
theorem q911 : (Jvm.Cond.declares ({ cls := "java/util/Collection", name := "iterator", desc := "()Ljava/util/Iterator;" } : Jvm.MethodName)) ∈ lw_tbl := lw_at lw_m4 118 rfl
theorem q491 : (Jvm.Cond.interfaceMethod "java/util/Comparator" "java/util/Comparator" "compare" "(Ljava/lang/Object;Ljava/lang/Object;)I") ∈ lw_tbl := lw_at lw_m2 178 rfl
set_option maxRecDepth 100000
theorem q492 : (Jvm.Cond.declares ({ cls := "java/util/Comparator", name := "compare", desc := "(Ljava/lang/Object;Ljava/lang/Object;)I" } : Jvm.MethodName)) ∈ lw_tbl := lw_at lw_m2 179 rfl
theorem q1083 : (Jvm.Cond.interfaceMethod "java/util/Iterator" "java/util/Iterator" "hasNext" "()Z") ∈ lw_tbl := lw_at lw_m5 50 rfl
set_option maxRecDepth 100000
theorem q1084 : (Jvm.Cond.declares ({ cls := "java/util/Iterator", name := "hasNext", desc := "()Z" } : Jvm.MethodName)) ∈ lw_tbl := lw_at lw_m5 51 rfl
theorem q1115 : (Jvm.Cond.interfaceMethod "java/util/Iterator" "java/util/Iterator" "next" "()Ljava/lang/Object;") ∈ lw_tbl := lw_at lw_m5 82 rfl
theorem q1116 : (Jvm.Cond.declares ({ cls := "java/util/Iterator", name := "next", desc := "()Ljava/lang/Object;" } : Jvm.MethodName)) ∈ lw_tbl := lw_at lw_m5 83 rfl
theorem q831 : (Jvm.Cond.publicMethod ({ cls := "java/util/Map", name := "size", desc := "()I" } : Jvm.MethodName)) ∈ lw_tbl := lw_at lw_m4 38 rfl
set_option maxRecDepth 100000
theorem q832 : (Jvm.Cond.declares ({ cls := "java/util/Map", name := "size", desc := "()I" } : Jvm.MethodName)) ∈ lw_tbl := lw_at lw_m4 39 rfl
theorem q1398 : (Jvm.Cond.publicMethod ({ cls := "java/util/Map", name := "put", desc := "(Ljava/lang/Object;Ljava/lang/Object;)Ljava/lang/Object;" } : Jvm.MethodName)) ∈ lw_tbl := lw_at lw_m6 125 rfl
theorem q1399 : (Jvm.Cond.declares ({ cls := "java/util/Map", name := "put", desc := "(Ljava/lang/Object;Ljava/lang/Object;)Ljava/lang/Object;" } : Jvm.MethodName)) ∈ lw_tbl := lw_at lw_m6 126 rfl
theorem q1492 : (Jvm.Cond.publicMethod ({ cls := "java/util/Map", name := "isEmpty", desc := "()Z" } : Jvm.MethodName)) ∈ lw_tbl := lw_at lw_m6 219 rfl
theorem q1493 : (Jvm.Cond.declares ({ cls := "java/util/Map", name := "isEmpty", desc := "()Z" } : Jvm.MethodName)) ∈ lw_tbl := lw_at lw_m6 220 rfl
theorem q1053 : (Jvm.Cond.interfaceMethod "java/util/NavigableMap" "java/util/NavigableMap" "navigableKeySet" "()Ljava/util/NavigableSet;") ∈ lw_tbl := lw_at lw_m5 20 rfl
set_option maxRecDepth 100000
theorem q1054 : (Jvm.Cond.declares ({ cls := "java/util/NavigableMap", name := "navigableKeySet", desc := "()Ljava/util/NavigableSet;" } : Jvm.MethodName)) ∈ lw_tbl := lw_at lw_m5 21 rfl
theorem q1541 : (Jvm.Cond.interfaceMethod "java/util/NavigableMap" "java/util/NavigableMap" "ceilingKey" "(Ljava/lang/Object;)Ljava/lang/Object;") ∈ lw_tbl := lw_at lw_m7 28 rfl
theorem q1542 : (Jvm.Cond.declares ({ cls := "java/util/NavigableMap", name := "ceilingKey", desc := "(Ljava/lang/Object;)Ljava/lang/Object;" } : Jvm.MethodName)) ∈ lw_tbl := lw_at lw_m7 29 rfl
theorem q1075 : (Jvm.Cond.interfaceMethod "java/util/NavigableSet" "java/util/NavigableSet" "iterator" "()Ljava/util/Iterator;") ∈ lw_tbl := lw_at lw_m5 42 rfl
set_option maxRecDepth 100000
theorem q1076 : (Jvm.Cond.declares ({ cls := "java/util/NavigableSet", name := "iterator", desc := "()Ljava/util/Iterator;" } : Jvm.MethodName)) ∈ lw_tbl := lw_at lw_m5 43 rfl
theorem q1509 : (Jvm.Cond.publicMethod ({ cls := "java/util/SortedMap", name := "firstKey", desc := "()Ljava/lang/Object;" } : Jvm.MethodName)) ∈ lw_tbl := lw_at lw_m6 236 rfl
set_option maxRecDepth 100000
theorem q1510 : (Jvm.Cond.declares ({ cls := "java/util/SortedMap", name := "firstKey", desc := "()Ljava/lang/Object;" } : Jvm.MethodName)) ∈ lw_tbl := lw_at lw_m6 237 rfl
theorem q1524 : (Jvm.Cond.publicMethod ({ cls := "java/util/SortedMap", name := "lastKey", desc := "()Ljava/lang/Object;" } : Jvm.MethodName)) ∈ lw_tbl := lw_at lw_m7 11 rfl
theorem q1525 : (Jvm.Cond.declares ({ cls := "java/util/SortedMap", name := "lastKey", desc := "()Ljava/lang/Object;" } : Jvm.MethodName)) ∈ lw_tbl := lw_at lw_m7 12 rfl
theorem q1025 : (Jvm.Cond.declares ({ cls := "java/util/TreeMap$NavigableSubMap", name := "keyIterator", desc := "()Ljava/util/Iterator;" } : Jvm.MethodName)) ∈ lw_tbl := lw_at lw_m4 232 rfl
set_option maxRecDepth 100000
theorem q1026 : (Jvm.Cond.selects "java/util/TreeMap$NavigableSubMap" ({ cls := "java/util/TreeMap$NavigableSubMap", name := "keyIterator", desc := "()Ljava/util/Iterator;" } : Jvm.MethodName) ({ cls := "java/util/TreeMap$NavigableSubMap", name := "keyIterator", desc := "()Ljava/util/Iterator;" } : Jvm.MethodName)) ∈ lw_all := lw_g (lw_at lw_m4 233 rfl) rfl
theorem q117 : (Jvm.Cond.initialized "jdk/internal/misc/UnsafeConstants") ∈ lw_all := lw_g (lw_at lw_m1 44 rfl) rfl
set_option maxRecDepth 100000
theorem q706 : (Jvm.Cond.laysStatic "jdk/internal/misc/UnsafeConstants" "BIG_ENDIAN" "Z") ∈ lw_tbl := lw_at lw_m3 153 rfl
theorem q169 : (Jvm.Cond.arrayClass Jvm.ClassFile.FieldType.int) ∈ lw_all := lw_g (lw_at lw_m1 96 rfl) rfl
set_option maxRecDepth 100000
theorem q208 : (Jvm.Cond.arrayOver (Jvm.ClassFile.FieldType.array Jvm.ClassFile.FieldType.int)) ∈ lw_tbl := lw_at lw_m1 135 rfl
theorem q358 : (Jvm.Cond.arrayOver (Jvm.ClassFile.FieldType.object "java/lang/Object")) ∈ lw_tbl := lw_at lw_m2 45 rfl
theorem q1258 : (Jvm.Cond.arrayOver (Jvm.ClassFile.FieldType.array Jvm.ClassFile.FieldType.boolean)) ∈ lw_tbl := lw_at lw_m5 225 rfl
theorem q1321 : (Jvm.Cond.arrayClass Jvm.ClassFile.FieldType.boolean) ∈ lw_all := lw_g (lw_at lw_m6 48 rfl) rfl
theorem q1614 : (Jvm.Cond.arrayClass Jvm.ClassFile.FieldType.byte) ∈ lw_all := lw_g (lw_at lw_m7 101 rfl) rfl
theorem q2486 : (Jvm.Cond.arrayClass Jvm.ClassFile.FieldType.long) ∈ lw_all := lw_g (lw_at lw_m11 13 rfl) rfl
