set_option maxRecDepth 100000
/-! java/lang/Throwable -/
def RJ0 : String := "java/lang/Throwable"
def TJ0 : u_T := fun k => match k with
  | 0 => ("java/lang/Throwable", "cause", "Ljava/lang/Throwable;", false)
  | 1 => ("java/lang/Throwable", "stackTrace", "[Ljava/lang/StackTraceElement;", false)
  | 2 => ("java/lang/Throwable", "suppressedExceptions", "Ljava/util/List;", false)
  | 3 => ("java/lang/Throwable", "detailMessage", "Ljava/lang/String;", false)
  | _ => ("java/lang/Throwable", "backtrace", "Ljava/lang/Object;", false)
def tyJ0 : Nat → FieldType := fun k => match k with
  | 0 => .object "java/lang/Throwable"
  | 1 => .array (.object "java/lang/StackTraceElement")
  | 2 => .object "java/util/List"
  | 3 => .object "java/lang/String"
  | _ => .object "java/lang/Object"
abbrev wsJ00 : List Cond := u_ws RJ0 TJ0 5
theorem nmJ0 : ∀ a, a < 5 → ∀ b, b < 5 → a ≠ b → (TJ0 a).2.1 ≠ (TJ0 b).2.1 := by decide +kernel
theorem tyJ0_ok : ∀ k, k < 5 → parseFieldDescriptor (TJ0 k).2.2.1 = some (tyJ0 k) := by decide +kernel
abbrev cJ0_init : ByteArray := prog_52_method_1_code
def yJ0_init : MethodName := ⟨RJ0, "<init>", "()V"⟩
abbrev cJ0_init_2 : ByteArray := prog_52_method_2_code
def yJ0_init_2 : MethodName := ⟨RJ0, "<init>", "(Ljava/lang/String;)V"⟩
theorem q187 : (Jvm.Cond.initialized "java/lang/Throwable") ∈ lw_all := lw_g (lw_at lw_m1 6 rfl) rfl
theorem q322 : (Jvm.Cond.declares ({ cls := "java/lang/Throwable", name := "<init>", desc := "()V" } : Jvm.MethodName)) ∈ lw_tbl := lw_at lw_m1 141 rfl
theorem q323 : (Jvm.Cond.declares ({ cls := "java/lang/Throwable", name := "<init>", desc := "(Ljava/lang/String;)V" } : Jvm.MethodName)) ∈ lw_tbl := lw_at lw_m1 142 rfl
theorem q327 : (Jvm.Cond.lays "java/lang/Throwable" "java/lang/Throwable" "cause" "Ljava/lang/Throwable;") ∈ lw_all := lw_g (lw_at lw_m1 146 rfl) rfl
theorem q329 : (Jvm.Cond.lays "java/lang/Throwable" "java/lang/Throwable" "stackTrace" "[Ljava/lang/StackTraceElement;") ∈ lw_all := lw_g (lw_at lw_m1 148 rfl) rfl
theorem q331 : (Jvm.Cond.lays "java/lang/Throwable" "java/lang/Throwable" "suppressedExceptions" "Ljava/util/List;") ∈ lw_all := lw_g (lw_at lw_m1 150 rfl) rfl
theorem q333 : (Jvm.Cond.lays "java/lang/Throwable" "java/lang/Throwable" "detailMessage" "Ljava/lang/String;") ∈ lw_all := lw_g (lw_at lw_m1 152 rfl) rfl
theorem q335 : (Jvm.Cond.lays "java/lang/Throwable" "java/lang/Throwable" "backtrace" "Ljava/lang/Object;") ∈ lw_all := lw_g (lw_at lw_m1 154 rfl) rfl
theorem q336 : (Jvm.Cond.fieldLink "java/lang/Throwable" (198 : Nat) "java/lang/Throwable" "backtrace" "Ljava/lang/Object;") ∈ lw_all := lw_g (lw_at lw_m1 155 rfl) rfl
theorem q337 : (Jvm.Cond.superclass "java/lang/Throwable" "java/lang/Object") ∈ lw_all := lw_g (lw_at lw_m1 156 rfl) rfl
theorem q338 : (Jvm.Cond.instanceMethod ({ cls := "java/lang/Throwable", name := "<init>", desc := "()V" } : Jvm.MethodName)) ∈ lw_all := lw_g (lw_at lw_m1 157 rfl) rfl
theorem q339 : (Jvm.Cond.code ({ cls := "java/lang/Throwable", name := "<init>", desc := "()V" } : Jvm.MethodName) prog_52_method_1_code (1 : Nat) (Option.none : Option Jvm.ClassFile.FieldType)) ∈ lw_all := lw_g (lw_at lw_m1 158 rfl) rfl
theorem q340 : (Jvm.Cond.methodLink "java/lang/Throwable" (1 : Nat) ({ cls := "java/lang/Object", name := "<init>", desc := "()V" } : Jvm.MethodName)) ∈ lw_all := lw_g (lw_at lw_m1 159 rfl) rfl
theorem q341 : (Jvm.Cond.fieldLink "java/lang/Throwable" (13 : Nat) "java/lang/Throwable" "UNASSIGNED_STACK" "[Ljava/lang/StackTraceElement;") ∈ lw_all := lw_g (lw_at lw_m1 160 rfl) rfl
theorem q342 : (Jvm.Cond.laysStatic "java/lang/Throwable" "UNASSIGNED_STACK" "[Ljava/lang/StackTraceElement;") ∈ lw_tbl := lw_at lw_m1 161 rfl
theorem q343 : (Jvm.Cond.fieldLink "java/lang/Throwable" (20 : Nat) "java/lang/Throwable" "SUPPRESSED_SENTINEL" "Ljava/util/List;") ∈ lw_all := lw_g (lw_at lw_m1 162 rfl) rfl
theorem q344 : (Jvm.Cond.laysStatic "java/lang/Throwable" "SUPPRESSED_SENTINEL" "Ljava/util/List;") ∈ lw_tbl := lw_at lw_m1 163 rfl
theorem q345 : (Jvm.Cond.methodLink "java/lang/Throwable" (27 : Nat) ({ cls := "java/lang/Throwable", name := "fillInStackTrace", desc := "()Ljava/lang/Throwable;" } : Jvm.MethodName)) ∈ lw_all := lw_g (lw_at lw_m1 164 rfl) rfl
theorem q346 : (Jvm.Cond.instanceMethod ({ cls := "java/lang/Throwable", name := "fillInStackTrace", desc := "()Ljava/lang/Throwable;" } : Jvm.MethodName)) ∈ lw_all := lw_g (lw_at lw_m1 165 rfl) rfl
theorem q347 : (Jvm.Cond.sameMethod "java/lang/Throwable" "java/lang/Throwable" "fillInStackTrace" "()Ljava/lang/Throwable;") ∈ lw_all := lw_g (lw_at lw_m1 166 rfl) rfl
theorem q353 : (Jvm.Cond.codeSync ({ cls := "java/lang/Throwable", name := "fillInStackTrace", desc := "()Ljava/lang/Throwable;" } : Jvm.MethodName) prog_52_method_18_code (1 : Nat) (Option.some (Jvm.ClassFile.FieldType.object "java/lang/Throwable"))) ∈ lw_all := lw_g (lw_at lw_m1 172 rfl) rfl
theorem q354 : (Jvm.Cond.methodLink "java/lang/Throwable" (202 : Nat) ({ cls := "java/lang/Throwable", name := "fillInStackTrace", desc := "(I)Ljava/lang/Throwable;" } : Jvm.MethodName)) ∈ lw_all := lw_g (lw_at lw_m1 173 rfl) rfl
theorem q355 : (Jvm.Cond.privateMethod ({ cls := "java/lang/Throwable", name := "fillInStackTrace", desc := "(I)Ljava/lang/Throwable;" } : Jvm.MethodName)) ∈ lw_tbl := lw_at lw_m1 174 rfl
theorem q356 : (Jvm.Cond.instanceMethod ({ cls := "java/lang/Throwable", name := "fillInStackTrace", desc := "(I)Ljava/lang/Throwable;" } : Jvm.MethodName)) ∈ lw_all := lw_g (lw_at lw_m1 175 rfl) rfl
theorem q357 : (Jvm.Cond.instantiable "java/lang/Throwable" (6 : Nat)) ∈ lw_all := lw_g (lw_at lw_m1 176 rfl) rfl
theorem q358 : (Jvm.Cond.native ({ cls := "java/lang/Throwable", name := "fillInStackTrace", desc := "(I)Ljava/lang/Throwable;" } : Jvm.MethodName)) ∈ lw_all := lw_g (lw_at lw_m1 177 rfl) rfl
theorem q370 : (Jvm.Cond.fieldLink "java/lang/Throwable" (198 : Nat) "java/lang/Throwable" "backtrace" "Ljava/lang/Object;") ∈ lw_all := lw_g (lw_at lw_m1 189 rfl) rfl
theorem q371 : (Jvm.Cond.fieldLink "java/lang/Throwable" (31 : Nat) "java/lang/Throwable" "detailMessage" "Ljava/lang/String;") ∈ lw_all := lw_g (lw_at lw_m1 190 rfl) rfl
theorem q372 : (Jvm.Cond.fieldLink "java/lang/Throwable" (7 : Nat) "java/lang/Throwable" "cause" "Ljava/lang/Throwable;") ∈ lw_all := lw_g (lw_at lw_m1 191 rfl) rfl
theorem q373 : (Jvm.Cond.fieldLink "java/lang/Throwable" (17 : Nat) "java/lang/Throwable" "stackTrace" "[Ljava/lang/StackTraceElement;") ∈ lw_all := lw_g (lw_at lw_m1 192 rfl) rfl
theorem q374 : (Jvm.Cond.fieldLink "java/lang/Throwable" (24 : Nat) "java/lang/Throwable" "suppressedExceptions" "Ljava/util/List;") ∈ lw_all := lw_g (lw_at lw_m1 193 rfl) rfl
theorem q377 : (Jvm.Cond.soleField "java/lang/Throwable" "backtrace") ∈ lw_all := lw_g (lw_at lw_m1 196 rfl) rfl
theorem q378 : (Jvm.Cond.soleField "java/lang/Throwable" "detailMessage") ∈ lw_all := lw_g (lw_at lw_m1 197 rfl) rfl
theorem q379 : (Jvm.Cond.soleField "java/lang/Throwable" "cause") ∈ lw_all := lw_g (lw_at lw_m1 198 rfl) rfl
theorem q380 : (Jvm.Cond.soleField "java/lang/Throwable" "stackTrace") ∈ lw_all := lw_g (lw_at lw_m1 199 rfl) rfl
theorem q382 : (Jvm.Cond.soleField "java/lang/Throwable" "depth") ∈ lw_all := lw_g (lw_at lw_m1 201 rfl) rfl
theorem q383 : (Jvm.Cond.soleField "java/lang/Throwable" "suppressedExceptions") ∈ lw_all := lw_g (lw_at lw_m1 202 rfl) rfl
theorem q594 : (Jvm.Cond.instanceMethod ({ cls := "java/lang/Throwable", name := "<init>", desc := "(Ljava/lang/String;)V" } : Jvm.MethodName)) ∈ lw_all := lw_g (lw_at lw_m2 173 rfl) rfl
theorem q595 : (Jvm.Cond.code ({ cls := "java/lang/Throwable", name := "<init>", desc := "(Ljava/lang/String;)V" } : Jvm.MethodName) prog_52_method_2_code (2 : Nat) (Option.none : Option Jvm.ClassFile.FieldType)) ∈ lw_all := lw_g (lw_at lw_m2 174 rfl) rfl
theorem q3398 : (Jvm.Cond.sameMethod "java/lang/Throwable" "java/lang/Throwable" "fillInStackTrace" "(I)Ljava/lang/Throwable;") ∈ lw_all := lw_g (lw_at lw_m14 97 rfl) rfl
theorem in_J0 : ∀ w ∈ wsJ00, w ∈ lw_all := lw_in wsJ00 [327, 329, 331, 333, 335] (by decide +kernel) (by decide +kernel)
/-! java/lang/Exception -/
def RJ1 : String := "java/lang/Exception"
abbrev cJ1_init : ByteArray := prog_42_method_1_code
def yJ1_init : MethodName := ⟨RJ1, "<init>", "()V"⟩
abbrev cJ1_init_2 : ByteArray := prog_42_method_2_code
def yJ1_init_2 : MethodName := ⟨RJ1, "<init>", "(Ljava/lang/String;)V"⟩
theorem q188 : (Jvm.Cond.initialized "java/lang/Exception") ∈ lw_all := lw_g (lw_at lw_m1 7 rfl) rfl
theorem q320 : (Jvm.Cond.declares ({ cls := "java/lang/Exception", name := "<init>", desc := "()V" } : Jvm.MethodName)) ∈ lw_tbl := lw_at lw_m1 139 rfl
theorem q321 : (Jvm.Cond.declares ({ cls := "java/lang/Exception", name := "<init>", desc := "(Ljava/lang/String;)V" } : Jvm.MethodName)) ∈ lw_tbl := lw_at lw_m1 140 rfl
theorem q366 : (Jvm.Cond.instanceMethod ({ cls := "java/lang/Exception", name := "<init>", desc := "()V" } : Jvm.MethodName)) ∈ lw_all := lw_g (lw_at lw_m1 185 rfl) rfl
theorem q367 : (Jvm.Cond.code ({ cls := "java/lang/Exception", name := "<init>", desc := "()V" } : Jvm.MethodName) prog_42_method_1_code (1 : Nat) (Option.none : Option Jvm.ClassFile.FieldType)) ∈ lw_all := lw_g (lw_at lw_m1 186 rfl) rfl
theorem q368 : (Jvm.Cond.methodLink "java/lang/Exception" (1 : Nat) ({ cls := "java/lang/Throwable", name := "<init>", desc := "()V" } : Jvm.MethodName)) ∈ lw_all := lw_g (lw_at lw_m1 187 rfl) rfl
theorem q591 : (Jvm.Cond.instanceMethod ({ cls := "java/lang/Exception", name := "<init>", desc := "(Ljava/lang/String;)V" } : Jvm.MethodName)) ∈ lw_all := lw_g (lw_at lw_m2 170 rfl) rfl
theorem q592 : (Jvm.Cond.code ({ cls := "java/lang/Exception", name := "<init>", desc := "(Ljava/lang/String;)V" } : Jvm.MethodName) prog_42_method_2_code (2 : Nat) (Option.none : Option Jvm.ClassFile.FieldType)) ∈ lw_all := lw_g (lw_at lw_m2 171 rfl) rfl
theorem q593 : (Jvm.Cond.methodLink "java/lang/Exception" (7 : Nat) ({ cls := "java/lang/Throwable", name := "<init>", desc := "(Ljava/lang/String;)V" } : Jvm.MethodName)) ∈ lw_all := lw_g (lw_at lw_m2 172 rfl) rfl
/-! java/lang/RuntimeException -/
def RJ2 : String := "java/lang/RuntimeException"
abbrev cJ2_init : ByteArray := prog_47_method_1_code
def yJ2_init : MethodName := ⟨RJ2, "<init>", "()V"⟩
abbrev cJ2_init_2 : ByteArray := prog_47_method_2_code
def yJ2_init_2 : MethodName := ⟨RJ2, "<init>", "(Ljava/lang/String;)V"⟩
theorem q189 : (Jvm.Cond.initialized "java/lang/RuntimeException") ∈ lw_all := lw_g (lw_at lw_m1 8 rfl) rfl
theorem q318 : (Jvm.Cond.declares ({ cls := "java/lang/RuntimeException", name := "<init>", desc := "()V" } : Jvm.MethodName)) ∈ lw_tbl := lw_at lw_m1 137 rfl
theorem q319 : (Jvm.Cond.declares ({ cls := "java/lang/RuntimeException", name := "<init>", desc := "(Ljava/lang/String;)V" } : Jvm.MethodName)) ∈ lw_tbl := lw_at lw_m1 138 rfl
theorem q363 : (Jvm.Cond.instanceMethod ({ cls := "java/lang/RuntimeException", name := "<init>", desc := "()V" } : Jvm.MethodName)) ∈ lw_all := lw_g (lw_at lw_m1 182 rfl) rfl
theorem q364 : (Jvm.Cond.code ({ cls := "java/lang/RuntimeException", name := "<init>", desc := "()V" } : Jvm.MethodName) prog_47_method_1_code (1 : Nat) (Option.none : Option Jvm.ClassFile.FieldType)) ∈ lw_all := lw_g (lw_at lw_m1 183 rfl) rfl
theorem q365 : (Jvm.Cond.methodLink "java/lang/RuntimeException" (1 : Nat) ({ cls := "java/lang/Exception", name := "<init>", desc := "()V" } : Jvm.MethodName)) ∈ lw_all := lw_g (lw_at lw_m1 184 rfl) rfl
theorem q588 : (Jvm.Cond.instanceMethod ({ cls := "java/lang/RuntimeException", name := "<init>", desc := "(Ljava/lang/String;)V" } : Jvm.MethodName)) ∈ lw_all := lw_g (lw_at lw_m2 167 rfl) rfl
theorem q589 : (Jvm.Cond.code ({ cls := "java/lang/RuntimeException", name := "<init>", desc := "(Ljava/lang/String;)V" } : Jvm.MethodName) prog_47_method_2_code (2 : Nat) (Option.none : Option Jvm.ClassFile.FieldType)) ∈ lw_all := lw_g (lw_at lw_m2 168 rfl) rfl
theorem q590 : (Jvm.Cond.methodLink "java/lang/RuntimeException" (7 : Nat) ({ cls := "java/lang/Exception", name := "<init>", desc := "(Ljava/lang/String;)V" } : Jvm.MethodName)) ∈ lw_all := lw_g (lw_at lw_m2 169 rfl) rfl
/-! java/lang/ArithmeticException -/
def RJ3 : String := "java/lang/ArithmeticException"
def TJ3 : u_T := fun k => match k with
  | 0 => ("java/lang/Throwable", "cause", "Ljava/lang/Throwable;", false)
  | 1 => ("java/lang/Throwable", "stackTrace", "[Ljava/lang/StackTraceElement;", false)
  | 2 => ("java/lang/Throwable", "suppressedExceptions", "Ljava/util/List;", false)
  | 3 => ("java/lang/Throwable", "detailMessage", "Ljava/lang/String;", false)
  | 4 => ("java/lang/Throwable", "backtrace", "Ljava/lang/Object;", false)
  | _ => ("java/lang/Throwable", "depth", "I", false)
def tyJ3 : Nat → FieldType := fun k => match k with
  | 0 => .object "java/lang/Throwable"
  | 1 => .array (.object "java/lang/StackTraceElement")
  | 2 => .object "java/util/List"
  | 3 => .object "java/lang/String"
  | 4 => .object "java/lang/Object"
  | _ => .int
abbrev wsJ30 : List Cond := u_ws RJ3 TJ3 6
theorem nmJ3 : ∀ a, a < 6 → ∀ b, b < 6 → a ≠ b → (TJ3 a).2.1 ≠ (TJ3 b).2.1 := by decide +kernel
theorem tyJ3_ok : ∀ k, k < 6 → parseFieldDescriptor (TJ3 k).2.2.1 = some (tyJ3 k) := by decide +kernel
abbrev cJ3_init : ByteArray := prog_39_method_1_code
def yJ3_init : MethodName := ⟨RJ3, "<init>", "()V"⟩
abbrev cJ3_init_2 : ByteArray := prog_39_method_2_code
def yJ3_init_2 : MethodName := ⟨RJ3, "<init>", "(Ljava/lang/String;)V"⟩
theorem q195 : (Jvm.Cond.initialized "java/lang/ArithmeticException") ∈ lw_all := lw_g (lw_at lw_m1 14 rfl) rfl
theorem q348 : (Jvm.Cond.selects "java/lang/ArithmeticException" ({ cls := "java/lang/Throwable", name := "fillInStackTrace", desc := "()Ljava/lang/Throwable;" } : Jvm.MethodName) ({ cls := "java/lang/Throwable", name := "fillInStackTrace", desc := "()Ljava/lang/Throwable;" } : Jvm.MethodName)) ∈ lw_all := lw_g (lw_at lw_m1 167 rfl) rfl
theorem q2379 : (Jvm.Cond.instantiable "java/lang/ArithmeticException" (6 : Nat)) ∈ lw_all := lw_g (lw_at lw_m10 38 rfl) rfl
theorem q2380 : (Jvm.Cond.castable "java/lang/ArithmeticException" "java/lang/ArithmeticException") ∈ lw_tbl := lw_at lw_m10 39 rfl
theorem q2381 : (Jvm.Cond.selects "java/lang/ArithmeticException" ({ cls := "java/lang/Throwable", name := "fillInStackTrace", desc := "(I)Ljava/lang/Throwable;" } : Jvm.MethodName) ({ cls := "java/lang/Throwable", name := "fillInStackTrace", desc := "(I)Ljava/lang/Throwable;" } : Jvm.MethodName)) ∈ lw_all := lw_g (lw_at lw_m10 40 rfl) rfl
theorem q2382 : (Jvm.Cond.lays "java/lang/ArithmeticException" "java/lang/Throwable" "cause" "Ljava/lang/Throwable;") ∈ lw_all := lw_g (lw_at lw_m10 41 rfl) rfl
theorem q2383 : (Jvm.Cond.lays "java/lang/ArithmeticException" "java/lang/Throwable" "stackTrace" "[Ljava/lang/StackTraceElement;") ∈ lw_all := lw_g (lw_at lw_m10 42 rfl) rfl
theorem q2384 : (Jvm.Cond.lays "java/lang/ArithmeticException" "java/lang/Throwable" "suppressedExceptions" "Ljava/util/List;") ∈ lw_all := lw_g (lw_at lw_m10 43 rfl) rfl
theorem q2385 : (Jvm.Cond.lays "java/lang/ArithmeticException" "java/lang/Throwable" "detailMessage" "Ljava/lang/String;") ∈ lw_all := lw_g (lw_at lw_m10 44 rfl) rfl
theorem q2386 : (Jvm.Cond.lays "java/lang/ArithmeticException" "java/lang/Throwable" "backtrace" "Ljava/lang/Object;") ∈ lw_all := lw_g (lw_at lw_m10 45 rfl) rfl
theorem q2388 : (Jvm.Cond.instanceMethod ({ cls := "java/lang/ArithmeticException", name := "<init>", desc := "()V" } : Jvm.MethodName)) ∈ lw_all := lw_g (lw_at lw_m10 47 rfl) rfl
theorem q2389 : (Jvm.Cond.code ({ cls := "java/lang/ArithmeticException", name := "<init>", desc := "()V" } : Jvm.MethodName) prog_39_method_1_code (1 : Nat) (Option.none : Option Jvm.ClassFile.FieldType)) ∈ lw_all := lw_g (lw_at lw_m10 48 rfl) rfl
theorem q2390 : (Jvm.Cond.methodLink "java/lang/ArithmeticException" (1 : Nat) ({ cls := "java/lang/RuntimeException", name := "<init>", desc := "()V" } : Jvm.MethodName)) ∈ lw_all := lw_g (lw_at lw_m10 49 rfl) rfl
theorem q2391 : (Jvm.Cond.lays "java/lang/ArithmeticException" "java/lang/Throwable" "depth" "I") ∈ lw_all := lw_g (lw_at lw_m10 50 rfl) rfl
theorem q2392 : (Jvm.Cond.superclass "java/lang/ArithmeticException" "java/lang/RuntimeException") ∈ lw_all := lw_g (lw_at lw_m10 51 rfl) rfl
theorem q2878 : (Jvm.Cond.instanceMethod ({ cls := "java/lang/ArithmeticException", name := "<init>", desc := "(Ljava/lang/String;)V" } : Jvm.MethodName)) ∈ lw_all := lw_g (lw_at lw_m12 57 rfl) rfl
theorem q2879 : (Jvm.Cond.code ({ cls := "java/lang/ArithmeticException", name := "<init>", desc := "(Ljava/lang/String;)V" } : Jvm.MethodName) prog_39_method_2_code (2 : Nat) (Option.none : Option Jvm.ClassFile.FieldType)) ∈ lw_all := lw_g (lw_at lw_m12 58 rfl) rfl
theorem q2880 : (Jvm.Cond.methodLink "java/lang/ArithmeticException" (7 : Nat) ({ cls := "java/lang/RuntimeException", name := "<init>", desc := "(Ljava/lang/String;)V" } : Jvm.MethodName)) ∈ lw_all := lw_g (lw_at lw_m12 59 rfl) rfl
theorem in_J3 : ∀ w ∈ wsJ30, w ∈ lw_all := lw_in wsJ30 [2382, 2383, 2384, 2385, 2386, 2391] (by decide +kernel) (by decide +kernel)
/-! java/lang/IndexOutOfBoundsException -/
def RJ4 : String := "java/lang/IndexOutOfBoundsException"
def TJ4 : u_T := fun k => match k with
  | 0 => ("java/lang/Throwable", "cause", "Ljava/lang/Throwable;", false)
  | 1 => ("java/lang/Throwable", "stackTrace", "[Ljava/lang/StackTraceElement;", false)
  | 2 => ("java/lang/Throwable", "suppressedExceptions", "Ljava/util/List;", false)
  | 3 => ("java/lang/Throwable", "detailMessage", "Ljava/lang/String;", false)
  | 4 => ("java/lang/Throwable", "backtrace", "Ljava/lang/Object;", false)
  | _ => ("java/lang/Throwable", "depth", "I", false)
def tyJ4 : Nat → FieldType := fun k => match k with
  | 0 => .object "java/lang/Throwable"
  | 1 => .array (.object "java/lang/StackTraceElement")
  | 2 => .object "java/util/List"
  | 3 => .object "java/lang/String"
  | 4 => .object "java/lang/Object"
  | _ => .int
abbrev wsJ40 : List Cond := u_ws RJ4 TJ4 6
theorem nmJ4 : ∀ a, a < 6 → ∀ b, b < 6 → a ≠ b → (TJ4 a).2.1 ≠ (TJ4 b).2.1 := by decide +kernel
theorem tyJ4_ok : ∀ k, k < 6 → parseFieldDescriptor (TJ4 k).2.2.1 = some (tyJ4 k) := by decide +kernel
abbrev cJ4_init : ByteArray := prog_45_method_2_code
def yJ4_init : MethodName := ⟨RJ4, "<init>", "(Ljava/lang/String;)V"⟩
abbrev cJ4_init_2 : ByteArray := prog_45_method_1_code
def yJ4_init_2 : MethodName := ⟨RJ4, "<init>", "()V"⟩
theorem q196 : (Jvm.Cond.initialized "java/lang/IndexOutOfBoundsException") ∈ lw_all := lw_g (lw_at lw_m1 15 rfl) rfl
theorem q352 : (Jvm.Cond.selects "java/lang/IndexOutOfBoundsException" ({ cls := "java/lang/Throwable", name := "fillInStackTrace", desc := "()Ljava/lang/Throwable;" } : Jvm.MethodName) ({ cls := "java/lang/Throwable", name := "fillInStackTrace", desc := "()Ljava/lang/Throwable;" } : Jvm.MethodName)) ∈ lw_all := lw_g (lw_at lw_m1 171 rfl) rfl
theorem q585 : (Jvm.Cond.instanceMethod ({ cls := "java/lang/IndexOutOfBoundsException", name := "<init>", desc := "(Ljava/lang/String;)V" } : Jvm.MethodName)) ∈ lw_all := lw_g (lw_at lw_m2 164 rfl) rfl
theorem q586 : (Jvm.Cond.code ({ cls := "java/lang/IndexOutOfBoundsException", name := "<init>", desc := "(Ljava/lang/String;)V" } : Jvm.MethodName) prog_45_method_2_code (2 : Nat) (Option.none : Option Jvm.ClassFile.FieldType)) ∈ lw_all := lw_g (lw_at lw_m2 165 rfl) rfl
theorem q587 : (Jvm.Cond.methodLink "java/lang/IndexOutOfBoundsException" (7 : Nat) ({ cls := "java/lang/RuntimeException", name := "<init>", desc := "(Ljava/lang/String;)V" } : Jvm.MethodName)) ∈ lw_all := lw_g (lw_at lw_m2 166 rfl) rfl
theorem q604 : (Jvm.Cond.declares ({ cls := "java/lang/IndexOutOfBoundsException", name := "<init>", desc := "()V" } : Jvm.MethodName)) ∈ lw_tbl := lw_at lw_m2 183 rfl
theorem q605 : (Jvm.Cond.declares ({ cls := "java/lang/IndexOutOfBoundsException", name := "<init>", desc := "(Ljava/lang/String;)V" } : Jvm.MethodName)) ∈ lw_tbl := lw_at lw_m2 184 rfl
theorem q617 : (Jvm.Cond.instantiable "java/lang/IndexOutOfBoundsException" (6 : Nat)) ∈ lw_all := lw_g (lw_at lw_m2 196 rfl) rfl
theorem q618 : (Jvm.Cond.castable "java/lang/IndexOutOfBoundsException" "java/lang/IndexOutOfBoundsException") ∈ lw_tbl := lw_at lw_m2 197 rfl
theorem q619 : (Jvm.Cond.selects "java/lang/IndexOutOfBoundsException" ({ cls := "java/lang/Throwable", name := "fillInStackTrace", desc := "(I)Ljava/lang/Throwable;" } : Jvm.MethodName) ({ cls := "java/lang/Throwable", name := "fillInStackTrace", desc := "(I)Ljava/lang/Throwable;" } : Jvm.MethodName)) ∈ lw_all := lw_g (lw_at lw_m2 198 rfl) rfl
theorem q620 : (Jvm.Cond.lays "java/lang/IndexOutOfBoundsException" "java/lang/Throwable" "cause" "Ljava/lang/Throwable;") ∈ lw_all := lw_g (lw_at lw_m2 199 rfl) rfl
theorem q621 : (Jvm.Cond.lays "java/lang/IndexOutOfBoundsException" "java/lang/Throwable" "stackTrace" "[Ljava/lang/StackTraceElement;") ∈ lw_all := lw_g (lw_at lw_m2 200 rfl) rfl
theorem q622 : (Jvm.Cond.lays "java/lang/IndexOutOfBoundsException" "java/lang/Throwable" "suppressedExceptions" "Ljava/util/List;") ∈ lw_all := lw_g (lw_at lw_m2 201 rfl) rfl
theorem q623 : (Jvm.Cond.lays "java/lang/IndexOutOfBoundsException" "java/lang/Throwable" "detailMessage" "Ljava/lang/String;") ∈ lw_all := lw_g (lw_at lw_m2 202 rfl) rfl
theorem q624 : (Jvm.Cond.lays "java/lang/IndexOutOfBoundsException" "java/lang/Throwable" "backtrace" "Ljava/lang/Object;") ∈ lw_all := lw_g (lw_at lw_m2 203 rfl) rfl
theorem q626 : (Jvm.Cond.instanceMethod ({ cls := "java/lang/IndexOutOfBoundsException", name := "<init>", desc := "()V" } : Jvm.MethodName)) ∈ lw_all := lw_g (lw_at lw_m2 205 rfl) rfl
theorem q627 : (Jvm.Cond.code ({ cls := "java/lang/IndexOutOfBoundsException", name := "<init>", desc := "()V" } : Jvm.MethodName) prog_45_method_1_code (1 : Nat) (Option.none : Option Jvm.ClassFile.FieldType)) ∈ lw_all := lw_g (lw_at lw_m2 206 rfl) rfl
theorem q628 : (Jvm.Cond.methodLink "java/lang/IndexOutOfBoundsException" (1 : Nat) ({ cls := "java/lang/RuntimeException", name := "<init>", desc := "()V" } : Jvm.MethodName)) ∈ lw_all := lw_g (lw_at lw_m2 207 rfl) rfl
theorem q629 : (Jvm.Cond.lays "java/lang/IndexOutOfBoundsException" "java/lang/Throwable" "depth" "I") ∈ lw_all := lw_g (lw_at lw_m2 208 rfl) rfl
theorem q630 : (Jvm.Cond.superclass "java/lang/IndexOutOfBoundsException" "java/lang/RuntimeException") ∈ lw_all := lw_g (lw_at lw_m2 209 rfl) rfl
theorem in_J4 : ∀ w ∈ wsJ40, w ∈ lw_all := lw_in wsJ40 [620, 621, 622, 623, 624, 629] (by decide +kernel) (by decide +kernel)
/-! java/lang/ArrayIndexOutOfBoundsException -/
def RJ5 : String := "java/lang/ArrayIndexOutOfBoundsException"
def TJ5 : u_T := fun k => match k with
  | 0 => ("java/lang/Throwable", "backtrace", "Ljava/lang/Object;", false)
  | 1 => ("java/lang/Throwable", "detailMessage", "Ljava/lang/String;", false)
  | 2 => ("java/lang/Throwable", "cause", "Ljava/lang/Throwable;", false)
  | 3 => ("java/lang/Throwable", "stackTrace", "[Ljava/lang/StackTraceElement;", false)
  | 4 => ("java/lang/Throwable", "depth", "I", false)
  | _ => ("java/lang/Throwable", "suppressedExceptions", "Ljava/util/List;", false)
def tyJ5 : Nat → FieldType := fun k => match k with
  | 0 => .object "java/lang/Object"
  | 1 => .object "java/lang/String"
  | 2 => .object "java/lang/Throwable"
  | 3 => .array (.object "java/lang/StackTraceElement")
  | 4 => .int
  | _ => .object "java/util/List"
abbrev wsJ50 : List Cond := u_ws RJ5 TJ5 6
theorem nmJ5 : ∀ a, a < 6 → ∀ b, b < 6 → a ≠ b → (TJ5 a).2.1 ≠ (TJ5 b).2.1 := by decide +kernel
theorem tyJ5_ok : ∀ k, k < 6 → parseFieldDescriptor (TJ5 k).2.2.1 = some (tyJ5 k) := by decide +kernel
abbrev cJ5_init : ByteArray := prog_40_method_2_code
def yJ5_init : MethodName := ⟨RJ5, "<init>", "(Ljava/lang/String;)V"⟩
theorem q197 : (Jvm.Cond.initialized "java/lang/ArrayIndexOutOfBoundsException") ∈ lw_all := lw_g (lw_at lw_m1 16 rfl) rfl
theorem q349 : (Jvm.Cond.selects "java/lang/ArrayIndexOutOfBoundsException" ({ cls := "java/lang/Throwable", name := "fillInStackTrace", desc := "()Ljava/lang/Throwable;" } : Jvm.MethodName) ({ cls := "java/lang/Throwable", name := "fillInStackTrace", desc := "()Ljava/lang/Throwable;" } : Jvm.MethodName)) ∈ lw_all := lw_g (lw_at lw_m1 168 rfl) rfl
theorem q581 : (Jvm.Cond.instantiable "java/lang/ArrayIndexOutOfBoundsException" (6 : Nat)) ∈ lw_all := lw_g (lw_at lw_m2 160 rfl) rfl
theorem q582 : (Jvm.Cond.instanceMethod ({ cls := "java/lang/ArrayIndexOutOfBoundsException", name := "<init>", desc := "(Ljava/lang/String;)V" } : Jvm.MethodName)) ∈ lw_all := lw_g (lw_at lw_m2 161 rfl) rfl
theorem q583 : (Jvm.Cond.code ({ cls := "java/lang/ArrayIndexOutOfBoundsException", name := "<init>", desc := "(Ljava/lang/String;)V" } : Jvm.MethodName) prog_40_method_2_code (2 : Nat) (Option.none : Option Jvm.ClassFile.FieldType)) ∈ lw_all := lw_g (lw_at lw_m2 162 rfl) rfl
theorem q584 : (Jvm.Cond.methodLink "java/lang/ArrayIndexOutOfBoundsException" (7 : Nat) ({ cls := "java/lang/IndexOutOfBoundsException", name := "<init>", desc := "(Ljava/lang/String;)V" } : Jvm.MethodName)) ∈ lw_all := lw_g (lw_at lw_m2 163 rfl) rfl
theorem q596 : (Jvm.Cond.lays "java/lang/ArrayIndexOutOfBoundsException" "java/lang/Throwable" "backtrace" "Ljava/lang/Object;") ∈ lw_all := lw_g (lw_at lw_m2 175 rfl) rfl
theorem q597 : (Jvm.Cond.lays "java/lang/ArrayIndexOutOfBoundsException" "java/lang/Throwable" "detailMessage" "Ljava/lang/String;") ∈ lw_all := lw_g (lw_at lw_m2 176 rfl) rfl
theorem q598 : (Jvm.Cond.lays "java/lang/ArrayIndexOutOfBoundsException" "java/lang/Throwable" "cause" "Ljava/lang/Throwable;") ∈ lw_all := lw_g (lw_at lw_m2 177 rfl) rfl
theorem q599 : (Jvm.Cond.lays "java/lang/ArrayIndexOutOfBoundsException" "java/lang/Throwable" "stackTrace" "[Ljava/lang/StackTraceElement;") ∈ lw_all := lw_g (lw_at lw_m2 178 rfl) rfl
theorem q600 : (Jvm.Cond.lays "java/lang/ArrayIndexOutOfBoundsException" "java/lang/Throwable" "depth" "I") ∈ lw_all := lw_g (lw_at lw_m2 179 rfl) rfl
theorem q601 : (Jvm.Cond.lays "java/lang/ArrayIndexOutOfBoundsException" "java/lang/Throwable" "suppressedExceptions" "Ljava/util/List;") ∈ lw_all := lw_g (lw_at lw_m2 180 rfl) rfl
theorem q602 : (Jvm.Cond.superclass "java/lang/ArrayIndexOutOfBoundsException" "java/lang/IndexOutOfBoundsException") ∈ lw_all := lw_g (lw_at lw_m2 181 rfl) rfl
theorem q603 : (Jvm.Cond.castable "java/lang/ArrayIndexOutOfBoundsException" "java/lang/ArrayIndexOutOfBoundsException") ∈ lw_tbl := lw_at lw_m2 182 rfl
theorem q606 : (Jvm.Cond.selects "java/lang/ArrayIndexOutOfBoundsException" ({ cls := "java/lang/Throwable", name := "fillInStackTrace", desc := "(I)Ljava/lang/Throwable;" } : Jvm.MethodName) ({ cls := "java/lang/Throwable", name := "fillInStackTrace", desc := "(I)Ljava/lang/Throwable;" } : Jvm.MethodName)) ∈ lw_all := lw_g (lw_at lw_m2 185 rfl) rfl
theorem q3399 : (Jvm.Cond.castable "java/lang/ArrayIndexOutOfBoundsException" "java/lang/IndexOutOfBoundsException") ∈ lw_tbl := lw_at lw_m14 98 rfl
theorem in_J5 : ∀ w ∈ wsJ50, w ∈ lw_all := lw_in wsJ50 [596, 597, 598, 599, 600, 601] (by decide +kernel) (by decide +kernel)
/-! java/lang/String -/
def RJ6 : String := "java/lang/String"
def TJ6 : u_T := fun k => match k with
  | 0 => ("java/lang/String", "value", "[B", true)
  | _ => ("java/lang/String", "coder", "B", true)
def tyJ6 : Nat → FieldType := fun k => match k with
  | 0 => .array .byte
  | _ => .byte
abbrev wsJ60 : List Cond := u_ws RJ6 TJ6 2
theorem nmJ6 : ∀ a, a < 2 → ∀ b, b < 2 → a ≠ b → (TJ6 a).2.1 ≠ (TJ6 b).2.1 := by decide +kernel
theorem tyJ6_ok : ∀ k, k < 2 → parseFieldDescriptor (TJ6 k).2.2.1 = some (tyJ6 k) := by decide +kernel
abbrev cJ6_length : ByteArray := prog_48_method_54_code
def yJ6_length : MethodName := ⟨RJ6, "length", "()I"⟩
abbrev cJ6_coder : ByteArray := prog_48_method_152_code
def yJ6_coder : MethodName := ⟨RJ6, "coder", "()B"⟩
abbrev cJ6_charAt : ByteArray := prog_48_method_56_code
def yJ6_charAt : MethodName := ⟨RJ6, "charAt", "(I)C"⟩
abbrev cJ6_isLatin1 : ByteArray := prog_48_method_154_code
def yJ6_isLatin1 : MethodName := ⟨RJ6, "isLatin1", "()Z"⟩
abbrev cJ6_checkIndex : ByteArray := prog_48_method_155_code
def yJ6_checkIndex : MethodName := ⟨RJ6, "checkIndex", "(II)V"⟩
abbrev cJ6_indexOf : ByteArray := prog_48_method_79_code
def yJ6_indexOf : MethodName := ⟨RJ6, "indexOf", "(I)I"⟩
abbrev cJ6_indexOf_2 : ByteArray := prog_48_method_80_code
def yJ6_indexOf_2 : MethodName := ⟨RJ6, "indexOf", "(II)I"⟩
abbrev cJ6_checkBoundsBeginEnd : ByteArray := prog_48_method_158_code
def yJ6_checkBoundsBeginEnd : MethodName := ⟨RJ6, "checkBoundsBeginEnd", "(III)V"⟩
theorem q198 : (Jvm.Cond.initialized "java/lang/String") ∈ lw_all := lw_g (lw_at lw_m1 17 rfl) rfl
theorem q607 : (Jvm.Cond.instantiable "java/lang/String" (4 : Nat)) ∈ lw_all := lw_g (lw_at lw_m2 186 rfl) rfl
theorem q608 : (Jvm.Cond.laysFinal "java/lang/String" "java/lang/String" "value" "[B") ∈ lw_all := lw_g (lw_at lw_m2 187 rfl) rfl
theorem q609 : (Jvm.Cond.soleField "java/lang/String" "value") ∈ lw_all := lw_g (lw_at lw_m2 188 rfl) rfl
theorem q610 : (Jvm.Cond.laysFinal "java/lang/String" "java/lang/String" "coder" "B") ∈ lw_all := lw_g (lw_at lw_m2 189 rfl) rfl
theorem q611 : (Jvm.Cond.soleField "java/lang/String" "coder") ∈ lw_all := lw_g (lw_at lw_m2 190 rfl) rfl
theorem q707 : (Jvm.Cond.instanceMethod ({ cls := "java/lang/String", name := "length", desc := "()I" } : Jvm.MethodName)) ∈ lw_all := lw_g (lw_at lw_m3 46 rfl) rfl
theorem q708 : (Jvm.Cond.selects "java/lang/String" ({ cls := "java/lang/String", name := "length", desc := "()I" } : Jvm.MethodName) ({ cls := "java/lang/String", name := "length", desc := "()I" } : Jvm.MethodName)) ∈ lw_all := lw_g (lw_at lw_m3 47 rfl) rfl
theorem q709 : (Jvm.Cond.code ({ cls := "java/lang/String", name := "length", desc := "()I" } : Jvm.MethodName) prog_48_method_54_code (1 : Nat) (Option.some Jvm.ClassFile.FieldType.int)) ∈ lw_all := lw_g (lw_at lw_m3 48 rfl) rfl
theorem q710 : (Jvm.Cond.methodLink "java/lang/String" (335 : Nat) ({ cls := "java/lang/String", name := "coder", desc := "()B" } : Jvm.MethodName)) ∈ lw_all := lw_g (lw_at lw_m3 49 rfl) rfl
theorem q711 : (Jvm.Cond.instanceMethod ({ cls := "java/lang/String", name := "coder", desc := "()B" } : Jvm.MethodName)) ∈ lw_all := lw_g (lw_at lw_m3 50 rfl) rfl
theorem q712 : (Jvm.Cond.selects "java/lang/String" ({ cls := "java/lang/String", name := "coder", desc := "()B" } : Jvm.MethodName) ({ cls := "java/lang/String", name := "coder", desc := "()B" } : Jvm.MethodName)) ∈ lw_all := lw_g (lw_at lw_m3 51 rfl) rfl
theorem q713 : (Jvm.Cond.code ({ cls := "java/lang/String", name := "coder", desc := "()B" } : Jvm.MethodName) prog_48_method_152_code (1 : Nat) (Option.some Jvm.ClassFile.FieldType.byte)) ∈ lw_all := lw_g (lw_at lw_m3 52 rfl) rfl
theorem q714 : (Jvm.Cond.fieldLink "java/lang/String" (38 : Nat) "java/lang/String" "COMPACT_STRINGS" "Z") ∈ lw_all := lw_g (lw_at lw_m3 53 rfl) rfl
theorem q715 : (Jvm.Cond.laysStatic "java/lang/String" "COMPACT_STRINGS" "Z") ∈ lw_tbl := lw_at lw_m3 54 rfl
theorem q717 : (Jvm.Cond.instanceMethod ({ cls := "java/lang/String", name := "charAt", desc := "(I)C" } : Jvm.MethodName)) ∈ lw_all := lw_g (lw_at lw_m3 56 rfl) rfl
theorem q718 : (Jvm.Cond.selects "java/lang/String" ({ cls := "java/lang/String", name := "charAt", desc := "(I)C" } : Jvm.MethodName) ({ cls := "java/lang/String", name := "charAt", desc := "(I)C" } : Jvm.MethodName)) ∈ lw_all := lw_g (lw_at lw_m3 57 rfl) rfl
theorem q719 : (Jvm.Cond.code ({ cls := "java/lang/String", name := "charAt", desc := "(I)C" } : Jvm.MethodName) prog_48_method_56_code (2 : Nat) (Option.some Jvm.ClassFile.FieldType.char)) ∈ lw_all := lw_g (lw_at lw_m3 58 rfl) rfl
theorem q720 : (Jvm.Cond.methodLink "java/lang/String" (492 : Nat) ({ cls := "java/lang/String", name := "isLatin1", desc := "()Z" } : Jvm.MethodName)) ∈ lw_all := lw_g (lw_at lw_m3 59 rfl) rfl
theorem q721 : (Jvm.Cond.instanceMethod ({ cls := "java/lang/String", name := "isLatin1", desc := "()Z" } : Jvm.MethodName)) ∈ lw_all := lw_g (lw_at lw_m3 60 rfl) rfl
theorem q722 : (Jvm.Cond.selects "java/lang/String" ({ cls := "java/lang/String", name := "isLatin1", desc := "()Z" } : Jvm.MethodName) ({ cls := "java/lang/String", name := "isLatin1", desc := "()Z" } : Jvm.MethodName)) ∈ lw_all := lw_g (lw_at lw_m3 61 rfl) rfl
theorem q723 : (Jvm.Cond.code ({ cls := "java/lang/String", name := "isLatin1", desc := "()Z" } : Jvm.MethodName) prog_48_method_154_code (1 : Nat) (Option.some Jvm.ClassFile.FieldType.boolean)) ∈ lw_all := lw_g (lw_at lw_m3 62 rfl) rfl
theorem q724 : (Jvm.Cond.methodLink "java/lang/String" (495 : Nat) ({ cls := "java/lang/StringLatin1", name := "charAt", desc := "([BI)C" } : Jvm.MethodName)) ∈ lw_all := lw_g (lw_at lw_m3 63 rfl) rfl
theorem q728 : (Jvm.Cond.static ({ cls := "java/lang/String", name := "checkIndex", desc := "(II)V" } : Jvm.MethodName)) ∈ lw_all := lw_g (lw_at lw_m3 67 rfl) rfl
theorem q729 : (Jvm.Cond.code ({ cls := "java/lang/String", name := "checkIndex", desc := "(II)V" } : Jvm.MethodName) prog_48_method_155_code (2 : Nat) (Option.none : Option Jvm.ClassFile.FieldType)) ∈ lw_all := lw_g (lw_at lw_m3 68 rfl) rfl
theorem q730 : (Jvm.Cond.fieldLink "java/lang/String" (1053 : Nat) "jdk/internal/util/Preconditions" "SIOOBE_FORMATTER" "Ljava/util/function/BiFunction;") ∈ lw_all := lw_g (lw_at lw_m3 69 rfl) rfl
theorem q732 : (Jvm.Cond.methodLink "java/lang/String" (1059 : Nat) ({ cls := "jdk/internal/util/Preconditions", name := "checkIndex", desc := "(IILjava/util/function/BiFunction;)I" } : Jvm.MethodName)) ∈ lw_all := lw_g (lw_at lw_m3 71 rfl) rfl
theorem q735 : (Jvm.Cond.methodLink "java/lang/String" (498 : Nat) ({ cls := "java/lang/StringUTF16", name := "charAt", desc := "([BI)C" } : Jvm.MethodName)) ∈ lw_all := lw_g (lw_at lw_m3 74 rfl) rfl
theorem q2917 : (Jvm.Cond.instanceMethod ({ cls := "java/lang/String", name := "indexOf", desc := "(I)I" } : Jvm.MethodName)) ∈ lw_all := lw_g (lw_at lw_m12 96 rfl) rfl
theorem q2918 : (Jvm.Cond.selects "java/lang/String" ({ cls := "java/lang/String", name := "indexOf", desc := "(I)I" } : Jvm.MethodName) ({ cls := "java/lang/String", name := "indexOf", desc := "(I)I" } : Jvm.MethodName)) ∈ lw_all := lw_g (lw_at lw_m12 97 rfl) rfl
theorem q2919 : (Jvm.Cond.code ({ cls := "java/lang/String", name := "indexOf", desc := "(I)I" } : Jvm.MethodName) prog_48_method_79_code (2 : Nat) (Option.some Jvm.ClassFile.FieldType.int)) ∈ lw_all := lw_g (lw_at lw_m12 98 rfl) rfl
theorem q2920 : (Jvm.Cond.methodLink "java/lang/String" (633 : Nat) ({ cls := "java/lang/String", name := "indexOf", desc := "(II)I" } : Jvm.MethodName)) ∈ lw_all := lw_g (lw_at lw_m12 99 rfl) rfl
theorem q2921 : (Jvm.Cond.instanceMethod ({ cls := "java/lang/String", name := "indexOf", desc := "(II)I" } : Jvm.MethodName)) ∈ lw_all := lw_g (lw_at lw_m12 100 rfl) rfl
theorem q2922 : (Jvm.Cond.selects "java/lang/String" ({ cls := "java/lang/String", name := "indexOf", desc := "(II)I" } : Jvm.MethodName) ({ cls := "java/lang/String", name := "indexOf", desc := "(II)I" } : Jvm.MethodName)) ∈ lw_all := lw_g (lw_at lw_m12 101 rfl) rfl
theorem q2923 : (Jvm.Cond.code ({ cls := "java/lang/String", name := "indexOf", desc := "(II)I" } : Jvm.MethodName) prog_48_method_80_code (3 : Nat) (Option.some Jvm.ClassFile.FieldType.int)) ∈ lw_all := lw_g (lw_at lw_m12 102 rfl) rfl
theorem q2924 : (Jvm.Cond.methodLink "java/lang/String" (505 : Nat) ({ cls := "java/lang/String", name := "length", desc := "()I" } : Jvm.MethodName)) ∈ lw_all := lw_g (lw_at lw_m12 103 rfl) rfl
theorem q2925 : (Jvm.Cond.methodLink "java/lang/String" (637 : Nat) ({ cls := "java/lang/StringLatin1", name := "indexOf", desc := "([BIII)I" } : Jvm.MethodName)) ∈ lw_all := lw_g (lw_at lw_m12 104 rfl) rfl
theorem q2940 : (Jvm.Cond.methodLink "java/lang/String" (640 : Nat) ({ cls := "java/lang/StringUTF16", name := "indexOf", desc := "([BIII)I" } : Jvm.MethodName)) ∈ lw_all := lw_g (lw_at lw_m12 119 rfl) rfl
theorem q2953 : (Jvm.Cond.static ({ cls := "java/lang/String", name := "checkBoundsBeginEnd", desc := "(III)V" } : Jvm.MethodName)) ∈ lw_all := lw_g (lw_at lw_m12 132 rfl) rfl
theorem q2954 : (Jvm.Cond.code ({ cls := "java/lang/String", name := "checkBoundsBeginEnd", desc := "(III)V" } : Jvm.MethodName) prog_48_method_158_code (3 : Nat) (Option.none : Option Jvm.ClassFile.FieldType)) ∈ lw_all := lw_g (lw_at lw_m12 133 rfl) rfl
theorem q2955 : (Jvm.Cond.methodLink "java/lang/String" (1062 : Nat) ({ cls := "jdk/internal/util/Preconditions", name := "checkFromToIndex", desc := "(IIILjava/util/function/BiFunction;)I" } : Jvm.MethodName)) ∈ lw_all := lw_g (lw_at lw_m12 134 rfl) rfl
theorem q3415 : (Jvm.Cond.fieldLink "java/lang/String" (9 : Nat) "java/lang/String" "value" "[B") ∈ lw_all := lw_g (lw_at lw_m14 114 rfl) rfl
theorem q3416 : (Jvm.Cond.fieldLink "java/lang/String" (15 : Nat) "java/lang/String" "coder" "B") ∈ lw_all := lw_g (lw_at lw_m14 115 rfl) rfl
theorem in_J6 : ∀ w ∈ wsJ60, w ∈ lw_all := lw_in wsJ60 [608, 610] (by decide +kernel) (by decide +kernel)
/-! java/lang/IllegalArgumentException -/
def RJ7 : String := "java/lang/IllegalArgumentException"
def TJ7 : u_T := fun k => match k with
  | 0 => ("java/lang/Throwable", "cause", "Ljava/lang/Throwable;", false)
  | 1 => ("java/lang/Throwable", "stackTrace", "[Ljava/lang/StackTraceElement;", false)
  | 2 => ("java/lang/Throwable", "suppressedExceptions", "Ljava/util/List;", false)
  | 3 => ("java/lang/Throwable", "detailMessage", "Ljava/lang/String;", false)
  | 4 => ("java/lang/Throwable", "backtrace", "Ljava/lang/Object;", false)
  | _ => ("java/lang/Throwable", "depth", "I", false)
def tyJ7 : Nat → FieldType := fun k => match k with
  | 0 => .object "java/lang/Throwable"
  | 1 => .array (.object "java/lang/StackTraceElement")
  | 2 => .object "java/util/List"
  | 3 => .object "java/lang/String"
  | 4 => .object "java/lang/Object"
  | _ => .int
abbrev wsJ70 : List Cond := u_ws RJ7 TJ7 6
theorem nmJ7 : ∀ a, a < 6 → ∀ b, b < 6 → a ≠ b → (TJ7 a).2.1 ≠ (TJ7 b).2.1 := by decide +kernel
theorem tyJ7_ok : ∀ k, k < 6 → parseFieldDescriptor (TJ7 k).2.2.1 = some (tyJ7 k) := by decide +kernel
abbrev cJ7_init : ByteArray := prog_43_method_1_code
def yJ7_init : MethodName := ⟨RJ7, "<init>", "()V"⟩
theorem q199 : (Jvm.Cond.initialized "java/lang/IllegalArgumentException") ∈ lw_all := lw_g (lw_at lw_m1 18 rfl) rfl
theorem q350 : (Jvm.Cond.selects "java/lang/IllegalArgumentException" ({ cls := "java/lang/Throwable", name := "fillInStackTrace", desc := "()Ljava/lang/Throwable;" } : Jvm.MethodName) ({ cls := "java/lang/Throwable", name := "fillInStackTrace", desc := "()Ljava/lang/Throwable;" } : Jvm.MethodName)) ∈ lw_all := lw_g (lw_at lw_m1 169 rfl) rfl
theorem q650 : (Jvm.Cond.instantiable "java/lang/IllegalArgumentException" (6 : Nat)) ∈ lw_all := lw_g (lw_at lw_m2 229 rfl) rfl
theorem q651 : (Jvm.Cond.castable "java/lang/IllegalArgumentException" "java/lang/IllegalArgumentException") ∈ lw_tbl := lw_at lw_m2 230 rfl
theorem q652 : (Jvm.Cond.selects "java/lang/IllegalArgumentException" ({ cls := "java/lang/Throwable", name := "fillInStackTrace", desc := "(I)Ljava/lang/Throwable;" } : Jvm.MethodName) ({ cls := "java/lang/Throwable", name := "fillInStackTrace", desc := "(I)Ljava/lang/Throwable;" } : Jvm.MethodName)) ∈ lw_all := lw_g (lw_at lw_m2 231 rfl) rfl
theorem q653 : (Jvm.Cond.lays "java/lang/IllegalArgumentException" "java/lang/Throwable" "cause" "Ljava/lang/Throwable;") ∈ lw_all := lw_g (lw_at lw_m2 232 rfl) rfl
theorem q654 : (Jvm.Cond.lays "java/lang/IllegalArgumentException" "java/lang/Throwable" "stackTrace" "[Ljava/lang/StackTraceElement;") ∈ lw_all := lw_g (lw_at lw_m2 233 rfl) rfl
theorem q655 : (Jvm.Cond.lays "java/lang/IllegalArgumentException" "java/lang/Throwable" "suppressedExceptions" "Ljava/util/List;") ∈ lw_all := lw_g (lw_at lw_m2 234 rfl) rfl
theorem q656 : (Jvm.Cond.lays "java/lang/IllegalArgumentException" "java/lang/Throwable" "detailMessage" "Ljava/lang/String;") ∈ lw_all := lw_g (lw_at lw_m2 235 rfl) rfl
theorem q657 : (Jvm.Cond.lays "java/lang/IllegalArgumentException" "java/lang/Throwable" "backtrace" "Ljava/lang/Object;") ∈ lw_all := lw_g (lw_at lw_m2 236 rfl) rfl
theorem q659 : (Jvm.Cond.instanceMethod ({ cls := "java/lang/IllegalArgumentException", name := "<init>", desc := "()V" } : Jvm.MethodName)) ∈ lw_all := lw_g (lw_at lw_m2 238 rfl) rfl
theorem q660 : (Jvm.Cond.code ({ cls := "java/lang/IllegalArgumentException", name := "<init>", desc := "()V" } : Jvm.MethodName) prog_43_method_1_code (1 : Nat) (Option.none : Option Jvm.ClassFile.FieldType)) ∈ lw_all := lw_g (lw_at lw_m2 239 rfl) rfl
theorem q661 : (Jvm.Cond.methodLink "java/lang/IllegalArgumentException" (1 : Nat) ({ cls := "java/lang/RuntimeException", name := "<init>", desc := "()V" } : Jvm.MethodName)) ∈ lw_all := lw_g (lw_at lw_m3 0 rfl) rfl
theorem q662 : (Jvm.Cond.lays "java/lang/IllegalArgumentException" "java/lang/Throwable" "depth" "I") ∈ lw_all := lw_g (lw_at lw_m3 1 rfl) rfl
theorem q663 : (Jvm.Cond.superclass "java/lang/IllegalArgumentException" "java/lang/RuntimeException") ∈ lw_all := lw_g (lw_at lw_m3 2 rfl) rfl
theorem in_J7 : ∀ w ∈ wsJ70, w ∈ lw_all := lw_in wsJ70 [653, 654, 655, 656, 657, 662] (by decide +kernel) (by decide +kernel)
/-! java/lang/StringLatin1 -/
def RJ8 : String := "java/lang/StringLatin1"
abbrev cJ8_charAt : ByteArray := prog_49_method_2_code
def yJ8_charAt : MethodName := ⟨RJ8, "charAt", "([BI)C"⟩
abbrev cJ8_indexOf : ByteArray := prog_49_method_22_code
def yJ8_indexOf : MethodName := ⟨RJ8, "indexOf", "([BIII)I"⟩
abbrev cJ8_canEncode : ByteArray := prog_49_method_4_code
def yJ8_canEncode : MethodName := ⟨RJ8, "canEncode", "(I)Z"⟩
abbrev cJ8_indexOfChar : ByteArray := prog_49_method_23_code
def yJ8_indexOfChar : MethodName := ⟨RJ8, "indexOfChar", "([BIII)I"⟩
theorem q200 : (Jvm.Cond.initialized "java/lang/StringLatin1") ∈ lw_all := lw_g (lw_at lw_m1 19 rfl) rfl
theorem q725 : (Jvm.Cond.static ({ cls := "java/lang/StringLatin1", name := "charAt", desc := "([BI)C" } : Jvm.MethodName)) ∈ lw_all := lw_g (lw_at lw_m3 64 rfl) rfl
theorem q726 : (Jvm.Cond.code ({ cls := "java/lang/StringLatin1", name := "charAt", desc := "([BI)C" } : Jvm.MethodName) prog_49_method_2_code (2 : Nat) (Option.some Jvm.ClassFile.FieldType.char)) ∈ lw_all := lw_g (lw_at lw_m3 65 rfl) rfl
theorem q727 : (Jvm.Cond.methodLink "java/lang/StringLatin1" (9 : Nat) ({ cls := "java/lang/String", name := "checkIndex", desc := "(II)V" } : Jvm.MethodName)) ∈ lw_all := lw_g (lw_at lw_m3 66 rfl) rfl
theorem q2926 : (Jvm.Cond.static ({ cls := "java/lang/StringLatin1", name := "indexOf", desc := "([BIII)I" } : Jvm.MethodName)) ∈ lw_all := lw_g (lw_at lw_m12 105 rfl) rfl
theorem q2927 : (Jvm.Cond.code ({ cls := "java/lang/StringLatin1", name := "indexOf", desc := "([BIII)I" } : Jvm.MethodName) prog_49_method_22_code (4 : Nat) (Option.some Jvm.ClassFile.FieldType.int)) ∈ lw_all := lw_g (lw_at lw_m12 106 rfl) rfl
theorem q2928 : (Jvm.Cond.methodLink "java/lang/StringLatin1" (88 : Nat) ({ cls := "java/lang/StringLatin1", name := "canEncode", desc := "(I)Z" } : Jvm.MethodName)) ∈ lw_all := lw_g (lw_at lw_m12 107 rfl) rfl
theorem q2929 : (Jvm.Cond.static ({ cls := "java/lang/StringLatin1", name := "canEncode", desc := "(I)Z" } : Jvm.MethodName)) ∈ lw_all := lw_g (lw_at lw_m12 108 rfl) rfl
theorem q2930 : (Jvm.Cond.code ({ cls := "java/lang/StringLatin1", name := "canEncode", desc := "(I)Z" } : Jvm.MethodName) prog_49_method_4_code (1 : Nat) (Option.some Jvm.ClassFile.FieldType.boolean)) ∈ lw_all := lw_g (lw_at lw_m12 109 rfl) rfl
theorem q2931 : (Jvm.Cond.methodLink "java/lang/StringLatin1" (92 : Nat) ({ cls := "java/lang/Math", name := "max", desc := "(II)I" } : Jvm.MethodName)) ∈ lw_all := lw_g (lw_at lw_m12 110 rfl) rfl
theorem q2934 : (Jvm.Cond.methodLink "java/lang/StringLatin1" (38 : Nat) ({ cls := "java/lang/Math", name := "min", desc := "(II)I" } : Jvm.MethodName)) ∈ lw_all := lw_g (lw_at lw_m12 113 rfl) rfl
theorem q2937 : (Jvm.Cond.methodLink "java/lang/StringLatin1" (95 : Nat) ({ cls := "java/lang/StringLatin1", name := "indexOfChar", desc := "([BIII)I" } : Jvm.MethodName)) ∈ lw_all := lw_g (lw_at lw_m12 116 rfl) rfl
theorem q2938 : (Jvm.Cond.static ({ cls := "java/lang/StringLatin1", name := "indexOfChar", desc := "([BIII)I" } : Jvm.MethodName)) ∈ lw_all := lw_g (lw_at lw_m12 117 rfl) rfl
theorem q2939 : (Jvm.Cond.code ({ cls := "java/lang/StringLatin1", name := "indexOfChar", desc := "([BIII)I" } : Jvm.MethodName) prog_49_method_23_code (6 : Nat) (Option.some Jvm.ClassFile.FieldType.int)) ∈ lw_all := lw_g (lw_at lw_m12 118 rfl) rfl
/-! jdk/internal/util/Preconditions -/
def RJ9 : String := "jdk/internal/util/Preconditions"
abbrev cJ9_checkIndex : ByteArray := prog_53_method_11_code
def yJ9_checkIndex : MethodName := ⟨RJ9, "checkIndex", "(IILjava/util/function/BiFunction;)I"⟩
abbrev cJ9_checkFromToIndex : ByteArray := prog_53_method_12_code
def yJ9_checkFromToIndex : MethodName := ⟨RJ9, "checkFromToIndex", "(IIILjava/util/function/BiFunction;)I"⟩
theorem q201 : (Jvm.Cond.initialized "jdk/internal/util/Preconditions") ∈ lw_all := lw_g (lw_at lw_m1 20 rfl) rfl
theorem q731 : (Jvm.Cond.laysStatic "jdk/internal/util/Preconditions" "SIOOBE_FORMATTER" "Ljava/util/function/BiFunction;") ∈ lw_tbl := lw_at lw_m3 70 rfl
theorem q733 : (Jvm.Cond.static ({ cls := "jdk/internal/util/Preconditions", name := "checkIndex", desc := "(IILjava/util/function/BiFunction;)I" } : Jvm.MethodName)) ∈ lw_all := lw_g (lw_at lw_m3 72 rfl) rfl
theorem q734 : (Jvm.Cond.code ({ cls := "jdk/internal/util/Preconditions", name := "checkIndex", desc := "(IILjava/util/function/BiFunction;)I" } : Jvm.MethodName) prog_53_method_11_code (3 : Nat) (Option.some Jvm.ClassFile.FieldType.int)) ∈ lw_all := lw_g (lw_at lw_m3 73 rfl) rfl
theorem q2956 : (Jvm.Cond.static ({ cls := "jdk/internal/util/Preconditions", name := "checkFromToIndex", desc := "(IIILjava/util/function/BiFunction;)I" } : Jvm.MethodName)) ∈ lw_all := lw_g (lw_at lw_m12 135 rfl) rfl
theorem q2957 : (Jvm.Cond.code ({ cls := "jdk/internal/util/Preconditions", name := "checkFromToIndex", desc := "(IIILjava/util/function/BiFunction;)I" } : Jvm.MethodName) prog_53_method_12_code (4 : Nat) (Option.some Jvm.ClassFile.FieldType.int)) ∈ lw_all := lw_g (lw_at lw_m12 136 rfl) rfl
/-! java/lang/StringUTF16 -/
def RJ10 : String := "java/lang/StringUTF16"
abbrev cJ10_charAt : ByteArray := prog_50_method_83_code
def yJ10_charAt : MethodName := ⟨RJ10, "charAt", "([BI)C"⟩
abbrev cJ10_checkIndex : ByteArray := prog_50_method_91_code
def yJ10_checkIndex : MethodName := ⟨RJ10, "checkIndex", "(I[B)V"⟩
abbrev cJ10_length : ByteArray := prog_50_method_6_code
def yJ10_length : MethodName := ⟨RJ10, "length", "([B)I"⟩
abbrev cJ10_getChar : ByteArray := prog_50_method_5_code
def yJ10_getChar : MethodName := ⟨RJ10, "getChar", "([BI)C"⟩
abbrev cJ10_indexOf : ByteArray := prog_50_method_40_code
def yJ10_indexOf : MethodName := ⟨RJ10, "indexOf", "([BIII)I"⟩
abbrev cJ10_indexOfChar : ByteArray := prog_50_method_47_code
def yJ10_indexOfChar : MethodName := ⟨RJ10, "indexOfChar", "([BIII)I"⟩
abbrev cJ10_checkBoundsBeginEnd : ByteArray := prog_50_method_93_code
def yJ10_checkBoundsBeginEnd : MethodName := ⟨RJ10, "checkBoundsBeginEnd", "(II[B)V"⟩
abbrev cJ10_indexOfCharUnsafe : ByteArray := prog_50_method_48_code
def yJ10_indexOfCharUnsafe : MethodName := ⟨RJ10, "indexOfCharUnsafe", "([BIII)I"⟩
abbrev cJ10_indexOfSupplementary : ByteArray := prog_50_method_49_code
def yJ10_indexOfSupplementary : MethodName := ⟨RJ10, "indexOfSupplementary", "([BIII)I"⟩
theorem q202 : (Jvm.Cond.initialized "java/lang/StringUTF16") ∈ lw_all := lw_g (lw_at lw_m1 21 rfl) rfl
theorem q736 : (Jvm.Cond.static ({ cls := "java/lang/StringUTF16", name := "charAt", desc := "([BI)C" } : Jvm.MethodName)) ∈ lw_all := lw_g (lw_at lw_m3 75 rfl) rfl
theorem q737 : (Jvm.Cond.code ({ cls := "java/lang/StringUTF16", name := "charAt", desc := "([BI)C" } : Jvm.MethodName) prog_50_method_83_code (2 : Nat) (Option.some Jvm.ClassFile.FieldType.char)) ∈ lw_all := lw_g (lw_at lw_m3 76 rfl) rfl
theorem q738 : (Jvm.Cond.methodLink "java/lang/StringUTF16" (67 : Nat) ({ cls := "java/lang/StringUTF16", name := "checkIndex", desc := "(I[B)V" } : Jvm.MethodName)) ∈ lw_all := lw_g (lw_at lw_m3 77 rfl) rfl
theorem q739 : (Jvm.Cond.static ({ cls := "java/lang/StringUTF16", name := "checkIndex", desc := "(I[B)V" } : Jvm.MethodName)) ∈ lw_all := lw_g (lw_at lw_m3 78 rfl) rfl
theorem q740 : (Jvm.Cond.code ({ cls := "java/lang/StringUTF16", name := "checkIndex", desc := "(I[B)V" } : Jvm.MethodName) prog_50_method_91_code (2 : Nat) (Option.none : Option Jvm.ClassFile.FieldType)) ∈ lw_all := lw_g (lw_at lw_m3 79 rfl) rfl
theorem q741 : (Jvm.Cond.methodLink "java/lang/StringUTF16" (48 : Nat) ({ cls := "java/lang/StringUTF16", name := "length", desc := "([B)I" } : Jvm.MethodName)) ∈ lw_all := lw_g (lw_at lw_m3 80 rfl) rfl
theorem q742 : (Jvm.Cond.static ({ cls := "java/lang/StringUTF16", name := "length", desc := "([B)I" } : Jvm.MethodName)) ∈ lw_all := lw_g (lw_at lw_m3 81 rfl) rfl
theorem q743 : (Jvm.Cond.code ({ cls := "java/lang/StringUTF16", name := "length", desc := "([B)I" } : Jvm.MethodName) prog_50_method_6_code (1 : Nat) (Option.some Jvm.ClassFile.FieldType.int)) ∈ lw_all := lw_g (lw_at lw_m3 82 rfl) rfl
theorem q744 : (Jvm.Cond.methodLink "java/lang/StringUTF16" (414 : Nat) ({ cls := "java/lang/String", name := "checkIndex", desc := "(II)V" } : Jvm.MethodName)) ∈ lw_all := lw_g (lw_at lw_m3 83 rfl) rfl
theorem q745 : (Jvm.Cond.methodLink "java/lang/StringUTF16" (71 : Nat) ({ cls := "java/lang/StringUTF16", name := "getChar", desc := "([BI)C" } : Jvm.MethodName)) ∈ lw_all := lw_g (lw_at lw_m3 84 rfl) rfl
theorem q746 : (Jvm.Cond.static ({ cls := "java/lang/StringUTF16", name := "getChar", desc := "([BI)C" } : Jvm.MethodName)) ∈ lw_all := lw_g (lw_at lw_m3 85 rfl) rfl
theorem q747 : (Jvm.Cond.code ({ cls := "java/lang/StringUTF16", name := "getChar", desc := "([BI)C" } : Jvm.MethodName) prog_50_method_5_code (2 : Nat) (Option.some Jvm.ClassFile.FieldType.char)) ∈ lw_all := lw_g (lw_at lw_m3 86 rfl) rfl
theorem q748 : (Jvm.Cond.fieldLink "java/lang/StringUTF16" (44 : Nat) "java/lang/StringUTF16" "$assertionsDisabled" "Z") ∈ lw_all := lw_g (lw_at lw_m3 87 rfl) rfl
theorem q749 : (Jvm.Cond.laysStatic "java/lang/StringUTF16" "$assertionsDisabled" "Z") ∈ lw_tbl := lw_at lw_m3 88 rfl
theorem q750 : (Jvm.Cond.fieldLink "java/lang/StringUTF16" (59 : Nat) "java/lang/StringUTF16" "HI_BYTE_SHIFT" "I") ∈ lw_all := lw_g (lw_at lw_m3 89 rfl) rfl
theorem q751 : (Jvm.Cond.laysStatic "java/lang/StringUTF16" "HI_BYTE_SHIFT" "I") ∈ lw_tbl := lw_at lw_m3 90 rfl
theorem q752 : (Jvm.Cond.fieldLink "java/lang/StringUTF16" (63 : Nat) "java/lang/StringUTF16" "LO_BYTE_SHIFT" "I") ∈ lw_all := lw_g (lw_at lw_m3 91 rfl) rfl
theorem q753 : (Jvm.Cond.laysStatic "java/lang/StringUTF16" "LO_BYTE_SHIFT" "I") ∈ lw_tbl := lw_at lw_m3 92 rfl
theorem q2941 : (Jvm.Cond.static ({ cls := "java/lang/StringUTF16", name := "indexOf", desc := "([BIII)I" } : Jvm.MethodName)) ∈ lw_all := lw_g (lw_at lw_m12 120 rfl) rfl
theorem q2942 : (Jvm.Cond.code ({ cls := "java/lang/StringUTF16", name := "indexOf", desc := "([BIII)I" } : Jvm.MethodName) prog_50_method_40_code (4 : Nat) (Option.some Jvm.ClassFile.FieldType.int)) ∈ lw_all := lw_g (lw_at lw_m12 121 rfl) rfl
theorem q2943 : (Jvm.Cond.methodLink "java/lang/StringUTF16" (224 : Nat) ({ cls := "java/lang/Math", name := "max", desc := "(II)I" } : Jvm.MethodName)) ∈ lw_all := lw_g (lw_at lw_m12 122 rfl) rfl
theorem q2944 : (Jvm.Cond.methodLink "java/lang/StringUTF16" (183 : Nat) ({ cls := "java/lang/Math", name := "min", desc := "(II)I" } : Jvm.MethodName)) ∈ lw_all := lw_g (lw_at lw_m12 123 rfl) rfl
theorem q2945 : (Jvm.Cond.constant "java/lang/StringUTF16" (227 : Nat) (65536 : Int32)) ∈ lw_all := lw_g (lw_at lw_m12 124 rfl) rfl
theorem q2946 : (Jvm.Cond.methodLink "java/lang/StringUTF16" (228 : Nat) ({ cls := "java/lang/StringUTF16", name := "indexOfChar", desc := "([BIII)I" } : Jvm.MethodName)) ∈ lw_all := lw_g (lw_at lw_m12 125 rfl) rfl
theorem q2947 : (Jvm.Cond.static ({ cls := "java/lang/StringUTF16", name := "indexOfChar", desc := "([BIII)I" } : Jvm.MethodName)) ∈ lw_all := lw_g (lw_at lw_m12 126 rfl) rfl
theorem q2948 : (Jvm.Cond.code ({ cls := "java/lang/StringUTF16", name := "indexOfChar", desc := "([BIII)I" } : Jvm.MethodName) prog_50_method_47_code (4 : Nat) (Option.some Jvm.ClassFile.FieldType.int)) ∈ lw_all := lw_g (lw_at lw_m12 127 rfl) rfl
theorem q2949 : (Jvm.Cond.methodLink "java/lang/StringUTF16" (96 : Nat) ({ cls := "java/lang/StringUTF16", name := "checkBoundsBeginEnd", desc := "(II[B)V" } : Jvm.MethodName)) ∈ lw_all := lw_g (lw_at lw_m12 128 rfl) rfl
theorem q2950 : (Jvm.Cond.static ({ cls := "java/lang/StringUTF16", name := "checkBoundsBeginEnd", desc := "(II[B)V" } : Jvm.MethodName)) ∈ lw_all := lw_g (lw_at lw_m12 129 rfl) rfl
theorem q2951 : (Jvm.Cond.code ({ cls := "java/lang/StringUTF16", name := "checkBoundsBeginEnd", desc := "(II[B)V" } : Jvm.MethodName) prog_50_method_93_code (3 : Nat) (Option.none : Option Jvm.ClassFile.FieldType)) ∈ lw_all := lw_g (lw_at lw_m12 130 rfl) rfl
theorem q2952 : (Jvm.Cond.methodLink "java/lang/StringUTF16" (241 : Nat) ({ cls := "java/lang/String", name := "checkBoundsBeginEnd", desc := "(III)V" } : Jvm.MethodName)) ∈ lw_all := lw_g (lw_at lw_m12 131 rfl) rfl
theorem q2958 : (Jvm.Cond.methodLink "java/lang/StringUTF16" (244 : Nat) ({ cls := "java/lang/StringUTF16", name := "indexOfCharUnsafe", desc := "([BIII)I" } : Jvm.MethodName)) ∈ lw_all := lw_g (lw_at lw_m12 137 rfl) rfl
theorem q2959 : (Jvm.Cond.static ({ cls := "java/lang/StringUTF16", name := "indexOfCharUnsafe", desc := "([BIII)I" } : Jvm.MethodName)) ∈ lw_all := lw_g (lw_at lw_m12 138 rfl) rfl
theorem q2960 : (Jvm.Cond.code ({ cls := "java/lang/StringUTF16", name := "indexOfCharUnsafe", desc := "([BIII)I" } : Jvm.MethodName) prog_50_method_48_code (5 : Nat) (Option.some Jvm.ClassFile.FieldType.int)) ∈ lw_all := lw_g (lw_at lw_m12 139 rfl) rfl
theorem q2961 : (Jvm.Cond.methodLink "java/lang/StringUTF16" (232 : Nat) ({ cls := "java/lang/StringUTF16", name := "indexOfSupplementary", desc := "([BIII)I" } : Jvm.MethodName)) ∈ lw_all := lw_g (lw_at lw_m12 140 rfl) rfl
theorem q2962 : (Jvm.Cond.static ({ cls := "java/lang/StringUTF16", name := "indexOfSupplementary", desc := "([BIII)I" } : Jvm.MethodName)) ∈ lw_all := lw_g (lw_at lw_m12 141 rfl) rfl
theorem q2963 : (Jvm.Cond.code ({ cls := "java/lang/StringUTF16", name := "indexOfSupplementary", desc := "([BIII)I" } : Jvm.MethodName) prog_50_method_49_code (7 : Nat) (Option.some Jvm.ClassFile.FieldType.int)) ∈ lw_all := lw_g (lw_at lw_m12 142 rfl) rfl
theorem q2964 : (Jvm.Cond.methodLink "java/lang/StringUTF16" (164 : Nat) ({ cls := "java/lang/Character", name := "isValidCodePoint", desc := "(I)Z" } : Jvm.MethodName)) ∈ lw_all := lw_g (lw_at lw_m12 143 rfl) rfl
theorem q2967 : (Jvm.Cond.methodLink "java/lang/StringUTF16" (157 : Nat) ({ cls := "java/lang/Character", name := "highSurrogate", desc := "(I)C" } : Jvm.MethodName)) ∈ lw_all := lw_g (lw_at lw_m12 146 rfl) rfl
theorem q2971 : (Jvm.Cond.methodLink "java/lang/StringUTF16" (161 : Nat) ({ cls := "java/lang/Character", name := "lowSurrogate", desc := "(I)C" } : Jvm.MethodName)) ∈ lw_all := lw_g (lw_at lw_m12 150 rfl) rfl
/-! java/lang/IllegalStateException -/
def RJ11 : String := "java/lang/IllegalStateException"
def TJ11 : u_T := fun k => match k with
  | 0 => ("java/lang/Throwable", "cause", "Ljava/lang/Throwable;", false)
  | 1 => ("java/lang/Throwable", "stackTrace", "[Ljava/lang/StackTraceElement;", false)
  | 2 => ("java/lang/Throwable", "suppressedExceptions", "Ljava/util/List;", false)
  | 3 => ("java/lang/Throwable", "detailMessage", "Ljava/lang/String;", false)
  | 4 => ("java/lang/Throwable", "backtrace", "Ljava/lang/Object;", false)
  | _ => ("java/lang/Throwable", "depth", "I", false)
def tyJ11 : Nat → FieldType := fun k => match k with
  | 0 => .object "java/lang/Throwable"
  | 1 => .array (.object "java/lang/StackTraceElement")
  | 2 => .object "java/util/List"
  | 3 => .object "java/lang/String"
  | 4 => .object "java/lang/Object"
  | _ => .int
abbrev wsJ110 : List Cond := u_ws RJ11 TJ11 6
theorem nmJ11 : ∀ a, a < 6 → ∀ b, b < 6 → a ≠ b → (TJ11 a).2.1 ≠ (TJ11 b).2.1 := by decide +kernel
theorem tyJ11_ok : ∀ k, k < 6 → parseFieldDescriptor (TJ11 k).2.2.1 = some (tyJ11 k) := by decide +kernel
abbrev cJ11_init : ByteArray := prog_44_method_1_code
def yJ11_init : MethodName := ⟨RJ11, "<init>", "()V"⟩
theorem q229 : (Jvm.Cond.initialized "java/lang/IllegalStateException") ∈ lw_all := lw_g (lw_at lw_m1 48 rfl) rfl
theorem q351 : (Jvm.Cond.selects "java/lang/IllegalStateException" ({ cls := "java/lang/Throwable", name := "fillInStackTrace", desc := "()Ljava/lang/Throwable;" } : Jvm.MethodName) ({ cls := "java/lang/Throwable", name := "fillInStackTrace", desc := "()Ljava/lang/Throwable;" } : Jvm.MethodName)) ∈ lw_all := lw_g (lw_at lw_m1 170 rfl) rfl
theorem q1799 : (Jvm.Cond.instantiable "java/lang/IllegalStateException" (6 : Nat)) ∈ lw_all := lw_g (lw_at lw_m7 178 rfl) rfl
theorem q1800 : (Jvm.Cond.castable "java/lang/IllegalStateException" "java/lang/IllegalStateException") ∈ lw_tbl := lw_at lw_m7 179 rfl
theorem q1801 : (Jvm.Cond.selects "java/lang/IllegalStateException" ({ cls := "java/lang/Throwable", name := "fillInStackTrace", desc := "(I)Ljava/lang/Throwable;" } : Jvm.MethodName) ({ cls := "java/lang/Throwable", name := "fillInStackTrace", desc := "(I)Ljava/lang/Throwable;" } : Jvm.MethodName)) ∈ lw_all := lw_g (lw_at lw_m7 180 rfl) rfl
theorem q1802 : (Jvm.Cond.lays "java/lang/IllegalStateException" "java/lang/Throwable" "cause" "Ljava/lang/Throwable;") ∈ lw_all := lw_g (lw_at lw_m7 181 rfl) rfl
theorem q1803 : (Jvm.Cond.lays "java/lang/IllegalStateException" "java/lang/Throwable" "stackTrace" "[Ljava/lang/StackTraceElement;") ∈ lw_all := lw_g (lw_at lw_m7 182 rfl) rfl
theorem q1804 : (Jvm.Cond.lays "java/lang/IllegalStateException" "java/lang/Throwable" "suppressedExceptions" "Ljava/util/List;") ∈ lw_all := lw_g (lw_at lw_m7 183 rfl) rfl
theorem q1805 : (Jvm.Cond.lays "java/lang/IllegalStateException" "java/lang/Throwable" "detailMessage" "Ljava/lang/String;") ∈ lw_all := lw_g (lw_at lw_m7 184 rfl) rfl
theorem q1806 : (Jvm.Cond.lays "java/lang/IllegalStateException" "java/lang/Throwable" "backtrace" "Ljava/lang/Object;") ∈ lw_all := lw_g (lw_at lw_m7 185 rfl) rfl
theorem q1808 : (Jvm.Cond.instanceMethod ({ cls := "java/lang/IllegalStateException", name := "<init>", desc := "()V" } : Jvm.MethodName)) ∈ lw_all := lw_g (lw_at lw_m7 187 rfl) rfl
theorem q1809 : (Jvm.Cond.code ({ cls := "java/lang/IllegalStateException", name := "<init>", desc := "()V" } : Jvm.MethodName) prog_44_method_1_code (1 : Nat) (Option.none : Option Jvm.ClassFile.FieldType)) ∈ lw_all := lw_g (lw_at lw_m7 188 rfl) rfl
theorem q1810 : (Jvm.Cond.methodLink "java/lang/IllegalStateException" (1 : Nat) ({ cls := "java/lang/RuntimeException", name := "<init>", desc := "()V" } : Jvm.MethodName)) ∈ lw_all := lw_g (lw_at lw_m7 189 rfl) rfl
theorem q1811 : (Jvm.Cond.lays "java/lang/IllegalStateException" "java/lang/Throwable" "depth" "I") ∈ lw_all := lw_g (lw_at lw_m7 190 rfl) rfl
theorem q1812 : (Jvm.Cond.superclass "java/lang/IllegalStateException" "java/lang/RuntimeException") ∈ lw_all := lw_g (lw_at lw_m7 191 rfl) rfl
theorem in_J11 : ∀ w ∈ wsJ110, w ∈ lw_all := lw_in wsJ110 [1802, 1803, 1804, 1805, 1806, 1811] (by decide +kernel) (by decide +kernel)
/-! java/lang/Math -/
def RJ12 : String := "java/lang/Math"
abbrev cJ12_min : ByteArray := prog_46_method_70_code
def yJ12_min : MethodName := ⟨RJ12, "min", "(JJ)J"⟩
abbrev cJ12_max : ByteArray := prog_46_method_65_code
def yJ12_max : MethodName := ⟨RJ12, "max", "(II)I"⟩
abbrev cJ12_min_2 : ByteArray := prog_46_method_69_code
def yJ12_min_2 : MethodName := ⟨RJ12, "min", "(II)I"⟩
theorem q231 : (Jvm.Cond.initialized "java/lang/Math") ∈ lw_all := lw_g (lw_at lw_m1 50 rfl) rfl
theorem q2910 : (Jvm.Cond.static ({ cls := "java/lang/Math", name := "min", desc := "(JJ)J" } : Jvm.MethodName)) ∈ lw_all := lw_g (lw_at lw_m12 89 rfl) rfl
theorem q2911 : (Jvm.Cond.code ({ cls := "java/lang/Math", name := "min", desc := "(JJ)J" } : Jvm.MethodName) prog_46_method_70_code (4 : Nat) (Option.some Jvm.ClassFile.FieldType.long)) ∈ lw_all := lw_g (lw_at lw_m12 90 rfl) rfl
theorem q2932 : (Jvm.Cond.static ({ cls := "java/lang/Math", name := "max", desc := "(II)I" } : Jvm.MethodName)) ∈ lw_all := lw_g (lw_at lw_m12 111 rfl) rfl
theorem q2933 : (Jvm.Cond.code ({ cls := "java/lang/Math", name := "max", desc := "(II)I" } : Jvm.MethodName) prog_46_method_65_code (2 : Nat) (Option.some Jvm.ClassFile.FieldType.int)) ∈ lw_all := lw_g (lw_at lw_m12 112 rfl) rfl
theorem q2935 : (Jvm.Cond.static ({ cls := "java/lang/Math", name := "min", desc := "(II)I" } : Jvm.MethodName)) ∈ lw_all := lw_g (lw_at lw_m12 114 rfl) rfl
theorem q2936 : (Jvm.Cond.code ({ cls := "java/lang/Math", name := "min", desc := "(II)I" } : Jvm.MethodName) prog_46_method_69_code (2 : Nat) (Option.some Jvm.ClassFile.FieldType.int)) ∈ lw_all := lw_g (lw_at lw_m12 115 rfl) rfl
/-! java/lang/Character -/
def RJ13 : String := "java/lang/Character"
abbrev cJ13_isValidCodePoint : ByteArray := prog_41_method_11_code
def yJ13_isValidCodePoint : MethodName := ⟨RJ13, "isValidCodePoint", "(I)Z"⟩
abbrev cJ13_highSurrogate : ByteArray := prog_41_method_28_code
def yJ13_highSurrogate : MethodName := ⟨RJ13, "highSurrogate", "(I)C"⟩
abbrev cJ13_lowSurrogate : ByteArray := prog_41_method_29_code
def yJ13_lowSurrogate : MethodName := ⟨RJ13, "lowSurrogate", "(I)C"⟩
theorem q232 : (Jvm.Cond.initialized "java/lang/Character") ∈ lw_all := lw_g (lw_at lw_m1 51 rfl) rfl
theorem q2965 : (Jvm.Cond.static ({ cls := "java/lang/Character", name := "isValidCodePoint", desc := "(I)Z" } : Jvm.MethodName)) ∈ lw_all := lw_g (lw_at lw_m12 144 rfl) rfl
theorem q2966 : (Jvm.Cond.code ({ cls := "java/lang/Character", name := "isValidCodePoint", desc := "(I)Z" } : Jvm.MethodName) prog_41_method_11_code (2 : Nat) (Option.some Jvm.ClassFile.FieldType.boolean)) ∈ lw_all := lw_g (lw_at lw_m12 145 rfl) rfl
theorem q2968 : (Jvm.Cond.static ({ cls := "java/lang/Character", name := "highSurrogate", desc := "(I)C" } : Jvm.MethodName)) ∈ lw_all := lw_g (lw_at lw_m12 147 rfl) rfl
theorem q2969 : (Jvm.Cond.code ({ cls := "java/lang/Character", name := "highSurrogate", desc := "(I)C" } : Jvm.MethodName) prog_41_method_28_code (1 : Nat) (Option.some Jvm.ClassFile.FieldType.char)) ∈ lw_all := lw_g (lw_at lw_m12 148 rfl) rfl
theorem q2970 : (Jvm.Cond.constant "java/lang/Character" (110 : Nat) (55232 : Int32)) ∈ lw_all := lw_g (lw_at lw_m12 149 rfl) rfl
theorem q2972 : (Jvm.Cond.static ({ cls := "java/lang/Character", name := "lowSurrogate", desc := "(I)C" } : Jvm.MethodName)) ∈ lw_all := lw_g (lw_at lw_m12 151 rfl) rfl
theorem q2973 : (Jvm.Cond.code ({ cls := "java/lang/Character", name := "lowSurrogate", desc := "(I)C" } : Jvm.MethodName) prog_41_method_29_code (1 : Nat) (Option.some Jvm.ClassFile.FieldType.char)) ∈ lw_all := lw_g (lw_at lw_m12 152 rfl) rfl
theorem q2974 : (Jvm.Cond.constant "java/lang/Character" (76 : Nat) (56320 : Int32)) ∈ lw_all := lw_g (lw_at lw_m12 153 rfl) rfl
/-! java/lang/Object -/
def RJ14 : String := "java/lang/Object"
abbrev cJ14_init : ByteArray := object_method_1_code
def yJ14_init : MethodName := ⟨RJ14, "<init>", "()V"⟩
theorem q239 : (Jvm.Cond.instanceMethod ({ cls := "java/lang/Object", name := "<init>", desc := "()V" } : Jvm.MethodName)) ∈ lw_all := lw_g (lw_at lw_m1 58 rfl) rfl
theorem q240 : (Jvm.Cond.code ({ cls := "java/lang/Object", name := "<init>", desc := "()V" } : Jvm.MethodName) object_method_1_code (1 : Nat) (Option.none : Option Jvm.ClassFile.FieldType)) ∈ lw_all := lw_g (lw_at lw_m1 59 rfl) rfl
/-! the law's own entry -/
abbrev cL_law : ByteArray := code
/-! AlgolMillLaw -/
def RX0 : String := "AlgolMillLaw"
abbrev cX0_feed : ByteArray := method_3_code
def yX0_feed : MethodName := ⟨RX0, "feed", "(LAlgolMill;IIIII[J)I"⟩
abbrev cX0_end : ByteArray := method_4_code
def yX0_end : MethodName := ⟨RX0, "end", "(LAlgolMill;I[J)I"⟩
abbrev cX0_build : ByteArray := method_5_code
def yX0_build : MethodName := ⟨RX0, "build", "(LAlgolMill;[J)I"⟩
abbrev cX0_run : ByteArray := method_6_code
def yX0_run : MethodName := ⟨RX0, "run", "(LAlgolMill;I[J)I"⟩
abbrev cX0_out : ByteArray := method_7_code
def yX0_out : MethodName := ⟨RX0, "out", "(LAlgolMill;I[J)I"⟩
theorem q181 : (Jvm.Cond.initialized "AlgolMillLaw") ∈ lw_all := lw_g (lw_at lw_m1 0 rfl) rfl
theorem q233 : (Jvm.Cond.classLink "AlgolMillLaw" (8 : Nat) "AlgolMill") ∈ lw_all := lw_g (lw_at lw_m1 52 rfl) rfl
theorem q235 : (Jvm.Cond.methodLink "AlgolMillLaw" (34 : Nat) ({ cls := "AlgolMill", name := "<init>", desc := "()V" } : Jvm.MethodName)) ∈ lw_all := lw_g (lw_at lw_m1 54 rfl) rfl
theorem q573 : (Jvm.Cond.methodLink "AlgolMillLaw" (61 : Nat) ({ cls := "AlgolMill", name := "count", desc := "(I)I" } : Jvm.MethodName)) ∈ lw_all := lw_g (lw_at lw_m2 152 rfl) rfl
theorem q577 : (Jvm.Cond.methodLink "AlgolMillLaw" (38 : Nat) ({ cls := "AlgolMillLaw", name := "feed", desc := "(LAlgolMill;IIIII[J)I" } : Jvm.MethodName)) ∈ lw_all := lw_g (lw_at lw_m2 156 rfl) rfl
theorem q578 : (Jvm.Cond.static ({ cls := "AlgolMillLaw", name := "feed", desc := "(LAlgolMill;IIIII[J)I" } : Jvm.MethodName)) ∈ lw_all := lw_g (lw_at lw_m2 157 rfl) rfl
theorem q579 : (Jvm.Cond.codeWith ({ cls := "AlgolMillLaw", name := "feed", desc := "(LAlgolMill;IIIII[J)I" } : Jvm.MethodName) method_3_code (8 : Nat) (Option.some Jvm.ClassFile.FieldType.int) [((0 : Nat), (16 : Nat), (19 : Nat), (13 : Nat))]) ∈ lw_all := lw_g (lw_at lw_m2 158 rfl) rfl
theorem q580 : (Jvm.Cond.classLink "AlgolMillLaw" (13 : Nat) "java/lang/IndexOutOfBoundsException") ∈ lw_all := lw_g (lw_at lw_m2 159 rfl) rfl
theorem q612 : (Jvm.Cond.methodLink "AlgolMillLaw" (7 : Nat) ({ cls := "AlgolMill", name := "feed", desc := "(IIIII)I" } : Jvm.MethodName)) ∈ lw_all := lw_g (lw_at lw_m2 191 rfl) rfl
theorem q635 : (Jvm.Cond.methodLink "AlgolMillLaw" (47 : Nat) ({ cls := "AlgolMillLaw", name := "end", desc := "(LAlgolMill;I[J)I" } : Jvm.MethodName)) ∈ lw_all := lw_g (lw_at lw_m2 214 rfl) rfl
theorem q636 : (Jvm.Cond.static ({ cls := "AlgolMillLaw", name := "end", desc := "(LAlgolMill;I[J)I" } : Jvm.MethodName)) ∈ lw_all := lw_g (lw_at lw_m2 215 rfl) rfl
theorem q637 : (Jvm.Cond.codeWith ({ cls := "AlgolMillLaw", name := "end", desc := "(LAlgolMill;I[J)I" } : Jvm.MethodName) method_4_code (4 : Nat) (Option.some Jvm.ClassFile.FieldType.int) [((0 : Nat), (9 : Nat), (12 : Nat), (19 : Nat))]) ∈ lw_all := lw_g (lw_at lw_m2 216 rfl) rfl
theorem q638 : (Jvm.Cond.classLink "AlgolMillLaw" (19 : Nat) "java/lang/IllegalArgumentException") ∈ lw_all := lw_g (lw_at lw_m2 217 rfl) rfl
theorem q639 : (Jvm.Cond.methodLink "AlgolMillLaw" (15 : Nat) ({ cls := "AlgolMill", name := "end", desc := "(I)I" } : Jvm.MethodName)) ∈ lw_all := lw_g (lw_at lw_m2 218 rfl) rfl
theorem q664 : (Jvm.Cond.methodLink "AlgolMillLaw" (51 : Nat) ({ cls := "AlgolMillLaw", name := "build", desc := "(LAlgolMill;[J)I" } : Jvm.MethodName)) ∈ lw_all := lw_g (lw_at lw_m3 3 rfl) rfl
theorem q665 : (Jvm.Cond.static ({ cls := "AlgolMillLaw", name := "build", desc := "(LAlgolMill;[J)I" } : Jvm.MethodName)) ∈ lw_all := lw_g (lw_at lw_m3 4 rfl) rfl
theorem q666 : (Jvm.Cond.codeWith ({ cls := "AlgolMillLaw", name := "build", desc := "(LAlgolMill;[J)I" } : Jvm.MethodName) method_5_code (3 : Nat) (Option.some Jvm.ClassFile.FieldType.int) [((0 : Nat), (8 : Nat), (11 : Nat), (25 : Nat))]) ∈ lw_all := lw_g (lw_at lw_m3 5 rfl) rfl
theorem q667 : (Jvm.Cond.classLink "AlgolMillLaw" (25 : Nat) "java/lang/IllegalStateException") ∈ lw_all := lw_g (lw_at lw_m3 6 rfl) rfl
theorem q668 : (Jvm.Cond.methodLink "AlgolMillLaw" (21 : Nat) ({ cls := "AlgolMill", name := "build", desc := "()I" } : Jvm.MethodName)) ∈ lw_all := lw_g (lw_at lw_m3 7 rfl) rfl
theorem q2278 : (Jvm.Cond.methodLink "AlgolMillLaw" (55 : Nat) ({ cls := "AlgolMillLaw", name := "run", desc := "(LAlgolMill;I[J)I" } : Jvm.MethodName)) ∈ lw_all := lw_g (lw_at lw_m9 177 rfl) rfl
theorem q2279 : (Jvm.Cond.static ({ cls := "AlgolMillLaw", name := "run", desc := "(LAlgolMill;I[J)I" } : Jvm.MethodName)) ∈ lw_all := lw_g (lw_at lw_m9 178 rfl) rfl
theorem q2280 : (Jvm.Cond.codeWith ({ cls := "AlgolMillLaw", name := "run", desc := "(LAlgolMill;I[J)I" } : Jvm.MethodName) method_6_code (4 : Nat) (Option.some Jvm.ClassFile.FieldType.int) [((0 : Nat), (9 : Nat), (12 : Nat), (19 : Nat)), ((0 : Nat), (9 : Nat), (15 : Nat), (25 : Nat))]) ∈ lw_all := lw_g (lw_at lw_m9 179 rfl) rfl
theorem q2281 : (Jvm.Cond.methodLink "AlgolMillLaw" (27 : Nat) ({ cls := "AlgolMill", name := "run", desc := "(I)I" } : Jvm.MethodName)) ∈ lw_all := lw_g (lw_at lw_m9 180 rfl) rfl
theorem q2364 : (Jvm.Cond.methodLink "AlgolMillLaw" (58 : Nat) ({ cls := "AlgolMillLaw", name := "out", desc := "(LAlgolMill;I[J)I" } : Jvm.MethodName)) ∈ lw_all := lw_g (lw_at lw_m10 23 rfl) rfl
theorem q2365 : (Jvm.Cond.static ({ cls := "AlgolMillLaw", name := "out", desc := "(LAlgolMill;I[J)I" } : Jvm.MethodName)) ∈ lw_all := lw_g (lw_at lw_m10 24 rfl) rfl
theorem q2366 : (Jvm.Cond.codeWith ({ cls := "AlgolMillLaw", name := "out", desc := "(LAlgolMill;I[J)I" } : Jvm.MethodName) method_7_code (4 : Nat) (Option.some Jvm.ClassFile.FieldType.int) [((0 : Nat), (8 : Nat), (11 : Nat), (19 : Nat))]) ∈ lw_all := lw_g (lw_at lw_m10 25 rfl) rfl
theorem q2367 : (Jvm.Cond.methodLink "AlgolMillLaw" (30 : Nat) ({ cls := "AlgolMill", name := "out", desc := "(I)J" } : Jvm.MethodName)) ∈ lw_all := lw_g (lw_at lw_m10 26 rfl) rfl
theorem q2372 : (Jvm.Cond.classLink "AlgolMillLaw" (35 : Nat) "AlgolMillModel") ∈ lw_all := lw_g (lw_at lw_m10 31 rfl) rfl
theorem q2374 : (Jvm.Cond.methodLink "AlgolMillLaw" (37 : Nat) ({ cls := "AlgolMillModel", name := "<init>", desc := "()V" } : Jvm.MethodName)) ∈ lw_all := lw_g (lw_at lw_m10 33 rfl) rfl
theorem q2854 : (Jvm.Cond.methodLink "AlgolMillLaw" (44 : Nat) ({ cls := "AlgolMillModel", name := "thrown", desc := "()I" } : Jvm.MethodName)) ∈ lw_all := lw_g (lw_at lw_m12 33 rfl) rfl
theorem q2858 : (Jvm.Cond.methodLink "AlgolMillLaw" (43 : Nat) ({ cls := "AlgolMillModel", name := "feed", desc := "(IIIII)I" } : Jvm.MethodName)) ∈ lw_all := lw_g (lw_at lw_m12 37 rfl) rfl
theorem q2870 : (Jvm.Cond.methodLink "AlgolMillLaw" (50 : Nat) ({ cls := "AlgolMillModel", name := "end", desc := "(I)I" } : Jvm.MethodName)) ∈ lw_all := lw_g (lw_at lw_m12 49 rfl) rfl
theorem q2874 : (Jvm.Cond.methodLink "AlgolMillLaw" (54 : Nat) ({ cls := "AlgolMillModel", name := "build", desc := "()I" } : Jvm.MethodName)) ∈ lw_all := lw_g (lw_at lw_m12 53 rfl) rfl
theorem q3277 : (Jvm.Cond.methodLink "AlgolMillLaw" (57 : Nat) ({ cls := "AlgolMillModel", name := "run", desc := "(I)I" } : Jvm.MethodName)) ∈ lw_all := lw_g (lw_at lw_m13 216 rfl) rfl
theorem q3389 : (Jvm.Cond.methodLink "AlgolMillLaw" (60 : Nat) ({ cls := "AlgolMillModel", name := "out", desc := "(I)J" } : Jvm.MethodName)) ∈ lw_all := lw_g (lw_at lw_m14 88 rfl) rfl
theorem q3394 : (Jvm.Cond.methodLink "AlgolMillLaw" (64 : Nat) ({ cls := "AlgolMillModel", name := "count", desc := "(I)I" } : Jvm.MethodName)) ∈ lw_all := lw_g (lw_at lw_m14 93 rfl) rfl
/-! AlgolMill -/
def RX1 : String := "AlgolMill"
def TX1 : u_T := fun k => match k with
  | 0 => ("AlgolMill", "parser", "LAlgolMill$Parser;", true)
  | 1 => ("AlgolMill", "coder", "LAlgolMill$Coder;", true)
  | 2 => ("AlgolMill", "machine", "LAlgolMill$Machine;", true)
  | 3 => ("AlgolMill", "out", "LAlgolMill$Longs;", true)
  | 4 => ("AlgolMill", "shown", "I", false)
  | 5 => ("AlgolMill", "built", "Z", false)
  | 6 => ("AlgolMill", "owns", "I", false)
  | 7 => ("AlgolMill", "faultNumber", "I", false)
  | _ => ("AlgolMill", "faultPlace", "I", false)
def tyX1 : Nat → FieldType := fun k => match k with
  | 0 => .object "AlgolMill$Parser"
  | 1 => .object "AlgolMill$Coder"
  | 2 => .object "AlgolMill$Machine"
  | 3 => .object "AlgolMill$Longs"
  | 4 => .int
  | 5 => .boolean
  | 6 => .int
  | 7 => .int
  | _ => .int
abbrev wsX10 : List Cond := u_ws RX1 TX1 9
theorem nmX1 : ∀ a, a < 9 → ∀ b, b < 9 → a ≠ b → (TX1 a).2.1 ≠ (TX1 b).2.1 := by decide +kernel
theorem tyX1_ok : ∀ k, k < 9 → parseFieldDescriptor (TX1 k).2.2.1 = some (tyX1 k) := by decide +kernel
abbrev cX1_init : ByteArray := prog_1_method_2_code
def yX1_init : MethodName := ⟨RX1, "<init>", "()V"⟩
abbrev cX1_count : ByteArray := prog_1_method_11_code
def yX1_count : MethodName := ⟨RX1, "count", "(I)I"⟩
abbrev cX1_feed : ByteArray := prog_1_method_5_code
def yX1_feed : MethodName := ⟨RX1, "feed", "(IIIII)I"⟩
abbrev cX1_letters : ByteArray := prog_1_method_6_code
def yX1_letters : MethodName := ⟨RX1, "letters", "(I)V"⟩
abbrev cX1_end : ByteArray := prog_1_method_7_code
def yX1_end : MethodName := ⟨RX1, "end", "(I)I"⟩
abbrev cX1_in : ByteArray := prog_1_method_1_code
def yX1_in : MethodName := ⟨RX1, "in", "(JJJ)Z"⟩
abbrev cX1_good : ByteArray := prog_1_method_3_code
def yX1_good : MethodName := ⟨RX1, "good", "(Z)V"⟩
abbrev cX1_build : ByteArray := prog_1_method_8_code
def yX1_build : MethodName := ⟨RX1, "build", "()I"⟩
abbrev cX1_run : ByteArray := prog_1_method_9_code
def yX1_run : MethodName := ⟨RX1, "run", "(I)I"⟩
abbrev cX1_print : ByteArray := prog_1_method_4_code
def yX1_print : MethodName := ⟨RX1, "print", "(J)V"⟩
abbrev cX1_out : ByteArray := prog_1_method_10_code
def yX1_out : MethodName := ⟨RX1, "out", "(I)J"⟩
theorem q182 : (Jvm.Cond.initialized "AlgolMill") ∈ lw_all := lw_g (lw_at lw_m1 1 rfl) rfl
theorem q234 : (Jvm.Cond.instantiable "AlgolMill" (9 : Nat)) ∈ lw_all := lw_g (lw_at lw_m1 53 rfl) rfl
theorem q236 : (Jvm.Cond.instanceMethod ({ cls := "AlgolMill", name := "<init>", desc := "()V" } : Jvm.MethodName)) ∈ lw_all := lw_g (lw_at lw_m1 55 rfl) rfl
theorem q237 : (Jvm.Cond.code ({ cls := "AlgolMill", name := "<init>", desc := "()V" } : Jvm.MethodName) prog_1_method_2_code (1 : Nat) (Option.none : Option Jvm.ClassFile.FieldType)) ∈ lw_all := lw_g (lw_at lw_m1 56 rfl) rfl
theorem q238 : (Jvm.Cond.methodLink "AlgolMill" (1 : Nat) ({ cls := "java/lang/Object", name := "<init>", desc := "()V" } : Jvm.MethodName)) ∈ lw_all := lw_g (lw_at lw_m1 57 rfl) rfl
theorem q241 : (Jvm.Cond.classLink "AlgolMill" (7 : Nat) "AlgolMill$Parser") ∈ lw_all := lw_g (lw_at lw_m1 60 rfl) rfl
theorem q243 : (Jvm.Cond.methodLinkNest "AlgolMill" (9 : Nat) ({ cls := "AlgolMill$Parser", name := "<init>", desc := "()V" } : Jvm.MethodName) "AlgolMill") ∈ lw_tbl := lw_at lw_m1 62 rfl
theorem q280 : (Jvm.Cond.fieldLink "AlgolMill" (51 : Nat) "AlgolMill$Longs" "size" "I") ∈ lw_all := lw_g (lw_at lw_m1 99 rfl) rfl
theorem q289 : (Jvm.Cond.fieldLink "AlgolMill" (71 : Nat) "AlgolMill$Scanner" "text" "[B") ∈ lw_all := lw_g (lw_at lw_m1 108 rfl) rfl
theorem q291 : (Jvm.Cond.fieldLink "AlgolMill" (62 : Nat) "AlgolMill$Scanner" "size" "I") ∈ lw_all := lw_g (lw_at lw_m1 110 rfl) rfl
theorem q386 : (Jvm.Cond.fieldLink "AlgolMill" (58 : Nat) "AlgolMill$Parser" "scanner" "LAlgolMill$Scanner;") ∈ lw_all := lw_g (lw_at lw_m1 205 rfl) rfl
theorem q395 : (Jvm.Cond.fieldLinkNest "AlgolMill" (107 : Nat) "AlgolMill$Parser" "owns" "I" "AlgolMill") ∈ lw_tbl := lw_at lw_m1 214 rfl
theorem q422 : (Jvm.Cond.classLink "AlgolMill" (16 : Nat) "AlgolMill$Coder") ∈ lw_all := lw_g (lw_at lw_m2 1 rfl) rfl
theorem q424 : (Jvm.Cond.methodLinkNest "AlgolMill" (18 : Nat) ({ cls := "AlgolMill$Coder", name := "<init>", desc := "()V" } : Jvm.MethodName) "AlgolMill") ∈ lw_tbl := lw_at lw_m2 3 rfl
theorem q495 : (Jvm.Cond.classLink "AlgolMill" (23 : Nat) "AlgolMill$Machine") ∈ lw_all := lw_g (lw_at lw_m2 74 rfl) rfl
theorem q497 : (Jvm.Cond.methodLinkNest "AlgolMill" (25 : Nat) ({ cls := "AlgolMill$Machine", name := "<init>", desc := "(LAlgolMill;)V" } : Jvm.MethodName) "AlgolMill") ∈ lw_tbl := lw_at lw_m2 76 rfl
theorem q506 : (Jvm.Cond.fieldLinkNest "AlgolMill" (143 : Nat) "AlgolMill$Machine" "steps" "I" "AlgolMill") ∈ lw_tbl := lw_at lw_m2 85 rfl
theorem q510 : (Jvm.Cond.fieldLinkNest "AlgolMill" (146 : Nat) "AlgolMill$Machine" "deepest" "I" "AlgolMill") ∈ lw_tbl := lw_at lw_m2 89 rfl
theorem q512 : (Jvm.Cond.fieldLinkNest "AlgolMill" (149 : Nat) "AlgolMill$Machine" "most" "I" "AlgolMill") ∈ lw_tbl := lw_at lw_m2 91 rfl
theorem q514 : (Jvm.Cond.fieldLinkNest "AlgolMill" (152 : Nat) "AlgolMill$Machine" "wrong" "I" "AlgolMill") ∈ lw_tbl := lw_at lw_m2 93 rfl
theorem q543 : (Jvm.Cond.classLink "AlgolMill" (32 : Nat) "AlgolMill$Longs") ∈ lw_all := lw_g (lw_at lw_m2 122 rfl) rfl
theorem q544 : (Jvm.Cond.methodLink "AlgolMill" (34 : Nat) ({ cls := "AlgolMill$Longs", name := "<init>", desc := "(I)V" } : Jvm.MethodName)) ∈ lw_all := lw_g (lw_at lw_m2 123 rfl) rfl
theorem q545 : (Jvm.Cond.fieldLink "AlgolMill" (10 : Nat) "AlgolMill" "parser" "LAlgolMill$Parser;") ∈ lw_all := lw_g (lw_at lw_m2 124 rfl) rfl
theorem q546 : (Jvm.Cond.fieldLink "AlgolMill" (19 : Nat) "AlgolMill" "coder" "LAlgolMill$Coder;") ∈ lw_all := lw_g (lw_at lw_m2 125 rfl) rfl
theorem q547 : (Jvm.Cond.fieldLink "AlgolMill" (28 : Nat) "AlgolMill" "machine" "LAlgolMill$Machine;") ∈ lw_all := lw_g (lw_at lw_m2 126 rfl) rfl
theorem q548 : (Jvm.Cond.fieldLink "AlgolMill" (37 : Nat) "AlgolMill" "out" "LAlgolMill$Longs;") ∈ lw_all := lw_g (lw_at lw_m2 127 rfl) rfl
theorem q549 : (Jvm.Cond.fieldLink "AlgolMill" (48 : Nat) "AlgolMill" "shown" "I") ∈ lw_all := lw_g (lw_at lw_m2 128 rfl) rfl
theorem q550 : (Jvm.Cond.fieldLink "AlgolMill" (123 : Nat) "AlgolMill" "built" "Z") ∈ lw_all := lw_g (lw_at lw_m2 129 rfl) rfl
theorem q551 : (Jvm.Cond.fieldLink "AlgolMill" (110 : Nat) "AlgolMill" "owns" "I") ∈ lw_all := lw_g (lw_at lw_m2 130 rfl) rfl
theorem q552 : (Jvm.Cond.fieldLink "AlgolMill" (100 : Nat) "AlgolMill" "faultNumber" "I") ∈ lw_all := lw_g (lw_at lw_m2 131 rfl) rfl
theorem q553 : (Jvm.Cond.fieldLink "AlgolMill" (41 : Nat) "AlgolMill" "faultPlace" "I") ∈ lw_all := lw_g (lw_at lw_m2 132 rfl) rfl
theorem q554 : (Jvm.Cond.laysFinal "AlgolMill" "AlgolMill" "parser" "LAlgolMill$Parser;") ∈ lw_all := lw_g (lw_at lw_m2 133 rfl) rfl
theorem q555 : (Jvm.Cond.soleField "AlgolMill" "parser") ∈ lw_all := lw_g (lw_at lw_m2 134 rfl) rfl
theorem q556 : (Jvm.Cond.laysFinal "AlgolMill" "AlgolMill" "coder" "LAlgolMill$Coder;") ∈ lw_all := lw_g (lw_at lw_m2 135 rfl) rfl
theorem q557 : (Jvm.Cond.soleField "AlgolMill" "coder") ∈ lw_all := lw_g (lw_at lw_m2 136 rfl) rfl
theorem q558 : (Jvm.Cond.laysFinal "AlgolMill" "AlgolMill" "machine" "LAlgolMill$Machine;") ∈ lw_all := lw_g (lw_at lw_m2 137 rfl) rfl
theorem q559 : (Jvm.Cond.soleField "AlgolMill" "machine") ∈ lw_all := lw_g (lw_at lw_m2 138 rfl) rfl
theorem q560 : (Jvm.Cond.laysFinal "AlgolMill" "AlgolMill" "out" "LAlgolMill$Longs;") ∈ lw_all := lw_g (lw_at lw_m2 139 rfl) rfl
theorem q561 : (Jvm.Cond.soleField "AlgolMill" "out") ∈ lw_all := lw_g (lw_at lw_m2 140 rfl) rfl
theorem q562 : (Jvm.Cond.lays "AlgolMill" "AlgolMill" "shown" "I") ∈ lw_all := lw_g (lw_at lw_m2 141 rfl) rfl
theorem q563 : (Jvm.Cond.soleField "AlgolMill" "shown") ∈ lw_all := lw_g (lw_at lw_m2 142 rfl) rfl
theorem q564 : (Jvm.Cond.lays "AlgolMill" "AlgolMill" "built" "Z") ∈ lw_all := lw_g (lw_at lw_m2 143 rfl) rfl
theorem q565 : (Jvm.Cond.soleField "AlgolMill" "built") ∈ lw_all := lw_g (lw_at lw_m2 144 rfl) rfl
theorem q566 : (Jvm.Cond.lays "AlgolMill" "AlgolMill" "owns" "I") ∈ lw_all := lw_g (lw_at lw_m2 145 rfl) rfl
theorem q567 : (Jvm.Cond.soleField "AlgolMill" "owns") ∈ lw_all := lw_g (lw_at lw_m2 146 rfl) rfl
theorem q568 : (Jvm.Cond.lays "AlgolMill" "AlgolMill" "faultNumber" "I") ∈ lw_all := lw_g (lw_at lw_m2 147 rfl) rfl
theorem q569 : (Jvm.Cond.soleField "AlgolMill" "faultNumber") ∈ lw_all := lw_g (lw_at lw_m2 148 rfl) rfl
theorem q570 : (Jvm.Cond.lays "AlgolMill" "AlgolMill" "faultPlace" "I") ∈ lw_all := lw_g (lw_at lw_m2 149 rfl) rfl
theorem q571 : (Jvm.Cond.soleField "AlgolMill" "faultPlace") ∈ lw_all := lw_g (lw_at lw_m2 150 rfl) rfl
theorem q572 : (Jvm.Cond.superclass "AlgolMill" "java/lang/Object") ∈ lw_all := lw_g (lw_at lw_m2 151 rfl) rfl
theorem q574 : (Jvm.Cond.instanceMethod ({ cls := "AlgolMill", name := "count", desc := "(I)I" } : Jvm.MethodName)) ∈ lw_all := lw_g (lw_at lw_m2 153 rfl) rfl
theorem q575 : (Jvm.Cond.selects "AlgolMill" ({ cls := "AlgolMill", name := "count", desc := "(I)I" } : Jvm.MethodName) ({ cls := "AlgolMill", name := "count", desc := "(I)I" } : Jvm.MethodName)) ∈ lw_all := lw_g (lw_at lw_m2 154 rfl) rfl
theorem q576 : (Jvm.Cond.code ({ cls := "AlgolMill", name := "count", desc := "(I)I" } : Jvm.MethodName) prog_1_method_11_code (2 : Nat) (Option.some Jvm.ClassFile.FieldType.int)) ∈ lw_all := lw_g (lw_at lw_m2 155 rfl) rfl
theorem q613 : (Jvm.Cond.instanceMethod ({ cls := "AlgolMill", name := "feed", desc := "(IIIII)I" } : Jvm.MethodName)) ∈ lw_all := lw_g (lw_at lw_m2 192 rfl) rfl
theorem q614 : (Jvm.Cond.selects "AlgolMill" ({ cls := "AlgolMill", name := "feed", desc := "(IIIII)I" } : Jvm.MethodName) ({ cls := "AlgolMill", name := "feed", desc := "(IIIII)I" } : Jvm.MethodName)) ∈ lw_all := lw_g (lw_at lw_m2 193 rfl) rfl
theorem q615 : (Jvm.Cond.code ({ cls := "AlgolMill", name := "feed", desc := "(IIIII)I" } : Jvm.MethodName) prog_1_method_5_code (6 : Nat) (Option.some Jvm.ClassFile.FieldType.int)) ∈ lw_all := lw_g (lw_at lw_m2 194 rfl) rfl
theorem q616 : (Jvm.Cond.classLink "AlgolMill" (65 : Nat) "java/lang/IndexOutOfBoundsException") ∈ lw_all := lw_g (lw_at lw_m2 195 rfl) rfl
theorem q625 : (Jvm.Cond.methodLink "AlgolMill" (67 : Nat) ({ cls := "java/lang/IndexOutOfBoundsException", name := "<init>", desc := "()V" } : Jvm.MethodName)) ∈ lw_all := lw_g (lw_at lw_m2 204 rfl) rfl
theorem q631 : (Jvm.Cond.methodLink "AlgolMill" (68 : Nat) ({ cls := "AlgolMill", name := "letters", desc := "(I)V" } : Jvm.MethodName)) ∈ lw_all := lw_g (lw_at lw_m2 210 rfl) rfl
theorem q632 : (Jvm.Cond.privateMethod ({ cls := "AlgolMill", name := "letters", desc := "(I)V" } : Jvm.MethodName)) ∈ lw_tbl := lw_at lw_m2 211 rfl
theorem q633 : (Jvm.Cond.instanceMethod ({ cls := "AlgolMill", name := "letters", desc := "(I)V" } : Jvm.MethodName)) ∈ lw_all := lw_g (lw_at lw_m2 212 rfl) rfl
theorem q634 : (Jvm.Cond.code ({ cls := "AlgolMill", name := "letters", desc := "(I)V" } : Jvm.MethodName) prog_1_method_6_code (4 : Nat) (Option.none : Option Jvm.ClassFile.FieldType)) ∈ lw_all := lw_g (lw_at lw_m2 213 rfl) rfl
theorem q640 : (Jvm.Cond.instanceMethod ({ cls := "AlgolMill", name := "end", desc := "(I)I" } : Jvm.MethodName)) ∈ lw_all := lw_g (lw_at lw_m2 219 rfl) rfl
theorem q641 : (Jvm.Cond.selects "AlgolMill" ({ cls := "AlgolMill", name := "end", desc := "(I)I" } : Jvm.MethodName) ({ cls := "AlgolMill", name := "end", desc := "(I)I" } : Jvm.MethodName)) ∈ lw_all := lw_g (lw_at lw_m2 220 rfl) rfl
theorem q642 : (Jvm.Cond.code ({ cls := "AlgolMill", name := "end", desc := "(I)I" } : Jvm.MethodName) prog_1_method_7_code (2 : Nat) (Option.some Jvm.ClassFile.FieldType.int)) ∈ lw_all := lw_g (lw_at lw_m2 221 rfl) rfl
theorem q643 : (Jvm.Cond.methodLink "AlgolMill" (75 : Nat) ({ cls := "AlgolMill", name := "in", desc := "(JJJ)Z" } : Jvm.MethodName)) ∈ lw_all := lw_g (lw_at lw_m2 222 rfl) rfl
theorem q644 : (Jvm.Cond.static ({ cls := "AlgolMill", name := "in", desc := "(JJJ)Z" } : Jvm.MethodName)) ∈ lw_all := lw_g (lw_at lw_m2 223 rfl) rfl
theorem q645 : (Jvm.Cond.code ({ cls := "AlgolMill", name := "in", desc := "(JJJ)Z" } : Jvm.MethodName) prog_1_method_1_code (6 : Nat) (Option.some Jvm.ClassFile.FieldType.boolean)) ∈ lw_all := lw_g (lw_at lw_m2 224 rfl) rfl
theorem q646 : (Jvm.Cond.methodLink "AlgolMill" (79 : Nat) ({ cls := "AlgolMill", name := "good", desc := "(Z)V" } : Jvm.MethodName)) ∈ lw_all := lw_g (lw_at lw_m2 225 rfl) rfl
theorem q647 : (Jvm.Cond.static ({ cls := "AlgolMill", name := "good", desc := "(Z)V" } : Jvm.MethodName)) ∈ lw_all := lw_g (lw_at lw_m2 226 rfl) rfl
theorem q648 : (Jvm.Cond.code ({ cls := "AlgolMill", name := "good", desc := "(Z)V" } : Jvm.MethodName) prog_1_method_3_code (1 : Nat) (Option.none : Option Jvm.ClassFile.FieldType)) ∈ lw_all := lw_g (lw_at lw_m2 227 rfl) rfl
theorem q649 : (Jvm.Cond.classLink "AlgolMill" (45 : Nat) "java/lang/IllegalArgumentException") ∈ lw_all := lw_g (lw_at lw_m2 228 rfl) rfl
theorem q658 : (Jvm.Cond.methodLink "AlgolMill" (47 : Nat) ({ cls := "java/lang/IllegalArgumentException", name := "<init>", desc := "()V" } : Jvm.MethodName)) ∈ lw_all := lw_g (lw_at lw_m2 237 rfl) rfl
theorem q669 : (Jvm.Cond.instanceMethod ({ cls := "AlgolMill", name := "build", desc := "()I" } : Jvm.MethodName)) ∈ lw_all := lw_g (lw_at lw_m3 8 rfl) rfl
theorem q670 : (Jvm.Cond.selects "AlgolMill" ({ cls := "AlgolMill", name := "build", desc := "()I" } : Jvm.MethodName) ({ cls := "AlgolMill", name := "build", desc := "()I" } : Jvm.MethodName)) ∈ lw_all := lw_g (lw_at lw_m3 9 rfl) rfl
theorem q671 : (Jvm.Cond.code ({ cls := "AlgolMill", name := "build", desc := "()I" } : Jvm.MethodName) prog_1_method_8_code (2 : Nat) (Option.some Jvm.ClassFile.FieldType.int)) ∈ lw_all := lw_g (lw_at lw_m3 10 rfl) rfl
theorem q672 : (Jvm.Cond.methodLink "AlgolMill" (83 : Nat) ({ cls := "AlgolMill$Parser", name := "read", desc := "()LAlgolMill$Routine;" } : Jvm.MethodName)) ∈ lw_all := lw_g (lw_at lw_m3 11 rfl) rfl
theorem q1554 : (Jvm.Cond.classLink "AlgolMill" (87 : Nat) "AlgolMill$Checker") ∈ lw_all := lw_g (lw_at lw_m6 173 rfl) rfl
theorem q1556 : (Jvm.Cond.methodLink "AlgolMill" (89 : Nat) ({ cls := "AlgolMill$Checker", name := "<init>", desc := "(LAlgolMill$Parser;)V" } : Jvm.MethodName)) ∈ lw_all := lw_g (lw_at lw_m6 175 rfl) rfl
theorem q1570 : (Jvm.Cond.methodLink "AlgolMill" (92 : Nat) ({ cls := "AlgolMill$Checker", name := "check", desc := "(LAlgolMill$Routine;)V" } : Jvm.MethodName)) ∈ lw_all := lw_g (lw_at lw_m6 189 rfl) rfl
theorem q1790 : (Jvm.Cond.methodLink "AlgolMill" (96 : Nat) ({ cls := "AlgolMill$Parser", name := "faultNumber", desc := "()I" } : Jvm.MethodName)) ∈ lw_all := lw_g (lw_at lw_m7 169 rfl) rfl
theorem q1794 : (Jvm.Cond.methodLink "AlgolMill" (102 : Nat) ({ cls := "AlgolMill$Parser", name := "faultPlace", desc := "()I" } : Jvm.MethodName)) ∈ lw_all := lw_g (lw_at lw_m7 173 rfl) rfl
theorem q1798 : (Jvm.Cond.classLink "AlgolMill" (104 : Nat) "java/lang/IllegalStateException") ∈ lw_all := lw_g (lw_at lw_m7 177 rfl) rfl
theorem q1807 : (Jvm.Cond.methodLink "AlgolMill" (106 : Nat) ({ cls := "java/lang/IllegalStateException", name := "<init>", desc := "()V" } : Jvm.MethodName)) ∈ lw_all := lw_g (lw_at lw_m7 186 rfl) rfl
theorem q1813 : (Jvm.Cond.methodLink "AlgolMill" (111 : Nat) ({ cls := "AlgolMill$Coder", name := "make", desc := "(LAlgolMill$Routine;I)V" } : Jvm.MethodName)) ∈ lw_all := lw_g (lw_at lw_m7 192 rfl) rfl
theorem q2265 : (Jvm.Cond.methodLink "AlgolMill" (115 : Nat) ({ cls := "AlgolMill$Coder", name := "words", desc := "()LAlgolMill$Longs;" } : Jvm.MethodName)) ∈ lw_all := lw_g (lw_at lw_m9 164 rfl) rfl
theorem q2269 : (Jvm.Cond.methodLink "AlgolMill" (119 : Nat) ({ cls := "AlgolMill$Machine", name := "load", desc := "(LAlgolMill$Longs;)V" } : Jvm.MethodName)) ∈ lw_all := lw_g (lw_at lw_m9 168 rfl) rfl
theorem q2274 : (Jvm.Cond.methodLink "AlgolMill" (127 : Nat) ({ cls := "AlgolMill$Parser", name := "routines", desc := "()I" } : Jvm.MethodName)) ∈ lw_all := lw_g (lw_at lw_m9 173 rfl) rfl
theorem q2282 : (Jvm.Cond.instanceMethod ({ cls := "AlgolMill", name := "run", desc := "(I)I" } : Jvm.MethodName)) ∈ lw_all := lw_g (lw_at lw_m9 181 rfl) rfl
theorem q2283 : (Jvm.Cond.selects "AlgolMill" ({ cls := "AlgolMill", name := "run", desc := "(I)I" } : Jvm.MethodName) ({ cls := "AlgolMill", name := "run", desc := "(I)I" } : Jvm.MethodName)) ∈ lw_all := lw_g (lw_at lw_m9 182 rfl) rfl
theorem q2284 : (Jvm.Cond.code ({ cls := "AlgolMill", name := "run", desc := "(I)I" } : Jvm.MethodName) prog_1_method_9_code (2 : Nat) (Option.some Jvm.ClassFile.FieldType.int)) ∈ lw_all := lw_g (lw_at lw_m9 183 rfl) rfl
theorem q2285 : (Jvm.Cond.constantLong "AlgolMill" (130 : Nat) (20000 : Int64)) ∈ lw_all := lw_g (lw_at lw_m9 184 rfl) rfl
theorem q2286 : (Jvm.Cond.methodLink "AlgolMill" (132 : Nat) ({ cls := "AlgolMill$Longs", name := "clear", desc := "()V" } : Jvm.MethodName)) ∈ lw_all := lw_g (lw_at lw_m9 185 rfl) rfl
theorem q2287 : (Jvm.Cond.methodLink "AlgolMill" (135 : Nat) ({ cls := "AlgolMill$Machine", name := "run", desc := "(II)I" } : Jvm.MethodName)) ∈ lw_all := lw_g (lw_at lw_m9 186 rfl) rfl
theorem q2321 : (Jvm.Cond.privateMethod ({ cls := "AlgolMill", name := "print", desc := "(J)V" } : Jvm.MethodName)) ∈ lw_tbl := lw_at lw_m9 220 rfl
theorem q2322 : (Jvm.Cond.instanceMethod ({ cls := "AlgolMill", name := "print", desc := "(J)V" } : Jvm.MethodName)) ∈ lw_all := lw_g (lw_at lw_m9 221 rfl) rfl
theorem q2323 : (Jvm.Cond.code ({ cls := "AlgolMill", name := "print", desc := "(J)V" } : Jvm.MethodName) prog_1_method_4_code (3 : Nat) (Option.none : Option Jvm.ClassFile.FieldType)) ∈ lw_all := lw_g (lw_at lw_m9 222 rfl) rfl
theorem q2324 : (Jvm.Cond.methodLink "AlgolMill" (54 : Nat) ({ cls := "AlgolMill$Longs", name := "add", desc := "(J)V" } : Jvm.MethodName)) ∈ lw_all := lw_g (lw_at lw_m9 223 rfl) rfl
theorem q2368 : (Jvm.Cond.instanceMethod ({ cls := "AlgolMill", name := "out", desc := "(I)J" } : Jvm.MethodName)) ∈ lw_all := lw_g (lw_at lw_m10 27 rfl) rfl
theorem q2369 : (Jvm.Cond.selects "AlgolMill" ({ cls := "AlgolMill", name := "out", desc := "(I)J" } : Jvm.MethodName) ({ cls := "AlgolMill", name := "out", desc := "(I)J" } : Jvm.MethodName)) ∈ lw_all := lw_g (lw_at lw_m10 28 rfl) rfl
theorem q2370 : (Jvm.Cond.code ({ cls := "AlgolMill", name := "out", desc := "(I)J" } : Jvm.MethodName) prog_1_method_10_code (2 : Nat) (Option.some Jvm.ClassFile.FieldType.long)) ∈ lw_all := lw_g (lw_at lw_m10 29 rfl) rfl
theorem q2371 : (Jvm.Cond.methodLink "AlgolMill" (139 : Nat) ({ cls := "AlgolMill$Longs", name := "get", desc := "(I)J" } : Jvm.MethodName)) ∈ lw_all := lw_g (lw_at lw_m10 30 rfl) rfl
theorem in_X1 : ∀ w ∈ wsX10, w ∈ lw_all := lw_in wsX10 [554, 556, 558, 560, 562, 564, 566, 568, 570] (by decide +kernel) (by decide +kernel)
/-! AlgolMill$Parser -/
def RX2 : String := "AlgolMill$Parser"
def TX2 : u_T := fun k => match k with
  | 0 => ("AlgolMill$Parser", "scanner", "LAlgolMill$Scanner;", true)
  | 1 => ("AlgolMill$Parser", "wrong", "LAlgolMill$Wrong;", true)
  | 2 => ("AlgolMill$Parser", "at", "I", false)
  | 3 => ("AlgolMill$Parser", "deep", "I", false)
  | 4 => ("AlgolMill$Parser", "scope", "LAlgolMill$Scope;", false)
  | 5 => ("AlgolMill$Parser", "home", "LAlgolMill$Routine;", false)
  | 6 => ("AlgolMill$Parser", "loops", "I", false)
  | 7 => ("AlgolMill$Parser", "routines", "I", false)
  | 8 => ("AlgolMill$Parser", "owns", "I", false)
  | 9 => ("AlgolMill$Parser", "faultNumber", "I", false)
  | _ => ("AlgolMill$Parser", "faultPlace", "I", false)
def tyX2 : Nat → FieldType := fun k => match k with
  | 0 => .object "AlgolMill$Scanner"
  | 1 => .object "AlgolMill$Wrong"
  | 2 => .int
  | 3 => .int
  | 4 => .object "AlgolMill$Scope"
  | 5 => .object "AlgolMill$Routine"
  | 6 => .int
  | 7 => .int
  | 8 => .int
  | 9 => .int
  | _ => .int
abbrev wsX20 : List Cond := u_ws RX2 TX2 11
theorem nmX2 : ∀ a, a < 11 → ∀ b, b < 11 → a ≠ b → (TX2 a).2.1 ≠ (TX2 b).2.1 := by decide +kernel
theorem tyX2_ok : ∀ k, k < 11 → parseFieldDescriptor (TX2 k).2.2.1 = some (tyX2 k) := by decide +kernel
abbrev cX2_init : ByteArray := prog_23_method_1_code
def yX2_init : MethodName := ⟨RX2, "<init>", "()V"⟩
abbrev cX2_read : ByteArray := prog_23_method_10_code
def yX2_read : MethodName := ⟨RX2, "read", "()LAlgolMill$Routine;"⟩
abbrev cX2_block : ByteArray := prog_23_method_27_code
def yX2_block : MethodName := ⟨RX2, "block", "()LAlgolMill$Block;"⟩
abbrev cX2_need : ByteArray := prog_23_method_9_code
def yX2_need : MethodName := ⟨RX2, "need", "(I)I"⟩
abbrev cX2_kind : ByteArray := prog_23_method_6_code
def yX2_kind : MethodName := ⟨RX2, "kind", "()I"⟩
abbrev cX2_wrong : ByteArray := prog_23_method_7_code
def yX2_wrong : MethodName := ⟨RX2, "wrong", "()LAlgolMill$Wrong;"⟩
abbrev cX2_next : ByteArray := prog_23_method_8_code
def yX2_next : MethodName := ⟨RX2, "next", "()I"⟩
abbrev cX2_declares : ByteArray := prog_23_method_14_code
def yX2_declares : MethodName := ⟨RX2, "declares", "()Z"⟩
abbrev cX2_declaration : ByteArray := prog_23_method_15_code
def yX2_declaration : MethodName := ⟨RX2, "declaration", "(LAlgolMill$Block;)V"⟩
abbrev cX2_type : ByteArray := prog_23_method_12_code
def yX2_type : MethodName := ⟨RX2, "type", "(I)I"⟩
abbrev cX2_arrays : ByteArray := prog_23_method_17_code
def yX2_arrays : MethodName := ⟨RX2, "arrays", "(LAlgolMill$Block;I)V"⟩
abbrev cX2_names : ByteArray := prog_23_method_13_code
def yX2_names : MethodName := ⟨RX2, "names", "()LAlgolMill$Ints;"⟩
abbrev cX2_declare : ByteArray := prog_23_method_11_code
def yX2_declare : MethodName := ⟨RX2, "declare", "(III)LAlgolMill$Thing;"⟩
abbrev cX2_fault : ByteArray := prog_23_method_5_code
def yX2_fault : MethodName := ⟨RX2, "fault", "(II)V"⟩
abbrev cX2_pair : ByteArray := prog_23_method_18_code
def yX2_pair : MethodName := ⟨RX2, "pair", "(LAlgolMill$Rows;)V"⟩
abbrev cX2_expression : ByteArray := prog_23_method_38_code
def yX2_expression : MethodName := ⟨RX2, "expression", "()LAlgolMill$Expr;"⟩
abbrev cX2_two : ByteArray := prog_23_method_40_code
def yX2_two : MethodName := ⟨RX2, "two", "(I)LAlgolMill$Expr;"⟩
abbrev cX2_not : ByteArray := prog_23_method_41_code
def yX2_not : MethodName := ⟨RX2, "not", "()LAlgolMill$Expr;"⟩
abbrev cX2_primary : ByteArray := prog_23_method_43_code
def yX2_primary : MethodName := ⟨RX2, "primary", "()LAlgolMill$Expr;"⟩
abbrev cX2_name : ByteArray := prog_23_method_44_code
def yX2_name : MethodName := ⟨RX2, "name", "()LAlgolMill$Name;"⟩
abbrev cX2_signed : ByteArray := prog_23_method_42_code
def yX2_signed : MethodName := ⟨RX2, "signed", "()LAlgolMill$Expr;"⟩
abbrev cX2_level : ByteArray := prog_23_method_39_code
def yX2_level : MethodName := ⟨RX2, "level", "(I)I"⟩
abbrev cX2_procedure : ByteArray := prog_23_method_20_code
def yX2_procedure : MethodName := ⟨RX2, "procedure", "(LAlgolMill$Block;I)V"⟩
abbrev cX2_formals : ByteArray := prog_23_method_21_code
def yX2_formals : MethodName := ⟨RX2, "formals", "(LAlgolMill$Routine;)V"⟩
abbrev cX2_values : ByteArray := prog_23_method_23_code
def yX2_values : MethodName := ⟨RX2, "values", "(LAlgolMill$Routine;)V"⟩
abbrev cX2_formal : ByteArray := prog_23_method_22_code
def yX2_formal : MethodName := ⟨RX2, "formal", "(LAlgolMill$Routine;I)LAlgolMill$Thing;"⟩
abbrev cX2_specifies : ByteArray := prog_23_method_24_code
def yX2_specifies : MethodName := ⟨RX2, "specifies", "()Z"⟩
abbrev cX2_spec : ByteArray := prog_23_method_25_code
def yX2_spec : MethodName := ⟨RX2, "spec", "(LAlgolMill$Routine;)V"⟩
abbrev cX2_places : ByteArray := prog_23_method_26_code
def yX2_places : MethodName := ⟨RX2, "places", "(LAlgolMill$Routine;)V"⟩
abbrev cX2_statement : ByteArray := prog_23_method_28_code
def yX2_statement : MethodName := ⟨RX2, "statement", "()LAlgolMill$Statement;"⟩
abbrev cX2_plain : ByteArray := prog_23_method_29_code
def yX2_plain : MethodName := ⟨RX2, "plain", "()LAlgolMill$Statement;"⟩
abbrev cX2_named : ByteArray := prog_23_method_30_code
def yX2_named : MethodName := ⟨RX2, "named", "()LAlgolMill$Statement;"⟩
abbrev cX2_print : ByteArray := prog_23_method_31_code
def yX2_print : MethodName := ⟨RX2, "print", "()LAlgolMill$Statement;"⟩
abbrev cX2_aim : ByteArray := prog_23_method_37_code
def yX2_aim : MethodName := ⟨RX2, "aim", "()LAlgolMill$Expr;"⟩
abbrev cX2_branch : ByteArray := prog_23_method_33_code
def yX2_branch : MethodName := ⟨RX2, "branch", "()LAlgolMill$Statement;"⟩
abbrev cX2_inner : ByteArray := prog_23_method_32_code
def yX2_inner : MethodName := ⟨RX2, "inner", "()LAlgolMill$Inner;"⟩
abbrev cX2_loop : ByteArray := prog_23_method_34_code
def yX2_loop : MethodName := ⟨RX2, "loop", "()LAlgolMill$Statement;"⟩
abbrev cX2_variable : ByteArray := prog_23_method_35_code
def yX2_variable : MethodName := ⟨RX2, "variable", "()LAlgolMill$Wrong;"⟩
abbrev cX2_element : ByteArray := prog_23_method_36_code
def yX2_element : MethodName := ⟨RX2, "element", "()LAlgolMill$Element;"⟩
abbrev cX2_choices : ByteArray := prog_23_method_19_code
def yX2_choices : MethodName := ⟨RX2, "choices", "(LAlgolMill$Block;)V"⟩
abbrev cX2_variables : ByteArray := prog_23_method_16_code
def yX2_variables : MethodName := ⟨RX2, "variables", "(LAlgolMill$Block;IZ)V"⟩
abbrev cX2_faultNumber : ByteArray := prog_23_method_3_code
def yX2_faultNumber : MethodName := ⟨RX2, "faultNumber", "()I"⟩
abbrev cX2_faultPlace : ByteArray := prog_23_method_4_code
def yX2_faultPlace : MethodName := ⟨RX2, "faultPlace", "()I"⟩
abbrev cX2_routines : ByteArray := prog_23_method_2_code
def yX2_routines : MethodName := ⟨RX2, "routines", "()I"⟩
theorem q183 : (Jvm.Cond.initialized "AlgolMill$Parser") ∈ lw_all := lw_g (lw_at lw_m1 2 rfl) rfl
theorem q242 : (Jvm.Cond.instantiable "AlgolMill$Parser" (11 : Nat)) ∈ lw_all := lw_g (lw_at lw_m1 61 rfl) rfl
theorem q244 : (Jvm.Cond.instanceMethod ({ cls := "AlgolMill$Parser", name := "<init>", desc := "()V" } : Jvm.MethodName)) ∈ lw_all := lw_g (lw_at lw_m1 63 rfl) rfl
theorem q245 : (Jvm.Cond.code ({ cls := "AlgolMill$Parser", name := "<init>", desc := "()V" } : Jvm.MethodName) prog_23_method_1_code (1 : Nat) (Option.none : Option Jvm.ClassFile.FieldType)) ∈ lw_all := lw_g (lw_at lw_m1 64 rfl) rfl
theorem q246 : (Jvm.Cond.methodLink "AlgolMill$Parser" (3 : Nat) ({ cls := "java/lang/Object", name := "<init>", desc := "()V" } : Jvm.MethodName)) ∈ lw_all := lw_g (lw_at lw_m1 65 rfl) rfl
theorem q247 : (Jvm.Cond.classLink "AlgolMill$Parser" (9 : Nat) "AlgolMill$Scanner") ∈ lw_all := lw_g (lw_at lw_m1 66 rfl) rfl
theorem q249 : (Jvm.Cond.methodLinkNest "AlgolMill$Parser" (11 : Nat) ({ cls := "AlgolMill$Scanner", name := "<init>", desc := "()V" } : Jvm.MethodName) "AlgolMill") ∈ lw_tbl := lw_at lw_m1 68 rfl
theorem q263 : (Jvm.Cond.fieldLink "AlgolMill$Parser" (183 : Nat) "AlgolMill$Ints" "size" "I") ∈ lw_all := lw_g (lw_at lw_m1 82 rfl) rfl
theorem q293 : (Jvm.Cond.fieldLink "AlgolMill$Parser" (45 : Nat) "AlgolMill$Scanner" "kinds" "LAlgolMill$Ints;") ∈ lw_all := lw_g (lw_at lw_m1 112 rfl) rfl
theorem q295 : (Jvm.Cond.fieldLink "AlgolMill$Parser" (35 : Nat) "AlgolMill$Scanner" "starts" "LAlgolMill$Ints;") ∈ lw_all := lw_g (lw_at lw_m1 114 rfl) rfl
theorem q298 : (Jvm.Cond.fieldLink "AlgolMill$Parser" (437 : Nat) "AlgolMill$Scanner" "values" "LAlgolMill$Longs;") ∈ lw_all := lw_g (lw_at lw_m1 117 rfl) rfl
theorem q315 : (Jvm.Cond.classLink "AlgolMill$Parser" (18 : Nat) "AlgolMill$Wrong") ∈ lw_all := lw_g (lw_at lw_m1 134 rfl) rfl
theorem q359 : (Jvm.Cond.methodLinkNest "AlgolMill$Parser" (20 : Nat) ({ cls := "AlgolMill$Wrong", name := "<init>", desc := "()V" } : Jvm.MethodName) "AlgolMill") ∈ lw_tbl := lw_at lw_m1 178 rfl
theorem q369 : (Jvm.Cond.fieldLink "AlgolMill$Parser" (51 : Nat) "AlgolMill$Wrong" "place" "I") ∈ lw_all := lw_g (lw_at lw_m1 188 rfl) rfl
theorem q385 : (Jvm.Cond.fieldLink "AlgolMill$Parser" (12 : Nat) "AlgolMill$Parser" "scanner" "LAlgolMill$Scanner;") ∈ lw_all := lw_g (lw_at lw_m1 204 rfl) rfl
theorem q388 : (Jvm.Cond.fieldLink "AlgolMill$Parser" (21 : Nat) "AlgolMill$Parser" "wrong" "LAlgolMill$Wrong;") ∈ lw_all := lw_g (lw_at lw_m1 207 rfl) rfl
theorem q389 : (Jvm.Cond.fieldLink "AlgolMill$Parser" (48 : Nat) "AlgolMill$Parser" "at" "I") ∈ lw_all := lw_g (lw_at lw_m1 208 rfl) rfl
theorem q390 : (Jvm.Cond.fieldLink "AlgolMill$Parser" (54 : Nat) "AlgolMill$Parser" "deep" "I") ∈ lw_all := lw_g (lw_at lw_m1 209 rfl) rfl
theorem q391 : (Jvm.Cond.fieldLink "AlgolMill$Parser" (97 : Nat) "AlgolMill$Parser" "scope" "LAlgolMill$Scope;") ∈ lw_all := lw_g (lw_at lw_m1 210 rfl) rfl
theorem q392 : (Jvm.Cond.fieldLink "AlgolMill$Parser" (81 : Nat) "AlgolMill$Parser" "home" "LAlgolMill$Routine;") ∈ lw_all := lw_g (lw_at lw_m1 211 rfl) rfl
theorem q393 : (Jvm.Cond.fieldLink "AlgolMill$Parser" (70 : Nat) "AlgolMill$Parser" "loops" "I") ∈ lw_all := lw_g (lw_at lw_m1 212 rfl) rfl
theorem q394 : (Jvm.Cond.fieldLink "AlgolMill$Parser" (25 : Nat) "AlgolMill$Parser" "routines" "I") ∈ lw_all := lw_g (lw_at lw_m1 213 rfl) rfl
theorem q396 : (Jvm.Cond.fieldLink "AlgolMill$Parser" (73 : Nat) "AlgolMill$Parser" "owns" "I") ∈ lw_all := lw_g (lw_at lw_m1 215 rfl) rfl
theorem q397 : (Jvm.Cond.fieldLink "AlgolMill$Parser" (29 : Nat) "AlgolMill$Parser" "faultNumber" "I") ∈ lw_all := lw_g (lw_at lw_m1 216 rfl) rfl
theorem q398 : (Jvm.Cond.fieldLink "AlgolMill$Parser" (32 : Nat) "AlgolMill$Parser" "faultPlace" "I") ∈ lw_all := lw_g (lw_at lw_m1 217 rfl) rfl
theorem q399 : (Jvm.Cond.laysFinal "AlgolMill$Parser" "AlgolMill$Parser" "scanner" "LAlgolMill$Scanner;") ∈ lw_all := lw_g (lw_at lw_m1 218 rfl) rfl
theorem q400 : (Jvm.Cond.soleField "AlgolMill$Parser" "scanner") ∈ lw_all := lw_g (lw_at lw_m1 219 rfl) rfl
theorem q401 : (Jvm.Cond.laysFinal "AlgolMill$Parser" "AlgolMill$Parser" "wrong" "LAlgolMill$Wrong;") ∈ lw_all := lw_g (lw_at lw_m1 220 rfl) rfl
theorem q402 : (Jvm.Cond.soleField "AlgolMill$Parser" "wrong") ∈ lw_all := lw_g (lw_at lw_m1 221 rfl) rfl
theorem q403 : (Jvm.Cond.lays "AlgolMill$Parser" "AlgolMill$Parser" "at" "I") ∈ lw_all := lw_g (lw_at lw_m1 222 rfl) rfl
theorem q404 : (Jvm.Cond.soleField "AlgolMill$Parser" "at") ∈ lw_all := lw_g (lw_at lw_m1 223 rfl) rfl
theorem q405 : (Jvm.Cond.lays "AlgolMill$Parser" "AlgolMill$Parser" "deep" "I") ∈ lw_all := lw_g (lw_at lw_m1 224 rfl) rfl
theorem q406 : (Jvm.Cond.soleField "AlgolMill$Parser" "deep") ∈ lw_all := lw_g (lw_at lw_m1 225 rfl) rfl
theorem q407 : (Jvm.Cond.lays "AlgolMill$Parser" "AlgolMill$Parser" "scope" "LAlgolMill$Scope;") ∈ lw_all := lw_g (lw_at lw_m1 226 rfl) rfl
theorem q408 : (Jvm.Cond.soleField "AlgolMill$Parser" "scope") ∈ lw_all := lw_g (lw_at lw_m1 227 rfl) rfl
theorem q409 : (Jvm.Cond.lays "AlgolMill$Parser" "AlgolMill$Parser" "home" "LAlgolMill$Routine;") ∈ lw_all := lw_g (lw_at lw_m1 228 rfl) rfl
theorem q410 : (Jvm.Cond.soleField "AlgolMill$Parser" "home") ∈ lw_all := lw_g (lw_at lw_m1 229 rfl) rfl
theorem q411 : (Jvm.Cond.lays "AlgolMill$Parser" "AlgolMill$Parser" "loops" "I") ∈ lw_all := lw_g (lw_at lw_m1 230 rfl) rfl
theorem q412 : (Jvm.Cond.soleField "AlgolMill$Parser" "loops") ∈ lw_all := lw_g (lw_at lw_m1 231 rfl) rfl
theorem q413 : (Jvm.Cond.lays "AlgolMill$Parser" "AlgolMill$Parser" "routines" "I") ∈ lw_all := lw_g (lw_at lw_m1 232 rfl) rfl
theorem q414 : (Jvm.Cond.soleField "AlgolMill$Parser" "routines") ∈ lw_all := lw_g (lw_at lw_m1 233 rfl) rfl
theorem q415 : (Jvm.Cond.lays "AlgolMill$Parser" "AlgolMill$Parser" "owns" "I") ∈ lw_all := lw_g (lw_at lw_m1 234 rfl) rfl
theorem q416 : (Jvm.Cond.soleField "AlgolMill$Parser" "owns") ∈ lw_all := lw_g (lw_at lw_m1 235 rfl) rfl
theorem q417 : (Jvm.Cond.lays "AlgolMill$Parser" "AlgolMill$Parser" "faultNumber" "I") ∈ lw_all := lw_g (lw_at lw_m1 236 rfl) rfl
theorem q418 : (Jvm.Cond.soleField "AlgolMill$Parser" "faultNumber") ∈ lw_all := lw_g (lw_at lw_m1 237 rfl) rfl
theorem q419 : (Jvm.Cond.lays "AlgolMill$Parser" "AlgolMill$Parser" "faultPlace" "I") ∈ lw_all := lw_g (lw_at lw_m1 238 rfl) rfl
theorem q420 : (Jvm.Cond.soleField "AlgolMill$Parser" "faultPlace") ∈ lw_all := lw_g (lw_at lw_m1 239 rfl) rfl
theorem q421 : (Jvm.Cond.superclass "AlgolMill$Parser" "java/lang/Object") ∈ lw_all := lw_g (lw_at lw_m2 0 rfl) rfl
theorem q449 : (Jvm.Cond.fieldLink "AlgolMill$Parser" (120 : Nat) "AlgolMill$Things" "size" "I") ∈ lw_all := lw_g (lw_at lw_m2 28 rfl) rfl
theorem q673 : (Jvm.Cond.instanceMethod ({ cls := "AlgolMill$Parser", name := "read", desc := "()LAlgolMill$Routine;" } : Jvm.MethodName)) ∈ lw_all := lw_g (lw_at lw_m3 12 rfl) rfl
theorem q674 : (Jvm.Cond.selects "AlgolMill$Parser" ({ cls := "AlgolMill$Parser", name := "read", desc := "()LAlgolMill$Routine;" } : Jvm.MethodName) ({ cls := "AlgolMill$Parser", name := "read", desc := "()LAlgolMill$Routine;" } : Jvm.MethodName)) ∈ lw_all := lw_g (lw_at lw_m3 13 rfl) rfl
theorem q675 : (Jvm.Cond.codeWith ({ cls := "AlgolMill$Parser", name := "read", desc := "()LAlgolMill$Routine;" } : Jvm.MethodName) prog_23_method_10_code (3 : Nat) (Option.some (Jvm.ClassFile.FieldType.object "AlgolMill$Routine")) [((87 : Nat), (108 : Nat), (109 : Nat), (18 : Nat))]) ∈ lw_all := lw_g (lw_at lw_m3 14 rfl) rfl
theorem q676 : (Jvm.Cond.methodLink "AlgolMill$Parser" (67 : Nat) ({ cls := "AlgolMill$Scanner", name := "cut", desc := "()V" } : Jvm.MethodName)) ∈ lw_all := lw_g (lw_at lw_m3 15 rfl) rfl
theorem q778 : (Jvm.Cond.classLink "AlgolMill$Parser" (76 : Nat) "AlgolMill$Routine") ∈ lw_all := lw_g (lw_at lw_m3 117 rfl) rfl
theorem q780 : (Jvm.Cond.methodLink "AlgolMill$Parser" (78 : Nat) ({ cls := "AlgolMill$Routine", name := "<init>", desc := "(LAlgolMill$Thing;LAlgolMill$Routine;)V" } : Jvm.MethodName)) ∈ lw_all := lw_g (lw_at lw_m3 119 rfl) rfl
theorem q795 : (Jvm.Cond.fieldLink "AlgolMill$Parser" (273 : Nat) "AlgolMill$Routine" "formals" "LAlgolMill$Things;") ∈ lw_all := lw_g (lw_at lw_m3 134 rfl) rfl
theorem q798 : (Jvm.Cond.fieldLink "AlgolMill$Parser" (102 : Nat) "AlgolMill$Routine" "body" "LAlgolMill$Statement;") ∈ lw_all := lw_g (lw_at lw_m3 137 rfl) rfl
theorem q800 : (Jvm.Cond.fieldLink "AlgolMill$Parser" (90 : Nat) "AlgolMill$Routine" "scope" "LAlgolMill$Scope;") ∈ lw_all := lw_g (lw_at lw_m3 139 rfl) rfl
theorem q802 : (Jvm.Cond.fieldLink "AlgolMill$Parser" (94 : Nat) "AlgolMill$Routine" "inner" "LAlgolMill$Scope;") ∈ lw_all := lw_g (lw_at lw_m3 141 rfl) rfl
theorem q804 : (Jvm.Cond.fieldLink "AlgolMill$Parser" (289 : Nat) "AlgolMill$Routine" "next" "I") ∈ lw_all := lw_g (lw_at lw_m3 143 rfl) rfl
theorem q807 : (Jvm.Cond.fieldLink "AlgolMill$Parser" (143 : Nat) "AlgolMill$Routine" "names" "I") ∈ lw_all := lw_g (lw_at lw_m3 146 rfl) rfl
theorem q834 : (Jvm.Cond.classLink "AlgolMill$Parser" (85 : Nat) "AlgolMill$Scope") ∈ lw_all := lw_g (lw_at lw_m3 173 rfl) rfl
theorem q836 : (Jvm.Cond.methodLink "AlgolMill$Parser" (87 : Nat) ({ cls := "AlgolMill$Scope", name := "<init>", desc := "(LAlgolMill$Scope;LAlgolMill$Routine;LAlgolMill$Block;)V" } : Jvm.MethodName)) ∈ lw_all := lw_g (lw_at lw_m3 175 rfl) rfl
theorem q846 : (Jvm.Cond.fieldLink "AlgolMill$Parser" (112 : Nat) "AlgolMill$Scope" "block" "LAlgolMill$Block;") ∈ lw_all := lw_g (lw_at lw_m3 185 rfl) rfl
theorem q849 : (Jvm.Cond.fieldLink "AlgolMill$Parser" (116 : Nat) "AlgolMill$Scope" "things" "LAlgolMill$Things;") ∈ lw_all := lw_g (lw_at lw_m3 188 rfl) rfl
theorem q859 : (Jvm.Cond.methodLink "AlgolMill$Parser" (98 : Nat) ({ cls := "AlgolMill$Parser", name := "block", desc := "()LAlgolMill$Block;" } : Jvm.MethodName)) ∈ lw_all := lw_g (lw_at lw_m3 198 rfl) rfl
theorem q860 : (Jvm.Cond.privateMethod ({ cls := "AlgolMill$Parser", name := "block", desc := "()LAlgolMill$Block;" } : Jvm.MethodName)) ∈ lw_tbl := lw_at lw_m3 199 rfl
theorem q861 : (Jvm.Cond.instanceMethod ({ cls := "AlgolMill$Parser", name := "block", desc := "()LAlgolMill$Block;" } : Jvm.MethodName)) ∈ lw_all := lw_g (lw_at lw_m3 200 rfl) rfl
theorem q862 : (Jvm.Cond.code ({ cls := "AlgolMill$Parser", name := "block", desc := "()LAlgolMill$Block;" } : Jvm.MethodName) prog_23_method_27_code (4 : Nat) (Option.some (Jvm.ClassFile.FieldType.object "AlgolMill$Block"))) ∈ lw_all := lw_g (lw_at lw_m3 201 rfl) rfl
theorem q863 : (Jvm.Cond.methodLink "AlgolMill$Parser" (149 : Nat) ({ cls := "AlgolMill$Parser", name := "need", desc := "(I)I" } : Jvm.MethodName)) ∈ lw_all := lw_g (lw_at lw_m3 202 rfl) rfl
theorem q864 : (Jvm.Cond.privateMethod ({ cls := "AlgolMill$Parser", name := "need", desc := "(I)I" } : Jvm.MethodName)) ∈ lw_tbl := lw_at lw_m3 203 rfl
theorem q865 : (Jvm.Cond.instanceMethod ({ cls := "AlgolMill$Parser", name := "need", desc := "(I)I" } : Jvm.MethodName)) ∈ lw_all := lw_g (lw_at lw_m3 204 rfl) rfl
theorem q866 : (Jvm.Cond.code ({ cls := "AlgolMill$Parser", name := "need", desc := "(I)I" } : Jvm.MethodName) prog_23_method_9_code (2 : Nat) (Option.some Jvm.ClassFile.FieldType.int)) ∈ lw_all := lw_g (lw_at lw_m3 205 rfl) rfl
theorem q867 : (Jvm.Cond.methodLink "AlgolMill$Parser" (57 : Nat) ({ cls := "AlgolMill$Parser", name := "kind", desc := "()I" } : Jvm.MethodName)) ∈ lw_all := lw_g (lw_at lw_m3 206 rfl) rfl
theorem q868 : (Jvm.Cond.privateMethod ({ cls := "AlgolMill$Parser", name := "kind", desc := "()I" } : Jvm.MethodName)) ∈ lw_tbl := lw_at lw_m3 207 rfl
theorem q869 : (Jvm.Cond.instanceMethod ({ cls := "AlgolMill$Parser", name := "kind", desc := "()I" } : Jvm.MethodName)) ∈ lw_all := lw_g (lw_at lw_m3 208 rfl) rfl
theorem q870 : (Jvm.Cond.code ({ cls := "AlgolMill$Parser", name := "kind", desc := "()I" } : Jvm.MethodName) prog_23_method_6_code (1 : Nat) (Option.some Jvm.ClassFile.FieldType.int)) ∈ lw_all := lw_g (lw_at lw_m3 209 rfl) rfl
theorem q871 : (Jvm.Cond.methodLink "AlgolMill$Parser" (39 : Nat) ({ cls := "AlgolMill$Ints", name := "get", desc := "(I)I" } : Jvm.MethodName)) ∈ lw_all := lw_g (lw_at lw_m3 210 rfl) rfl
theorem q875 : (Jvm.Cond.methodLink "AlgolMill$Parser" (61 : Nat) ({ cls := "AlgolMill$Parser", name := "wrong", desc := "()LAlgolMill$Wrong;" } : Jvm.MethodName)) ∈ lw_all := lw_g (lw_at lw_m3 214 rfl) rfl
theorem q876 : (Jvm.Cond.privateMethod ({ cls := "AlgolMill$Parser", name := "wrong", desc := "()LAlgolMill$Wrong;" } : Jvm.MethodName)) ∈ lw_tbl := lw_at lw_m3 215 rfl
theorem q877 : (Jvm.Cond.instanceMethod ({ cls := "AlgolMill$Parser", name := "wrong", desc := "()LAlgolMill$Wrong;" } : Jvm.MethodName)) ∈ lw_all := lw_g (lw_at lw_m3 216 rfl) rfl
theorem q878 : (Jvm.Cond.code ({ cls := "AlgolMill$Parser", name := "wrong", desc := "()LAlgolMill$Wrong;" } : Jvm.MethodName) prog_23_method_7_code (1 : Nat) (Option.some (Jvm.ClassFile.FieldType.object "AlgolMill$Wrong"))) ∈ lw_all := lw_g (lw_at lw_m3 217 rfl) rfl
theorem q879 : (Jvm.Cond.methodLink "AlgolMill$Parser" (64 : Nat) ({ cls := "AlgolMill$Parser", name := "next", desc := "()I" } : Jvm.MethodName)) ∈ lw_all := lw_g (lw_at lw_m3 218 rfl) rfl
theorem q880 : (Jvm.Cond.privateMethod ({ cls := "AlgolMill$Parser", name := "next", desc := "()I" } : Jvm.MethodName)) ∈ lw_tbl := lw_at lw_m3 219 rfl
theorem q881 : (Jvm.Cond.instanceMethod ({ cls := "AlgolMill$Parser", name := "next", desc := "()I" } : Jvm.MethodName)) ∈ lw_all := lw_g (lw_at lw_m3 220 rfl) rfl
theorem q882 : (Jvm.Cond.code ({ cls := "AlgolMill$Parser", name := "next", desc := "()I" } : Jvm.MethodName) prog_23_method_8_code (1 : Nat) (Option.some Jvm.ClassFile.FieldType.int)) ∈ lw_all := lw_g (lw_at lw_m3 221 rfl) rfl
theorem q883 : (Jvm.Cond.classLink "AlgolMill$Parser" (197 : Nat) "AlgolMill$Block") ∈ lw_all := lw_g (lw_at lw_m3 222 rfl) rfl
theorem q885 : (Jvm.Cond.methodLink "AlgolMill$Parser" (291 : Nat) ({ cls := "AlgolMill$Block", name := "<init>", desc := "(LAlgolMill$Routine;LAlgolMill$Block;)V" } : Jvm.MethodName)) ∈ lw_all := lw_g (lw_at lw_m3 224 rfl) rfl
theorem q899 : (Jvm.Cond.fieldLink "AlgolMill$Parser" (294 : Nat) "AlgolMill$Block" "scope" "LAlgolMill$Scope;") ∈ lw_all := lw_g (lw_at lw_m3 238 rfl) rfl
theorem q913 : (Jvm.Cond.fieldLink "AlgolMill$Parser" (308 : Nat) "AlgolMill$Statement" "marks" "LAlgolMill$Things;") ∈ lw_all := lw_g (lw_at lw_m4 12 rfl) rfl
theorem q942 : (Jvm.Cond.methodLink "AlgolMill$Parser" (295 : Nat) ({ cls := "AlgolMill$Parser", name := "declares", desc := "()Z" } : Jvm.MethodName)) ∈ lw_all := lw_g (lw_at lw_m4 41 rfl) rfl
theorem q943 : (Jvm.Cond.privateMethod ({ cls := "AlgolMill$Parser", name := "declares", desc := "()Z" } : Jvm.MethodName)) ∈ lw_tbl := lw_at lw_m4 42 rfl
theorem q944 : (Jvm.Cond.instanceMethod ({ cls := "AlgolMill$Parser", name := "declares", desc := "()Z" } : Jvm.MethodName)) ∈ lw_all := lw_g (lw_at lw_m4 43 rfl) rfl
theorem q945 : (Jvm.Cond.code ({ cls := "AlgolMill$Parser", name := "declares", desc := "()Z" } : Jvm.MethodName) prog_23_method_14_code (1 : Nat) (Option.some Jvm.ClassFile.FieldType.boolean)) ∈ lw_all := lw_g (lw_at lw_m4 44 rfl) rfl
theorem q946 : (Jvm.Cond.constantLong "AlgolMill$Parser" (154 : Nat) (162 : Int64)) ∈ lw_all := lw_g (lw_at lw_m4 45 rfl) rfl
theorem q947 : (Jvm.Cond.constantLong "AlgolMill$Parser" (156 : Nat) (166 : Int64)) ∈ lw_all := lw_g (lw_at lw_m4 46 rfl) rfl
theorem q948 : (Jvm.Cond.methodLinkNest "AlgolMill$Parser" (158 : Nat) ({ cls := "AlgolMill", name := "in", desc := "(JJJ)Z" } : Jvm.MethodName) "AlgolMill") ∈ lw_tbl := lw_at lw_m4 47 rfl
theorem q949 : (Jvm.Cond.methodLink "AlgolMill$Parser" (298 : Nat) ({ cls := "AlgolMill$Parser", name := "declaration", desc := "(LAlgolMill$Block;)V" } : Jvm.MethodName)) ∈ lw_all := lw_g (lw_at lw_m4 48 rfl) rfl
theorem q950 : (Jvm.Cond.privateMethod ({ cls := "AlgolMill$Parser", name := "declaration", desc := "(LAlgolMill$Block;)V" } : Jvm.MethodName)) ∈ lw_tbl := lw_at lw_m4 49 rfl
theorem q951 : (Jvm.Cond.instanceMethod ({ cls := "AlgolMill$Parser", name := "declaration", desc := "(LAlgolMill$Block;)V" } : Jvm.MethodName)) ∈ lw_all := lw_g (lw_at lw_m4 50 rfl) rfl
theorem q952 : (Jvm.Cond.code ({ cls := "AlgolMill$Parser", name := "declaration", desc := "(LAlgolMill$Block;)V" } : Jvm.MethodName) prog_23_method_15_code (4 : Nat) (Option.none : Option Jvm.ClassFile.FieldType)) ∈ lw_all := lw_g (lw_at lw_m4 51 rfl) rfl
theorem q953 : (Jvm.Cond.methodLink "AlgolMill$Parser" (162 : Nat) ({ cls := "AlgolMill$Parser", name := "type", desc := "(I)I" } : Jvm.MethodName)) ∈ lw_all := lw_g (lw_at lw_m4 52 rfl) rfl
theorem q954 : (Jvm.Cond.static ({ cls := "AlgolMill$Parser", name := "type", desc := "(I)I" } : Jvm.MethodName)) ∈ lw_all := lw_g (lw_at lw_m4 53 rfl) rfl
theorem q955 : (Jvm.Cond.code ({ cls := "AlgolMill$Parser", name := "type", desc := "(I)I" } : Jvm.MethodName) prog_23_method_12_code (1 : Nat) (Option.some Jvm.ClassFile.FieldType.int)) ∈ lw_all := lw_g (lw_at lw_m4 54 rfl) rfl
theorem q956 : (Jvm.Cond.methodLink "AlgolMill$Parser" (165 : Nat) ({ cls := "AlgolMill$Parser", name := "arrays", desc := "(LAlgolMill$Block;I)V" } : Jvm.MethodName)) ∈ lw_all := lw_g (lw_at lw_m4 55 rfl) rfl
theorem q957 : (Jvm.Cond.privateMethod ({ cls := "AlgolMill$Parser", name := "arrays", desc := "(LAlgolMill$Block;I)V" } : Jvm.MethodName)) ∈ lw_tbl := lw_at lw_m4 56 rfl
theorem q958 : (Jvm.Cond.instanceMethod ({ cls := "AlgolMill$Parser", name := "arrays", desc := "(LAlgolMill$Block;I)V" } : Jvm.MethodName)) ∈ lw_all := lw_g (lw_at lw_m4 57 rfl) rfl
theorem q959 : (Jvm.Cond.code ({ cls := "AlgolMill$Parser", name := "arrays", desc := "(LAlgolMill$Block;I)V" } : Jvm.MethodName) prog_23_method_17_code (6 : Nat) (Option.none : Option Jvm.ClassFile.FieldType)) ∈ lw_all := lw_g (lw_at lw_m4 58 rfl) rfl
theorem q960 : (Jvm.Cond.methodLink "AlgolMill$Parser" (180 : Nat) ({ cls := "AlgolMill$Parser", name := "names", desc := "()LAlgolMill$Ints;" } : Jvm.MethodName)) ∈ lw_all := lw_g (lw_at lw_m4 59 rfl) rfl
theorem q961 : (Jvm.Cond.privateMethod ({ cls := "AlgolMill$Parser", name := "names", desc := "()LAlgolMill$Ints;" } : Jvm.MethodName)) ∈ lw_tbl := lw_at lw_m4 60 rfl
theorem q962 : (Jvm.Cond.instanceMethod ({ cls := "AlgolMill$Parser", name := "names", desc := "()LAlgolMill$Ints;" } : Jvm.MethodName)) ∈ lw_all := lw_g (lw_at lw_m4 61 rfl) rfl
theorem q963 : (Jvm.Cond.code ({ cls := "AlgolMill$Parser", name := "names", desc := "()LAlgolMill$Ints;" } : Jvm.MethodName) prog_23_method_13_code (2 : Nat) (Option.some (Jvm.ClassFile.FieldType.object "AlgolMill$Ints"))) ∈ lw_all := lw_g (lw_at lw_m4 62 rfl) rfl
theorem q964 : (Jvm.Cond.classLink "AlgolMill$Parser" (40 : Nat) "AlgolMill$Ints") ∈ lw_all := lw_g (lw_at lw_m4 63 rfl) rfl
theorem q965 : (Jvm.Cond.methodLink "AlgolMill$Parser" (146 : Nat) ({ cls := "AlgolMill$Ints", name := "<init>", desc := "(I)V" } : Jvm.MethodName)) ∈ lw_all := lw_g (lw_at lw_m4 64 rfl) rfl
theorem q966 : (Jvm.Cond.methodLink "AlgolMill$Parser" (152 : Nat) ({ cls := "AlgolMill$Ints", name := "add", desc := "(I)V" } : Jvm.MethodName)) ∈ lw_all := lw_g (lw_at lw_m4 65 rfl) rfl
theorem q967 : (Jvm.Cond.classLink "AlgolMill$Parser" (201 : Nat) "AlgolMill$Rows") ∈ lw_all := lw_g (lw_at lw_m4 66 rfl) rfl
theorem q969 : (Jvm.Cond.methodLinkNest "AlgolMill$Parser" (203 : Nat) ({ cls := "AlgolMill$Rows", name := "<init>", desc := "()V" } : Jvm.MethodName) "AlgolMill") ∈ lw_tbl := lw_at lw_m4 68 rfl
theorem q1003 : (Jvm.Cond.methodLink "AlgolMill$Parser" (184 : Nat) ({ cls := "AlgolMill$Parser", name := "declare", desc := "(III)LAlgolMill$Thing;" } : Jvm.MethodName)) ∈ lw_all := lw_g (lw_at lw_m4 102 rfl) rfl
theorem q1004 : (Jvm.Cond.privateMethod ({ cls := "AlgolMill$Parser", name := "declare", desc := "(III)LAlgolMill$Thing;" } : Jvm.MethodName)) ∈ lw_tbl := lw_at lw_m4 103 rfl
theorem q1005 : (Jvm.Cond.instanceMethod ({ cls := "AlgolMill$Parser", name := "declare", desc := "(III)LAlgolMill$Thing;" } : Jvm.MethodName)) ∈ lw_all := lw_g (lw_at lw_m4 104 rfl) rfl
theorem q1006 : (Jvm.Cond.code ({ cls := "AlgolMill$Parser", name := "declare", desc := "(III)LAlgolMill$Thing;" } : Jvm.MethodName) prog_23_method_11_code (6 : Nat) (Option.some (Jvm.ClassFile.FieldType.object "AlgolMill$Thing"))) ∈ lw_all := lw_g (lw_at lw_m4 105 rfl) rfl
theorem q1007 : (Jvm.Cond.classLink "AlgolMill$Parser" (106 : Nat) "AlgolMill$Thing") ∈ lw_all := lw_g (lw_at lw_m4 106 rfl) rfl
theorem q1009 : (Jvm.Cond.methodLink "AlgolMill$Parser" (108 : Nat) ({ cls := "AlgolMill$Thing", name := "<init>", desc := "(III)V" } : Jvm.MethodName)) ∈ lw_all := lw_g (lw_at lw_m4 108 rfl) rfl
theorem q1015 : (Jvm.Cond.fieldLink "AlgolMill$Parser" (128 : Nat) "AlgolMill$Thing" "token" "I") ∈ lw_all := lw_g (lw_at lw_m4 114 rfl) rfl
theorem q1020 : (Jvm.Cond.fieldLink "AlgolMill$Parser" (284 : Nat) "AlgolMill$Thing" "sort" "I") ∈ lw_all := lw_g (lw_at lw_m4 119 rfl) rfl
theorem q1024 : (Jvm.Cond.fieldLink "AlgolMill$Parser" (287 : Nat) "AlgolMill$Thing" "type" "I") ∈ lw_all := lw_g (lw_at lw_m4 123 rfl) rfl
theorem q1027 : (Jvm.Cond.fieldLink "AlgolMill$Parser" (270 : Nat) "AlgolMill$Thing" "formal" "Z") ∈ lw_all := lw_g (lw_at lw_m4 126 rfl) rfl
theorem q1031 : (Jvm.Cond.fieldLink "AlgolMill$Parser" (278 : Nat) "AlgolMill$Thing" "byValue" "Z") ∈ lw_all := lw_g (lw_at lw_m4 130 rfl) rfl
theorem q1033 : (Jvm.Cond.fieldLink "AlgolMill$Parser" (188 : Nat) "AlgolMill$Thing" "own" "Z") ∈ lw_all := lw_g (lw_at lw_m4 132 rfl) rfl
theorem q1036 : (Jvm.Cond.fieldLink "AlgolMill$Parser" (111 : Nat) "AlgolMill$Thing" "home" "LAlgolMill$Routine;") ∈ lw_all := lw_g (lw_at lw_m4 135 rfl) rfl
theorem q1042 : (Jvm.Cond.fieldLink "AlgolMill$Parser" (192 : Nat) "AlgolMill$Thing" "place" "I") ∈ lw_all := lw_g (lw_at lw_m4 141 rfl) rfl
theorem q1048 : (Jvm.Cond.fieldLink "AlgolMill$Parser" (245 : Nat) "AlgolMill$Thing" "routine" "LAlgolMill$Routine;") ∈ lw_all := lw_g (lw_at lw_m4 147 rfl) rfl
theorem q1051 : (Jvm.Cond.fieldLink "AlgolMill$Parser" (229 : Nat) "AlgolMill$Thing" "choices" "LAlgolMill$Switch;") ∈ lw_all := lw_g (lw_at lw_m4 150 rfl) rfl
theorem q1052 : (Jvm.Cond.fieldLink "AlgolMill$Parser" (281 : Nat) "AlgolMill$Thing" "address" "I") ∈ lw_all := lw_g (lw_at lw_m4 151 rfl) rfl
theorem q1054 : (Jvm.Cond.fieldLink "AlgolMill$Parser" (115 : Nat) "AlgolMill$Thing" "block" "LAlgolMill$Block;") ∈ lw_all := lw_g (lw_at lw_m4 153 rfl) rfl
theorem q1083 : (Jvm.Cond.methodLink "AlgolMill$Parser" (125 : Nat) ({ cls := "AlgolMill$Things", name := "get", desc := "(I)LAlgolMill$Thing;" } : Jvm.MethodName)) ∈ lw_all := lw_g (lw_at lw_m4 182 rfl) rfl
theorem q1087 : (Jvm.Cond.methodLink "AlgolMill$Parser" (131 : Nat) ({ cls := "AlgolMill$Scanner", name := "same", desc := "(II)Z" } : Jvm.MethodName)) ∈ lw_all := lw_g (lw_at lw_m4 186 rfl) rfl
theorem q1092 : (Jvm.Cond.methodLink "AlgolMill$Parser" (135 : Nat) ({ cls := "AlgolMill$Parser", name := "fault", desc := "(II)V" } : Jvm.MethodName)) ∈ lw_all := lw_g (lw_at lw_m4 191 rfl) rfl
theorem q1093 : (Jvm.Cond.instanceMethod ({ cls := "AlgolMill$Parser", name := "fault", desc := "(II)V" } : Jvm.MethodName)) ∈ lw_all := lw_g (lw_at lw_m4 192 rfl) rfl
theorem q1094 : (Jvm.Cond.selects "AlgolMill$Parser" ({ cls := "AlgolMill$Parser", name := "fault", desc := "(II)V" } : Jvm.MethodName) ({ cls := "AlgolMill$Parser", name := "fault", desc := "(II)V" } : Jvm.MethodName)) ∈ lw_all := lw_g (lw_at lw_m4 193 rfl) rfl
theorem q1095 : (Jvm.Cond.code ({ cls := "AlgolMill$Parser", name := "fault", desc := "(II)V" } : Jvm.MethodName) prog_23_method_5_code (4 : Nat) (Option.none : Option Jvm.ClassFile.FieldType)) ∈ lw_all := lw_g (lw_at lw_m4 194 rfl) rfl
theorem q1096 : (Jvm.Cond.methodLink "AlgolMill$Parser" (139 : Nat) ({ cls := "AlgolMill$Things", name := "add", desc := "(LAlgolMill$Thing;)V" } : Jvm.MethodName)) ∈ lw_all := lw_g (lw_at lw_m4 195 rfl) rfl
theorem q1100 : (Jvm.Cond.methodLink "AlgolMill$Parser" (204 : Nat) ({ cls := "AlgolMill$Rows", name := "add", desc := "(LAlgolMill$Thing;)V" } : Jvm.MethodName)) ∈ lw_all := lw_g (lw_at lw_m4 199 rfl) rfl
theorem q1105 : (Jvm.Cond.methodLink "AlgolMill$Parser" (205 : Nat) ({ cls := "AlgolMill$Parser", name := "pair", desc := "(LAlgolMill$Rows;)V" } : Jvm.MethodName)) ∈ lw_all := lw_g (lw_at lw_m4 204 rfl) rfl
theorem q1106 : (Jvm.Cond.privateMethod ({ cls := "AlgolMill$Parser", name := "pair", desc := "(LAlgolMill$Rows;)V" } : Jvm.MethodName)) ∈ lw_tbl := lw_at lw_m4 205 rfl
theorem q1107 : (Jvm.Cond.instanceMethod ({ cls := "AlgolMill$Parser", name := "pair", desc := "(LAlgolMill$Rows;)V" } : Jvm.MethodName)) ∈ lw_all := lw_g (lw_at lw_m4 206 rfl) rfl
theorem q1108 : (Jvm.Cond.code ({ cls := "AlgolMill$Parser", name := "pair", desc := "(LAlgolMill$Rows;)V" } : Jvm.MethodName) prog_23_method_18_code (2 : Nat) (Option.none : Option Jvm.ClassFile.FieldType)) ∈ lw_all := lw_g (lw_at lw_m4 207 rfl) rfl
theorem q1109 : (Jvm.Cond.methodLink "AlgolMill$Parser" (218 : Nat) ({ cls := "AlgolMill$Parser", name := "expression", desc := "()LAlgolMill$Expr;" } : Jvm.MethodName)) ∈ lw_all := lw_g (lw_at lw_m4 208 rfl) rfl
theorem q1110 : (Jvm.Cond.privateMethod ({ cls := "AlgolMill$Parser", name := "expression", desc := "()LAlgolMill$Expr;" } : Jvm.MethodName)) ∈ lw_tbl := lw_at lw_m4 209 rfl
theorem q1111 : (Jvm.Cond.instanceMethod ({ cls := "AlgolMill$Parser", name := "expression", desc := "()LAlgolMill$Expr;" } : Jvm.MethodName)) ∈ lw_all := lw_g (lw_at lw_m4 210 rfl) rfl
theorem q1112 : (Jvm.Cond.code ({ cls := "AlgolMill$Parser", name := "expression", desc := "()LAlgolMill$Expr;" } : Jvm.MethodName) prog_23_method_38_code (5 : Nat) (Option.some (Jvm.ClassFile.FieldType.object "AlgolMill$Expr"))) ∈ lw_all := lw_g (lw_at lw_m4 211 rfl) rfl
theorem q1113 : (Jvm.Cond.methodLink "AlgolMill$Parser" (409 : Nat) ({ cls := "AlgolMill$Parser", name := "two", desc := "(I)LAlgolMill$Expr;" } : Jvm.MethodName)) ∈ lw_all := lw_g (lw_at lw_m4 212 rfl) rfl
theorem q1114 : (Jvm.Cond.privateMethod ({ cls := "AlgolMill$Parser", name := "two", desc := "(I)LAlgolMill$Expr;" } : Jvm.MethodName)) ∈ lw_tbl := lw_at lw_m4 213 rfl
theorem q1115 : (Jvm.Cond.instanceMethod ({ cls := "AlgolMill$Parser", name := "two", desc := "(I)LAlgolMill$Expr;" } : Jvm.MethodName)) ∈ lw_all := lw_g (lw_at lw_m4 214 rfl) rfl
theorem q1116 : (Jvm.Cond.code ({ cls := "AlgolMill$Parser", name := "two", desc := "(I)LAlgolMill$Expr;" } : Jvm.MethodName) prog_23_method_40_code (5 : Nat) (Option.some (Jvm.ClassFile.FieldType.object "AlgolMill$Expr"))) ∈ lw_all := lw_g (lw_at lw_m4 215 rfl) rfl
theorem q1117 : (Jvm.Cond.methodLink "AlgolMill$Parser" (413 : Nat) ({ cls := "AlgolMill$Parser", name := "not", desc := "()LAlgolMill$Expr;" } : Jvm.MethodName)) ∈ lw_all := lw_g (lw_at lw_m4 216 rfl) rfl
theorem q1118 : (Jvm.Cond.privateMethod ({ cls := "AlgolMill$Parser", name := "not", desc := "()LAlgolMill$Expr;" } : Jvm.MethodName)) ∈ lw_tbl := lw_at lw_m4 217 rfl
theorem q1119 : (Jvm.Cond.instanceMethod ({ cls := "AlgolMill$Parser", name := "not", desc := "()LAlgolMill$Expr;" } : Jvm.MethodName)) ∈ lw_all := lw_g (lw_at lw_m4 218 rfl) rfl
theorem q1120 : (Jvm.Cond.code ({ cls := "AlgolMill$Parser", name := "not", desc := "()LAlgolMill$Expr;" } : Jvm.MethodName) prog_23_method_41_code (3 : Nat) (Option.some (Jvm.ClassFile.FieldType.object "AlgolMill$Expr"))) ∈ lw_all := lw_g (lw_at lw_m4 219 rfl) rfl
theorem q1121 : (Jvm.Cond.classLink "AlgolMill$Parser" (430 : Nat) "AlgolMill$Before") ∈ lw_all := lw_g (lw_at lw_m4 220 rfl) rfl
theorem q1123 : (Jvm.Cond.methodLink "AlgolMill$Parser" (432 : Nat) ({ cls := "AlgolMill$Before", name := "<init>", desc := "(IILAlgolMill$Expr;)V" } : Jvm.MethodName)) ∈ lw_all := lw_g (lw_at lw_m4 222 rfl) rfl
theorem q1148 : (Jvm.Cond.methodLink "AlgolMill$Parser" (416 : Nat) ({ cls := "AlgolMill$Parser", name := "primary", desc := "()LAlgolMill$Expr;" } : Jvm.MethodName)) ∈ lw_all := lw_g (lw_at lw_m5 7 rfl) rfl
theorem q1149 : (Jvm.Cond.privateMethod ({ cls := "AlgolMill$Parser", name := "primary", desc := "()LAlgolMill$Expr;" } : Jvm.MethodName)) ∈ lw_tbl := lw_at lw_m5 8 rfl
theorem q1150 : (Jvm.Cond.instanceMethod ({ cls := "AlgolMill$Parser", name := "primary", desc := "()LAlgolMill$Expr;" } : Jvm.MethodName)) ∈ lw_all := lw_g (lw_at lw_m5 9 rfl) rfl
theorem q1151 : (Jvm.Cond.code ({ cls := "AlgolMill$Parser", name := "primary", desc := "()LAlgolMill$Expr;" } : Jvm.MethodName) prog_23_method_43_code (4 : Nat) (Option.some (Jvm.ClassFile.FieldType.object "AlgolMill$Expr"))) ∈ lw_all := lw_g (lw_at lw_m5 10 rfl) rfl
theorem q1152 : (Jvm.Cond.classLink "AlgolMill$Parser" (435 : Nat) "AlgolMill$Constant") ∈ lw_all := lw_g (lw_at lw_m5 11 rfl) rfl
theorem q1154 : (Jvm.Cond.methodLink "AlgolMill$Parser" (440 : Nat) ({ cls := "AlgolMill$Longs", name := "get", desc := "(I)J" } : Jvm.MethodName)) ∈ lw_all := lw_g (lw_at lw_m5 13 rfl) rfl
theorem q1158 : (Jvm.Cond.methodLink "AlgolMill$Parser" (445 : Nat) ({ cls := "AlgolMill$Constant", name := "<init>", desc := "(IJI)V" } : Jvm.MethodName)) ∈ lw_all := lw_g (lw_at lw_m5 17 rfl) rfl
theorem q1170 : (Jvm.Cond.methodLink "AlgolMill$Parser" (332 : Nat) ({ cls := "AlgolMill$Parser", name := "name", desc := "()LAlgolMill$Name;" } : Jvm.MethodName)) ∈ lw_all := lw_g (lw_at lw_m5 29 rfl) rfl
theorem q1171 : (Jvm.Cond.privateMethod ({ cls := "AlgolMill$Parser", name := "name", desc := "()LAlgolMill$Name;" } : Jvm.MethodName)) ∈ lw_tbl := lw_at lw_m5 30 rfl
theorem q1172 : (Jvm.Cond.instanceMethod ({ cls := "AlgolMill$Parser", name := "name", desc := "()LAlgolMill$Name;" } : Jvm.MethodName)) ∈ lw_all := lw_g (lw_at lw_m5 31 rfl) rfl
theorem q1173 : (Jvm.Cond.code ({ cls := "AlgolMill$Parser", name := "name", desc := "()LAlgolMill$Name;" } : Jvm.MethodName) prog_23_method_44_code (4 : Nat) (Option.some (Jvm.ClassFile.FieldType.object "AlgolMill$Name"))) ∈ lw_all := lw_g (lw_at lw_m5 32 rfl) rfl
theorem q1174 : (Jvm.Cond.classLink "AlgolMill$Parser" (337 : Nat) "AlgolMill$Name") ∈ lw_all := lw_g (lw_at lw_m5 33 rfl) rfl
theorem q1176 : (Jvm.Cond.methodLink "AlgolMill$Parser" (404 : Nat) ({ cls := "AlgolMill$Name", name := "<init>", desc := "(II)V" } : Jvm.MethodName)) ∈ lw_all := lw_g (lw_at lw_m5 35 rfl) rfl
theorem q1184 : (Jvm.Cond.fieldLink "AlgolMill$Parser" (336 : Nat) "AlgolMill$Name" "form" "I") ∈ lw_all := lw_g (lw_at lw_m5 43 rfl) rfl
theorem q1187 : (Jvm.Cond.fieldLink "AlgolMill$Parser" (406 : Nat) "AlgolMill$Name" "parts" "LAlgolMill$Exprs;") ∈ lw_all := lw_g (lw_at lw_m5 46 rfl) rfl
theorem q1202 : (Jvm.Cond.methodLink "AlgolMill$Parser" (241 : Nat) ({ cls := "AlgolMill$Exprs", name := "add", desc := "(LAlgolMill$Expr;)V" } : Jvm.MethodName)) ∈ lw_all := lw_g (lw_at lw_m5 61 rfl) rfl
theorem q1206 : (Jvm.Cond.classLink "AlgolMill$Parser" (394 : Nat) "AlgolMill$Round") ∈ lw_all := lw_g (lw_at lw_m5 65 rfl) rfl
theorem q1208 : (Jvm.Cond.methodLink "AlgolMill$Parser" (396 : Nat) ({ cls := "AlgolMill$Round", name := "<init>", desc := "(ILAlgolMill$Expr;)V" } : Jvm.MethodName)) ∈ lw_all := lw_g (lw_at lw_m5 67 rfl) rfl
theorem q1217 : (Jvm.Cond.methodLink "AlgolMill$Parser" (419 : Nat) ({ cls := "AlgolMill$Parser", name := "signed", desc := "()LAlgolMill$Expr;" } : Jvm.MethodName)) ∈ lw_all := lw_g (lw_at lw_m5 76 rfl) rfl
theorem q1218 : (Jvm.Cond.privateMethod ({ cls := "AlgolMill$Parser", name := "signed", desc := "()LAlgolMill$Expr;" } : Jvm.MethodName)) ∈ lw_tbl := lw_at lw_m5 77 rfl
theorem q1219 : (Jvm.Cond.instanceMethod ({ cls := "AlgolMill$Parser", name := "signed", desc := "()LAlgolMill$Expr;" } : Jvm.MethodName)) ∈ lw_all := lw_g (lw_at lw_m5 78 rfl) rfl
theorem q1220 : (Jvm.Cond.code ({ cls := "AlgolMill$Parser", name := "signed", desc := "()LAlgolMill$Expr;" } : Jvm.MethodName) prog_23_method_42_code (3 : Nat) (Option.some (Jvm.ClassFile.FieldType.object "AlgolMill$Expr"))) ∈ lw_all := lw_g (lw_at lw_m5 79 rfl) rfl
theorem q1221 : (Jvm.Cond.methodLink "AlgolMill$Parser" (422 : Nat) ({ cls := "AlgolMill$Parser", name := "level", desc := "(I)I" } : Jvm.MethodName)) ∈ lw_all := lw_g (lw_at lw_m5 80 rfl) rfl
theorem q1222 : (Jvm.Cond.static ({ cls := "AlgolMill$Parser", name := "level", desc := "(I)I" } : Jvm.MethodName)) ∈ lw_all := lw_g (lw_at lw_m5 81 rfl) rfl
theorem q1223 : (Jvm.Cond.code ({ cls := "AlgolMill$Parser", name := "level", desc := "(I)I" } : Jvm.MethodName) prog_23_method_39_code (1 : Nat) (Option.some Jvm.ClassFile.FieldType.int)) ∈ lw_all := lw_g (lw_at lw_m5 82 rfl) rfl
theorem q1224 : (Jvm.Cond.classLink "AlgolMill$Parser" (425 : Nat) "AlgolMill$Chain") ∈ lw_all := lw_g (lw_at lw_m5 83 rfl) rfl
theorem q1226 : (Jvm.Cond.methodLink "AlgolMill$Parser" (427 : Nat) ({ cls := "AlgolMill$Chain", name := "<init>", desc := "(LAlgolMill$Expr;)V" } : Jvm.MethodName)) ∈ lw_all := lw_g (lw_at lw_m5 85 rfl) rfl
theorem q1243 : (Jvm.Cond.methodLink "AlgolMill$Parser" (428 : Nat) ({ cls := "AlgolMill$Chain", name := "add", desc := "(ILAlgolMill$Expr;)V" } : Jvm.MethodName)) ∈ lw_all := lw_g (lw_at lw_m5 102 rfl) rfl
theorem q1248 : (Jvm.Cond.classLink "AlgolMill$Parser" (399 : Nat) "AlgolMill$Choice") ∈ lw_all := lw_g (lw_at lw_m5 107 rfl) rfl
theorem q1250 : (Jvm.Cond.methodLink "AlgolMill$Parser" (401 : Nat) ({ cls := "AlgolMill$Choice", name := "<init>", desc := "(ILAlgolMill$Expr;LAlgolMill$Expr;LAlgolMill$Expr;)V" } : Jvm.MethodName)) ∈ lw_all := lw_g (lw_at lw_m5 109 rfl) rfl
theorem q1265 : (Jvm.Cond.methodLink "AlgolMill$Parser" (222 : Nat) ({ cls := "AlgolMill$Rows", name := "bound", desc := "(LAlgolMill$Expr;)V" } : Jvm.MethodName)) ∈ lw_all := lw_g (lw_at lw_m5 124 rfl) rfl
theorem q1270 : (Jvm.Cond.methodLink "AlgolMill$Parser" (209 : Nat) ({ cls := "AlgolMill$Rows", name := "bounds", desc := "()I" } : Jvm.MethodName)) ∈ lw_all := lw_g (lw_at lw_m5 129 rfl) rfl
theorem q1274 : (Jvm.Cond.methodLink "AlgolMill$Parser" (212 : Nat) ({ cls := "AlgolMill$Rows", name := "finish", desc := "(LAlgolMill$Routine;)V" } : Jvm.MethodName)) ∈ lw_all := lw_g (lw_at lw_m5 133 rfl) rfl
theorem q1283 : (Jvm.Cond.methodLink "AlgolMill$Parser" (216 : Nat) ({ cls := "AlgolMill$Block", name := "add", desc := "(LAlgolMill$Rows;)V" } : Jvm.MethodName)) ∈ lw_all := lw_g (lw_at lw_m5 142 rfl) rfl
theorem q1288 : (Jvm.Cond.methodLink "AlgolMill$Parser" (169 : Nat) ({ cls := "AlgolMill$Parser", name := "procedure", desc := "(LAlgolMill$Block;I)V" } : Jvm.MethodName)) ∈ lw_all := lw_g (lw_at lw_m5 147 rfl) rfl
theorem q1289 : (Jvm.Cond.privateMethod ({ cls := "AlgolMill$Parser", name := "procedure", desc := "(LAlgolMill$Block;I)V" } : Jvm.MethodName)) ∈ lw_tbl := lw_at lw_m5 148 rfl
theorem q1290 : (Jvm.Cond.instanceMethod ({ cls := "AlgolMill$Parser", name := "procedure", desc := "(LAlgolMill$Block;I)V" } : Jvm.MethodName)) ∈ lw_all := lw_g (lw_at lw_m5 149 rfl) rfl
theorem q1291 : (Jvm.Cond.code ({ cls := "AlgolMill$Parser", name := "procedure", desc := "(LAlgolMill$Block;I)V" } : Jvm.MethodName) prog_23_method_20_code (8 : Nat) (Option.none : Option Jvm.ClassFile.FieldType)) ∈ lw_all := lw_g (lw_at lw_m5 150 rfl) rfl
theorem q1292 : (Jvm.Cond.methodLink "AlgolMill$Parser" (248 : Nat) ({ cls := "AlgolMill$Block", name := "routine", desc := "(LAlgolMill$Thing;)V" } : Jvm.MethodName)) ∈ lw_all := lw_g (lw_at lw_m5 151 rfl) rfl
theorem q1297 : (Jvm.Cond.methodLink "AlgolMill$Parser" (250 : Nat) ({ cls := "AlgolMill$Parser", name := "formals", desc := "(LAlgolMill$Routine;)V" } : Jvm.MethodName)) ∈ lw_all := lw_g (lw_at lw_m5 156 rfl) rfl
theorem q1298 : (Jvm.Cond.privateMethod ({ cls := "AlgolMill$Parser", name := "formals", desc := "(LAlgolMill$Routine;)V" } : Jvm.MethodName)) ∈ lw_tbl := lw_at lw_m5 157 rfl
theorem q1299 : (Jvm.Cond.instanceMethod ({ cls := "AlgolMill$Parser", name := "formals", desc := "(LAlgolMill$Routine;)V" } : Jvm.MethodName)) ∈ lw_all := lw_g (lw_at lw_m5 158 rfl) rfl
theorem q1300 : (Jvm.Cond.code ({ cls := "AlgolMill$Parser", name := "formals", desc := "(LAlgolMill$Routine;)V" } : Jvm.MethodName) prog_23_method_21_code (5 : Nat) (Option.none : Option Jvm.ClassFile.FieldType)) ∈ lw_all := lw_g (lw_at lw_m5 159 rfl) rfl
theorem q1301 : (Jvm.Cond.methodLink "AlgolMill$Parser" (253 : Nat) ({ cls := "AlgolMill$Parser", name := "values", desc := "(LAlgolMill$Routine;)V" } : Jvm.MethodName)) ∈ lw_all := lw_g (lw_at lw_m5 160 rfl) rfl
theorem q1302 : (Jvm.Cond.privateMethod ({ cls := "AlgolMill$Parser", name := "values", desc := "(LAlgolMill$Routine;)V" } : Jvm.MethodName)) ∈ lw_tbl := lw_at lw_m5 161 rfl
theorem q1303 : (Jvm.Cond.instanceMethod ({ cls := "AlgolMill$Parser", name := "values", desc := "(LAlgolMill$Routine;)V" } : Jvm.MethodName)) ∈ lw_all := lw_g (lw_at lw_m5 162 rfl) rfl
theorem q1304 : (Jvm.Cond.code ({ cls := "AlgolMill$Parser", name := "values", desc := "(LAlgolMill$Routine;)V" } : Jvm.MethodName) prog_23_method_23_code (5 : Nat) (Option.none : Option Jvm.ClassFile.FieldType)) ∈ lw_all := lw_g (lw_at lw_m5 163 rfl) rfl
theorem q1305 : (Jvm.Cond.methodLink "AlgolMill$Parser" (275 : Nat) ({ cls := "AlgolMill$Parser", name := "formal", desc := "(LAlgolMill$Routine;I)LAlgolMill$Thing;" } : Jvm.MethodName)) ∈ lw_all := lw_g (lw_at lw_m5 164 rfl) rfl
theorem q1306 : (Jvm.Cond.privateMethod ({ cls := "AlgolMill$Parser", name := "formal", desc := "(LAlgolMill$Routine;I)LAlgolMill$Thing;" } : Jvm.MethodName)) ∈ lw_tbl := lw_at lw_m5 165 rfl
theorem q1307 : (Jvm.Cond.instanceMethod ({ cls := "AlgolMill$Parser", name := "formal", desc := "(LAlgolMill$Routine;I)LAlgolMill$Thing;" } : Jvm.MethodName)) ∈ lw_all := lw_g (lw_at lw_m5 166 rfl) rfl
theorem q1308 : (Jvm.Cond.code ({ cls := "AlgolMill$Parser", name := "formal", desc := "(LAlgolMill$Routine;I)LAlgolMill$Thing;" } : Jvm.MethodName) prog_23_method_22_code (4 : Nat) (Option.some (Jvm.ClassFile.FieldType.object "AlgolMill$Thing"))) ∈ lw_all := lw_g (lw_at lw_m5 167 rfl) rfl
theorem q1309 : (Jvm.Cond.methodLink "AlgolMill$Parser" (256 : Nat) ({ cls := "AlgolMill$Parser", name := "specifies", desc := "()Z" } : Jvm.MethodName)) ∈ lw_all := lw_g (lw_at lw_m5 168 rfl) rfl
theorem q1310 : (Jvm.Cond.privateMethod ({ cls := "AlgolMill$Parser", name := "specifies", desc := "()Z" } : Jvm.MethodName)) ∈ lw_tbl := lw_at lw_m5 169 rfl
theorem q1311 : (Jvm.Cond.instanceMethod ({ cls := "AlgolMill$Parser", name := "specifies", desc := "()Z" } : Jvm.MethodName)) ∈ lw_all := lw_g (lw_at lw_m5 170 rfl) rfl
theorem q1312 : (Jvm.Cond.code ({ cls := "AlgolMill$Parser", name := "specifies", desc := "()Z" } : Jvm.MethodName) prog_23_method_24_code (1 : Nat) (Option.some Jvm.ClassFile.FieldType.boolean)) ∈ lw_all := lw_g (lw_at lw_m5 171 rfl) rfl
theorem q1313 : (Jvm.Cond.methodLink "AlgolMill$Parser" (260 : Nat) ({ cls := "AlgolMill$Parser", name := "spec", desc := "(LAlgolMill$Routine;)V" } : Jvm.MethodName)) ∈ lw_all := lw_g (lw_at lw_m5 172 rfl) rfl
theorem q1314 : (Jvm.Cond.privateMethod ({ cls := "AlgolMill$Parser", name := "spec", desc := "(LAlgolMill$Routine;)V" } : Jvm.MethodName)) ∈ lw_tbl := lw_at lw_m5 173 rfl
theorem q1315 : (Jvm.Cond.instanceMethod ({ cls := "AlgolMill$Parser", name := "spec", desc := "(LAlgolMill$Routine;)V" } : Jvm.MethodName)) ∈ lw_all := lw_g (lw_at lw_m5 174 rfl) rfl
theorem q1316 : (Jvm.Cond.code ({ cls := "AlgolMill$Parser", name := "spec", desc := "(LAlgolMill$Routine;)V" } : Jvm.MethodName) prog_23_method_25_code (7 : Nat) (Option.none : Option Jvm.ClassFile.FieldType)) ∈ lw_all := lw_g (lw_at lw_m5 175 rfl) rfl
theorem q1317 : (Jvm.Cond.methodLink "AlgolMill$Parser" (263 : Nat) ({ cls := "AlgolMill$Parser", name := "places", desc := "(LAlgolMill$Routine;)V" } : Jvm.MethodName)) ∈ lw_all := lw_g (lw_at lw_m5 176 rfl) rfl
theorem q1318 : (Jvm.Cond.privateMethod ({ cls := "AlgolMill$Parser", name := "places", desc := "(LAlgolMill$Routine;)V" } : Jvm.MethodName)) ∈ lw_tbl := lw_at lw_m5 177 rfl
theorem q1319 : (Jvm.Cond.instanceMethod ({ cls := "AlgolMill$Parser", name := "places", desc := "(LAlgolMill$Routine;)V" } : Jvm.MethodName)) ∈ lw_all := lw_g (lw_at lw_m5 178 rfl) rfl
theorem q1320 : (Jvm.Cond.code ({ cls := "AlgolMill$Parser", name := "places", desc := "(LAlgolMill$Routine;)V" } : Jvm.MethodName) prog_23_method_26_code (4 : Nat) (Option.none : Option Jvm.ClassFile.FieldType)) ∈ lw_all := lw_g (lw_at lw_m5 179 rfl) rfl
theorem q1321 : (Jvm.Cond.methodLink "AlgolMill$Parser" (193 : Nat) ({ cls := "AlgolMill$Routine", name := "room", desc := "(I)I" } : Jvm.MethodName)) ∈ lw_all := lw_g (lw_at lw_m5 180 rfl) rfl
theorem q1322 : (Jvm.Cond.methodLink "AlgolMill$Parser" (266 : Nat) ({ cls := "AlgolMill$Parser", name := "statement", desc := "()LAlgolMill$Statement;" } : Jvm.MethodName)) ∈ lw_all := lw_g (lw_at lw_m5 181 rfl) rfl
theorem q1323 : (Jvm.Cond.privateMethod ({ cls := "AlgolMill$Parser", name := "statement", desc := "()LAlgolMill$Statement;" } : Jvm.MethodName)) ∈ lw_tbl := lw_at lw_m5 182 rfl
theorem q1324 : (Jvm.Cond.instanceMethod ({ cls := "AlgolMill$Parser", name := "statement", desc := "()LAlgolMill$Statement;" } : Jvm.MethodName)) ∈ lw_all := lw_g (lw_at lw_m5 183 rfl) rfl
theorem q1325 : (Jvm.Cond.code ({ cls := "AlgolMill$Parser", name := "statement", desc := "()LAlgolMill$Statement;" } : Jvm.MethodName) prog_23_method_28_code (3 : Nat) (Option.some (Jvm.ClassFile.FieldType.object "AlgolMill$Statement"))) ∈ lw_all := lw_g (lw_at lw_m5 184 rfl) rfl
theorem q1326 : (Jvm.Cond.classLink "AlgolMill$Parser" (121 : Nat) "AlgolMill$Things") ∈ lw_all := lw_g (lw_at lw_m5 185 rfl) rfl
theorem q1327 : (Jvm.Cond.methodLinkNest "AlgolMill$Parser" (304 : Nat) ({ cls := "AlgolMill$Things", name := "<init>", desc := "()V" } : Jvm.MethodName) "AlgolMill") ∈ lw_tbl := lw_at lw_m5 186 rfl
theorem q1328 : (Jvm.Cond.methodLink "AlgolMill$Parser" (305 : Nat) ({ cls := "AlgolMill$Parser", name := "plain", desc := "()LAlgolMill$Statement;" } : Jvm.MethodName)) ∈ lw_all := lw_g (lw_at lw_m5 187 rfl) rfl
theorem q1329 : (Jvm.Cond.privateMethod ({ cls := "AlgolMill$Parser", name := "plain", desc := "()LAlgolMill$Statement;" } : Jvm.MethodName)) ∈ lw_tbl := lw_at lw_m5 188 rfl
theorem q1330 : (Jvm.Cond.instanceMethod ({ cls := "AlgolMill$Parser", name := "plain", desc := "()LAlgolMill$Statement;" } : Jvm.MethodName)) ∈ lw_all := lw_g (lw_at lw_m5 189 rfl) rfl
theorem q1331 : (Jvm.Cond.code ({ cls := "AlgolMill$Parser", name := "plain", desc := "()LAlgolMill$Statement;" } : Jvm.MethodName) prog_23_method_29_code (1 : Nat) (Option.some (Jvm.ClassFile.FieldType.object "AlgolMill$Statement"))) ∈ lw_all := lw_g (lw_at lw_m5 190 rfl) rfl
theorem q1332 : (Jvm.Cond.methodLink "AlgolMill$Parser" (313 : Nat) ({ cls := "AlgolMill$Parser", name := "named", desc := "()LAlgolMill$Statement;" } : Jvm.MethodName)) ∈ lw_all := lw_g (lw_at lw_m5 191 rfl) rfl
theorem q1333 : (Jvm.Cond.privateMethod ({ cls := "AlgolMill$Parser", name := "named", desc := "()LAlgolMill$Statement;" } : Jvm.MethodName)) ∈ lw_tbl := lw_at lw_m5 192 rfl
theorem q1334 : (Jvm.Cond.instanceMethod ({ cls := "AlgolMill$Parser", name := "named", desc := "()LAlgolMill$Statement;" } : Jvm.MethodName)) ∈ lw_all := lw_g (lw_at lw_m5 193 rfl) rfl
theorem q1335 : (Jvm.Cond.code ({ cls := "AlgolMill$Parser", name := "named", desc := "()LAlgolMill$Statement;" } : Jvm.MethodName) prog_23_method_30_code (4 : Nat) (Option.some (Jvm.ClassFile.FieldType.object "AlgolMill$Statement"))) ∈ lw_all := lw_g (lw_at lw_m5 194 rfl) rfl
theorem q1336 : (Jvm.Cond.classLink "AlgolMill$Parser" (341 : Nat) "AlgolMill$Call") ∈ lw_all := lw_g (lw_at lw_m5 195 rfl) rfl
theorem q1338 : (Jvm.Cond.methodLink "AlgolMill$Parser" (343 : Nat) ({ cls := "AlgolMill$Call", name := "<init>", desc := "(LAlgolMill$Name;)V" } : Jvm.MethodName)) ∈ lw_all := lw_g (lw_at lw_m5 197 rfl) rfl
theorem q1347 : (Jvm.Cond.classLink "AlgolMill$Parser" (346 : Nat) "AlgolMill$Setting") ∈ lw_all := lw_g (lw_at lw_m5 206 rfl) rfl
theorem q1349 : (Jvm.Cond.methodLinkNest "AlgolMill$Parser" (348 : Nat) ({ cls := "AlgolMill$Setting", name := "<init>", desc := "()V" } : Jvm.MethodName) "AlgolMill") ∈ lw_tbl := lw_at lw_m5 208 rfl
theorem q1363 : (Jvm.Cond.methodLink "AlgolMill$Parser" (349 : Nat) ({ cls := "AlgolMill$Setting", name := "add", desc := "(LAlgolMill$Name;)V" } : Jvm.MethodName)) ∈ lw_all := lw_g (lw_at lw_m5 222 rfl) rfl
theorem q1368 : (Jvm.Cond.methodLink "AlgolMill$Parser" (351 : Nat) ({ cls := "AlgolMill$Setting", name := "value", desc := "(LAlgolMill$Expr;)V" } : Jvm.MethodName)) ∈ lw_all := lw_g (lw_at lw_m5 227 rfl) rfl
theorem q1372 : (Jvm.Cond.methodLink "AlgolMill$Parser" (316 : Nat) ({ cls := "AlgolMill$Parser", name := "print", desc := "()LAlgolMill$Statement;" } : Jvm.MethodName)) ∈ lw_all := lw_g (lw_at lw_m5 231 rfl) rfl
theorem q1373 : (Jvm.Cond.privateMethod ({ cls := "AlgolMill$Parser", name := "print", desc := "()LAlgolMill$Statement;" } : Jvm.MethodName)) ∈ lw_tbl := lw_at lw_m5 232 rfl
theorem q1374 : (Jvm.Cond.instanceMethod ({ cls := "AlgolMill$Parser", name := "print", desc := "()LAlgolMill$Statement;" } : Jvm.MethodName)) ∈ lw_all := lw_g (lw_at lw_m5 233 rfl) rfl
theorem q1375 : (Jvm.Cond.code ({ cls := "AlgolMill$Parser", name := "print", desc := "()LAlgolMill$Statement;" } : Jvm.MethodName) prog_23_method_31_code (2 : Nat) (Option.some (Jvm.ClassFile.FieldType.object "AlgolMill$Statement"))) ∈ lw_all := lw_g (lw_at lw_m5 234 rfl) rfl
theorem q1376 : (Jvm.Cond.classLink "AlgolMill$Parser" (354 : Nat) "AlgolMill$Print") ∈ lw_all := lw_g (lw_at lw_m5 235 rfl) rfl
theorem q1378 : (Jvm.Cond.methodLink "AlgolMill$Parser" (356 : Nat) ({ cls := "AlgolMill$Print", name := "<init>", desc := "(LAlgolMill$Expr;)V" } : Jvm.MethodName)) ∈ lw_all := lw_g (lw_at lw_m5 237 rfl) rfl
theorem q1387 : (Jvm.Cond.classLink "AlgolMill$Parser" (319 : Nat) "AlgolMill$Goto") ∈ lw_all := lw_g (lw_at lw_m6 6 rfl) rfl
theorem q1389 : (Jvm.Cond.methodLink "AlgolMill$Parser" (238 : Nat) ({ cls := "AlgolMill$Parser", name := "aim", desc := "()LAlgolMill$Expr;" } : Jvm.MethodName)) ∈ lw_all := lw_g (lw_at lw_m6 8 rfl) rfl
theorem q1390 : (Jvm.Cond.privateMethod ({ cls := "AlgolMill$Parser", name := "aim", desc := "()LAlgolMill$Expr;" } : Jvm.MethodName)) ∈ lw_tbl := lw_at lw_m6 9 rfl
theorem q1391 : (Jvm.Cond.instanceMethod ({ cls := "AlgolMill$Parser", name := "aim", desc := "()LAlgolMill$Expr;" } : Jvm.MethodName)) ∈ lw_all := lw_g (lw_at lw_m6 10 rfl) rfl
theorem q1392 : (Jvm.Cond.code ({ cls := "AlgolMill$Parser", name := "aim", desc := "()LAlgolMill$Expr;" } : Jvm.MethodName) prog_23_method_37_code (5 : Nat) (Option.some (Jvm.ClassFile.FieldType.object "AlgolMill$Expr"))) ∈ lw_all := lw_g (lw_at lw_m6 11 rfl) rfl
theorem q1393 : (Jvm.Cond.methodLink "AlgolMill$Parser" (321 : Nat) ({ cls := "AlgolMill$Goto", name := "<init>", desc := "(LAlgolMill$Expr;)V" } : Jvm.MethodName)) ∈ lw_all := lw_g (lw_at lw_m6 12 rfl) rfl
theorem q1402 : (Jvm.Cond.methodLink "AlgolMill$Parser" (323 : Nat) ({ cls := "AlgolMill$Parser", name := "branch", desc := "()LAlgolMill$Statement;" } : Jvm.MethodName)) ∈ lw_all := lw_g (lw_at lw_m6 21 rfl) rfl
theorem q1403 : (Jvm.Cond.privateMethod ({ cls := "AlgolMill$Parser", name := "branch", desc := "()LAlgolMill$Statement;" } : Jvm.MethodName)) ∈ lw_tbl := lw_at lw_m6 22 rfl
theorem q1404 : (Jvm.Cond.instanceMethod ({ cls := "AlgolMill$Parser", name := "branch", desc := "()LAlgolMill$Statement;" } : Jvm.MethodName)) ∈ lw_all := lw_g (lw_at lw_m6 23 rfl) rfl
theorem q1405 : (Jvm.Cond.code ({ cls := "AlgolMill$Parser", name := "branch", desc := "()LAlgolMill$Statement;" } : Jvm.MethodName) prog_23_method_33_code (4 : Nat) (Option.some (Jvm.ClassFile.FieldType.object "AlgolMill$Statement"))) ∈ lw_all := lw_g (lw_at lw_m6 24 rfl) rfl
theorem q1406 : (Jvm.Cond.methodLink "AlgolMill$Parser" (362 : Nat) ({ cls := "AlgolMill$Parser", name := "inner", desc := "()LAlgolMill$Inner;" } : Jvm.MethodName)) ∈ lw_all := lw_g (lw_at lw_m6 25 rfl) rfl
theorem q1407 : (Jvm.Cond.privateMethod ({ cls := "AlgolMill$Parser", name := "inner", desc := "()LAlgolMill$Inner;" } : Jvm.MethodName)) ∈ lw_tbl := lw_at lw_m6 26 rfl
theorem q1408 : (Jvm.Cond.instanceMethod ({ cls := "AlgolMill$Parser", name := "inner", desc := "()LAlgolMill$Inner;" } : Jvm.MethodName)) ∈ lw_all := lw_g (lw_at lw_m6 27 rfl) rfl
theorem q1409 : (Jvm.Cond.code ({ cls := "AlgolMill$Parser", name := "inner", desc := "()LAlgolMill$Inner;" } : Jvm.MethodName) prog_23_method_32_code (3 : Nat) (Option.some (Jvm.ClassFile.FieldType.object "AlgolMill$Inner"))) ∈ lw_all := lw_g (lw_at lw_m6 28 rfl) rfl
theorem q1410 : (Jvm.Cond.classLink "AlgolMill$Parser" (357 : Nat) "AlgolMill$Inner") ∈ lw_all := lw_g (lw_at lw_m6 29 rfl) rfl
theorem q1412 : (Jvm.Cond.methodLink "AlgolMill$Parser" (359 : Nat) ({ cls := "AlgolMill$Inner", name := "<init>", desc := "(LAlgolMill$Statement;LAlgolMill$Scope;)V" } : Jvm.MethodName)) ∈ lw_all := lw_g (lw_at lw_m6 31 rfl) rfl
theorem q1423 : (Jvm.Cond.classLink "AlgolMill$Parser" (365 : Nat) "AlgolMill$Branch") ∈ lw_all := lw_g (lw_at lw_m6 42 rfl) rfl
theorem q1425 : (Jvm.Cond.methodLink "AlgolMill$Parser" (367 : Nat) ({ cls := "AlgolMill$Branch", name := "<init>", desc := "(LAlgolMill$Expr;LAlgolMill$Inner;LAlgolMill$Inner;)V" } : Jvm.MethodName)) ∈ lw_all := lw_g (lw_at lw_m6 44 rfl) rfl
theorem q1440 : (Jvm.Cond.methodLink "AlgolMill$Parser" (326 : Nat) ({ cls := "AlgolMill$Parser", name := "loop", desc := "()LAlgolMill$Statement;" } : Jvm.MethodName)) ∈ lw_all := lw_g (lw_at lw_m6 59 rfl) rfl
theorem q1441 : (Jvm.Cond.privateMethod ({ cls := "AlgolMill$Parser", name := "loop", desc := "()LAlgolMill$Statement;" } : Jvm.MethodName)) ∈ lw_tbl := lw_at lw_m6 60 rfl
theorem q1442 : (Jvm.Cond.instanceMethod ({ cls := "AlgolMill$Parser", name := "loop", desc := "()LAlgolMill$Statement;" } : Jvm.MethodName)) ∈ lw_all := lw_g (lw_at lw_m6 61 rfl) rfl
theorem q1443 : (Jvm.Cond.code ({ cls := "AlgolMill$Parser", name := "loop", desc := "()LAlgolMill$Statement;" } : Jvm.MethodName) prog_23_method_34_code (3 : Nat) (Option.some (Jvm.ClassFile.FieldType.object "AlgolMill$Statement"))) ∈ lw_all := lw_g (lw_at lw_m6 62 rfl) rfl
theorem q1444 : (Jvm.Cond.methodLink "AlgolMill$Parser" (370 : Nat) ({ cls := "AlgolMill$Parser", name := "variable", desc := "()LAlgolMill$Wrong;" } : Jvm.MethodName)) ∈ lw_all := lw_g (lw_at lw_m6 63 rfl) rfl
theorem q1445 : (Jvm.Cond.privateMethod ({ cls := "AlgolMill$Parser", name := "variable", desc := "()LAlgolMill$Wrong;" } : Jvm.MethodName)) ∈ lw_tbl := lw_at lw_m6 64 rfl
theorem q1446 : (Jvm.Cond.instanceMethod ({ cls := "AlgolMill$Parser", name := "variable", desc := "()LAlgolMill$Wrong;" } : Jvm.MethodName)) ∈ lw_all := lw_g (lw_at lw_m6 65 rfl) rfl
theorem q1447 : (Jvm.Cond.code ({ cls := "AlgolMill$Parser", name := "variable", desc := "()LAlgolMill$Wrong;" } : Jvm.MethodName) prog_23_method_35_code (1 : Nat) (Option.some (Jvm.ClassFile.FieldType.object "AlgolMill$Wrong"))) ∈ lw_all := lw_g (lw_at lw_m6 66 rfl) rfl
theorem q1448 : (Jvm.Cond.classLink "AlgolMill$Parser" (372 : Nat) "AlgolMill$Loop") ∈ lw_all := lw_g (lw_at lw_m6 67 rfl) rfl
theorem q1450 : (Jvm.Cond.methodLink "AlgolMill$Parser" (374 : Nat) ({ cls := "AlgolMill$Loop", name := "<init>", desc := "(LAlgolMill$Name;LAlgolMill$Routine;I)V" } : Jvm.MethodName)) ∈ lw_all := lw_g (lw_at lw_m6 69 rfl) rfl
theorem q1476 : (Jvm.Cond.methodLink "AlgolMill$Parser" (377 : Nat) ({ cls := "AlgolMill$Routine", name := "loop", desc := "(I)V" } : Jvm.MethodName)) ∈ lw_all := lw_g (lw_at lw_m6 95 rfl) rfl
theorem q1480 : (Jvm.Cond.methodLink "AlgolMill$Parser" (379 : Nat) ({ cls := "AlgolMill$Parser", name := "element", desc := "()LAlgolMill$Element;" } : Jvm.MethodName)) ∈ lw_all := lw_g (lw_at lw_m6 99 rfl) rfl
theorem q1481 : (Jvm.Cond.privateMethod ({ cls := "AlgolMill$Parser", name := "element", desc := "()LAlgolMill$Element;" } : Jvm.MethodName)) ∈ lw_tbl := lw_at lw_m6 100 rfl
theorem q1482 : (Jvm.Cond.instanceMethod ({ cls := "AlgolMill$Parser", name := "element", desc := "()LAlgolMill$Element;" } : Jvm.MethodName)) ∈ lw_all := lw_g (lw_at lw_m6 101 rfl) rfl
theorem q1483 : (Jvm.Cond.code ({ cls := "AlgolMill$Parser", name := "element", desc := "()LAlgolMill$Element;" } : Jvm.MethodName) prog_23_method_36_code (3 : Nat) (Option.some (Jvm.ClassFile.FieldType.object "AlgolMill$Element"))) ∈ lw_all := lw_g (lw_at lw_m6 102 rfl) rfl
theorem q1484 : (Jvm.Cond.classLink "AlgolMill$Parser" (389 : Nat) "AlgolMill$Element") ∈ lw_all := lw_g (lw_at lw_m6 103 rfl) rfl
theorem q1486 : (Jvm.Cond.methodLink "AlgolMill$Parser" (391 : Nat) ({ cls := "AlgolMill$Element", name := "<init>", desc := "(LAlgolMill$Expr;LAlgolMill$Expr;LAlgolMill$Expr;)V" } : Jvm.MethodName)) ∈ lw_all := lw_g (lw_at lw_m6 105 rfl) rfl
theorem q1500 : (Jvm.Cond.methodLink "AlgolMill$Parser" (383 : Nat) ({ cls := "AlgolMill$Loop", name := "add", desc := "(LAlgolMill$Element;)V" } : Jvm.MethodName)) ∈ lw_all := lw_g (lw_at lw_m6 119 rfl) rfl
theorem q1504 : (Jvm.Cond.methodLink "AlgolMill$Parser" (386 : Nat) ({ cls := "AlgolMill$Loop", name := "body", desc := "(LAlgolMill$Inner;)V" } : Jvm.MethodName)) ∈ lw_all := lw_g (lw_at lw_m6 123 rfl) rfl
theorem q1508 : (Jvm.Cond.classLink "AlgolMill$Parser" (329 : Nat) "AlgolMill$Nothing") ∈ lw_all := lw_g (lw_at lw_m6 127 rfl) rfl
theorem q1510 : (Jvm.Cond.methodLinkNest "AlgolMill$Parser" (331 : Nat) ({ cls := "AlgolMill$Nothing", name := "<init>", desc := "()V" } : Jvm.MethodName) "AlgolMill") ∈ lw_tbl := lw_at lw_m6 129 rfl
theorem q1516 : (Jvm.Cond.methodLink "AlgolMill$Parser" (172 : Nat) ({ cls := "AlgolMill$Parser", name := "choices", desc := "(LAlgolMill$Block;)V" } : Jvm.MethodName)) ∈ lw_all := lw_g (lw_at lw_m6 135 rfl) rfl
theorem q1517 : (Jvm.Cond.privateMethod ({ cls := "AlgolMill$Parser", name := "choices", desc := "(LAlgolMill$Block;)V" } : Jvm.MethodName)) ∈ lw_tbl := lw_at lw_m6 136 rfl
theorem q1518 : (Jvm.Cond.instanceMethod ({ cls := "AlgolMill$Parser", name := "choices", desc := "(LAlgolMill$Block;)V" } : Jvm.MethodName)) ∈ lw_all := lw_g (lw_at lw_m6 137 rfl) rfl
theorem q1519 : (Jvm.Cond.code ({ cls := "AlgolMill$Parser", name := "choices", desc := "(LAlgolMill$Block;)V" } : Jvm.MethodName) prog_23_method_19_code (3 : Nat) (Option.none : Option Jvm.ClassFile.FieldType)) ∈ lw_all := lw_g (lw_at lw_m6 138 rfl) rfl
theorem q1520 : (Jvm.Cond.classLink "AlgolMill$Parser" (226 : Nat) "AlgolMill$Switch") ∈ lw_all := lw_g (lw_at lw_m6 139 rfl) rfl
theorem q1522 : (Jvm.Cond.methodLinkNest "AlgolMill$Parser" (228 : Nat) ({ cls := "AlgolMill$Switch", name := "<init>", desc := "()V" } : Jvm.MethodName) "AlgolMill") ∈ lw_tbl := lw_at lw_m6 141 rfl
theorem q1531 : (Jvm.Cond.fieldLink "AlgolMill$Parser" (234 : Nat) "AlgolMill$Switch" "aims" "LAlgolMill$Exprs;") ∈ lw_all := lw_g (lw_at lw_m6 150 rfl) rfl
theorem q1538 : (Jvm.Cond.methodLink "AlgolMill$Parser" (232 : Nat) ({ cls := "AlgolMill$Block", name := "choices", desc := "(LAlgolMill$Thing;)V" } : Jvm.MethodName)) ∈ lw_all := lw_g (lw_at lw_m6 157 rfl) rfl
theorem q1542 : (Jvm.Cond.methodLink "AlgolMill$Parser" (176 : Nat) ({ cls := "AlgolMill$Parser", name := "variables", desc := "(LAlgolMill$Block;IZ)V" } : Jvm.MethodName)) ∈ lw_all := lw_g (lw_at lw_m6 161 rfl) rfl
theorem q1543 : (Jvm.Cond.privateMethod ({ cls := "AlgolMill$Parser", name := "variables", desc := "(LAlgolMill$Block;IZ)V" } : Jvm.MethodName)) ∈ lw_tbl := lw_at lw_m6 162 rfl
theorem q1544 : (Jvm.Cond.instanceMethod ({ cls := "AlgolMill$Parser", name := "variables", desc := "(LAlgolMill$Block;IZ)V" } : Jvm.MethodName)) ∈ lw_all := lw_g (lw_at lw_m6 163 rfl) rfl
theorem q1545 : (Jvm.Cond.code ({ cls := "AlgolMill$Parser", name := "variables", desc := "(LAlgolMill$Block;IZ)V" } : Jvm.MethodName) prog_23_method_16_code (7 : Nat) (Option.none : Option Jvm.ClassFile.FieldType)) ∈ lw_all := lw_g (lw_at lw_m6 164 rfl) rfl
theorem q1546 : (Jvm.Cond.methodLink "AlgolMill$Parser" (196 : Nat) ({ cls := "AlgolMill$Block", name := "variable", desc := "(LAlgolMill$Thing;)V" } : Jvm.MethodName)) ∈ lw_all := lw_g (lw_at lw_m6 165 rfl) rfl
theorem q1550 : (Jvm.Cond.methodLink "AlgolMill$Parser" (301 : Nat) ({ cls := "AlgolMill$Block", name := "add", desc := "(LAlgolMill$Statement;)V" } : Jvm.MethodName)) ∈ lw_all := lw_g (lw_at lw_m6 169 rfl) rfl
theorem q1791 : (Jvm.Cond.instanceMethod ({ cls := "AlgolMill$Parser", name := "faultNumber", desc := "()I" } : Jvm.MethodName)) ∈ lw_all := lw_g (lw_at lw_m7 170 rfl) rfl
theorem q1792 : (Jvm.Cond.selects "AlgolMill$Parser" ({ cls := "AlgolMill$Parser", name := "faultNumber", desc := "()I" } : Jvm.MethodName) ({ cls := "AlgolMill$Parser", name := "faultNumber", desc := "()I" } : Jvm.MethodName)) ∈ lw_all := lw_g (lw_at lw_m7 171 rfl) rfl
theorem q1793 : (Jvm.Cond.code ({ cls := "AlgolMill$Parser", name := "faultNumber", desc := "()I" } : Jvm.MethodName) prog_23_method_3_code (1 : Nat) (Option.some Jvm.ClassFile.FieldType.int)) ∈ lw_all := lw_g (lw_at lw_m7 172 rfl) rfl
theorem q1795 : (Jvm.Cond.instanceMethod ({ cls := "AlgolMill$Parser", name := "faultPlace", desc := "()I" } : Jvm.MethodName)) ∈ lw_all := lw_g (lw_at lw_m7 174 rfl) rfl
theorem q1796 : (Jvm.Cond.selects "AlgolMill$Parser" ({ cls := "AlgolMill$Parser", name := "faultPlace", desc := "()I" } : Jvm.MethodName) ({ cls := "AlgolMill$Parser", name := "faultPlace", desc := "()I" } : Jvm.MethodName)) ∈ lw_all := lw_g (lw_at lw_m7 175 rfl) rfl
theorem q1797 : (Jvm.Cond.code ({ cls := "AlgolMill$Parser", name := "faultPlace", desc := "()I" } : Jvm.MethodName) prog_23_method_4_code (1 : Nat) (Option.some Jvm.ClassFile.FieldType.int)) ∈ lw_all := lw_g (lw_at lw_m7 176 rfl) rfl
theorem q2275 : (Jvm.Cond.instanceMethod ({ cls := "AlgolMill$Parser", name := "routines", desc := "()I" } : Jvm.MethodName)) ∈ lw_all := lw_g (lw_at lw_m9 174 rfl) rfl
theorem q2276 : (Jvm.Cond.selects "AlgolMill$Parser" ({ cls := "AlgolMill$Parser", name := "routines", desc := "()I" } : Jvm.MethodName) ({ cls := "AlgolMill$Parser", name := "routines", desc := "()I" } : Jvm.MethodName)) ∈ lw_all := lw_g (lw_at lw_m9 175 rfl) rfl
theorem q2277 : (Jvm.Cond.code ({ cls := "AlgolMill$Parser", name := "routines", desc := "()I" } : Jvm.MethodName) prog_23_method_2_code (1 : Nat) (Option.some Jvm.ClassFile.FieldType.int)) ∈ lw_all := lw_g (lw_at lw_m9 176 rfl) rfl
theorem in_X2 : ∀ w ∈ wsX20, w ∈ lw_all := lw_in wsX20 [399, 401, 403, 405, 407, 409, 411, 413, 415, 417, 419] (by decide +kernel) (by decide +kernel)
/-! AlgolMill$Scanner -/
def RX3 : String := "AlgolMill$Scanner"
def TX3 : u_T := fun k => match k with
  | 0 => ("AlgolMill$Scanner", "text", "[B", true)
  | 1 => ("AlgolMill$Scanner", "size", "I", false)
  | 2 => ("AlgolMill$Scanner", "kinds", "LAlgolMill$Ints;", true)
  | 3 => ("AlgolMill$Scanner", "starts", "LAlgolMill$Ints;", true)
  | 4 => ("AlgolMill$Scanner", "lengths", "LAlgolMill$Ints;", true)
  | 5 => ("AlgolMill$Scanner", "values", "LAlgolMill$Longs;", true)
  | _ => ("AlgolMill$Scanner", "at", "I", false)
def tyX3 : Nat → FieldType := fun k => match k with
  | 0 => .array .byte
  | 1 => .int
  | 2 => .object "AlgolMill$Ints"
  | 3 => .object "AlgolMill$Ints"
  | 4 => .object "AlgolMill$Ints"
  | 5 => .object "AlgolMill$Longs"
  | _ => .int
abbrev wsX30 : List Cond := u_ws RX3 TX3 7
theorem nmX3 : ∀ a, a < 7 → ∀ b, b < 7 → a ≠ b → (TX3 a).2.1 ≠ (TX3 b).2.1 := by decide +kernel
theorem tyX3_ok : ∀ k, k < 7 → parseFieldDescriptor (TX3 k).2.2.1 = some (tyX3 k) := by decide +kernel
abbrev cX3_init : ByteArray := prog_28_method_1_code
def yX3_init : MethodName := ⟨RX3, "<init>", "()V"⟩
abbrev cX3_cut : ByteArray := prog_28_method_4_code
def yX3_cut : MethodName := ⟨RX3, "cut", "()V"⟩
abbrev cX3_look : ByteArray := prog_28_method_2_code
def yX3_look : MethodName := ⟨RX3, "look", "(I)I"⟩
abbrev cX3_one : ByteArray := prog_28_method_5_code
def yX3_one : MethodName := ⟨RX3, "one", "(I)V"⟩
abbrev cX3_word : ByteArray := prog_28_method_6_code
def yX3_word : MethodName := ⟨RX3, "word", "(I)I"⟩
abbrev cX3_token : ByteArray := prog_28_method_3_code
def yX3_token : MethodName := ⟨RX3, "token", "(IIJ)V"⟩
abbrev cX3_two : ByteArray := prog_28_method_7_code
def yX3_two : MethodName := ⟨RX3, "two", "(II)I"⟩
abbrev cX3_isSign : ByteArray := prog_28_method_8_code
def yX3_isSign : MethodName := ⟨RX3, "isSign", "(I)Z"⟩
abbrev cX3_same : ByteArray := prog_28_method_9_code
def yX3_same : MethodName := ⟨RX3, "same", "(II)Z"⟩
theorem q184 : (Jvm.Cond.initialized "AlgolMill$Scanner") ∈ lw_all := lw_g (lw_at lw_m1 3 rfl) rfl
theorem q248 : (Jvm.Cond.instantiable "AlgolMill$Scanner" (7 : Nat)) ∈ lw_all := lw_g (lw_at lw_m1 67 rfl) rfl
theorem q250 : (Jvm.Cond.instanceMethod ({ cls := "AlgolMill$Scanner", name := "<init>", desc := "()V" } : Jvm.MethodName)) ∈ lw_all := lw_g (lw_at lw_m1 69 rfl) rfl
theorem q251 : (Jvm.Cond.code ({ cls := "AlgolMill$Scanner", name := "<init>", desc := "()V" } : Jvm.MethodName) prog_28_method_1_code (1 : Nat) (Option.none : Option Jvm.ClassFile.FieldType)) ∈ lw_all := lw_g (lw_at lw_m1 70 rfl) rfl
theorem q252 : (Jvm.Cond.methodLink "AlgolMill$Scanner" (3 : Nat) ({ cls := "java/lang/Object", name := "<init>", desc := "()V" } : Jvm.MethodName)) ∈ lw_all := lw_g (lw_at lw_m1 71 rfl) rfl
theorem q253 : (Jvm.Cond.classLink "AlgolMill$Scanner" (15 : Nat) "AlgolMill$Ints") ∈ lw_all := lw_g (lw_at lw_m1 72 rfl) rfl
theorem q255 : (Jvm.Cond.methodLink "AlgolMill$Scanner" (17 : Nat) ({ cls := "AlgolMill$Ints", name := "<init>", desc := "(I)V" } : Jvm.MethodName)) ∈ lw_all := lw_g (lw_at lw_m1 74 rfl) rfl
theorem q271 : (Jvm.Cond.classLink "AlgolMill$Scanner" (30 : Nat) "AlgolMill$Longs") ∈ lw_all := lw_g (lw_at lw_m1 90 rfl) rfl
theorem q273 : (Jvm.Cond.methodLink "AlgolMill$Scanner" (32 : Nat) ({ cls := "AlgolMill$Longs", name := "<init>", desc := "(I)V" } : Jvm.MethodName)) ∈ lw_all := lw_g (lw_at lw_m1 92 rfl) rfl
theorem q288 : (Jvm.Cond.fieldLink "AlgolMill$Scanner" (11 : Nat) "AlgolMill$Scanner" "text" "[B") ∈ lw_all := lw_g (lw_at lw_m1 107 rfl) rfl
theorem q290 : (Jvm.Cond.fieldLink "AlgolMill$Scanner" (41 : Nat) "AlgolMill$Scanner" "size" "I") ∈ lw_all := lw_g (lw_at lw_m1 109 rfl) rfl
theorem q292 : (Jvm.Cond.fieldLink "AlgolMill$Scanner" (20 : Nat) "AlgolMill$Scanner" "kinds" "LAlgolMill$Ints;") ∈ lw_all := lw_g (lw_at lw_m1 111 rfl) rfl
theorem q294 : (Jvm.Cond.fieldLink "AlgolMill$Scanner" (24 : Nat) "AlgolMill$Scanner" "starts" "LAlgolMill$Ints;") ∈ lw_all := lw_g (lw_at lw_m1 113 rfl) rfl
theorem q296 : (Jvm.Cond.fieldLink "AlgolMill$Scanner" (27 : Nat) "AlgolMill$Scanner" "lengths" "LAlgolMill$Ints;") ∈ lw_all := lw_g (lw_at lw_m1 115 rfl) rfl
theorem q297 : (Jvm.Cond.fieldLink "AlgolMill$Scanner" (33 : Nat) "AlgolMill$Scanner" "values" "LAlgolMill$Longs;") ∈ lw_all := lw_g (lw_at lw_m1 116 rfl) rfl
theorem q299 : (Jvm.Cond.fieldLink "AlgolMill$Scanner" (37 : Nat) "AlgolMill$Scanner" "at" "I") ∈ lw_all := lw_g (lw_at lw_m1 118 rfl) rfl
theorem q300 : (Jvm.Cond.laysFinal "AlgolMill$Scanner" "AlgolMill$Scanner" "text" "[B") ∈ lw_all := lw_g (lw_at lw_m1 119 rfl) rfl
theorem q301 : (Jvm.Cond.soleField "AlgolMill$Scanner" "text") ∈ lw_all := lw_g (lw_at lw_m1 120 rfl) rfl
theorem q302 : (Jvm.Cond.lays "AlgolMill$Scanner" "AlgolMill$Scanner" "size" "I") ∈ lw_all := lw_g (lw_at lw_m1 121 rfl) rfl
theorem q303 : (Jvm.Cond.soleField "AlgolMill$Scanner" "size") ∈ lw_all := lw_g (lw_at lw_m1 122 rfl) rfl
theorem q304 : (Jvm.Cond.laysFinal "AlgolMill$Scanner" "AlgolMill$Scanner" "kinds" "LAlgolMill$Ints;") ∈ lw_all := lw_g (lw_at lw_m1 123 rfl) rfl
theorem q305 : (Jvm.Cond.soleField "AlgolMill$Scanner" "kinds") ∈ lw_all := lw_g (lw_at lw_m1 124 rfl) rfl
theorem q306 : (Jvm.Cond.laysFinal "AlgolMill$Scanner" "AlgolMill$Scanner" "starts" "LAlgolMill$Ints;") ∈ lw_all := lw_g (lw_at lw_m1 125 rfl) rfl
theorem q307 : (Jvm.Cond.soleField "AlgolMill$Scanner" "starts") ∈ lw_all := lw_g (lw_at lw_m1 126 rfl) rfl
theorem q308 : (Jvm.Cond.laysFinal "AlgolMill$Scanner" "AlgolMill$Scanner" "lengths" "LAlgolMill$Ints;") ∈ lw_all := lw_g (lw_at lw_m1 127 rfl) rfl
theorem q309 : (Jvm.Cond.soleField "AlgolMill$Scanner" "lengths") ∈ lw_all := lw_g (lw_at lw_m1 128 rfl) rfl
theorem q310 : (Jvm.Cond.laysFinal "AlgolMill$Scanner" "AlgolMill$Scanner" "values" "LAlgolMill$Longs;") ∈ lw_all := lw_g (lw_at lw_m1 129 rfl) rfl
theorem q311 : (Jvm.Cond.soleField "AlgolMill$Scanner" "values") ∈ lw_all := lw_g (lw_at lw_m1 130 rfl) rfl
theorem q312 : (Jvm.Cond.lays "AlgolMill$Scanner" "AlgolMill$Scanner" "at" "I") ∈ lw_all := lw_g (lw_at lw_m1 131 rfl) rfl
theorem q313 : (Jvm.Cond.soleField "AlgolMill$Scanner" "at") ∈ lw_all := lw_g (lw_at lw_m1 132 rfl) rfl
theorem q314 : (Jvm.Cond.superclass "AlgolMill$Scanner" "java/lang/Object") ∈ lw_all := lw_g (lw_at lw_m1 133 rfl) rfl
theorem q677 : (Jvm.Cond.instanceMethod ({ cls := "AlgolMill$Scanner", name := "cut", desc := "()V" } : Jvm.MethodName)) ∈ lw_all := lw_g (lw_at lw_m3 16 rfl) rfl
theorem q678 : (Jvm.Cond.selects "AlgolMill$Scanner" ({ cls := "AlgolMill$Scanner", name := "cut", desc := "()V" } : Jvm.MethodName) ({ cls := "AlgolMill$Scanner", name := "cut", desc := "()V" } : Jvm.MethodName)) ∈ lw_all := lw_g (lw_at lw_m3 17 rfl) rfl
theorem q679 : (Jvm.Cond.code ({ cls := "AlgolMill$Scanner", name := "cut", desc := "()V" } : Jvm.MethodName) prog_28_method_4_code (2 : Nat) (Option.none : Option Jvm.ClassFile.FieldType)) ∈ lw_all := lw_g (lw_at lw_m3 18 rfl) rfl
theorem q680 : (Jvm.Cond.methodLink "AlgolMill$Scanner" (50 : Nat) ({ cls := "AlgolMill$Ints", name := "clear", desc := "()V" } : Jvm.MethodName)) ∈ lw_all := lw_g (lw_at lw_m3 19 rfl) rfl
theorem q684 : (Jvm.Cond.methodLink "AlgolMill$Scanner" (53 : Nat) ({ cls := "AlgolMill$Longs", name := "clear", desc := "()V" } : Jvm.MethodName)) ∈ lw_all := lw_g (lw_at lw_m3 23 rfl) rfl
theorem q688 : (Jvm.Cond.methodLink "AlgolMill$Scanner" (54 : Nat) ({ cls := "AlgolMill$Scanner", name := "look", desc := "(I)I" } : Jvm.MethodName)) ∈ lw_all := lw_g (lw_at lw_m3 27 rfl) rfl
theorem q689 : (Jvm.Cond.privateMethod ({ cls := "AlgolMill$Scanner", name := "look", desc := "(I)I" } : Jvm.MethodName)) ∈ lw_tbl := lw_at lw_m3 28 rfl
theorem q690 : (Jvm.Cond.instanceMethod ({ cls := "AlgolMill$Scanner", name := "look", desc := "(I)I" } : Jvm.MethodName)) ∈ lw_all := lw_g (lw_at lw_m3 29 rfl) rfl
theorem q691 : (Jvm.Cond.code ({ cls := "AlgolMill$Scanner", name := "look", desc := "(I)I" } : Jvm.MethodName) prog_28_method_2_code (2 : Nat) (Option.some Jvm.ClassFile.FieldType.int)) ∈ lw_all := lw_g (lw_at lw_m3 30 rfl) rfl
theorem q692 : (Jvm.Cond.methodLink "AlgolMill$Scanner" (58 : Nat) ({ cls := "AlgolMill$Scanner", name := "one", desc := "(I)V" } : Jvm.MethodName)) ∈ lw_all := lw_g (lw_at lw_m3 31 rfl) rfl
theorem q693 : (Jvm.Cond.privateMethod ({ cls := "AlgolMill$Scanner", name := "one", desc := "(I)V" } : Jvm.MethodName)) ∈ lw_tbl := lw_at lw_m3 32 rfl
theorem q694 : (Jvm.Cond.instanceMethod ({ cls := "AlgolMill$Scanner", name := "one", desc := "(I)V" } : Jvm.MethodName)) ∈ lw_all := lw_g (lw_at lw_m3 33 rfl) rfl
theorem q695 : (Jvm.Cond.code ({ cls := "AlgolMill$Scanner", name := "one", desc := "(I)V" } : Jvm.MethodName) prog_28_method_5_code (5 : Nat) (Option.none : Option Jvm.ClassFile.FieldType)) ∈ lw_all := lw_g (lw_at lw_m3 34 rfl) rfl
theorem q696 : (Jvm.Cond.constantLong "AlgolMill$Scanner" (65 : Nat) (97 : Int64)) ∈ lw_all := lw_g (lw_at lw_m3 35 rfl) rfl
theorem q697 : (Jvm.Cond.constantLong "AlgolMill$Scanner" (67 : Nat) (122 : Int64)) ∈ lw_all := lw_g (lw_at lw_m3 36 rfl) rfl
theorem q698 : (Jvm.Cond.methodLinkNest "AlgolMill$Scanner" (69 : Nat) ({ cls := "AlgolMill", name := "in", desc := "(JJJ)Z" } : Jvm.MethodName) "AlgolMill") ∈ lw_tbl := lw_at lw_m3 37 rfl
theorem q699 : (Jvm.Cond.constantLong "AlgolMill$Scanner" (73 : Nat) (48 : Int64)) ∈ lw_all := lw_g (lw_at lw_m3 38 rfl) rfl
theorem q700 : (Jvm.Cond.constantLong "AlgolMill$Scanner" (75 : Nat) (57 : Int64)) ∈ lw_all := lw_g (lw_at lw_m3 39 rfl) rfl
theorem q701 : (Jvm.Cond.methodLink "AlgolMill$Scanner" (77 : Nat) ({ cls := "AlgolMill$Scanner", name := "word", desc := "(I)I" } : Jvm.MethodName)) ∈ lw_all := lw_g (lw_at lw_m3 40 rfl) rfl
theorem q702 : (Jvm.Cond.privateMethod ({ cls := "AlgolMill$Scanner", name := "word", desc := "(I)I" } : Jvm.MethodName)) ∈ lw_tbl := lw_at lw_m3 41 rfl
theorem q703 : (Jvm.Cond.instanceMethod ({ cls := "AlgolMill$Scanner", name := "word", desc := "(I)I" } : Jvm.MethodName)) ∈ lw_all := lw_g (lw_at lw_m3 42 rfl) rfl
theorem q704 : (Jvm.Cond.code ({ cls := "AlgolMill$Scanner", name := "word", desc := "(I)I" } : Jvm.MethodName) prog_28_method_6_code (7 : Nat) (Option.some Jvm.ClassFile.FieldType.int)) ∈ lw_all := lw_g (lw_at lw_m3 43 rfl) rfl
theorem q705 : (Jvm.Cond.stringRef "AlgolMill$Scanner" (92 : Nat) "begin end own integer boolean array procedure value label switch goto if then else for do step until while true false and or impl equiv not div mod print ") ∈ lw_tbl := lw_at lw_m3 44 rfl
theorem q706 : (Jvm.Cond.methodLink "AlgolMill$Scanner" (94 : Nat) ({ cls := "java/lang/String", name := "length", desc := "()I" } : Jvm.MethodName)) ∈ lw_all := lw_g (lw_at lw_m3 45 rfl) rfl
theorem q716 : (Jvm.Cond.methodLink "AlgolMill$Scanner" (100 : Nat) ({ cls := "java/lang/String", name := "charAt", desc := "(I)C" } : Jvm.MethodName)) ∈ lw_all := lw_g (lw_at lw_m3 55 rfl) rfl
theorem q754 : (Jvm.Cond.methodLink "AlgolMill$Scanner" (61 : Nat) ({ cls := "AlgolMill$Scanner", name := "token", desc := "(IIJ)V" } : Jvm.MethodName)) ∈ lw_all := lw_g (lw_at lw_m3 93 rfl) rfl
theorem q755 : (Jvm.Cond.privateMethod ({ cls := "AlgolMill$Scanner", name := "token", desc := "(IIJ)V" } : Jvm.MethodName)) ∈ lw_tbl := lw_at lw_m3 94 rfl
theorem q756 : (Jvm.Cond.instanceMethod ({ cls := "AlgolMill$Scanner", name := "token", desc := "(IIJ)V" } : Jvm.MethodName)) ∈ lw_all := lw_g (lw_at lw_m3 95 rfl) rfl
theorem q757 : (Jvm.Cond.code ({ cls := "AlgolMill$Scanner", name := "token", desc := "(IIJ)V" } : Jvm.MethodName) prog_28_method_3_code (5 : Nat) (Option.none : Option Jvm.ClassFile.FieldType)) ∈ lw_all := lw_g (lw_at lw_m3 96 rfl) rfl
theorem q758 : (Jvm.Cond.methodLink "AlgolMill$Scanner" (44 : Nat) ({ cls := "AlgolMill$Ints", name := "add", desc := "(I)V" } : Jvm.MethodName)) ∈ lw_all := lw_g (lw_at lw_m3 97 rfl) rfl
theorem q765 : (Jvm.Cond.methodLink "AlgolMill$Scanner" (47 : Nat) ({ cls := "AlgolMill$Longs", name := "add", desc := "(J)V" } : Jvm.MethodName)) ∈ lw_all := lw_g (lw_at lw_m3 104 rfl) rfl
theorem q770 : (Jvm.Cond.constantLong "AlgolMill$Scanner" (80 : Nat) (34359738367 : Int64)) ∈ lw_all := lw_g (lw_at lw_m3 109 rfl) rfl
theorem q771 : (Jvm.Cond.constantLong "AlgolMill$Scanner" (82 : Nat) (10 : Int64)) ∈ lw_all := lw_g (lw_at lw_m3 110 rfl) rfl
theorem q772 : (Jvm.Cond.methodLink "AlgolMill$Scanner" (84 : Nat) ({ cls := "AlgolMill$Scanner", name := "two", desc := "(II)I" } : Jvm.MethodName)) ∈ lw_all := lw_g (lw_at lw_m3 111 rfl) rfl
theorem q773 : (Jvm.Cond.static ({ cls := "AlgolMill$Scanner", name := "two", desc := "(II)I" } : Jvm.MethodName)) ∈ lw_all := lw_g (lw_at lw_m3 112 rfl) rfl
theorem q774 : (Jvm.Cond.code ({ cls := "AlgolMill$Scanner", name := "two", desc := "(II)I" } : Jvm.MethodName) prog_28_method_7_code (2 : Nat) (Option.some Jvm.ClassFile.FieldType.int)) ∈ lw_all := lw_g (lw_at lw_m3 113 rfl) rfl
theorem q775 : (Jvm.Cond.methodLink "AlgolMill$Scanner" (88 : Nat) ({ cls := "AlgolMill$Scanner", name := "isSign", desc := "(I)Z" } : Jvm.MethodName)) ∈ lw_all := lw_g (lw_at lw_m3 114 rfl) rfl
theorem q776 : (Jvm.Cond.static ({ cls := "AlgolMill$Scanner", name := "isSign", desc := "(I)Z" } : Jvm.MethodName)) ∈ lw_all := lw_g (lw_at lw_m3 115 rfl) rfl
theorem q777 : (Jvm.Cond.code ({ cls := "AlgolMill$Scanner", name := "isSign", desc := "(I)Z" } : Jvm.MethodName) prog_28_method_8_code (1 : Nat) (Option.some Jvm.ClassFile.FieldType.boolean)) ∈ lw_all := lw_g (lw_at lw_m3 116 rfl) rfl
theorem q1088 : (Jvm.Cond.instanceMethod ({ cls := "AlgolMill$Scanner", name := "same", desc := "(II)Z" } : Jvm.MethodName)) ∈ lw_all := lw_g (lw_at lw_m4 187 rfl) rfl
theorem q1089 : (Jvm.Cond.selects "AlgolMill$Scanner" ({ cls := "AlgolMill$Scanner", name := "same", desc := "(II)Z" } : Jvm.MethodName) ({ cls := "AlgolMill$Scanner", name := "same", desc := "(II)Z" } : Jvm.MethodName)) ∈ lw_all := lw_g (lw_at lw_m4 188 rfl) rfl
theorem q1090 : (Jvm.Cond.code ({ cls := "AlgolMill$Scanner", name := "same", desc := "(II)Z" } : Jvm.MethodName) prog_28_method_9_code (4 : Nat) (Option.some Jvm.ClassFile.FieldType.boolean)) ∈ lw_all := lw_g (lw_at lw_m4 189 rfl) rfl
theorem q1091 : (Jvm.Cond.methodLink "AlgolMill$Scanner" (104 : Nat) ({ cls := "AlgolMill$Ints", name := "get", desc := "(I)I" } : Jvm.MethodName)) ∈ lw_all := lw_g (lw_at lw_m4 190 rfl) rfl
theorem in_X3 : ∀ w ∈ wsX30, w ∈ lw_all := lw_in wsX30 [300, 302, 304, 306, 308, 310, 312] (by decide +kernel) (by decide +kernel)
/-! AlgolMill$Ints -/
def RX4 : String := "AlgolMill$Ints"
def TX4 : u_T := fun k => match k with
  | 0 => ("AlgolMill$Ints", "at", "[I", false)
  | _ => ("AlgolMill$Ints", "size", "I", false)
def tyX4 : Nat → FieldType := fun k => match k with
  | 0 => .array .int
  | _ => .int
abbrev wsX40 : List Cond := u_ws RX4 TX4 2
theorem nmX4 : ∀ a, a < 2 → ∀ b, b < 2 → a ≠ b → (TX4 a).2.1 ≠ (TX4 b).2.1 := by decide +kernel
theorem tyX4_ok : ∀ k, k < 2 → parseFieldDescriptor (TX4 k).2.2.1 = some (tyX4 k) := by decide +kernel
abbrev cX4_init : ByteArray := prog_16_method_1_code
def yX4_init : MethodName := ⟨RX4, "<init>", "(I)V"⟩
abbrev cX4_clear : ByteArray := prog_16_method_2_code
def yX4_clear : MethodName := ⟨RX4, "clear", "()V"⟩
abbrev cX4_add : ByteArray := prog_16_method_3_code
def yX4_add : MethodName := ⟨RX4, "add", "(I)V"⟩
abbrev cX4_get : ByteArray := prog_16_method_4_code
def yX4_get : MethodName := ⟨RX4, "get", "(I)I"⟩
abbrev cX4_set : ByteArray := prog_16_method_5_code
def yX4_set : MethodName := ⟨RX4, "set", "(II)V"⟩
theorem q185 : (Jvm.Cond.initialized "AlgolMill$Ints") ∈ lw_all := lw_g (lw_at lw_m1 4 rfl) rfl
theorem q254 : (Jvm.Cond.instantiable "AlgolMill$Ints" (2 : Nat)) ∈ lw_all := lw_g (lw_at lw_m1 73 rfl) rfl
theorem q256 : (Jvm.Cond.instanceMethod ({ cls := "AlgolMill$Ints", name := "<init>", desc := "(I)V" } : Jvm.MethodName)) ∈ lw_all := lw_g (lw_at lw_m1 75 rfl) rfl
theorem q257 : (Jvm.Cond.code ({ cls := "AlgolMill$Ints", name := "<init>", desc := "(I)V" } : Jvm.MethodName) prog_16_method_1_code (2 : Nat) (Option.none : Option Jvm.ClassFile.FieldType)) ∈ lw_all := lw_g (lw_at lw_m1 76 rfl) rfl
theorem q258 : (Jvm.Cond.methodLink "AlgolMill$Ints" (1 : Nat) ({ cls := "java/lang/Object", name := "<init>", desc := "()V" } : Jvm.MethodName)) ∈ lw_all := lw_g (lw_at lw_m1 77 rfl) rfl
theorem q259 : (Jvm.Cond.fieldLink "AlgolMill$Ints" (7 : Nat) "AlgolMill$Ints" "at" "[I") ∈ lw_all := lw_g (lw_at lw_m1 78 rfl) rfl
theorem q260 : (Jvm.Cond.fieldLink "AlgolMill$Ints" (13 : Nat) "AlgolMill$Ints" "size" "I") ∈ lw_all := lw_g (lw_at lw_m1 79 rfl) rfl
theorem q264 : (Jvm.Cond.lays "AlgolMill$Ints" "AlgolMill$Ints" "at" "[I") ∈ lw_all := lw_g (lw_at lw_m1 83 rfl) rfl
theorem q265 : (Jvm.Cond.soleField "AlgolMill$Ints" "at") ∈ lw_all := lw_g (lw_at lw_m1 84 rfl) rfl
theorem q266 : (Jvm.Cond.lays "AlgolMill$Ints" "AlgolMill$Ints" "size" "I") ∈ lw_all := lw_g (lw_at lw_m1 85 rfl) rfl
theorem q267 : (Jvm.Cond.soleField "AlgolMill$Ints" "size") ∈ lw_all := lw_g (lw_at lw_m1 86 rfl) rfl
theorem q268 : (Jvm.Cond.superclass "AlgolMill$Ints" "java/lang/Object") ∈ lw_all := lw_g (lw_at lw_m1 87 rfl) rfl
theorem q681 : (Jvm.Cond.instanceMethod ({ cls := "AlgolMill$Ints", name := "clear", desc := "()V" } : Jvm.MethodName)) ∈ lw_all := lw_g (lw_at lw_m3 20 rfl) rfl
theorem q682 : (Jvm.Cond.selects "AlgolMill$Ints" ({ cls := "AlgolMill$Ints", name := "clear", desc := "()V" } : Jvm.MethodName) ({ cls := "AlgolMill$Ints", name := "clear", desc := "()V" } : Jvm.MethodName)) ∈ lw_all := lw_g (lw_at lw_m3 21 rfl) rfl
theorem q683 : (Jvm.Cond.code ({ cls := "AlgolMill$Ints", name := "clear", desc := "()V" } : Jvm.MethodName) prog_16_method_2_code (1 : Nat) (Option.none : Option Jvm.ClassFile.FieldType)) ∈ lw_all := lw_g (lw_at lw_m3 22 rfl) rfl
theorem q759 : (Jvm.Cond.instanceMethod ({ cls := "AlgolMill$Ints", name := "add", desc := "(I)V" } : Jvm.MethodName)) ∈ lw_all := lw_g (lw_at lw_m3 98 rfl) rfl
theorem q760 : (Jvm.Cond.selects "AlgolMill$Ints" ({ cls := "AlgolMill$Ints", name := "add", desc := "(I)V" } : Jvm.MethodName) ({ cls := "AlgolMill$Ints", name := "add", desc := "(I)V" } : Jvm.MethodName)) ∈ lw_all := lw_g (lw_at lw_m3 99 rfl) rfl
theorem q761 : (Jvm.Cond.code ({ cls := "AlgolMill$Ints", name := "add", desc := "(I)V" } : Jvm.MethodName) prog_16_method_3_code (3 : Nat) (Option.none : Option Jvm.ClassFile.FieldType)) ∈ lw_all := lw_g (lw_at lw_m3 100 rfl) rfl
theorem q762 : (Jvm.Cond.methodLink "AlgolMill$Ints" (17 : Nat) ({ cls := "java/lang/System", name := "arraycopy", desc := "(Ljava/lang/Object;ILjava/lang/Object;II)V" } : Jvm.MethodName)) ∈ lw_all := lw_g (lw_at lw_m3 101 rfl) rfl
theorem q872 : (Jvm.Cond.instanceMethod ({ cls := "AlgolMill$Ints", name := "get", desc := "(I)I" } : Jvm.MethodName)) ∈ lw_all := lw_g (lw_at lw_m3 211 rfl) rfl
theorem q873 : (Jvm.Cond.selects "AlgolMill$Ints" ({ cls := "AlgolMill$Ints", name := "get", desc := "(I)I" } : Jvm.MethodName) ({ cls := "AlgolMill$Ints", name := "get", desc := "(I)I" } : Jvm.MethodName)) ∈ lw_all := lw_g (lw_at lw_m3 212 rfl) rfl
theorem q874 : (Jvm.Cond.code ({ cls := "AlgolMill$Ints", name := "get", desc := "(I)I" } : Jvm.MethodName) prog_16_method_4_code (2 : Nat) (Option.some Jvm.ClassFile.FieldType.int)) ∈ lw_all := lw_g (lw_at lw_m3 213 rfl) rfl
theorem q2074 : (Jvm.Cond.instanceMethod ({ cls := "AlgolMill$Ints", name := "set", desc := "(II)V" } : Jvm.MethodName)) ∈ lw_all := lw_g (lw_at lw_m8 213 rfl) rfl
theorem q2075 : (Jvm.Cond.selects "AlgolMill$Ints" ({ cls := "AlgolMill$Ints", name := "set", desc := "(II)V" } : Jvm.MethodName) ({ cls := "AlgolMill$Ints", name := "set", desc := "(II)V" } : Jvm.MethodName)) ∈ lw_all := lw_g (lw_at lw_m8 214 rfl) rfl
theorem q2076 : (Jvm.Cond.code ({ cls := "AlgolMill$Ints", name := "set", desc := "(II)V" } : Jvm.MethodName) prog_16_method_5_code (3 : Nat) (Option.none : Option Jvm.ClassFile.FieldType)) ∈ lw_all := lw_g (lw_at lw_m8 215 rfl) rfl
theorem in_X4 : ∀ w ∈ wsX40, w ∈ lw_all := lw_in wsX40 [264, 266] (by decide +kernel) (by decide +kernel)
/-! AlgolMill$Longs -/
def RX5 : String := "AlgolMill$Longs"
def TX5 : u_T := fun k => match k with
  | 0 => ("AlgolMill$Longs", "at", "[J", false)
  | _ => ("AlgolMill$Longs", "size", "I", false)
def tyX5 : Nat → FieldType := fun k => match k with
  | 0 => .array .long
  | _ => .int
abbrev wsX50 : List Cond := u_ws RX5 TX5 2
theorem nmX5 : ∀ a, a < 2 → ∀ b, b < 2 → a ≠ b → (TX5 a).2.1 ≠ (TX5 b).2.1 := by decide +kernel
theorem tyX5_ok : ∀ k, k < 2 → parseFieldDescriptor (TX5 k).2.2.1 = some (tyX5 k) := by decide +kernel
abbrev cX5_init : ByteArray := prog_17_method_1_code
def yX5_init : MethodName := ⟨RX5, "<init>", "(I)V"⟩
abbrev cX5_clear : ByteArray := prog_17_method_2_code
def yX5_clear : MethodName := ⟨RX5, "clear", "()V"⟩
abbrev cX5_add : ByteArray := prog_17_method_3_code
def yX5_add : MethodName := ⟨RX5, "add", "(J)V"⟩
abbrev cX5_get : ByteArray := prog_17_method_4_code
def yX5_get : MethodName := ⟨RX5, "get", "(I)J"⟩
abbrev cX5_set : ByteArray := prog_17_method_5_code
def yX5_set : MethodName := ⟨RX5, "set", "(IJ)V"⟩
theorem q186 : (Jvm.Cond.initialized "AlgolMill$Longs") ∈ lw_all := lw_g (lw_at lw_m1 5 rfl) rfl
theorem q272 : (Jvm.Cond.instantiable "AlgolMill$Longs" (2 : Nat)) ∈ lw_all := lw_g (lw_at lw_m1 91 rfl) rfl
theorem q274 : (Jvm.Cond.instanceMethod ({ cls := "AlgolMill$Longs", name := "<init>", desc := "(I)V" } : Jvm.MethodName)) ∈ lw_all := lw_g (lw_at lw_m1 93 rfl) rfl
theorem q275 : (Jvm.Cond.code ({ cls := "AlgolMill$Longs", name := "<init>", desc := "(I)V" } : Jvm.MethodName) prog_17_method_1_code (2 : Nat) (Option.none : Option Jvm.ClassFile.FieldType)) ∈ lw_all := lw_g (lw_at lw_m1 94 rfl) rfl
theorem q276 : (Jvm.Cond.methodLink "AlgolMill$Longs" (1 : Nat) ({ cls := "java/lang/Object", name := "<init>", desc := "()V" } : Jvm.MethodName)) ∈ lw_all := lw_g (lw_at lw_m1 95 rfl) rfl
theorem q277 : (Jvm.Cond.fieldLink "AlgolMill$Longs" (7 : Nat) "AlgolMill$Longs" "at" "[J") ∈ lw_all := lw_g (lw_at lw_m1 96 rfl) rfl
theorem q278 : (Jvm.Cond.fieldLink "AlgolMill$Longs" (13 : Nat) "AlgolMill$Longs" "size" "I") ∈ lw_all := lw_g (lw_at lw_m1 97 rfl) rfl
theorem q282 : (Jvm.Cond.lays "AlgolMill$Longs" "AlgolMill$Longs" "at" "[J") ∈ lw_all := lw_g (lw_at lw_m1 101 rfl) rfl
theorem q283 : (Jvm.Cond.soleField "AlgolMill$Longs" "at") ∈ lw_all := lw_g (lw_at lw_m1 102 rfl) rfl
theorem q284 : (Jvm.Cond.lays "AlgolMill$Longs" "AlgolMill$Longs" "size" "I") ∈ lw_all := lw_g (lw_at lw_m1 103 rfl) rfl
theorem q285 : (Jvm.Cond.soleField "AlgolMill$Longs" "size") ∈ lw_all := lw_g (lw_at lw_m1 104 rfl) rfl
theorem q286 : (Jvm.Cond.superclass "AlgolMill$Longs" "java/lang/Object") ∈ lw_all := lw_g (lw_at lw_m1 105 rfl) rfl
theorem q685 : (Jvm.Cond.instanceMethod ({ cls := "AlgolMill$Longs", name := "clear", desc := "()V" } : Jvm.MethodName)) ∈ lw_all := lw_g (lw_at lw_m3 24 rfl) rfl
theorem q686 : (Jvm.Cond.selects "AlgolMill$Longs" ({ cls := "AlgolMill$Longs", name := "clear", desc := "()V" } : Jvm.MethodName) ({ cls := "AlgolMill$Longs", name := "clear", desc := "()V" } : Jvm.MethodName)) ∈ lw_all := lw_g (lw_at lw_m3 25 rfl) rfl
theorem q687 : (Jvm.Cond.code ({ cls := "AlgolMill$Longs", name := "clear", desc := "()V" } : Jvm.MethodName) prog_17_method_2_code (1 : Nat) (Option.none : Option Jvm.ClassFile.FieldType)) ∈ lw_all := lw_g (lw_at lw_m3 26 rfl) rfl
theorem q766 : (Jvm.Cond.instanceMethod ({ cls := "AlgolMill$Longs", name := "add", desc := "(J)V" } : Jvm.MethodName)) ∈ lw_all := lw_g (lw_at lw_m3 105 rfl) rfl
theorem q767 : (Jvm.Cond.selects "AlgolMill$Longs" ({ cls := "AlgolMill$Longs", name := "add", desc := "(J)V" } : Jvm.MethodName) ({ cls := "AlgolMill$Longs", name := "add", desc := "(J)V" } : Jvm.MethodName)) ∈ lw_all := lw_g (lw_at lw_m3 106 rfl) rfl
theorem q768 : (Jvm.Cond.code ({ cls := "AlgolMill$Longs", name := "add", desc := "(J)V" } : Jvm.MethodName) prog_17_method_3_code (4 : Nat) (Option.none : Option Jvm.ClassFile.FieldType)) ∈ lw_all := lw_g (lw_at lw_m3 107 rfl) rfl
theorem q769 : (Jvm.Cond.methodLink "AlgolMill$Longs" (17 : Nat) ({ cls := "java/lang/System", name := "arraycopy", desc := "(Ljava/lang/Object;ILjava/lang/Object;II)V" } : Jvm.MethodName)) ∈ lw_all := lw_g (lw_at lw_m3 108 rfl) rfl
theorem q1155 : (Jvm.Cond.instanceMethod ({ cls := "AlgolMill$Longs", name := "get", desc := "(I)J" } : Jvm.MethodName)) ∈ lw_all := lw_g (lw_at lw_m5 14 rfl) rfl
theorem q1156 : (Jvm.Cond.selects "AlgolMill$Longs" ({ cls := "AlgolMill$Longs", name := "get", desc := "(I)J" } : Jvm.MethodName) ({ cls := "AlgolMill$Longs", name := "get", desc := "(I)J" } : Jvm.MethodName)) ∈ lw_all := lw_g (lw_at lw_m5 15 rfl) rfl
theorem q1157 : (Jvm.Cond.code ({ cls := "AlgolMill$Longs", name := "get", desc := "(I)J" } : Jvm.MethodName) prog_17_method_4_code (2 : Nat) (Option.some Jvm.ClassFile.FieldType.long)) ∈ lw_all := lw_g (lw_at lw_m5 16 rfl) rfl
theorem q2022 : (Jvm.Cond.instanceMethod ({ cls := "AlgolMill$Longs", name := "set", desc := "(IJ)V" } : Jvm.MethodName)) ∈ lw_all := lw_g (lw_at lw_m8 161 rfl) rfl
theorem q2023 : (Jvm.Cond.selects "AlgolMill$Longs" ({ cls := "AlgolMill$Longs", name := "set", desc := "(IJ)V" } : Jvm.MethodName) ({ cls := "AlgolMill$Longs", name := "set", desc := "(IJ)V" } : Jvm.MethodName)) ∈ lw_all := lw_g (lw_at lw_m8 162 rfl) rfl
theorem q2024 : (Jvm.Cond.code ({ cls := "AlgolMill$Longs", name := "set", desc := "(IJ)V" } : Jvm.MethodName) prog_17_method_5_code (4 : Nat) (Option.none : Option Jvm.ClassFile.FieldType)) ∈ lw_all := lw_g (lw_at lw_m8 163 rfl) rfl
theorem in_X5 : ∀ w ∈ wsX50, w ∈ lw_all := lw_in wsX50 [282, 284] (by decide +kernel) (by decide +kernel)
/-! AlgolMill$Wrong -/
def RX6 : String := "AlgolMill$Wrong"
def TX6 : u_T := fun k => match k with
  | 0 => ("java/lang/Throwable", "cause", "Ljava/lang/Throwable;", false)
  | 1 => ("java/lang/Throwable", "stackTrace", "[Ljava/lang/StackTraceElement;", false)
  | 2 => ("java/lang/Throwable", "suppressedExceptions", "Ljava/util/List;", false)
  | 3 => ("java/lang/Throwable", "detailMessage", "Ljava/lang/String;", false)
  | 4 => ("java/lang/Throwable", "backtrace", "Ljava/lang/Object;", false)
  | 5 => ("java/lang/Throwable", "depth", "I", false)
  | _ => ("AlgolMill$Wrong", "place", "I", false)
def tyX6 : Nat → FieldType := fun k => match k with
  | 0 => .object "java/lang/Throwable"
  | 1 => .array (.object "java/lang/StackTraceElement")
  | 2 => .object "java/util/List"
  | 3 => .object "java/lang/String"
  | 4 => .object "java/lang/Object"
  | 5 => .int
  | _ => .int
abbrev wsX60 : List Cond := u_ws RX6 TX6 7
theorem nmX6 : ∀ a, a < 7 → ∀ b, b < 7 → a ≠ b → (TX6 a).2.1 ≠ (TX6 b).2.1 := by decide +kernel
theorem tyX6_ok : ∀ k, k < 7 → parseFieldDescriptor (TX6 k).2.2.1 = some (tyX6 k) := by decide +kernel
abbrev cX6_init : ByteArray := prog_36_method_1_code
def yX6_init : MethodName := ⟨RX6, "<init>", "()V"⟩
theorem q190 : (Jvm.Cond.initialized "AlgolMill$Wrong") ∈ lw_all := lw_g (lw_at lw_m1 9 rfl) rfl
theorem q316 : (Jvm.Cond.instantiable "AlgolMill$Wrong" (7 : Nat)) ∈ lw_all := lw_g (lw_at lw_m1 135 rfl) rfl
theorem q317 : (Jvm.Cond.castable "AlgolMill$Wrong" "AlgolMill$Wrong") ∈ lw_tbl := lw_at lw_m1 136 rfl
theorem q324 : (Jvm.Cond.selects "AlgolMill$Wrong" ({ cls := "java/lang/Throwable", name := "fillInStackTrace", desc := "(I)Ljava/lang/Throwable;" } : Jvm.MethodName) ({ cls := "java/lang/Throwable", name := "fillInStackTrace", desc := "(I)Ljava/lang/Throwable;" } : Jvm.MethodName)) ∈ lw_all := lw_g (lw_at lw_m1 143 rfl) rfl
theorem q325 : (Jvm.Cond.selects "AlgolMill$Wrong" ({ cls := "java/lang/Throwable", name := "fillInStackTrace", desc := "()Ljava/lang/Throwable;" } : Jvm.MethodName) ({ cls := "java/lang/Throwable", name := "fillInStackTrace", desc := "()Ljava/lang/Throwable;" } : Jvm.MethodName)) ∈ lw_all := lw_g (lw_at lw_m1 144 rfl) rfl
theorem q326 : (Jvm.Cond.lays "AlgolMill$Wrong" "java/lang/Throwable" "cause" "Ljava/lang/Throwable;") ∈ lw_all := lw_g (lw_at lw_m1 145 rfl) rfl
theorem q328 : (Jvm.Cond.lays "AlgolMill$Wrong" "java/lang/Throwable" "stackTrace" "[Ljava/lang/StackTraceElement;") ∈ lw_all := lw_g (lw_at lw_m1 147 rfl) rfl
theorem q330 : (Jvm.Cond.lays "AlgolMill$Wrong" "java/lang/Throwable" "suppressedExceptions" "Ljava/util/List;") ∈ lw_all := lw_g (lw_at lw_m1 149 rfl) rfl
theorem q332 : (Jvm.Cond.lays "AlgolMill$Wrong" "java/lang/Throwable" "detailMessage" "Ljava/lang/String;") ∈ lw_all := lw_g (lw_at lw_m1 151 rfl) rfl
theorem q334 : (Jvm.Cond.lays "AlgolMill$Wrong" "java/lang/Throwable" "backtrace" "Ljava/lang/Object;") ∈ lw_all := lw_g (lw_at lw_m1 153 rfl) rfl
theorem q360 : (Jvm.Cond.instanceMethod ({ cls := "AlgolMill$Wrong", name := "<init>", desc := "()V" } : Jvm.MethodName)) ∈ lw_all := lw_g (lw_at lw_m1 179 rfl) rfl
theorem q361 : (Jvm.Cond.code ({ cls := "AlgolMill$Wrong", name := "<init>", desc := "()V" } : Jvm.MethodName) prog_36_method_1_code (1 : Nat) (Option.none : Option Jvm.ClassFile.FieldType)) ∈ lw_all := lw_g (lw_at lw_m1 180 rfl) rfl
theorem q362 : (Jvm.Cond.methodLink "AlgolMill$Wrong" (1 : Nat) ({ cls := "java/lang/RuntimeException", name := "<init>", desc := "()V" } : Jvm.MethodName)) ∈ lw_all := lw_g (lw_at lw_m1 181 rfl) rfl
theorem q375 : (Jvm.Cond.lays "AlgolMill$Wrong" "AlgolMill$Wrong" "place" "I") ∈ lw_all := lw_g (lw_at lw_m1 194 rfl) rfl
theorem q376 : (Jvm.Cond.soleField "AlgolMill$Wrong" "place") ∈ lw_all := lw_g (lw_at lw_m1 195 rfl) rfl
theorem q381 : (Jvm.Cond.lays "AlgolMill$Wrong" "java/lang/Throwable" "depth" "I") ∈ lw_all := lw_g (lw_at lw_m1 200 rfl) rfl
theorem q384 : (Jvm.Cond.superclass "AlgolMill$Wrong" "java/lang/RuntimeException") ∈ lw_all := lw_g (lw_at lw_m1 203 rfl) rfl
theorem in_X6 : ∀ w ∈ wsX60, w ∈ lw_all := lw_in wsX60 [326, 328, 330, 332, 334, 381, 375] (by decide +kernel) (by decide +kernel)
/-! AlgolMill$Coder -/
def RX7 : String := "AlgolMill$Coder"
def TX7 : u_T := fun k => match k with
  | 0 => ("AlgolMill$Coder", "words", "LAlgolMill$Longs;", true)
  | 1 => ("AlgolMill$Coder", "targets", "LAlgolMill$Ints;", true)
  | 2 => ("AlgolMill$Coder", "wanting", "LAlgolMill$Ints;", true)
  | 3 => ("AlgolMill$Coder", "wanted", "LAlgolMill$Ints;", true)
  | 4 => ("AlgolMill$Coder", "thunks", "[LAlgolMill$Thunk;", false)
  | 5 => ("AlgolMill$Coder", "thunkMany", "I", false)
  | 6 => ("AlgolMill$Coder", "laterThings", "LAlgolMill$Things;", true)
  | 7 => ("AlgolMill$Coder", "now", "LAlgolMill$Routine;", false)
  | 8 => ("AlgolMill$Coder", "use", "I", false)
  | 9 => ("AlgolMill$Coder", "chooser", "I", false)
  | 10 => ("AlgolMill$Coder", "failing", "I", false)
  | 11 => ("AlgolMill$Coder", "header", "I", false)
  | _ => ("AlgolMill$Coder", "going", "I", false)
def tyX7 : Nat → FieldType := fun k => match k with
  | 0 => .object "AlgolMill$Longs"
  | 1 => .object "AlgolMill$Ints"
  | 2 => .object "AlgolMill$Ints"
  | 3 => .object "AlgolMill$Ints"
  | 4 => .array (.object "AlgolMill$Thunk")
  | 5 => .int
  | 6 => .object "AlgolMill$Things"
  | 7 => .object "AlgolMill$Routine"
  | 8 => .int
  | 9 => .int
  | 10 => .int
  | 11 => .int
  | _ => .int
abbrev wsX70 : List Cond := u_ws RX7 TX7 13
theorem nmX7 : ∀ a, a < 13 → ∀ b, b < 13 → a ≠ b → (TX7 a).2.1 ≠ (TX7 b).2.1 := by decide +kernel
theorem tyX7_ok : ∀ k, k < 13 → parseFieldDescriptor (TX7 k).2.2.1 = some (tyX7 k) := by decide +kernel
abbrev cX7_init : ByteArray := prog_9_method_1_code
def yX7_init : MethodName := ⟨RX7, "<init>", "()V"⟩
abbrev cX7_make : ByteArray := prog_9_method_9_code
def yX7_make : MethodName := ⟨RX7, "make", "(LAlgolMill$Routine;I)V"⟩
abbrev cX7_target : ByteArray := prog_9_method_6_code
def yX7_target : MethodName := ⟨RX7, "target", "()I"⟩
abbrev cX7_op : ByteArray := prog_9_method_4_code
def yX7_op : MethodName := ⟨RX7, "op", "(IIII)V"⟩
abbrev cX7_word : ByteArray := prog_9_method_3_code
def yX7_word : MethodName := ⟨RX7, "word", "(IIII)J"⟩
abbrev cX7_later : ByteArray := prog_9_method_13_code
def yX7_later : MethodName := ⟨RX7, "later", "(LAlgolMill$Thing;)V"⟩
abbrev cX7_zero : ByteArray := prog_9_method_30_code
def yX7_zero : MethodName := ⟨RX7, "zero", "(I)V"⟩
abbrev cX7_keepTop : ByteArray := prog_9_method_35_code
def yX7_keepTop : MethodName := ⟨RX7, "keepTop", "(I)V"⟩
abbrev cX7_load : ByteArray := prog_9_method_17_code
def yX7_load : MethodName := ⟨RX7, "load", "(J)V"⟩
abbrev cX7_element : ByteArray := prog_9_method_33_code
def yX7_element : MethodName := ⟨RX7, "element", "(LAlgolMill$Name;)V"⟩
abbrev cX7_push : ByteArray := prog_9_method_18_code
def yX7_push : MethodName := ⟨RX7, "push", "()V"⟩
abbrev cX7_row : ByteArray := prog_9_method_32_code
def yX7_row : MethodName := ⟨RX7, "row", "(LAlgolMill$Thing;)V"⟩
abbrev cX7_place : ByteArray := prog_9_method_28_code
def yX7_place : MethodName := ⟨RX7, "place", "(LAlgolMill$Routine;I)V"⟩
abbrev cX7_frame : ByteArray := prog_9_method_27_code
def yX7_frame : MethodName := ⟨RX7, "frame", "(LAlgolMill$Routine;I)V"⟩
abbrev cX7_fetch : ByteArray := prog_9_method_22_code
def yX7_fetch : MethodName := ⟨RX7, "fetch", "()V"⟩
abbrev cX7_call : ByteArray := prog_9_method_43_code
def yX7_call : MethodName := ⟨RX7, "call", "(LAlgolMill$Name;)V"⟩
abbrev cX7_handed : ByteArray := prog_9_method_42_code
def yX7_handed : MethodName := ⟨RX7, "handed", "(LAlgolMill$Thing;)V"⟩
abbrev cX7_closure : ByteArray := prog_9_method_39_code
def yX7_closure : MethodName := ⟨RX7, "closure", "(ILAlgolMill$Routine;)V"⟩
abbrev cX7_to : ByteArray := prog_9_method_8_code
def yX7_to : MethodName := ⟨RX7, "to", "(III)V"⟩
abbrev cX7_actual : ByteArray := prog_9_method_41_code
def yX7_actual : MethodName := ⟨RX7, "actual", "(LAlgolMill$Expr;LAlgolMill$Thing;)V"⟩
abbrev cX7_thunk : ByteArray := prog_9_method_40_code
def yX7_thunk : MethodName := ⟨RX7, "thunk", "(LAlgolMill$Expr;I)LAlgolMill$Thunk;"⟩
abbrev cX7_size : ByteArray := prog_9_method_15_code
def yX7_size : MethodName := ⟨RX7, "size", "(LAlgolMill$Thing;)I"⟩
abbrev cX7_use : ByteArray := prog_9_method_31_code
def yX7_use : MethodName := ⟨RX7, "use", "(LAlgolMill$Thing;I)V"⟩
abbrev cX7_address : ByteArray := prog_9_method_29_code
def yX7_address : MethodName := ⟨RX7, "address", "(I)V"⟩
abbrev cX7_jumpIfNot : ByteArray := prog_9_method_46_code
def yX7_jumpIfNot : MethodName := ⟨RX7, "jumpIfNot", "()I"⟩
abbrev cX7_jump : ByteArray := prog_9_method_47_code
def yX7_jump : MethodName := ⟨RX7, "jump", "()I"⟩
abbrev cX7_here : ByteArray := prog_9_method_48_code
def yX7_here : MethodName := ⟨RX7, "here", "(I)V"⟩
abbrev cX7_here_2 : ByteArray := prog_9_method_5_code
def yX7_here_2 : MethodName := ⟨RX7, "here", "()I"⟩
abbrev cX7_two : ByteArray := prog_9_method_24_code
def yX7_two : MethodName := ⟨RX7, "two", "(I)V"⟩
abbrev cX7_error : ByteArray := prog_9_method_26_code
def yX7_error : MethodName := ⟨RX7, "error", "(I)V"⟩
abbrev cX7_invert : ByteArray := prog_9_method_20_code
def yX7_invert : MethodName := ⟨RX7, "invert", "()V"⟩
abbrev cX7_skip : ByteArray := prog_9_method_25_code
def yX7_skip : MethodName := ⟨RX7, "skip", "(I)I"⟩
abbrev cX7_negate : ByteArray := prog_9_method_21_code
def yX7_negate : MethodName := ⟨RX7, "negate", "()V"⟩
abbrev cX7_allot : ByteArray := prog_9_method_34_code
def yX7_allot : MethodName := ⟨RX7, "allot", "(II)V"⟩
abbrev cX7_drop : ByteArray := prog_9_method_19_code
def yX7_drop : MethodName := ⟨RX7, "drop", "(I)V"⟩
abbrev cX7_statement : ByteArray := prog_9_method_57_code
def yX7_statement : MethodName := ⟨RX7, "statement", "(LAlgolMill$Statement;)V"⟩
abbrev cX7_target_2 : ByteArray := prog_9_method_37_code
def yX7_target_2 : MethodName := ⟨RX7, "target", "(LAlgolMill$Thing;)I"⟩
abbrev cX7_place_2 : ByteArray := prog_9_method_7_code
def yX7_place_2 : MethodName := ⟨RX7, "place", "(I)V"⟩
abbrev cX7_setTop : ByteArray := prog_9_method_36_code
def yX7_setTop : MethodName := ⟨RX7, "setTop", "(I)V"⟩
abbrev cX7_step : ByteArray := prog_9_method_55_code
def yX7_step : MethodName := ⟨RX7, "step", "()V"⟩
abbrev cX7_choose : ByteArray := prog_9_method_44_code
def yX7_choose : MethodName := ⟨RX7, "choose", "(LAlgolMill$Name;)V"⟩
abbrev cX7_mark : ByteArray := prog_9_method_38_code
def yX7_mark : MethodName := ⟨RX7, "mark", "(LAlgolMill$Thing;)V"⟩
abbrev cX7_enter : ByteArray := prog_9_method_45_code
def yX7_enter : MethodName := ⟨RX7, "enter", "()V"⟩
abbrev cX7_jumpBack : ByteArray := prog_9_method_54_code
def yX7_jumpBack : MethodName := ⟨RX7, "jumpBack", "(I)V"⟩
abbrev cX7_back : ByteArray := prog_9_method_53_code
def yX7_back : MethodName := ⟨RX7, "back", "()V"⟩
abbrev cX7_run : ByteArray := prog_9_method_52_code
def yX7_run : MethodName := ⟨RX7, "run", "(I)V"⟩
abbrev cX7_store : ByteArray := prog_9_method_23_code
def yX7_store : MethodName := ⟨RX7, "store", "()V"⟩
abbrev cX7_runBody : ByteArray := prog_9_method_51_code
def yX7_runBody : MethodName := ⟨RX7, "runBody", "(II)V"⟩
abbrev cX7_jumpTo : ByteArray := prog_9_method_49_code
def yX7_jumpTo : MethodName := ⟨RX7, "jumpTo", "(I)V"⟩
abbrev cX7_jumpIfOver : ByteArray := prog_9_method_50_code
def yX7_jumpIfOver : MethodName := ⟨RX7, "jumpIfOver", "()I"⟩
abbrev cX7_print : ByteArray := prog_9_method_56_code
def yX7_print : MethodName := ⟨RX7, "print", "()V"⟩
abbrev cX7_thunk_2 : ByteArray := prog_9_method_11_code
def yX7_thunk_2 : MethodName := ⟨RX7, "thunk", "(LAlgolMill$Thunk;)V"⟩
abbrev cX7_valueAt : ByteArray := prog_9_method_12_code
def yX7_valueAt : MethodName := ⟨RX7, "valueAt", "(I)V"⟩
abbrev cX7_routine : ByteArray := prog_9_method_14_code
def yX7_routine : MethodName := ⟨RX7, "routine", "(LAlgolMill$Routine;)V"⟩
abbrev cX7_choices : ByteArray := prog_9_method_16_code
def yX7_choices : MethodName := ⟨RX7, "choices", "(LAlgolMill$Thing;)V"⟩
abbrev cX7_runtime : ByteArray := prog_9_method_10_code
def yX7_runtime : MethodName := ⟨RX7, "runtime", "()V"⟩
abbrev cX7_words : ByteArray := prog_9_method_2_code
def yX7_words : MethodName := ⟨RX7, "words", "()LAlgolMill$Longs;"⟩
theorem q191 : (Jvm.Cond.initialized "AlgolMill$Coder") ∈ lw_all := lw_g (lw_at lw_m1 10 rfl) rfl
theorem q262 : (Jvm.Cond.fieldLink "AlgolMill$Coder" (61 : Nat) "AlgolMill$Ints" "size" "I") ∈ lw_all := lw_g (lw_at lw_m1 81 rfl) rfl
theorem q281 : (Jvm.Cond.fieldLink "AlgolMill$Coder" (55 : Nat) "AlgolMill$Longs" "size" "I") ∈ lw_all := lw_g (lw_at lw_m1 100 rfl) rfl
theorem q423 : (Jvm.Cond.instantiable "AlgolMill$Coder" (13 : Nat)) ∈ lw_all := lw_g (lw_at lw_m2 2 rfl) rfl
theorem q425 : (Jvm.Cond.instanceMethod ({ cls := "AlgolMill$Coder", name := "<init>", desc := "()V" } : Jvm.MethodName)) ∈ lw_all := lw_g (lw_at lw_m2 4 rfl) rfl
theorem q426 : (Jvm.Cond.code ({ cls := "AlgolMill$Coder", name := "<init>", desc := "()V" } : Jvm.MethodName) prog_9_method_1_code (1 : Nat) (Option.none : Option Jvm.ClassFile.FieldType)) ∈ lw_all := lw_g (lw_at lw_m2 5 rfl) rfl
theorem q427 : (Jvm.Cond.methodLink "AlgolMill$Coder" (3 : Nat) ({ cls := "java/lang/Object", name := "<init>", desc := "()V" } : Jvm.MethodName)) ∈ lw_all := lw_g (lw_at lw_m2 6 rfl) rfl
theorem q428 : (Jvm.Cond.classLink "AlgolMill$Coder" (9 : Nat) "AlgolMill$Longs") ∈ lw_all := lw_g (lw_at lw_m2 7 rfl) rfl
theorem q429 : (Jvm.Cond.methodLink "AlgolMill$Coder" (11 : Nat) ({ cls := "AlgolMill$Longs", name := "<init>", desc := "(I)V" } : Jvm.MethodName)) ∈ lw_all := lw_g (lw_at lw_m2 8 rfl) rfl
theorem q430 : (Jvm.Cond.classLink "AlgolMill$Coder" (20 : Nat) "AlgolMill$Ints") ∈ lw_all := lw_g (lw_at lw_m2 9 rfl) rfl
theorem q431 : (Jvm.Cond.methodLink "AlgolMill$Coder" (22 : Nat) ({ cls := "AlgolMill$Ints", name := "<init>", desc := "(I)V" } : Jvm.MethodName)) ∈ lw_all := lw_g (lw_at lw_m2 10 rfl) rfl
theorem q432 : (Jvm.Cond.classLink "AlgolMill$Coder" (33 : Nat) "AlgolMill$Thunk") ∈ lw_all := lw_g (lw_at lw_m2 11 rfl) rfl
theorem q434 : (Jvm.Cond.classLink "AlgolMill$Coder" (39 : Nat) "AlgolMill$Things") ∈ lw_all := lw_g (lw_at lw_m2 13 rfl) rfl
theorem q436 : (Jvm.Cond.methodLinkNest "AlgolMill$Coder" (41 : Nat) ({ cls := "AlgolMill$Things", name := "<init>", desc := "()V" } : Jvm.MethodName) "AlgolMill") ∈ lw_tbl := lw_at lw_m2 15 rfl
theorem q448 : (Jvm.Cond.fieldLink "AlgolMill$Coder" (81 : Nat) "AlgolMill$Things" "size" "I") ∈ lw_all := lw_g (lw_at lw_m2 27 rfl) rfl
theorem q455 : (Jvm.Cond.fieldLink "AlgolMill$Coder" (14 : Nat) "AlgolMill$Coder" "words" "LAlgolMill$Longs;") ∈ lw_all := lw_g (lw_at lw_m2 34 rfl) rfl
theorem q456 : (Jvm.Cond.fieldLink "AlgolMill$Coder" (23 : Nat) "AlgolMill$Coder" "targets" "LAlgolMill$Ints;") ∈ lw_all := lw_g (lw_at lw_m2 35 rfl) rfl
theorem q457 : (Jvm.Cond.fieldLink "AlgolMill$Coder" (27 : Nat) "AlgolMill$Coder" "wanting" "LAlgolMill$Ints;") ∈ lw_all := lw_g (lw_at lw_m2 36 rfl) rfl
theorem q458 : (Jvm.Cond.fieldLink "AlgolMill$Coder" (30 : Nat) "AlgolMill$Coder" "wanted" "LAlgolMill$Ints;") ∈ lw_all := lw_g (lw_at lw_m2 37 rfl) rfl
theorem q459 : (Jvm.Cond.fieldLink "AlgolMill$Coder" (35 : Nat) "AlgolMill$Coder" "thunks" "[LAlgolMill$Thunk;") ∈ lw_all := lw_g (lw_at lw_m2 38 rfl) rfl
theorem q460 : (Jvm.Cond.fieldLink "AlgolMill$Coder" (78 : Nat) "AlgolMill$Coder" "thunkMany" "I") ∈ lw_all := lw_g (lw_at lw_m2 39 rfl) rfl
theorem q461 : (Jvm.Cond.fieldLink "AlgolMill$Coder" (42 : Nat) "AlgolMill$Coder" "laterThings" "LAlgolMill$Things;") ∈ lw_all := lw_g (lw_at lw_m2 40 rfl) rfl
theorem q462 : (Jvm.Cond.fieldLink "AlgolMill$Coder" (100 : Nat) "AlgolMill$Coder" "now" "LAlgolMill$Routine;") ∈ lw_all := lw_g (lw_at lw_m2 41 rfl) rfl
theorem q463 : (Jvm.Cond.fieldLink "AlgolMill$Coder" (85 : Nat) "AlgolMill$Coder" "use" "I") ∈ lw_all := lw_g (lw_at lw_m2 42 rfl) rfl
theorem q464 : (Jvm.Cond.fieldLink "AlgolMill$Coder" (88 : Nat) "AlgolMill$Coder" "chooser" "I") ∈ lw_all := lw_g (lw_at lw_m2 43 rfl) rfl
theorem q465 : (Jvm.Cond.fieldLink "AlgolMill$Coder" (91 : Nat) "AlgolMill$Coder" "failing" "I") ∈ lw_all := lw_g (lw_at lw_m2 44 rfl) rfl
theorem q466 : (Jvm.Cond.fieldLink "AlgolMill$Coder" (94 : Nat) "AlgolMill$Coder" "header" "I") ∈ lw_all := lw_g (lw_at lw_m2 45 rfl) rfl
theorem q467 : (Jvm.Cond.fieldLink "AlgolMill$Coder" (97 : Nat) "AlgolMill$Coder" "going" "I") ∈ lw_all := lw_g (lw_at lw_m2 46 rfl) rfl
theorem q468 : (Jvm.Cond.laysFinal "AlgolMill$Coder" "AlgolMill$Coder" "words" "LAlgolMill$Longs;") ∈ lw_all := lw_g (lw_at lw_m2 47 rfl) rfl
theorem q469 : (Jvm.Cond.soleField "AlgolMill$Coder" "words") ∈ lw_all := lw_g (lw_at lw_m2 48 rfl) rfl
theorem q470 : (Jvm.Cond.laysFinal "AlgolMill$Coder" "AlgolMill$Coder" "targets" "LAlgolMill$Ints;") ∈ lw_all := lw_g (lw_at lw_m2 49 rfl) rfl
theorem q471 : (Jvm.Cond.soleField "AlgolMill$Coder" "targets") ∈ lw_all := lw_g (lw_at lw_m2 50 rfl) rfl
theorem q472 : (Jvm.Cond.laysFinal "AlgolMill$Coder" "AlgolMill$Coder" "wanting" "LAlgolMill$Ints;") ∈ lw_all := lw_g (lw_at lw_m2 51 rfl) rfl
theorem q473 : (Jvm.Cond.soleField "AlgolMill$Coder" "wanting") ∈ lw_all := lw_g (lw_at lw_m2 52 rfl) rfl
theorem q474 : (Jvm.Cond.laysFinal "AlgolMill$Coder" "AlgolMill$Coder" "wanted" "LAlgolMill$Ints;") ∈ lw_all := lw_g (lw_at lw_m2 53 rfl) rfl
theorem q475 : (Jvm.Cond.soleField "AlgolMill$Coder" "wanted") ∈ lw_all := lw_g (lw_at lw_m2 54 rfl) rfl
theorem q476 : (Jvm.Cond.lays "AlgolMill$Coder" "AlgolMill$Coder" "thunks" "[LAlgolMill$Thunk;") ∈ lw_all := lw_g (lw_at lw_m2 55 rfl) rfl
theorem q477 : (Jvm.Cond.soleField "AlgolMill$Coder" "thunks") ∈ lw_all := lw_g (lw_at lw_m2 56 rfl) rfl
theorem q478 : (Jvm.Cond.lays "AlgolMill$Coder" "AlgolMill$Coder" "thunkMany" "I") ∈ lw_all := lw_g (lw_at lw_m2 57 rfl) rfl
theorem q479 : (Jvm.Cond.soleField "AlgolMill$Coder" "thunkMany") ∈ lw_all := lw_g (lw_at lw_m2 58 rfl) rfl
theorem q480 : (Jvm.Cond.laysFinal "AlgolMill$Coder" "AlgolMill$Coder" "laterThings" "LAlgolMill$Things;") ∈ lw_all := lw_g (lw_at lw_m2 59 rfl) rfl
theorem q481 : (Jvm.Cond.soleField "AlgolMill$Coder" "laterThings") ∈ lw_all := lw_g (lw_at lw_m2 60 rfl) rfl
theorem q482 : (Jvm.Cond.lays "AlgolMill$Coder" "AlgolMill$Coder" "now" "LAlgolMill$Routine;") ∈ lw_all := lw_g (lw_at lw_m2 61 rfl) rfl
theorem q483 : (Jvm.Cond.soleField "AlgolMill$Coder" "now") ∈ lw_all := lw_g (lw_at lw_m2 62 rfl) rfl
theorem q484 : (Jvm.Cond.lays "AlgolMill$Coder" "AlgolMill$Coder" "use" "I") ∈ lw_all := lw_g (lw_at lw_m2 63 rfl) rfl
theorem q485 : (Jvm.Cond.soleField "AlgolMill$Coder" "use") ∈ lw_all := lw_g (lw_at lw_m2 64 rfl) rfl
theorem q486 : (Jvm.Cond.lays "AlgolMill$Coder" "AlgolMill$Coder" "chooser" "I") ∈ lw_all := lw_g (lw_at lw_m2 65 rfl) rfl
theorem q487 : (Jvm.Cond.soleField "AlgolMill$Coder" "chooser") ∈ lw_all := lw_g (lw_at lw_m2 66 rfl) rfl
theorem q488 : (Jvm.Cond.lays "AlgolMill$Coder" "AlgolMill$Coder" "failing" "I") ∈ lw_all := lw_g (lw_at lw_m2 67 rfl) rfl
theorem q489 : (Jvm.Cond.soleField "AlgolMill$Coder" "failing") ∈ lw_all := lw_g (lw_at lw_m2 68 rfl) rfl
theorem q490 : (Jvm.Cond.lays "AlgolMill$Coder" "AlgolMill$Coder" "header" "I") ∈ lw_all := lw_g (lw_at lw_m2 69 rfl) rfl
theorem q491 : (Jvm.Cond.soleField "AlgolMill$Coder" "header") ∈ lw_all := lw_g (lw_at lw_m2 70 rfl) rfl
theorem q492 : (Jvm.Cond.lays "AlgolMill$Coder" "AlgolMill$Coder" "going" "I") ∈ lw_all := lw_g (lw_at lw_m2 71 rfl) rfl
theorem q493 : (Jvm.Cond.soleField "AlgolMill$Coder" "going") ∈ lw_all := lw_g (lw_at lw_m2 72 rfl) rfl
theorem q494 : (Jvm.Cond.superclass "AlgolMill$Coder" "java/lang/Object") ∈ lw_all := lw_g (lw_at lw_m2 73 rfl) rfl
theorem q790 : (Jvm.Cond.fieldLink "AlgolMill$Coder" (249 : Nat) "AlgolMill$Routine" "level" "I") ∈ lw_all := lw_g (lw_at lw_m3 129 rfl) rfl
theorem q794 : (Jvm.Cond.fieldLink "AlgolMill$Coder" (206 : Nat) "AlgolMill$Routine" "formals" "LAlgolMill$Things;") ∈ lw_all := lw_g (lw_at lw_m3 133 rfl) rfl
theorem q797 : (Jvm.Cond.fieldLink "AlgolMill$Coder" (111 : Nat) "AlgolMill$Routine" "body" "LAlgolMill$Statement;") ∈ lw_all := lw_g (lw_at lw_m3 136 rfl) rfl
theorem q808 : (Jvm.Cond.fieldLink "AlgolMill$Coder" (195 : Nat) "AlgolMill$Routine" "address" "I") ∈ lw_all := lw_g (lw_at lw_m3 147 rfl) rfl
theorem q909 : (Jvm.Cond.fieldLink "AlgolMill$Coder" (313 : Nat) "AlgolMill$Block" "around" "LAlgolMill$Block;") ∈ lw_all := lw_g (lw_at lw_m4 8 rfl) rfl
theorem q911 : (Jvm.Cond.fieldLink "AlgolMill$Coder" (308 : Nat) "AlgolMill$Block" "mark" "I") ∈ lw_all := lw_g (lw_at lw_m4 10 rfl) rfl
theorem q914 : (Jvm.Cond.fieldLink "AlgolMill$Coder" (301 : Nat) "AlgolMill$Statement" "marks" "LAlgolMill$Things;") ∈ lw_all := lw_g (lw_at lw_m4 13 rfl) rfl
theorem q990 : (Jvm.Cond.fieldLink "AlgolMill$Coder" (225 : Nat) "AlgolMill$Exprs" "size" "I") ∈ lw_all := lw_g (lw_at lw_m4 89 rfl) rfl
theorem q1019 : (Jvm.Cond.fieldLink "AlgolMill$Coder" (129 : Nat) "AlgolMill$Thing" "sort" "I") ∈ lw_all := lw_g (lw_at lw_m4 118 rfl) rfl
theorem q1028 : (Jvm.Cond.fieldLink "AlgolMill$Coder" (259 : Nat) "AlgolMill$Thing" "formal" "Z") ∈ lw_all := lw_g (lw_at lw_m4 127 rfl) rfl
theorem q1030 : (Jvm.Cond.fieldLink "AlgolMill$Coder" (216 : Nat) "AlgolMill$Thing" "byValue" "Z") ∈ lw_all := lw_g (lw_at lw_m4 129 rfl) rfl
theorem q1038 : (Jvm.Cond.fieldLink "AlgolMill$Coder" (220 : Nat) "AlgolMill$Thing" "home" "LAlgolMill$Routine;") ∈ lw_all := lw_g (lw_at lw_m4 137 rfl) rfl
theorem q1043 : (Jvm.Cond.fieldLink "AlgolMill$Coder" (256 : Nat) "AlgolMill$Thing" "place" "I") ∈ lw_all := lw_g (lw_at lw_m4 142 rfl) rfl
theorem q1046 : (Jvm.Cond.fieldLink "AlgolMill$Coder" (134 : Nat) "AlgolMill$Thing" "routine" "LAlgolMill$Routine;") ∈ lw_all := lw_g (lw_at lw_m4 145 rfl) rfl
theorem q1050 : (Jvm.Cond.fieldLink "AlgolMill$Coder" (198 : Nat) "AlgolMill$Thing" "choices" "LAlgolMill$Switch;") ∈ lw_all := lw_g (lw_at lw_m4 149 rfl) rfl
theorem q1053 : (Jvm.Cond.fieldLink "AlgolMill$Coder" (274 : Nat) "AlgolMill$Thing" "address" "I") ∈ lw_all := lw_g (lw_at lw_m4 152 rfl) rfl
theorem q1055 : (Jvm.Cond.fieldLink "AlgolMill$Coder" (304 : Nat) "AlgolMill$Thing" "block" "LAlgolMill$Block;") ∈ lw_all := lw_g (lw_at lw_m4 154 rfl) rfl
theorem q1186 : (Jvm.Cond.fieldLink "AlgolMill$Coder" (262 : Nat) "AlgolMill$Name" "parts" "LAlgolMill$Exprs;") ∈ lw_all := lw_g (lw_at lw_m5 45 rfl) rfl
theorem q1190 : (Jvm.Cond.fieldLink "AlgolMill$Coder" (267 : Nat) "AlgolMill$Name" "thing" "LAlgolMill$Thing;") ∈ lw_all := lw_g (lw_at lw_m5 49 rfl) rfl
theorem q1530 : (Jvm.Cond.fieldLink "AlgolMill$Coder" (221 : Nat) "AlgolMill$Switch" "aims" "LAlgolMill$Exprs;") ∈ lw_all := lw_g (lw_at lw_m6 149 rfl) rfl
theorem q1532 : (Jvm.Cond.fieldLink "AlgolMill$Coder" (201 : Nat) "AlgolMill$Switch" "address" "I") ∈ lw_all := lw_g (lw_at lw_m6 151 rfl) rfl
theorem q1814 : (Jvm.Cond.instanceMethod ({ cls := "AlgolMill$Coder", name := "make", desc := "(LAlgolMill$Routine;I)V" } : Jvm.MethodName)) ∈ lw_all := lw_g (lw_at lw_m7 193 rfl) rfl
theorem q1815 : (Jvm.Cond.selects "AlgolMill$Coder" ({ cls := "AlgolMill$Coder", name := "make", desc := "(LAlgolMill$Routine;I)V" } : Jvm.MethodName) ({ cls := "AlgolMill$Coder", name := "make", desc := "(LAlgolMill$Routine;I)V" } : Jvm.MethodName)) ∈ lw_all := lw_g (lw_at lw_m7 194 rfl) rfl
theorem q1816 : (Jvm.Cond.code ({ cls := "AlgolMill$Coder", name := "make", desc := "(LAlgolMill$Routine;I)V" } : Jvm.MethodName) prog_9_method_9_code (7 : Nat) (Option.none : Option Jvm.ClassFile.FieldType)) ∈ lw_all := lw_g (lw_at lw_m7 195 rfl) rfl
theorem q1817 : (Jvm.Cond.methodLink "AlgolMill$Coder" (74 : Nat) ({ cls := "AlgolMill$Longs", name := "clear", desc := "()V" } : Jvm.MethodName)) ∈ lw_all := lw_g (lw_at lw_m7 196 rfl) rfl
theorem q1818 : (Jvm.Cond.methodLink "AlgolMill$Coder" (77 : Nat) ({ cls := "AlgolMill$Ints", name := "clear", desc := "()V" } : Jvm.MethodName)) ∈ lw_all := lw_g (lw_at lw_m7 197 rfl) rfl
theorem q1819 : (Jvm.Cond.methodLink "AlgolMill$Coder" (82 : Nat) ({ cls := "AlgolMill$Coder", name := "target", desc := "()I" } : Jvm.MethodName)) ∈ lw_all := lw_g (lw_at lw_m7 198 rfl) rfl
theorem q1820 : (Jvm.Cond.privateMethod ({ cls := "AlgolMill$Coder", name := "target", desc := "()I" } : Jvm.MethodName)) ∈ lw_tbl := lw_at lw_m7 199 rfl
theorem q1821 : (Jvm.Cond.instanceMethod ({ cls := "AlgolMill$Coder", name := "target", desc := "()I" } : Jvm.MethodName)) ∈ lw_all := lw_g (lw_at lw_m7 200 rfl) rfl
theorem q1822 : (Jvm.Cond.code ({ cls := "AlgolMill$Coder", name := "target", desc := "()I" } : Jvm.MethodName) prog_9_method_6_code (1 : Nat) (Option.some Jvm.ClassFile.FieldType.int)) ∈ lw_all := lw_g (lw_at lw_m7 201 rfl) rfl
theorem q1823 : (Jvm.Cond.methodLink "AlgolMill$Coder" (59 : Nat) ({ cls := "AlgolMill$Ints", name := "add", desc := "(I)V" } : Jvm.MethodName)) ∈ lw_all := lw_g (lw_at lw_m7 202 rfl) rfl
theorem q1824 : (Jvm.Cond.methodLink "AlgolMill$Coder" (106 : Nat) ({ cls := "AlgolMill$Routine", name := "width", desc := "()I" } : Jvm.MethodName)) ∈ lw_all := lw_g (lw_at lw_m7 203 rfl) rfl
theorem q1828 : (Jvm.Cond.methodLink "AlgolMill$Coder" (70 : Nat) ({ cls := "AlgolMill$Coder", name := "op", desc := "(IIII)V" } : Jvm.MethodName)) ∈ lw_all := lw_g (lw_at lw_m7 207 rfl) rfl
theorem q1829 : (Jvm.Cond.privateMethod ({ cls := "AlgolMill$Coder", name := "op", desc := "(IIII)V" } : Jvm.MethodName)) ∈ lw_tbl := lw_at lw_m7 208 rfl
theorem q1830 : (Jvm.Cond.instanceMethod ({ cls := "AlgolMill$Coder", name := "op", desc := "(IIII)V" } : Jvm.MethodName)) ∈ lw_all := lw_g (lw_at lw_m7 209 rfl) rfl
theorem q1831 : (Jvm.Cond.code ({ cls := "AlgolMill$Coder", name := "op", desc := "(IIII)V" } : Jvm.MethodName) prog_9_method_4_code (5 : Nat) (Option.none : Option Jvm.ClassFile.FieldType)) ∈ lw_all := lw_g (lw_at lw_m7 210 rfl) rfl
theorem q1832 : (Jvm.Cond.methodLink "AlgolMill$Coder" (47 : Nat) ({ cls := "AlgolMill$Coder", name := "word", desc := "(IIII)J" } : Jvm.MethodName)) ∈ lw_all := lw_g (lw_at lw_m7 211 rfl) rfl
theorem q1833 : (Jvm.Cond.static ({ cls := "AlgolMill$Coder", name := "word", desc := "(IIII)J" } : Jvm.MethodName)) ∈ lw_all := lw_g (lw_at lw_m7 212 rfl) rfl
theorem q1834 : (Jvm.Cond.code ({ cls := "AlgolMill$Coder", name := "word", desc := "(IIII)J" } : Jvm.MethodName) prog_9_method_3_code (4 : Nat) (Option.some Jvm.ClassFile.FieldType.long)) ∈ lw_all := lw_g (lw_at lw_m7 213 rfl) rfl
theorem q1835 : (Jvm.Cond.constant "AlgolMill$Coder" (46 : Nat) (262143 : Int32)) ∈ lw_all := lw_g (lw_at lw_m7 214 rfl) rfl
theorem q1836 : (Jvm.Cond.methodLink "AlgolMill$Coder" (51 : Nat) ({ cls := "AlgolMill$Longs", name := "add", desc := "(J)V" } : Jvm.MethodName)) ∈ lw_all := lw_g (lw_at lw_m7 215 rfl) rfl
theorem q1837 : (Jvm.Cond.methodLink "AlgolMill$Coder" (115 : Nat) ({ cls := "AlgolMill$Statement", name := "emit", desc := "(LAlgolMill$Coder;)V" } : Jvm.MethodName)) ∈ lw_all := lw_g (lw_at lw_m7 216 rfl) rfl
theorem q1844 : (Jvm.Cond.instanceMethod ({ cls := "AlgolMill$Coder", name := "later", desc := "(LAlgolMill$Thing;)V" } : Jvm.MethodName)) ∈ lw_all := lw_g (lw_at lw_m7 223 rfl) rfl
theorem q1845 : (Jvm.Cond.selects "AlgolMill$Coder" ({ cls := "AlgolMill$Coder", name := "later", desc := "(LAlgolMill$Thing;)V" } : Jvm.MethodName) ({ cls := "AlgolMill$Coder", name := "later", desc := "(LAlgolMill$Thing;)V" } : Jvm.MethodName)) ∈ lw_all := lw_g (lw_at lw_m7 224 rfl) rfl
theorem q1846 : (Jvm.Cond.code ({ cls := "AlgolMill$Coder", name := "later", desc := "(LAlgolMill$Thing;)V" } : Jvm.MethodName) prog_9_method_13_code (3 : Nat) (Option.none : Option Jvm.ClassFile.FieldType)) ∈ lw_all := lw_g (lw_at lw_m7 225 rfl) rfl
theorem q1847 : (Jvm.Cond.methodLink "AlgolMill$Coder" (204 : Nat) ({ cls := "AlgolMill$Things", name := "add", desc := "(LAlgolMill$Thing;)V" } : Jvm.MethodName)) ∈ lw_all := lw_g (lw_at lw_m7 226 rfl) rfl
theorem q1849 : (Jvm.Cond.instanceMethod ({ cls := "AlgolMill$Coder", name := "zero", desc := "(I)V" } : Jvm.MethodName)) ∈ lw_all := lw_g (lw_at lw_m7 228 rfl) rfl
theorem q1850 : (Jvm.Cond.selects "AlgolMill$Coder" ({ cls := "AlgolMill$Coder", name := "zero", desc := "(I)V" } : Jvm.MethodName) ({ cls := "AlgolMill$Coder", name := "zero", desc := "(I)V" } : Jvm.MethodName)) ∈ lw_all := lw_g (lw_at lw_m7 229 rfl) rfl
theorem q1851 : (Jvm.Cond.code ({ cls := "AlgolMill$Coder", name := "zero", desc := "(I)V" } : Jvm.MethodName) prog_9_method_30_code (2 : Nat) (Option.none : Option Jvm.ClassFile.FieldType)) ∈ lw_all := lw_g (lw_at lw_m7 230 rfl) rfl
theorem q1853 : (Jvm.Cond.instanceMethod ({ cls := "AlgolMill$Coder", name := "keepTop", desc := "(I)V" } : Jvm.MethodName)) ∈ lw_all := lw_g (lw_at lw_m7 232 rfl) rfl
theorem q1854 : (Jvm.Cond.selects "AlgolMill$Coder" ({ cls := "AlgolMill$Coder", name := "keepTop", desc := "(I)V" } : Jvm.MethodName) ({ cls := "AlgolMill$Coder", name := "keepTop", desc := "(I)V" } : Jvm.MethodName)) ∈ lw_all := lw_g (lw_at lw_m7 233 rfl) rfl
theorem q1855 : (Jvm.Cond.code ({ cls := "AlgolMill$Coder", name := "keepTop", desc := "(I)V" } : Jvm.MethodName) prog_9_method_35_code (2 : Nat) (Option.none : Option Jvm.ClassFile.FieldType)) ∈ lw_all := lw_g (lw_at lw_m7 234 rfl) rfl
theorem q1876 : (Jvm.Cond.instanceMethod ({ cls := "AlgolMill$Coder", name := "load", desc := "(J)V" } : Jvm.MethodName)) ∈ lw_all := lw_g (lw_at lw_m8 15 rfl) rfl
theorem q1877 : (Jvm.Cond.selects "AlgolMill$Coder" ({ cls := "AlgolMill$Coder", name := "load", desc := "(J)V" } : Jvm.MethodName) ({ cls := "AlgolMill$Coder", name := "load", desc := "(J)V" } : Jvm.MethodName)) ∈ lw_all := lw_g (lw_at lw_m8 16 rfl) rfl
theorem q1878 : (Jvm.Cond.code ({ cls := "AlgolMill$Coder", name := "load", desc := "(J)V" } : Jvm.MethodName) prog_9_method_17_code (3 : Nat) (Option.none : Option Jvm.ClassFile.FieldType)) ∈ lw_all := lw_g (lw_at lw_m8 17 rfl) rfl
theorem q1879 : (Jvm.Cond.constantLong "AlgolMill$Coder" (239 : Nat) (262144 : Int64)) ∈ lw_all := lw_g (lw_at lw_m8 18 rfl) rfl
theorem q1880 : (Jvm.Cond.constantLong "AlgolMill$Coder" (241 : Nat) (262143 : Int64)) ∈ lw_all := lw_g (lw_at lw_m8 19 rfl) rfl
theorem q1884 : (Jvm.Cond.instanceMethod ({ cls := "AlgolMill$Coder", name := "element", desc := "(LAlgolMill$Name;)V" } : Jvm.MethodName)) ∈ lw_all := lw_g (lw_at lw_m8 23 rfl) rfl
theorem q1885 : (Jvm.Cond.selects "AlgolMill$Coder" ({ cls := "AlgolMill$Coder", name := "element", desc := "(LAlgolMill$Name;)V" } : Jvm.MethodName) ({ cls := "AlgolMill$Coder", name := "element", desc := "(LAlgolMill$Name;)V" } : Jvm.MethodName)) ∈ lw_all := lw_g (lw_at lw_m8 24 rfl) rfl
theorem q1886 : (Jvm.Cond.code ({ cls := "AlgolMill$Coder", name := "element", desc := "(LAlgolMill$Name;)V" } : Jvm.MethodName) prog_9_method_33_code (3 : Nat) (Option.none : Option Jvm.ClassFile.FieldType)) ∈ lw_all := lw_g (lw_at lw_m8 25 rfl) rfl
theorem q1887 : (Jvm.Cond.methodLink "AlgolMill$Coder" (231 : Nat) ({ cls := "AlgolMill$Exprs", name := "get", desc := "(I)LAlgolMill$Expr;" } : Jvm.MethodName)) ∈ lw_all := lw_g (lw_at lw_m8 26 rfl) rfl
theorem q1888 : (Jvm.Cond.methodLink "AlgolMill$Coder" (174 : Nat) ({ cls := "AlgolMill$Expr", name := "emit", desc := "(LAlgolMill$Coder;)V" } : Jvm.MethodName)) ∈ lw_all := lw_g (lw_at lw_m8 27 rfl) rfl
theorem q1892 : (Jvm.Cond.methodLink "AlgolMill$Coder" (159 : Nat) ({ cls := "AlgolMill$Coder", name := "push", desc := "()V" } : Jvm.MethodName)) ∈ lw_all := lw_g (lw_at lw_m8 31 rfl) rfl
theorem q1893 : (Jvm.Cond.instanceMethod ({ cls := "AlgolMill$Coder", name := "push", desc := "()V" } : Jvm.MethodName)) ∈ lw_all := lw_g (lw_at lw_m8 32 rfl) rfl
theorem q1894 : (Jvm.Cond.selects "AlgolMill$Coder" ({ cls := "AlgolMill$Coder", name := "push", desc := "()V" } : Jvm.MethodName) ({ cls := "AlgolMill$Coder", name := "push", desc := "()V" } : Jvm.MethodName)) ∈ lw_all := lw_g (lw_at lw_m8 33 rfl) rfl
theorem q1895 : (Jvm.Cond.code ({ cls := "AlgolMill$Coder", name := "push", desc := "()V" } : Jvm.MethodName) prog_9_method_18_code (1 : Nat) (Option.none : Option Jvm.ClassFile.FieldType)) ∈ lw_all := lw_g (lw_at lw_m8 34 rfl) rfl
theorem q1896 : (Jvm.Cond.methodLink "AlgolMill$Coder" (271 : Nat) ({ cls := "AlgolMill$Coder", name := "row", desc := "(LAlgolMill$Thing;)V" } : Jvm.MethodName)) ∈ lw_all := lw_g (lw_at lw_m8 35 rfl) rfl
theorem q1897 : (Jvm.Cond.privateMethod ({ cls := "AlgolMill$Coder", name := "row", desc := "(LAlgolMill$Thing;)V" } : Jvm.MethodName)) ∈ lw_tbl := lw_at lw_m8 36 rfl
theorem q1898 : (Jvm.Cond.instanceMethod ({ cls := "AlgolMill$Coder", name := "row", desc := "(LAlgolMill$Thing;)V" } : Jvm.MethodName)) ∈ lw_all := lw_g (lw_at lw_m8 37 rfl) rfl
theorem q1899 : (Jvm.Cond.code ({ cls := "AlgolMill$Coder", name := "row", desc := "(LAlgolMill$Thing;)V" } : Jvm.MethodName) prog_9_method_32_code (2 : Nat) (Option.none : Option Jvm.ClassFile.FieldType)) ∈ lw_all := lw_g (lw_at lw_m8 38 rfl) rfl
theorem q1900 : (Jvm.Cond.methodLink "AlgolMill$Coder" (257 : Nat) ({ cls := "AlgolMill$Coder", name := "place", desc := "(LAlgolMill$Routine;I)V" } : Jvm.MethodName)) ∈ lw_all := lw_g (lw_at lw_m8 39 rfl) rfl
theorem q1901 : (Jvm.Cond.instanceMethod ({ cls := "AlgolMill$Coder", name := "place", desc := "(LAlgolMill$Routine;I)V" } : Jvm.MethodName)) ∈ lw_all := lw_g (lw_at lw_m8 40 rfl) rfl
theorem q1902 : (Jvm.Cond.selects "AlgolMill$Coder" ({ cls := "AlgolMill$Coder", name := "place", desc := "(LAlgolMill$Routine;I)V" } : Jvm.MethodName) ({ cls := "AlgolMill$Coder", name := "place", desc := "(LAlgolMill$Routine;I)V" } : Jvm.MethodName)) ∈ lw_all := lw_g (lw_at lw_m8 41 rfl) rfl
theorem q1903 : (Jvm.Cond.code ({ cls := "AlgolMill$Coder", name := "place", desc := "(LAlgolMill$Routine;I)V" } : Jvm.MethodName) prog_9_method_28_code (3 : Nat) (Option.none : Option Jvm.ClassFile.FieldType)) ∈ lw_all := lw_g (lw_at lw_m8 42 rfl) rfl
theorem q1904 : (Jvm.Cond.methodLink "AlgolMill$Coder" (252 : Nat) ({ cls := "AlgolMill$Coder", name := "frame", desc := "(LAlgolMill$Routine;I)V" } : Jvm.MethodName)) ∈ lw_all := lw_g (lw_at lw_m8 43 rfl) rfl
theorem q1905 : (Jvm.Cond.privateMethod ({ cls := "AlgolMill$Coder", name := "frame", desc := "(LAlgolMill$Routine;I)V" } : Jvm.MethodName)) ∈ lw_tbl := lw_at lw_m8 44 rfl
theorem q1906 : (Jvm.Cond.instanceMethod ({ cls := "AlgolMill$Coder", name := "frame", desc := "(LAlgolMill$Routine;I)V" } : Jvm.MethodName)) ∈ lw_all := lw_g (lw_at lw_m8 45 rfl) rfl
theorem q1907 : (Jvm.Cond.code ({ cls := "AlgolMill$Coder", name := "frame", desc := "(LAlgolMill$Routine;I)V" } : Jvm.MethodName) prog_9_method_27_code (3 : Nat) (Option.none : Option Jvm.ClassFile.FieldType)) ∈ lw_all := lw_g (lw_at lw_m8 46 rfl) rfl
theorem q1908 : (Jvm.Cond.methodLink "AlgolMill$Coder" (192 : Nat) ({ cls := "AlgolMill$Coder", name := "fetch", desc := "()V" } : Jvm.MethodName)) ∈ lw_all := lw_g (lw_at lw_m8 47 rfl) rfl
theorem q1909 : (Jvm.Cond.instanceMethod ({ cls := "AlgolMill$Coder", name := "fetch", desc := "()V" } : Jvm.MethodName)) ∈ lw_all := lw_g (lw_at lw_m8 48 rfl) rfl
theorem q1910 : (Jvm.Cond.selects "AlgolMill$Coder" ({ cls := "AlgolMill$Coder", name := "fetch", desc := "()V" } : Jvm.MethodName) ({ cls := "AlgolMill$Coder", name := "fetch", desc := "()V" } : Jvm.MethodName)) ∈ lw_all := lw_g (lw_at lw_m8 49 rfl) rfl
theorem q1911 : (Jvm.Cond.code ({ cls := "AlgolMill$Coder", name := "fetch", desc := "()V" } : Jvm.MethodName) prog_9_method_22_code (1 : Nat) (Option.none : Option Jvm.ClassFile.FieldType)) ∈ lw_all := lw_g (lw_at lw_m8 50 rfl) rfl
theorem q1914 : (Jvm.Cond.instanceMethod ({ cls := "AlgolMill$Coder", name := "call", desc := "(LAlgolMill$Name;)V" } : Jvm.MethodName)) ∈ lw_all := lw_g (lw_at lw_m8 53 rfl) rfl
theorem q1915 : (Jvm.Cond.selects "AlgolMill$Coder" ({ cls := "AlgolMill$Coder", name := "call", desc := "(LAlgolMill$Name;)V" } : Jvm.MethodName) ({ cls := "AlgolMill$Coder", name := "call", desc := "(LAlgolMill$Name;)V" } : Jvm.MethodName)) ∈ lw_all := lw_g (lw_at lw_m8 54 rfl) rfl
theorem q1916 : (Jvm.Cond.code ({ cls := "AlgolMill$Coder", name := "call", desc := "(LAlgolMill$Name;)V" } : Jvm.MethodName) prog_9_method_43_code (6 : Nat) (Option.none : Option Jvm.ClassFile.FieldType)) ∈ lw_all := lw_g (lw_at lw_m8 55 rfl) rfl
theorem q1917 : (Jvm.Cond.methodLink "AlgolMill$Coder" (294 : Nat) ({ cls := "AlgolMill$Coder", name := "handed", desc := "(LAlgolMill$Thing;)V" } : Jvm.MethodName)) ∈ lw_all := lw_g (lw_at lw_m8 56 rfl) rfl
theorem q1918 : (Jvm.Cond.privateMethod ({ cls := "AlgolMill$Coder", name := "handed", desc := "(LAlgolMill$Thing;)V" } : Jvm.MethodName)) ∈ lw_tbl := lw_at lw_m8 57 rfl
theorem q1919 : (Jvm.Cond.instanceMethod ({ cls := "AlgolMill$Coder", name := "handed", desc := "(LAlgolMill$Thing;)V" } : Jvm.MethodName)) ∈ lw_all := lw_g (lw_at lw_m8 58 rfl) rfl
theorem q1920 : (Jvm.Cond.code ({ cls := "AlgolMill$Coder", name := "handed", desc := "(LAlgolMill$Thing;)V" } : Jvm.MethodName) prog_9_method_42_code (2 : Nat) (Option.none : Option Jvm.ClassFile.FieldType)) ∈ lw_all := lw_g (lw_at lw_m8 59 rfl) rfl
theorem q1921 : (Jvm.Cond.methodLink "AlgolMill$Coder" (277 : Nat) ({ cls := "AlgolMill$Coder", name := "closure", desc := "(ILAlgolMill$Routine;)V" } : Jvm.MethodName)) ∈ lw_all := lw_g (lw_at lw_m8 60 rfl) rfl
theorem q1922 : (Jvm.Cond.privateMethod ({ cls := "AlgolMill$Coder", name := "closure", desc := "(ILAlgolMill$Routine;)V" } : Jvm.MethodName)) ∈ lw_tbl := lw_at lw_m8 61 rfl
theorem q1923 : (Jvm.Cond.instanceMethod ({ cls := "AlgolMill$Coder", name := "closure", desc := "(ILAlgolMill$Routine;)V" } : Jvm.MethodName)) ∈ lw_all := lw_g (lw_at lw_m8 62 rfl) rfl
theorem q1924 : (Jvm.Cond.code ({ cls := "AlgolMill$Coder", name := "closure", desc := "(ILAlgolMill$Routine;)V" } : Jvm.MethodName) prog_9_method_39_code (3 : Nat) (Option.none : Option Jvm.ClassFile.FieldType)) ∈ lw_all := lw_g (lw_at lw_m8 63 rfl) rfl
theorem q1925 : (Jvm.Cond.methodLink "AlgolMill$Coder" (188 : Nat) ({ cls := "AlgolMill$Coder", name := "to", desc := "(III)V" } : Jvm.MethodName)) ∈ lw_all := lw_g (lw_at lw_m8 64 rfl) rfl
theorem q1926 : (Jvm.Cond.privateMethod ({ cls := "AlgolMill$Coder", name := "to", desc := "(III)V" } : Jvm.MethodName)) ∈ lw_tbl := lw_at lw_m8 65 rfl
theorem q1927 : (Jvm.Cond.instanceMethod ({ cls := "AlgolMill$Coder", name := "to", desc := "(III)V" } : Jvm.MethodName)) ∈ lw_all := lw_g (lw_at lw_m8 66 rfl) rfl
theorem q1928 : (Jvm.Cond.code ({ cls := "AlgolMill$Coder", name := "to", desc := "(III)V" } : Jvm.MethodName) prog_9_method_8_code (4 : Nat) (Option.none : Option Jvm.ClassFile.FieldType)) ∈ lw_all := lw_g (lw_at lw_m8 67 rfl) rfl
theorem q1929 : (Jvm.Cond.methodLink "AlgolMill$Coder" (125 : Nat) ({ cls := "AlgolMill$Things", name := "get", desc := "(I)LAlgolMill$Thing;" } : Jvm.MethodName)) ∈ lw_all := lw_g (lw_at lw_m8 68 rfl) rfl
theorem q1930 : (Jvm.Cond.methodLink "AlgolMill$Coder" (297 : Nat) ({ cls := "AlgolMill$Coder", name := "actual", desc := "(LAlgolMill$Expr;LAlgolMill$Thing;)V" } : Jvm.MethodName)) ∈ lw_all := lw_g (lw_at lw_m8 69 rfl) rfl
theorem q1931 : (Jvm.Cond.privateMethod ({ cls := "AlgolMill$Coder", name := "actual", desc := "(LAlgolMill$Expr;LAlgolMill$Thing;)V" } : Jvm.MethodName)) ∈ lw_tbl := lw_at lw_m8 70 rfl
theorem q1932 : (Jvm.Cond.instanceMethod ({ cls := "AlgolMill$Coder", name := "actual", desc := "(LAlgolMill$Expr;LAlgolMill$Thing;)V" } : Jvm.MethodName)) ∈ lw_all := lw_g (lw_at lw_m8 71 rfl) rfl
theorem q1933 : (Jvm.Cond.code ({ cls := "AlgolMill$Coder", name := "actual", desc := "(LAlgolMill$Expr;LAlgolMill$Thing;)V" } : Jvm.MethodName) prog_9_method_41_code (4 : Nat) (Option.none : Option Jvm.ClassFile.FieldType)) ∈ lw_all := lw_g (lw_at lw_m8 72 rfl) rfl
theorem q1934 : (Jvm.Cond.methodLink "AlgolMill$Coder" (284 : Nat) ({ cls := "AlgolMill$Expr", name := "isElement", desc := "()Z" } : Jvm.MethodName)) ∈ lw_all := lw_g (lw_at lw_m8 73 rfl) rfl
theorem q1946 : (Jvm.Cond.methodLink "AlgolMill$Coder" (288 : Nat) ({ cls := "AlgolMill$Coder", name := "thunk", desc := "(LAlgolMill$Expr;I)LAlgolMill$Thunk;" } : Jvm.MethodName)) ∈ lw_all := lw_g (lw_at lw_m8 85 rfl) rfl
theorem q1947 : (Jvm.Cond.privateMethod ({ cls := "AlgolMill$Coder", name := "thunk", desc := "(LAlgolMill$Expr;I)LAlgolMill$Thunk;" } : Jvm.MethodName)) ∈ lw_tbl := lw_at lw_m8 86 rfl
theorem q1948 : (Jvm.Cond.instanceMethod ({ cls := "AlgolMill$Coder", name := "thunk", desc := "(LAlgolMill$Expr;I)LAlgolMill$Thunk;" } : Jvm.MethodName)) ∈ lw_all := lw_g (lw_at lw_m8 87 rfl) rfl
theorem q1949 : (Jvm.Cond.code ({ cls := "AlgolMill$Coder", name := "thunk", desc := "(LAlgolMill$Expr;I)LAlgolMill$Thunk;" } : Jvm.MethodName) prog_9_method_40_code (6 : Nat) (Option.some (Jvm.ClassFile.FieldType.object "AlgolMill$Thunk"))) ∈ lw_all := lw_g (lw_at lw_m8 88 rfl) rfl
theorem q1951 : (Jvm.Cond.methodLink "AlgolMill$Coder" (281 : Nat) ({ cls := "AlgolMill$Thunk", name := "<init>", desc := "(LAlgolMill$Expr;ILAlgolMill$Routine;I)V" } : Jvm.MethodName)) ∈ lw_all := lw_g (lw_at lw_m8 90 rfl) rfl
theorem q1956 : (Jvm.Cond.fieldLink "AlgolMill$Coder" (170 : Nat) "AlgolMill$Thunk" "expr" "LAlgolMill$Expr;") ∈ lw_all := lw_g (lw_at lw_m8 95 rfl) rfl
theorem q1958 : (Jvm.Cond.fieldLink "AlgolMill$Coder" (167 : Nat) "AlgolMill$Thunk" "how" "I") ∈ lw_all := lw_g (lw_at lw_m8 97 rfl) rfl
theorem q1960 : (Jvm.Cond.fieldLink "AlgolMill$Coder" (162 : Nat) "AlgolMill$Thunk" "home" "LAlgolMill$Routine;") ∈ lw_all := lw_g (lw_at lw_m8 99 rfl) rfl
theorem q1962 : (Jvm.Cond.fieldLink "AlgolMill$Coder" (165 : Nat) "AlgolMill$Thunk" "target" "I") ∈ lw_all := lw_g (lw_at lw_m8 101 rfl) rfl
theorem q1963 : (Jvm.Cond.fieldLink "AlgolMill$Coder" (183 : Nat) "AlgolMill$Thunk" "place" "I") ∈ lw_all := lw_g (lw_at lw_m8 102 rfl) rfl
theorem q1975 : (Jvm.Cond.methodLink "AlgolMill$Coder" (291 : Nat) ({ cls := "AlgolMill$Expr", name := "isPlace", desc := "()Z" } : Jvm.MethodName)) ∈ lw_all := lw_g (lw_at lw_m8 114 rfl) rfl
theorem q1987 : (Jvm.Cond.classLink "AlgolMill$Coder" (263 : Nat) "AlgolMill$Name") ∈ lw_all := lw_g (lw_at lw_m8 126 rfl) rfl
theorem q1988 : (Jvm.Cond.methodLink "AlgolMill$Coder" (209 : Nat) ({ cls := "AlgolMill$Coder", name := "size", desc := "(LAlgolMill$Thing;)I" } : Jvm.MethodName)) ∈ lw_all := lw_g (lw_at lw_m8 127 rfl) rfl
theorem q1989 : (Jvm.Cond.static ({ cls := "AlgolMill$Coder", name := "size", desc := "(LAlgolMill$Thing;)I" } : Jvm.MethodName)) ∈ lw_all := lw_g (lw_at lw_m8 128 rfl) rfl
theorem q1990 : (Jvm.Cond.code ({ cls := "AlgolMill$Coder", name := "size", desc := "(LAlgolMill$Thing;)I" } : Jvm.MethodName) prog_9_method_15_code (1 : Nat) (Option.some Jvm.ClassFile.FieldType.int)) ∈ lw_all := lw_g (lw_at lw_m8 129 rfl) rfl
theorem q1992 : (Jvm.Cond.instanceMethod ({ cls := "AlgolMill$Coder", name := "use", desc := "(LAlgolMill$Thing;I)V" } : Jvm.MethodName)) ∈ lw_all := lw_g (lw_at lw_m8 131 rfl) rfl
theorem q1993 : (Jvm.Cond.selects "AlgolMill$Coder" ({ cls := "AlgolMill$Coder", name := "use", desc := "(LAlgolMill$Thing;I)V" } : Jvm.MethodName) ({ cls := "AlgolMill$Coder", name := "use", desc := "(LAlgolMill$Thing;I)V" } : Jvm.MethodName)) ∈ lw_all := lw_g (lw_at lw_m8 132 rfl) rfl
theorem q1994 : (Jvm.Cond.code ({ cls := "AlgolMill$Coder", name := "use", desc := "(LAlgolMill$Thing;I)V" } : Jvm.MethodName) prog_9_method_31_code (3 : Nat) (Option.none : Option Jvm.ClassFile.FieldType)) ∈ lw_all := lw_g (lw_at lw_m8 133 rfl) rfl
theorem q2001 : (Jvm.Cond.instanceMethod ({ cls := "AlgolMill$Coder", name := "address", desc := "(I)V" } : Jvm.MethodName)) ∈ lw_all := lw_g (lw_at lw_m8 140 rfl) rfl
theorem q2002 : (Jvm.Cond.selects "AlgolMill$Coder" ({ cls := "AlgolMill$Coder", name := "address", desc := "(I)V" } : Jvm.MethodName) ({ cls := "AlgolMill$Coder", name := "address", desc := "(I)V" } : Jvm.MethodName)) ∈ lw_all := lw_g (lw_at lw_m8 141 rfl) rfl
theorem q2003 : (Jvm.Cond.code ({ cls := "AlgolMill$Coder", name := "address", desc := "(I)V" } : Jvm.MethodName) prog_9_method_29_code (2 : Nat) (Option.none : Option Jvm.ClassFile.FieldType)) ∈ lw_all := lw_g (lw_at lw_m8 142 rfl) rfl
theorem q2005 : (Jvm.Cond.instanceMethod ({ cls := "AlgolMill$Coder", name := "jumpIfNot", desc := "()I" } : Jvm.MethodName)) ∈ lw_all := lw_g (lw_at lw_m8 144 rfl) rfl
theorem q2006 : (Jvm.Cond.selects "AlgolMill$Coder" ({ cls := "AlgolMill$Coder", name := "jumpIfNot", desc := "()I" } : Jvm.MethodName) ({ cls := "AlgolMill$Coder", name := "jumpIfNot", desc := "()I" } : Jvm.MethodName)) ∈ lw_all := lw_g (lw_at lw_m8 145 rfl) rfl
theorem q2007 : (Jvm.Cond.code ({ cls := "AlgolMill$Coder", name := "jumpIfNot", desc := "()I" } : Jvm.MethodName) prog_9_method_46_code (1 : Nat) (Option.some Jvm.ClassFile.FieldType.int)) ∈ lw_all := lw_g (lw_at lw_m8 146 rfl) rfl
theorem q2009 : (Jvm.Cond.instanceMethod ({ cls := "AlgolMill$Coder", name := "jump", desc := "()I" } : Jvm.MethodName)) ∈ lw_all := lw_g (lw_at lw_m8 148 rfl) rfl
theorem q2010 : (Jvm.Cond.selects "AlgolMill$Coder" ({ cls := "AlgolMill$Coder", name := "jump", desc := "()I" } : Jvm.MethodName) ({ cls := "AlgolMill$Coder", name := "jump", desc := "()I" } : Jvm.MethodName)) ∈ lw_all := lw_g (lw_at lw_m8 149 rfl) rfl
theorem q2011 : (Jvm.Cond.code ({ cls := "AlgolMill$Coder", name := "jump", desc := "()I" } : Jvm.MethodName) prog_9_method_47_code (1 : Nat) (Option.some Jvm.ClassFile.FieldType.int)) ∈ lw_all := lw_g (lw_at lw_m8 150 rfl) rfl
theorem q2013 : (Jvm.Cond.instanceMethod ({ cls := "AlgolMill$Coder", name := "here", desc := "(I)V" } : Jvm.MethodName)) ∈ lw_all := lw_g (lw_at lw_m8 152 rfl) rfl
theorem q2014 : (Jvm.Cond.selects "AlgolMill$Coder" ({ cls := "AlgolMill$Coder", name := "here", desc := "(I)V" } : Jvm.MethodName) ({ cls := "AlgolMill$Coder", name := "here", desc := "(I)V" } : Jvm.MethodName)) ∈ lw_all := lw_g (lw_at lw_m8 153 rfl) rfl
theorem q2015 : (Jvm.Cond.code ({ cls := "AlgolMill$Coder", name := "here", desc := "(I)V" } : Jvm.MethodName) prog_9_method_48_code (2 : Nat) (Option.none : Option Jvm.ClassFile.FieldType)) ∈ lw_all := lw_g (lw_at lw_m8 154 rfl) rfl
theorem q2016 : (Jvm.Cond.methodLink "AlgolMill$Coder" (150 : Nat) ({ cls := "AlgolMill$Longs", name := "get", desc := "(I)J" } : Jvm.MethodName)) ∈ lw_all := lw_g (lw_at lw_m8 155 rfl) rfl
theorem q2017 : (Jvm.Cond.methodLink "AlgolMill$Coder" (62 : Nat) ({ cls := "AlgolMill$Coder", name := "here", desc := "()I" } : Jvm.MethodName)) ∈ lw_all := lw_g (lw_at lw_m8 156 rfl) rfl
theorem q2018 : (Jvm.Cond.instanceMethod ({ cls := "AlgolMill$Coder", name := "here", desc := "()I" } : Jvm.MethodName)) ∈ lw_all := lw_g (lw_at lw_m8 157 rfl) rfl
theorem q2019 : (Jvm.Cond.selects "AlgolMill$Coder" ({ cls := "AlgolMill$Coder", name := "here", desc := "()I" } : Jvm.MethodName) ({ cls := "AlgolMill$Coder", name := "here", desc := "()I" } : Jvm.MethodName)) ∈ lw_all := lw_g (lw_at lw_m8 158 rfl) rfl
theorem q2020 : (Jvm.Cond.code ({ cls := "AlgolMill$Coder", name := "here", desc := "()I" } : Jvm.MethodName) prog_9_method_5_code (1 : Nat) (Option.some Jvm.ClassFile.FieldType.int)) ∈ lw_all := lw_g (lw_at lw_m8 159 rfl) rfl
theorem q2021 : (Jvm.Cond.methodLink "AlgolMill$Coder" (153 : Nat) ({ cls := "AlgolMill$Longs", name := "set", desc := "(IJ)V" } : Jvm.MethodName)) ∈ lw_all := lw_g (lw_at lw_m8 160 rfl) rfl
theorem q2027 : (Jvm.Cond.instanceMethod ({ cls := "AlgolMill$Coder", name := "two", desc := "(I)V" } : Jvm.MethodName)) ∈ lw_all := lw_g (lw_at lw_m8 166 rfl) rfl
theorem q2028 : (Jvm.Cond.selects "AlgolMill$Coder" ({ cls := "AlgolMill$Coder", name := "two", desc := "(I)V" } : Jvm.MethodName) ({ cls := "AlgolMill$Coder", name := "two", desc := "(I)V" } : Jvm.MethodName)) ∈ lw_all := lw_g (lw_at lw_m8 167 rfl) rfl
theorem q2029 : (Jvm.Cond.code ({ cls := "AlgolMill$Coder", name := "two", desc := "(I)V" } : Jvm.MethodName) prog_9_method_24_code (2 : Nat) (Option.none : Option Jvm.ClassFile.FieldType)) ∈ lw_all := lw_g (lw_at lw_m8 168 rfl) rfl
theorem q2030 : (Jvm.Cond.methodLink "AlgolMill$Coder" (236 : Nat) ({ cls := "AlgolMill$Coder", name := "error", desc := "(I)V" } : Jvm.MethodName)) ∈ lw_all := lw_g (lw_at lw_m8 169 rfl) rfl
theorem q2031 : (Jvm.Cond.instanceMethod ({ cls := "AlgolMill$Coder", name := "error", desc := "(I)V" } : Jvm.MethodName)) ∈ lw_all := lw_g (lw_at lw_m8 170 rfl) rfl
theorem q2032 : (Jvm.Cond.selects "AlgolMill$Coder" ({ cls := "AlgolMill$Coder", name := "error", desc := "(I)V" } : Jvm.MethodName) ({ cls := "AlgolMill$Coder", name := "error", desc := "(I)V" } : Jvm.MethodName)) ∈ lw_all := lw_g (lw_at lw_m8 171 rfl) rfl
theorem q2033 : (Jvm.Cond.code ({ cls := "AlgolMill$Coder", name := "error", desc := "(I)V" } : Jvm.MethodName) prog_9_method_26_code (2 : Nat) (Option.none : Option Jvm.ClassFile.FieldType)) ∈ lw_all := lw_g (lw_at lw_m8 172 rfl) rfl
theorem q2034 : (Jvm.Cond.methodLink "AlgolMill$Coder" (243 : Nat) ({ cls := "AlgolMill$Coder", name := "invert", desc := "()V" } : Jvm.MethodName)) ∈ lw_all := lw_g (lw_at lw_m8 173 rfl) rfl
theorem q2035 : (Jvm.Cond.instanceMethod ({ cls := "AlgolMill$Coder", name := "invert", desc := "()V" } : Jvm.MethodName)) ∈ lw_all := lw_g (lw_at lw_m8 174 rfl) rfl
theorem q2036 : (Jvm.Cond.selects "AlgolMill$Coder" ({ cls := "AlgolMill$Coder", name := "invert", desc := "()V" } : Jvm.MethodName) ({ cls := "AlgolMill$Coder", name := "invert", desc := "()V" } : Jvm.MethodName)) ∈ lw_all := lw_g (lw_at lw_m8 175 rfl) rfl
theorem q2037 : (Jvm.Cond.code ({ cls := "AlgolMill$Coder", name := "invert", desc := "()V" } : Jvm.MethodName) prog_9_method_20_code (1 : Nat) (Option.none : Option Jvm.ClassFile.FieldType)) ∈ lw_all := lw_g (lw_at lw_m8 176 rfl) rfl
theorem q2038 : (Jvm.Cond.methodLink "AlgolMill$Coder" (246 : Nat) ({ cls := "AlgolMill$Coder", name := "skip", desc := "(I)I" } : Jvm.MethodName)) ∈ lw_all := lw_g (lw_at lw_m8 177 rfl) rfl
theorem q2039 : (Jvm.Cond.static ({ cls := "AlgolMill$Coder", name := "skip", desc := "(I)I" } : Jvm.MethodName)) ∈ lw_all := lw_g (lw_at lw_m8 178 rfl) rfl
theorem q2040 : (Jvm.Cond.code ({ cls := "AlgolMill$Coder", name := "skip", desc := "(I)I" } : Jvm.MethodName) prog_9_method_25_code (1 : Nat) (Option.some Jvm.ClassFile.FieldType.int)) ∈ lw_all := lw_g (lw_at lw_m8 179 rfl) rfl
theorem q2043 : (Jvm.Cond.instanceMethod ({ cls := "AlgolMill$Coder", name := "negate", desc := "()V" } : Jvm.MethodName)) ∈ lw_all := lw_g (lw_at lw_m8 182 rfl) rfl
theorem q2044 : (Jvm.Cond.selects "AlgolMill$Coder" ({ cls := "AlgolMill$Coder", name := "negate", desc := "()V" } : Jvm.MethodName) ({ cls := "AlgolMill$Coder", name := "negate", desc := "()V" } : Jvm.MethodName)) ∈ lw_all := lw_g (lw_at lw_m8 183 rfl) rfl
theorem q2045 : (Jvm.Cond.code ({ cls := "AlgolMill$Coder", name := "negate", desc := "()V" } : Jvm.MethodName) prog_9_method_21_code (1 : Nat) (Option.none : Option Jvm.ClassFile.FieldType)) ∈ lw_all := lw_g (lw_at lw_m8 184 rfl) rfl
theorem q2053 : (Jvm.Cond.instanceMethod ({ cls := "AlgolMill$Coder", name := "allot", desc := "(II)V" } : Jvm.MethodName)) ∈ lw_all := lw_g (lw_at lw_m8 192 rfl) rfl
theorem q2054 : (Jvm.Cond.selects "AlgolMill$Coder" ({ cls := "AlgolMill$Coder", name := "allot", desc := "(II)V" } : Jvm.MethodName) ({ cls := "AlgolMill$Coder", name := "allot", desc := "(II)V" } : Jvm.MethodName)) ∈ lw_all := lw_g (lw_at lw_m8 193 rfl) rfl
theorem q2055 : (Jvm.Cond.code ({ cls := "AlgolMill$Coder", name := "allot", desc := "(II)V" } : Jvm.MethodName) prog_9_method_34_code (3 : Nat) (Option.none : Option Jvm.ClassFile.FieldType)) ∈ lw_all := lw_g (lw_at lw_m8 194 rfl) rfl
theorem q2057 : (Jvm.Cond.instanceMethod ({ cls := "AlgolMill$Coder", name := "drop", desc := "(I)V" } : Jvm.MethodName)) ∈ lw_all := lw_g (lw_at lw_m8 196 rfl) rfl
theorem q2058 : (Jvm.Cond.selects "AlgolMill$Coder" ({ cls := "AlgolMill$Coder", name := "drop", desc := "(I)V" } : Jvm.MethodName) ({ cls := "AlgolMill$Coder", name := "drop", desc := "(I)V" } : Jvm.MethodName)) ∈ lw_all := lw_g (lw_at lw_m8 197 rfl) rfl
theorem q2059 : (Jvm.Cond.code ({ cls := "AlgolMill$Coder", name := "drop", desc := "(I)V" } : Jvm.MethodName) prog_9_method_19_code (2 : Nat) (Option.none : Option Jvm.ClassFile.FieldType)) ∈ lw_all := lw_g (lw_at lw_m8 198 rfl) rfl
theorem q2061 : (Jvm.Cond.instanceMethod ({ cls := "AlgolMill$Coder", name := "statement", desc := "(LAlgolMill$Statement;)V" } : Jvm.MethodName)) ∈ lw_all := lw_g (lw_at lw_m8 200 rfl) rfl
theorem q2062 : (Jvm.Cond.selects "AlgolMill$Coder" ({ cls := "AlgolMill$Coder", name := "statement", desc := "(LAlgolMill$Statement;)V" } : Jvm.MethodName) ({ cls := "AlgolMill$Coder", name := "statement", desc := "(LAlgolMill$Statement;)V" } : Jvm.MethodName)) ∈ lw_all := lw_g (lw_at lw_m8 201 rfl) rfl
theorem q2063 : (Jvm.Cond.code ({ cls := "AlgolMill$Coder", name := "statement", desc := "(LAlgolMill$Statement;)V" } : Jvm.MethodName) prog_9_method_57_code (4 : Nat) (Option.none : Option Jvm.ClassFile.FieldType)) ∈ lw_all := lw_g (lw_at lw_m8 202 rfl) rfl
theorem q2064 : (Jvm.Cond.methodLink "AlgolMill$Coder" (228 : Nat) ({ cls := "AlgolMill$Coder", name := "jump", desc := "()I" } : Jvm.MethodName)) ∈ lw_all := lw_g (lw_at lw_m8 203 rfl) rfl
theorem q2065 : (Jvm.Cond.methodLink "AlgolMill$Coder" (275 : Nat) ({ cls := "AlgolMill$Coder", name := "target", desc := "(LAlgolMill$Thing;)I" } : Jvm.MethodName)) ∈ lw_all := lw_g (lw_at lw_m8 204 rfl) rfl
theorem q2066 : (Jvm.Cond.privateMethod ({ cls := "AlgolMill$Coder", name := "target", desc := "(LAlgolMill$Thing;)I" } : Jvm.MethodName)) ∈ lw_tbl := lw_at lw_m8 205 rfl
theorem q2067 : (Jvm.Cond.instanceMethod ({ cls := "AlgolMill$Coder", name := "target", desc := "(LAlgolMill$Thing;)I" } : Jvm.MethodName)) ∈ lw_all := lw_g (lw_at lw_m8 206 rfl) rfl
theorem q2068 : (Jvm.Cond.code ({ cls := "AlgolMill$Coder", name := "target", desc := "(LAlgolMill$Thing;)I" } : Jvm.MethodName) prog_9_method_37_code (2 : Nat) (Option.some Jvm.ClassFile.FieldType.int)) ∈ lw_all := lw_g (lw_at lw_m8 207 rfl) rfl
theorem q2069 : (Jvm.Cond.methodLink "AlgolMill$Coder" (156 : Nat) ({ cls := "AlgolMill$Coder", name := "place", desc := "(I)V" } : Jvm.MethodName)) ∈ lw_all := lw_g (lw_at lw_m8 208 rfl) rfl
theorem q2070 : (Jvm.Cond.privateMethod ({ cls := "AlgolMill$Coder", name := "place", desc := "(I)V" } : Jvm.MethodName)) ∈ lw_tbl := lw_at lw_m8 209 rfl
theorem q2071 : (Jvm.Cond.instanceMethod ({ cls := "AlgolMill$Coder", name := "place", desc := "(I)V" } : Jvm.MethodName)) ∈ lw_all := lw_g (lw_at lw_m8 210 rfl) rfl
theorem q2072 : (Jvm.Cond.code ({ cls := "AlgolMill$Coder", name := "place", desc := "(I)V" } : Jvm.MethodName) prog_9_method_7_code (2 : Nat) (Option.none : Option Jvm.ClassFile.FieldType)) ∈ lw_all := lw_g (lw_at lw_m8 211 rfl) rfl
theorem q2073 : (Jvm.Cond.methodLink "AlgolMill$Coder" (66 : Nat) ({ cls := "AlgolMill$Ints", name := "set", desc := "(II)V" } : Jvm.MethodName)) ∈ lw_all := lw_g (lw_at lw_m8 212 rfl) rfl
theorem q2077 : (Jvm.Cond.methodLink "AlgolMill$Coder" (316 : Nat) ({ cls := "AlgolMill$Coder", name := "setTop", desc := "(I)V" } : Jvm.MethodName)) ∈ lw_all := lw_g (lw_at lw_m8 216 rfl) rfl
theorem q2078 : (Jvm.Cond.instanceMethod ({ cls := "AlgolMill$Coder", name := "setTop", desc := "(I)V" } : Jvm.MethodName)) ∈ lw_all := lw_g (lw_at lw_m8 217 rfl) rfl
theorem q2079 : (Jvm.Cond.selects "AlgolMill$Coder" ({ cls := "AlgolMill$Coder", name := "setTop", desc := "(I)V" } : Jvm.MethodName) ({ cls := "AlgolMill$Coder", name := "setTop", desc := "(I)V" } : Jvm.MethodName)) ∈ lw_all := lw_g (lw_at lw_m8 218 rfl) rfl
theorem q2080 : (Jvm.Cond.code ({ cls := "AlgolMill$Coder", name := "setTop", desc := "(I)V" } : Jvm.MethodName) prog_9_method_36_code (2 : Nat) (Option.none : Option Jvm.ClassFile.FieldType)) ∈ lw_all := lw_g (lw_at lw_m8 219 rfl) rfl
theorem q2081 : (Jvm.Cond.methodLink "AlgolMill$Coder" (234 : Nat) ({ cls := "AlgolMill$Coder", name := "here", desc := "(I)V" } : Jvm.MethodName)) ∈ lw_all := lw_g (lw_at lw_m8 220 rfl) rfl
theorem q2082 : (Jvm.Cond.methodLink "AlgolMill$Coder" (319 : Nat) ({ cls := "AlgolMill$Statement", name := "isNothing", desc := "()Z" } : Jvm.MethodName)) ∈ lw_all := lw_g (lw_at lw_m8 221 rfl) rfl
theorem q2096 : (Jvm.Cond.methodLink "AlgolMill$Coder" (322 : Nat) ({ cls := "AlgolMill$Coder", name := "step", desc := "()V" } : Jvm.MethodName)) ∈ lw_all := lw_g (lw_at lw_m8 235 rfl) rfl
theorem q2097 : (Jvm.Cond.instanceMethod ({ cls := "AlgolMill$Coder", name := "step", desc := "()V" } : Jvm.MethodName)) ∈ lw_all := lw_g (lw_at lw_m8 236 rfl) rfl
theorem q2098 : (Jvm.Cond.selects "AlgolMill$Coder" ({ cls := "AlgolMill$Coder", name := "step", desc := "()V" } : Jvm.MethodName) ({ cls := "AlgolMill$Coder", name := "step", desc := "()V" } : Jvm.MethodName)) ∈ lw_all := lw_g (lw_at lw_m8 237 rfl) rfl
theorem q2099 : (Jvm.Cond.code ({ cls := "AlgolMill$Coder", name := "step", desc := "()V" } : Jvm.MethodName) prog_9_method_55_code (1 : Nat) (Option.none : Option Jvm.ClassFile.FieldType)) ∈ lw_all := lw_g (lw_at lw_m8 238 rfl) rfl
theorem q2128 : (Jvm.Cond.instanceMethod ({ cls := "AlgolMill$Coder", name := "choose", desc := "(LAlgolMill$Name;)V" } : Jvm.MethodName)) ∈ lw_all := lw_g (lw_at lw_m9 27 rfl) rfl
theorem q2129 : (Jvm.Cond.selects "AlgolMill$Coder" ({ cls := "AlgolMill$Coder", name := "choose", desc := "(LAlgolMill$Name;)V" } : Jvm.MethodName) ({ cls := "AlgolMill$Coder", name := "choose", desc := "(LAlgolMill$Name;)V" } : Jvm.MethodName)) ∈ lw_all := lw_g (lw_at lw_m9 28 rfl) rfl
theorem q2130 : (Jvm.Cond.code ({ cls := "AlgolMill$Coder", name := "choose", desc := "(LAlgolMill$Name;)V" } : Jvm.MethodName) prog_9_method_44_code (2 : Nat) (Option.none : Option Jvm.ClassFile.FieldType)) ∈ lw_all := lw_g (lw_at lw_m9 29 rfl) rfl
theorem q2132 : (Jvm.Cond.instanceMethod ({ cls := "AlgolMill$Coder", name := "mark", desc := "(LAlgolMill$Thing;)V" } : Jvm.MethodName)) ∈ lw_all := lw_g (lw_at lw_m9 31 rfl) rfl
theorem q2133 : (Jvm.Cond.selects "AlgolMill$Coder" ({ cls := "AlgolMill$Coder", name := "mark", desc := "(LAlgolMill$Thing;)V" } : Jvm.MethodName) ({ cls := "AlgolMill$Coder", name := "mark", desc := "(LAlgolMill$Thing;)V" } : Jvm.MethodName)) ∈ lw_all := lw_g (lw_at lw_m9 32 rfl) rfl
theorem q2134 : (Jvm.Cond.code ({ cls := "AlgolMill$Coder", name := "mark", desc := "(LAlgolMill$Thing;)V" } : Jvm.MethodName) prog_9_method_38_code (2 : Nat) (Option.none : Option Jvm.ClassFile.FieldType)) ∈ lw_all := lw_g (lw_at lw_m9 33 rfl) rfl
theorem q2145 : (Jvm.Cond.instanceMethod ({ cls := "AlgolMill$Coder", name := "enter", desc := "()V" } : Jvm.MethodName)) ∈ lw_all := lw_g (lw_at lw_m9 44 rfl) rfl
theorem q2146 : (Jvm.Cond.selects "AlgolMill$Coder" ({ cls := "AlgolMill$Coder", name := "enter", desc := "()V" } : Jvm.MethodName) ({ cls := "AlgolMill$Coder", name := "enter", desc := "()V" } : Jvm.MethodName)) ∈ lw_all := lw_g (lw_at lw_m9 45 rfl) rfl
theorem q2147 : (Jvm.Cond.code ({ cls := "AlgolMill$Coder", name := "enter", desc := "()V" } : Jvm.MethodName) prog_9_method_45_code (1 : Nat) (Option.none : Option Jvm.ClassFile.FieldType)) ∈ lw_all := lw_g (lw_at lw_m9 46 rfl) rfl
theorem q2158 : (Jvm.Cond.instanceMethod ({ cls := "AlgolMill$Coder", name := "jumpBack", desc := "(I)V" } : Jvm.MethodName)) ∈ lw_all := lw_g (lw_at lw_m9 57 rfl) rfl
theorem q2159 : (Jvm.Cond.selects "AlgolMill$Coder" ({ cls := "AlgolMill$Coder", name := "jumpBack", desc := "(I)V" } : Jvm.MethodName) ({ cls := "AlgolMill$Coder", name := "jumpBack", desc := "(I)V" } : Jvm.MethodName)) ∈ lw_all := lw_g (lw_at lw_m9 58 rfl) rfl
theorem q2160 : (Jvm.Cond.code ({ cls := "AlgolMill$Coder", name := "jumpBack", desc := "(I)V" } : Jvm.MethodName) prog_9_method_54_code (2 : Nat) (Option.none : Option Jvm.ClassFile.FieldType)) ∈ lw_all := lw_g (lw_at lw_m9 59 rfl) rfl
theorem q2163 : (Jvm.Cond.instanceMethod ({ cls := "AlgolMill$Coder", name := "back", desc := "()V" } : Jvm.MethodName)) ∈ lw_all := lw_g (lw_at lw_m9 62 rfl) rfl
theorem q2164 : (Jvm.Cond.selects "AlgolMill$Coder" ({ cls := "AlgolMill$Coder", name := "back", desc := "()V" } : Jvm.MethodName) ({ cls := "AlgolMill$Coder", name := "back", desc := "()V" } : Jvm.MethodName)) ∈ lw_all := lw_g (lw_at lw_m9 63 rfl) rfl
theorem q2165 : (Jvm.Cond.code ({ cls := "AlgolMill$Coder", name := "back", desc := "()V" } : Jvm.MethodName) prog_9_method_53_code (1 : Nat) (Option.none : Option Jvm.ClassFile.FieldType)) ∈ lw_all := lw_g (lw_at lw_m9 64 rfl) rfl
theorem q2176 : (Jvm.Cond.instanceMethod ({ cls := "AlgolMill$Coder", name := "run", desc := "(I)V" } : Jvm.MethodName)) ∈ lw_all := lw_g (lw_at lw_m9 75 rfl) rfl
theorem q2177 : (Jvm.Cond.selects "AlgolMill$Coder" ({ cls := "AlgolMill$Coder", name := "run", desc := "(I)V" } : Jvm.MethodName) ({ cls := "AlgolMill$Coder", name := "run", desc := "(I)V" } : Jvm.MethodName)) ∈ lw_all := lw_g (lw_at lw_m9 76 rfl) rfl
theorem q2178 : (Jvm.Cond.code ({ cls := "AlgolMill$Coder", name := "run", desc := "(I)V" } : Jvm.MethodName) prog_9_method_52_code (2 : Nat) (Option.none : Option Jvm.ClassFile.FieldType)) ∈ lw_all := lw_g (lw_at lw_m9 77 rfl) rfl
theorem q2182 : (Jvm.Cond.instanceMethod ({ cls := "AlgolMill$Coder", name := "store", desc := "()V" } : Jvm.MethodName)) ∈ lw_all := lw_g (lw_at lw_m9 81 rfl) rfl
theorem q2183 : (Jvm.Cond.selects "AlgolMill$Coder" ({ cls := "AlgolMill$Coder", name := "store", desc := "()V" } : Jvm.MethodName) ({ cls := "AlgolMill$Coder", name := "store", desc := "()V" } : Jvm.MethodName)) ∈ lw_all := lw_g (lw_at lw_m9 82 rfl) rfl
theorem q2184 : (Jvm.Cond.code ({ cls := "AlgolMill$Coder", name := "store", desc := "()V" } : Jvm.MethodName) prog_9_method_23_code (1 : Nat) (Option.none : Option Jvm.ClassFile.FieldType)) ∈ lw_all := lw_g (lw_at lw_m9 83 rfl) rfl
theorem q2186 : (Jvm.Cond.instanceMethod ({ cls := "AlgolMill$Coder", name := "runBody", desc := "(II)V" } : Jvm.MethodName)) ∈ lw_all := lw_g (lw_at lw_m9 85 rfl) rfl
theorem q2187 : (Jvm.Cond.selects "AlgolMill$Coder" ({ cls := "AlgolMill$Coder", name := "runBody", desc := "(II)V" } : Jvm.MethodName) ({ cls := "AlgolMill$Coder", name := "runBody", desc := "(II)V" } : Jvm.MethodName)) ∈ lw_all := lw_g (lw_at lw_m9 86 rfl) rfl
theorem q2188 : (Jvm.Cond.code ({ cls := "AlgolMill$Coder", name := "runBody", desc := "(II)V" } : Jvm.MethodName) prog_9_method_51_code (3 : Nat) (Option.none : Option Jvm.ClassFile.FieldType)) ∈ lw_all := lw_g (lw_at lw_m9 87 rfl) rfl
theorem q2192 : (Jvm.Cond.instanceMethod ({ cls := "AlgolMill$Coder", name := "jumpTo", desc := "(I)V" } : Jvm.MethodName)) ∈ lw_all := lw_g (lw_at lw_m9 91 rfl) rfl
theorem q2193 : (Jvm.Cond.selects "AlgolMill$Coder" ({ cls := "AlgolMill$Coder", name := "jumpTo", desc := "(I)V" } : Jvm.MethodName) ({ cls := "AlgolMill$Coder", name := "jumpTo", desc := "(I)V" } : Jvm.MethodName)) ∈ lw_all := lw_g (lw_at lw_m9 92 rfl) rfl
theorem q2194 : (Jvm.Cond.code ({ cls := "AlgolMill$Coder", name := "jumpTo", desc := "(I)V" } : Jvm.MethodName) prog_9_method_49_code (2 : Nat) (Option.none : Option Jvm.ClassFile.FieldType)) ∈ lw_all := lw_g (lw_at lw_m9 93 rfl) rfl
theorem q2204 : (Jvm.Cond.instanceMethod ({ cls := "AlgolMill$Coder", name := "jumpIfOver", desc := "()I" } : Jvm.MethodName)) ∈ lw_all := lw_g (lw_at lw_m9 103 rfl) rfl
theorem q2205 : (Jvm.Cond.selects "AlgolMill$Coder" ({ cls := "AlgolMill$Coder", name := "jumpIfOver", desc := "()I" } : Jvm.MethodName) ({ cls := "AlgolMill$Coder", name := "jumpIfOver", desc := "()I" } : Jvm.MethodName)) ∈ lw_all := lw_g (lw_at lw_m9 104 rfl) rfl
theorem q2206 : (Jvm.Cond.code ({ cls := "AlgolMill$Coder", name := "jumpIfOver", desc := "()I" } : Jvm.MethodName) prog_9_method_50_code (2 : Nat) (Option.some Jvm.ClassFile.FieldType.int)) ∈ lw_all := lw_g (lw_at lw_m9 105 rfl) rfl
theorem q2214 : (Jvm.Cond.instanceMethod ({ cls := "AlgolMill$Coder", name := "print", desc := "()V" } : Jvm.MethodName)) ∈ lw_all := lw_g (lw_at lw_m9 113 rfl) rfl
theorem q2215 : (Jvm.Cond.selects "AlgolMill$Coder" ({ cls := "AlgolMill$Coder", name := "print", desc := "()V" } : Jvm.MethodName) ({ cls := "AlgolMill$Coder", name := "print", desc := "()V" } : Jvm.MethodName)) ∈ lw_all := lw_g (lw_at lw_m9 114 rfl) rfl
theorem q2216 : (Jvm.Cond.code ({ cls := "AlgolMill$Coder", name := "print", desc := "()V" } : Jvm.MethodName) prog_9_method_56_code (1 : Nat) (Option.none : Option Jvm.ClassFile.FieldType)) ∈ lw_all := lw_g (lw_at lw_m9 115 rfl) rfl
theorem q2241 : (Jvm.Cond.methodLink "AlgolMill$Coder" (121 : Nat) ({ cls := "AlgolMill$Coder", name := "thunk", desc := "(LAlgolMill$Thunk;)V" } : Jvm.MethodName)) ∈ lw_all := lw_g (lw_at lw_m9 140 rfl) rfl
theorem q2242 : (Jvm.Cond.privateMethod ({ cls := "AlgolMill$Coder", name := "thunk", desc := "(LAlgolMill$Thunk;)V" } : Jvm.MethodName)) ∈ lw_tbl := lw_at lw_m9 141 rfl
theorem q2243 : (Jvm.Cond.instanceMethod ({ cls := "AlgolMill$Coder", name := "thunk", desc := "(LAlgolMill$Thunk;)V" } : Jvm.MethodName)) ∈ lw_all := lw_g (lw_at lw_m9 142 rfl) rfl
theorem q2244 : (Jvm.Cond.code ({ cls := "AlgolMill$Coder", name := "thunk", desc := "(LAlgolMill$Thunk;)V" } : Jvm.MethodName) prog_9_method_11_code (2 : Nat) (Option.none : Option Jvm.ClassFile.FieldType)) ∈ lw_all := lw_g (lw_at lw_m9 143 rfl) rfl
theorem q2245 : (Jvm.Cond.methodLink "AlgolMill$Coder" (177 : Nat) ({ cls := "AlgolMill$Expr", name := "emitPlace", desc := "(LAlgolMill$Coder;)V" } : Jvm.MethodName)) ∈ lw_all := lw_g (lw_at lw_m9 144 rfl) rfl
theorem q2246 : (Jvm.Cond.methodLink "AlgolMill$Coder" (180 : Nat) ({ cls := "AlgolMill$Expr", name := "emitAim", desc := "(LAlgolMill$Coder;)V" } : Jvm.MethodName)) ∈ lw_all := lw_g (lw_at lw_m9 145 rfl) rfl
theorem q2247 : (Jvm.Cond.methodLink "AlgolMill$Coder" (185 : Nat) ({ cls := "AlgolMill$Coder", name := "valueAt", desc := "(I)V" } : Jvm.MethodName)) ∈ lw_all := lw_g (lw_at lw_m9 146 rfl) rfl
theorem q2248 : (Jvm.Cond.privateMethod ({ cls := "AlgolMill$Coder", name := "valueAt", desc := "(I)V" } : Jvm.MethodName)) ∈ lw_tbl := lw_at lw_m9 147 rfl
theorem q2249 : (Jvm.Cond.instanceMethod ({ cls := "AlgolMill$Coder", name := "valueAt", desc := "(I)V" } : Jvm.MethodName)) ∈ lw_all := lw_g (lw_at lw_m9 148 rfl) rfl
theorem q2250 : (Jvm.Cond.code ({ cls := "AlgolMill$Coder", name := "valueAt", desc := "(I)V" } : Jvm.MethodName) prog_9_method_12_code (2 : Nat) (Option.none : Option Jvm.ClassFile.FieldType)) ∈ lw_all := lw_g (lw_at lw_m9 149 rfl) rfl
theorem q2251 : (Jvm.Cond.methodLink "AlgolMill$Coder" (137 : Nat) ({ cls := "AlgolMill$Coder", name := "routine", desc := "(LAlgolMill$Routine;)V" } : Jvm.MethodName)) ∈ lw_all := lw_g (lw_at lw_m9 150 rfl) rfl
theorem q2252 : (Jvm.Cond.privateMethod ({ cls := "AlgolMill$Coder", name := "routine", desc := "(LAlgolMill$Routine;)V" } : Jvm.MethodName)) ∈ lw_tbl := lw_at lw_m9 151 rfl
theorem q2253 : (Jvm.Cond.instanceMethod ({ cls := "AlgolMill$Coder", name := "routine", desc := "(LAlgolMill$Routine;)V" } : Jvm.MethodName)) ∈ lw_all := lw_g (lw_at lw_m9 152 rfl) rfl
theorem q2254 : (Jvm.Cond.code ({ cls := "AlgolMill$Coder", name := "routine", desc := "(LAlgolMill$Routine;)V" } : Jvm.MethodName) prog_9_method_14_code (4 : Nat) (Option.none : Option Jvm.ClassFile.FieldType)) ∈ lw_all := lw_g (lw_at lw_m9 153 rfl) rfl
theorem q2255 : (Jvm.Cond.methodLink "AlgolMill$Coder" (212 : Nat) ({ cls := "AlgolMill$Coder", name := "statement", desc := "(LAlgolMill$Statement;)V" } : Jvm.MethodName)) ∈ lw_all := lw_g (lw_at lw_m9 154 rfl) rfl
theorem q2256 : (Jvm.Cond.methodLink "AlgolMill$Coder" (140 : Nat) ({ cls := "AlgolMill$Coder", name := "choices", desc := "(LAlgolMill$Thing;)V" } : Jvm.MethodName)) ∈ lw_all := lw_g (lw_at lw_m9 155 rfl) rfl
theorem q2257 : (Jvm.Cond.privateMethod ({ cls := "AlgolMill$Coder", name := "choices", desc := "(LAlgolMill$Thing;)V" } : Jvm.MethodName)) ∈ lw_tbl := lw_at lw_m9 156 rfl
theorem q2258 : (Jvm.Cond.instanceMethod ({ cls := "AlgolMill$Coder", name := "choices", desc := "(LAlgolMill$Thing;)V" } : Jvm.MethodName)) ∈ lw_all := lw_g (lw_at lw_m9 157 rfl) rfl
theorem q2259 : (Jvm.Cond.code ({ cls := "AlgolMill$Coder", name := "choices", desc := "(LAlgolMill$Thing;)V" } : Jvm.MethodName) prog_9_method_16_code (5 : Nat) (Option.none : Option Jvm.ClassFile.FieldType)) ∈ lw_all := lw_g (lw_at lw_m9 158 rfl) rfl
theorem q2260 : (Jvm.Cond.methodLink "AlgolMill$Coder" (144 : Nat) ({ cls := "AlgolMill$Coder", name := "runtime", desc := "()V" } : Jvm.MethodName)) ∈ lw_all := lw_g (lw_at lw_m9 159 rfl) rfl
theorem q2261 : (Jvm.Cond.privateMethod ({ cls := "AlgolMill$Coder", name := "runtime", desc := "()V" } : Jvm.MethodName)) ∈ lw_tbl := lw_at lw_m9 160 rfl
theorem q2262 : (Jvm.Cond.instanceMethod ({ cls := "AlgolMill$Coder", name := "runtime", desc := "()V" } : Jvm.MethodName)) ∈ lw_all := lw_g (lw_at lw_m9 161 rfl) rfl
theorem q2263 : (Jvm.Cond.code ({ cls := "AlgolMill$Coder", name := "runtime", desc := "()V" } : Jvm.MethodName) prog_9_method_10_code (1 : Nat) (Option.none : Option Jvm.ClassFile.FieldType)) ∈ lw_all := lw_g (lw_at lw_m9 162 rfl) rfl
theorem q2264 : (Jvm.Cond.methodLink "AlgolMill$Coder" (147 : Nat) ({ cls := "AlgolMill$Ints", name := "get", desc := "(I)I" } : Jvm.MethodName)) ∈ lw_all := lw_g (lw_at lw_m9 163 rfl) rfl
theorem q2266 : (Jvm.Cond.instanceMethod ({ cls := "AlgolMill$Coder", name := "words", desc := "()LAlgolMill$Longs;" } : Jvm.MethodName)) ∈ lw_all := lw_g (lw_at lw_m9 165 rfl) rfl
theorem q2267 : (Jvm.Cond.selects "AlgolMill$Coder" ({ cls := "AlgolMill$Coder", name := "words", desc := "()LAlgolMill$Longs;" } : Jvm.MethodName) ({ cls := "AlgolMill$Coder", name := "words", desc := "()LAlgolMill$Longs;" } : Jvm.MethodName)) ∈ lw_all := lw_g (lw_at lw_m9 166 rfl) rfl
theorem q2268 : (Jvm.Cond.code ({ cls := "AlgolMill$Coder", name := "words", desc := "()LAlgolMill$Longs;" } : Jvm.MethodName) prog_9_method_2_code (1 : Nat) (Option.some (Jvm.ClassFile.FieldType.object "AlgolMill$Longs"))) ∈ lw_all := lw_g (lw_at lw_m9 167 rfl) rfl
theorem in_X7 : ∀ w ∈ wsX70, w ∈ lw_all := lw_in wsX70 [468, 470, 472, 474, 476, 478, 480, 482, 484, 486, 488, 490, 492] (by decide +kernel) (by decide +kernel)
/-! AlgolMill$Things -/
def RX8 : String := "AlgolMill$Things"
def TX8 : u_T := fun k => match k with
  | 0 => ("AlgolMill$Things", "at", "[LAlgolMill$Thing;", false)
  | _ => ("AlgolMill$Things", "size", "I", false)
def tyX8 : Nat → FieldType := fun k => match k with
  | 0 => .array (.object "AlgolMill$Thing")
  | _ => .int
abbrev wsX80 : List Cond := u_ws RX8 TX8 2
theorem nmX8 : ∀ a, a < 2 → ∀ b, b < 2 → a ≠ b → (TX8 a).2.1 ≠ (TX8 b).2.1 := by decide +kernel
theorem tyX8_ok : ∀ k, k < 2 → parseFieldDescriptor (TX8 k).2.2.1 = some (tyX8 k) := by decide +kernel
abbrev cX8_init : ByteArray := prog_34_method_1_code
def yX8_init : MethodName := ⟨RX8, "<init>", "()V"⟩
abbrev cX8_get : ByteArray := prog_34_method_2_code
def yX8_get : MethodName := ⟨RX8, "get", "(I)LAlgolMill$Thing;"⟩
abbrev cX8_add : ByteArray := prog_34_method_3_code
def yX8_add : MethodName := ⟨RX8, "add", "(LAlgolMill$Thing;)V"⟩
theorem q192 : (Jvm.Cond.initialized "AlgolMill$Things") ∈ lw_all := lw_g (lw_at lw_m1 11 rfl) rfl
theorem q435 : (Jvm.Cond.instantiable "AlgolMill$Things" (2 : Nat)) ∈ lw_all := lw_g (lw_at lw_m2 14 rfl) rfl
theorem q437 : (Jvm.Cond.instanceMethod ({ cls := "AlgolMill$Things", name := "<init>", desc := "()V" } : Jvm.MethodName)) ∈ lw_all := lw_g (lw_at lw_m2 16 rfl) rfl
theorem q438 : (Jvm.Cond.code ({ cls := "AlgolMill$Things", name := "<init>", desc := "()V" } : Jvm.MethodName) prog_34_method_1_code (1 : Nat) (Option.none : Option Jvm.ClassFile.FieldType)) ∈ lw_all := lw_g (lw_at lw_m2 17 rfl) rfl
theorem q439 : (Jvm.Cond.methodLink "AlgolMill$Things" (1 : Nat) ({ cls := "java/lang/Object", name := "<init>", desc := "()V" } : Jvm.MethodName)) ∈ lw_all := lw_g (lw_at lw_m2 18 rfl) rfl
theorem q440 : (Jvm.Cond.classLink "AlgolMill$Things" (7 : Nat) "AlgolMill$Thing") ∈ lw_all := lw_g (lw_at lw_m2 19 rfl) rfl
theorem q442 : (Jvm.Cond.fieldLink "AlgolMill$Things" (9 : Nat) "AlgolMill$Things" "at" "[LAlgolMill$Thing;") ∈ lw_all := lw_g (lw_at lw_m2 21 rfl) rfl
theorem q443 : (Jvm.Cond.fieldLink "AlgolMill$Things" (15 : Nat) "AlgolMill$Things" "size" "I") ∈ lw_all := lw_g (lw_at lw_m2 22 rfl) rfl
theorem q450 : (Jvm.Cond.lays "AlgolMill$Things" "AlgolMill$Things" "at" "[LAlgolMill$Thing;") ∈ lw_all := lw_g (lw_at lw_m2 29 rfl) rfl
theorem q451 : (Jvm.Cond.soleField "AlgolMill$Things" "at") ∈ lw_all := lw_g (lw_at lw_m2 30 rfl) rfl
theorem q452 : (Jvm.Cond.lays "AlgolMill$Things" "AlgolMill$Things" "size" "I") ∈ lw_all := lw_g (lw_at lw_m2 31 rfl) rfl
theorem q453 : (Jvm.Cond.soleField "AlgolMill$Things" "size") ∈ lw_all := lw_g (lw_at lw_m2 32 rfl) rfl
theorem q454 : (Jvm.Cond.superclass "AlgolMill$Things" "java/lang/Object") ∈ lw_all := lw_g (lw_at lw_m2 33 rfl) rfl
theorem q1084 : (Jvm.Cond.instanceMethod ({ cls := "AlgolMill$Things", name := "get", desc := "(I)LAlgolMill$Thing;" } : Jvm.MethodName)) ∈ lw_all := lw_g (lw_at lw_m4 183 rfl) rfl
theorem q1085 : (Jvm.Cond.selects "AlgolMill$Things" ({ cls := "AlgolMill$Things", name := "get", desc := "(I)LAlgolMill$Thing;" } : Jvm.MethodName) ({ cls := "AlgolMill$Things", name := "get", desc := "(I)LAlgolMill$Thing;" } : Jvm.MethodName)) ∈ lw_all := lw_g (lw_at lw_m4 184 rfl) rfl
theorem q1086 : (Jvm.Cond.code ({ cls := "AlgolMill$Things", name := "get", desc := "(I)LAlgolMill$Thing;" } : Jvm.MethodName) prog_34_method_2_code (2 : Nat) (Option.some (Jvm.ClassFile.FieldType.object "AlgolMill$Thing"))) ∈ lw_all := lw_g (lw_at lw_m4 185 rfl) rfl
theorem q1097 : (Jvm.Cond.instanceMethod ({ cls := "AlgolMill$Things", name := "add", desc := "(LAlgolMill$Thing;)V" } : Jvm.MethodName)) ∈ lw_all := lw_g (lw_at lw_m4 196 rfl) rfl
theorem q1098 : (Jvm.Cond.selects "AlgolMill$Things" ({ cls := "AlgolMill$Things", name := "add", desc := "(LAlgolMill$Thing;)V" } : Jvm.MethodName) ({ cls := "AlgolMill$Things", name := "add", desc := "(LAlgolMill$Thing;)V" } : Jvm.MethodName)) ∈ lw_all := lw_g (lw_at lw_m4 197 rfl) rfl
theorem q1099 : (Jvm.Cond.code ({ cls := "AlgolMill$Things", name := "add", desc := "(LAlgolMill$Thing;)V" } : Jvm.MethodName) prog_34_method_3_code (4 : Nat) (Option.none : Option Jvm.ClassFile.FieldType)) ∈ lw_all := lw_g (lw_at lw_m4 198 rfl) rfl
theorem in_X8 : ∀ w ∈ wsX80, w ∈ lw_all := lw_in wsX80 [450, 452] (by decide +kernel) (by decide +kernel)
/-! AlgolMill$Machine -/
def RX9 : String := "AlgolMill$Machine"
def TX9 : u_T := fun k => match k with
  | 0 => ("AlgolMill$Machine", "memory", "[J", true)
  | 1 => ("AlgolMill$Machine", "end", "I", false)
  | 2 => ("AlgolMill$Machine", "pc", "I", false)
  | 3 => ("AlgolMill$Machine", "steps", "I", false)
  | 4 => ("AlgolMill$Machine", "limit", "I", false)
  | 5 => ("AlgolMill$Machine", "depth", "I", false)
  | 6 => ("AlgolMill$Machine", "deepest", "I", false)
  | 7 => ("AlgolMill$Machine", "most", "I", false)
  | 8 => ("AlgolMill$Machine", "wrong", "I", false)
  | 9 => ("AlgolMill$Machine", "running", "Z", false)
  | 10 => ("AlgolMill$Machine", "answer", "I", false)
  | _ => ("AlgolMill$Machine", "this$0", "LAlgolMill;", true)
def tyX9 : Nat → FieldType := fun k => match k with
  | 0 => .array .long
  | 1 => .int
  | 2 => .int
  | 3 => .int
  | 4 => .int
  | 5 => .int
  | 6 => .int
  | 7 => .int
  | 8 => .int
  | 9 => .boolean
  | 10 => .int
  | _ => .object "AlgolMill"
abbrev wsX90 : List Cond := u_ws RX9 TX9 12
theorem nmX9 : ∀ a, a < 12 → ∀ b, b < 12 → a ≠ b → (TX9 a).2.1 ≠ (TX9 b).2.1 := by decide +kernel
theorem tyX9_ok : ∀ k, k < 12 → parseFieldDescriptor (TX9 k).2.2.1 = some (tyX9 k) := by decide +kernel
abbrev cX9_init : ByteArray := prog_19_method_1_code
def yX9_init : MethodName := ⟨RX9, "<init>", "(LAlgolMill;)V"⟩
abbrev cX9_load : ByteArray := prog_19_method_2_code
def yX9_load : MethodName := ⟨RX9, "load", "(LAlgolMill$Longs;)V"⟩
abbrev cX9_run : ByteArray := prog_19_method_5_code
def yX9_run : MethodName := ⟨RX9, "run", "(II)I"⟩
abbrev cX9_step : ByteArray := prog_19_method_6_code
def yX9_step : MethodName := ⟨RX9, "step", "()V"⟩
abbrev cX9_stop : ByteArray := prog_19_method_4_code
def yX9_stop : MethodName := ⟨RX9, "stop", "(I)V"⟩
abbrev cX9_monitor : ByteArray := prog_19_method_12_code
def yX9_monitor : MethodName := ⟨RX9, "monitor", "(III)V"⟩
abbrev cX9_pay : ByteArray := prog_19_method_13_code
def yX9_pay : MethodName := ⟨RX9, "pay", "()Z"⟩
abbrev cX9_value : ByteArray := prog_19_method_3_code
def yX9_value : MethodName := ⟨RX9, "value", "(J)J"⟩
abbrev cX9_allot : ByteArray := prog_19_method_15_code
def yX9_allot : MethodName := ⟨RX9, "allot", "(II)V"⟩
abbrev cX9_enter : ByteArray := prog_19_method_14_code
def yX9_enter : MethodName := ⟨RX9, "enter", "()V"⟩
abbrev cX9_index : ByteArray := prog_19_method_16_code
def yX9_index : MethodName := ⟨RX9, "index", "(I)V"⟩
abbrev cX9_power : ByteArray := prog_19_method_17_code
def yX9_power : MethodName := ⟨RX9, "power", "()V"⟩
abbrev cX9_move : ByteArray := prog_19_method_7_code
def yX9_move : MethodName := ⟨RX9, "move", "(III)V"⟩
abbrev cX9_pile : ByteArray := prog_19_method_8_code
def yX9_pile : MethodName := ⟨RX9, "pile", "(III)V"⟩
abbrev cX9_test : ByteArray := prog_19_method_9_code
def yX9_test : MethodName := ⟨RX9, "test", "(III)V"⟩
abbrev cX9_skips : ByteArray := prog_19_method_10_code
def yX9_skips : MethodName := ⟨RX9, "skips", "(IJJ)Z"⟩
abbrev cX9_reckon : ByteArray := prog_19_method_11_code
def yX9_reckon : MethodName := ⟨RX9, "reckon", "(III)V"⟩
theorem q193 : (Jvm.Cond.initialized "AlgolMill$Machine") ∈ lw_all := lw_g (lw_at lw_m1 12 rfl) rfl
theorem q279 : (Jvm.Cond.fieldLink "AlgolMill$Machine" (24 : Nat) "AlgolMill$Longs" "size" "I") ∈ lw_all := lw_g (lw_at lw_m1 98 rfl) rfl
theorem q496 : (Jvm.Cond.instantiable "AlgolMill$Machine" (12 : Nat)) ∈ lw_all := lw_g (lw_at lw_m2 75 rfl) rfl
theorem q498 : (Jvm.Cond.instanceMethod ({ cls := "AlgolMill$Machine", name := "<init>", desc := "(LAlgolMill;)V" } : Jvm.MethodName)) ∈ lw_all := lw_g (lw_at lw_m2 77 rfl) rfl
theorem q499 : (Jvm.Cond.code ({ cls := "AlgolMill$Machine", name := "<init>", desc := "(LAlgolMill;)V" } : Jvm.MethodName) prog_19_method_1_code (2 : Nat) (Option.none : Option Jvm.ClassFile.FieldType)) ∈ lw_all := lw_g (lw_at lw_m2 78 rfl) rfl
theorem q500 : (Jvm.Cond.methodLink "AlgolMill$Machine" (9 : Nat) ({ cls := "java/lang/Object", name := "<init>", desc := "()V" } : Jvm.MethodName)) ∈ lw_all := lw_g (lw_at lw_m2 79 rfl) rfl
theorem q501 : (Jvm.Cond.constant "AlgolMill$Machine" (15 : Nat) (262144 : Int32)) ∈ lw_all := lw_g (lw_at lw_m2 80 rfl) rfl
theorem q502 : (Jvm.Cond.fieldLink "AlgolMill$Machine" (16 : Nat) "AlgolMill$Machine" "memory" "[J") ∈ lw_all := lw_g (lw_at lw_m2 81 rfl) rfl
theorem q503 : (Jvm.Cond.fieldLink "AlgolMill$Machine" (20 : Nat) "AlgolMill$Machine" "end" "I") ∈ lw_all := lw_g (lw_at lw_m2 82 rfl) rfl
theorem q504 : (Jvm.Cond.fieldLink "AlgolMill$Machine" (48 : Nat) "AlgolMill$Machine" "pc" "I") ∈ lw_all := lw_g (lw_at lw_m2 83 rfl) rfl
theorem q505 : (Jvm.Cond.fieldLink "AlgolMill$Machine" (51 : Nat) "AlgolMill$Machine" "steps" "I") ∈ lw_all := lw_g (lw_at lw_m2 84 rfl) rfl
theorem q507 : (Jvm.Cond.fieldLink "AlgolMill$Machine" (54 : Nat) "AlgolMill$Machine" "limit" "I") ∈ lw_all := lw_g (lw_at lw_m2 86 rfl) rfl
theorem q508 : (Jvm.Cond.fieldLink "AlgolMill$Machine" (57 : Nat) "AlgolMill$Machine" "depth" "I") ∈ lw_all := lw_g (lw_at lw_m2 87 rfl) rfl
theorem q509 : (Jvm.Cond.fieldLink "AlgolMill$Machine" (60 : Nat) "AlgolMill$Machine" "deepest" "I") ∈ lw_all := lw_g (lw_at lw_m2 88 rfl) rfl
theorem q511 : (Jvm.Cond.fieldLink "AlgolMill$Machine" (63 : Nat) "AlgolMill$Machine" "most" "I") ∈ lw_all := lw_g (lw_at lw_m2 90 rfl) rfl
theorem q513 : (Jvm.Cond.fieldLink "AlgolMill$Machine" (77 : Nat) "AlgolMill$Machine" "wrong" "I") ∈ lw_all := lw_g (lw_at lw_m2 92 rfl) rfl
theorem q515 : (Jvm.Cond.fieldLink "AlgolMill$Machine" (36 : Nat) "AlgolMill$Machine" "running" "Z") ∈ lw_all := lw_g (lw_at lw_m2 94 rfl) rfl
theorem q516 : (Jvm.Cond.fieldLink "AlgolMill$Machine" (33 : Nat) "AlgolMill$Machine" "answer" "I") ∈ lw_all := lw_g (lw_at lw_m2 95 rfl) rfl
theorem q517 : (Jvm.Cond.fieldLink "AlgolMill$Machine" (3 : Nat) "AlgolMill$Machine" "this$0" "LAlgolMill;") ∈ lw_all := lw_g (lw_at lw_m2 96 rfl) rfl
theorem q518 : (Jvm.Cond.laysFinal "AlgolMill$Machine" "AlgolMill$Machine" "memory" "[J") ∈ lw_all := lw_g (lw_at lw_m2 97 rfl) rfl
theorem q519 : (Jvm.Cond.soleField "AlgolMill$Machine" "memory") ∈ lw_all := lw_g (lw_at lw_m2 98 rfl) rfl
theorem q520 : (Jvm.Cond.lays "AlgolMill$Machine" "AlgolMill$Machine" "end" "I") ∈ lw_all := lw_g (lw_at lw_m2 99 rfl) rfl
theorem q521 : (Jvm.Cond.soleField "AlgolMill$Machine" "end") ∈ lw_all := lw_g (lw_at lw_m2 100 rfl) rfl
theorem q522 : (Jvm.Cond.lays "AlgolMill$Machine" "AlgolMill$Machine" "pc" "I") ∈ lw_all := lw_g (lw_at lw_m2 101 rfl) rfl
theorem q523 : (Jvm.Cond.soleField "AlgolMill$Machine" "pc") ∈ lw_all := lw_g (lw_at lw_m2 102 rfl) rfl
theorem q524 : (Jvm.Cond.lays "AlgolMill$Machine" "AlgolMill$Machine" "steps" "I") ∈ lw_all := lw_g (lw_at lw_m2 103 rfl) rfl
theorem q525 : (Jvm.Cond.soleField "AlgolMill$Machine" "steps") ∈ lw_all := lw_g (lw_at lw_m2 104 rfl) rfl
theorem q526 : (Jvm.Cond.lays "AlgolMill$Machine" "AlgolMill$Machine" "limit" "I") ∈ lw_all := lw_g (lw_at lw_m2 105 rfl) rfl
theorem q527 : (Jvm.Cond.soleField "AlgolMill$Machine" "limit") ∈ lw_all := lw_g (lw_at lw_m2 106 rfl) rfl
theorem q528 : (Jvm.Cond.lays "AlgolMill$Machine" "AlgolMill$Machine" "depth" "I") ∈ lw_all := lw_g (lw_at lw_m2 107 rfl) rfl
theorem q529 : (Jvm.Cond.soleField "AlgolMill$Machine" "depth") ∈ lw_all := lw_g (lw_at lw_m2 108 rfl) rfl
theorem q530 : (Jvm.Cond.lays "AlgolMill$Machine" "AlgolMill$Machine" "deepest" "I") ∈ lw_all := lw_g (lw_at lw_m2 109 rfl) rfl
theorem q531 : (Jvm.Cond.soleField "AlgolMill$Machine" "deepest") ∈ lw_all := lw_g (lw_at lw_m2 110 rfl) rfl
theorem q532 : (Jvm.Cond.lays "AlgolMill$Machine" "AlgolMill$Machine" "most" "I") ∈ lw_all := lw_g (lw_at lw_m2 111 rfl) rfl
theorem q533 : (Jvm.Cond.soleField "AlgolMill$Machine" "most") ∈ lw_all := lw_g (lw_at lw_m2 112 rfl) rfl
theorem q534 : (Jvm.Cond.lays "AlgolMill$Machine" "AlgolMill$Machine" "wrong" "I") ∈ lw_all := lw_g (lw_at lw_m2 113 rfl) rfl
theorem q535 : (Jvm.Cond.soleField "AlgolMill$Machine" "wrong") ∈ lw_all := lw_g (lw_at lw_m2 114 rfl) rfl
theorem q536 : (Jvm.Cond.lays "AlgolMill$Machine" "AlgolMill$Machine" "running" "Z") ∈ lw_all := lw_g (lw_at lw_m2 115 rfl) rfl
theorem q537 : (Jvm.Cond.soleField "AlgolMill$Machine" "running") ∈ lw_all := lw_g (lw_at lw_m2 116 rfl) rfl
theorem q538 : (Jvm.Cond.lays "AlgolMill$Machine" "AlgolMill$Machine" "answer" "I") ∈ lw_all := lw_g (lw_at lw_m2 117 rfl) rfl
theorem q539 : (Jvm.Cond.soleField "AlgolMill$Machine" "answer") ∈ lw_all := lw_g (lw_at lw_m2 118 rfl) rfl
theorem q540 : (Jvm.Cond.laysFinal "AlgolMill$Machine" "AlgolMill$Machine" "this$0" "LAlgolMill;") ∈ lw_all := lw_g (lw_at lw_m2 119 rfl) rfl
theorem q541 : (Jvm.Cond.soleField "AlgolMill$Machine" "this$0") ∈ lw_all := lw_g (lw_at lw_m2 120 rfl) rfl
theorem q542 : (Jvm.Cond.superclass "AlgolMill$Machine" "java/lang/Object") ∈ lw_all := lw_g (lw_at lw_m2 121 rfl) rfl
theorem q2270 : (Jvm.Cond.instanceMethod ({ cls := "AlgolMill$Machine", name := "load", desc := "(LAlgolMill$Longs;)V" } : Jvm.MethodName)) ∈ lw_all := lw_g (lw_at lw_m9 169 rfl) rfl
theorem q2271 : (Jvm.Cond.selects "AlgolMill$Machine" ({ cls := "AlgolMill$Machine", name := "load", desc := "(LAlgolMill$Longs;)V" } : Jvm.MethodName) ({ cls := "AlgolMill$Machine", name := "load", desc := "(LAlgolMill$Longs;)V" } : Jvm.MethodName)) ∈ lw_all := lw_g (lw_at lw_m9 170 rfl) rfl
theorem q2272 : (Jvm.Cond.code ({ cls := "AlgolMill$Machine", name := "load", desc := "(LAlgolMill$Longs;)V" } : Jvm.MethodName) prog_19_method_2_code (3 : Nat) (Option.none : Option Jvm.ClassFile.FieldType)) ∈ lw_all := lw_g (lw_at lw_m9 171 rfl) rfl
theorem q2273 : (Jvm.Cond.methodLink "AlgolMill$Machine" (29 : Nat) ({ cls := "AlgolMill$Longs", name := "get", desc := "(I)J" } : Jvm.MethodName)) ∈ lw_all := lw_g (lw_at lw_m9 172 rfl) rfl
theorem q2288 : (Jvm.Cond.instanceMethod ({ cls := "AlgolMill$Machine", name := "run", desc := "(II)I" } : Jvm.MethodName)) ∈ lw_all := lw_g (lw_at lw_m9 187 rfl) rfl
theorem q2289 : (Jvm.Cond.selects "AlgolMill$Machine" ({ cls := "AlgolMill$Machine", name := "run", desc := "(II)I" } : Jvm.MethodName) ({ cls := "AlgolMill$Machine", name := "run", desc := "(II)I" } : Jvm.MethodName)) ∈ lw_all := lw_g (lw_at lw_m9 188 rfl) rfl
theorem q2290 : (Jvm.Cond.code ({ cls := "AlgolMill$Machine", name := "run", desc := "(II)I" } : Jvm.MethodName) prog_19_method_5_code (4 : Nat) (Option.some Jvm.ClassFile.FieldType.int)) ∈ lw_all := lw_g (lw_at lw_m9 189 rfl) rfl
theorem q2291 : (Jvm.Cond.constant "AlgolMill$Machine" (40 : Nat) (137400 : Int32)) ∈ lw_all := lw_g (lw_at lw_m9 190 rfl) rfl
theorem q2292 : (Jvm.Cond.constantLong "AlgolMill$Machine" (41 : Nat) (134400 : Int64)) ∈ lw_all := lw_g (lw_at lw_m9 191 rfl) rfl
theorem q2293 : (Jvm.Cond.constant "AlgolMill$Machine" (43 : Nat) (137403 : Int32)) ∈ lw_all := lw_g (lw_at lw_m9 192 rfl) rfl
theorem q2294 : (Jvm.Cond.constantLong "AlgolMill$Machine" (44 : Nat) (137400 : Int64)) ∈ lw_all := lw_g (lw_at lw_m9 193 rfl) rfl
theorem q2295 : (Jvm.Cond.constantLong "AlgolMill$Machine" (46 : Nat) (137405 : Int64)) ∈ lw_all := lw_g (lw_at lw_m9 194 rfl) rfl
theorem q2296 : (Jvm.Cond.methodLink "AlgolMill$Machine" (66 : Nat) ({ cls := "AlgolMill$Machine", name := "step", desc := "()V" } : Jvm.MethodName)) ∈ lw_all := lw_g (lw_at lw_m9 195 rfl) rfl
theorem q2297 : (Jvm.Cond.privateMethod ({ cls := "AlgolMill$Machine", name := "step", desc := "()V" } : Jvm.MethodName)) ∈ lw_tbl := lw_at lw_m9 196 rfl
theorem q2298 : (Jvm.Cond.instanceMethod ({ cls := "AlgolMill$Machine", name := "step", desc := "()V" } : Jvm.MethodName)) ∈ lw_all := lw_g (lw_at lw_m9 197 rfl) rfl
theorem q2299 : (Jvm.Cond.code ({ cls := "AlgolMill$Machine", name := "step", desc := "()V" } : Jvm.MethodName) prog_19_method_6_code (7 : Nat) (Option.none : Option Jvm.ClassFile.FieldType)) ∈ lw_all := lw_g (lw_at lw_m9 198 rfl) rfl
theorem q2300 : (Jvm.Cond.constantLong "AlgolMill$Machine" (69 : Nat) (4200 : Int64)) ∈ lw_all := lw_g (lw_at lw_m9 199 rfl) rfl
theorem q2301 : (Jvm.Cond.methodLinkNest "AlgolMill$Machine" (71 : Nat) ({ cls := "AlgolMill", name := "in", desc := "(JJJ)Z" } : Jvm.MethodName) "AlgolMill") ∈ lw_tbl := lw_at lw_m9 200 rfl
theorem q2302 : (Jvm.Cond.constantLong "AlgolMill$Machine" (75 : Nat) (261144 : Int64)) ∈ lw_all := lw_g (lw_at lw_m9 201 rfl) rfl
theorem q2303 : (Jvm.Cond.methodLink "AlgolMill$Machine" (80 : Nat) ({ cls := "AlgolMill$Machine", name := "stop", desc := "(I)V" } : Jvm.MethodName)) ∈ lw_all := lw_g (lw_at lw_m9 202 rfl) rfl
theorem q2304 : (Jvm.Cond.privateMethod ({ cls := "AlgolMill$Machine", name := "stop", desc := "(I)V" } : Jvm.MethodName)) ∈ lw_tbl := lw_at lw_m9 203 rfl
theorem q2305 : (Jvm.Cond.instanceMethod ({ cls := "AlgolMill$Machine", name := "stop", desc := "(I)V" } : Jvm.MethodName)) ∈ lw_all := lw_g (lw_at lw_m9 204 rfl) rfl
theorem q2306 : (Jvm.Cond.code ({ cls := "AlgolMill$Machine", name := "stop", desc := "(I)V" } : Jvm.MethodName) prog_19_method_4_code (2 : Nat) (Option.none : Option Jvm.ClassFile.FieldType)) ∈ lw_all := lw_g (lw_at lw_m9 205 rfl) rfl
theorem q2307 : (Jvm.Cond.constantLong "AlgolMill$Machine" (84 : Nat) (262143 : Int64)) ∈ lw_all := lw_g (lw_at lw_m9 206 rfl) rfl
theorem q2308 : (Jvm.Cond.methodLink "AlgolMill$Machine" (86 : Nat) ({ cls := "AlgolMill$Machine", name := "monitor", desc := "(III)V" } : Jvm.MethodName)) ∈ lw_all := lw_g (lw_at lw_m9 207 rfl) rfl
theorem q2309 : (Jvm.Cond.privateMethod ({ cls := "AlgolMill$Machine", name := "monitor", desc := "(III)V" } : Jvm.MethodName)) ∈ lw_tbl := lw_at lw_m9 208 rfl
theorem q2310 : (Jvm.Cond.instanceMethod ({ cls := "AlgolMill$Machine", name := "monitor", desc := "(III)V" } : Jvm.MethodName)) ∈ lw_all := lw_g (lw_at lw_m9 209 rfl) rfl
theorem q2311 : (Jvm.Cond.code ({ cls := "AlgolMill$Machine", name := "monitor", desc := "(III)V" } : Jvm.MethodName) prog_19_method_12_code (7 : Nat) (Option.none : Option Jvm.ClassFile.FieldType)) ∈ lw_all := lw_g (lw_at lw_m9 210 rfl) rfl
theorem q2312 : (Jvm.Cond.methodLink "AlgolMill$Machine" (114 : Nat) ({ cls := "AlgolMill$Machine", name := "pay", desc := "()Z" } : Jvm.MethodName)) ∈ lw_all := lw_g (lw_at lw_m9 211 rfl) rfl
theorem q2313 : (Jvm.Cond.privateMethod ({ cls := "AlgolMill$Machine", name := "pay", desc := "()Z" } : Jvm.MethodName)) ∈ lw_tbl := lw_at lw_m9 212 rfl
theorem q2314 : (Jvm.Cond.instanceMethod ({ cls := "AlgolMill$Machine", name := "pay", desc := "()Z" } : Jvm.MethodName)) ∈ lw_all := lw_g (lw_at lw_m9 213 rfl) rfl
theorem q2315 : (Jvm.Cond.code ({ cls := "AlgolMill$Machine", name := "pay", desc := "()Z" } : Jvm.MethodName) prog_19_method_13_code (1 : Nat) (Option.some Jvm.ClassFile.FieldType.boolean)) ∈ lw_all := lw_g (lw_at lw_m9 214 rfl) rfl
theorem q2316 : (Jvm.Cond.methodLink "AlgolMill$Machine" (106 : Nat) ({ cls := "AlgolMill$Machine", name := "value", desc := "(J)J" } : Jvm.MethodName)) ∈ lw_all := lw_g (lw_at lw_m9 215 rfl) rfl
theorem q2317 : (Jvm.Cond.privateMethod ({ cls := "AlgolMill$Machine", name := "value", desc := "(J)J" } : Jvm.MethodName)) ∈ lw_tbl := lw_at lw_m9 216 rfl
theorem q2318 : (Jvm.Cond.instanceMethod ({ cls := "AlgolMill$Machine", name := "value", desc := "(J)J" } : Jvm.MethodName)) ∈ lw_all := lw_g (lw_at lw_m9 217 rfl) rfl
theorem q2319 : (Jvm.Cond.code ({ cls := "AlgolMill$Machine", name := "value", desc := "(J)J" } : Jvm.MethodName) prog_19_method_3_code (3 : Nat) (Option.some Jvm.ClassFile.FieldType.long)) ∈ lw_all := lw_g (lw_at lw_m9 218 rfl) rfl
theorem q2320 : (Jvm.Cond.methodLinkNest "AlgolMill$Machine" (118 : Nat) ({ cls := "AlgolMill", name := "print", desc := "(J)V" } : Jvm.MethodName) "AlgolMill") ∈ lw_tbl := lw_at lw_m9 219 rfl
theorem q2325 : (Jvm.Cond.methodLink "AlgolMill$Machine" (122 : Nat) ({ cls := "AlgolMill$Machine", name := "allot", desc := "(II)V" } : Jvm.MethodName)) ∈ lw_all := lw_g (lw_at lw_m9 224 rfl) rfl
theorem q2326 : (Jvm.Cond.privateMethod ({ cls := "AlgolMill$Machine", name := "allot", desc := "(II)V" } : Jvm.MethodName)) ∈ lw_tbl := lw_at lw_m9 225 rfl
theorem q2327 : (Jvm.Cond.instanceMethod ({ cls := "AlgolMill$Machine", name := "allot", desc := "(II)V" } : Jvm.MethodName)) ∈ lw_all := lw_g (lw_at lw_m9 226 rfl) rfl
theorem q2328 : (Jvm.Cond.code ({ cls := "AlgolMill$Machine", name := "allot", desc := "(II)V" } : Jvm.MethodName) prog_19_method_15_code (12 : Nat) (Option.none : Option Jvm.ClassFile.FieldType)) ∈ lw_all := lw_g (lw_at lw_m9 227 rfl) rfl
theorem q2329 : (Jvm.Cond.constantLong "AlgolMill$Machine" (104 : Nat) (68719476735 : Int64)) ∈ lw_all := lw_g (lw_at lw_m9 228 rfl) rfl
theorem q2330 : (Jvm.Cond.constantLong "AlgolMill$Machine" (135 : Nat) (2000 : Int64)) ∈ lw_all := lw_g (lw_at lw_m9 229 rfl) rfl
theorem q2331 : (Jvm.Cond.constantLong "AlgolMill$Machine" (137 : Nat) (136400 : Int64)) ∈ lw_all := lw_g (lw_at lw_m9 230 rfl) rfl
theorem q2332 : (Jvm.Cond.methodLink "AlgolMill$Machine" (126 : Nat) ({ cls := "AlgolMill$Machine", name := "enter", desc := "()V" } : Jvm.MethodName)) ∈ lw_all := lw_g (lw_at lw_m9 231 rfl) rfl
theorem q2333 : (Jvm.Cond.privateMethod ({ cls := "AlgolMill$Machine", name := "enter", desc := "()V" } : Jvm.MethodName)) ∈ lw_tbl := lw_at lw_m9 232 rfl
theorem q2334 : (Jvm.Cond.instanceMethod ({ cls := "AlgolMill$Machine", name := "enter", desc := "()V" } : Jvm.MethodName)) ∈ lw_all := lw_g (lw_at lw_m9 233 rfl) rfl
theorem q2335 : (Jvm.Cond.code ({ cls := "AlgolMill$Machine", name := "enter", desc := "()V" } : Jvm.MethodName) prog_19_method_14_code (1 : Nat) (Option.none : Option Jvm.ClassFile.FieldType)) ∈ lw_all := lw_g (lw_at lw_m9 234 rfl) rfl
theorem q2336 : (Jvm.Cond.methodLink "AlgolMill$Machine" (129 : Nat) ({ cls := "AlgolMill$Machine", name := "index", desc := "(I)V" } : Jvm.MethodName)) ∈ lw_all := lw_g (lw_at lw_m9 235 rfl) rfl
theorem q2337 : (Jvm.Cond.privateMethod ({ cls := "AlgolMill$Machine", name := "index", desc := "(I)V" } : Jvm.MethodName)) ∈ lw_tbl := lw_at lw_m9 236 rfl
theorem q2338 : (Jvm.Cond.instanceMethod ({ cls := "AlgolMill$Machine", name := "index", desc := "(I)V" } : Jvm.MethodName)) ∈ lw_all := lw_g (lw_at lw_m9 237 rfl) rfl
theorem q2339 : (Jvm.Cond.code ({ cls := "AlgolMill$Machine", name := "index", desc := "(I)V" } : Jvm.MethodName) prog_19_method_16_code (14 : Nat) (Option.none : Option Jvm.ClassFile.FieldType)) ∈ lw_all := lw_g (lw_at lw_m9 238 rfl) rfl
theorem q2340 : (Jvm.Cond.methodLink "AlgolMill$Machine" (132 : Nat) ({ cls := "AlgolMill$Machine", name := "power", desc := "()V" } : Jvm.MethodName)) ∈ lw_all := lw_g (lw_at lw_m9 239 rfl) rfl
theorem q2341 : (Jvm.Cond.privateMethod ({ cls := "AlgolMill$Machine", name := "power", desc := "()V" } : Jvm.MethodName)) ∈ lw_tbl := lw_at lw_m10 0 rfl
theorem q2342 : (Jvm.Cond.instanceMethod ({ cls := "AlgolMill$Machine", name := "power", desc := "()V" } : Jvm.MethodName)) ∈ lw_all := lw_g (lw_at lw_m10 1 rfl) rfl
theorem q2343 : (Jvm.Cond.code ({ cls := "AlgolMill$Machine", name := "power", desc := "()V" } : Jvm.MethodName) prog_19_method_17_code (9 : Nat) (Option.none : Option Jvm.ClassFile.FieldType)) ∈ lw_all := lw_g (lw_at lw_m10 2 rfl) rfl
theorem q2344 : (Jvm.Cond.methodLink "AlgolMill$Machine" (92 : Nat) ({ cls := "AlgolMill$Machine", name := "move", desc := "(III)V" } : Jvm.MethodName)) ∈ lw_all := lw_g (lw_at lw_m10 3 rfl) rfl
theorem q2345 : (Jvm.Cond.privateMethod ({ cls := "AlgolMill$Machine", name := "move", desc := "(III)V" } : Jvm.MethodName)) ∈ lw_tbl := lw_at lw_m10 4 rfl
theorem q2346 : (Jvm.Cond.instanceMethod ({ cls := "AlgolMill$Machine", name := "move", desc := "(III)V" } : Jvm.MethodName)) ∈ lw_all := lw_g (lw_at lw_m10 5 rfl) rfl
theorem q2347 : (Jvm.Cond.code ({ cls := "AlgolMill$Machine", name := "move", desc := "(III)V" } : Jvm.MethodName) prog_19_method_7_code (8 : Nat) (Option.none : Option Jvm.ClassFile.FieldType)) ∈ lw_all := lw_g (lw_at lw_m10 6 rfl) rfl
theorem q2348 : (Jvm.Cond.methodLink "AlgolMill$Machine" (95 : Nat) ({ cls := "AlgolMill$Machine", name := "pile", desc := "(III)V" } : Jvm.MethodName)) ∈ lw_all := lw_g (lw_at lw_m10 7 rfl) rfl
theorem q2349 : (Jvm.Cond.privateMethod ({ cls := "AlgolMill$Machine", name := "pile", desc := "(III)V" } : Jvm.MethodName)) ∈ lw_tbl := lw_at lw_m10 8 rfl
theorem q2350 : (Jvm.Cond.instanceMethod ({ cls := "AlgolMill$Machine", name := "pile", desc := "(III)V" } : Jvm.MethodName)) ∈ lw_all := lw_g (lw_at lw_m10 9 rfl) rfl
theorem q2351 : (Jvm.Cond.code ({ cls := "AlgolMill$Machine", name := "pile", desc := "(III)V" } : Jvm.MethodName) prog_19_method_8_code (6 : Nat) (Option.none : Option Jvm.ClassFile.FieldType)) ∈ lw_all := lw_g (lw_at lw_m10 10 rfl) rfl
theorem q2352 : (Jvm.Cond.methodLink "AlgolMill$Machine" (98 : Nat) ({ cls := "AlgolMill$Machine", name := "test", desc := "(III)V" } : Jvm.MethodName)) ∈ lw_all := lw_g (lw_at lw_m10 11 rfl) rfl
theorem q2353 : (Jvm.Cond.privateMethod ({ cls := "AlgolMill$Machine", name := "test", desc := "(III)V" } : Jvm.MethodName)) ∈ lw_tbl := lw_at lw_m10 12 rfl
theorem q2354 : (Jvm.Cond.instanceMethod ({ cls := "AlgolMill$Machine", name := "test", desc := "(III)V" } : Jvm.MethodName)) ∈ lw_all := lw_g (lw_at lw_m10 13 rfl) rfl
theorem q2355 : (Jvm.Cond.code ({ cls := "AlgolMill$Machine", name := "test", desc := "(III)V" } : Jvm.MethodName) prog_19_method_9_code (8 : Nat) (Option.none : Option Jvm.ClassFile.FieldType)) ∈ lw_all := lw_g (lw_at lw_m10 14 rfl) rfl
theorem q2356 : (Jvm.Cond.methodLink "AlgolMill$Machine" (110 : Nat) ({ cls := "AlgolMill$Machine", name := "skips", desc := "(IJJ)Z" } : Jvm.MethodName)) ∈ lw_all := lw_g (lw_at lw_m10 15 rfl) rfl
theorem q2357 : (Jvm.Cond.privateMethod ({ cls := "AlgolMill$Machine", name := "skips", desc := "(IJJ)Z" } : Jvm.MethodName)) ∈ lw_tbl := lw_at lw_m10 16 rfl
theorem q2358 : (Jvm.Cond.instanceMethod ({ cls := "AlgolMill$Machine", name := "skips", desc := "(IJJ)Z" } : Jvm.MethodName)) ∈ lw_all := lw_g (lw_at lw_m10 17 rfl) rfl
theorem q2359 : (Jvm.Cond.code ({ cls := "AlgolMill$Machine", name := "skips", desc := "(IJJ)Z" } : Jvm.MethodName) prog_19_method_10_code (6 : Nat) (Option.some Jvm.ClassFile.FieldType.boolean)) ∈ lw_all := lw_g (lw_at lw_m10 18 rfl) rfl
theorem q2360 : (Jvm.Cond.methodLink "AlgolMill$Machine" (101 : Nat) ({ cls := "AlgolMill$Machine", name := "reckon", desc := "(III)V" } : Jvm.MethodName)) ∈ lw_all := lw_g (lw_at lw_m10 19 rfl) rfl
theorem q2361 : (Jvm.Cond.privateMethod ({ cls := "AlgolMill$Machine", name := "reckon", desc := "(III)V" } : Jvm.MethodName)) ∈ lw_tbl := lw_at lw_m10 20 rfl
theorem q2362 : (Jvm.Cond.instanceMethod ({ cls := "AlgolMill$Machine", name := "reckon", desc := "(III)V" } : Jvm.MethodName)) ∈ lw_all := lw_g (lw_at lw_m10 21 rfl) rfl
theorem q2363 : (Jvm.Cond.code ({ cls := "AlgolMill$Machine", name := "reckon", desc := "(III)V" } : Jvm.MethodName) prog_19_method_11_code (4 : Nat) (Option.none : Option Jvm.ClassFile.FieldType)) ∈ lw_all := lw_g (lw_at lw_m10 22 rfl) rfl
theorem in_X9 : ∀ w ∈ wsX90, w ∈ lw_all := lw_in wsX90 [518, 520, 522, 524, 526, 528, 530, 532, 534, 536, 538, 540] (by decide +kernel) (by decide +kernel)
/-! AlgolMillModel -/
def RX10 : String := "AlgolMillModel"
def TX10 : u_T := fun k => match k with
  | 0 => ("AlgolMillModel", "thrown", "I", false)
  | 1 => ("AlgolMillModel", "text", "[B", true)
  | 2 => ("AlgolMillModel", "size", "I", false)
  | 3 => ("AlgolMillModel", "tokKind", "[I", true)
  | 4 => ("AlgolMillModel", "tokAt", "[I", true)
  | 5 => ("AlgolMillModel", "tokValue", "[J", true)
  | 6 => ("AlgolMillModel", "tokens", "I", false)
  | 7 => ("AlgolMillModel", "t", "I", false)
  | 8 => ("AlgolMillModel", "depth", "I", false)
  | 9 => ("AlgolMillModel", "wrongAt", "I", false)
  | 10 => ("AlgolMillModel", "foundFault", "I", false)
  | 11 => ("AlgolMillModel", "foundAt", "I", false)
  | 12 => ("AlgolMillModel", "latestFault", "I", false)
  | 13 => ("AlgolMillModel", "latestWhere", "I", false)
  | 14 => ("AlgolMillModel", "wrong", "Ljava/lang/ArithmeticException;", true)
  | 15 => ("AlgolMillModel", "WORDS", "[Ljava/lang/String;", true)
  | 16 => ("AlgolMillModel", "sort", "[I", true)
  | 17 => ("AlgolMillModel", "a", "[I", true)
  | 18 => ("AlgolMillModel", "b", "[I", true)
  | 19 => ("AlgolMillModel", "c", "[I", true)
  | 20 => ("AlgolMillModel", "next", "[I", true)
  | 21 => ("AlgolMillModel", "tok", "[I", true)
  | 22 => ("AlgolMillModel", "scopeOf", "[I", true)
  | 23 => ("AlgolMillModel", "nodes", "I", false)
  | 24 => ("AlgolMillModel", "scopeUp", "[I", true)
  | 25 => ("AlgolMillModel", "scopeProc", "[I", true)
  | 26 => ("AlgolMillModel", "scopeFirst", "[I", true)
  | 27 => ("AlgolMillModel", "scopeBlock", "[I", true)
  | 28 => ("AlgolMillModel", "scopes", "I", false)
  | 29 => ("AlgolMillModel", "scope", "I", false)
  | 30 => ("AlgolMillModel", "proc", "I", false)
  | 31 => ("AlgolMillModel", "symName", "[J", true)
  | 32 => ("AlgolMillModel", "symKind", "[I", true)
  | 33 => ("AlgolMillModel", "symType", "[I", true)
  | 34 => ("AlgolMillModel", "symNext", "[I", true)
  | 35 => ("AlgolMillModel", "symTok", "[I", true)
  | 36 => ("AlgolMillModel", "symProc", "[I", true)
  | 37 => ("AlgolMillModel", "symX", "[I", true)
  | 38 => ("AlgolMillModel", "symY", "[I", true)
  | 39 => ("AlgolMillModel", "symSlot", "[I", true)
  | 40 => ("AlgolMillModel", "symOwn", "[Z", true)
  | 41 => ("AlgolMillModel", "symValue", "[Z", true)
  | 42 => ("AlgolMillModel", "symbols", "I", false)
  | 43 => ("AlgolMillModel", "pSymbol", "[I", true)
  | 44 => ("AlgolMillModel", "pLevel", "[I", true)
  | 45 => ("AlgolMillModel", "pFormals", "[I", true)
  | 46 => ("AlgolMillModel", "pFirst", "[I", true)
  | 47 => ("AlgolMillModel", "pBody", "[I", true)
  | 48 => ("AlgolMillModel", "pNames", "[I", true)
  | 49 => ("AlgolMillModel", "pSlots", "[I", true)
  | 50 => ("AlgolMillModel", "pCode", "[I", true)
  | 51 => ("AlgolMillModel", "pUp", "[I", true)
  | 52 => ("AlgolMillModel", "pBodyScope", "[I", true)
  | 53 => ("AlgolMillModel", "procs", "I", false)
  | 54 => ("AlgolMillModel", "owns", "I", false)
  | 55 => ("AlgolMillModel", "blockFirst", "[I", true)
  | 56 => ("AlgolMillModel", "blockArrays", "[I", true)
  | 57 => ("AlgolMillModel", "blockSlot", "[I", true)
  | 58 => ("AlgolMillModel", "blockVars", "[I", true)
  | 59 => ("AlgolMillModel", "blocks", "I", false)
  | 60 => ("AlgolMillModel", "labelNext", "[I", true)
  | 61 => ("AlgolMillModel", "labelsOf", "[I", true)
  | 62 => ("AlgolMillModel", "can", "[I", true)
  | 63 => ("AlgolMillModel", "code", "[I", true)
  | 64 => ("AlgolMillModel", "codes", "I", false)
  | 65 => ("AlgolMillModel", "level", "I", false)
  | 66 => ("AlgolMillModel", "current", "I", false)
  | 67 => ("AlgolMillModel", "thunkCode", "[I", true)
  | 68 => ("AlgolMillModel", "thunkKind", "[I", true)
  | 69 => ("AlgolMillModel", "thunks", "I", false)
  | 70 => ("AlgolMillModel", "siteProc", "[I", true)
  | 71 => ("AlgolMillModel", "siteUp", "[I", true)
  | 72 => ("AlgolMillModel", "siteFirst", "[I", true)
  | 73 => ("AlgolMillModel", "sites", "I", false)
  | 74 => ("AlgolMillModel", "actKind", "[I", true)
  | 75 => ("AlgolMillModel", "actA", "[I", true)
  | 76 => ("AlgolMillModel", "actB", "[I", true)
  | 77 => ("AlgolMillModel", "acts", "I", false)
  | 78 => ("AlgolMillModel", "labelCode", "[I", true)
  | 79 => ("AlgolMillModel", "swFirst", "[I", true)
  | 80 => ("AlgolMillModel", "swMany", "[I", true)
  | 81 => ("AlgolMillModel", "swEntry", "[I", true)
  | 82 => ("AlgolMillModel", "swEntries", "I", false)
  | 83 => ("AlgolMillModel", "spine", "[I", true)
  | 84 => ("AlgolMillModel", "spines", "I", false)
  | 85 => ("AlgolMillModel", "routine", "I", false)
  | 86 => ("AlgolMillModel", "routineType", "I", false)
  | 87 => ("AlgolMillModel", "there", "Z", false)
  | 88 => ("AlgolMillModel", "run", "[I", true)
  | 89 => ("AlgolMillModel", "rThunkCode", "[I", true)
  | 90 => ("AlgolMillModel", "rThunkKind", "[I", true)
  | 91 => ("AlgolMillModel", "rSiteProc", "[I", true)
  | 92 => ("AlgolMillModel", "rSiteUp", "[I", true)
  | 93 => ("AlgolMillModel", "rSiteFirst", "[I", true)
  | 94 => ("AlgolMillModel", "rActKind", "[I", true)
  | 95 => ("AlgolMillModel", "rActA", "[I", true)
  | 96 => ("AlgolMillModel", "rActB", "[I", true)
  | 97 => ("AlgolMillModel", "literal", "[J", true)
  | 98 => ("AlgolMillModel", "rpCode", "[I", true)
  | 99 => ("AlgolMillModel", "rpSlots", "[I", true)
  | 100 => ("AlgolMillModel", "rpFirst", "[I", true)
  | 101 => ("AlgolMillModel", "rpFormals", "[I", true)
  | 102 => ("AlgolMillModel", "rSlot", "[I", true)
  | 103 => ("AlgolMillModel", "rLabelCode", "[I", true)
  | 104 => ("AlgolMillModel", "rLabelBlock", "[I", true)
  | 105 => ("AlgolMillModel", "rSwFirst", "[I", true)
  | 106 => ("AlgolMillModel", "rSwMany", "[I", true)
  | 107 => ("AlgolMillModel", "rSwEntry", "[I", true)
  | 108 => ("AlgolMillModel", "rBlockSlot", "[I", true)
  | 109 => ("AlgolMillModel", "rBlockVar", "[I", true)
  | 110 => ("AlgolMillModel", "rNextVar", "[I", true)
  | 111 => ("AlgolMillModel", "rOwns", "I", false)
  | 112 => ("AlgolMillModel", "mem", "[J", true)
  | 113 => ("AlgolMillModel", "heap", "[J", true)
  | 114 => ("AlgolMillModel", "st", "[J", true)
  | 115 => ("AlgolMillModel", "out", "[J", true)
  | 116 => ("AlgolMillModel", "actBase", "[I", true)
  | 117 => ("AlgolMillModel", "actLink", "[I", true)
  | 118 => ("AlgolMillModel", "actCtl", "[I", true)
  | 119 => ("AlgolMillModel", "actSp", "[I", true)
  | 120 => ("AlgolMillModel", "actHeap", "[I", true)
  | 121 => ("AlgolMillModel", "cKind", "[I", true)
  | 122 => ("AlgolMillModel", "cPc", "[I", true)
  | 123 => ("AlgolMillModel", "cEnv", "[I", true)
  | 124 => ("AlgolMillModel", "cMode", "[I", true)
  | 125 => ("AlgolMillModel", "cDepth", "[I", true)
  | 126 => ("AlgolMillModel", "cStore", "[I", true)
  | 127 => ("AlgolMillModel", "cp", "I", false)
  | 128 => ("AlgolMillModel", "pc", "I", false)
  | 129 => ("AlgolMillModel", "env", "I", false)
  | 130 => ("AlgolMillModel", "sp", "I", false)
  | 131 => ("AlgolMillModel", "activations", "I", false)
  | 132 => ("AlgolMillModel", "memTop", "I", false)
  | 133 => ("AlgolMillModel", "heapTop", "I", false)
  | 134 => ("AlgolMillModel", "uses", "I", false)
  | 135 => ("AlgolMillModel", "mostUses", "I", false)
  | 136 => ("AlgolMillModel", "mostElements", "I", false)
  | 137 => ("AlgolMillModel", "steps", "I", false)
  | 138 => ("AlgolMillModel", "allowed", "I", false)
  | 139 => ("AlgolMillModel", "printed", "I", false)
  | 140 => ("AlgolMillModel", "error", "I", false)
  | _ => ("AlgolMillModel", "actProc", "[I", true)
def tyX10 : Nat → FieldType := fun k => match k with
  | 0 => .int
  | 1 => .array .byte
  | 2 => .int
  | 3 => .array .int
  | 4 => .array .int
  | 5 => .array .long
  | 6 => .int
  | 7 => .int
  | 8 => .int
  | 9 => .int
  | 10 => .int
  | 11 => .int
  | 12 => .int
  | 13 => .int
  | 14 => .object "java/lang/ArithmeticException"
  | 15 => .array (.object "java/lang/String")
  | 16 => .array .int
  | 17 => .array .int
  | 18 => .array .int
  | 19 => .array .int
  | 20 => .array .int
  | 21 => .array .int
  | 22 => .array .int
  | 23 => .int
  | 24 => .array .int
  | 25 => .array .int
  | 26 => .array .int
  | 27 => .array .int
  | 28 => .int
  | 29 => .int
  | 30 => .int
  | 31 => .array .long
  | 32 => .array .int
  | 33 => .array .int
  | 34 => .array .int
  | 35 => .array .int
  | 36 => .array .int
  | 37 => .array .int
  | 38 => .array .int
  | 39 => .array .int
  | 40 => .array .boolean
  | 41 => .array .boolean
  | 42 => .int
  | 43 => .array .int
  | 44 => .array .int
  | 45 => .array .int
  | 46 => .array .int
  | 47 => .array .int
  | 48 => .array .int
  | 49 => .array .int
  | 50 => .array .int
  | 51 => .array .int
  | 52 => .array .int
  | 53 => .int
  | 54 => .int
  | 55 => .array .int
  | 56 => .array .int
  | 57 => .array .int
  | 58 => .array .int
  | 59 => .int
  | 60 => .array .int
  | 61 => .array .int
  | 62 => .array .int
  | 63 => .array .int
  | 64 => .int
  | 65 => .int
  | 66 => .int
  | 67 => .array .int
  | 68 => .array .int
  | 69 => .int
  | 70 => .array .int
  | 71 => .array .int
  | 72 => .array .int
  | 73 => .int
  | 74 => .array .int
  | 75 => .array .int
  | 76 => .array .int
  | 77 => .int
  | 78 => .array .int
  | 79 => .array .int
  | 80 => .array .int
  | 81 => .array .int
  | 82 => .int
  | 83 => .array .int
  | 84 => .int
  | 85 => .int
  | 86 => .int
  | 87 => .boolean
  | 88 => .array .int
  | 89 => .array .int
  | 90 => .array .int
  | 91 => .array .int
  | 92 => .array .int
  | 93 => .array .int
  | 94 => .array .int
  | 95 => .array .int
  | 96 => .array .int
  | 97 => .array .long
  | 98 => .array .int
  | 99 => .array .int
  | 100 => .array .int
  | 101 => .array .int
  | 102 => .array .int
  | 103 => .array .int
  | 104 => .array .int
  | 105 => .array .int
  | 106 => .array .int
  | 107 => .array .int
  | 108 => .array .int
  | 109 => .array .int
  | 110 => .array .int
  | 111 => .int
  | 112 => .array .long
  | 113 => .array .long
  | 114 => .array .long
  | 115 => .array .long
  | 116 => .array .int
  | 117 => .array .int
  | 118 => .array .int
  | 119 => .array .int
  | 120 => .array .int
  | 121 => .array .int
  | 122 => .array .int
  | 123 => .array .int
  | 124 => .array .int
  | 125 => .array .int
  | 126 => .array .int
  | 127 => .int
  | 128 => .int
  | 129 => .int
  | 130 => .int
  | 131 => .int
  | 132 => .int
  | 133 => .int
  | 134 => .int
  | 135 => .int
  | 136 => .int
  | 137 => .int
  | 138 => .int
  | 139 => .int
  | 140 => .int
  | _ => .array .int
abbrev wsX100 : List Cond := u_ws RX10 TX10 142
theorem nmX10 : ∀ a, a < 142 → ∀ b, b < 142 → a ≠ b → (TX10 a).2.1 ≠ (TX10 b).2.1 := by decide +kernel
theorem tyX10_ok : ∀ k, k < 142 → parseFieldDescriptor (TX10 k).2.2.1 = some (tyX10 k) := by decide +kernel
abbrev cX10_init : ByteArray := prog_38_method_1_code
def yX10_init : MethodName := ⟨RX10, "<init>", "()V"⟩
abbrev cX10_thrown : ByteArray := prog_38_method_2_code
def yX10_thrown : MethodName := ⟨RX10, "thrown", "()I"⟩
abbrev cX10_feed : ByteArray := prog_38_method_5_code
def yX10_feed : MethodName := ⟨RX10, "feed", "(IIIII)I"⟩
abbrev cX10_no : ByteArray := prog_38_method_3_code
def yX10_no : MethodName := ⟨RX10, "no", "(I)I"⟩
abbrev cX10_four : ByteArray := prog_38_method_4_code
def yX10_four : MethodName := ⟨RX10, "four", "(I)V"⟩
abbrev cX10_end : ByteArray := prog_38_method_6_code
def yX10_end : MethodName := ⟨RX10, "end", "(I)I"⟩
abbrev cX10_build : ByteArray := prog_38_method_88_code
def yX10_build : MethodName := ⟨RX10, "build", "()I"⟩
abbrev cX10_cut : ByteArray := prog_38_method_13_code
def yX10_cut : MethodName := ⟨RX10, "cut", "()V"⟩
abbrev cX10_look : ByteArray := prog_38_method_7_code
def yX10_look : MethodName := ⟨RX10, "look", "(I)I"⟩
abbrev cX10_letter : ByteArray := prog_38_method_8_code
def yX10_letter : MethodName := ⟨RX10, "letter", "(I)Z"⟩
abbrev cX10_digit : ByteArray := prog_38_method_9_code
def yX10_digit : MethodName := ⟨RX10, "digit", "(I)Z"⟩
abbrev cX10_token : ByteArray := prog_38_method_10_code
def yX10_token : MethodName := ⟨RX10, "token", "(IIJ)V"⟩
abbrev cX10_word : ByteArray := prog_38_method_11_code
def yX10_word : MethodName := ⟨RX10, "word", "(II)I"⟩
abbrev cX10_pair : ByteArray := prog_38_method_12_code
def yX10_pair : MethodName := ⟨RX10, "pair", "(II)I"⟩
abbrev cX10_program : ByteArray := prog_38_method_86_code
def yX10_program : MethodName := ⟨RX10, "program", "()I"⟩
abbrev cX10_block : ByteArray := prog_38_method_28_code
def yX10_block : MethodName := ⟨RX10, "block", "()I"⟩
abbrev cX10_expect : ByteArray := prog_38_method_17_code
def yX10_expect : MethodName := ⟨RX10, "expect", "(I)I"⟩
abbrev cX10_kind : ByteArray := prog_38_method_14_code
def yX10_kind : MethodName := ⟨RX10, "kind", "()I"⟩
abbrev cX10_bad : ByteArray := prog_38_method_15_code
def yX10_bad : MethodName := ⟨RX10, "bad", "()Ljava/lang/ArithmeticException;"⟩
abbrev cX10_taken : ByteArray := prog_38_method_16_code
def yX10_taken : MethodName := ⟨RX10, "taken", "()I"⟩
abbrev cX10_newScope : ByteArray := prog_38_method_21_code
def yX10_newScope : MethodName := ⟨RX10, "newScope", "(II)I"⟩
abbrev cX10_node : ByteArray := prog_38_method_20_code
def yX10_node : MethodName := ⟨RX10, "node", "(IIIII)I"⟩
abbrev cX10_slots : ByteArray := prog_38_method_25_code
def yX10_slots : MethodName := ⟨RX10, "slots", "(I)I"⟩
abbrev cX10_isType : ByteArray := prog_38_method_27_code
def yX10_isType : MethodName := ⟨RX10, "isType", "()Z"⟩
abbrev cX10_declaration : ByteArray := prog_38_method_29_code
def yX10_declaration : MethodName := ⟨RX10, "declaration", "(I)I"⟩
abbrev cX10_aSwitch : ByteArray := prog_38_method_31_code
def yX10_aSwitch : MethodName := ⟨RX10, "aSwitch", "()V"⟩
abbrev cX10_declare : ByteArray := prog_38_method_24_code
def yX10_declare : MethodName := ⟨RX10, "declare", "(IIII)I"⟩
abbrev cX10_inScope : ByteArray := prog_38_method_22_code
def yX10_inScope : MethodName := ⟨RX10, "inScope", "(IJ)I"⟩
abbrev cX10_found : ByteArray := prog_38_method_19_code
def yX10_found : MethodName := ⟨RX10, "found", "(II)V"⟩
abbrev cX10_aim : ByteArray := prog_38_method_44_code
def yX10_aim : MethodName := ⟨RX10, "aim", "()I"⟩
abbrev cX10_expr : ByteArray := prog_38_method_45_code
def yX10_expr : MethodName := ⟨RX10, "expr", "()I"⟩
abbrev cX10_whole : ByteArray := prog_38_method_46_code
def yX10_whole : MethodName := ⟨RX10, "whole", "(I)I"⟩
abbrev cX10_simple : ByteArray := prog_38_method_48_code
def yX10_simple : MethodName := ⟨RX10, "simple", "(I)I"⟩
abbrev cX10_level : ByteArray := prog_38_method_49_code
def yX10_level : MethodName := ⟨RX10, "level", "(II)I"⟩
abbrev cX10_primary : ByteArray := prog_38_method_50_code
def yX10_primary : MethodName := ⟨RX10, "primary", "(I)I"⟩
abbrev cX10_may : ByteArray := prog_38_method_43_code
def yX10_may : MethodName := ⟨RX10, "may", "(II)I"⟩
abbrev cX10_call : ByteArray := prog_38_method_42_code
def yX10_call : MethodName := ⟨RX10, "call", "()I"⟩
abbrev cX10_skip : ByteArray := prog_38_method_18_code
def yX10_skip : MethodName := ⟨RX10, "skip", "(I)Z"⟩
abbrev cX10_variable : ByteArray := prog_38_method_39_code
def yX10_variable : MethodName := ⟨RX10, "variable", "()I"⟩
abbrev cX10_indices : ByteArray := prog_38_method_40_code
def yX10_indices : MethodName := ⟨RX10, "indices", "(I)I"⟩
abbrev cX10_levelOf : ByteArray := prog_38_method_47_code
def yX10_levelOf : MethodName := ⟨RX10, "levelOf", "(I)I"⟩
abbrev cX10_typeOf : ByteArray := prog_38_method_26_code
def yX10_typeOf : MethodName := ⟨RX10, "typeOf", "(I)I"⟩
abbrev cX10_arrays : ByteArray := prog_38_method_30_code
def yX10_arrays : MethodName := ⟨RX10, "arrays", "(II)I"⟩
abbrev cX10_procedure : ByteArray := prog_38_method_32_code
def yX10_procedure : MethodName := ⟨RX10, "procedure", "(I)V"⟩
abbrev cX10_spec : ByteArray := prog_38_method_34_code
def yX10_spec : MethodName := ⟨RX10, "spec", "(I)V"⟩
abbrev cX10_formalOf : ByteArray := prog_38_method_33_code
def yX10_formalOf : MethodName := ⟨RX10, "formalOf", "(JI)I"⟩
abbrev cX10_statement : ByteArray := prog_38_method_36_code
def yX10_statement : MethodName := ⟨RX10, "statement", "()I"⟩
abbrev cX10_plain : ByteArray := prog_38_method_37_code
def yX10_plain : MethodName := ⟨RX10, "plain", "()I"⟩
abbrev cX10_setOrCall : ByteArray := prog_38_method_41_code
def yX10_setOrCall : MethodName := ⟨RX10, "setOrCall", "()I"⟩
abbrev cX10_inner : ByteArray := prog_38_method_35_code
def yX10_inner : MethodName := ⟨RX10, "inner", "()I"⟩
abbrev cX10_loop : ByteArray := prog_38_method_38_code
def yX10_loop : MethodName := ⟨RX10, "loop", "()I"⟩
abbrev cX10_refused : ByteArray := prog_38_method_85_code
def yX10_refused : MethodName := ⟨RX10, "refused", "(II)I"⟩
abbrev cX10_codeOf : ByteArray := prog_38_method_87_code
def yX10_codeOf : MethodName := ⟨RX10, "codeOf", "(I)V"⟩
abbrev cX10_blockCode : ByteArray := prog_38_method_83_code
def yX10_blockCode : MethodName := ⟨RX10, "blockCode", "(I)V"⟩
abbrev cX10_op : ByteArray := prog_38_method_51_code
def yX10_op : MethodName := ⟨RX10, "op", "(IIII)I"⟩
abbrev cX10_mustBe : ByteArray := prog_38_method_56_code
def yX10_mustBe : MethodName := ⟨RX10, "mustBe", "(II)V"⟩
abbrev cX10_value : ByteArray := prog_38_method_59_code
def yX10_value : MethodName := ⟨RX10, "value", "(I)I"⟩
abbrev cX10_named : ByteArray := prog_38_method_62_code
def yX10_named : MethodName := ⟨RX10, "named", "(I)I"⟩
abbrev cX10_seen : ByteArray := prog_38_method_55_code
def yX10_seen : MethodName := ⟨RX10, "seen", "(I)I"⟩
abbrev cX10_lookUp : ByteArray := prog_38_method_23_code
def yX10_lookUp : MethodName := ⟨RX10, "lookUp", "(IJ)I"⟩
abbrev cX10_up : ByteArray := prog_38_method_54_code
def yX10_up : MethodName := ⟨RX10, "up", "(I)I"⟩
abbrev cX10_levelOfSymbol : ByteArray := prog_38_method_53_code
def yX10_levelOfSymbol : MethodName := ⟨RX10, "levelOfSymbol", "(I)I"⟩
abbrev cX10_isFormal : ByteArray := prog_38_method_58_code
def yX10_isFormal : MethodName := ⟨RX10, "isFormal", "(II)Z"⟩
abbrev cX10_wrongName : ByteArray := prog_38_method_57_code
def yX10_wrongName : MethodName := ⟨RX10, "wrongName", "(I)I"⟩
abbrev cX10_alone : ByteArray := prog_38_method_63_code
def yX10_alone : MethodName := ⟨RX10, "alone", "(III)V"⟩
abbrev cX10_site : ByteArray := prog_38_method_64_code
def yX10_site : MethodName := ⟨RX10, "site", "(I)I"⟩
abbrev cX10_element : ByteArray := prog_38_method_65_code
def yX10_element : MethodName := ⟨RX10, "element", "(I)I"⟩
abbrev cX10_called : ByteArray := prog_38_method_69_code
def yX10_called : MethodName := ⟨RX10, "called", "(IZ)I"⟩
abbrev cX10_loose : ByteArray := prog_38_method_70_code
def yX10_loose : MethodName := ⟨RX10, "loose", "(I)V"⟩
abbrev cX10_names : ByteArray := prog_38_method_71_code
def yX10_names : MethodName := ⟨RX10, "names", "(I)V"⟩
abbrev cX10_patch : ByteArray := prog_38_method_52_code
def yX10_patch : MethodName := ⟨RX10, "patch", "(I)V"⟩
abbrev cX10_actual : ByteArray := prog_38_method_72_code
def yX10_actual : MethodName := ⟨RX10, "actual", "(III)V"⟩
abbrev cX10_thunk : ByteArray := prog_38_method_74_code
def yX10_thunk : MethodName := ⟨RX10, "thunk", "(II)I"⟩
abbrev cX10_newThunk : ByteArray := prog_38_method_73_code
def yX10_newThunk : MethodName := ⟨RX10, "newThunk", "(I)I"⟩
abbrev cX10_place : ByteArray := prog_38_method_67_code
def yX10_place : MethodName := ⟨RX10, "place", "(IZ)I"⟩
abbrev cX10_inProcedure : ByteArray := prog_38_method_66_code
def yX10_inProcedure : MethodName := ⟨RX10, "inProcedure", "(I)Z"⟩
abbrev cX10_aimCode : ByteArray := prog_38_method_68_code
def yX10_aimCode : MethodName := ⟨RX10, "aimCode", "(I)V"⟩
abbrev cX10_byName : ByteArray := prog_38_method_75_code
def yX10_byName : MethodName := ⟨RX10, "byName", "(III)V"⟩
abbrev cX10_two : ByteArray := prog_38_method_60_code
def yX10_two : MethodName := ⟨RX10, "two", "(I)I"⟩
abbrev cX10_joined : ByteArray := prog_38_method_61_code
def yX10_joined : MethodName := ⟨RX10, "joined", "(III)I"⟩
abbrev cX10_switchCode : ByteArray := prog_38_method_84_code
def yX10_switchCode : MethodName := ⟨RX10, "switchCode", "(I)V"⟩
abbrev cX10_row : ByteArray := prog_38_method_76_code
def yX10_row : MethodName := ⟨RX10, "row", "(I)V"⟩
abbrev cX10_statementCode : ByteArray := prog_38_method_77_code
def yX10_statementCode : MethodName := ⟨RX10, "statementCode", "(I)V"⟩
abbrev cX10_forCode : ByteArray := prog_38_method_78_code
def yX10_forCode : MethodName := ⟨RX10, "forCode", "(I)V"⟩
abbrev cX10_forSlot : ByteArray := prog_38_method_79_code
def yX10_forSlot : MethodName := ⟨RX10, "forSlot", "(I)I"⟩
abbrev cX10_setTo : ByteArray := prog_38_method_82_code
def yX10_setTo : MethodName := ⟨RX10, "setTo", "(II)V"⟩
abbrev cX10_target : ByteArray := prog_38_method_80_code
def yX10_target : MethodName := ⟨RX10, "target", "(I)I"⟩
abbrev cX10_read : ByteArray := prog_38_method_81_code
def yX10_read : MethodName := ⟨RX10, "read", "(I)I"⟩
abbrev cX10_keep : ByteArray := prog_38_method_90_code
def yX10_keep : MethodName := ⟨RX10, "keep", "()V"⟩
abbrev cX10_copy : ByteArray := prog_38_method_89_code
def yX10_copy : MethodName := ⟨RX10, "copy", "([I[II)V"⟩
abbrev cX10_run : ByteArray := prog_38_method_117_code
def yX10_run : MethodName := ⟨RX10, "run", "(I)I"⟩
abbrev cX10_step : ByteArray := prog_38_method_115_code
def yX10_step : MethodName := ⟨RX10, "step", "()V"⟩
abbrev cX10_push : ByteArray := prog_38_method_97_code
def yX10_push : MethodName := ⟨RX10, "push", "(J)V"⟩
abbrev cX10_address : ByteArray := prog_38_method_94_code
def yX10_address : MethodName := ⟨RX10, "address", "(II)I"⟩
abbrev cX10_envUp : ByteArray := prog_38_method_93_code
def yX10_envUp : MethodName := ⟨RX10, "envUp", "(I)I"⟩
abbrev cX10_use : ByteArray := prog_38_method_102_code
def yX10_use : MethodName := ⟨RX10, "use", "(II)V"⟩
abbrev cX10_pay : ByteArray := prog_38_method_92_code
def yX10_pay : MethodName := ⟨RX10, "pay", "()Z"⟩
abbrev cX10_deeper : ByteArray := prog_38_method_101_code
def yX10_deeper : MethodName := ⟨RX10, "deeper", "()Z"⟩
abbrev cX10_fail : ByteArray := prog_38_method_91_code
def yX10_fail : MethodName := ⟨RX10, "fail", "(I)V"⟩
abbrev cX10_control : ByteArray := prog_38_method_100_code
def yX10_control : MethodName := ⟨RX10, "control", "(III)V"⟩
abbrev cX10_element_2 : ByteArray := prog_38_method_108_code
def yX10_element_2 : MethodName := ⟨RX10, "element", "(II)V"⟩
abbrev cX10_pop : ByteArray := prog_38_method_98_code
def yX10_pop : MethodName := ⟨RX10, "pop", "()J"⟩
abbrev cX10_read_2 : ByteArray := prog_38_method_95_code
def yX10_read_2 : MethodName := ⟨RX10, "read", "(J)J"⟩
abbrev cX10_write : ByteArray := prog_38_method_96_code
def yX10_write : MethodName := ⟨RX10, "write", "(JJ)V"⟩
abbrev cX10_reckon : ByteArray := prog_38_method_110_code
def yX10_reckon : MethodName := ⟨RX10, "reckon", "(I)V"⟩
abbrev cX10_wrap : ByteArray := prog_38_method_99_code
def yX10_wrap : MethodName := ⟨RX10, "wrap", "(J)J"⟩
abbrev cX10_power : ByteArray := prog_38_method_111_code
def yX10_power : MethodName := ⟨RX10, "power", "(JJ)V"⟩
abbrev cX10_other : ByteArray := prog_38_method_116_code
def yX10_other : MethodName := ⟨RX10, "other", "(IIII)V"⟩
abbrev cX10_call_2 : ByteArray := prog_38_method_105_code
def yX10_call_2 : MethodName := ⟨RX10, "call", "(II)V"⟩
abbrev cX10_enter : ByteArray := prog_38_method_104_code
def yX10_enter : MethodName := ⟨RX10, "enter", "(III)V"⟩
abbrev cX10_callFormal : ByteArray := prog_38_method_106_code
def yX10_callFormal : MethodName := ⟨RX10, "callFormal", "(II)V"⟩
abbrev cX10_leave : ByteArray := prog_38_method_107_code
def yX10_leave : MethodName := ⟨RX10, "leave", "()V"⟩
abbrev cX10_finish : ByteArray := prog_38_method_103_code
def yX10_finish : MethodName := ⟨RX10, "finish", "(Z)V"⟩
abbrev cX10_jump : ByteArray := prog_38_method_112_code
def yX10_jump : MethodName := ⟨RX10, "jump", "()V"⟩
abbrev cX10_actSize : ByteArray := prog_38_method_113_code
def yX10_actSize : MethodName := ⟨RX10, "actSize", "(I)I"⟩
abbrev cX10_aimed : ByteArray := prog_38_method_114_code
def yX10_aimed : MethodName := ⟨RX10, "aimed", "(II)V"⟩
abbrev cX10_allot : ByteArray := prog_38_method_109_code
def yX10_allot : MethodName := ⟨RX10, "allot", "(II)V"⟩
abbrev cX10_out : ByteArray := prog_38_method_118_code
def yX10_out : MethodName := ⟨RX10, "out", "(I)J"⟩
abbrev cX10_count : ByteArray := prog_38_method_119_code
def yX10_count : MethodName := ⟨RX10, "count", "(I)I"⟩
theorem q194 : (Jvm.Cond.initialized "AlgolMillModel") ∈ lw_all := lw_g (lw_at lw_m1 13 rfl) rfl
theorem q2373 : (Jvm.Cond.instantiable "AlgolMillModel" (142 : Nat)) ∈ lw_all := lw_g (lw_at lw_m10 32 rfl) rfl
theorem q2375 : (Jvm.Cond.instanceMethod ({ cls := "AlgolMillModel", name := "<init>", desc := "()V" } : Jvm.MethodName)) ∈ lw_all := lw_g (lw_at lw_m10 34 rfl) rfl
theorem q2376 : (Jvm.Cond.code ({ cls := "AlgolMillModel", name := "<init>", desc := "()V" } : Jvm.MethodName) prog_38_method_1_code (1 : Nat) (Option.none : Option Jvm.ClassFile.FieldType)) ∈ lw_all := lw_g (lw_at lw_m10 35 rfl) rfl
theorem q2377 : (Jvm.Cond.methodLink "AlgolMillModel" (1 : Nat) ({ cls := "java/lang/Object", name := "<init>", desc := "()V" } : Jvm.MethodName)) ∈ lw_all := lw_g (lw_at lw_m10 36 rfl) rfl
theorem q2378 : (Jvm.Cond.classLink "AlgolMillModel" (28 : Nat) "java/lang/ArithmeticException") ∈ lw_all := lw_g (lw_at lw_m10 37 rfl) rfl
theorem q2387 : (Jvm.Cond.methodLink "AlgolMillModel" (30 : Nat) ({ cls := "java/lang/ArithmeticException", name := "<init>", desc := "()V" } : Jvm.MethodName)) ∈ lw_all := lw_g (lw_at lw_m10 46 rfl) rfl
theorem q2393 : (Jvm.Cond.classLink "AlgolMillModel" (35 : Nat) "java/lang/String") ∈ lw_all := lw_g (lw_at lw_m10 52 rfl) rfl
theorem q2395 : (Jvm.Cond.stringRef "AlgolMillModel" (37 : Nat) "begin") ∈ lw_tbl := lw_at lw_m10 54 rfl
theorem q2396 : (Jvm.Cond.stringRef "AlgolMillModel" (39 : Nat) "end") ∈ lw_tbl := lw_at lw_m10 55 rfl
theorem q2397 : (Jvm.Cond.stringRef "AlgolMillModel" (41 : Nat) "own") ∈ lw_tbl := lw_at lw_m10 56 rfl
theorem q2398 : (Jvm.Cond.stringRef "AlgolMillModel" (43 : Nat) "integer") ∈ lw_tbl := lw_at lw_m10 57 rfl
theorem q2399 : (Jvm.Cond.stringRef "AlgolMillModel" (45 : Nat) "boolean") ∈ lw_tbl := lw_at lw_m10 58 rfl
theorem q2400 : (Jvm.Cond.stringRef "AlgolMillModel" (47 : Nat) "array") ∈ lw_tbl := lw_at lw_m10 59 rfl
theorem q2401 : (Jvm.Cond.stringRef "AlgolMillModel" (49 : Nat) "procedure") ∈ lw_tbl := lw_at lw_m10 60 rfl
theorem q2402 : (Jvm.Cond.stringRef "AlgolMillModel" (51 : Nat) "value") ∈ lw_tbl := lw_at lw_m10 61 rfl
theorem q2403 : (Jvm.Cond.stringRef "AlgolMillModel" (53 : Nat) "label") ∈ lw_tbl := lw_at lw_m10 62 rfl
theorem q2404 : (Jvm.Cond.stringRef "AlgolMillModel" (55 : Nat) "switch") ∈ lw_tbl := lw_at lw_m10 63 rfl
theorem q2405 : (Jvm.Cond.stringRef "AlgolMillModel" (57 : Nat) "goto") ∈ lw_tbl := lw_at lw_m10 64 rfl
theorem q2406 : (Jvm.Cond.stringRef "AlgolMillModel" (59 : Nat) "if") ∈ lw_tbl := lw_at lw_m10 65 rfl
theorem q2407 : (Jvm.Cond.stringRef "AlgolMillModel" (61 : Nat) "then") ∈ lw_tbl := lw_at lw_m10 66 rfl
theorem q2408 : (Jvm.Cond.stringRef "AlgolMillModel" (63 : Nat) "else") ∈ lw_tbl := lw_at lw_m10 67 rfl
theorem q2409 : (Jvm.Cond.stringRef "AlgolMillModel" (65 : Nat) "for") ∈ lw_tbl := lw_at lw_m10 68 rfl
theorem q2410 : (Jvm.Cond.stringRef "AlgolMillModel" (67 : Nat) "do") ∈ lw_tbl := lw_at lw_m10 69 rfl
theorem q2411 : (Jvm.Cond.stringRef "AlgolMillModel" (69 : Nat) "step") ∈ lw_tbl := lw_at lw_m10 70 rfl
theorem q2412 : (Jvm.Cond.stringRef "AlgolMillModel" (71 : Nat) "until") ∈ lw_tbl := lw_at lw_m10 71 rfl
theorem q2413 : (Jvm.Cond.stringRef "AlgolMillModel" (73 : Nat) "while") ∈ lw_tbl := lw_at lw_m10 72 rfl
theorem q2414 : (Jvm.Cond.stringRef "AlgolMillModel" (75 : Nat) "true") ∈ lw_tbl := lw_at lw_m10 73 rfl
theorem q2415 : (Jvm.Cond.stringRef "AlgolMillModel" (77 : Nat) "false") ∈ lw_tbl := lw_at lw_m10 74 rfl
theorem q2416 : (Jvm.Cond.stringRef "AlgolMillModel" (79 : Nat) "and") ∈ lw_tbl := lw_at lw_m10 75 rfl
theorem q2417 : (Jvm.Cond.stringRef "AlgolMillModel" (81 : Nat) "or") ∈ lw_tbl := lw_at lw_m10 76 rfl
theorem q2418 : (Jvm.Cond.stringRef "AlgolMillModel" (83 : Nat) "impl") ∈ lw_tbl := lw_at lw_m10 77 rfl
theorem q2419 : (Jvm.Cond.stringRef "AlgolMillModel" (85 : Nat) "equiv") ∈ lw_tbl := lw_at lw_m10 78 rfl
theorem q2420 : (Jvm.Cond.stringRef "AlgolMillModel" (87 : Nat) "not") ∈ lw_tbl := lw_at lw_m10 79 rfl
theorem q2421 : (Jvm.Cond.stringRef "AlgolMillModel" (89 : Nat) "div") ∈ lw_tbl := lw_at lw_m10 80 rfl
theorem q2422 : (Jvm.Cond.stringRef "AlgolMillModel" (91 : Nat) "mod") ∈ lw_tbl := lw_at lw_m10 81 rfl
theorem q2423 : (Jvm.Cond.stringRef "AlgolMillModel" (93 : Nat) "print") ∈ lw_tbl := lw_at lw_m10 82 rfl
theorem q2424 : (Jvm.Cond.constant "AlgolMillModel" (217 : Nat) (240000 : Int32)) ∈ lw_all := lw_g (lw_at lw_m10 83 rfl) rfl
theorem q2425 : (Jvm.Cond.constant "AlgolMillModel" (329 : Nat) (200000 : Int32)) ∈ lw_all := lw_g (lw_at lw_m10 84 rfl) rfl
theorem q2426 : (Jvm.Cond.fieldLink "AlgolMillModel" (378 : Nat) "AlgolMillModel" "thrown" "I") ∈ lw_all := lw_g (lw_at lw_m10 85 rfl) rfl
theorem q2427 : (Jvm.Cond.fieldLink "AlgolMillModel" (7 : Nat) "AlgolMillModel" "text" "[B") ∈ lw_all := lw_g (lw_at lw_m10 86 rfl) rfl
theorem q2428 : (Jvm.Cond.fieldLink "AlgolMillModel" (381 : Nat) "AlgolMillModel" "size" "I") ∈ lw_all := lw_g (lw_at lw_m10 87 rfl) rfl
theorem q2429 : (Jvm.Cond.fieldLink "AlgolMillModel" (13 : Nat) "AlgolMillModel" "tokKind" "[I") ∈ lw_all := lw_g (lw_at lw_m10 88 rfl) rfl
theorem q2430 : (Jvm.Cond.fieldLink "AlgolMillModel" (17 : Nat) "AlgolMillModel" "tokAt" "[I") ∈ lw_all := lw_g (lw_at lw_m10 89 rfl) rfl
theorem q2431 : (Jvm.Cond.fieldLink "AlgolMillModel" (20 : Nat) "AlgolMillModel" "tokValue" "[J") ∈ lw_all := lw_g (lw_at lw_m10 90 rfl) rfl
theorem q2432 : (Jvm.Cond.fieldLink "AlgolMillModel" (392 : Nat) "AlgolMillModel" "tokens" "I") ∈ lw_all := lw_g (lw_at lw_m10 91 rfl) rfl
theorem q2433 : (Jvm.Cond.fieldLink "AlgolMillModel" (443 : Nat) "AlgolMillModel" "t" "I") ∈ lw_all := lw_g (lw_at lw_m10 92 rfl) rfl
theorem q2434 : (Jvm.Cond.fieldLink "AlgolMillModel" (449 : Nat) "AlgolMillModel" "depth" "I") ∈ lw_all := lw_g (lw_at lw_m10 93 rfl) rfl
theorem q2435 : (Jvm.Cond.fieldLink "AlgolMillModel" (446 : Nat) "AlgolMillModel" "wrongAt" "I") ∈ lw_all := lw_g (lw_at lw_m10 94 rfl) rfl
theorem q2436 : (Jvm.Cond.fieldLink "AlgolMillModel" (462 : Nat) "AlgolMillModel" "foundFault" "I") ∈ lw_all := lw_g (lw_at lw_m10 95 rfl) rfl
theorem q2437 : (Jvm.Cond.fieldLink "AlgolMillModel" (465 : Nat) "AlgolMillModel" "foundAt" "I") ∈ lw_all := lw_g (lw_at lw_m10 96 rfl) rfl
theorem q2438 : (Jvm.Cond.fieldLink "AlgolMillModel" (733 : Nat) "AlgolMillModel" "latestFault" "I") ∈ lw_all := lw_g (lw_at lw_m10 97 rfl) rfl
theorem q2439 : (Jvm.Cond.fieldLink "AlgolMillModel" (24 : Nat) "AlgolMillModel" "latestWhere" "I") ∈ lw_all := lw_g (lw_at lw_m10 98 rfl) rfl
theorem q2440 : (Jvm.Cond.fieldLink "AlgolMillModel" (31 : Nat) "AlgolMillModel" "wrong" "Ljava/lang/ArithmeticException;") ∈ lw_all := lw_g (lw_at lw_m10 99 rfl) rfl
theorem q2441 : (Jvm.Cond.fieldLink "AlgolMillModel" (95 : Nat) "AlgolMillModel" "WORDS" "[Ljava/lang/String;") ∈ lw_all := lw_g (lw_at lw_m10 100 rfl) rfl
theorem q2442 : (Jvm.Cond.fieldLink "AlgolMillModel" (99 : Nat) "AlgolMillModel" "sort" "[I") ∈ lw_all := lw_g (lw_at lw_m10 101 rfl) rfl
theorem q2443 : (Jvm.Cond.fieldLink "AlgolMillModel" (102 : Nat) "AlgolMillModel" "a" "[I") ∈ lw_all := lw_g (lw_at lw_m10 102 rfl) rfl
theorem q2444 : (Jvm.Cond.fieldLink "AlgolMillModel" (105 : Nat) "AlgolMillModel" "b" "[I") ∈ lw_all := lw_g (lw_at lw_m10 103 rfl) rfl
theorem q2445 : (Jvm.Cond.fieldLink "AlgolMillModel" (108 : Nat) "AlgolMillModel" "c" "[I") ∈ lw_all := lw_g (lw_at lw_m10 104 rfl) rfl
theorem q2446 : (Jvm.Cond.fieldLink "AlgolMillModel" (111 : Nat) "AlgolMillModel" "next" "[I") ∈ lw_all := lw_g (lw_at lw_m10 105 rfl) rfl
theorem q2447 : (Jvm.Cond.fieldLink "AlgolMillModel" (114 : Nat) "AlgolMillModel" "tok" "[I") ∈ lw_all := lw_g (lw_at lw_m10 106 rfl) rfl
theorem q2448 : (Jvm.Cond.fieldLink "AlgolMillModel" (117 : Nat) "AlgolMillModel" "scopeOf" "[I") ∈ lw_all := lw_g (lw_at lw_m10 107 rfl) rfl
theorem q2449 : (Jvm.Cond.fieldLink "AlgolMillModel" (468 : Nat) "AlgolMillModel" "nodes" "I") ∈ lw_all := lw_g (lw_at lw_m10 108 rfl) rfl
theorem q2450 : (Jvm.Cond.fieldLink "AlgolMillModel" (120 : Nat) "AlgolMillModel" "scopeUp" "[I") ∈ lw_all := lw_g (lw_at lw_m10 109 rfl) rfl
theorem q2451 : (Jvm.Cond.fieldLink "AlgolMillModel" (123 : Nat) "AlgolMillModel" "scopeProc" "[I") ∈ lw_all := lw_g (lw_at lw_m10 110 rfl) rfl
theorem q2452 : (Jvm.Cond.fieldLink "AlgolMillModel" (126 : Nat) "AlgolMillModel" "scopeFirst" "[I") ∈ lw_all := lw_g (lw_at lw_m10 111 rfl) rfl
theorem q2453 : (Jvm.Cond.fieldLink "AlgolMillModel" (129 : Nat) "AlgolMillModel" "scopeBlock" "[I") ∈ lw_all := lw_g (lw_at lw_m10 112 rfl) rfl
theorem q2454 : (Jvm.Cond.fieldLink "AlgolMillModel" (474 : Nat) "AlgolMillModel" "scopes" "I") ∈ lw_all := lw_g (lw_at lw_m10 113 rfl) rfl
theorem q2455 : (Jvm.Cond.fieldLink "AlgolMillModel" (471 : Nat) "AlgolMillModel" "scope" "I") ∈ lw_all := lw_g (lw_at lw_m10 114 rfl) rfl
theorem q2456 : (Jvm.Cond.fieldLink "AlgolMillModel" (477 : Nat) "AlgolMillModel" "proc" "I") ∈ lw_all := lw_g (lw_at lw_m10 115 rfl) rfl
theorem q2457 : (Jvm.Cond.fieldLink "AlgolMillModel" (132 : Nat) "AlgolMillModel" "symName" "[J") ∈ lw_all := lw_g (lw_at lw_m10 116 rfl) rfl
theorem q2458 : (Jvm.Cond.fieldLink "AlgolMillModel" (135 : Nat) "AlgolMillModel" "symKind" "[I") ∈ lw_all := lw_g (lw_at lw_m10 117 rfl) rfl
theorem q2459 : (Jvm.Cond.fieldLink "AlgolMillModel" (138 : Nat) "AlgolMillModel" "symType" "[I") ∈ lw_all := lw_g (lw_at lw_m10 118 rfl) rfl
theorem q2460 : (Jvm.Cond.fieldLink "AlgolMillModel" (141 : Nat) "AlgolMillModel" "symNext" "[I") ∈ lw_all := lw_g (lw_at lw_m10 119 rfl) rfl
theorem q2461 : (Jvm.Cond.fieldLink "AlgolMillModel" (144 : Nat) "AlgolMillModel" "symTok" "[I") ∈ lw_all := lw_g (lw_at lw_m10 120 rfl) rfl
theorem q2462 : (Jvm.Cond.fieldLink "AlgolMillModel" (147 : Nat) "AlgolMillModel" "symProc" "[I") ∈ lw_all := lw_g (lw_at lw_m10 121 rfl) rfl
theorem q2463 : (Jvm.Cond.fieldLink "AlgolMillModel" (150 : Nat) "AlgolMillModel" "symX" "[I") ∈ lw_all := lw_g (lw_at lw_m10 122 rfl) rfl
theorem q2464 : (Jvm.Cond.fieldLink "AlgolMillModel" (153 : Nat) "AlgolMillModel" "symY" "[I") ∈ lw_all := lw_g (lw_at lw_m10 123 rfl) rfl
theorem q2465 : (Jvm.Cond.fieldLink "AlgolMillModel" (156 : Nat) "AlgolMillModel" "symSlot" "[I") ∈ lw_all := lw_g (lw_at lw_m10 124 rfl) rfl
theorem q2466 : (Jvm.Cond.fieldLink "AlgolMillModel" (159 : Nat) "AlgolMillModel" "symOwn" "[Z") ∈ lw_all := lw_g (lw_at lw_m10 125 rfl) rfl
theorem q2467 : (Jvm.Cond.fieldLink "AlgolMillModel" (163 : Nat) "AlgolMillModel" "symValue" "[Z") ∈ lw_all := lw_g (lw_at lw_m10 126 rfl) rfl
theorem q2468 : (Jvm.Cond.fieldLink "AlgolMillModel" (488 : Nat) "AlgolMillModel" "symbols" "I") ∈ lw_all := lw_g (lw_at lw_m10 127 rfl) rfl
theorem q2469 : (Jvm.Cond.fieldLink "AlgolMillModel" (166 : Nat) "AlgolMillModel" "pSymbol" "[I") ∈ lw_all := lw_g (lw_at lw_m10 128 rfl) rfl
theorem q2470 : (Jvm.Cond.fieldLink "AlgolMillModel" (169 : Nat) "AlgolMillModel" "pLevel" "[I") ∈ lw_all := lw_g (lw_at lw_m10 129 rfl) rfl
theorem q2471 : (Jvm.Cond.fieldLink "AlgolMillModel" (172 : Nat) "AlgolMillModel" "pFormals" "[I") ∈ lw_all := lw_g (lw_at lw_m10 130 rfl) rfl
theorem q2472 : (Jvm.Cond.fieldLink "AlgolMillModel" (175 : Nat) "AlgolMillModel" "pFirst" "[I") ∈ lw_all := lw_g (lw_at lw_m10 131 rfl) rfl
theorem q2473 : (Jvm.Cond.fieldLink "AlgolMillModel" (178 : Nat) "AlgolMillModel" "pBody" "[I") ∈ lw_all := lw_g (lw_at lw_m10 132 rfl) rfl
theorem q2474 : (Jvm.Cond.fieldLink "AlgolMillModel" (181 : Nat) "AlgolMillModel" "pNames" "[I") ∈ lw_all := lw_g (lw_at lw_m10 133 rfl) rfl
theorem q2475 : (Jvm.Cond.fieldLink "AlgolMillModel" (184 : Nat) "AlgolMillModel" "pSlots" "[I") ∈ lw_all := lw_g (lw_at lw_m10 134 rfl) rfl
theorem q2476 : (Jvm.Cond.fieldLink "AlgolMillModel" (187 : Nat) "AlgolMillModel" "pCode" "[I") ∈ lw_all := lw_g (lw_at lw_m10 135 rfl) rfl
theorem q2477 : (Jvm.Cond.fieldLink "AlgolMillModel" (190 : Nat) "AlgolMillModel" "pUp" "[I") ∈ lw_all := lw_g (lw_at lw_m10 136 rfl) rfl
theorem q2478 : (Jvm.Cond.fieldLink "AlgolMillModel" (193 : Nat) "AlgolMillModel" "pBodyScope" "[I") ∈ lw_all := lw_g (lw_at lw_m10 137 rfl) rfl
theorem q2479 : (Jvm.Cond.fieldLink "AlgolMillModel" (544 : Nat) "AlgolMillModel" "procs" "I") ∈ lw_all := lw_g (lw_at lw_m10 138 rfl) rfl
theorem q2480 : (Jvm.Cond.fieldLink "AlgolMillModel" (535 : Nat) "AlgolMillModel" "owns" "I") ∈ lw_all := lw_g (lw_at lw_m10 139 rfl) rfl
theorem q2481 : (Jvm.Cond.fieldLink "AlgolMillModel" (196 : Nat) "AlgolMillModel" "blockFirst" "[I") ∈ lw_all := lw_g (lw_at lw_m10 140 rfl) rfl
theorem q2482 : (Jvm.Cond.fieldLink "AlgolMillModel" (199 : Nat) "AlgolMillModel" "blockArrays" "[I") ∈ lw_all := lw_g (lw_at lw_m10 141 rfl) rfl
theorem q2483 : (Jvm.Cond.fieldLink "AlgolMillModel" (202 : Nat) "AlgolMillModel" "blockSlot" "[I") ∈ lw_all := lw_g (lw_at lw_m10 142 rfl) rfl
theorem q2484 : (Jvm.Cond.fieldLink "AlgolMillModel" (205 : Nat) "AlgolMillModel" "blockVars" "[I") ∈ lw_all := lw_g (lw_at lw_m10 143 rfl) rfl
theorem q2485 : (Jvm.Cond.fieldLink "AlgolMillModel" (494 : Nat) "AlgolMillModel" "blocks" "I") ∈ lw_all := lw_g (lw_at lw_m10 144 rfl) rfl
theorem q2486 : (Jvm.Cond.fieldLink "AlgolMillModel" (208 : Nat) "AlgolMillModel" "labelNext" "[I") ∈ lw_all := lw_g (lw_at lw_m10 145 rfl) rfl
theorem q2487 : (Jvm.Cond.fieldLink "AlgolMillModel" (211 : Nat) "AlgolMillModel" "labelsOf" "[I") ∈ lw_all := lw_g (lw_at lw_m10 146 rfl) rfl
theorem q2488 : (Jvm.Cond.fieldLink "AlgolMillModel" (214 : Nat) "AlgolMillModel" "can" "[I") ∈ lw_all := lw_g (lw_at lw_m10 147 rfl) rfl
theorem q2489 : (Jvm.Cond.fieldLink "AlgolMillModel" (218 : Nat) "AlgolMillModel" "code" "[I") ∈ lw_all := lw_g (lw_at lw_m10 148 rfl) rfl
theorem q2490 : (Jvm.Cond.fieldLink "AlgolMillModel" (596 : Nat) "AlgolMillModel" "codes" "I") ∈ lw_all := lw_g (lw_at lw_m10 149 rfl) rfl
theorem q2491 : (Jvm.Cond.fieldLink "AlgolMillModel" (599 : Nat) "AlgolMillModel" "level" "I") ∈ lw_all := lw_g (lw_at lw_m10 150 rfl) rfl
theorem q2492 : (Jvm.Cond.fieldLink "AlgolMillModel" (664 : Nat) "AlgolMillModel" "current" "I") ∈ lw_all := lw_g (lw_at lw_m10 151 rfl) rfl
theorem q2493 : (Jvm.Cond.fieldLink "AlgolMillModel" (221 : Nat) "AlgolMillModel" "thunkCode" "[I") ∈ lw_all := lw_g (lw_at lw_m10 152 rfl) rfl
theorem q2494 : (Jvm.Cond.fieldLink "AlgolMillModel" (224 : Nat) "AlgolMillModel" "thunkKind" "[I") ∈ lw_all := lw_g (lw_at lw_m10 153 rfl) rfl
theorem q2495 : (Jvm.Cond.fieldLink "AlgolMillModel" (691 : Nat) "AlgolMillModel" "thunks" "I") ∈ lw_all := lw_g (lw_at lw_m10 154 rfl) rfl
theorem q2496 : (Jvm.Cond.fieldLink "AlgolMillModel" (227 : Nat) "AlgolMillModel" "siteProc" "[I") ∈ lw_all := lw_g (lw_at lw_m10 155 rfl) rfl
theorem q2497 : (Jvm.Cond.fieldLink "AlgolMillModel" (230 : Nat) "AlgolMillModel" "siteUp" "[I") ∈ lw_all := lw_g (lw_at lw_m10 156 rfl) rfl
theorem q2498 : (Jvm.Cond.fieldLink "AlgolMillModel" (233 : Nat) "AlgolMillModel" "siteFirst" "[I") ∈ lw_all := lw_g (lw_at lw_m10 157 rfl) rfl
theorem q2499 : (Jvm.Cond.fieldLink "AlgolMillModel" (658 : Nat) "AlgolMillModel" "sites" "I") ∈ lw_all := lw_g (lw_at lw_m10 158 rfl) rfl
theorem q2500 : (Jvm.Cond.fieldLink "AlgolMillModel" (236 : Nat) "AlgolMillModel" "actKind" "[I") ∈ lw_all := lw_g (lw_at lw_m10 159 rfl) rfl
theorem q2501 : (Jvm.Cond.fieldLink "AlgolMillModel" (239 : Nat) "AlgolMillModel" "actA" "[I") ∈ lw_all := lw_g (lw_at lw_m10 160 rfl) rfl
theorem q2502 : (Jvm.Cond.fieldLink "AlgolMillModel" (242 : Nat) "AlgolMillModel" "actB" "[I") ∈ lw_all := lw_g (lw_at lw_m10 161 rfl) rfl
theorem q2503 : (Jvm.Cond.fieldLink "AlgolMillModel" (661 : Nat) "AlgolMillModel" "acts" "I") ∈ lw_all := lw_g (lw_at lw_m10 162 rfl) rfl
theorem q2504 : (Jvm.Cond.fieldLink "AlgolMillModel" (245 : Nat) "AlgolMillModel" "labelCode" "[I") ∈ lw_all := lw_g (lw_at lw_m10 163 rfl) rfl
theorem q2505 : (Jvm.Cond.fieldLink "AlgolMillModel" (248 : Nat) "AlgolMillModel" "swFirst" "[I") ∈ lw_all := lw_g (lw_at lw_m10 164 rfl) rfl
theorem q2506 : (Jvm.Cond.fieldLink "AlgolMillModel" (251 : Nat) "AlgolMillModel" "swMany" "[I") ∈ lw_all := lw_g (lw_at lw_m10 165 rfl) rfl
theorem q2507 : (Jvm.Cond.fieldLink "AlgolMillModel" (254 : Nat) "AlgolMillModel" "swEntry" "[I") ∈ lw_all := lw_g (lw_at lw_m10 166 rfl) rfl
theorem q2508 : (Jvm.Cond.fieldLink "AlgolMillModel" (730 : Nat) "AlgolMillModel" "swEntries" "I") ∈ lw_all := lw_g (lw_at lw_m10 167 rfl) rfl
theorem q2509 : (Jvm.Cond.fieldLink "AlgolMillModel" (257 : Nat) "AlgolMillModel" "spine" "[I") ∈ lw_all := lw_g (lw_at lw_m10 168 rfl) rfl
theorem q2510 : (Jvm.Cond.fieldLink "AlgolMillModel" (631 : Nat) "AlgolMillModel" "spines" "I") ∈ lw_all := lw_g (lw_at lw_m10 169 rfl) rfl
theorem q2511 : (Jvm.Cond.fieldLink "AlgolMillModel" (709 : Nat) "AlgolMillModel" "routine" "I") ∈ lw_all := lw_g (lw_at lw_m10 170 rfl) rfl
theorem q2512 : (Jvm.Cond.fieldLink "AlgolMillModel" (712 : Nat) "AlgolMillModel" "routineType" "I") ∈ lw_all := lw_g (lw_at lw_m10 171 rfl) rfl
theorem q2513 : (Jvm.Cond.fieldLink "AlgolMillModel" (751 : Nat) "AlgolMillModel" "there" "Z") ∈ lw_all := lw_g (lw_at lw_m10 172 rfl) rfl
theorem q2514 : (Jvm.Cond.fieldLink "AlgolMillModel" (260 : Nat) "AlgolMillModel" "run" "[I") ∈ lw_all := lw_g (lw_at lw_m10 173 rfl) rfl
theorem q2515 : (Jvm.Cond.fieldLink "AlgolMillModel" (263 : Nat) "AlgolMillModel" "rThunkCode" "[I") ∈ lw_all := lw_g (lw_at lw_m10 174 rfl) rfl
theorem q2516 : (Jvm.Cond.fieldLink "AlgolMillModel" (266 : Nat) "AlgolMillModel" "rThunkKind" "[I") ∈ lw_all := lw_g (lw_at lw_m10 175 rfl) rfl
theorem q2517 : (Jvm.Cond.fieldLink "AlgolMillModel" (269 : Nat) "AlgolMillModel" "rSiteProc" "[I") ∈ lw_all := lw_g (lw_at lw_m10 176 rfl) rfl
theorem q2518 : (Jvm.Cond.fieldLink "AlgolMillModel" (272 : Nat) "AlgolMillModel" "rSiteUp" "[I") ∈ lw_all := lw_g (lw_at lw_m10 177 rfl) rfl
theorem q2519 : (Jvm.Cond.fieldLink "AlgolMillModel" (275 : Nat) "AlgolMillModel" "rSiteFirst" "[I") ∈ lw_all := lw_g (lw_at lw_m10 178 rfl) rfl
theorem q2520 : (Jvm.Cond.fieldLink "AlgolMillModel" (278 : Nat) "AlgolMillModel" "rActKind" "[I") ∈ lw_all := lw_g (lw_at lw_m10 179 rfl) rfl
theorem q2521 : (Jvm.Cond.fieldLink "AlgolMillModel" (281 : Nat) "AlgolMillModel" "rActA" "[I") ∈ lw_all := lw_g (lw_at lw_m10 180 rfl) rfl
theorem q2522 : (Jvm.Cond.fieldLink "AlgolMillModel" (284 : Nat) "AlgolMillModel" "rActB" "[I") ∈ lw_all := lw_g (lw_at lw_m10 181 rfl) rfl
theorem q2523 : (Jvm.Cond.fieldLink "AlgolMillModel" (287 : Nat) "AlgolMillModel" "literal" "[J") ∈ lw_all := lw_g (lw_at lw_m10 182 rfl) rfl
theorem q2524 : (Jvm.Cond.fieldLink "AlgolMillModel" (290 : Nat) "AlgolMillModel" "rpCode" "[I") ∈ lw_all := lw_g (lw_at lw_m10 183 rfl) rfl
theorem q2525 : (Jvm.Cond.fieldLink "AlgolMillModel" (293 : Nat) "AlgolMillModel" "rpSlots" "[I") ∈ lw_all := lw_g (lw_at lw_m10 184 rfl) rfl
theorem q2526 : (Jvm.Cond.fieldLink "AlgolMillModel" (296 : Nat) "AlgolMillModel" "rpFirst" "[I") ∈ lw_all := lw_g (lw_at lw_m10 185 rfl) rfl
theorem q2527 : (Jvm.Cond.fieldLink "AlgolMillModel" (299 : Nat) "AlgolMillModel" "rpFormals" "[I") ∈ lw_all := lw_g (lw_at lw_m10 186 rfl) rfl
theorem q2528 : (Jvm.Cond.fieldLink "AlgolMillModel" (302 : Nat) "AlgolMillModel" "rSlot" "[I") ∈ lw_all := lw_g (lw_at lw_m10 187 rfl) rfl
theorem q2529 : (Jvm.Cond.fieldLink "AlgolMillModel" (305 : Nat) "AlgolMillModel" "rLabelCode" "[I") ∈ lw_all := lw_g (lw_at lw_m10 188 rfl) rfl
theorem q2530 : (Jvm.Cond.fieldLink "AlgolMillModel" (308 : Nat) "AlgolMillModel" "rLabelBlock" "[I") ∈ lw_all := lw_g (lw_at lw_m10 189 rfl) rfl
theorem q2531 : (Jvm.Cond.fieldLink "AlgolMillModel" (311 : Nat) "AlgolMillModel" "rSwFirst" "[I") ∈ lw_all := lw_g (lw_at lw_m10 190 rfl) rfl
theorem q2532 : (Jvm.Cond.fieldLink "AlgolMillModel" (314 : Nat) "AlgolMillModel" "rSwMany" "[I") ∈ lw_all := lw_g (lw_at lw_m10 191 rfl) rfl
theorem q2533 : (Jvm.Cond.fieldLink "AlgolMillModel" (317 : Nat) "AlgolMillModel" "rSwEntry" "[I") ∈ lw_all := lw_g (lw_at lw_m10 192 rfl) rfl
theorem q2534 : (Jvm.Cond.fieldLink "AlgolMillModel" (320 : Nat) "AlgolMillModel" "rBlockSlot" "[I") ∈ lw_all := lw_g (lw_at lw_m10 193 rfl) rfl
theorem q2535 : (Jvm.Cond.fieldLink "AlgolMillModel" (323 : Nat) "AlgolMillModel" "rBlockVar" "[I") ∈ lw_all := lw_g (lw_at lw_m10 194 rfl) rfl
theorem q2536 : (Jvm.Cond.fieldLink "AlgolMillModel" (326 : Nat) "AlgolMillModel" "rNextVar" "[I") ∈ lw_all := lw_g (lw_at lw_m10 195 rfl) rfl
theorem q2537 : (Jvm.Cond.fieldLink "AlgolMillModel" (759 : Nat) "AlgolMillModel" "rOwns" "I") ∈ lw_all := lw_g (lw_at lw_m10 196 rfl) rfl
theorem q2538 : (Jvm.Cond.fieldLink "AlgolMillModel" (330 : Nat) "AlgolMillModel" "mem" "[J") ∈ lw_all := lw_g (lw_at lw_m10 197 rfl) rfl
theorem q2539 : (Jvm.Cond.fieldLink "AlgolMillModel" (333 : Nat) "AlgolMillModel" "heap" "[J") ∈ lw_all := lw_g (lw_at lw_m10 198 rfl) rfl
theorem q2540 : (Jvm.Cond.fieldLink "AlgolMillModel" (336 : Nat) "AlgolMillModel" "st" "[J") ∈ lw_all := lw_g (lw_at lw_m10 199 rfl) rfl
theorem q2541 : (Jvm.Cond.fieldLink "AlgolMillModel" (339 : Nat) "AlgolMillModel" "out" "[J") ∈ lw_all := lw_g (lw_at lw_m10 200 rfl) rfl
theorem q2542 : (Jvm.Cond.fieldLink "AlgolMillModel" (342 : Nat) "AlgolMillModel" "actBase" "[I") ∈ lw_all := lw_g (lw_at lw_m10 201 rfl) rfl
theorem q2543 : (Jvm.Cond.fieldLink "AlgolMillModel" (345 : Nat) "AlgolMillModel" "actLink" "[I") ∈ lw_all := lw_g (lw_at lw_m10 202 rfl) rfl
theorem q2544 : (Jvm.Cond.fieldLink "AlgolMillModel" (348 : Nat) "AlgolMillModel" "actCtl" "[I") ∈ lw_all := lw_g (lw_at lw_m10 203 rfl) rfl
theorem q2545 : (Jvm.Cond.fieldLink "AlgolMillModel" (351 : Nat) "AlgolMillModel" "actSp" "[I") ∈ lw_all := lw_g (lw_at lw_m10 204 rfl) rfl
theorem q2546 : (Jvm.Cond.fieldLink "AlgolMillModel" (354 : Nat) "AlgolMillModel" "actHeap" "[I") ∈ lw_all := lw_g (lw_at lw_m10 205 rfl) rfl
theorem q2547 : (Jvm.Cond.fieldLink "AlgolMillModel" (357 : Nat) "AlgolMillModel" "cKind" "[I") ∈ lw_all := lw_g (lw_at lw_m10 206 rfl) rfl
theorem q2548 : (Jvm.Cond.fieldLink "AlgolMillModel" (360 : Nat) "AlgolMillModel" "cPc" "[I") ∈ lw_all := lw_g (lw_at lw_m10 207 rfl) rfl
theorem q2549 : (Jvm.Cond.fieldLink "AlgolMillModel" (363 : Nat) "AlgolMillModel" "cEnv" "[I") ∈ lw_all := lw_g (lw_at lw_m10 208 rfl) rfl
theorem q2550 : (Jvm.Cond.fieldLink "AlgolMillModel" (366 : Nat) "AlgolMillModel" "cMode" "[I") ∈ lw_all := lw_g (lw_at lw_m10 209 rfl) rfl
theorem q2551 : (Jvm.Cond.fieldLink "AlgolMillModel" (369 : Nat) "AlgolMillModel" "cDepth" "[I") ∈ lw_all := lw_g (lw_at lw_m10 210 rfl) rfl
theorem q2552 : (Jvm.Cond.fieldLink "AlgolMillModel" (372 : Nat) "AlgolMillModel" "cStore" "[I") ∈ lw_all := lw_g (lw_at lw_m10 211 rfl) rfl
theorem q2553 : (Jvm.Cond.fieldLink "AlgolMillModel" (783 : Nat) "AlgolMillModel" "cp" "I") ∈ lw_all := lw_g (lw_at lw_m10 212 rfl) rfl
theorem q2554 : (Jvm.Cond.fieldLink "AlgolMillModel" (786 : Nat) "AlgolMillModel" "pc" "I") ∈ lw_all := lw_g (lw_at lw_m10 213 rfl) rfl
theorem q2555 : (Jvm.Cond.fieldLink "AlgolMillModel" (771 : Nat) "AlgolMillModel" "env" "I") ∈ lw_all := lw_g (lw_at lw_m10 214 rfl) rfl
theorem q2556 : (Jvm.Cond.fieldLink "AlgolMillModel" (780 : Nat) "AlgolMillModel" "sp" "I") ∈ lw_all := lw_g (lw_at lw_m10 215 rfl) rfl
theorem q2557 : (Jvm.Cond.fieldLink "AlgolMillModel" (821 : Nat) "AlgolMillModel" "activations" "I") ∈ lw_all := lw_g (lw_at lw_m10 216 rfl) rfl
theorem q2558 : (Jvm.Cond.fieldLink "AlgolMillModel" (824 : Nat) "AlgolMillModel" "memTop" "I") ∈ lw_all := lw_g (lw_at lw_m10 217 rfl) rfl
theorem q2559 : (Jvm.Cond.fieldLink "AlgolMillModel" (827 : Nat) "AlgolMillModel" "heapTop" "I") ∈ lw_all := lw_g (lw_at lw_m10 218 rfl) rfl
theorem q2560 : (Jvm.Cond.fieldLink "AlgolMillModel" (789 : Nat) "AlgolMillModel" "uses" "I") ∈ lw_all := lw_g (lw_at lw_m10 219 rfl) rfl
theorem q2561 : (Jvm.Cond.fieldLink "AlgolMillModel" (801 : Nat) "AlgolMillModel" "mostUses" "I") ∈ lw_all := lw_g (lw_at lw_m10 220 rfl) rfl
theorem q2562 : (Jvm.Cond.fieldLink "AlgolMillModel" (837 : Nat) "AlgolMillModel" "mostElements" "I") ∈ lw_all := lw_g (lw_at lw_m10 221 rfl) rfl
theorem q2563 : (Jvm.Cond.fieldLink "AlgolMillModel" (765 : Nat) "AlgolMillModel" "steps" "I") ∈ lw_all := lw_g (lw_at lw_m10 222 rfl) rfl
theorem q2564 : (Jvm.Cond.fieldLink "AlgolMillModel" (768 : Nat) "AlgolMillModel" "allowed" "I") ∈ lw_all := lw_g (lw_at lw_m10 223 rfl) rfl
theorem q2565 : (Jvm.Cond.fieldLink "AlgolMillModel" (868 : Nat) "AlgolMillModel" "printed" "I") ∈ lw_all := lw_g (lw_at lw_m10 224 rfl) rfl
theorem q2566 : (Jvm.Cond.fieldLink "AlgolMillModel" (762 : Nat) "AlgolMillModel" "error" "I") ∈ lw_all := lw_g (lw_at lw_m10 225 rfl) rfl
theorem q2567 : (Jvm.Cond.fieldLink "AlgolMillModel" (375 : Nat) "AlgolMillModel" "actProc" "[I") ∈ lw_all := lw_g (lw_at lw_m10 226 rfl) rfl
theorem q2568 : (Jvm.Cond.lays "AlgolMillModel" "AlgolMillModel" "thrown" "I") ∈ lw_all := lw_g (lw_at lw_m10 227 rfl) rfl
theorem q2569 : (Jvm.Cond.soleField "AlgolMillModel" "thrown") ∈ lw_all := lw_g (lw_at lw_m10 228 rfl) rfl
theorem q2570 : (Jvm.Cond.laysFinal "AlgolMillModel" "AlgolMillModel" "text" "[B") ∈ lw_all := lw_g (lw_at lw_m10 229 rfl) rfl
theorem q2571 : (Jvm.Cond.soleField "AlgolMillModel" "text") ∈ lw_all := lw_g (lw_at lw_m10 230 rfl) rfl
theorem q2572 : (Jvm.Cond.lays "AlgolMillModel" "AlgolMillModel" "size" "I") ∈ lw_all := lw_g (lw_at lw_m10 231 rfl) rfl
theorem q2573 : (Jvm.Cond.soleField "AlgolMillModel" "size") ∈ lw_all := lw_g (lw_at lw_m10 232 rfl) rfl
theorem q2574 : (Jvm.Cond.laysFinal "AlgolMillModel" "AlgolMillModel" "tokKind" "[I") ∈ lw_all := lw_g (lw_at lw_m10 233 rfl) rfl
theorem q2575 : (Jvm.Cond.soleField "AlgolMillModel" "tokKind") ∈ lw_all := lw_g (lw_at lw_m10 234 rfl) rfl
theorem q2576 : (Jvm.Cond.laysFinal "AlgolMillModel" "AlgolMillModel" "tokAt" "[I") ∈ lw_all := lw_g (lw_at lw_m10 235 rfl) rfl
theorem q2577 : (Jvm.Cond.soleField "AlgolMillModel" "tokAt") ∈ lw_all := lw_g (lw_at lw_m10 236 rfl) rfl
theorem q2578 : (Jvm.Cond.laysFinal "AlgolMillModel" "AlgolMillModel" "tokValue" "[J") ∈ lw_all := lw_g (lw_at lw_m10 237 rfl) rfl
theorem q2579 : (Jvm.Cond.soleField "AlgolMillModel" "tokValue") ∈ lw_all := lw_g (lw_at lw_m10 238 rfl) rfl
theorem q2580 : (Jvm.Cond.lays "AlgolMillModel" "AlgolMillModel" "tokens" "I") ∈ lw_all := lw_g (lw_at lw_m10 239 rfl) rfl
theorem q2581 : (Jvm.Cond.soleField "AlgolMillModel" "tokens") ∈ lw_all := lw_g (lw_at lw_m11 0 rfl) rfl
theorem q2582 : (Jvm.Cond.lays "AlgolMillModel" "AlgolMillModel" "t" "I") ∈ lw_all := lw_g (lw_at lw_m11 1 rfl) rfl
theorem q2583 : (Jvm.Cond.soleField "AlgolMillModel" "t") ∈ lw_all := lw_g (lw_at lw_m11 2 rfl) rfl
theorem q2584 : (Jvm.Cond.lays "AlgolMillModel" "AlgolMillModel" "depth" "I") ∈ lw_all := lw_g (lw_at lw_m11 3 rfl) rfl
theorem q2585 : (Jvm.Cond.soleField "AlgolMillModel" "depth") ∈ lw_all := lw_g (lw_at lw_m11 4 rfl) rfl
theorem q2586 : (Jvm.Cond.lays "AlgolMillModel" "AlgolMillModel" "wrongAt" "I") ∈ lw_all := lw_g (lw_at lw_m11 5 rfl) rfl
theorem q2587 : (Jvm.Cond.soleField "AlgolMillModel" "wrongAt") ∈ lw_all := lw_g (lw_at lw_m11 6 rfl) rfl
theorem q2588 : (Jvm.Cond.lays "AlgolMillModel" "AlgolMillModel" "foundFault" "I") ∈ lw_all := lw_g (lw_at lw_m11 7 rfl) rfl
theorem q2589 : (Jvm.Cond.soleField "AlgolMillModel" "foundFault") ∈ lw_all := lw_g (lw_at lw_m11 8 rfl) rfl
theorem q2590 : (Jvm.Cond.lays "AlgolMillModel" "AlgolMillModel" "foundAt" "I") ∈ lw_all := lw_g (lw_at lw_m11 9 rfl) rfl
theorem q2591 : (Jvm.Cond.soleField "AlgolMillModel" "foundAt") ∈ lw_all := lw_g (lw_at lw_m11 10 rfl) rfl
theorem q2592 : (Jvm.Cond.lays "AlgolMillModel" "AlgolMillModel" "latestFault" "I") ∈ lw_all := lw_g (lw_at lw_m11 11 rfl) rfl
theorem q2593 : (Jvm.Cond.soleField "AlgolMillModel" "latestFault") ∈ lw_all := lw_g (lw_at lw_m11 12 rfl) rfl
theorem q2594 : (Jvm.Cond.lays "AlgolMillModel" "AlgolMillModel" "latestWhere" "I") ∈ lw_all := lw_g (lw_at lw_m11 13 rfl) rfl
theorem q2595 : (Jvm.Cond.soleField "AlgolMillModel" "latestWhere") ∈ lw_all := lw_g (lw_at lw_m11 14 rfl) rfl
theorem q2596 : (Jvm.Cond.laysFinal "AlgolMillModel" "AlgolMillModel" "wrong" "Ljava/lang/ArithmeticException;") ∈ lw_all := lw_g (lw_at lw_m11 15 rfl) rfl
theorem q2597 : (Jvm.Cond.soleField "AlgolMillModel" "wrong") ∈ lw_all := lw_g (lw_at lw_m11 16 rfl) rfl
theorem q2598 : (Jvm.Cond.laysFinal "AlgolMillModel" "AlgolMillModel" "WORDS" "[Ljava/lang/String;") ∈ lw_all := lw_g (lw_at lw_m11 17 rfl) rfl
theorem q2599 : (Jvm.Cond.soleField "AlgolMillModel" "WORDS") ∈ lw_all := lw_g (lw_at lw_m11 18 rfl) rfl
theorem q2600 : (Jvm.Cond.laysFinal "AlgolMillModel" "AlgolMillModel" "sort" "[I") ∈ lw_all := lw_g (lw_at lw_m11 19 rfl) rfl
theorem q2601 : (Jvm.Cond.soleField "AlgolMillModel" "sort") ∈ lw_all := lw_g (lw_at lw_m11 20 rfl) rfl
theorem q2602 : (Jvm.Cond.laysFinal "AlgolMillModel" "AlgolMillModel" "a" "[I") ∈ lw_all := lw_g (lw_at lw_m11 21 rfl) rfl
theorem q2603 : (Jvm.Cond.soleField "AlgolMillModel" "a") ∈ lw_all := lw_g (lw_at lw_m11 22 rfl) rfl
theorem q2604 : (Jvm.Cond.laysFinal "AlgolMillModel" "AlgolMillModel" "b" "[I") ∈ lw_all := lw_g (lw_at lw_m11 23 rfl) rfl
theorem q2605 : (Jvm.Cond.soleField "AlgolMillModel" "b") ∈ lw_all := lw_g (lw_at lw_m11 24 rfl) rfl
theorem q2606 : (Jvm.Cond.laysFinal "AlgolMillModel" "AlgolMillModel" "c" "[I") ∈ lw_all := lw_g (lw_at lw_m11 25 rfl) rfl
theorem q2607 : (Jvm.Cond.soleField "AlgolMillModel" "c") ∈ lw_all := lw_g (lw_at lw_m11 26 rfl) rfl
theorem q2608 : (Jvm.Cond.laysFinal "AlgolMillModel" "AlgolMillModel" "next" "[I") ∈ lw_all := lw_g (lw_at lw_m11 27 rfl) rfl
theorem q2609 : (Jvm.Cond.soleField "AlgolMillModel" "next") ∈ lw_all := lw_g (lw_at lw_m11 28 rfl) rfl
theorem q2610 : (Jvm.Cond.laysFinal "AlgolMillModel" "AlgolMillModel" "tok" "[I") ∈ lw_all := lw_g (lw_at lw_m11 29 rfl) rfl
theorem q2611 : (Jvm.Cond.soleField "AlgolMillModel" "tok") ∈ lw_all := lw_g (lw_at lw_m11 30 rfl) rfl
theorem q2612 : (Jvm.Cond.laysFinal "AlgolMillModel" "AlgolMillModel" "scopeOf" "[I") ∈ lw_all := lw_g (lw_at lw_m11 31 rfl) rfl
theorem q2613 : (Jvm.Cond.soleField "AlgolMillModel" "scopeOf") ∈ lw_all := lw_g (lw_at lw_m11 32 rfl) rfl
theorem q2614 : (Jvm.Cond.lays "AlgolMillModel" "AlgolMillModel" "nodes" "I") ∈ lw_all := lw_g (lw_at lw_m11 33 rfl) rfl
theorem q2615 : (Jvm.Cond.soleField "AlgolMillModel" "nodes") ∈ lw_all := lw_g (lw_at lw_m11 34 rfl) rfl
theorem q2616 : (Jvm.Cond.laysFinal "AlgolMillModel" "AlgolMillModel" "scopeUp" "[I") ∈ lw_all := lw_g (lw_at lw_m11 35 rfl) rfl
theorem q2617 : (Jvm.Cond.soleField "AlgolMillModel" "scopeUp") ∈ lw_all := lw_g (lw_at lw_m11 36 rfl) rfl
theorem q2618 : (Jvm.Cond.laysFinal "AlgolMillModel" "AlgolMillModel" "scopeProc" "[I") ∈ lw_all := lw_g (lw_at lw_m11 37 rfl) rfl
theorem q2619 : (Jvm.Cond.soleField "AlgolMillModel" "scopeProc") ∈ lw_all := lw_g (lw_at lw_m11 38 rfl) rfl
theorem q2620 : (Jvm.Cond.laysFinal "AlgolMillModel" "AlgolMillModel" "scopeFirst" "[I") ∈ lw_all := lw_g (lw_at lw_m11 39 rfl) rfl
theorem q2621 : (Jvm.Cond.soleField "AlgolMillModel" "scopeFirst") ∈ lw_all := lw_g (lw_at lw_m11 40 rfl) rfl
theorem q2622 : (Jvm.Cond.laysFinal "AlgolMillModel" "AlgolMillModel" "scopeBlock" "[I") ∈ lw_all := lw_g (lw_at lw_m11 41 rfl) rfl
theorem q2623 : (Jvm.Cond.soleField "AlgolMillModel" "scopeBlock") ∈ lw_all := lw_g (lw_at lw_m11 42 rfl) rfl
theorem q2624 : (Jvm.Cond.lays "AlgolMillModel" "AlgolMillModel" "scopes" "I") ∈ lw_all := lw_g (lw_at lw_m11 43 rfl) rfl
theorem q2625 : (Jvm.Cond.soleField "AlgolMillModel" "scopes") ∈ lw_all := lw_g (lw_at lw_m11 44 rfl) rfl
theorem q2626 : (Jvm.Cond.lays "AlgolMillModel" "AlgolMillModel" "scope" "I") ∈ lw_all := lw_g (lw_at lw_m11 45 rfl) rfl
theorem q2627 : (Jvm.Cond.soleField "AlgolMillModel" "scope") ∈ lw_all := lw_g (lw_at lw_m11 46 rfl) rfl
theorem q2628 : (Jvm.Cond.lays "AlgolMillModel" "AlgolMillModel" "proc" "I") ∈ lw_all := lw_g (lw_at lw_m11 47 rfl) rfl
theorem q2629 : (Jvm.Cond.soleField "AlgolMillModel" "proc") ∈ lw_all := lw_g (lw_at lw_m11 48 rfl) rfl
theorem q2630 : (Jvm.Cond.laysFinal "AlgolMillModel" "AlgolMillModel" "symName" "[J") ∈ lw_all := lw_g (lw_at lw_m11 49 rfl) rfl
theorem q2631 : (Jvm.Cond.soleField "AlgolMillModel" "symName") ∈ lw_all := lw_g (lw_at lw_m11 50 rfl) rfl
theorem q2632 : (Jvm.Cond.laysFinal "AlgolMillModel" "AlgolMillModel" "symKind" "[I") ∈ lw_all := lw_g (lw_at lw_m11 51 rfl) rfl
theorem q2633 : (Jvm.Cond.soleField "AlgolMillModel" "symKind") ∈ lw_all := lw_g (lw_at lw_m11 52 rfl) rfl
theorem q2634 : (Jvm.Cond.laysFinal "AlgolMillModel" "AlgolMillModel" "symType" "[I") ∈ lw_all := lw_g (lw_at lw_m11 53 rfl) rfl
theorem q2635 : (Jvm.Cond.soleField "AlgolMillModel" "symType") ∈ lw_all := lw_g (lw_at lw_m11 54 rfl) rfl
theorem q2636 : (Jvm.Cond.laysFinal "AlgolMillModel" "AlgolMillModel" "symNext" "[I") ∈ lw_all := lw_g (lw_at lw_m11 55 rfl) rfl
theorem q2637 : (Jvm.Cond.soleField "AlgolMillModel" "symNext") ∈ lw_all := lw_g (lw_at lw_m11 56 rfl) rfl
theorem q2638 : (Jvm.Cond.laysFinal "AlgolMillModel" "AlgolMillModel" "symTok" "[I") ∈ lw_all := lw_g (lw_at lw_m11 57 rfl) rfl
theorem q2639 : (Jvm.Cond.soleField "AlgolMillModel" "symTok") ∈ lw_all := lw_g (lw_at lw_m11 58 rfl) rfl
theorem q2640 : (Jvm.Cond.laysFinal "AlgolMillModel" "AlgolMillModel" "symProc" "[I") ∈ lw_all := lw_g (lw_at lw_m11 59 rfl) rfl
theorem q2641 : (Jvm.Cond.soleField "AlgolMillModel" "symProc") ∈ lw_all := lw_g (lw_at lw_m11 60 rfl) rfl
theorem q2642 : (Jvm.Cond.laysFinal "AlgolMillModel" "AlgolMillModel" "symX" "[I") ∈ lw_all := lw_g (lw_at lw_m11 61 rfl) rfl
theorem q2643 : (Jvm.Cond.soleField "AlgolMillModel" "symX") ∈ lw_all := lw_g (lw_at lw_m11 62 rfl) rfl
theorem q2644 : (Jvm.Cond.laysFinal "AlgolMillModel" "AlgolMillModel" "symY" "[I") ∈ lw_all := lw_g (lw_at lw_m11 63 rfl) rfl
theorem q2645 : (Jvm.Cond.soleField "AlgolMillModel" "symY") ∈ lw_all := lw_g (lw_at lw_m11 64 rfl) rfl
theorem q2646 : (Jvm.Cond.laysFinal "AlgolMillModel" "AlgolMillModel" "symSlot" "[I") ∈ lw_all := lw_g (lw_at lw_m11 65 rfl) rfl
theorem q2647 : (Jvm.Cond.soleField "AlgolMillModel" "symSlot") ∈ lw_all := lw_g (lw_at lw_m11 66 rfl) rfl
theorem q2648 : (Jvm.Cond.laysFinal "AlgolMillModel" "AlgolMillModel" "symOwn" "[Z") ∈ lw_all := lw_g (lw_at lw_m11 67 rfl) rfl
theorem q2649 : (Jvm.Cond.soleField "AlgolMillModel" "symOwn") ∈ lw_all := lw_g (lw_at lw_m11 68 rfl) rfl
theorem q2650 : (Jvm.Cond.laysFinal "AlgolMillModel" "AlgolMillModel" "symValue" "[Z") ∈ lw_all := lw_g (lw_at lw_m11 69 rfl) rfl
theorem q2651 : (Jvm.Cond.soleField "AlgolMillModel" "symValue") ∈ lw_all := lw_g (lw_at lw_m11 70 rfl) rfl
theorem q2652 : (Jvm.Cond.lays "AlgolMillModel" "AlgolMillModel" "symbols" "I") ∈ lw_all := lw_g (lw_at lw_m11 71 rfl) rfl
theorem q2653 : (Jvm.Cond.soleField "AlgolMillModel" "symbols") ∈ lw_all := lw_g (lw_at lw_m11 72 rfl) rfl
theorem q2654 : (Jvm.Cond.laysFinal "AlgolMillModel" "AlgolMillModel" "pSymbol" "[I") ∈ lw_all := lw_g (lw_at lw_m11 73 rfl) rfl
theorem q2655 : (Jvm.Cond.soleField "AlgolMillModel" "pSymbol") ∈ lw_all := lw_g (lw_at lw_m11 74 rfl) rfl
theorem q2656 : (Jvm.Cond.laysFinal "AlgolMillModel" "AlgolMillModel" "pLevel" "[I") ∈ lw_all := lw_g (lw_at lw_m11 75 rfl) rfl
theorem q2657 : (Jvm.Cond.soleField "AlgolMillModel" "pLevel") ∈ lw_all := lw_g (lw_at lw_m11 76 rfl) rfl
theorem q2658 : (Jvm.Cond.laysFinal "AlgolMillModel" "AlgolMillModel" "pFormals" "[I") ∈ lw_all := lw_g (lw_at lw_m11 77 rfl) rfl
theorem q2659 : (Jvm.Cond.soleField "AlgolMillModel" "pFormals") ∈ lw_all := lw_g (lw_at lw_m11 78 rfl) rfl
theorem q2660 : (Jvm.Cond.laysFinal "AlgolMillModel" "AlgolMillModel" "pFirst" "[I") ∈ lw_all := lw_g (lw_at lw_m11 79 rfl) rfl
theorem q2661 : (Jvm.Cond.soleField "AlgolMillModel" "pFirst") ∈ lw_all := lw_g (lw_at lw_m11 80 rfl) rfl
theorem q2662 : (Jvm.Cond.laysFinal "AlgolMillModel" "AlgolMillModel" "pBody" "[I") ∈ lw_all := lw_g (lw_at lw_m11 81 rfl) rfl
theorem q2663 : (Jvm.Cond.soleField "AlgolMillModel" "pBody") ∈ lw_all := lw_g (lw_at lw_m11 82 rfl) rfl
theorem q2664 : (Jvm.Cond.laysFinal "AlgolMillModel" "AlgolMillModel" "pNames" "[I") ∈ lw_all := lw_g (lw_at lw_m11 83 rfl) rfl
theorem q2665 : (Jvm.Cond.soleField "AlgolMillModel" "pNames") ∈ lw_all := lw_g (lw_at lw_m11 84 rfl) rfl
theorem q2666 : (Jvm.Cond.laysFinal "AlgolMillModel" "AlgolMillModel" "pSlots" "[I") ∈ lw_all := lw_g (lw_at lw_m11 85 rfl) rfl
theorem q2667 : (Jvm.Cond.soleField "AlgolMillModel" "pSlots") ∈ lw_all := lw_g (lw_at lw_m11 86 rfl) rfl
theorem q2668 : (Jvm.Cond.laysFinal "AlgolMillModel" "AlgolMillModel" "pCode" "[I") ∈ lw_all := lw_g (lw_at lw_m11 87 rfl) rfl
theorem q2669 : (Jvm.Cond.soleField "AlgolMillModel" "pCode") ∈ lw_all := lw_g (lw_at lw_m11 88 rfl) rfl
theorem q2670 : (Jvm.Cond.laysFinal "AlgolMillModel" "AlgolMillModel" "pUp" "[I") ∈ lw_all := lw_g (lw_at lw_m11 89 rfl) rfl
theorem q2671 : (Jvm.Cond.soleField "AlgolMillModel" "pUp") ∈ lw_all := lw_g (lw_at lw_m11 90 rfl) rfl
theorem q2672 : (Jvm.Cond.laysFinal "AlgolMillModel" "AlgolMillModel" "pBodyScope" "[I") ∈ lw_all := lw_g (lw_at lw_m11 91 rfl) rfl
theorem q2673 : (Jvm.Cond.soleField "AlgolMillModel" "pBodyScope") ∈ lw_all := lw_g (lw_at lw_m11 92 rfl) rfl
theorem q2674 : (Jvm.Cond.lays "AlgolMillModel" "AlgolMillModel" "procs" "I") ∈ lw_all := lw_g (lw_at lw_m11 93 rfl) rfl
theorem q2675 : (Jvm.Cond.soleField "AlgolMillModel" "procs") ∈ lw_all := lw_g (lw_at lw_m11 94 rfl) rfl
theorem q2676 : (Jvm.Cond.lays "AlgolMillModel" "AlgolMillModel" "owns" "I") ∈ lw_all := lw_g (lw_at lw_m11 95 rfl) rfl
theorem q2677 : (Jvm.Cond.soleField "AlgolMillModel" "owns") ∈ lw_all := lw_g (lw_at lw_m11 96 rfl) rfl
theorem q2678 : (Jvm.Cond.laysFinal "AlgolMillModel" "AlgolMillModel" "blockFirst" "[I") ∈ lw_all := lw_g (lw_at lw_m11 97 rfl) rfl
theorem q2679 : (Jvm.Cond.soleField "AlgolMillModel" "blockFirst") ∈ lw_all := lw_g (lw_at lw_m11 98 rfl) rfl
theorem q2680 : (Jvm.Cond.laysFinal "AlgolMillModel" "AlgolMillModel" "blockArrays" "[I") ∈ lw_all := lw_g (lw_at lw_m11 99 rfl) rfl
theorem q2681 : (Jvm.Cond.soleField "AlgolMillModel" "blockArrays") ∈ lw_all := lw_g (lw_at lw_m11 100 rfl) rfl
theorem q2682 : (Jvm.Cond.laysFinal "AlgolMillModel" "AlgolMillModel" "blockSlot" "[I") ∈ lw_all := lw_g (lw_at lw_m11 101 rfl) rfl
theorem q2683 : (Jvm.Cond.soleField "AlgolMillModel" "blockSlot") ∈ lw_all := lw_g (lw_at lw_m11 102 rfl) rfl
theorem q2684 : (Jvm.Cond.laysFinal "AlgolMillModel" "AlgolMillModel" "blockVars" "[I") ∈ lw_all := lw_g (lw_at lw_m11 103 rfl) rfl
theorem q2685 : (Jvm.Cond.soleField "AlgolMillModel" "blockVars") ∈ lw_all := lw_g (lw_at lw_m11 104 rfl) rfl
theorem q2686 : (Jvm.Cond.lays "AlgolMillModel" "AlgolMillModel" "blocks" "I") ∈ lw_all := lw_g (lw_at lw_m11 105 rfl) rfl
theorem q2687 : (Jvm.Cond.soleField "AlgolMillModel" "blocks") ∈ lw_all := lw_g (lw_at lw_m11 106 rfl) rfl
theorem q2688 : (Jvm.Cond.laysFinal "AlgolMillModel" "AlgolMillModel" "labelNext" "[I") ∈ lw_all := lw_g (lw_at lw_m11 107 rfl) rfl
theorem q2689 : (Jvm.Cond.soleField "AlgolMillModel" "labelNext") ∈ lw_all := lw_g (lw_at lw_m11 108 rfl) rfl
theorem q2690 : (Jvm.Cond.laysFinal "AlgolMillModel" "AlgolMillModel" "labelsOf" "[I") ∈ lw_all := lw_g (lw_at lw_m11 109 rfl) rfl
theorem q2691 : (Jvm.Cond.soleField "AlgolMillModel" "labelsOf") ∈ lw_all := lw_g (lw_at lw_m11 110 rfl) rfl
theorem q2692 : (Jvm.Cond.laysFinal "AlgolMillModel" "AlgolMillModel" "can" "[I") ∈ lw_all := lw_g (lw_at lw_m11 111 rfl) rfl
theorem q2693 : (Jvm.Cond.soleField "AlgolMillModel" "can") ∈ lw_all := lw_g (lw_at lw_m11 112 rfl) rfl
theorem q2694 : (Jvm.Cond.laysFinal "AlgolMillModel" "AlgolMillModel" "code" "[I") ∈ lw_all := lw_g (lw_at lw_m11 113 rfl) rfl
theorem q2695 : (Jvm.Cond.soleField "AlgolMillModel" "code") ∈ lw_all := lw_g (lw_at lw_m11 114 rfl) rfl
theorem q2696 : (Jvm.Cond.lays "AlgolMillModel" "AlgolMillModel" "codes" "I") ∈ lw_all := lw_g (lw_at lw_m11 115 rfl) rfl
theorem q2697 : (Jvm.Cond.soleField "AlgolMillModel" "codes") ∈ lw_all := lw_g (lw_at lw_m11 116 rfl) rfl
theorem q2698 : (Jvm.Cond.lays "AlgolMillModel" "AlgolMillModel" "level" "I") ∈ lw_all := lw_g (lw_at lw_m11 117 rfl) rfl
theorem q2699 : (Jvm.Cond.soleField "AlgolMillModel" "level") ∈ lw_all := lw_g (lw_at lw_m11 118 rfl) rfl
theorem q2700 : (Jvm.Cond.lays "AlgolMillModel" "AlgolMillModel" "current" "I") ∈ lw_all := lw_g (lw_at lw_m11 119 rfl) rfl
theorem q2701 : (Jvm.Cond.soleField "AlgolMillModel" "current") ∈ lw_all := lw_g (lw_at lw_m11 120 rfl) rfl
theorem q2702 : (Jvm.Cond.laysFinal "AlgolMillModel" "AlgolMillModel" "thunkCode" "[I") ∈ lw_all := lw_g (lw_at lw_m11 121 rfl) rfl
theorem q2703 : (Jvm.Cond.soleField "AlgolMillModel" "thunkCode") ∈ lw_all := lw_g (lw_at lw_m11 122 rfl) rfl
theorem q2704 : (Jvm.Cond.laysFinal "AlgolMillModel" "AlgolMillModel" "thunkKind" "[I") ∈ lw_all := lw_g (lw_at lw_m11 123 rfl) rfl
theorem q2705 : (Jvm.Cond.soleField "AlgolMillModel" "thunkKind") ∈ lw_all := lw_g (lw_at lw_m11 124 rfl) rfl
theorem q2706 : (Jvm.Cond.lays "AlgolMillModel" "AlgolMillModel" "thunks" "I") ∈ lw_all := lw_g (lw_at lw_m11 125 rfl) rfl
theorem q2707 : (Jvm.Cond.soleField "AlgolMillModel" "thunks") ∈ lw_all := lw_g (lw_at lw_m11 126 rfl) rfl
theorem q2708 : (Jvm.Cond.laysFinal "AlgolMillModel" "AlgolMillModel" "siteProc" "[I") ∈ lw_all := lw_g (lw_at lw_m11 127 rfl) rfl
theorem q2709 : (Jvm.Cond.soleField "AlgolMillModel" "siteProc") ∈ lw_all := lw_g (lw_at lw_m11 128 rfl) rfl
theorem q2710 : (Jvm.Cond.laysFinal "AlgolMillModel" "AlgolMillModel" "siteUp" "[I") ∈ lw_all := lw_g (lw_at lw_m11 129 rfl) rfl
theorem q2711 : (Jvm.Cond.soleField "AlgolMillModel" "siteUp") ∈ lw_all := lw_g (lw_at lw_m11 130 rfl) rfl
theorem q2712 : (Jvm.Cond.laysFinal "AlgolMillModel" "AlgolMillModel" "siteFirst" "[I") ∈ lw_all := lw_g (lw_at lw_m11 131 rfl) rfl
theorem q2713 : (Jvm.Cond.soleField "AlgolMillModel" "siteFirst") ∈ lw_all := lw_g (lw_at lw_m11 132 rfl) rfl
theorem q2714 : (Jvm.Cond.lays "AlgolMillModel" "AlgolMillModel" "sites" "I") ∈ lw_all := lw_g (lw_at lw_m11 133 rfl) rfl
theorem q2715 : (Jvm.Cond.soleField "AlgolMillModel" "sites") ∈ lw_all := lw_g (lw_at lw_m11 134 rfl) rfl
theorem q2716 : (Jvm.Cond.laysFinal "AlgolMillModel" "AlgolMillModel" "actKind" "[I") ∈ lw_all := lw_g (lw_at lw_m11 135 rfl) rfl
theorem q2717 : (Jvm.Cond.soleField "AlgolMillModel" "actKind") ∈ lw_all := lw_g (lw_at lw_m11 136 rfl) rfl
theorem q2718 : (Jvm.Cond.laysFinal "AlgolMillModel" "AlgolMillModel" "actA" "[I") ∈ lw_all := lw_g (lw_at lw_m11 137 rfl) rfl
theorem q2719 : (Jvm.Cond.soleField "AlgolMillModel" "actA") ∈ lw_all := lw_g (lw_at lw_m11 138 rfl) rfl
theorem q2720 : (Jvm.Cond.laysFinal "AlgolMillModel" "AlgolMillModel" "actB" "[I") ∈ lw_all := lw_g (lw_at lw_m11 139 rfl) rfl
theorem q2721 : (Jvm.Cond.soleField "AlgolMillModel" "actB") ∈ lw_all := lw_g (lw_at lw_m11 140 rfl) rfl
theorem q2722 : (Jvm.Cond.lays "AlgolMillModel" "AlgolMillModel" "acts" "I") ∈ lw_all := lw_g (lw_at lw_m11 141 rfl) rfl
theorem q2723 : (Jvm.Cond.soleField "AlgolMillModel" "acts") ∈ lw_all := lw_g (lw_at lw_m11 142 rfl) rfl
theorem q2724 : (Jvm.Cond.laysFinal "AlgolMillModel" "AlgolMillModel" "labelCode" "[I") ∈ lw_all := lw_g (lw_at lw_m11 143 rfl) rfl
theorem q2725 : (Jvm.Cond.soleField "AlgolMillModel" "labelCode") ∈ lw_all := lw_g (lw_at lw_m11 144 rfl) rfl
theorem q2726 : (Jvm.Cond.laysFinal "AlgolMillModel" "AlgolMillModel" "swFirst" "[I") ∈ lw_all := lw_g (lw_at lw_m11 145 rfl) rfl
theorem q2727 : (Jvm.Cond.soleField "AlgolMillModel" "swFirst") ∈ lw_all := lw_g (lw_at lw_m11 146 rfl) rfl
theorem q2728 : (Jvm.Cond.laysFinal "AlgolMillModel" "AlgolMillModel" "swMany" "[I") ∈ lw_all := lw_g (lw_at lw_m11 147 rfl) rfl
theorem q2729 : (Jvm.Cond.soleField "AlgolMillModel" "swMany") ∈ lw_all := lw_g (lw_at lw_m11 148 rfl) rfl
theorem q2730 : (Jvm.Cond.laysFinal "AlgolMillModel" "AlgolMillModel" "swEntry" "[I") ∈ lw_all := lw_g (lw_at lw_m11 149 rfl) rfl
theorem q2731 : (Jvm.Cond.soleField "AlgolMillModel" "swEntry") ∈ lw_all := lw_g (lw_at lw_m11 150 rfl) rfl
theorem q2732 : (Jvm.Cond.lays "AlgolMillModel" "AlgolMillModel" "swEntries" "I") ∈ lw_all := lw_g (lw_at lw_m11 151 rfl) rfl
theorem q2733 : (Jvm.Cond.soleField "AlgolMillModel" "swEntries") ∈ lw_all := lw_g (lw_at lw_m11 152 rfl) rfl
theorem q2734 : (Jvm.Cond.laysFinal "AlgolMillModel" "AlgolMillModel" "spine" "[I") ∈ lw_all := lw_g (lw_at lw_m11 153 rfl) rfl
theorem q2735 : (Jvm.Cond.soleField "AlgolMillModel" "spine") ∈ lw_all := lw_g (lw_at lw_m11 154 rfl) rfl
theorem q2736 : (Jvm.Cond.lays "AlgolMillModel" "AlgolMillModel" "spines" "I") ∈ lw_all := lw_g (lw_at lw_m11 155 rfl) rfl
theorem q2737 : (Jvm.Cond.soleField "AlgolMillModel" "spines") ∈ lw_all := lw_g (lw_at lw_m11 156 rfl) rfl
theorem q2738 : (Jvm.Cond.lays "AlgolMillModel" "AlgolMillModel" "routine" "I") ∈ lw_all := lw_g (lw_at lw_m11 157 rfl) rfl
theorem q2739 : (Jvm.Cond.soleField "AlgolMillModel" "routine") ∈ lw_all := lw_g (lw_at lw_m11 158 rfl) rfl
theorem q2740 : (Jvm.Cond.lays "AlgolMillModel" "AlgolMillModel" "routineType" "I") ∈ lw_all := lw_g (lw_at lw_m11 159 rfl) rfl
theorem q2741 : (Jvm.Cond.soleField "AlgolMillModel" "routineType") ∈ lw_all := lw_g (lw_at lw_m11 160 rfl) rfl
theorem q2742 : (Jvm.Cond.lays "AlgolMillModel" "AlgolMillModel" "there" "Z") ∈ lw_all := lw_g (lw_at lw_m11 161 rfl) rfl
theorem q2743 : (Jvm.Cond.soleField "AlgolMillModel" "there") ∈ lw_all := lw_g (lw_at lw_m11 162 rfl) rfl
theorem q2744 : (Jvm.Cond.laysFinal "AlgolMillModel" "AlgolMillModel" "run" "[I") ∈ lw_all := lw_g (lw_at lw_m11 163 rfl) rfl
theorem q2745 : (Jvm.Cond.soleField "AlgolMillModel" "run") ∈ lw_all := lw_g (lw_at lw_m11 164 rfl) rfl
theorem q2746 : (Jvm.Cond.laysFinal "AlgolMillModel" "AlgolMillModel" "rThunkCode" "[I") ∈ lw_all := lw_g (lw_at lw_m11 165 rfl) rfl
theorem q2747 : (Jvm.Cond.soleField "AlgolMillModel" "rThunkCode") ∈ lw_all := lw_g (lw_at lw_m11 166 rfl) rfl
theorem q2748 : (Jvm.Cond.laysFinal "AlgolMillModel" "AlgolMillModel" "rThunkKind" "[I") ∈ lw_all := lw_g (lw_at lw_m11 167 rfl) rfl
theorem q2749 : (Jvm.Cond.soleField "AlgolMillModel" "rThunkKind") ∈ lw_all := lw_g (lw_at lw_m11 168 rfl) rfl
theorem q2750 : (Jvm.Cond.laysFinal "AlgolMillModel" "AlgolMillModel" "rSiteProc" "[I") ∈ lw_all := lw_g (lw_at lw_m11 169 rfl) rfl
theorem q2751 : (Jvm.Cond.soleField "AlgolMillModel" "rSiteProc") ∈ lw_all := lw_g (lw_at lw_m11 170 rfl) rfl
theorem q2752 : (Jvm.Cond.laysFinal "AlgolMillModel" "AlgolMillModel" "rSiteUp" "[I") ∈ lw_all := lw_g (lw_at lw_m11 171 rfl) rfl
theorem q2753 : (Jvm.Cond.soleField "AlgolMillModel" "rSiteUp") ∈ lw_all := lw_g (lw_at lw_m11 172 rfl) rfl
theorem q2754 : (Jvm.Cond.laysFinal "AlgolMillModel" "AlgolMillModel" "rSiteFirst" "[I") ∈ lw_all := lw_g (lw_at lw_m11 173 rfl) rfl
theorem q2755 : (Jvm.Cond.soleField "AlgolMillModel" "rSiteFirst") ∈ lw_all := lw_g (lw_at lw_m11 174 rfl) rfl
theorem q2756 : (Jvm.Cond.laysFinal "AlgolMillModel" "AlgolMillModel" "rActKind" "[I") ∈ lw_all := lw_g (lw_at lw_m11 175 rfl) rfl
theorem q2757 : (Jvm.Cond.soleField "AlgolMillModel" "rActKind") ∈ lw_all := lw_g (lw_at lw_m11 176 rfl) rfl
theorem q2758 : (Jvm.Cond.laysFinal "AlgolMillModel" "AlgolMillModel" "rActA" "[I") ∈ lw_all := lw_g (lw_at lw_m11 177 rfl) rfl
theorem q2759 : (Jvm.Cond.soleField "AlgolMillModel" "rActA") ∈ lw_all := lw_g (lw_at lw_m11 178 rfl) rfl
theorem q2760 : (Jvm.Cond.laysFinal "AlgolMillModel" "AlgolMillModel" "rActB" "[I") ∈ lw_all := lw_g (lw_at lw_m11 179 rfl) rfl
theorem q2761 : (Jvm.Cond.soleField "AlgolMillModel" "rActB") ∈ lw_all := lw_g (lw_at lw_m11 180 rfl) rfl
theorem q2762 : (Jvm.Cond.laysFinal "AlgolMillModel" "AlgolMillModel" "literal" "[J") ∈ lw_all := lw_g (lw_at lw_m11 181 rfl) rfl
theorem q2763 : (Jvm.Cond.soleField "AlgolMillModel" "literal") ∈ lw_all := lw_g (lw_at lw_m11 182 rfl) rfl
theorem q2764 : (Jvm.Cond.laysFinal "AlgolMillModel" "AlgolMillModel" "rpCode" "[I") ∈ lw_all := lw_g (lw_at lw_m11 183 rfl) rfl
theorem q2765 : (Jvm.Cond.soleField "AlgolMillModel" "rpCode") ∈ lw_all := lw_g (lw_at lw_m11 184 rfl) rfl
theorem q2766 : (Jvm.Cond.laysFinal "AlgolMillModel" "AlgolMillModel" "rpSlots" "[I") ∈ lw_all := lw_g (lw_at lw_m11 185 rfl) rfl
theorem q2767 : (Jvm.Cond.soleField "AlgolMillModel" "rpSlots") ∈ lw_all := lw_g (lw_at lw_m11 186 rfl) rfl
theorem q2768 : (Jvm.Cond.laysFinal "AlgolMillModel" "AlgolMillModel" "rpFirst" "[I") ∈ lw_all := lw_g (lw_at lw_m11 187 rfl) rfl
theorem q2769 : (Jvm.Cond.soleField "AlgolMillModel" "rpFirst") ∈ lw_all := lw_g (lw_at lw_m11 188 rfl) rfl
theorem q2770 : (Jvm.Cond.laysFinal "AlgolMillModel" "AlgolMillModel" "rpFormals" "[I") ∈ lw_all := lw_g (lw_at lw_m11 189 rfl) rfl
theorem q2771 : (Jvm.Cond.soleField "AlgolMillModel" "rpFormals") ∈ lw_all := lw_g (lw_at lw_m11 190 rfl) rfl
theorem q2772 : (Jvm.Cond.laysFinal "AlgolMillModel" "AlgolMillModel" "rSlot" "[I") ∈ lw_all := lw_g (lw_at lw_m11 191 rfl) rfl
theorem q2773 : (Jvm.Cond.soleField "AlgolMillModel" "rSlot") ∈ lw_all := lw_g (lw_at lw_m11 192 rfl) rfl
theorem q2774 : (Jvm.Cond.laysFinal "AlgolMillModel" "AlgolMillModel" "rLabelCode" "[I") ∈ lw_all := lw_g (lw_at lw_m11 193 rfl) rfl
theorem q2775 : (Jvm.Cond.soleField "AlgolMillModel" "rLabelCode") ∈ lw_all := lw_g (lw_at lw_m11 194 rfl) rfl
theorem q2776 : (Jvm.Cond.laysFinal "AlgolMillModel" "AlgolMillModel" "rLabelBlock" "[I") ∈ lw_all := lw_g (lw_at lw_m11 195 rfl) rfl
theorem q2777 : (Jvm.Cond.soleField "AlgolMillModel" "rLabelBlock") ∈ lw_all := lw_g (lw_at lw_m11 196 rfl) rfl
theorem q2778 : (Jvm.Cond.laysFinal "AlgolMillModel" "AlgolMillModel" "rSwFirst" "[I") ∈ lw_all := lw_g (lw_at lw_m11 197 rfl) rfl
theorem q2779 : (Jvm.Cond.soleField "AlgolMillModel" "rSwFirst") ∈ lw_all := lw_g (lw_at lw_m11 198 rfl) rfl
theorem q2780 : (Jvm.Cond.laysFinal "AlgolMillModel" "AlgolMillModel" "rSwMany" "[I") ∈ lw_all := lw_g (lw_at lw_m11 199 rfl) rfl
theorem q2781 : (Jvm.Cond.soleField "AlgolMillModel" "rSwMany") ∈ lw_all := lw_g (lw_at lw_m11 200 rfl) rfl
theorem q2782 : (Jvm.Cond.laysFinal "AlgolMillModel" "AlgolMillModel" "rSwEntry" "[I") ∈ lw_all := lw_g (lw_at lw_m11 201 rfl) rfl
theorem q2783 : (Jvm.Cond.soleField "AlgolMillModel" "rSwEntry") ∈ lw_all := lw_g (lw_at lw_m11 202 rfl) rfl
theorem q2784 : (Jvm.Cond.laysFinal "AlgolMillModel" "AlgolMillModel" "rBlockSlot" "[I") ∈ lw_all := lw_g (lw_at lw_m11 203 rfl) rfl
theorem q2785 : (Jvm.Cond.soleField "AlgolMillModel" "rBlockSlot") ∈ lw_all := lw_g (lw_at lw_m11 204 rfl) rfl
theorem q2786 : (Jvm.Cond.laysFinal "AlgolMillModel" "AlgolMillModel" "rBlockVar" "[I") ∈ lw_all := lw_g (lw_at lw_m11 205 rfl) rfl
theorem q2787 : (Jvm.Cond.soleField "AlgolMillModel" "rBlockVar") ∈ lw_all := lw_g (lw_at lw_m11 206 rfl) rfl
theorem q2788 : (Jvm.Cond.laysFinal "AlgolMillModel" "AlgolMillModel" "rNextVar" "[I") ∈ lw_all := lw_g (lw_at lw_m11 207 rfl) rfl
theorem q2789 : (Jvm.Cond.soleField "AlgolMillModel" "rNextVar") ∈ lw_all := lw_g (lw_at lw_m11 208 rfl) rfl
theorem q2790 : (Jvm.Cond.lays "AlgolMillModel" "AlgolMillModel" "rOwns" "I") ∈ lw_all := lw_g (lw_at lw_m11 209 rfl) rfl
theorem q2791 : (Jvm.Cond.soleField "AlgolMillModel" "rOwns") ∈ lw_all := lw_g (lw_at lw_m11 210 rfl) rfl
theorem q2792 : (Jvm.Cond.laysFinal "AlgolMillModel" "AlgolMillModel" "mem" "[J") ∈ lw_all := lw_g (lw_at lw_m11 211 rfl) rfl
theorem q2793 : (Jvm.Cond.soleField "AlgolMillModel" "mem") ∈ lw_all := lw_g (lw_at lw_m11 212 rfl) rfl
theorem q2794 : (Jvm.Cond.laysFinal "AlgolMillModel" "AlgolMillModel" "heap" "[J") ∈ lw_all := lw_g (lw_at lw_m11 213 rfl) rfl
theorem q2795 : (Jvm.Cond.soleField "AlgolMillModel" "heap") ∈ lw_all := lw_g (lw_at lw_m11 214 rfl) rfl
theorem q2796 : (Jvm.Cond.laysFinal "AlgolMillModel" "AlgolMillModel" "st" "[J") ∈ lw_all := lw_g (lw_at lw_m11 215 rfl) rfl
theorem q2797 : (Jvm.Cond.soleField "AlgolMillModel" "st") ∈ lw_all := lw_g (lw_at lw_m11 216 rfl) rfl
theorem q2798 : (Jvm.Cond.laysFinal "AlgolMillModel" "AlgolMillModel" "out" "[J") ∈ lw_all := lw_g (lw_at lw_m11 217 rfl) rfl
theorem q2799 : (Jvm.Cond.soleField "AlgolMillModel" "out") ∈ lw_all := lw_g (lw_at lw_m11 218 rfl) rfl
theorem q2800 : (Jvm.Cond.laysFinal "AlgolMillModel" "AlgolMillModel" "actBase" "[I") ∈ lw_all := lw_g (lw_at lw_m11 219 rfl) rfl
theorem q2801 : (Jvm.Cond.soleField "AlgolMillModel" "actBase") ∈ lw_all := lw_g (lw_at lw_m11 220 rfl) rfl
theorem q2802 : (Jvm.Cond.laysFinal "AlgolMillModel" "AlgolMillModel" "actLink" "[I") ∈ lw_all := lw_g (lw_at lw_m11 221 rfl) rfl
theorem q2803 : (Jvm.Cond.soleField "AlgolMillModel" "actLink") ∈ lw_all := lw_g (lw_at lw_m11 222 rfl) rfl
theorem q2804 : (Jvm.Cond.laysFinal "AlgolMillModel" "AlgolMillModel" "actCtl" "[I") ∈ lw_all := lw_g (lw_at lw_m11 223 rfl) rfl
theorem q2805 : (Jvm.Cond.soleField "AlgolMillModel" "actCtl") ∈ lw_all := lw_g (lw_at lw_m11 224 rfl) rfl
theorem q2806 : (Jvm.Cond.laysFinal "AlgolMillModel" "AlgolMillModel" "actSp" "[I") ∈ lw_all := lw_g (lw_at lw_m11 225 rfl) rfl
theorem q2807 : (Jvm.Cond.soleField "AlgolMillModel" "actSp") ∈ lw_all := lw_g (lw_at lw_m11 226 rfl) rfl
theorem q2808 : (Jvm.Cond.laysFinal "AlgolMillModel" "AlgolMillModel" "actHeap" "[I") ∈ lw_all := lw_g (lw_at lw_m11 227 rfl) rfl
theorem q2809 : (Jvm.Cond.soleField "AlgolMillModel" "actHeap") ∈ lw_all := lw_g (lw_at lw_m11 228 rfl) rfl
theorem q2810 : (Jvm.Cond.laysFinal "AlgolMillModel" "AlgolMillModel" "cKind" "[I") ∈ lw_all := lw_g (lw_at lw_m11 229 rfl) rfl
theorem q2811 : (Jvm.Cond.soleField "AlgolMillModel" "cKind") ∈ lw_all := lw_g (lw_at lw_m11 230 rfl) rfl
theorem q2812 : (Jvm.Cond.laysFinal "AlgolMillModel" "AlgolMillModel" "cPc" "[I") ∈ lw_all := lw_g (lw_at lw_m11 231 rfl) rfl
theorem q2813 : (Jvm.Cond.soleField "AlgolMillModel" "cPc") ∈ lw_all := lw_g (lw_at lw_m11 232 rfl) rfl
theorem q2814 : (Jvm.Cond.laysFinal "AlgolMillModel" "AlgolMillModel" "cEnv" "[I") ∈ lw_all := lw_g (lw_at lw_m11 233 rfl) rfl
theorem q2815 : (Jvm.Cond.soleField "AlgolMillModel" "cEnv") ∈ lw_all := lw_g (lw_at lw_m11 234 rfl) rfl
theorem q2816 : (Jvm.Cond.laysFinal "AlgolMillModel" "AlgolMillModel" "cMode" "[I") ∈ lw_all := lw_g (lw_at lw_m11 235 rfl) rfl
theorem q2817 : (Jvm.Cond.soleField "AlgolMillModel" "cMode") ∈ lw_all := lw_g (lw_at lw_m11 236 rfl) rfl
theorem q2818 : (Jvm.Cond.laysFinal "AlgolMillModel" "AlgolMillModel" "cDepth" "[I") ∈ lw_all := lw_g (lw_at lw_m11 237 rfl) rfl
theorem q2819 : (Jvm.Cond.soleField "AlgolMillModel" "cDepth") ∈ lw_all := lw_g (lw_at lw_m11 238 rfl) rfl
theorem q2820 : (Jvm.Cond.laysFinal "AlgolMillModel" "AlgolMillModel" "cStore" "[I") ∈ lw_all := lw_g (lw_at lw_m11 239 rfl) rfl
theorem q2821 : (Jvm.Cond.soleField "AlgolMillModel" "cStore") ∈ lw_all := lw_g (lw_at lw_m12 0 rfl) rfl
theorem q2822 : (Jvm.Cond.lays "AlgolMillModel" "AlgolMillModel" "cp" "I") ∈ lw_all := lw_g (lw_at lw_m12 1 rfl) rfl
theorem q2823 : (Jvm.Cond.soleField "AlgolMillModel" "cp") ∈ lw_all := lw_g (lw_at lw_m12 2 rfl) rfl
theorem q2824 : (Jvm.Cond.lays "AlgolMillModel" "AlgolMillModel" "pc" "I") ∈ lw_all := lw_g (lw_at lw_m12 3 rfl) rfl
theorem q2825 : (Jvm.Cond.soleField "AlgolMillModel" "pc") ∈ lw_all := lw_g (lw_at lw_m12 4 rfl) rfl
theorem q2826 : (Jvm.Cond.lays "AlgolMillModel" "AlgolMillModel" "env" "I") ∈ lw_all := lw_g (lw_at lw_m12 5 rfl) rfl
theorem q2827 : (Jvm.Cond.soleField "AlgolMillModel" "env") ∈ lw_all := lw_g (lw_at lw_m12 6 rfl) rfl
theorem q2828 : (Jvm.Cond.lays "AlgolMillModel" "AlgolMillModel" "sp" "I") ∈ lw_all := lw_g (lw_at lw_m12 7 rfl) rfl
theorem q2829 : (Jvm.Cond.soleField "AlgolMillModel" "sp") ∈ lw_all := lw_g (lw_at lw_m12 8 rfl) rfl
theorem q2830 : (Jvm.Cond.lays "AlgolMillModel" "AlgolMillModel" "activations" "I") ∈ lw_all := lw_g (lw_at lw_m12 9 rfl) rfl
theorem q2831 : (Jvm.Cond.soleField "AlgolMillModel" "activations") ∈ lw_all := lw_g (lw_at lw_m12 10 rfl) rfl
theorem q2832 : (Jvm.Cond.lays "AlgolMillModel" "AlgolMillModel" "memTop" "I") ∈ lw_all := lw_g (lw_at lw_m12 11 rfl) rfl
theorem q2833 : (Jvm.Cond.soleField "AlgolMillModel" "memTop") ∈ lw_all := lw_g (lw_at lw_m12 12 rfl) rfl
theorem q2834 : (Jvm.Cond.lays "AlgolMillModel" "AlgolMillModel" "heapTop" "I") ∈ lw_all := lw_g (lw_at lw_m12 13 rfl) rfl
theorem q2835 : (Jvm.Cond.soleField "AlgolMillModel" "heapTop") ∈ lw_all := lw_g (lw_at lw_m12 14 rfl) rfl
theorem q2836 : (Jvm.Cond.lays "AlgolMillModel" "AlgolMillModel" "uses" "I") ∈ lw_all := lw_g (lw_at lw_m12 15 rfl) rfl
theorem q2837 : (Jvm.Cond.soleField "AlgolMillModel" "uses") ∈ lw_all := lw_g (lw_at lw_m12 16 rfl) rfl
theorem q2838 : (Jvm.Cond.lays "AlgolMillModel" "AlgolMillModel" "mostUses" "I") ∈ lw_all := lw_g (lw_at lw_m12 17 rfl) rfl
theorem q2839 : (Jvm.Cond.soleField "AlgolMillModel" "mostUses") ∈ lw_all := lw_g (lw_at lw_m12 18 rfl) rfl
theorem q2840 : (Jvm.Cond.lays "AlgolMillModel" "AlgolMillModel" "mostElements" "I") ∈ lw_all := lw_g (lw_at lw_m12 19 rfl) rfl
theorem q2841 : (Jvm.Cond.soleField "AlgolMillModel" "mostElements") ∈ lw_all := lw_g (lw_at lw_m12 20 rfl) rfl
theorem q2842 : (Jvm.Cond.lays "AlgolMillModel" "AlgolMillModel" "steps" "I") ∈ lw_all := lw_g (lw_at lw_m12 21 rfl) rfl
theorem q2843 : (Jvm.Cond.soleField "AlgolMillModel" "steps") ∈ lw_all := lw_g (lw_at lw_m12 22 rfl) rfl
theorem q2844 : (Jvm.Cond.lays "AlgolMillModel" "AlgolMillModel" "allowed" "I") ∈ lw_all := lw_g (lw_at lw_m12 23 rfl) rfl
theorem q2845 : (Jvm.Cond.soleField "AlgolMillModel" "allowed") ∈ lw_all := lw_g (lw_at lw_m12 24 rfl) rfl
theorem q2846 : (Jvm.Cond.lays "AlgolMillModel" "AlgolMillModel" "printed" "I") ∈ lw_all := lw_g (lw_at lw_m12 25 rfl) rfl
theorem q2847 : (Jvm.Cond.soleField "AlgolMillModel" "printed") ∈ lw_all := lw_g (lw_at lw_m12 26 rfl) rfl
theorem q2848 : (Jvm.Cond.lays "AlgolMillModel" "AlgolMillModel" "error" "I") ∈ lw_all := lw_g (lw_at lw_m12 27 rfl) rfl
theorem q2849 : (Jvm.Cond.soleField "AlgolMillModel" "error") ∈ lw_all := lw_g (lw_at lw_m12 28 rfl) rfl
theorem q2850 : (Jvm.Cond.laysFinal "AlgolMillModel" "AlgolMillModel" "actProc" "[I") ∈ lw_all := lw_g (lw_at lw_m12 29 rfl) rfl
theorem q2851 : (Jvm.Cond.soleField "AlgolMillModel" "actProc") ∈ lw_all := lw_g (lw_at lw_m12 30 rfl) rfl
theorem q2852 : (Jvm.Cond.superclass "AlgolMillModel" "java/lang/Object") ∈ lw_all := lw_g (lw_at lw_m12 31 rfl) rfl
theorem q2855 : (Jvm.Cond.instanceMethod ({ cls := "AlgolMillModel", name := "thrown", desc := "()I" } : Jvm.MethodName)) ∈ lw_all := lw_g (lw_at lw_m12 34 rfl) rfl
theorem q2856 : (Jvm.Cond.selects "AlgolMillModel" ({ cls := "AlgolMillModel", name := "thrown", desc := "()I" } : Jvm.MethodName) ({ cls := "AlgolMillModel", name := "thrown", desc := "()I" } : Jvm.MethodName)) ∈ lw_all := lw_g (lw_at lw_m12 35 rfl) rfl
theorem q2857 : (Jvm.Cond.code ({ cls := "AlgolMillModel", name := "thrown", desc := "()I" } : Jvm.MethodName) prog_38_method_2_code (1 : Nat) (Option.some Jvm.ClassFile.FieldType.int)) ∈ lw_all := lw_g (lw_at lw_m12 36 rfl) rfl
theorem q2859 : (Jvm.Cond.instanceMethod ({ cls := "AlgolMillModel", name := "feed", desc := "(IIIII)I" } : Jvm.MethodName)) ∈ lw_all := lw_g (lw_at lw_m12 38 rfl) rfl
theorem q2860 : (Jvm.Cond.selects "AlgolMillModel" ({ cls := "AlgolMillModel", name := "feed", desc := "(IIIII)I" } : Jvm.MethodName) ({ cls := "AlgolMillModel", name := "feed", desc := "(IIIII)I" } : Jvm.MethodName)) ∈ lw_all := lw_g (lw_at lw_m12 39 rfl) rfl
theorem q2861 : (Jvm.Cond.code ({ cls := "AlgolMillModel", name := "feed", desc := "(IIIII)I" } : Jvm.MethodName) prog_38_method_5_code (6 : Nat) (Option.some Jvm.ClassFile.FieldType.int)) ∈ lw_all := lw_g (lw_at lw_m12 40 rfl) rfl
theorem q2862 : (Jvm.Cond.methodLink "AlgolMillModel" (384 : Nat) ({ cls := "AlgolMillModel", name := "no", desc := "(I)I" } : Jvm.MethodName)) ∈ lw_all := lw_g (lw_at lw_m12 41 rfl) rfl
theorem q2863 : (Jvm.Cond.privateMethod ({ cls := "AlgolMillModel", name := "no", desc := "(I)I" } : Jvm.MethodName)) ∈ lw_tbl := lw_at lw_m12 42 rfl
theorem q2864 : (Jvm.Cond.instanceMethod ({ cls := "AlgolMillModel", name := "no", desc := "(I)I" } : Jvm.MethodName)) ∈ lw_all := lw_g (lw_at lw_m12 43 rfl) rfl
theorem q2865 : (Jvm.Cond.code ({ cls := "AlgolMillModel", name := "no", desc := "(I)I" } : Jvm.MethodName) prog_38_method_3_code (2 : Nat) (Option.some Jvm.ClassFile.FieldType.int)) ∈ lw_all := lw_g (lw_at lw_m12 44 rfl) rfl
theorem q2866 : (Jvm.Cond.methodLink "AlgolMillModel" (388 : Nat) ({ cls := "AlgolMillModel", name := "four", desc := "(I)V" } : Jvm.MethodName)) ∈ lw_all := lw_g (lw_at lw_m12 45 rfl) rfl
theorem q2867 : (Jvm.Cond.privateMethod ({ cls := "AlgolMillModel", name := "four", desc := "(I)V" } : Jvm.MethodName)) ∈ lw_tbl := lw_at lw_m12 46 rfl
theorem q2868 : (Jvm.Cond.instanceMethod ({ cls := "AlgolMillModel", name := "four", desc := "(I)V" } : Jvm.MethodName)) ∈ lw_all := lw_g (lw_at lw_m12 47 rfl) rfl
theorem q2869 : (Jvm.Cond.code ({ cls := "AlgolMillModel", name := "four", desc := "(I)V" } : Jvm.MethodName) prog_38_method_4_code (3 : Nat) (Option.none : Option Jvm.ClassFile.FieldType)) ∈ lw_all := lw_g (lw_at lw_m12 48 rfl) rfl
theorem q2871 : (Jvm.Cond.instanceMethod ({ cls := "AlgolMillModel", name := "end", desc := "(I)I" } : Jvm.MethodName)) ∈ lw_all := lw_g (lw_at lw_m12 50 rfl) rfl
theorem q2872 : (Jvm.Cond.selects "AlgolMillModel" ({ cls := "AlgolMillModel", name := "end", desc := "(I)I" } : Jvm.MethodName) ({ cls := "AlgolMillModel", name := "end", desc := "(I)I" } : Jvm.MethodName)) ∈ lw_all := lw_g (lw_at lw_m12 51 rfl) rfl
theorem q2873 : (Jvm.Cond.code ({ cls := "AlgolMillModel", name := "end", desc := "(I)I" } : Jvm.MethodName) prog_38_method_6_code (2 : Nat) (Option.some Jvm.ClassFile.FieldType.int)) ∈ lw_all := lw_g (lw_at lw_m12 52 rfl) rfl
theorem q2875 : (Jvm.Cond.instanceMethod ({ cls := "AlgolMillModel", name := "build", desc := "()I" } : Jvm.MethodName)) ∈ lw_all := lw_g (lw_at lw_m12 54 rfl) rfl
theorem q2876 : (Jvm.Cond.selects "AlgolMillModel" ({ cls := "AlgolMillModel", name := "build", desc := "()I" } : Jvm.MethodName) ({ cls := "AlgolMillModel", name := "build", desc := "()I" } : Jvm.MethodName)) ∈ lw_all := lw_g (lw_at lw_m12 55 rfl) rfl
theorem q2877 : (Jvm.Cond.codeWith ({ cls := "AlgolMillModel", name := "build", desc := "()I" } : Jvm.MethodName) prog_38_method_88_code (3 : Nat) (Option.some Jvm.ClassFile.FieldType.int) [((4 : Nat), (9 : Nat), (12 : Nat), (28 : Nat))]) ∈ lw_all := lw_g (lw_at lw_m12 56 rfl) rfl
theorem q2881 : (Jvm.Cond.methodLink "AlgolMillModel" (736 : Nat) ({ cls := "AlgolMillModel", name := "cut", desc := "()V" } : Jvm.MethodName)) ∈ lw_all := lw_g (lw_at lw_m12 60 rfl) rfl
theorem q2882 : (Jvm.Cond.privateMethod ({ cls := "AlgolMillModel", name := "cut", desc := "()V" } : Jvm.MethodName)) ∈ lw_tbl := lw_at lw_m12 61 rfl
theorem q2883 : (Jvm.Cond.instanceMethod ({ cls := "AlgolMillModel", name := "cut", desc := "()V" } : Jvm.MethodName)) ∈ lw_all := lw_g (lw_at lw_m12 62 rfl) rfl
theorem q2884 : (Jvm.Cond.code ({ cls := "AlgolMillModel", name := "cut", desc := "()V" } : Jvm.MethodName) prog_38_method_13_code (7 : Nat) (Option.none : Option Jvm.ClassFile.FieldType)) ∈ lw_all := lw_g (lw_at lw_m12 63 rfl) rfl
theorem q2885 : (Jvm.Cond.methodLink "AlgolMillModel" (403 : Nat) ({ cls := "AlgolMillModel", name := "look", desc := "(I)I" } : Jvm.MethodName)) ∈ lw_all := lw_g (lw_at lw_m12 64 rfl) rfl
theorem q2886 : (Jvm.Cond.privateMethod ({ cls := "AlgolMillModel", name := "look", desc := "(I)I" } : Jvm.MethodName)) ∈ lw_tbl := lw_at lw_m12 65 rfl
theorem q2887 : (Jvm.Cond.instanceMethod ({ cls := "AlgolMillModel", name := "look", desc := "(I)I" } : Jvm.MethodName)) ∈ lw_all := lw_g (lw_at lw_m12 66 rfl) rfl
theorem q2888 : (Jvm.Cond.code ({ cls := "AlgolMillModel", name := "look", desc := "(I)I" } : Jvm.MethodName) prog_38_method_7_code (2 : Nat) (Option.some Jvm.ClassFile.FieldType.int)) ∈ lw_all := lw_g (lw_at lw_m12 67 rfl) rfl
theorem q2889 : (Jvm.Cond.methodLink "AlgolMillModel" (406 : Nat) ({ cls := "AlgolMillModel", name := "letter", desc := "(I)Z" } : Jvm.MethodName)) ∈ lw_all := lw_g (lw_at lw_m12 68 rfl) rfl
theorem q2890 : (Jvm.Cond.static ({ cls := "AlgolMillModel", name := "letter", desc := "(I)Z" } : Jvm.MethodName)) ∈ lw_all := lw_g (lw_at lw_m12 69 rfl) rfl
theorem q2891 : (Jvm.Cond.code ({ cls := "AlgolMillModel", name := "letter", desc := "(I)Z" } : Jvm.MethodName) prog_38_method_8_code (1 : Nat) (Option.some Jvm.ClassFile.FieldType.boolean)) ∈ lw_all := lw_g (lw_at lw_m12 70 rfl) rfl
theorem q2892 : (Jvm.Cond.methodLink "AlgolMillModel" (410 : Nat) ({ cls := "AlgolMillModel", name := "digit", desc := "(I)Z" } : Jvm.MethodName)) ∈ lw_all := lw_g (lw_at lw_m12 71 rfl) rfl
theorem q2893 : (Jvm.Cond.static ({ cls := "AlgolMillModel", name := "digit", desc := "(I)Z" } : Jvm.MethodName)) ∈ lw_all := lw_g (lw_at lw_m12 72 rfl) rfl
theorem q2894 : (Jvm.Cond.code ({ cls := "AlgolMillModel", name := "digit", desc := "(I)Z" } : Jvm.MethodName) prog_38_method_9_code (1 : Nat) (Option.some Jvm.ClassFile.FieldType.boolean)) ∈ lw_all := lw_g (lw_at lw_m12 73 rfl) rfl
theorem q2895 : (Jvm.Cond.constantLong "AlgolMillModel" (413 : Nat) (37 : Int64)) ∈ lw_all := lw_g (lw_at lw_m12 74 rfl) rfl
theorem q2896 : (Jvm.Cond.methodLink "AlgolMillModel" (415 : Nat) ({ cls := "AlgolMillModel", name := "token", desc := "(IIJ)V" } : Jvm.MethodName)) ∈ lw_all := lw_g (lw_at lw_m12 75 rfl) rfl
theorem q2897 : (Jvm.Cond.privateMethod ({ cls := "AlgolMillModel", name := "token", desc := "(IIJ)V" } : Jvm.MethodName)) ∈ lw_tbl := lw_at lw_m12 76 rfl
theorem q2898 : (Jvm.Cond.instanceMethod ({ cls := "AlgolMillModel", name := "token", desc := "(IIJ)V" } : Jvm.MethodName)) ∈ lw_all := lw_g (lw_at lw_m12 77 rfl) rfl
theorem q2899 : (Jvm.Cond.code ({ cls := "AlgolMillModel", name := "token", desc := "(IIJ)V" } : Jvm.MethodName) prog_38_method_10_code (5 : Nat) (Option.none : Option Jvm.ClassFile.FieldType)) ∈ lw_all := lw_g (lw_at lw_m12 78 rfl) rfl
theorem q2900 : (Jvm.Cond.methodLink "AlgolMillModel" (419 : Nat) ({ cls := "AlgolMillModel", name := "word", desc := "(II)I" } : Jvm.MethodName)) ∈ lw_all := lw_g (lw_at lw_m12 79 rfl) rfl
theorem q2901 : (Jvm.Cond.privateMethod ({ cls := "AlgolMillModel", name := "word", desc := "(II)I" } : Jvm.MethodName)) ∈ lw_tbl := lw_at lw_m12 80 rfl
theorem q2902 : (Jvm.Cond.instanceMethod ({ cls := "AlgolMillModel", name := "word", desc := "(II)I" } : Jvm.MethodName)) ∈ lw_all := lw_g (lw_at lw_m12 81 rfl) rfl
theorem q2903 : (Jvm.Cond.code ({ cls := "AlgolMillModel", name := "word", desc := "(II)I" } : Jvm.MethodName) prog_38_method_11_code (7 : Nat) (Option.some Jvm.ClassFile.FieldType.int)) ∈ lw_all := lw_g (lw_at lw_m12 82 rfl) rfl
theorem q2904 : (Jvm.Cond.methodLink "AlgolMillModel" (395 : Nat) ({ cls := "java/lang/String", name := "length", desc := "()I" } : Jvm.MethodName)) ∈ lw_all := lw_g (lw_at lw_m12 83 rfl) rfl
theorem q2905 : (Jvm.Cond.methodLink "AlgolMillModel" (399 : Nat) ({ cls := "java/lang/String", name := "charAt", desc := "(I)C" } : Jvm.MethodName)) ∈ lw_all := lw_g (lw_at lw_m12 84 rfl) rfl
theorem q2906 : (Jvm.Cond.constantLong "AlgolMillModel" (423 : Nat) (10 : Int64)) ∈ lw_all := lw_g (lw_at lw_m12 85 rfl) rfl
theorem q2907 : (Jvm.Cond.constantLong "AlgolMillModel" (425 : Nat) (48 : Int64)) ∈ lw_all := lw_g (lw_at lw_m12 86 rfl) rfl
theorem q2908 : (Jvm.Cond.constantLong "AlgolMillModel" (427 : Nat) (1099511627776 : Int64)) ∈ lw_all := lw_g (lw_at lw_m12 87 rfl) rfl
theorem q2909 : (Jvm.Cond.methodLink "AlgolMillModel" (429 : Nat) ({ cls := "java/lang/Math", name := "min", desc := "(JJ)J" } : Jvm.MethodName)) ∈ lw_all := lw_g (lw_at lw_m12 88 rfl) rfl
theorem q2912 : (Jvm.Cond.methodLink "AlgolMillModel" (435 : Nat) ({ cls := "AlgolMillModel", name := "pair", desc := "(II)I" } : Jvm.MethodName)) ∈ lw_all := lw_g (lw_at lw_m12 91 rfl) rfl
theorem q2913 : (Jvm.Cond.static ({ cls := "AlgolMillModel", name := "pair", desc := "(II)I" } : Jvm.MethodName)) ∈ lw_all := lw_g (lw_at lw_m12 92 rfl) rfl
theorem q2914 : (Jvm.Cond.code ({ cls := "AlgolMillModel", name := "pair", desc := "(II)I" } : Jvm.MethodName) prog_38_method_12_code (2 : Nat) (Option.some Jvm.ClassFile.FieldType.int)) ∈ lw_all := lw_g (lw_at lw_m12 93 rfl) rfl
theorem q2915 : (Jvm.Cond.stringRef "AlgolMillModel" (438 : Nat) "+-*^<=>,;:()[]") ∈ lw_tbl := lw_at lw_m12 94 rfl
theorem q2916 : (Jvm.Cond.methodLink "AlgolMillModel" (440 : Nat) ({ cls := "java/lang/String", name := "indexOf", desc := "(I)I" } : Jvm.MethodName)) ∈ lw_all := lw_g (lw_at lw_m12 95 rfl) rfl
theorem q2975 : (Jvm.Cond.methodLink "AlgolMillModel" (739 : Nat) ({ cls := "AlgolMillModel", name := "program", desc := "()I" } : Jvm.MethodName)) ∈ lw_all := lw_g (lw_at lw_m12 154 rfl) rfl
theorem q2976 : (Jvm.Cond.privateMethod ({ cls := "AlgolMillModel", name := "program", desc := "()I" } : Jvm.MethodName)) ∈ lw_tbl := lw_at lw_m12 155 rfl
theorem q2977 : (Jvm.Cond.instanceMethod ({ cls := "AlgolMillModel", name := "program", desc := "()I" } : Jvm.MethodName)) ∈ lw_all := lw_g (lw_at lw_m12 156 rfl) rfl
theorem q2978 : (Jvm.Cond.code ({ cls := "AlgolMillModel", name := "program", desc := "()I" } : Jvm.MethodName) prog_38_method_86_code (2 : Nat) (Option.some Jvm.ClassFile.FieldType.int)) ∈ lw_all := lw_g (lw_at lw_m12 157 rfl) rfl
theorem q2979 : (Jvm.Cond.methodLink "AlgolMillModel" (566 : Nat) ({ cls := "AlgolMillModel", name := "block", desc := "()I" } : Jvm.MethodName)) ∈ lw_all := lw_g (lw_at lw_m12 158 rfl) rfl
theorem q2980 : (Jvm.Cond.privateMethod ({ cls := "AlgolMillModel", name := "block", desc := "()I" } : Jvm.MethodName)) ∈ lw_tbl := lw_at lw_m12 159 rfl
theorem q2981 : (Jvm.Cond.instanceMethod ({ cls := "AlgolMillModel", name := "block", desc := "()I" } : Jvm.MethodName)) ∈ lw_all := lw_g (lw_at lw_m12 160 rfl) rfl
theorem q2982 : (Jvm.Cond.code ({ cls := "AlgolMillModel", name := "block", desc := "()I" } : Jvm.MethodName) prog_38_method_28_code (9 : Nat) (Option.some Jvm.ClassFile.FieldType.int)) ∈ lw_all := lw_g (lw_at lw_m12 161 rfl) rfl
theorem q2983 : (Jvm.Cond.methodLink "AlgolMillModel" (491 : Nat) ({ cls := "AlgolMillModel", name := "expect", desc := "(I)I" } : Jvm.MethodName)) ∈ lw_all := lw_g (lw_at lw_m12 162 rfl) rfl
theorem q2984 : (Jvm.Cond.privateMethod ({ cls := "AlgolMillModel", name := "expect", desc := "(I)I" } : Jvm.MethodName)) ∈ lw_tbl := lw_at lw_m12 163 rfl
theorem q2985 : (Jvm.Cond.instanceMethod ({ cls := "AlgolMillModel", name := "expect", desc := "(I)I" } : Jvm.MethodName)) ∈ lw_all := lw_g (lw_at lw_m12 164 rfl) rfl
theorem q2986 : (Jvm.Cond.code ({ cls := "AlgolMillModel", name := "expect", desc := "(I)I" } : Jvm.MethodName) prog_38_method_17_code (2 : Nat) (Option.some Jvm.ClassFile.FieldType.int)) ∈ lw_all := lw_g (lw_at lw_m12 165 rfl) rfl
theorem q2987 : (Jvm.Cond.methodLink "AlgolMillModel" (452 : Nat) ({ cls := "AlgolMillModel", name := "kind", desc := "()I" } : Jvm.MethodName)) ∈ lw_all := lw_g (lw_at lw_m12 166 rfl) rfl
theorem q2988 : (Jvm.Cond.privateMethod ({ cls := "AlgolMillModel", name := "kind", desc := "()I" } : Jvm.MethodName)) ∈ lw_tbl := lw_at lw_m12 167 rfl
theorem q2989 : (Jvm.Cond.instanceMethod ({ cls := "AlgolMillModel", name := "kind", desc := "()I" } : Jvm.MethodName)) ∈ lw_all := lw_g (lw_at lw_m12 168 rfl) rfl
theorem q2990 : (Jvm.Cond.code ({ cls := "AlgolMillModel", name := "kind", desc := "()I" } : Jvm.MethodName) prog_38_method_14_code (1 : Nat) (Option.some Jvm.ClassFile.FieldType.int)) ∈ lw_all := lw_g (lw_at lw_m12 169 rfl) rfl
theorem q2991 : (Jvm.Cond.methodLink "AlgolMillModel" (455 : Nat) ({ cls := "AlgolMillModel", name := "bad", desc := "()Ljava/lang/ArithmeticException;" } : Jvm.MethodName)) ∈ lw_all := lw_g (lw_at lw_m12 170 rfl) rfl
theorem q2992 : (Jvm.Cond.privateMethod ({ cls := "AlgolMillModel", name := "bad", desc := "()Ljava/lang/ArithmeticException;" } : Jvm.MethodName)) ∈ lw_tbl := lw_at lw_m12 171 rfl
theorem q2993 : (Jvm.Cond.instanceMethod ({ cls := "AlgolMillModel", name := "bad", desc := "()Ljava/lang/ArithmeticException;" } : Jvm.MethodName)) ∈ lw_all := lw_g (lw_at lw_m12 172 rfl) rfl
theorem q2994 : (Jvm.Cond.code ({ cls := "AlgolMillModel", name := "bad", desc := "()Ljava/lang/ArithmeticException;" } : Jvm.MethodName) prog_38_method_15_code (1 : Nat) (Option.some (Jvm.ClassFile.FieldType.object "java/lang/ArithmeticException"))) ∈ lw_all := lw_g (lw_at lw_m12 173 rfl) rfl
theorem q2995 : (Jvm.Cond.methodLink "AlgolMillModel" (459 : Nat) ({ cls := "AlgolMillModel", name := "taken", desc := "()I" } : Jvm.MethodName)) ∈ lw_all := lw_g (lw_at lw_m12 174 rfl) rfl
theorem q2996 : (Jvm.Cond.privateMethod ({ cls := "AlgolMillModel", name := "taken", desc := "()I" } : Jvm.MethodName)) ∈ lw_tbl := lw_at lw_m12 175 rfl
theorem q2997 : (Jvm.Cond.instanceMethod ({ cls := "AlgolMillModel", name := "taken", desc := "()I" } : Jvm.MethodName)) ∈ lw_all := lw_g (lw_at lw_m12 176 rfl) rfl
theorem q2998 : (Jvm.Cond.code ({ cls := "AlgolMillModel", name := "taken", desc := "()I" } : Jvm.MethodName) prog_38_method_16_code (1 : Nat) (Option.some Jvm.ClassFile.FieldType.int)) ∈ lw_all := lw_g (lw_at lw_m12 177 rfl) rfl
theorem q2999 : (Jvm.Cond.methodLink "AlgolMillModel" (497 : Nat) ({ cls := "AlgolMillModel", name := "newScope", desc := "(II)I" } : Jvm.MethodName)) ∈ lw_all := lw_g (lw_at lw_m12 178 rfl) rfl
theorem q3000 : (Jvm.Cond.privateMethod ({ cls := "AlgolMillModel", name := "newScope", desc := "(II)I" } : Jvm.MethodName)) ∈ lw_tbl := lw_at lw_m12 179 rfl
theorem q3001 : (Jvm.Cond.instanceMethod ({ cls := "AlgolMillModel", name := "newScope", desc := "(II)I" } : Jvm.MethodName)) ∈ lw_all := lw_g (lw_at lw_m12 180 rfl) rfl
theorem q3002 : (Jvm.Cond.code ({ cls := "AlgolMillModel", name := "newScope", desc := "(II)I" } : Jvm.MethodName) prog_38_method_21_code (3 : Nat) (Option.some Jvm.ClassFile.FieldType.int)) ∈ lw_all := lw_g (lw_at lw_m12 181 rfl) rfl
theorem q3003 : (Jvm.Cond.methodLink "AlgolMillModel" (500 : Nat) ({ cls := "AlgolMillModel", name := "node", desc := "(IIIII)I" } : Jvm.MethodName)) ∈ lw_all := lw_g (lw_at lw_m12 182 rfl) rfl
theorem q3004 : (Jvm.Cond.privateMethod ({ cls := "AlgolMillModel", name := "node", desc := "(IIIII)I" } : Jvm.MethodName)) ∈ lw_tbl := lw_at lw_m12 183 rfl
theorem q3005 : (Jvm.Cond.instanceMethod ({ cls := "AlgolMillModel", name := "node", desc := "(IIIII)I" } : Jvm.MethodName)) ∈ lw_all := lw_g (lw_at lw_m12 184 rfl) rfl
theorem q3006 : (Jvm.Cond.code ({ cls := "AlgolMillModel", name := "node", desc := "(IIIII)I" } : Jvm.MethodName) prog_38_method_20_code (6 : Nat) (Option.some Jvm.ClassFile.FieldType.int)) ∈ lw_all := lw_g (lw_at lw_m12 185 rfl) rfl
theorem q3007 : (Jvm.Cond.methodLink "AlgolMillModel" (504 : Nat) ({ cls := "AlgolMillModel", name := "slots", desc := "(I)I" } : Jvm.MethodName)) ∈ lw_all := lw_g (lw_at lw_m12 186 rfl) rfl
theorem q3008 : (Jvm.Cond.privateMethod ({ cls := "AlgolMillModel", name := "slots", desc := "(I)I" } : Jvm.MethodName)) ∈ lw_tbl := lw_at lw_m12 187 rfl
theorem q3009 : (Jvm.Cond.instanceMethod ({ cls := "AlgolMillModel", name := "slots", desc := "(I)I" } : Jvm.MethodName)) ∈ lw_all := lw_g (lw_at lw_m12 188 rfl) rfl
theorem q3010 : (Jvm.Cond.code ({ cls := "AlgolMillModel", name := "slots", desc := "(I)I" } : Jvm.MethodName) prog_38_method_25_code (3 : Nat) (Option.some Jvm.ClassFile.FieldType.int)) ∈ lw_all := lw_g (lw_at lw_m12 189 rfl) rfl
theorem q3011 : (Jvm.Cond.methodLink "AlgolMillModel" (507 : Nat) ({ cls := "AlgolMillModel", name := "isType", desc := "()Z" } : Jvm.MethodName)) ∈ lw_all := lw_g (lw_at lw_m12 190 rfl) rfl
theorem q3012 : (Jvm.Cond.privateMethod ({ cls := "AlgolMillModel", name := "isType", desc := "()Z" } : Jvm.MethodName)) ∈ lw_tbl := lw_at lw_m12 191 rfl
theorem q3013 : (Jvm.Cond.instanceMethod ({ cls := "AlgolMillModel", name := "isType", desc := "()Z" } : Jvm.MethodName)) ∈ lw_all := lw_g (lw_at lw_m12 192 rfl) rfl
theorem q3014 : (Jvm.Cond.code ({ cls := "AlgolMillModel", name := "isType", desc := "()Z" } : Jvm.MethodName) prog_38_method_27_code (1 : Nat) (Option.some Jvm.ClassFile.FieldType.boolean)) ∈ lw_all := lw_g (lw_at lw_m12 193 rfl) rfl
theorem q3015 : (Jvm.Cond.methodLink "AlgolMillModel" (511 : Nat) ({ cls := "AlgolMillModel", name := "declaration", desc := "(I)I" } : Jvm.MethodName)) ∈ lw_all := lw_g (lw_at lw_m12 194 rfl) rfl
theorem q3016 : (Jvm.Cond.privateMethod ({ cls := "AlgolMillModel", name := "declaration", desc := "(I)I" } : Jvm.MethodName)) ∈ lw_tbl := lw_at lw_m12 195 rfl
theorem q3017 : (Jvm.Cond.instanceMethod ({ cls := "AlgolMillModel", name := "declaration", desc := "(I)I" } : Jvm.MethodName)) ∈ lw_all := lw_g (lw_at lw_m12 196 rfl) rfl
theorem q3018 : (Jvm.Cond.code ({ cls := "AlgolMillModel", name := "declaration", desc := "(I)I" } : Jvm.MethodName) prog_38_method_29_code (5 : Nat) (Option.some Jvm.ClassFile.FieldType.int)) ∈ lw_all := lw_g (lw_at lw_m12 197 rfl) rfl
theorem q3019 : (Jvm.Cond.methodLink "AlgolMillModel" (520 : Nat) ({ cls := "AlgolMillModel", name := "aSwitch", desc := "()V" } : Jvm.MethodName)) ∈ lw_all := lw_g (lw_at lw_m12 198 rfl) rfl
theorem q3020 : (Jvm.Cond.privateMethod ({ cls := "AlgolMillModel", name := "aSwitch", desc := "()V" } : Jvm.MethodName)) ∈ lw_tbl := lw_at lw_m12 199 rfl
theorem q3021 : (Jvm.Cond.instanceMethod ({ cls := "AlgolMillModel", name := "aSwitch", desc := "()V" } : Jvm.MethodName)) ∈ lw_all := lw_g (lw_at lw_m12 200 rfl) rfl
theorem q3022 : (Jvm.Cond.code ({ cls := "AlgolMillModel", name := "aSwitch", desc := "()V" } : Jvm.MethodName) prog_38_method_31_code (5 : Nat) (Option.none : Option Jvm.ClassFile.FieldType)) ∈ lw_all := lw_g (lw_at lw_m12 201 rfl) rfl
theorem q3023 : (Jvm.Cond.methodLink "AlgolMillModel" (531 : Nat) ({ cls := "AlgolMillModel", name := "declare", desc := "(IIII)I" } : Jvm.MethodName)) ∈ lw_all := lw_g (lw_at lw_m12 202 rfl) rfl
theorem q3024 : (Jvm.Cond.privateMethod ({ cls := "AlgolMillModel", name := "declare", desc := "(IIII)I" } : Jvm.MethodName)) ∈ lw_tbl := lw_at lw_m12 203 rfl
theorem q3025 : (Jvm.Cond.instanceMethod ({ cls := "AlgolMillModel", name := "declare", desc := "(IIII)I" } : Jvm.MethodName)) ∈ lw_all := lw_g (lw_at lw_m12 204 rfl) rfl
theorem q3026 : (Jvm.Cond.code ({ cls := "AlgolMillModel", name := "declare", desc := "(IIII)I" } : Jvm.MethodName) prog_38_method_24_code (6 : Nat) (Option.some Jvm.ClassFile.FieldType.int)) ∈ lw_all := lw_g (lw_at lw_m12 205 rfl) rfl
theorem q3027 : (Jvm.Cond.methodLink "AlgolMillModel" (480 : Nat) ({ cls := "AlgolMillModel", name := "inScope", desc := "(IJ)I" } : Jvm.MethodName)) ∈ lw_all := lw_g (lw_at lw_m12 206 rfl) rfl
theorem q3028 : (Jvm.Cond.privateMethod ({ cls := "AlgolMillModel", name := "inScope", desc := "(IJ)I" } : Jvm.MethodName)) ∈ lw_tbl := lw_at lw_m12 207 rfl
theorem q3029 : (Jvm.Cond.instanceMethod ({ cls := "AlgolMillModel", name := "inScope", desc := "(IJ)I" } : Jvm.MethodName)) ∈ lw_all := lw_g (lw_at lw_m12 208 rfl) rfl
theorem q3030 : (Jvm.Cond.code ({ cls := "AlgolMillModel", name := "inScope", desc := "(IJ)I" } : Jvm.MethodName) prog_38_method_22_code (5 : Nat) (Option.some Jvm.ClassFile.FieldType.int)) ∈ lw_all := lw_g (lw_at lw_m12 209 rfl) rfl
theorem q3031 : (Jvm.Cond.methodLink "AlgolMillModel" (484 : Nat) ({ cls := "AlgolMillModel", name := "found", desc := "(II)V" } : Jvm.MethodName)) ∈ lw_all := lw_g (lw_at lw_m12 210 rfl) rfl
theorem q3032 : (Jvm.Cond.privateMethod ({ cls := "AlgolMillModel", name := "found", desc := "(II)V" } : Jvm.MethodName)) ∈ lw_tbl := lw_at lw_m12 211 rfl
theorem q3033 : (Jvm.Cond.instanceMethod ({ cls := "AlgolMillModel", name := "found", desc := "(II)V" } : Jvm.MethodName)) ∈ lw_all := lw_g (lw_at lw_m12 212 rfl) rfl
theorem q3034 : (Jvm.Cond.code ({ cls := "AlgolMillModel", name := "found", desc := "(II)V" } : Jvm.MethodName) prog_38_method_19_code (4 : Nat) (Option.none : Option Jvm.ClassFile.FieldType)) ∈ lw_all := lw_g (lw_at lw_m12 213 rfl) rfl
theorem q3035 : (Jvm.Cond.methodLink "AlgolMillModel" (541 : Nat) ({ cls := "AlgolMillModel", name := "aim", desc := "()I" } : Jvm.MethodName)) ∈ lw_all := lw_g (lw_at lw_m12 214 rfl) rfl
theorem q3036 : (Jvm.Cond.privateMethod ({ cls := "AlgolMillModel", name := "aim", desc := "()I" } : Jvm.MethodName)) ∈ lw_tbl := lw_at lw_m12 215 rfl
theorem q3037 : (Jvm.Cond.instanceMethod ({ cls := "AlgolMillModel", name := "aim", desc := "()I" } : Jvm.MethodName)) ∈ lw_all := lw_g (lw_at lw_m12 216 rfl) rfl
theorem q3038 : (Jvm.Cond.code ({ cls := "AlgolMillModel", name := "aim", desc := "()I" } : Jvm.MethodName) prog_38_method_44_code (6 : Nat) (Option.some Jvm.ClassFile.FieldType.int)) ∈ lw_all := lw_g (lw_at lw_m12 217 rfl) rfl
theorem q3039 : (Jvm.Cond.methodLink "AlgolMillModel" (538 : Nat) ({ cls := "AlgolMillModel", name := "expr", desc := "()I" } : Jvm.MethodName)) ∈ lw_all := lw_g (lw_at lw_m12 218 rfl) rfl
theorem q3040 : (Jvm.Cond.privateMethod ({ cls := "AlgolMillModel", name := "expr", desc := "()I" } : Jvm.MethodName)) ∈ lw_tbl := lw_at lw_m12 219 rfl
theorem q3041 : (Jvm.Cond.instanceMethod ({ cls := "AlgolMillModel", name := "expr", desc := "()I" } : Jvm.MethodName)) ∈ lw_all := lw_g (lw_at lw_m12 220 rfl) rfl
theorem q3042 : (Jvm.Cond.code ({ cls := "AlgolMillModel", name := "expr", desc := "()I" } : Jvm.MethodName) prog_38_method_45_code (1 : Nat) (Option.some Jvm.ClassFile.FieldType.int)) ∈ lw_all := lw_g (lw_at lw_m12 221 rfl) rfl
theorem q3043 : (Jvm.Cond.methodLink "AlgolMillModel" (581 : Nat) ({ cls := "AlgolMillModel", name := "whole", desc := "(I)I" } : Jvm.MethodName)) ∈ lw_all := lw_g (lw_at lw_m12 222 rfl) rfl
theorem q3044 : (Jvm.Cond.privateMethod ({ cls := "AlgolMillModel", name := "whole", desc := "(I)I" } : Jvm.MethodName)) ∈ lw_tbl := lw_at lw_m12 223 rfl
theorem q3045 : (Jvm.Cond.instanceMethod ({ cls := "AlgolMillModel", name := "whole", desc := "(I)I" } : Jvm.MethodName)) ∈ lw_all := lw_g (lw_at lw_m12 224 rfl) rfl
theorem q3046 : (Jvm.Cond.code ({ cls := "AlgolMillModel", name := "whole", desc := "(I)I" } : Jvm.MethodName) prog_38_method_46_code (7 : Nat) (Option.some Jvm.ClassFile.FieldType.int)) ∈ lw_all := lw_g (lw_at lw_m12 225 rfl) rfl
theorem q3047 : (Jvm.Cond.methodLink "AlgolMillModel" (584 : Nat) ({ cls := "AlgolMillModel", name := "simple", desc := "(I)I" } : Jvm.MethodName)) ∈ lw_all := lw_g (lw_at lw_m12 226 rfl) rfl
theorem q3048 : (Jvm.Cond.privateMethod ({ cls := "AlgolMillModel", name := "simple", desc := "(I)I" } : Jvm.MethodName)) ∈ lw_tbl := lw_at lw_m12 227 rfl
theorem q3049 : (Jvm.Cond.instanceMethod ({ cls := "AlgolMillModel", name := "simple", desc := "(I)I" } : Jvm.MethodName)) ∈ lw_all := lw_g (lw_at lw_m12 228 rfl) rfl
theorem q3050 : (Jvm.Cond.code ({ cls := "AlgolMillModel", name := "simple", desc := "(I)I" } : Jvm.MethodName) prog_38_method_48_code (2 : Nat) (Option.some Jvm.ClassFile.FieldType.int)) ∈ lw_all := lw_g (lw_at lw_m12 229 rfl) rfl
theorem q3051 : (Jvm.Cond.methodLink "AlgolMillModel" (587 : Nat) ({ cls := "AlgolMillModel", name := "level", desc := "(II)I" } : Jvm.MethodName)) ∈ lw_all := lw_g (lw_at lw_m12 230 rfl) rfl
theorem q3052 : (Jvm.Cond.privateMethod ({ cls := "AlgolMillModel", name := "level", desc := "(II)I" } : Jvm.MethodName)) ∈ lw_tbl := lw_at lw_m12 231 rfl
theorem q3053 : (Jvm.Cond.instanceMethod ({ cls := "AlgolMillModel", name := "level", desc := "(II)I" } : Jvm.MethodName)) ∈ lw_all := lw_g (lw_at lw_m12 232 rfl) rfl
theorem q3054 : (Jvm.Cond.code ({ cls := "AlgolMillModel", name := "level", desc := "(II)I" } : Jvm.MethodName) prog_38_method_49_code (7 : Nat) (Option.some Jvm.ClassFile.FieldType.int)) ∈ lw_all := lw_g (lw_at lw_m12 233 rfl) rfl
theorem q3055 : (Jvm.Cond.methodLink "AlgolMillModel" (590 : Nat) ({ cls := "AlgolMillModel", name := "primary", desc := "(I)I" } : Jvm.MethodName)) ∈ lw_all := lw_g (lw_at lw_m12 234 rfl) rfl
theorem q3056 : (Jvm.Cond.privateMethod ({ cls := "AlgolMillModel", name := "primary", desc := "(I)I" } : Jvm.MethodName)) ∈ lw_tbl := lw_at lw_m12 235 rfl
theorem q3057 : (Jvm.Cond.instanceMethod ({ cls := "AlgolMillModel", name := "primary", desc := "(I)I" } : Jvm.MethodName)) ∈ lw_all := lw_g (lw_at lw_m12 236 rfl) rfl
theorem q3058 : (Jvm.Cond.code ({ cls := "AlgolMillModel", name := "primary", desc := "(I)I" } : Jvm.MethodName) prog_38_method_50_code (5 : Nat) (Option.some Jvm.ClassFile.FieldType.int)) ∈ lw_all := lw_g (lw_at lw_m12 237 rfl) rfl
theorem q3059 : (Jvm.Cond.methodLink "AlgolMillModel" (578 : Nat) ({ cls := "AlgolMillModel", name := "may", desc := "(II)I" } : Jvm.MethodName)) ∈ lw_all := lw_g (lw_at lw_m12 238 rfl) rfl
theorem q3060 : (Jvm.Cond.privateMethod ({ cls := "AlgolMillModel", name := "may", desc := "(II)I" } : Jvm.MethodName)) ∈ lw_tbl := lw_at lw_m12 239 rfl
theorem q3061 : (Jvm.Cond.instanceMethod ({ cls := "AlgolMillModel", name := "may", desc := "(II)I" } : Jvm.MethodName)) ∈ lw_all := lw_g (lw_at lw_m13 0 rfl) rfl
theorem q3062 : (Jvm.Cond.code ({ cls := "AlgolMillModel", name := "may", desc := "(II)I" } : Jvm.MethodName) prog_38_method_43_code (3 : Nat) (Option.some Jvm.ClassFile.FieldType.int)) ∈ lw_all := lw_g (lw_at lw_m13 1 rfl) rfl
theorem q3063 : (Jvm.Cond.methodLink "AlgolMillModel" (575 : Nat) ({ cls := "AlgolMillModel", name := "call", desc := "()I" } : Jvm.MethodName)) ∈ lw_all := lw_g (lw_at lw_m13 2 rfl) rfl
theorem q3064 : (Jvm.Cond.privateMethod ({ cls := "AlgolMillModel", name := "call", desc := "()I" } : Jvm.MethodName)) ∈ lw_tbl := lw_at lw_m13 3 rfl
theorem q3065 : (Jvm.Cond.instanceMethod ({ cls := "AlgolMillModel", name := "call", desc := "()I" } : Jvm.MethodName)) ∈ lw_all := lw_g (lw_at lw_m13 4 rfl) rfl
theorem q3066 : (Jvm.Cond.code ({ cls := "AlgolMillModel", name := "call", desc := "()I" } : Jvm.MethodName) prog_38_method_42_code (7 : Nat) (Option.some Jvm.ClassFile.FieldType.int)) ∈ lw_all := lw_g (lw_at lw_m13 5 rfl) rfl
theorem q3067 : (Jvm.Cond.methodLink "AlgolMillModel" (517 : Nat) ({ cls := "AlgolMillModel", name := "skip", desc := "(I)Z" } : Jvm.MethodName)) ∈ lw_all := lw_g (lw_at lw_m13 6 rfl) rfl
theorem q3068 : (Jvm.Cond.privateMethod ({ cls := "AlgolMillModel", name := "skip", desc := "(I)Z" } : Jvm.MethodName)) ∈ lw_tbl := lw_at lw_m13 7 rfl
theorem q3069 : (Jvm.Cond.instanceMethod ({ cls := "AlgolMillModel", name := "skip", desc := "(I)Z" } : Jvm.MethodName)) ∈ lw_all := lw_g (lw_at lw_m13 8 rfl) rfl
theorem q3070 : (Jvm.Cond.code ({ cls := "AlgolMillModel", name := "skip", desc := "(I)Z" } : Jvm.MethodName) prog_38_method_18_code (3 : Nat) (Option.some Jvm.ClassFile.FieldType.boolean)) ∈ lw_all := lw_g (lw_at lw_m13 9 rfl) rfl
theorem q3071 : (Jvm.Cond.methodLink "AlgolMillModel" (569 : Nat) ({ cls := "AlgolMillModel", name := "variable", desc := "()I" } : Jvm.MethodName)) ∈ lw_all := lw_g (lw_at lw_m13 10 rfl) rfl
theorem q3072 : (Jvm.Cond.privateMethod ({ cls := "AlgolMillModel", name := "variable", desc := "()I" } : Jvm.MethodName)) ∈ lw_tbl := lw_at lw_m13 11 rfl
theorem q3073 : (Jvm.Cond.instanceMethod ({ cls := "AlgolMillModel", name := "variable", desc := "()I" } : Jvm.MethodName)) ∈ lw_all := lw_g (lw_at lw_m13 12 rfl) rfl
theorem q3074 : (Jvm.Cond.code ({ cls := "AlgolMillModel", name := "variable", desc := "()I" } : Jvm.MethodName) prog_38_method_39_code (2 : Nat) (Option.some Jvm.ClassFile.FieldType.int)) ∈ lw_all := lw_g (lw_at lw_m13 13 rfl) rfl
theorem q3075 : (Jvm.Cond.methodLink "AlgolMillModel" (572 : Nat) ({ cls := "AlgolMillModel", name := "indices", desc := "(I)I" } : Jvm.MethodName)) ∈ lw_all := lw_g (lw_at lw_m13 14 rfl) rfl
theorem q3076 : (Jvm.Cond.privateMethod ({ cls := "AlgolMillModel", name := "indices", desc := "(I)I" } : Jvm.MethodName)) ∈ lw_tbl := lw_at lw_m13 15 rfl
theorem q3077 : (Jvm.Cond.instanceMethod ({ cls := "AlgolMillModel", name := "indices", desc := "(I)I" } : Jvm.MethodName)) ∈ lw_all := lw_g (lw_at lw_m13 16 rfl) rfl
theorem q3078 : (Jvm.Cond.code ({ cls := "AlgolMillModel", name := "indices", desc := "(I)I" } : Jvm.MethodName) prog_38_method_40_code (7 : Nat) (Option.some Jvm.ClassFile.FieldType.int)) ∈ lw_all := lw_g (lw_at lw_m13 17 rfl) rfl
theorem q3079 : (Jvm.Cond.methodLink "AlgolMillModel" (593 : Nat) ({ cls := "AlgolMillModel", name := "levelOf", desc := "(I)I" } : Jvm.MethodName)) ∈ lw_all := lw_g (lw_at lw_m13 18 rfl) rfl
theorem q3080 : (Jvm.Cond.static ({ cls := "AlgolMillModel", name := "levelOf", desc := "(I)I" } : Jvm.MethodName)) ∈ lw_all := lw_g (lw_at lw_m13 19 rfl) rfl
theorem q3081 : (Jvm.Cond.code ({ cls := "AlgolMillModel", name := "levelOf", desc := "(I)I" } : Jvm.MethodName) prog_38_method_47_code (1 : Nat) (Option.some Jvm.ClassFile.FieldType.int)) ∈ lw_all := lw_g (lw_at lw_m13 20 rfl) rfl
theorem q3082 : (Jvm.Cond.methodLink "AlgolMillModel" (523 : Nat) ({ cls := "AlgolMillModel", name := "typeOf", desc := "(I)I" } : Jvm.MethodName)) ∈ lw_all := lw_g (lw_at lw_m13 21 rfl) rfl
theorem q3083 : (Jvm.Cond.static ({ cls := "AlgolMillModel", name := "typeOf", desc := "(I)I" } : Jvm.MethodName)) ∈ lw_all := lw_g (lw_at lw_m13 22 rfl) rfl
theorem q3084 : (Jvm.Cond.code ({ cls := "AlgolMillModel", name := "typeOf", desc := "(I)I" } : Jvm.MethodName) prog_38_method_26_code (1 : Nat) (Option.some Jvm.ClassFile.FieldType.int)) ∈ lw_all := lw_g (lw_at lw_m13 23 rfl) rfl
theorem q3085 : (Jvm.Cond.methodLink "AlgolMillModel" (526 : Nat) ({ cls := "AlgolMillModel", name := "arrays", desc := "(II)I" } : Jvm.MethodName)) ∈ lw_all := lw_g (lw_at lw_m13 24 rfl) rfl
theorem q3086 : (Jvm.Cond.privateMethod ({ cls := "AlgolMillModel", name := "arrays", desc := "(II)I" } : Jvm.MethodName)) ∈ lw_tbl := lw_at lw_m13 25 rfl
theorem q3087 : (Jvm.Cond.instanceMethod ({ cls := "AlgolMillModel", name := "arrays", desc := "(II)I" } : Jvm.MethodName)) ∈ lw_all := lw_g (lw_at lw_m13 26 rfl) rfl
theorem q3088 : (Jvm.Cond.code ({ cls := "AlgolMillModel", name := "arrays", desc := "(II)I" } : Jvm.MethodName) prog_38_method_30_code (12 : Nat) (Option.some Jvm.ClassFile.FieldType.int)) ∈ lw_all := lw_g (lw_at lw_m13 27 rfl) rfl
theorem q3089 : (Jvm.Cond.methodLink "AlgolMillModel" (529 : Nat) ({ cls := "AlgolMillModel", name := "procedure", desc := "(I)V" } : Jvm.MethodName)) ∈ lw_all := lw_g (lw_at lw_m13 28 rfl) rfl
theorem q3090 : (Jvm.Cond.privateMethod ({ cls := "AlgolMillModel", name := "procedure", desc := "(I)V" } : Jvm.MethodName)) ∈ lw_tbl := lw_at lw_m13 29 rfl
theorem q3091 : (Jvm.Cond.instanceMethod ({ cls := "AlgolMillModel", name := "procedure", desc := "(I)V" } : Jvm.MethodName)) ∈ lw_all := lw_g (lw_at lw_m13 30 rfl) rfl
theorem q3092 : (Jvm.Cond.code ({ cls := "AlgolMillModel", name := "procedure", desc := "(I)V" } : Jvm.MethodName) prog_38_method_32_code (11 : Nat) (Option.none : Option Jvm.ClassFile.FieldType)) ∈ lw_all := lw_g (lw_at lw_m13 31 rfl) rfl
theorem q3093 : (Jvm.Cond.methodLink "AlgolMillModel" (547 : Nat) ({ cls := "AlgolMillModel", name := "spec", desc := "(I)V" } : Jvm.MethodName)) ∈ lw_all := lw_g (lw_at lw_m13 32 rfl) rfl
theorem q3094 : (Jvm.Cond.privateMethod ({ cls := "AlgolMillModel", name := "spec", desc := "(I)V" } : Jvm.MethodName)) ∈ lw_tbl := lw_at lw_m13 33 rfl
theorem q3095 : (Jvm.Cond.instanceMethod ({ cls := "AlgolMillModel", name := "spec", desc := "(I)V" } : Jvm.MethodName)) ∈ lw_all := lw_g (lw_at lw_m13 34 rfl) rfl
theorem q3096 : (Jvm.Cond.code ({ cls := "AlgolMillModel", name := "spec", desc := "(I)V" } : Jvm.MethodName) prog_38_method_34_code (7 : Nat) (Option.none : Option Jvm.ClassFile.FieldType)) ∈ lw_all := lw_g (lw_at lw_m13 35 rfl) rfl
theorem q3097 : (Jvm.Cond.methodLink "AlgolMillModel" (550 : Nat) ({ cls := "AlgolMillModel", name := "formalOf", desc := "(JI)I" } : Jvm.MethodName)) ∈ lw_all := lw_g (lw_at lw_m13 36 rfl) rfl
theorem q3098 : (Jvm.Cond.privateMethod ({ cls := "AlgolMillModel", name := "formalOf", desc := "(JI)I" } : Jvm.MethodName)) ∈ lw_tbl := lw_at lw_m13 37 rfl
theorem q3099 : (Jvm.Cond.instanceMethod ({ cls := "AlgolMillModel", name := "formalOf", desc := "(JI)I" } : Jvm.MethodName)) ∈ lw_all := lw_g (lw_at lw_m13 38 rfl) rfl
theorem q3100 : (Jvm.Cond.code ({ cls := "AlgolMillModel", name := "formalOf", desc := "(JI)I" } : Jvm.MethodName) prog_38_method_33_code (5 : Nat) (Option.some Jvm.ClassFile.FieldType.int)) ∈ lw_all := lw_g (lw_at lw_m13 39 rfl) rfl
theorem q3101 : (Jvm.Cond.methodLink "AlgolMillModel" (514 : Nat) ({ cls := "AlgolMillModel", name := "statement", desc := "()I" } : Jvm.MethodName)) ∈ lw_all := lw_g (lw_at lw_m13 40 rfl) rfl
theorem q3102 : (Jvm.Cond.privateMethod ({ cls := "AlgolMillModel", name := "statement", desc := "()I" } : Jvm.MethodName)) ∈ lw_tbl := lw_at lw_m13 41 rfl
theorem q3103 : (Jvm.Cond.instanceMethod ({ cls := "AlgolMillModel", name := "statement", desc := "()I" } : Jvm.MethodName)) ∈ lw_all := lw_g (lw_at lw_m13 42 rfl) rfl
theorem q3104 : (Jvm.Cond.code ({ cls := "AlgolMillModel", name := "statement", desc := "()I" } : Jvm.MethodName) prog_38_method_36_code (4 : Nat) (Option.some Jvm.ClassFile.FieldType.int)) ∈ lw_all := lw_g (lw_at lw_m13 43 rfl) rfl
theorem q3105 : (Jvm.Cond.methodLink "AlgolMillModel" (554 : Nat) ({ cls := "AlgolMillModel", name := "plain", desc := "()I" } : Jvm.MethodName)) ∈ lw_all := lw_g (lw_at lw_m13 44 rfl) rfl
theorem q3106 : (Jvm.Cond.privateMethod ({ cls := "AlgolMillModel", name := "plain", desc := "()I" } : Jvm.MethodName)) ∈ lw_tbl := lw_at lw_m13 45 rfl
theorem q3107 : (Jvm.Cond.instanceMethod ({ cls := "AlgolMillModel", name := "plain", desc := "()I" } : Jvm.MethodName)) ∈ lw_all := lw_g (lw_at lw_m13 46 rfl) rfl
theorem q3108 : (Jvm.Cond.code ({ cls := "AlgolMillModel", name := "plain", desc := "()I" } : Jvm.MethodName) prog_38_method_37_code (6 : Nat) (Option.some Jvm.ClassFile.FieldType.int)) ∈ lw_all := lw_g (lw_at lw_m13 47 rfl) rfl
theorem q3109 : (Jvm.Cond.methodLink "AlgolMillModel" (557 : Nat) ({ cls := "AlgolMillModel", name := "setOrCall", desc := "()I" } : Jvm.MethodName)) ∈ lw_all := lw_g (lw_at lw_m13 48 rfl) rfl
theorem q3110 : (Jvm.Cond.privateMethod ({ cls := "AlgolMillModel", name := "setOrCall", desc := "()I" } : Jvm.MethodName)) ∈ lw_tbl := lw_at lw_m13 49 rfl
theorem q3111 : (Jvm.Cond.instanceMethod ({ cls := "AlgolMillModel", name := "setOrCall", desc := "()I" } : Jvm.MethodName)) ∈ lw_all := lw_g (lw_at lw_m13 50 rfl) rfl
theorem q3112 : (Jvm.Cond.code ({ cls := "AlgolMillModel", name := "setOrCall", desc := "()I" } : Jvm.MethodName) prog_38_method_41_code (9 : Nat) (Option.some Jvm.ClassFile.FieldType.int)) ∈ lw_all := lw_g (lw_at lw_m13 51 rfl) rfl
theorem q3113 : (Jvm.Cond.methodLink "AlgolMillModel" (560 : Nat) ({ cls := "AlgolMillModel", name := "inner", desc := "()I" } : Jvm.MethodName)) ∈ lw_all := lw_g (lw_at lw_m13 52 rfl) rfl
theorem q3114 : (Jvm.Cond.privateMethod ({ cls := "AlgolMillModel", name := "inner", desc := "()I" } : Jvm.MethodName)) ∈ lw_tbl := lw_at lw_m13 53 rfl
theorem q3115 : (Jvm.Cond.instanceMethod ({ cls := "AlgolMillModel", name := "inner", desc := "()I" } : Jvm.MethodName)) ∈ lw_all := lw_g (lw_at lw_m13 54 rfl) rfl
theorem q3116 : (Jvm.Cond.code ({ cls := "AlgolMillModel", name := "inner", desc := "()I" } : Jvm.MethodName) prog_38_method_35_code (3 : Nat) (Option.some Jvm.ClassFile.FieldType.int)) ∈ lw_all := lw_g (lw_at lw_m13 55 rfl) rfl
theorem q3117 : (Jvm.Cond.methodLink "AlgolMillModel" (563 : Nat) ({ cls := "AlgolMillModel", name := "loop", desc := "()I" } : Jvm.MethodName)) ∈ lw_all := lw_g (lw_at lw_m13 56 rfl) rfl
theorem q3118 : (Jvm.Cond.privateMethod ({ cls := "AlgolMillModel", name := "loop", desc := "()I" } : Jvm.MethodName)) ∈ lw_tbl := lw_at lw_m13 57 rfl
theorem q3119 : (Jvm.Cond.instanceMethod ({ cls := "AlgolMillModel", name := "loop", desc := "()I" } : Jvm.MethodName)) ∈ lw_all := lw_g (lw_at lw_m13 58 rfl) rfl
theorem q3120 : (Jvm.Cond.code ({ cls := "AlgolMillModel", name := "loop", desc := "()I" } : Jvm.MethodName) prog_38_method_38_code (10 : Nat) (Option.some Jvm.ClassFile.FieldType.int)) ∈ lw_all := lw_g (lw_at lw_m13 59 rfl) rfl
theorem q3121 : (Jvm.Cond.methodLink "AlgolMillModel" (742 : Nat) ({ cls := "AlgolMillModel", name := "refused", desc := "(II)I" } : Jvm.MethodName)) ∈ lw_all := lw_g (lw_at lw_m13 60 rfl) rfl
theorem q3122 : (Jvm.Cond.privateMethod ({ cls := "AlgolMillModel", name := "refused", desc := "(II)I" } : Jvm.MethodName)) ∈ lw_tbl := lw_at lw_m13 61 rfl
theorem q3123 : (Jvm.Cond.instanceMethod ({ cls := "AlgolMillModel", name := "refused", desc := "(II)I" } : Jvm.MethodName)) ∈ lw_all := lw_g (lw_at lw_m13 62 rfl) rfl
theorem q3124 : (Jvm.Cond.code ({ cls := "AlgolMillModel", name := "refused", desc := "(II)I" } : Jvm.MethodName) prog_38_method_85_code (3 : Nat) (Option.some Jvm.ClassFile.FieldType.int)) ∈ lw_all := lw_g (lw_at lw_m13 63 rfl) rfl
theorem q3125 : (Jvm.Cond.methodLink "AlgolMillModel" (745 : Nat) ({ cls := "AlgolMillModel", name := "codeOf", desc := "(I)V" } : Jvm.MethodName)) ∈ lw_all := lw_g (lw_at lw_m13 64 rfl) rfl
theorem q3126 : (Jvm.Cond.privateMethod ({ cls := "AlgolMillModel", name := "codeOf", desc := "(I)V" } : Jvm.MethodName)) ∈ lw_tbl := lw_at lw_m13 65 rfl
theorem q3127 : (Jvm.Cond.instanceMethod ({ cls := "AlgolMillModel", name := "codeOf", desc := "(I)V" } : Jvm.MethodName)) ∈ lw_all := lw_g (lw_at lw_m13 66 rfl) rfl
theorem q3128 : (Jvm.Cond.code ({ cls := "AlgolMillModel", name := "codeOf", desc := "(I)V" } : Jvm.MethodName) prog_38_method_87_code (5 : Nat) (Option.none : Option Jvm.ClassFile.FieldType)) ∈ lw_all := lw_g (lw_at lw_m13 67 rfl) rfl
theorem q3129 : (Jvm.Cond.methodLink "AlgolMillModel" (703 : Nat) ({ cls := "AlgolMillModel", name := "blockCode", desc := "(I)V" } : Jvm.MethodName)) ∈ lw_all := lw_g (lw_at lw_m13 68 rfl) rfl
theorem q3130 : (Jvm.Cond.privateMethod ({ cls := "AlgolMillModel", name := "blockCode", desc := "(I)V" } : Jvm.MethodName)) ∈ lw_tbl := lw_at lw_m13 69 rfl
theorem q3131 : (Jvm.Cond.instanceMethod ({ cls := "AlgolMillModel", name := "blockCode", desc := "(I)V" } : Jvm.MethodName)) ∈ lw_all := lw_g (lw_at lw_m13 70 rfl) rfl
theorem q3132 : (Jvm.Cond.code ({ cls := "AlgolMillModel", name := "blockCode", desc := "(I)V" } : Jvm.MethodName) prog_38_method_83_code (6 : Nat) (Option.none : Option Jvm.ClassFile.FieldType)) ∈ lw_all := lw_g (lw_at lw_m13 71 rfl) rfl
theorem q3133 : (Jvm.Cond.methodLink "AlgolMillModel" (609 : Nat) ({ cls := "AlgolMillModel", name := "op", desc := "(IIII)I" } : Jvm.MethodName)) ∈ lw_all := lw_g (lw_at lw_m13 72 rfl) rfl
theorem q3134 : (Jvm.Cond.privateMethod ({ cls := "AlgolMillModel", name := "op", desc := "(IIII)I" } : Jvm.MethodName)) ∈ lw_tbl := lw_at lw_m13 73 rfl
theorem q3135 : (Jvm.Cond.instanceMethod ({ cls := "AlgolMillModel", name := "op", desc := "(IIII)I" } : Jvm.MethodName)) ∈ lw_all := lw_g (lw_at lw_m13 74 rfl) rfl
theorem q3136 : (Jvm.Cond.code ({ cls := "AlgolMillModel", name := "op", desc := "(IIII)I" } : Jvm.MethodName) prog_38_method_51_code (5 : Nat) (Option.some Jvm.ClassFile.FieldType.int)) ∈ lw_all := lw_g (lw_at lw_m13 75 rfl) rfl
theorem q3137 : (Jvm.Cond.methodLink "AlgolMillModel" (622 : Nat) ({ cls := "AlgolMillModel", name := "mustBe", desc := "(II)V" } : Jvm.MethodName)) ∈ lw_all := lw_g (lw_at lw_m13 76 rfl) rfl
theorem q3138 : (Jvm.Cond.privateMethod ({ cls := "AlgolMillModel", name := "mustBe", desc := "(II)V" } : Jvm.MethodName)) ∈ lw_tbl := lw_at lw_m13 77 rfl
theorem q3139 : (Jvm.Cond.instanceMethod ({ cls := "AlgolMillModel", name := "mustBe", desc := "(II)V" } : Jvm.MethodName)) ∈ lw_all := lw_g (lw_at lw_m13 78 rfl) rfl
theorem q3140 : (Jvm.Cond.code ({ cls := "AlgolMillModel", name := "mustBe", desc := "(II)V" } : Jvm.MethodName) prog_38_method_56_code (4 : Nat) (Option.none : Option Jvm.ClassFile.FieldType)) ∈ lw_all := lw_g (lw_at lw_m13 79 rfl) rfl
theorem q3141 : (Jvm.Cond.methodLink "AlgolMillModel" (607 : Nat) ({ cls := "AlgolMillModel", name := "value", desc := "(I)I" } : Jvm.MethodName)) ∈ lw_all := lw_g (lw_at lw_m13 80 rfl) rfl
theorem q3142 : (Jvm.Cond.privateMethod ({ cls := "AlgolMillModel", name := "value", desc := "(I)I" } : Jvm.MethodName)) ∈ lw_tbl := lw_at lw_m13 81 rfl
theorem q3143 : (Jvm.Cond.instanceMethod ({ cls := "AlgolMillModel", name := "value", desc := "(I)I" } : Jvm.MethodName)) ∈ lw_all := lw_g (lw_at lw_m13 82 rfl) rfl
theorem q3144 : (Jvm.Cond.code ({ cls := "AlgolMillModel", name := "value", desc := "(I)I" } : Jvm.MethodName) prog_38_method_59_code (7 : Nat) (Option.some Jvm.ClassFile.FieldType.int)) ∈ lw_all := lw_g (lw_at lw_m13 83 rfl) rfl
theorem q3145 : (Jvm.Cond.methodLink "AlgolMillModel" (612 : Nat) ({ cls := "AlgolMillModel", name := "named", desc := "(I)I" } : Jvm.MethodName)) ∈ lw_all := lw_g (lw_at lw_m13 84 rfl) rfl
theorem q3146 : (Jvm.Cond.privateMethod ({ cls := "AlgolMillModel", name := "named", desc := "(I)I" } : Jvm.MethodName)) ∈ lw_tbl := lw_at lw_m13 85 rfl
theorem q3147 : (Jvm.Cond.instanceMethod ({ cls := "AlgolMillModel", name := "named", desc := "(I)I" } : Jvm.MethodName)) ∈ lw_all := lw_g (lw_at lw_m13 86 rfl) rfl
theorem q3148 : (Jvm.Cond.code ({ cls := "AlgolMillModel", name := "named", desc := "(I)I" } : Jvm.MethodName) prog_38_method_62_code (4 : Nat) (Option.some Jvm.ClassFile.FieldType.int)) ∈ lw_all := lw_g (lw_at lw_m13 87 rfl) rfl
theorem q3149 : (Jvm.Cond.methodLink "AlgolMillModel" (638 : Nat) ({ cls := "AlgolMillModel", name := "seen", desc := "(I)I" } : Jvm.MethodName)) ∈ lw_all := lw_g (lw_at lw_m13 88 rfl) rfl
theorem q3150 : (Jvm.Cond.privateMethod ({ cls := "AlgolMillModel", name := "seen", desc := "(I)I" } : Jvm.MethodName)) ∈ lw_tbl := lw_at lw_m13 89 rfl
theorem q3151 : (Jvm.Cond.instanceMethod ({ cls := "AlgolMillModel", name := "seen", desc := "(I)I" } : Jvm.MethodName)) ∈ lw_all := lw_g (lw_at lw_m13 90 rfl) rfl
theorem q3152 : (Jvm.Cond.code ({ cls := "AlgolMillModel", name := "seen", desc := "(I)I" } : Jvm.MethodName) prog_38_method_55_code (3 : Nat) (Option.some Jvm.ClassFile.FieldType.int)) ∈ lw_all := lw_g (lw_at lw_m13 91 rfl) rfl
theorem q3153 : (Jvm.Cond.methodLink "AlgolMillModel" (604 : Nat) ({ cls := "AlgolMillModel", name := "lookUp", desc := "(IJ)I" } : Jvm.MethodName)) ∈ lw_all := lw_g (lw_at lw_m13 92 rfl) rfl
theorem q3154 : (Jvm.Cond.privateMethod ({ cls := "AlgolMillModel", name := "lookUp", desc := "(IJ)I" } : Jvm.MethodName)) ∈ lw_tbl := lw_at lw_m13 93 rfl
theorem q3155 : (Jvm.Cond.instanceMethod ({ cls := "AlgolMillModel", name := "lookUp", desc := "(IJ)I" } : Jvm.MethodName)) ∈ lw_all := lw_g (lw_at lw_m13 94 rfl) rfl
theorem q3156 : (Jvm.Cond.code ({ cls := "AlgolMillModel", name := "lookUp", desc := "(IJ)I" } : Jvm.MethodName) prog_38_method_23_code (6 : Nat) (Option.some Jvm.ClassFile.FieldType.int)) ∈ lw_all := lw_g (lw_at lw_m13 95 rfl) rfl
theorem q3157 : (Jvm.Cond.methodLink "AlgolMillModel" (641 : Nat) ({ cls := "AlgolMillModel", name := "up", desc := "(I)I" } : Jvm.MethodName)) ∈ lw_all := lw_g (lw_at lw_m13 96 rfl) rfl
theorem q3158 : (Jvm.Cond.privateMethod ({ cls := "AlgolMillModel", name := "up", desc := "(I)I" } : Jvm.MethodName)) ∈ lw_tbl := lw_at lw_m13 97 rfl
theorem q3159 : (Jvm.Cond.instanceMethod ({ cls := "AlgolMillModel", name := "up", desc := "(I)I" } : Jvm.MethodName)) ∈ lw_all := lw_g (lw_at lw_m13 98 rfl) rfl
theorem q3160 : (Jvm.Cond.code ({ cls := "AlgolMillModel", name := "up", desc := "(I)I" } : Jvm.MethodName) prog_38_method_54_code (2 : Nat) (Option.some Jvm.ClassFile.FieldType.int)) ∈ lw_all := lw_g (lw_at lw_m13 99 rfl) rfl
theorem q3161 : (Jvm.Cond.methodLink "AlgolMillModel" (601 : Nat) ({ cls := "AlgolMillModel", name := "levelOfSymbol", desc := "(I)I" } : Jvm.MethodName)) ∈ lw_all := lw_g (lw_at lw_m13 100 rfl) rfl
theorem q3162 : (Jvm.Cond.privateMethod ({ cls := "AlgolMillModel", name := "levelOfSymbol", desc := "(I)I" } : Jvm.MethodName)) ∈ lw_tbl := lw_at lw_m13 101 rfl
theorem q3163 : (Jvm.Cond.instanceMethod ({ cls := "AlgolMillModel", name := "levelOfSymbol", desc := "(I)I" } : Jvm.MethodName)) ∈ lw_all := lw_g (lw_at lw_m13 102 rfl) rfl
theorem q3164 : (Jvm.Cond.code ({ cls := "AlgolMillModel", name := "levelOfSymbol", desc := "(I)I" } : Jvm.MethodName) prog_38_method_53_code (2 : Nat) (Option.some Jvm.ClassFile.FieldType.int)) ∈ lw_all := lw_g (lw_at lw_m13 103 rfl) rfl
theorem q3165 : (Jvm.Cond.methodLink "AlgolMillModel" (644 : Nat) ({ cls := "AlgolMillModel", name := "isFormal", desc := "(II)Z" } : Jvm.MethodName)) ∈ lw_all := lw_g (lw_at lw_m13 104 rfl) rfl
theorem q3166 : (Jvm.Cond.privateMethod ({ cls := "AlgolMillModel", name := "isFormal", desc := "(II)Z" } : Jvm.MethodName)) ∈ lw_tbl := lw_at lw_m13 105 rfl
theorem q3167 : (Jvm.Cond.instanceMethod ({ cls := "AlgolMillModel", name := "isFormal", desc := "(II)Z" } : Jvm.MethodName)) ∈ lw_all := lw_g (lw_at lw_m13 106 rfl) rfl
theorem q3168 : (Jvm.Cond.code ({ cls := "AlgolMillModel", name := "isFormal", desc := "(II)Z" } : Jvm.MethodName) prog_38_method_58_code (3 : Nat) (Option.some Jvm.ClassFile.FieldType.boolean)) ∈ lw_all := lw_g (lw_at lw_m13 107 rfl) rfl
theorem q3169 : (Jvm.Cond.methodLink "AlgolMillModel" (648 : Nat) ({ cls := "AlgolMillModel", name := "wrongName", desc := "(I)I" } : Jvm.MethodName)) ∈ lw_all := lw_g (lw_at lw_m13 108 rfl) rfl
theorem q3170 : (Jvm.Cond.privateMethod ({ cls := "AlgolMillModel", name := "wrongName", desc := "(I)I" } : Jvm.MethodName)) ∈ lw_tbl := lw_at lw_m13 109 rfl
theorem q3171 : (Jvm.Cond.instanceMethod ({ cls := "AlgolMillModel", name := "wrongName", desc := "(I)I" } : Jvm.MethodName)) ∈ lw_all := lw_g (lw_at lw_m13 110 rfl) rfl
theorem q3172 : (Jvm.Cond.code ({ cls := "AlgolMillModel", name := "wrongName", desc := "(I)I" } : Jvm.MethodName) prog_38_method_57_code (2 : Nat) (Option.some Jvm.ClassFile.FieldType.int)) ∈ lw_all := lw_g (lw_at lw_m13 111 rfl) rfl
theorem q3173 : (Jvm.Cond.methodLink "AlgolMillModel" (651 : Nat) ({ cls := "AlgolMillModel", name := "alone", desc := "(III)V" } : Jvm.MethodName)) ∈ lw_all := lw_g (lw_at lw_m13 112 rfl) rfl
theorem q3174 : (Jvm.Cond.privateMethod ({ cls := "AlgolMillModel", name := "alone", desc := "(III)V" } : Jvm.MethodName)) ∈ lw_tbl := lw_at lw_m13 113 rfl
theorem q3175 : (Jvm.Cond.instanceMethod ({ cls := "AlgolMillModel", name := "alone", desc := "(III)V" } : Jvm.MethodName)) ∈ lw_all := lw_g (lw_at lw_m13 114 rfl) rfl
theorem q3176 : (Jvm.Cond.code ({ cls := "AlgolMillModel", name := "alone", desc := "(III)V" } : Jvm.MethodName) prog_38_method_63_code (5 : Nat) (Option.none : Option Jvm.ClassFile.FieldType)) ∈ lw_all := lw_g (lw_at lw_m13 115 rfl) rfl
theorem q3177 : (Jvm.Cond.methodLink "AlgolMillModel" (655 : Nat) ({ cls := "AlgolMillModel", name := "site", desc := "(I)I" } : Jvm.MethodName)) ∈ lw_all := lw_g (lw_at lw_m13 116 rfl) rfl
theorem q3178 : (Jvm.Cond.privateMethod ({ cls := "AlgolMillModel", name := "site", desc := "(I)I" } : Jvm.MethodName)) ∈ lw_tbl := lw_at lw_m13 117 rfl
theorem q3179 : (Jvm.Cond.instanceMethod ({ cls := "AlgolMillModel", name := "site", desc := "(I)I" } : Jvm.MethodName)) ∈ lw_all := lw_g (lw_at lw_m13 118 rfl) rfl
theorem q3180 : (Jvm.Cond.code ({ cls := "AlgolMillModel", name := "site", desc := "(I)I" } : Jvm.MethodName) prog_38_method_64_code (2 : Nat) (Option.some Jvm.ClassFile.FieldType.int)) ∈ lw_all := lw_g (lw_at lw_m13 119 rfl) rfl
theorem q3181 : (Jvm.Cond.methodLink "AlgolMillModel" (615 : Nat) ({ cls := "AlgolMillModel", name := "element", desc := "(I)I" } : Jvm.MethodName)) ∈ lw_all := lw_g (lw_at lw_m13 120 rfl) rfl
theorem q3182 : (Jvm.Cond.privateMethod ({ cls := "AlgolMillModel", name := "element", desc := "(I)I" } : Jvm.MethodName)) ∈ lw_tbl := lw_at lw_m13 121 rfl
theorem q3183 : (Jvm.Cond.instanceMethod ({ cls := "AlgolMillModel", name := "element", desc := "(I)I" } : Jvm.MethodName)) ∈ lw_all := lw_g (lw_at lw_m13 122 rfl) rfl
theorem q3184 : (Jvm.Cond.code ({ cls := "AlgolMillModel", name := "element", desc := "(I)I" } : Jvm.MethodName) prog_38_method_65_code (5 : Nat) (Option.some Jvm.ClassFile.FieldType.int)) ∈ lw_all := lw_g (lw_at lw_m13 123 rfl) rfl
theorem q3185 : (Jvm.Cond.methodLink "AlgolMillModel" (618 : Nat) ({ cls := "AlgolMillModel", name := "called", desc := "(IZ)I" } : Jvm.MethodName)) ∈ lw_all := lw_g (lw_at lw_m13 124 rfl) rfl
theorem q3186 : (Jvm.Cond.privateMethod ({ cls := "AlgolMillModel", name := "called", desc := "(IZ)I" } : Jvm.MethodName)) ∈ lw_tbl := lw_at lw_m13 125 rfl
theorem q3187 : (Jvm.Cond.instanceMethod ({ cls := "AlgolMillModel", name := "called", desc := "(IZ)I" } : Jvm.MethodName)) ∈ lw_all := lw_g (lw_at lw_m13 126 rfl) rfl
theorem q3188 : (Jvm.Cond.code ({ cls := "AlgolMillModel", name := "called", desc := "(IZ)I" } : Jvm.MethodName) prog_38_method_69_code (10 : Nat) (Option.some Jvm.ClassFile.FieldType.int)) ∈ lw_all := lw_g (lw_at lw_m13 127 rfl) rfl
theorem q3189 : (Jvm.Cond.methodLink "AlgolMillModel" (673 : Nat) ({ cls := "AlgolMillModel", name := "loose", desc := "(I)V" } : Jvm.MethodName)) ∈ lw_all := lw_g (lw_at lw_m13 128 rfl) rfl
theorem q3190 : (Jvm.Cond.privateMethod ({ cls := "AlgolMillModel", name := "loose", desc := "(I)V" } : Jvm.MethodName)) ∈ lw_tbl := lw_at lw_m13 129 rfl
theorem q3191 : (Jvm.Cond.instanceMethod ({ cls := "AlgolMillModel", name := "loose", desc := "(I)V" } : Jvm.MethodName)) ∈ lw_all := lw_g (lw_at lw_m13 130 rfl) rfl
theorem q3192 : (Jvm.Cond.code ({ cls := "AlgolMillModel", name := "loose", desc := "(I)V" } : Jvm.MethodName) prog_38_method_70_code (4 : Nat) (Option.none : Option Jvm.ClassFile.FieldType)) ∈ lw_all := lw_g (lw_at lw_m13 131 rfl) rfl
theorem q3193 : (Jvm.Cond.methodLink "AlgolMillModel" (679 : Nat) ({ cls := "AlgolMillModel", name := "names", desc := "(I)V" } : Jvm.MethodName)) ∈ lw_all := lw_g (lw_at lw_m13 132 rfl) rfl
theorem q3194 : (Jvm.Cond.privateMethod ({ cls := "AlgolMillModel", name := "names", desc := "(I)V" } : Jvm.MethodName)) ∈ lw_tbl := lw_at lw_m13 133 rfl
theorem q3195 : (Jvm.Cond.instanceMethod ({ cls := "AlgolMillModel", name := "names", desc := "(I)V" } : Jvm.MethodName)) ∈ lw_all := lw_g (lw_at lw_m13 134 rfl) rfl
theorem q3196 : (Jvm.Cond.code ({ cls := "AlgolMillModel", name := "names", desc := "(I)V" } : Jvm.MethodName) prog_38_method_71_code (3 : Nat) (Option.none : Option Jvm.ClassFile.FieldType)) ∈ lw_all := lw_g (lw_at lw_m13 135 rfl) rfl
theorem q3197 : (Jvm.Cond.methodLink "AlgolMillModel" (625 : Nat) ({ cls := "AlgolMillModel", name := "patch", desc := "(I)V" } : Jvm.MethodName)) ∈ lw_all := lw_g (lw_at lw_m13 136 rfl) rfl
theorem q3198 : (Jvm.Cond.privateMethod ({ cls := "AlgolMillModel", name := "patch", desc := "(I)V" } : Jvm.MethodName)) ∈ lw_tbl := lw_at lw_m13 137 rfl
theorem q3199 : (Jvm.Cond.instanceMethod ({ cls := "AlgolMillModel", name := "patch", desc := "(I)V" } : Jvm.MethodName)) ∈ lw_all := lw_g (lw_at lw_m13 138 rfl) rfl
theorem q3200 : (Jvm.Cond.code ({ cls := "AlgolMillModel", name := "patch", desc := "(I)V" } : Jvm.MethodName) prog_38_method_52_code (2 : Nat) (Option.none : Option Jvm.ClassFile.FieldType)) ∈ lw_all := lw_g (lw_at lw_m13 139 rfl) rfl
theorem q3201 : (Jvm.Cond.methodLink "AlgolMillModel" (676 : Nat) ({ cls := "AlgolMillModel", name := "actual", desc := "(III)V" } : Jvm.MethodName)) ∈ lw_all := lw_g (lw_at lw_m13 140 rfl) rfl
theorem q3202 : (Jvm.Cond.privateMethod ({ cls := "AlgolMillModel", name := "actual", desc := "(III)V" } : Jvm.MethodName)) ∈ lw_tbl := lw_at lw_m13 141 rfl
theorem q3203 : (Jvm.Cond.instanceMethod ({ cls := "AlgolMillModel", name := "actual", desc := "(III)V" } : Jvm.MethodName)) ∈ lw_all := lw_g (lw_at lw_m13 142 rfl) rfl
theorem q3204 : (Jvm.Cond.code ({ cls := "AlgolMillModel", name := "actual", desc := "(III)V" } : Jvm.MethodName) prog_38_method_72_code (7 : Nat) (Option.none : Option Jvm.ClassFile.FieldType)) ∈ lw_all := lw_g (lw_at lw_m13 143 rfl) rfl
theorem q3205 : (Jvm.Cond.methodLink "AlgolMillModel" (682 : Nat) ({ cls := "AlgolMillModel", name := "thunk", desc := "(II)I" } : Jvm.MethodName)) ∈ lw_all := lw_g (lw_at lw_m13 144 rfl) rfl
theorem q3206 : (Jvm.Cond.privateMethod ({ cls := "AlgolMillModel", name := "thunk", desc := "(II)I" } : Jvm.MethodName)) ∈ lw_tbl := lw_at lw_m13 145 rfl
theorem q3207 : (Jvm.Cond.instanceMethod ({ cls := "AlgolMillModel", name := "thunk", desc := "(II)I" } : Jvm.MethodName)) ∈ lw_all := lw_g (lw_at lw_m13 146 rfl) rfl
theorem q3208 : (Jvm.Cond.code ({ cls := "AlgolMillModel", name := "thunk", desc := "(II)I" } : Jvm.MethodName) prog_38_method_74_code (9 : Nat) (Option.some Jvm.ClassFile.FieldType.int)) ∈ lw_all := lw_g (lw_at lw_m13 147 rfl) rfl
theorem q3209 : (Jvm.Cond.methodLink "AlgolMillModel" (685 : Nat) ({ cls := "AlgolMillModel", name := "newThunk", desc := "(I)I" } : Jvm.MethodName)) ∈ lw_all := lw_g (lw_at lw_m13 148 rfl) rfl
theorem q3210 : (Jvm.Cond.privateMethod ({ cls := "AlgolMillModel", name := "newThunk", desc := "(I)I" } : Jvm.MethodName)) ∈ lw_tbl := lw_at lw_m13 149 rfl
theorem q3211 : (Jvm.Cond.instanceMethod ({ cls := "AlgolMillModel", name := "newThunk", desc := "(I)I" } : Jvm.MethodName)) ∈ lw_all := lw_g (lw_at lw_m13 150 rfl) rfl
theorem q3212 : (Jvm.Cond.code ({ cls := "AlgolMillModel", name := "newThunk", desc := "(I)I" } : Jvm.MethodName) prog_38_method_73_code (2 : Nat) (Option.some Jvm.ClassFile.FieldType.int)) ∈ lw_all := lw_g (lw_at lw_m13 151 rfl) rfl
theorem q3213 : (Jvm.Cond.methodLink "AlgolMillModel" (694 : Nat) ({ cls := "AlgolMillModel", name := "place", desc := "(IZ)I" } : Jvm.MethodName)) ∈ lw_all := lw_g (lw_at lw_m13 152 rfl) rfl
theorem q3214 : (Jvm.Cond.privateMethod ({ cls := "AlgolMillModel", name := "place", desc := "(IZ)I" } : Jvm.MethodName)) ∈ lw_tbl := lw_at lw_m13 153 rfl
theorem q3215 : (Jvm.Cond.instanceMethod ({ cls := "AlgolMillModel", name := "place", desc := "(IZ)I" } : Jvm.MethodName)) ∈ lw_all := lw_g (lw_at lw_m13 154 rfl) rfl
theorem q3216 : (Jvm.Cond.code ({ cls := "AlgolMillModel", name := "place", desc := "(IZ)I" } : Jvm.MethodName) prog_38_method_67_code (5 : Nat) (Option.some Jvm.ClassFile.FieldType.int)) ∈ lw_all := lw_g (lw_at lw_m13 155 rfl) rfl
theorem q3217 : (Jvm.Cond.methodLink "AlgolMillModel" (667 : Nat) ({ cls := "AlgolMillModel", name := "inProcedure", desc := "(I)Z" } : Jvm.MethodName)) ∈ lw_all := lw_g (lw_at lw_m13 156 rfl) rfl
theorem q3218 : (Jvm.Cond.privateMethod ({ cls := "AlgolMillModel", name := "inProcedure", desc := "(I)Z" } : Jvm.MethodName)) ∈ lw_tbl := lw_at lw_m13 157 rfl
theorem q3219 : (Jvm.Cond.instanceMethod ({ cls := "AlgolMillModel", name := "inProcedure", desc := "(I)Z" } : Jvm.MethodName)) ∈ lw_all := lw_g (lw_at lw_m13 158 rfl) rfl
theorem q3220 : (Jvm.Cond.code ({ cls := "AlgolMillModel", name := "inProcedure", desc := "(I)Z" } : Jvm.MethodName) prog_38_method_66_code (3 : Nat) (Option.some Jvm.ClassFile.FieldType.boolean)) ∈ lw_all := lw_g (lw_at lw_m13 159 rfl) rfl
theorem q3221 : (Jvm.Cond.methodLink "AlgolMillModel" (670 : Nat) ({ cls := "AlgolMillModel", name := "aimCode", desc := "(I)V" } : Jvm.MethodName)) ∈ lw_all := lw_g (lw_at lw_m13 160 rfl) rfl
theorem q3222 : (Jvm.Cond.privateMethod ({ cls := "AlgolMillModel", name := "aimCode", desc := "(I)V" } : Jvm.MethodName)) ∈ lw_tbl := lw_at lw_m13 161 rfl
theorem q3223 : (Jvm.Cond.instanceMethod ({ cls := "AlgolMillModel", name := "aimCode", desc := "(I)V" } : Jvm.MethodName)) ∈ lw_all := lw_g (lw_at lw_m13 162 rfl) rfl
theorem q3224 : (Jvm.Cond.code ({ cls := "AlgolMillModel", name := "aimCode", desc := "(I)V" } : Jvm.MethodName) prog_38_method_68_code (5 : Nat) (Option.none : Option Jvm.ClassFile.FieldType)) ∈ lw_all := lw_g (lw_at lw_m13 163 rfl) rfl
theorem q3225 : (Jvm.Cond.methodLink "AlgolMillModel" (688 : Nat) ({ cls := "AlgolMillModel", name := "byName", desc := "(III)V" } : Jvm.MethodName)) ∈ lw_all := lw_g (lw_at lw_m13 164 rfl) rfl
theorem q3226 : (Jvm.Cond.privateMethod ({ cls := "AlgolMillModel", name := "byName", desc := "(III)V" } : Jvm.MethodName)) ∈ lw_tbl := lw_at lw_m13 165 rfl
theorem q3227 : (Jvm.Cond.instanceMethod ({ cls := "AlgolMillModel", name := "byName", desc := "(III)V" } : Jvm.MethodName)) ∈ lw_all := lw_g (lw_at lw_m13 166 rfl) rfl
theorem q3228 : (Jvm.Cond.code ({ cls := "AlgolMillModel", name := "byName", desc := "(III)V" } : Jvm.MethodName) prog_38_method_75_code (8 : Nat) (Option.none : Option Jvm.ClassFile.FieldType)) ∈ lw_all := lw_g (lw_at lw_m13 167 rfl) rfl
theorem q3229 : (Jvm.Cond.methodLink "AlgolMillModel" (628 : Nat) ({ cls := "AlgolMillModel", name := "two", desc := "(I)I" } : Jvm.MethodName)) ∈ lw_all := lw_g (lw_at lw_m13 168 rfl) rfl
theorem q3230 : (Jvm.Cond.privateMethod ({ cls := "AlgolMillModel", name := "two", desc := "(I)I" } : Jvm.MethodName)) ∈ lw_tbl := lw_at lw_m13 169 rfl
theorem q3231 : (Jvm.Cond.instanceMethod ({ cls := "AlgolMillModel", name := "two", desc := "(I)I" } : Jvm.MethodName)) ∈ lw_all := lw_g (lw_at lw_m13 170 rfl) rfl
theorem q3232 : (Jvm.Cond.code ({ cls := "AlgolMillModel", name := "two", desc := "(I)I" } : Jvm.MethodName) prog_38_method_60_code (6 : Nat) (Option.some Jvm.ClassFile.FieldType.int)) ∈ lw_all := lw_g (lw_at lw_m13 171 rfl) rfl
theorem q3233 : (Jvm.Cond.methodLink "AlgolMillModel" (634 : Nat) ({ cls := "AlgolMillModel", name := "joined", desc := "(III)I" } : Jvm.MethodName)) ∈ lw_all := lw_g (lw_at lw_m13 172 rfl) rfl
theorem q3234 : (Jvm.Cond.privateMethod ({ cls := "AlgolMillModel", name := "joined", desc := "(III)I" } : Jvm.MethodName)) ∈ lw_tbl := lw_at lw_m13 173 rfl
theorem q3235 : (Jvm.Cond.instanceMethod ({ cls := "AlgolMillModel", name := "joined", desc := "(III)I" } : Jvm.MethodName)) ∈ lw_all := lw_g (lw_at lw_m13 174 rfl) rfl
theorem q3236 : (Jvm.Cond.code ({ cls := "AlgolMillModel", name := "joined", desc := "(III)I" } : Jvm.MethodName) prog_38_method_61_code (7 : Nat) (Option.some Jvm.ClassFile.FieldType.int)) ∈ lw_all := lw_g (lw_at lw_m13 175 rfl) rfl
theorem q3237 : (Jvm.Cond.methodLink "AlgolMillModel" (724 : Nat) ({ cls := "AlgolMillModel", name := "switchCode", desc := "(I)V" } : Jvm.MethodName)) ∈ lw_all := lw_g (lw_at lw_m13 176 rfl) rfl
theorem q3238 : (Jvm.Cond.privateMethod ({ cls := "AlgolMillModel", name := "switchCode", desc := "(I)V" } : Jvm.MethodName)) ∈ lw_tbl := lw_at lw_m13 177 rfl
theorem q3239 : (Jvm.Cond.instanceMethod ({ cls := "AlgolMillModel", name := "switchCode", desc := "(I)V" } : Jvm.MethodName)) ∈ lw_all := lw_g (lw_at lw_m13 178 rfl) rfl
theorem q3240 : (Jvm.Cond.code ({ cls := "AlgolMillModel", name := "switchCode", desc := "(I)V" } : Jvm.MethodName) prog_38_method_84_code (7 : Nat) (Option.none : Option Jvm.ClassFile.FieldType)) ∈ lw_all := lw_g (lw_at lw_m13 179 rfl) rfl
theorem q3241 : (Jvm.Cond.methodLink "AlgolMillModel" (727 : Nat) ({ cls := "AlgolMillModel", name := "row", desc := "(I)V" } : Jvm.MethodName)) ∈ lw_all := lw_g (lw_at lw_m13 180 rfl) rfl
theorem q3242 : (Jvm.Cond.privateMethod ({ cls := "AlgolMillModel", name := "row", desc := "(I)V" } : Jvm.MethodName)) ∈ lw_tbl := lw_at lw_m13 181 rfl
theorem q3243 : (Jvm.Cond.instanceMethod ({ cls := "AlgolMillModel", name := "row", desc := "(I)V" } : Jvm.MethodName)) ∈ lw_all := lw_g (lw_at lw_m13 182 rfl) rfl
theorem q3244 : (Jvm.Cond.code ({ cls := "AlgolMillModel", name := "row", desc := "(I)V" } : Jvm.MethodName) prog_38_method_76_code (3 : Nat) (Option.none : Option Jvm.ClassFile.FieldType)) ∈ lw_all := lw_g (lw_at lw_m13 183 rfl) rfl
theorem q3245 : (Jvm.Cond.methodLink "AlgolMillModel" (697 : Nat) ({ cls := "AlgolMillModel", name := "statementCode", desc := "(I)V" } : Jvm.MethodName)) ∈ lw_all := lw_g (lw_at lw_m13 184 rfl) rfl
theorem q3246 : (Jvm.Cond.privateMethod ({ cls := "AlgolMillModel", name := "statementCode", desc := "(I)V" } : Jvm.MethodName)) ∈ lw_tbl := lw_at lw_m13 185 rfl
theorem q3247 : (Jvm.Cond.instanceMethod ({ cls := "AlgolMillModel", name := "statementCode", desc := "(I)V" } : Jvm.MethodName)) ∈ lw_all := lw_g (lw_at lw_m13 186 rfl) rfl
theorem q3248 : (Jvm.Cond.code ({ cls := "AlgolMillModel", name := "statementCode", desc := "(I)V" } : Jvm.MethodName) prog_38_method_77_code (7 : Nat) (Option.none : Option Jvm.ClassFile.FieldType)) ∈ lw_all := lw_g (lw_at lw_m13 187 rfl) rfl
theorem q3249 : (Jvm.Cond.methodLink "AlgolMillModel" (700 : Nat) ({ cls := "AlgolMillModel", name := "forCode", desc := "(I)V" } : Jvm.MethodName)) ∈ lw_all := lw_g (lw_at lw_m13 188 rfl) rfl
theorem q3250 : (Jvm.Cond.privateMethod ({ cls := "AlgolMillModel", name := "forCode", desc := "(I)V" } : Jvm.MethodName)) ∈ lw_tbl := lw_at lw_m13 189 rfl
theorem q3251 : (Jvm.Cond.instanceMethod ({ cls := "AlgolMillModel", name := "forCode", desc := "(I)V" } : Jvm.MethodName)) ∈ lw_all := lw_g (lw_at lw_m13 190 rfl) rfl
theorem q3252 : (Jvm.Cond.code ({ cls := "AlgolMillModel", name := "forCode", desc := "(I)V" } : Jvm.MethodName) prog_38_method_78_code (15 : Nat) (Option.none : Option Jvm.ClassFile.FieldType)) ∈ lw_all := lw_g (lw_at lw_m13 191 rfl) rfl
theorem q3253 : (Jvm.Cond.methodLink "AlgolMillModel" (706 : Nat) ({ cls := "AlgolMillModel", name := "forSlot", desc := "(I)I" } : Jvm.MethodName)) ∈ lw_all := lw_g (lw_at lw_m13 192 rfl) rfl
theorem q3254 : (Jvm.Cond.privateMethod ({ cls := "AlgolMillModel", name := "forSlot", desc := "(I)I" } : Jvm.MethodName)) ∈ lw_tbl := lw_at lw_m13 193 rfl
theorem q3255 : (Jvm.Cond.instanceMethod ({ cls := "AlgolMillModel", name := "forSlot", desc := "(I)I" } : Jvm.MethodName)) ∈ lw_all := lw_g (lw_at lw_m13 194 rfl) rfl
theorem q3256 : (Jvm.Cond.code ({ cls := "AlgolMillModel", name := "forSlot", desc := "(I)I" } : Jvm.MethodName) prog_38_method_79_code (2 : Nat) (Option.some Jvm.ClassFile.FieldType.int)) ∈ lw_all := lw_g (lw_at lw_m13 195 rfl) rfl
theorem q3257 : (Jvm.Cond.methodLink "AlgolMillModel" (715 : Nat) ({ cls := "AlgolMillModel", name := "setTo", desc := "(II)V" } : Jvm.MethodName)) ∈ lw_all := lw_g (lw_at lw_m13 196 rfl) rfl
theorem q3258 : (Jvm.Cond.privateMethod ({ cls := "AlgolMillModel", name := "setTo", desc := "(II)V" } : Jvm.MethodName)) ∈ lw_tbl := lw_at lw_m13 197 rfl
theorem q3259 : (Jvm.Cond.instanceMethod ({ cls := "AlgolMillModel", name := "setTo", desc := "(II)V" } : Jvm.MethodName)) ∈ lw_all := lw_g (lw_at lw_m13 198 rfl) rfl
theorem q3260 : (Jvm.Cond.code ({ cls := "AlgolMillModel", name := "setTo", desc := "(II)V" } : Jvm.MethodName) prog_38_method_82_code (5 : Nat) (Option.none : Option Jvm.ClassFile.FieldType)) ∈ lw_all := lw_g (lw_at lw_m13 199 rfl) rfl
theorem q3261 : (Jvm.Cond.methodLink "AlgolMillModel" (718 : Nat) ({ cls := "AlgolMillModel", name := "target", desc := "(I)I" } : Jvm.MethodName)) ∈ lw_all := lw_g (lw_at lw_m13 200 rfl) rfl
theorem q3262 : (Jvm.Cond.privateMethod ({ cls := "AlgolMillModel", name := "target", desc := "(I)I" } : Jvm.MethodName)) ∈ lw_tbl := lw_at lw_m13 201 rfl
theorem q3263 : (Jvm.Cond.instanceMethod ({ cls := "AlgolMillModel", name := "target", desc := "(I)I" } : Jvm.MethodName)) ∈ lw_all := lw_g (lw_at lw_m13 202 rfl) rfl
theorem q3264 : (Jvm.Cond.code ({ cls := "AlgolMillModel", name := "target", desc := "(I)I" } : Jvm.MethodName) prog_38_method_80_code (3 : Nat) (Option.some Jvm.ClassFile.FieldType.int)) ∈ lw_all := lw_g (lw_at lw_m13 203 rfl) rfl
theorem q3265 : (Jvm.Cond.methodLink "AlgolMillModel" (721 : Nat) ({ cls := "AlgolMillModel", name := "read", desc := "(I)I" } : Jvm.MethodName)) ∈ lw_all := lw_g (lw_at lw_m13 204 rfl) rfl
theorem q3266 : (Jvm.Cond.privateMethod ({ cls := "AlgolMillModel", name := "read", desc := "(I)I" } : Jvm.MethodName)) ∈ lw_tbl := lw_at lw_m13 205 rfl
theorem q3267 : (Jvm.Cond.instanceMethod ({ cls := "AlgolMillModel", name := "read", desc := "(I)I" } : Jvm.MethodName)) ∈ lw_all := lw_g (lw_at lw_m13 206 rfl) rfl
theorem q3268 : (Jvm.Cond.code ({ cls := "AlgolMillModel", name := "read", desc := "(I)I" } : Jvm.MethodName) prog_38_method_81_code (4 : Nat) (Option.some Jvm.ClassFile.FieldType.int)) ∈ lw_all := lw_g (lw_at lw_m13 207 rfl) rfl
theorem q3269 : (Jvm.Cond.methodLink "AlgolMillModel" (748 : Nat) ({ cls := "AlgolMillModel", name := "keep", desc := "()V" } : Jvm.MethodName)) ∈ lw_all := lw_g (lw_at lw_m13 208 rfl) rfl
theorem q3270 : (Jvm.Cond.privateMethod ({ cls := "AlgolMillModel", name := "keep", desc := "()V" } : Jvm.MethodName)) ∈ lw_tbl := lw_at lw_m13 209 rfl
theorem q3271 : (Jvm.Cond.instanceMethod ({ cls := "AlgolMillModel", name := "keep", desc := "()V" } : Jvm.MethodName)) ∈ lw_all := lw_g (lw_at lw_m13 210 rfl) rfl
theorem q3272 : (Jvm.Cond.code ({ cls := "AlgolMillModel", name := "keep", desc := "()V" } : Jvm.MethodName) prog_38_method_90_code (4 : Nat) (Option.none : Option Jvm.ClassFile.FieldType)) ∈ lw_all := lw_g (lw_at lw_m13 211 rfl) rfl
theorem q3273 : (Jvm.Cond.methodLink "AlgolMillModel" (755 : Nat) ({ cls := "AlgolMillModel", name := "copy", desc := "([I[II)V" } : Jvm.MethodName)) ∈ lw_all := lw_g (lw_at lw_m13 212 rfl) rfl
theorem q3274 : (Jvm.Cond.privateMethod ({ cls := "AlgolMillModel", name := "copy", desc := "([I[II)V" } : Jvm.MethodName)) ∈ lw_tbl := lw_at lw_m13 213 rfl
theorem q3275 : (Jvm.Cond.instanceMethod ({ cls := "AlgolMillModel", name := "copy", desc := "([I[II)V" } : Jvm.MethodName)) ∈ lw_all := lw_g (lw_at lw_m13 214 rfl) rfl
theorem q3276 : (Jvm.Cond.code ({ cls := "AlgolMillModel", name := "copy", desc := "([I[II)V" } : Jvm.MethodName) prog_38_method_89_code (5 : Nat) (Option.none : Option Jvm.ClassFile.FieldType)) ∈ lw_all := lw_g (lw_at lw_m13 215 rfl) rfl
theorem q3278 : (Jvm.Cond.instanceMethod ({ cls := "AlgolMillModel", name := "run", desc := "(I)I" } : Jvm.MethodName)) ∈ lw_all := lw_g (lw_at lw_m13 217 rfl) rfl
theorem q3279 : (Jvm.Cond.selects "AlgolMillModel" ({ cls := "AlgolMillModel", name := "run", desc := "(I)I" } : Jvm.MethodName) ({ cls := "AlgolMillModel", name := "run", desc := "(I)I" } : Jvm.MethodName)) ∈ lw_all := lw_g (lw_at lw_m13 218 rfl) rfl
theorem q3280 : (Jvm.Cond.code ({ cls := "AlgolMillModel", name := "run", desc := "(I)I" } : Jvm.MethodName) prog_38_method_117_code (3 : Nat) (Option.some Jvm.ClassFile.FieldType.int)) ∈ lw_all := lw_g (lw_at lw_m13 219 rfl) rfl
theorem q3281 : (Jvm.Cond.methodLink "AlgolMillModel" (892 : Nat) ({ cls := "AlgolMillModel", name := "step", desc := "()V" } : Jvm.MethodName)) ∈ lw_all := lw_g (lw_at lw_m13 220 rfl) rfl
theorem q3282 : (Jvm.Cond.privateMethod ({ cls := "AlgolMillModel", name := "step", desc := "()V" } : Jvm.MethodName)) ∈ lw_tbl := lw_at lw_m13 221 rfl
theorem q3283 : (Jvm.Cond.instanceMethod ({ cls := "AlgolMillModel", name := "step", desc := "()V" } : Jvm.MethodName)) ∈ lw_all := lw_g (lw_at lw_m13 222 rfl) rfl
theorem q3284 : (Jvm.Cond.code ({ cls := "AlgolMillModel", name := "step", desc := "()V" } : Jvm.MethodName) prog_38_method_115_code (8 : Nat) (Option.none : Option Jvm.ClassFile.FieldType)) ∈ lw_all := lw_g (lw_at lw_m13 223 rfl) rfl
theorem q3285 : (Jvm.Cond.methodLink "AlgolMillModel" (817 : Nat) ({ cls := "AlgolMillModel", name := "push", desc := "(J)V" } : Jvm.MethodName)) ∈ lw_all := lw_g (lw_at lw_m13 224 rfl) rfl
theorem q3286 : (Jvm.Cond.privateMethod ({ cls := "AlgolMillModel", name := "push", desc := "(J)V" } : Jvm.MethodName)) ∈ lw_tbl := lw_at lw_m13 225 rfl
theorem q3287 : (Jvm.Cond.instanceMethod ({ cls := "AlgolMillModel", name := "push", desc := "(J)V" } : Jvm.MethodName)) ∈ lw_all := lw_g (lw_at lw_m13 226 rfl) rfl
theorem q3288 : (Jvm.Cond.code ({ cls := "AlgolMillModel", name := "push", desc := "(J)V" } : Jvm.MethodName) prog_38_method_97_code (3 : Nat) (Option.none : Option Jvm.ClassFile.FieldType)) ∈ lw_all := lw_g (lw_at lw_m13 227 rfl) rfl
theorem q3289 : (Jvm.Cond.methodLink "AlgolMillModel" (850 : Nat) ({ cls := "AlgolMillModel", name := "address", desc := "(II)I" } : Jvm.MethodName)) ∈ lw_all := lw_g (lw_at lw_m13 228 rfl) rfl
theorem q3290 : (Jvm.Cond.privateMethod ({ cls := "AlgolMillModel", name := "address", desc := "(II)I" } : Jvm.MethodName)) ∈ lw_tbl := lw_at lw_m13 229 rfl
theorem q3291 : (Jvm.Cond.instanceMethod ({ cls := "AlgolMillModel", name := "address", desc := "(II)I" } : Jvm.MethodName)) ∈ lw_all := lw_g (lw_at lw_m13 230 rfl) rfl
theorem q3292 : (Jvm.Cond.code ({ cls := "AlgolMillModel", name := "address", desc := "(II)I" } : Jvm.MethodName) prog_38_method_94_code (3 : Nat) (Option.some Jvm.ClassFile.FieldType.int)) ∈ lw_all := lw_g (lw_at lw_m13 231 rfl) rfl
theorem q3293 : (Jvm.Cond.methodLink "AlgolMillModel" (774 : Nat) ({ cls := "AlgolMillModel", name := "envUp", desc := "(I)I" } : Jvm.MethodName)) ∈ lw_all := lw_g (lw_at lw_m13 232 rfl) rfl
theorem q3294 : (Jvm.Cond.privateMethod ({ cls := "AlgolMillModel", name := "envUp", desc := "(I)I" } : Jvm.MethodName)) ∈ lw_tbl := lw_at lw_m13 233 rfl
theorem q3295 : (Jvm.Cond.instanceMethod ({ cls := "AlgolMillModel", name := "envUp", desc := "(I)I" } : Jvm.MethodName)) ∈ lw_all := lw_g (lw_at lw_m13 234 rfl) rfl
theorem q3296 : (Jvm.Cond.code ({ cls := "AlgolMillModel", name := "envUp", desc := "(I)I" } : Jvm.MethodName) prog_38_method_93_code (4 : Nat) (Option.some Jvm.ClassFile.FieldType.int)) ∈ lw_all := lw_g (lw_at lw_m13 235 rfl) rfl
theorem q3297 : (Jvm.Cond.methodLink "AlgolMillModel" (853 : Nat) ({ cls := "AlgolMillModel", name := "use", desc := "(II)V" } : Jvm.MethodName)) ∈ lw_all := lw_g (lw_at lw_m13 236 rfl) rfl
theorem q3298 : (Jvm.Cond.privateMethod ({ cls := "AlgolMillModel", name := "use", desc := "(II)V" } : Jvm.MethodName)) ∈ lw_tbl := lw_at lw_m13 237 rfl
theorem q3299 : (Jvm.Cond.instanceMethod ({ cls := "AlgolMillModel", name := "use", desc := "(II)V" } : Jvm.MethodName)) ∈ lw_all := lw_g (lw_at lw_m13 238 rfl) rfl
theorem q3300 : (Jvm.Cond.code ({ cls := "AlgolMillModel", name := "use", desc := "(II)V" } : Jvm.MethodName) prog_38_method_102_code (4 : Nat) (Option.none : Option Jvm.ClassFile.FieldType)) ∈ lw_all := lw_g (lw_at lw_m13 239 rfl) rfl
theorem q3301 : (Jvm.Cond.methodLink "AlgolMillModel" (795 : Nat) ({ cls := "AlgolMillModel", name := "pay", desc := "()Z" } : Jvm.MethodName)) ∈ lw_all := lw_g (lw_at lw_m14 0 rfl) rfl
theorem q3302 : (Jvm.Cond.privateMethod ({ cls := "AlgolMillModel", name := "pay", desc := "()Z" } : Jvm.MethodName)) ∈ lw_tbl := lw_at lw_m14 1 rfl
theorem q3303 : (Jvm.Cond.instanceMethod ({ cls := "AlgolMillModel", name := "pay", desc := "()Z" } : Jvm.MethodName)) ∈ lw_all := lw_g (lw_at lw_m14 2 rfl) rfl
theorem q3304 : (Jvm.Cond.code ({ cls := "AlgolMillModel", name := "pay", desc := "()Z" } : Jvm.MethodName) prog_38_method_92_code (1 : Nat) (Option.some Jvm.ClassFile.FieldType.boolean)) ∈ lw_all := lw_g (lw_at lw_m14 3 rfl) rfl
theorem q3305 : (Jvm.Cond.methodLink "AlgolMillModel" (798 : Nat) ({ cls := "AlgolMillModel", name := "deeper", desc := "()Z" } : Jvm.MethodName)) ∈ lw_all := lw_g (lw_at lw_m14 4 rfl) rfl
theorem q3306 : (Jvm.Cond.privateMethod ({ cls := "AlgolMillModel", name := "deeper", desc := "()Z" } : Jvm.MethodName)) ∈ lw_tbl := lw_at lw_m14 5 rfl
theorem q3307 : (Jvm.Cond.instanceMethod ({ cls := "AlgolMillModel", name := "deeper", desc := "()Z" } : Jvm.MethodName)) ∈ lw_all := lw_g (lw_at lw_m14 6 rfl) rfl
theorem q3308 : (Jvm.Cond.code ({ cls := "AlgolMillModel", name := "deeper", desc := "()Z" } : Jvm.MethodName) prog_38_method_101_code (1 : Nat) (Option.some Jvm.ClassFile.FieldType.boolean)) ∈ lw_all := lw_g (lw_at lw_m14 7 rfl) rfl
theorem q3309 : (Jvm.Cond.methodLink "AlgolMillModel" (792 : Nat) ({ cls := "AlgolMillModel", name := "fail", desc := "(I)V" } : Jvm.MethodName)) ∈ lw_all := lw_g (lw_at lw_m14 8 rfl) rfl
theorem q3310 : (Jvm.Cond.privateMethod ({ cls := "AlgolMillModel", name := "fail", desc := "(I)V" } : Jvm.MethodName)) ∈ lw_tbl := lw_at lw_m14 9 rfl
theorem q3311 : (Jvm.Cond.instanceMethod ({ cls := "AlgolMillModel", name := "fail", desc := "(I)V" } : Jvm.MethodName)) ∈ lw_all := lw_g (lw_at lw_m14 10 rfl) rfl
theorem q3312 : (Jvm.Cond.code ({ cls := "AlgolMillModel", name := "fail", desc := "(I)V" } : Jvm.MethodName) prog_38_method_91_code (2 : Nat) (Option.none : Option Jvm.ClassFile.FieldType)) ∈ lw_all := lw_g (lw_at lw_m14 11 rfl) rfl
theorem q3313 : (Jvm.Cond.methodLink "AlgolMillModel" (804 : Nat) ({ cls := "java/lang/Math", name := "max", desc := "(II)I" } : Jvm.MethodName)) ∈ lw_all := lw_g (lw_at lw_m14 12 rfl) rfl
theorem q3314 : (Jvm.Cond.methodLink "AlgolMillModel" (807 : Nat) ({ cls := "AlgolMillModel", name := "control", desc := "(III)V" } : Jvm.MethodName)) ∈ lw_all := lw_g (lw_at lw_m14 13 rfl) rfl
theorem q3315 : (Jvm.Cond.privateMethod ({ cls := "AlgolMillModel", name := "control", desc := "(III)V" } : Jvm.MethodName)) ∈ lw_tbl := lw_at lw_m14 14 rfl
theorem q3316 : (Jvm.Cond.instanceMethod ({ cls := "AlgolMillModel", name := "control", desc := "(III)V" } : Jvm.MethodName)) ∈ lw_all := lw_g (lw_at lw_m14 15 rfl) rfl
theorem q3317 : (Jvm.Cond.code ({ cls := "AlgolMillModel", name := "control", desc := "(III)V" } : Jvm.MethodName) prog_38_method_100_code (4 : Nat) (Option.none : Option Jvm.ClassFile.FieldType)) ∈ lw_all := lw_g (lw_at lw_m14 16 rfl) rfl
theorem q3318 : (Jvm.Cond.methodLink "AlgolMillModel" (856 : Nat) ({ cls := "AlgolMillModel", name := "element", desc := "(II)V" } : Jvm.MethodName)) ∈ lw_all := lw_g (lw_at lw_m14 17 rfl) rfl
theorem q3319 : (Jvm.Cond.privateMethod ({ cls := "AlgolMillModel", name := "element", desc := "(II)V" } : Jvm.MethodName)) ∈ lw_tbl := lw_at lw_m14 18 rfl
theorem q3320 : (Jvm.Cond.instanceMethod ({ cls := "AlgolMillModel", name := "element", desc := "(II)V" } : Jvm.MethodName)) ∈ lw_all := lw_g (lw_at lw_m14 19 rfl) rfl
theorem q3321 : (Jvm.Cond.code ({ cls := "AlgolMillModel", name := "element", desc := "(II)V" } : Jvm.MethodName) prog_38_method_108_code (14 : Nat) (Option.none : Option Jvm.ClassFile.FieldType)) ∈ lw_all := lw_g (lw_at lw_m14 20 rfl) rfl
theorem q3322 : (Jvm.Cond.constantLong "AlgolMillModel" (777 : Nat) (1048576 : Int64)) ∈ lw_all := lw_g (lw_at lw_m14 21 rfl) rfl
theorem q3323 : (Jvm.Cond.methodLink "AlgolMillModel" (810 : Nat) ({ cls := "AlgolMillModel", name := "pop", desc := "()J" } : Jvm.MethodName)) ∈ lw_all := lw_g (lw_at lw_m14 22 rfl) rfl
theorem q3324 : (Jvm.Cond.privateMethod ({ cls := "AlgolMillModel", name := "pop", desc := "()J" } : Jvm.MethodName)) ∈ lw_tbl := lw_at lw_m14 23 rfl
theorem q3325 : (Jvm.Cond.instanceMethod ({ cls := "AlgolMillModel", name := "pop", desc := "()J" } : Jvm.MethodName)) ∈ lw_all := lw_g (lw_at lw_m14 24 rfl) rfl
theorem q3326 : (Jvm.Cond.code ({ cls := "AlgolMillModel", name := "pop", desc := "()J" } : Jvm.MethodName) prog_38_method_98_code (1 : Nat) (Option.some Jvm.ClassFile.FieldType.long)) ∈ lw_all := lw_g (lw_at lw_m14 25 rfl) rfl
theorem q3327 : (Jvm.Cond.methodLink "AlgolMillModel" (814 : Nat) ({ cls := "AlgolMillModel", name := "read", desc := "(J)J" } : Jvm.MethodName)) ∈ lw_all := lw_g (lw_at lw_m14 26 rfl) rfl
theorem q3328 : (Jvm.Cond.privateMethod ({ cls := "AlgolMillModel", name := "read", desc := "(J)J" } : Jvm.MethodName)) ∈ lw_tbl := lw_at lw_m14 27 rfl
theorem q3329 : (Jvm.Cond.instanceMethod ({ cls := "AlgolMillModel", name := "read", desc := "(J)J" } : Jvm.MethodName)) ∈ lw_all := lw_g (lw_at lw_m14 28 rfl) rfl
theorem q3330 : (Jvm.Cond.code ({ cls := "AlgolMillModel", name := "read", desc := "(J)J" } : Jvm.MethodName) prog_38_method_95_code (3 : Nat) (Option.some Jvm.ClassFile.FieldType.long)) ∈ lw_all := lw_g (lw_at lw_m14 29 rfl) rfl
theorem q3331 : (Jvm.Cond.constant "AlgolMillModel" (779 : Nat) (1048576 : Int32)) ∈ lw_all := lw_g (lw_at lw_m14 30 rfl) rfl
theorem q3332 : (Jvm.Cond.methodLink "AlgolMillModel" (858 : Nat) ({ cls := "AlgolMillModel", name := "write", desc := "(JJ)V" } : Jvm.MethodName)) ∈ lw_all := lw_g (lw_at lw_m14 31 rfl) rfl
theorem q3333 : (Jvm.Cond.privateMethod ({ cls := "AlgolMillModel", name := "write", desc := "(JJ)V" } : Jvm.MethodName)) ∈ lw_tbl := lw_at lw_m14 32 rfl
theorem q3334 : (Jvm.Cond.instanceMethod ({ cls := "AlgolMillModel", name := "write", desc := "(JJ)V" } : Jvm.MethodName)) ∈ lw_all := lw_g (lw_at lw_m14 33 rfl) rfl
theorem q3335 : (Jvm.Cond.code ({ cls := "AlgolMillModel", name := "write", desc := "(JJ)V" } : Jvm.MethodName) prog_38_method_96_code (5 : Nat) (Option.none : Option Jvm.ClassFile.FieldType)) ∈ lw_all := lw_g (lw_at lw_m14 34 rfl) rfl
theorem q3336 : (Jvm.Cond.methodLink "AlgolMillModel" (861 : Nat) ({ cls := "AlgolMillModel", name := "reckon", desc := "(I)V" } : Jvm.MethodName)) ∈ lw_all := lw_g (lw_at lw_m14 35 rfl) rfl
theorem q3337 : (Jvm.Cond.privateMethod ({ cls := "AlgolMillModel", name := "reckon", desc := "(I)V" } : Jvm.MethodName)) ∈ lw_tbl := lw_at lw_m14 36 rfl
theorem q3338 : (Jvm.Cond.instanceMethod ({ cls := "AlgolMillModel", name := "reckon", desc := "(I)V" } : Jvm.MethodName)) ∈ lw_all := lw_g (lw_at lw_m14 37 rfl) rfl
theorem q3339 : (Jvm.Cond.code ({ cls := "AlgolMillModel", name := "reckon", desc := "(I)V" } : Jvm.MethodName) prog_38_method_110_code (7 : Nat) (Option.none : Option Jvm.ClassFile.FieldType)) ∈ lw_all := lw_g (lw_at lw_m14 38 rfl) rfl
theorem q3340 : (Jvm.Cond.methodLink "AlgolMillModel" (840 : Nat) ({ cls := "AlgolMillModel", name := "wrap", desc := "(J)J" } : Jvm.MethodName)) ∈ lw_all := lw_g (lw_at lw_m14 39 rfl) rfl
theorem q3341 : (Jvm.Cond.static ({ cls := "AlgolMillModel", name := "wrap", desc := "(J)J" } : Jvm.MethodName)) ∈ lw_all := lw_g (lw_at lw_m14 40 rfl) rfl
theorem q3342 : (Jvm.Cond.code ({ cls := "AlgolMillModel", name := "wrap", desc := "(J)J" } : Jvm.MethodName) prog_38_method_99_code (2 : Nat) (Option.some Jvm.ClassFile.FieldType.long)) ∈ lw_all := lw_g (lw_at lw_m14 41 rfl) rfl
theorem q3343 : (Jvm.Cond.methodLink "AlgolMillModel" (843 : Nat) ({ cls := "AlgolMillModel", name := "power", desc := "(JJ)V" } : Jvm.MethodName)) ∈ lw_all := lw_g (lw_at lw_m14 42 rfl) rfl
theorem q3344 : (Jvm.Cond.privateMethod ({ cls := "AlgolMillModel", name := "power", desc := "(JJ)V" } : Jvm.MethodName)) ∈ lw_tbl := lw_at lw_m14 43 rfl
theorem q3345 : (Jvm.Cond.instanceMethod ({ cls := "AlgolMillModel", name := "power", desc := "(JJ)V" } : Jvm.MethodName)) ∈ lw_all := lw_g (lw_at lw_m14 44 rfl) rfl
theorem q3346 : (Jvm.Cond.code ({ cls := "AlgolMillModel", name := "power", desc := "(JJ)V" } : Jvm.MethodName) prog_38_method_111_code (11 : Nat) (Option.none : Option Jvm.ClassFile.FieldType)) ∈ lw_all := lw_g (lw_at lw_m14 45 rfl) rfl
theorem q3347 : (Jvm.Cond.methodLink "AlgolMillModel" (864 : Nat) ({ cls := "AlgolMillModel", name := "other", desc := "(IIII)V" } : Jvm.MethodName)) ∈ lw_all := lw_g (lw_at lw_m14 46 rfl) rfl
theorem q3348 : (Jvm.Cond.privateMethod ({ cls := "AlgolMillModel", name := "other", desc := "(IIII)V" } : Jvm.MethodName)) ∈ lw_tbl := lw_at lw_m14 47 rfl
theorem q3349 : (Jvm.Cond.instanceMethod ({ cls := "AlgolMillModel", name := "other", desc := "(IIII)V" } : Jvm.MethodName)) ∈ lw_all := lw_g (lw_at lw_m14 48 rfl) rfl
theorem q3350 : (Jvm.Cond.code ({ cls := "AlgolMillModel", name := "other", desc := "(IIII)V" } : Jvm.MethodName) prog_38_method_116_code (11 : Nat) (Option.none : Option Jvm.ClassFile.FieldType)) ∈ lw_all := lw_g (lw_at lw_m14 49 rfl) rfl
theorem q3351 : (Jvm.Cond.methodLink "AlgolMillModel" (871 : Nat) ({ cls := "AlgolMillModel", name := "call", desc := "(II)V" } : Jvm.MethodName)) ∈ lw_all := lw_g (lw_at lw_m14 50 rfl) rfl
theorem q3352 : (Jvm.Cond.privateMethod ({ cls := "AlgolMillModel", name := "call", desc := "(II)V" } : Jvm.MethodName)) ∈ lw_tbl := lw_at lw_m14 51 rfl
theorem q3353 : (Jvm.Cond.instanceMethod ({ cls := "AlgolMillModel", name := "call", desc := "(II)V" } : Jvm.MethodName)) ∈ lw_all := lw_g (lw_at lw_m14 52 rfl) rfl
theorem q3354 : (Jvm.Cond.code ({ cls := "AlgolMillModel", name := "call", desc := "(II)V" } : Jvm.MethodName) prog_38_method_105_code (13 : Nat) (Option.none : Option Jvm.ClassFile.FieldType)) ∈ lw_all := lw_g (lw_at lw_m14 53 rfl) rfl
theorem q3355 : (Jvm.Cond.methodLink "AlgolMillModel" (830 : Nat) ({ cls := "AlgolMillModel", name := "enter", desc := "(III)V" } : Jvm.MethodName)) ∈ lw_all := lw_g (lw_at lw_m14 54 rfl) rfl
theorem q3356 : (Jvm.Cond.privateMethod ({ cls := "AlgolMillModel", name := "enter", desc := "(III)V" } : Jvm.MethodName)) ∈ lw_tbl := lw_at lw_m14 55 rfl
theorem q3357 : (Jvm.Cond.instanceMethod ({ cls := "AlgolMillModel", name := "enter", desc := "(III)V" } : Jvm.MethodName)) ∈ lw_all := lw_g (lw_at lw_m14 56 rfl) rfl
theorem q3358 : (Jvm.Cond.code ({ cls := "AlgolMillModel", name := "enter", desc := "(III)V" } : Jvm.MethodName) prog_38_method_104_code (6 : Nat) (Option.none : Option Jvm.ClassFile.FieldType)) ∈ lw_all := lw_g (lw_at lw_m14 57 rfl) rfl
theorem q3359 : (Jvm.Cond.methodLink "AlgolMillModel" (873 : Nat) ({ cls := "AlgolMillModel", name := "callFormal", desc := "(II)V" } : Jvm.MethodName)) ∈ lw_all := lw_g (lw_at lw_m14 58 rfl) rfl
theorem q3360 : (Jvm.Cond.privateMethod ({ cls := "AlgolMillModel", name := "callFormal", desc := "(II)V" } : Jvm.MethodName)) ∈ lw_tbl := lw_at lw_m14 59 rfl
theorem q3361 : (Jvm.Cond.instanceMethod ({ cls := "AlgolMillModel", name := "callFormal", desc := "(II)V" } : Jvm.MethodName)) ∈ lw_all := lw_g (lw_at lw_m14 60 rfl) rfl
theorem q3362 : (Jvm.Cond.code ({ cls := "AlgolMillModel", name := "callFormal", desc := "(II)V" } : Jvm.MethodName) prog_38_method_106_code (5 : Nat) (Option.none : Option Jvm.ClassFile.FieldType)) ∈ lw_all := lw_g (lw_at lw_m14 61 rfl) rfl
theorem q3363 : (Jvm.Cond.methodLink "AlgolMillModel" (876 : Nat) ({ cls := "AlgolMillModel", name := "leave", desc := "()V" } : Jvm.MethodName)) ∈ lw_all := lw_g (lw_at lw_m14 62 rfl) rfl
theorem q3364 : (Jvm.Cond.privateMethod ({ cls := "AlgolMillModel", name := "leave", desc := "()V" } : Jvm.MethodName)) ∈ lw_tbl := lw_at lw_m14 63 rfl
theorem q3365 : (Jvm.Cond.instanceMethod ({ cls := "AlgolMillModel", name := "leave", desc := "()V" } : Jvm.MethodName)) ∈ lw_all := lw_g (lw_at lw_m14 64 rfl) rfl
theorem q3366 : (Jvm.Cond.code ({ cls := "AlgolMillModel", name := "leave", desc := "()V" } : Jvm.MethodName) prog_38_method_107_code (3 : Nat) (Option.none : Option Jvm.ClassFile.FieldType)) ∈ lw_all := lw_g (lw_at lw_m14 65 rfl) rfl
theorem q3367 : (Jvm.Cond.methodLink "AlgolMillModel" (879 : Nat) ({ cls := "AlgolMillModel", name := "finish", desc := "(Z)V" } : Jvm.MethodName)) ∈ lw_all := lw_g (lw_at lw_m14 66 rfl) rfl
theorem q3368 : (Jvm.Cond.privateMethod ({ cls := "AlgolMillModel", name := "finish", desc := "(Z)V" } : Jvm.MethodName)) ∈ lw_tbl := lw_at lw_m14 67 rfl
theorem q3369 : (Jvm.Cond.instanceMethod ({ cls := "AlgolMillModel", name := "finish", desc := "(Z)V" } : Jvm.MethodName)) ∈ lw_all := lw_g (lw_at lw_m14 68 rfl) rfl
theorem q3370 : (Jvm.Cond.code ({ cls := "AlgolMillModel", name := "finish", desc := "(Z)V" } : Jvm.MethodName) prog_38_method_103_code (2 : Nat) (Option.none : Option Jvm.ClassFile.FieldType)) ∈ lw_all := lw_g (lw_at lw_m14 69 rfl) rfl
theorem q3371 : (Jvm.Cond.methodLink "AlgolMillModel" (883 : Nat) ({ cls := "AlgolMillModel", name := "jump", desc := "()V" } : Jvm.MethodName)) ∈ lw_all := lw_g (lw_at lw_m14 70 rfl) rfl
theorem q3372 : (Jvm.Cond.privateMethod ({ cls := "AlgolMillModel", name := "jump", desc := "()V" } : Jvm.MethodName)) ∈ lw_tbl := lw_at lw_m14 71 rfl
theorem q3373 : (Jvm.Cond.instanceMethod ({ cls := "AlgolMillModel", name := "jump", desc := "()V" } : Jvm.MethodName)) ∈ lw_all := lw_g (lw_at lw_m14 72 rfl) rfl
theorem q3374 : (Jvm.Cond.code ({ cls := "AlgolMillModel", name := "jump", desc := "()V" } : Jvm.MethodName) prog_38_method_112_code (4 : Nat) (Option.none : Option Jvm.ClassFile.FieldType)) ∈ lw_all := lw_g (lw_at lw_m14 73 rfl) rfl
theorem q3375 : (Jvm.Cond.methodLink "AlgolMillModel" (847 : Nat) ({ cls := "AlgolMillModel", name := "actSize", desc := "(I)I" } : Jvm.MethodName)) ∈ lw_all := lw_g (lw_at lw_m14 74 rfl) rfl
theorem q3376 : (Jvm.Cond.privateMethod ({ cls := "AlgolMillModel", name := "actSize", desc := "(I)I" } : Jvm.MethodName)) ∈ lw_tbl := lw_at lw_m14 75 rfl
theorem q3377 : (Jvm.Cond.instanceMethod ({ cls := "AlgolMillModel", name := "actSize", desc := "(I)I" } : Jvm.MethodName)) ∈ lw_all := lw_g (lw_at lw_m14 76 rfl) rfl
theorem q3378 : (Jvm.Cond.code ({ cls := "AlgolMillModel", name := "actSize", desc := "(I)I" } : Jvm.MethodName) prog_38_method_113_code (2 : Nat) (Option.some Jvm.ClassFile.FieldType.int)) ∈ lw_all := lw_g (lw_at lw_m14 77 rfl) rfl
theorem q3379 : (Jvm.Cond.methodLink "AlgolMillModel" (886 : Nat) ({ cls := "AlgolMillModel", name := "aimed", desc := "(II)V" } : Jvm.MethodName)) ∈ lw_all := lw_g (lw_at lw_m14 78 rfl) rfl
theorem q3380 : (Jvm.Cond.privateMethod ({ cls := "AlgolMillModel", name := "aimed", desc := "(II)V" } : Jvm.MethodName)) ∈ lw_tbl := lw_at lw_m14 79 rfl
theorem q3381 : (Jvm.Cond.instanceMethod ({ cls := "AlgolMillModel", name := "aimed", desc := "(II)V" } : Jvm.MethodName)) ∈ lw_all := lw_g (lw_at lw_m14 80 rfl) rfl
theorem q3382 : (Jvm.Cond.code ({ cls := "AlgolMillModel", name := "aimed", desc := "(II)V" } : Jvm.MethodName) prog_38_method_114_code (8 : Nat) (Option.none : Option Jvm.ClassFile.FieldType)) ∈ lw_all := lw_g (lw_at lw_m14 81 rfl) rfl
theorem q3383 : (Jvm.Cond.methodLink "AlgolMillModel" (889 : Nat) ({ cls := "AlgolMillModel", name := "allot", desc := "(II)V" } : Jvm.MethodName)) ∈ lw_all := lw_g (lw_at lw_m14 82 rfl) rfl
theorem q3384 : (Jvm.Cond.privateMethod ({ cls := "AlgolMillModel", name := "allot", desc := "(II)V" } : Jvm.MethodName)) ∈ lw_tbl := lw_at lw_m14 83 rfl
theorem q3385 : (Jvm.Cond.instanceMethod ({ cls := "AlgolMillModel", name := "allot", desc := "(II)V" } : Jvm.MethodName)) ∈ lw_all := lw_g (lw_at lw_m14 84 rfl) rfl
theorem q3386 : (Jvm.Cond.code ({ cls := "AlgolMillModel", name := "allot", desc := "(II)V" } : Jvm.MethodName) prog_38_method_109_code (10 : Nat) (Option.none : Option Jvm.ClassFile.FieldType)) ∈ lw_all := lw_g (lw_at lw_m14 85 rfl) rfl
theorem q3387 : (Jvm.Cond.constantLong "AlgolMillModel" (833 : Nat) (5000 : Int64)) ∈ lw_all := lw_g (lw_at lw_m14 86 rfl) rfl
theorem q3388 : (Jvm.Cond.constantLong "AlgolMillModel" (835 : Nat) (2000 : Int64)) ∈ lw_all := lw_g (lw_at lw_m14 87 rfl) rfl
theorem q3390 : (Jvm.Cond.instanceMethod ({ cls := "AlgolMillModel", name := "out", desc := "(I)J" } : Jvm.MethodName)) ∈ lw_all := lw_g (lw_at lw_m14 89 rfl) rfl
theorem q3391 : (Jvm.Cond.selects "AlgolMillModel" ({ cls := "AlgolMillModel", name := "out", desc := "(I)J" } : Jvm.MethodName) ({ cls := "AlgolMillModel", name := "out", desc := "(I)J" } : Jvm.MethodName)) ∈ lw_all := lw_g (lw_at lw_m14 90 rfl) rfl
theorem q3392 : (Jvm.Cond.code ({ cls := "AlgolMillModel", name := "out", desc := "(I)J" } : Jvm.MethodName) prog_38_method_118_code (2 : Nat) (Option.some Jvm.ClassFile.FieldType.long)) ∈ lw_all := lw_g (lw_at lw_m14 91 rfl) rfl
theorem q3393 : (Jvm.Cond.methodLink "AlgolMillModel" (894 : Nat) ({ cls := "java/lang/Math", name := "min", desc := "(II)I" } : Jvm.MethodName)) ∈ lw_all := lw_g (lw_at lw_m14 92 rfl) rfl
theorem q3395 : (Jvm.Cond.instanceMethod ({ cls := "AlgolMillModel", name := "count", desc := "(I)I" } : Jvm.MethodName)) ∈ lw_all := lw_g (lw_at lw_m14 94 rfl) rfl
theorem q3396 : (Jvm.Cond.selects "AlgolMillModel" ({ cls := "AlgolMillModel", name := "count", desc := "(I)I" } : Jvm.MethodName) ({ cls := "AlgolMillModel", name := "count", desc := "(I)I" } : Jvm.MethodName)) ∈ lw_all := lw_g (lw_at lw_m14 95 rfl) rfl
theorem q3397 : (Jvm.Cond.code ({ cls := "AlgolMillModel", name := "count", desc := "(I)I" } : Jvm.MethodName) prog_38_method_119_code (2 : Nat) (Option.some Jvm.ClassFile.FieldType.int)) ∈ lw_all := lw_g (lw_at lw_m14 96 rfl) rfl
theorem in_X10 : ∀ w ∈ wsX100, w ∈ lw_all := lw_in wsX100 [2568, 2570, 2572, 2574, 2576, 2578, 2580, 2582, 2584, 2586, 2588, 2590, 2592, 2594, 2596, 2598, 2600, 2602, 2604, 2606, 2608, 2610, 2612, 2614, 2616, 2618, 2620, 2622, 2624, 2626, 2628, 2630, 2632, 2634, 2636, 2638, 2640, 2642, 2644, 2646, 2648, 2650, 2652, 2654, 2656, 2658, 2660, 2662, 2664, 2666, 2668, 2670, 2672, 2674, 2676, 2678, 2680, 2682, 2684, 2686, 2688, 2690, 2692, 2694, 2696, 2698, 2700, 2702, 2704, 2706, 2708, 2710, 2712, 2714, 2716, 2718, 2720, 2722, 2724, 2726, 2728, 2730, 2732, 2734, 2736, 2738, 2740, 2742, 2744, 2746, 2748, 2750, 2752, 2754, 2756, 2758, 2760, 2762, 2764, 2766, 2768, 2770, 2772, 2774, 2776, 2778, 2780, 2782, 2784, 2786, 2788, 2790, 2792, 2794, 2796, 2798, 2800, 2802, 2804, 2806, 2808, 2810, 2812, 2814, 2816, 2818, 2820, 2822, 2824, 2826, 2828, 2830, 2832, 2834, 2836, 2838, 2840, 2842, 2844, 2846, 2848, 2850] (by decide +kernel) (by decide +kernel)
/-! AlgolMill$Routine -/
def RX11 : String := "AlgolMill$Routine"
def TX11 : u_T := fun k => match k with
  | 0 => ("AlgolMill$Routine", "thing", "LAlgolMill$Thing;", true)
  | 1 => ("AlgolMill$Routine", "around", "LAlgolMill$Routine;", true)
  | 2 => ("AlgolMill$Routine", "level", "I", true)
  | 3 => ("AlgolMill$Routine", "formals", "LAlgolMill$Things;", true)
  | 4 => ("AlgolMill$Routine", "body", "LAlgolMill$Statement;", false)
  | 5 => ("AlgolMill$Routine", "scope", "LAlgolMill$Scope;", false)
  | 6 => ("AlgolMill$Routine", "inner", "LAlgolMill$Scope;", false)
  | 7 => ("AlgolMill$Routine", "next", "I", false)
  | 8 => ("AlgolMill$Routine", "far", "I", false)
  | 9 => ("AlgolMill$Routine", "loops", "I", false)
  | 10 => ("AlgolMill$Routine", "names", "I", false)
  | _ => ("AlgolMill$Routine", "address", "I", false)
def tyX11 : Nat → FieldType := fun k => match k with
  | 0 => .object "AlgolMill$Thing"
  | 1 => .object "AlgolMill$Routine"
  | 2 => .int
  | 3 => .object "AlgolMill$Things"
  | 4 => .object "AlgolMill$Statement"
  | 5 => .object "AlgolMill$Scope"
  | 6 => .object "AlgolMill$Scope"
  | 7 => .int
  | 8 => .int
  | 9 => .int
  | 10 => .int
  | _ => .int
abbrev wsX110 : List Cond := u_ws RX11 TX11 12
theorem nmX11 : ∀ a, a < 12 → ∀ b, b < 12 → a ≠ b → (TX11 a).2.1 ≠ (TX11 b).2.1 := by decide +kernel
theorem tyX11_ok : ∀ k, k < 12 → parseFieldDescriptor (TX11 k).2.2.1 = some (tyX11 k) := by decide +kernel
abbrev cX11_init : ByteArray := prog_26_method_1_code
def yX11_init : MethodName := ⟨RX11, "<init>", "(LAlgolMill$Thing;LAlgolMill$Routine;)V"⟩
abbrev cX11_room : ByteArray := prog_26_method_5_code
def yX11_room : MethodName := ⟨RX11, "room", "(I)I"⟩
abbrev cX11_loop : ByteArray := prog_26_method_2_code
def yX11_loop : MethodName := ⟨RX11, "loop", "(I)V"⟩
abbrev cX11_width : ByteArray := prog_26_method_4_code
def yX11_width : MethodName := ⟨RX11, "width", "()I"⟩
abbrev cX11_back : ByteArray := prog_26_method_3_code
def yX11_back : MethodName := ⟨RX11, "back", "(I)I"⟩
theorem q204 : (Jvm.Cond.initialized "AlgolMill$Routine") ∈ lw_all := lw_g (lw_at lw_m1 23 rfl) rfl
theorem q779 : (Jvm.Cond.instantiable "AlgolMill$Routine" (12 : Nat)) ∈ lw_all := lw_g (lw_at lw_m3 118 rfl) rfl
theorem q781 : (Jvm.Cond.instanceMethod ({ cls := "AlgolMill$Routine", name := "<init>", desc := "(LAlgolMill$Thing;LAlgolMill$Routine;)V" } : Jvm.MethodName)) ∈ lw_all := lw_g (lw_at lw_m3 120 rfl) rfl
theorem q782 : (Jvm.Cond.code ({ cls := "AlgolMill$Routine", name := "<init>", desc := "(LAlgolMill$Thing;LAlgolMill$Routine;)V" } : Jvm.MethodName) prog_26_method_1_code (3 : Nat) (Option.none : Option Jvm.ClassFile.FieldType)) ∈ lw_all := lw_g (lw_at lw_m3 121 rfl) rfl
theorem q783 : (Jvm.Cond.methodLink "AlgolMill$Routine" (1 : Nat) ({ cls := "java/lang/Object", name := "<init>", desc := "()V" } : Jvm.MethodName)) ∈ lw_all := lw_g (lw_at lw_m3 122 rfl) rfl
theorem q784 : (Jvm.Cond.classLink "AlgolMill$Routine" (7 : Nat) "AlgolMill$Things") ∈ lw_all := lw_g (lw_at lw_m3 123 rfl) rfl
theorem q785 : (Jvm.Cond.methodLinkNest "AlgolMill$Routine" (9 : Nat) ({ cls := "AlgolMill$Things", name := "<init>", desc := "()V" } : Jvm.MethodName) "AlgolMill") ∈ lw_tbl := lw_at lw_m3 124 rfl
theorem q786 : (Jvm.Cond.fieldLink "AlgolMill$Routine" (23 : Nat) "AlgolMill$Routine" "thing" "LAlgolMill$Thing;") ∈ lw_all := lw_g (lw_at lw_m3 125 rfl) rfl
theorem q787 : (Jvm.Cond.fieldLink "AlgolMill$Routine" (27 : Nat) "AlgolMill$Routine" "around" "LAlgolMill$Routine;") ∈ lw_all := lw_g (lw_at lw_m3 126 rfl) rfl
theorem q789 : (Jvm.Cond.fieldLink "AlgolMill$Routine" (31 : Nat) "AlgolMill$Routine" "level" "I") ∈ lw_all := lw_g (lw_at lw_m3 128 rfl) rfl
theorem q791 : (Jvm.Cond.fieldLink "AlgolMill$Routine" (10 : Nat) "AlgolMill$Routine" "formals" "LAlgolMill$Things;") ∈ lw_all := lw_g (lw_at lw_m3 130 rfl) rfl
theorem q803 : (Jvm.Cond.fieldLink "AlgolMill$Routine" (16 : Nat) "AlgolMill$Routine" "next" "I") ∈ lw_all := lw_g (lw_at lw_m3 142 rfl) rfl
theorem q805 : (Jvm.Cond.fieldLink "AlgolMill$Routine" (20 : Nat) "AlgolMill$Routine" "far" "I") ∈ lw_all := lw_g (lw_at lw_m3 144 rfl) rfl
theorem q806 : (Jvm.Cond.fieldLink "AlgolMill$Routine" (34 : Nat) "AlgolMill$Routine" "loops" "I") ∈ lw_all := lw_g (lw_at lw_m3 145 rfl) rfl
theorem q809 : (Jvm.Cond.laysFinal "AlgolMill$Routine" "AlgolMill$Routine" "thing" "LAlgolMill$Thing;") ∈ lw_all := lw_g (lw_at lw_m3 148 rfl) rfl
theorem q810 : (Jvm.Cond.soleField "AlgolMill$Routine" "thing") ∈ lw_all := lw_g (lw_at lw_m3 149 rfl) rfl
theorem q811 : (Jvm.Cond.laysFinal "AlgolMill$Routine" "AlgolMill$Routine" "around" "LAlgolMill$Routine;") ∈ lw_all := lw_g (lw_at lw_m3 150 rfl) rfl
theorem q812 : (Jvm.Cond.soleField "AlgolMill$Routine" "around") ∈ lw_all := lw_g (lw_at lw_m3 151 rfl) rfl
theorem q813 : (Jvm.Cond.laysFinal "AlgolMill$Routine" "AlgolMill$Routine" "level" "I") ∈ lw_all := lw_g (lw_at lw_m3 152 rfl) rfl
theorem q814 : (Jvm.Cond.soleField "AlgolMill$Routine" "level") ∈ lw_all := lw_g (lw_at lw_m3 153 rfl) rfl
theorem q815 : (Jvm.Cond.laysFinal "AlgolMill$Routine" "AlgolMill$Routine" "formals" "LAlgolMill$Things;") ∈ lw_all := lw_g (lw_at lw_m3 154 rfl) rfl
theorem q816 : (Jvm.Cond.soleField "AlgolMill$Routine" "formals") ∈ lw_all := lw_g (lw_at lw_m3 155 rfl) rfl
theorem q817 : (Jvm.Cond.lays "AlgolMill$Routine" "AlgolMill$Routine" "body" "LAlgolMill$Statement;") ∈ lw_all := lw_g (lw_at lw_m3 156 rfl) rfl
theorem q818 : (Jvm.Cond.soleField "AlgolMill$Routine" "body") ∈ lw_all := lw_g (lw_at lw_m3 157 rfl) rfl
theorem q819 : (Jvm.Cond.lays "AlgolMill$Routine" "AlgolMill$Routine" "scope" "LAlgolMill$Scope;") ∈ lw_all := lw_g (lw_at lw_m3 158 rfl) rfl
theorem q820 : (Jvm.Cond.soleField "AlgolMill$Routine" "scope") ∈ lw_all := lw_g (lw_at lw_m3 159 rfl) rfl
theorem q821 : (Jvm.Cond.lays "AlgolMill$Routine" "AlgolMill$Routine" "inner" "LAlgolMill$Scope;") ∈ lw_all := lw_g (lw_at lw_m3 160 rfl) rfl
theorem q822 : (Jvm.Cond.soleField "AlgolMill$Routine" "inner") ∈ lw_all := lw_g (lw_at lw_m3 161 rfl) rfl
theorem q823 : (Jvm.Cond.lays "AlgolMill$Routine" "AlgolMill$Routine" "next" "I") ∈ lw_all := lw_g (lw_at lw_m3 162 rfl) rfl
theorem q824 : (Jvm.Cond.soleField "AlgolMill$Routine" "next") ∈ lw_all := lw_g (lw_at lw_m3 163 rfl) rfl
theorem q825 : (Jvm.Cond.lays "AlgolMill$Routine" "AlgolMill$Routine" "far" "I") ∈ lw_all := lw_g (lw_at lw_m3 164 rfl) rfl
theorem q826 : (Jvm.Cond.soleField "AlgolMill$Routine" "far") ∈ lw_all := lw_g (lw_at lw_m3 165 rfl) rfl
theorem q827 : (Jvm.Cond.lays "AlgolMill$Routine" "AlgolMill$Routine" "loops" "I") ∈ lw_all := lw_g (lw_at lw_m3 166 rfl) rfl
theorem q828 : (Jvm.Cond.soleField "AlgolMill$Routine" "loops") ∈ lw_all := lw_g (lw_at lw_m3 167 rfl) rfl
theorem q829 : (Jvm.Cond.lays "AlgolMill$Routine" "AlgolMill$Routine" "names" "I") ∈ lw_all := lw_g (lw_at lw_m3 168 rfl) rfl
theorem q830 : (Jvm.Cond.soleField "AlgolMill$Routine" "names") ∈ lw_all := lw_g (lw_at lw_m3 169 rfl) rfl
theorem q831 : (Jvm.Cond.lays "AlgolMill$Routine" "AlgolMill$Routine" "address" "I") ∈ lw_all := lw_g (lw_at lw_m3 170 rfl) rfl
theorem q832 : (Jvm.Cond.soleField "AlgolMill$Routine" "address") ∈ lw_all := lw_g (lw_at lw_m3 171 rfl) rfl
theorem q833 : (Jvm.Cond.superclass "AlgolMill$Routine" "java/lang/Object") ∈ lw_all := lw_g (lw_at lw_m3 172 rfl) rfl
theorem q1280 : (Jvm.Cond.instanceMethod ({ cls := "AlgolMill$Routine", name := "room", desc := "(I)I" } : Jvm.MethodName)) ∈ lw_all := lw_g (lw_at lw_m5 139 rfl) rfl
theorem q1281 : (Jvm.Cond.selects "AlgolMill$Routine" ({ cls := "AlgolMill$Routine", name := "room", desc := "(I)I" } : Jvm.MethodName) ({ cls := "AlgolMill$Routine", name := "room", desc := "(I)I" } : Jvm.MethodName)) ∈ lw_all := lw_g (lw_at lw_m5 140 rfl) rfl
theorem q1282 : (Jvm.Cond.code ({ cls := "AlgolMill$Routine", name := "room", desc := "(I)I" } : Jvm.MethodName) prog_26_method_5_code (2 : Nat) (Option.some Jvm.ClassFile.FieldType.int)) ∈ lw_all := lw_g (lw_at lw_m5 141 rfl) rfl
theorem q1477 : (Jvm.Cond.instanceMethod ({ cls := "AlgolMill$Routine", name := "loop", desc := "(I)V" } : Jvm.MethodName)) ∈ lw_all := lw_g (lw_at lw_m6 96 rfl) rfl
theorem q1478 : (Jvm.Cond.selects "AlgolMill$Routine" ({ cls := "AlgolMill$Routine", name := "loop", desc := "(I)V" } : Jvm.MethodName) ({ cls := "AlgolMill$Routine", name := "loop", desc := "(I)V" } : Jvm.MethodName)) ∈ lw_all := lw_g (lw_at lw_m6 97 rfl) rfl
theorem q1479 : (Jvm.Cond.code ({ cls := "AlgolMill$Routine", name := "loop", desc := "(I)V" } : Jvm.MethodName) prog_26_method_2_code (2 : Nat) (Option.none : Option Jvm.ClassFile.FieldType)) ∈ lw_all := lw_g (lw_at lw_m6 98 rfl) rfl
theorem q1825 : (Jvm.Cond.instanceMethod ({ cls := "AlgolMill$Routine", name := "width", desc := "()I" } : Jvm.MethodName)) ∈ lw_all := lw_g (lw_at lw_m7 204 rfl) rfl
theorem q1826 : (Jvm.Cond.selects "AlgolMill$Routine" ({ cls := "AlgolMill$Routine", name := "width", desc := "()I" } : Jvm.MethodName) ({ cls := "AlgolMill$Routine", name := "width", desc := "()I" } : Jvm.MethodName)) ∈ lw_all := lw_g (lw_at lw_m7 205 rfl) rfl
theorem q1827 : (Jvm.Cond.code ({ cls := "AlgolMill$Routine", name := "width", desc := "()I" } : Jvm.MethodName) prog_26_method_4_code (1 : Nat) (Option.some Jvm.ClassFile.FieldType.int)) ∈ lw_all := lw_g (lw_at lw_m7 206 rfl) rfl
theorem q2151 : (Jvm.Cond.instanceMethod ({ cls := "AlgolMill$Routine", name := "back", desc := "(I)I" } : Jvm.MethodName)) ∈ lw_all := lw_g (lw_at lw_m9 50 rfl) rfl
theorem q2152 : (Jvm.Cond.selects "AlgolMill$Routine" ({ cls := "AlgolMill$Routine", name := "back", desc := "(I)I" } : Jvm.MethodName) ({ cls := "AlgolMill$Routine", name := "back", desc := "(I)I" } : Jvm.MethodName)) ∈ lw_all := lw_g (lw_at lw_m9 51 rfl) rfl
theorem q2153 : (Jvm.Cond.code ({ cls := "AlgolMill$Routine", name := "back", desc := "(I)I" } : Jvm.MethodName) prog_26_method_3_code (2 : Nat) (Option.some Jvm.ClassFile.FieldType.int)) ∈ lw_all := lw_g (lw_at lw_m9 52 rfl) rfl
theorem in_X11 : ∀ w ∈ wsX110, w ∈ lw_all := lw_in wsX110 [809, 811, 813, 815, 817, 819, 821, 823, 825, 827, 829, 831] (by decide +kernel) (by decide +kernel)
/-! AlgolMill$Scope -/
def RX12 : String := "AlgolMill$Scope"
def TX12 : u_T := fun k => match k with
  | 0 => ("AlgolMill$Scope", "around", "LAlgolMill$Scope;", true)
  | 1 => ("AlgolMill$Scope", "home", "LAlgolMill$Routine;", true)
  | 2 => ("AlgolMill$Scope", "block", "LAlgolMill$Block;", true)
  | _ => ("AlgolMill$Scope", "things", "LAlgolMill$Things;", true)
def tyX12 : Nat → FieldType := fun k => match k with
  | 0 => .object "AlgolMill$Scope"
  | 1 => .object "AlgolMill$Routine"
  | 2 => .object "AlgolMill$Block"
  | _ => .object "AlgolMill$Things"
abbrev wsX120 : List Cond := u_ws RX12 TX12 4
theorem nmX12 : ∀ a, a < 4 → ∀ b, b < 4 → a ≠ b → (TX12 a).2.1 ≠ (TX12 b).2.1 := by decide +kernel
theorem tyX12_ok : ∀ k, k < 4 → parseFieldDescriptor (TX12 k).2.2.1 = some (tyX12 k) := by decide +kernel
abbrev cX12_init : ByteArray := prog_29_method_1_code
def yX12_init : MethodName := ⟨RX12, "<init>", "(LAlgolMill$Scope;LAlgolMill$Routine;LAlgolMill$Block;)V"⟩
theorem q205 : (Jvm.Cond.initialized "AlgolMill$Scope") ∈ lw_all := lw_g (lw_at lw_m1 24 rfl) rfl
theorem q835 : (Jvm.Cond.instantiable "AlgolMill$Scope" (4 : Nat)) ∈ lw_all := lw_g (lw_at lw_m3 174 rfl) rfl
theorem q837 : (Jvm.Cond.instanceMethod ({ cls := "AlgolMill$Scope", name := "<init>", desc := "(LAlgolMill$Scope;LAlgolMill$Routine;LAlgolMill$Block;)V" } : Jvm.MethodName)) ∈ lw_all := lw_g (lw_at lw_m3 176 rfl) rfl
theorem q838 : (Jvm.Cond.code ({ cls := "AlgolMill$Scope", name := "<init>", desc := "(LAlgolMill$Scope;LAlgolMill$Routine;LAlgolMill$Block;)V" } : Jvm.MethodName) prog_29_method_1_code (4 : Nat) (Option.none : Option Jvm.ClassFile.FieldType)) ∈ lw_all := lw_g (lw_at lw_m3 177 rfl) rfl
theorem q839 : (Jvm.Cond.methodLink "AlgolMill$Scope" (1 : Nat) ({ cls := "java/lang/Object", name := "<init>", desc := "()V" } : Jvm.MethodName)) ∈ lw_all := lw_g (lw_at lw_m3 178 rfl) rfl
theorem q840 : (Jvm.Cond.classLink "AlgolMill$Scope" (7 : Nat) "AlgolMill$Things") ∈ lw_all := lw_g (lw_at lw_m3 179 rfl) rfl
theorem q841 : (Jvm.Cond.methodLinkNest "AlgolMill$Scope" (9 : Nat) ({ cls := "AlgolMill$Things", name := "<init>", desc := "()V" } : Jvm.MethodName) "AlgolMill") ∈ lw_tbl := lw_at lw_m3 180 rfl
theorem q842 : (Jvm.Cond.fieldLink "AlgolMill$Scope" (16 : Nat) "AlgolMill$Scope" "around" "LAlgolMill$Scope;") ∈ lw_all := lw_g (lw_at lw_m3 181 rfl) rfl
theorem q844 : (Jvm.Cond.fieldLink "AlgolMill$Scope" (20 : Nat) "AlgolMill$Scope" "home" "LAlgolMill$Routine;") ∈ lw_all := lw_g (lw_at lw_m3 183 rfl) rfl
theorem q845 : (Jvm.Cond.fieldLink "AlgolMill$Scope" (24 : Nat) "AlgolMill$Scope" "block" "LAlgolMill$Block;") ∈ lw_all := lw_g (lw_at lw_m3 184 rfl) rfl
theorem q847 : (Jvm.Cond.fieldLink "AlgolMill$Scope" (10 : Nat) "AlgolMill$Scope" "things" "LAlgolMill$Things;") ∈ lw_all := lw_g (lw_at lw_m3 186 rfl) rfl
theorem q850 : (Jvm.Cond.laysFinal "AlgolMill$Scope" "AlgolMill$Scope" "around" "LAlgolMill$Scope;") ∈ lw_all := lw_g (lw_at lw_m3 189 rfl) rfl
theorem q851 : (Jvm.Cond.soleField "AlgolMill$Scope" "around") ∈ lw_all := lw_g (lw_at lw_m3 190 rfl) rfl
theorem q852 : (Jvm.Cond.laysFinal "AlgolMill$Scope" "AlgolMill$Scope" "home" "LAlgolMill$Routine;") ∈ lw_all := lw_g (lw_at lw_m3 191 rfl) rfl
theorem q853 : (Jvm.Cond.soleField "AlgolMill$Scope" "home") ∈ lw_all := lw_g (lw_at lw_m3 192 rfl) rfl
theorem q854 : (Jvm.Cond.laysFinal "AlgolMill$Scope" "AlgolMill$Scope" "block" "LAlgolMill$Block;") ∈ lw_all := lw_g (lw_at lw_m3 193 rfl) rfl
theorem q855 : (Jvm.Cond.soleField "AlgolMill$Scope" "block") ∈ lw_all := lw_g (lw_at lw_m3 194 rfl) rfl
theorem q856 : (Jvm.Cond.laysFinal "AlgolMill$Scope" "AlgolMill$Scope" "things" "LAlgolMill$Things;") ∈ lw_all := lw_g (lw_at lw_m3 195 rfl) rfl
theorem q857 : (Jvm.Cond.soleField "AlgolMill$Scope" "things") ∈ lw_all := lw_g (lw_at lw_m3 196 rfl) rfl
theorem q858 : (Jvm.Cond.superclass "AlgolMill$Scope" "java/lang/Object") ∈ lw_all := lw_g (lw_at lw_m3 197 rfl) rfl
theorem in_X12 : ∀ w ∈ wsX120, w ∈ lw_all := lw_in wsX120 [850, 852, 854, 856] (by decide +kernel) (by decide +kernel)
/-! AlgolMill$Statement -/
def RX13 : String := "AlgolMill$Statement"
abbrev cX13_init : ByteArray := prog_31_method_1_code
def yX13_init : MethodName := ⟨RX13, "<init>", "()V"⟩
abbrev cX13_isNothing : ByteArray := prog_31_method_4_code
def yX13_isNothing : MethodName := ⟨RX13, "isNothing", "()Z"⟩
theorem q206 : (Jvm.Cond.initialized "AlgolMill$Statement") ∈ lw_all := lw_g (lw_at lw_m1 25 rfl) rfl
theorem q889 : (Jvm.Cond.instanceMethod ({ cls := "AlgolMill$Statement", name := "<init>", desc := "()V" } : Jvm.MethodName)) ∈ lw_all := lw_g (lw_at lw_m3 228 rfl) rfl
theorem q890 : (Jvm.Cond.code ({ cls := "AlgolMill$Statement", name := "<init>", desc := "()V" } : Jvm.MethodName) prog_31_method_1_code (1 : Nat) (Option.none : Option Jvm.ClassFile.FieldType)) ∈ lw_all := lw_g (lw_at lw_m3 229 rfl) rfl
theorem q891 : (Jvm.Cond.methodLink "AlgolMill$Statement" (1 : Nat) ({ cls := "java/lang/Object", name := "<init>", desc := "()V" } : Jvm.MethodName)) ∈ lw_all := lw_g (lw_at lw_m3 230 rfl) rfl
theorem q940 : (Jvm.Cond.soleField "AlgolMill$Statement" "marks") ∈ lw_all := lw_g (lw_at lw_m4 39 rfl) rfl
theorem q1575 : (Jvm.Cond.declares ({ cls := "AlgolMill$Statement", name := "check", desc := "(LAlgolMill$Checker;)V" } : Jvm.MethodName)) ∈ lw_tbl := lw_at lw_m6 194 rfl
theorem q1576 : (Jvm.Cond.sameMethod "AlgolMill$Statement" "AlgolMill$Statement" "check" "(LAlgolMill$Checker;)V") ∈ lw_all := lw_g (lw_at lw_m6 195 rfl) rfl
theorem q1838 : (Jvm.Cond.declares ({ cls := "AlgolMill$Statement", name := "emit", desc := "(LAlgolMill$Coder;)V" } : Jvm.MethodName)) ∈ lw_tbl := lw_at lw_m7 217 rfl
theorem q1839 : (Jvm.Cond.sameMethod "AlgolMill$Statement" "AlgolMill$Statement" "emit" "(LAlgolMill$Coder;)V") ∈ lw_all := lw_g (lw_at lw_m7 218 rfl) rfl
theorem q2083 : (Jvm.Cond.instanceMethod ({ cls := "AlgolMill$Statement", name := "isNothing", desc := "()Z" } : Jvm.MethodName)) ∈ lw_all := lw_g (lw_at lw_m8 222 rfl) rfl
theorem q2084 : (Jvm.Cond.sameMethod "AlgolMill$Statement" "AlgolMill$Statement" "isNothing" "()Z") ∈ lw_all := lw_g (lw_at lw_m8 223 rfl) rfl
theorem q2095 : (Jvm.Cond.code ({ cls := "AlgolMill$Statement", name := "isNothing", desc := "()Z" } : Jvm.MethodName) prog_31_method_4_code (1 : Nat) (Option.some Jvm.ClassFile.FieldType.boolean)) ∈ lw_all := lw_g (lw_at lw_m8 234 rfl) rfl
/-! AlgolMill$Block -/
def RX14 : String := "AlgolMill$Block"
def TX14 : u_T := fun k => match k with
  | 0 => ("AlgolMill$Statement", "marks", "LAlgolMill$Things;", false)
  | 1 => ("AlgolMill$Block", "scope", "LAlgolMill$Scope;", false)
  | 2 => ("AlgolMill$Block", "statements", "[LAlgolMill$Statement;", false)
  | 3 => ("AlgolMill$Block", "many", "I", false)
  | 4 => ("AlgolMill$Block", "home", "LAlgolMill$Routine;", true)
  | 5 => ("AlgolMill$Block", "variables", "LAlgolMill$Things;", true)
  | 6 => ("AlgolMill$Block", "routines", "LAlgolMill$Things;", true)
  | 7 => ("AlgolMill$Block", "switches", "LAlgolMill$Things;", true)
  | 8 => ("AlgolMill$Block", "rows", "[LAlgolMill$Rows;", false)
  | 9 => ("AlgolMill$Block", "rowMany", "I", false)
  | 10 => ("AlgolMill$Block", "around", "LAlgolMill$Block;", true)
  | 11 => ("AlgolMill$Block", "mark", "I", false)
  | _ => ("AlgolMill$Block", "before", "I", false)
def tyX14 : Nat → FieldType := fun k => match k with
  | 0 => .object "AlgolMill$Things"
  | 1 => .object "AlgolMill$Scope"
  | 2 => .array (.object "AlgolMill$Statement")
  | 3 => .int
  | 4 => .object "AlgolMill$Routine"
  | 5 => .object "AlgolMill$Things"
  | 6 => .object "AlgolMill$Things"
  | 7 => .object "AlgolMill$Things"
  | 8 => .array (.object "AlgolMill$Rows")
  | 9 => .int
  | 10 => .object "AlgolMill$Block"
  | 11 => .int
  | _ => .int
abbrev wsX140 : List Cond := u_ws RX14 TX14 13
theorem nmX14 : ∀ a, a < 13 → ∀ b, b < 13 → a ≠ b → (TX14 a).2.1 ≠ (TX14 b).2.1 := by decide +kernel
theorem tyX14_ok : ∀ k, k < 13 → parseFieldDescriptor (TX14 k).2.2.1 = some (tyX14 k) := by decide +kernel
abbrev cX14_init : ByteArray := prog_3_method_1_code
def yX14_init : MethodName := ⟨RX14, "<init>", "(LAlgolMill$Routine;LAlgolMill$Block;)V"⟩
abbrev cX14_add : ByteArray := prog_3_method_3_code
def yX14_add : MethodName := ⟨RX14, "add", "(LAlgolMill$Rows;)V"⟩
abbrev cX14_routine : ByteArray := prog_3_method_5_code
def yX14_routine : MethodName := ⟨RX14, "routine", "(LAlgolMill$Thing;)V"⟩
abbrev cX14_choices : ByteArray := prog_3_method_6_code
def yX14_choices : MethodName := ⟨RX14, "choices", "(LAlgolMill$Thing;)V"⟩
abbrev cX14_variable : ByteArray := prog_3_method_4_code
def yX14_variable : MethodName := ⟨RX14, "variable", "(LAlgolMill$Thing;)V"⟩
abbrev cX14_add_2 : ByteArray := prog_3_method_2_code
def yX14_add_2 : MethodName := ⟨RX14, "add", "(LAlgolMill$Statement;)V"⟩
abbrev cX14_check : ByteArray := prog_3_method_7_code
def yX14_check : MethodName := ⟨RX14, "check", "(LAlgolMill$Checker;)V"⟩
abbrev cX14_emit : ByteArray := prog_3_method_8_code
def yX14_emit : MethodName := ⟨RX14, "emit", "(LAlgolMill$Coder;)V"⟩
theorem q207 : (Jvm.Cond.initialized "AlgolMill$Block") ∈ lw_all := lw_g (lw_at lw_m1 26 rfl) rfl
theorem q446 : (Jvm.Cond.fieldLink "AlgolMill$Block" (77 : Nat) "AlgolMill$Things" "size" "I") ∈ lw_all := lw_g (lw_at lw_m2 25 rfl) rfl
theorem q884 : (Jvm.Cond.instantiable "AlgolMill$Block" (13 : Nat)) ∈ lw_all := lw_g (lw_at lw_m3 223 rfl) rfl
theorem q886 : (Jvm.Cond.instanceMethod ({ cls := "AlgolMill$Block", name := "<init>", desc := "(LAlgolMill$Routine;LAlgolMill$Block;)V" } : Jvm.MethodName)) ∈ lw_all := lw_g (lw_at lw_m3 225 rfl) rfl
theorem q887 : (Jvm.Cond.code ({ cls := "AlgolMill$Block", name := "<init>", desc := "(LAlgolMill$Routine;LAlgolMill$Block;)V" } : Jvm.MethodName) prog_3_method_1_code (3 : Nat) (Option.none : Option Jvm.ClassFile.FieldType)) ∈ lw_all := lw_g (lw_at lw_m3 226 rfl) rfl
theorem q888 : (Jvm.Cond.methodLinkNest "AlgolMill$Block" (1 : Nat) ({ cls := "AlgolMill$Statement", name := "<init>", desc := "()V" } : Jvm.MethodName) "AlgolMill") ∈ lw_tbl := lw_at lw_m3 227 rfl
theorem q892 : (Jvm.Cond.classLink "AlgolMill$Block" (2 : Nat) "AlgolMill$Statement") ∈ lw_all := lw_g (lw_at lw_m3 231 rfl) rfl
theorem q894 : (Jvm.Cond.classLink "AlgolMill$Block" (13 : Nat) "AlgolMill$Things") ∈ lw_all := lw_g (lw_at lw_m3 233 rfl) rfl
theorem q895 : (Jvm.Cond.methodLinkNest "AlgolMill$Block" (15 : Nat) ({ cls := "AlgolMill$Things", name := "<init>", desc := "()V" } : Jvm.MethodName) "AlgolMill") ∈ lw_tbl := lw_at lw_m3 234 rfl
theorem q896 : (Jvm.Cond.classLink "AlgolMill$Block" (26 : Nat) "AlgolMill$Rows") ∈ lw_all := lw_g (lw_at lw_m3 235 rfl) rfl
theorem q898 : (Jvm.Cond.fieldLink "AlgolMill$Block" (67 : Nat) "AlgolMill$Block" "scope" "LAlgolMill$Scope;") ∈ lw_all := lw_g (lw_at lw_m3 237 rfl) rfl
theorem q900 : (Jvm.Cond.fieldLink "AlgolMill$Block" (7 : Nat) "AlgolMill$Block" "statements" "[LAlgolMill$Statement;") ∈ lw_all := lw_g (lw_at lw_m3 239 rfl) rfl
theorem q901 : (Jvm.Cond.fieldLink "AlgolMill$Block" (40 : Nat) "AlgolMill$Block" "many" "I") ∈ lw_all := lw_g (lw_at lw_m4 0 rfl) rfl
theorem q902 : (Jvm.Cond.fieldLink "AlgolMill$Block" (32 : Nat) "AlgolMill$Block" "home" "LAlgolMill$Routine;") ∈ lw_all := lw_g (lw_at lw_m4 1 rfl) rfl
theorem q903 : (Jvm.Cond.fieldLink "AlgolMill$Block" (16 : Nat) "AlgolMill$Block" "variables" "LAlgolMill$Things;") ∈ lw_all := lw_g (lw_at lw_m4 2 rfl) rfl
theorem q904 : (Jvm.Cond.fieldLink "AlgolMill$Block" (20 : Nat) "AlgolMill$Block" "routines" "LAlgolMill$Things;") ∈ lw_all := lw_g (lw_at lw_m4 3 rfl) rfl
theorem q905 : (Jvm.Cond.fieldLink "AlgolMill$Block" (23 : Nat) "AlgolMill$Block" "switches" "LAlgolMill$Things;") ∈ lw_all := lw_g (lw_at lw_m4 4 rfl) rfl
theorem q906 : (Jvm.Cond.fieldLink "AlgolMill$Block" (28 : Nat) "AlgolMill$Block" "rows" "[LAlgolMill$Rows;") ∈ lw_all := lw_g (lw_at lw_m4 5 rfl) rfl
theorem q907 : (Jvm.Cond.fieldLink "AlgolMill$Block" (44 : Nat) "AlgolMill$Block" "rowMany" "I") ∈ lw_all := lw_g (lw_at lw_m4 6 rfl) rfl
theorem q908 : (Jvm.Cond.fieldLink "AlgolMill$Block" (36 : Nat) "AlgolMill$Block" "around" "LAlgolMill$Block;") ∈ lw_all := lw_g (lw_at lw_m4 7 rfl) rfl
theorem q910 : (Jvm.Cond.fieldLink "AlgolMill$Block" (53 : Nat) "AlgolMill$Block" "mark" "I") ∈ lw_all := lw_g (lw_at lw_m4 9 rfl) rfl
theorem q912 : (Jvm.Cond.fieldLink "AlgolMill$Block" (56 : Nat) "AlgolMill$Block" "before" "I") ∈ lw_all := lw_g (lw_at lw_m4 11 rfl) rfl
theorem q915 : (Jvm.Cond.lays "AlgolMill$Block" "AlgolMill$Block" "scope" "LAlgolMill$Scope;") ∈ lw_all := lw_g (lw_at lw_m4 14 rfl) rfl
theorem q916 : (Jvm.Cond.soleField "AlgolMill$Block" "scope") ∈ lw_all := lw_g (lw_at lw_m4 15 rfl) rfl
theorem q917 : (Jvm.Cond.lays "AlgolMill$Block" "AlgolMill$Block" "statements" "[LAlgolMill$Statement;") ∈ lw_all := lw_g (lw_at lw_m4 16 rfl) rfl
theorem q918 : (Jvm.Cond.soleField "AlgolMill$Block" "statements") ∈ lw_all := lw_g (lw_at lw_m4 17 rfl) rfl
theorem q919 : (Jvm.Cond.lays "AlgolMill$Block" "AlgolMill$Block" "many" "I") ∈ lw_all := lw_g (lw_at lw_m4 18 rfl) rfl
theorem q920 : (Jvm.Cond.soleField "AlgolMill$Block" "many") ∈ lw_all := lw_g (lw_at lw_m4 19 rfl) rfl
theorem q921 : (Jvm.Cond.laysFinal "AlgolMill$Block" "AlgolMill$Block" "home" "LAlgolMill$Routine;") ∈ lw_all := lw_g (lw_at lw_m4 20 rfl) rfl
theorem q922 : (Jvm.Cond.soleField "AlgolMill$Block" "home") ∈ lw_all := lw_g (lw_at lw_m4 21 rfl) rfl
theorem q923 : (Jvm.Cond.laysFinal "AlgolMill$Block" "AlgolMill$Block" "variables" "LAlgolMill$Things;") ∈ lw_all := lw_g (lw_at lw_m4 22 rfl) rfl
theorem q924 : (Jvm.Cond.soleField "AlgolMill$Block" "variables") ∈ lw_all := lw_g (lw_at lw_m4 23 rfl) rfl
theorem q925 : (Jvm.Cond.laysFinal "AlgolMill$Block" "AlgolMill$Block" "routines" "LAlgolMill$Things;") ∈ lw_all := lw_g (lw_at lw_m4 24 rfl) rfl
theorem q926 : (Jvm.Cond.soleField "AlgolMill$Block" "routines") ∈ lw_all := lw_g (lw_at lw_m4 25 rfl) rfl
theorem q927 : (Jvm.Cond.laysFinal "AlgolMill$Block" "AlgolMill$Block" "switches" "LAlgolMill$Things;") ∈ lw_all := lw_g (lw_at lw_m4 26 rfl) rfl
theorem q928 : (Jvm.Cond.soleField "AlgolMill$Block" "switches") ∈ lw_all := lw_g (lw_at lw_m4 27 rfl) rfl
theorem q929 : (Jvm.Cond.lays "AlgolMill$Block" "AlgolMill$Block" "rows" "[LAlgolMill$Rows;") ∈ lw_all := lw_g (lw_at lw_m4 28 rfl) rfl
theorem q930 : (Jvm.Cond.soleField "AlgolMill$Block" "rows") ∈ lw_all := lw_g (lw_at lw_m4 29 rfl) rfl
theorem q931 : (Jvm.Cond.lays "AlgolMill$Block" "AlgolMill$Block" "rowMany" "I") ∈ lw_all := lw_g (lw_at lw_m4 30 rfl) rfl
theorem q932 : (Jvm.Cond.soleField "AlgolMill$Block" "rowMany") ∈ lw_all := lw_g (lw_at lw_m4 31 rfl) rfl
theorem q933 : (Jvm.Cond.laysFinal "AlgolMill$Block" "AlgolMill$Block" "around" "LAlgolMill$Block;") ∈ lw_all := lw_g (lw_at lw_m4 32 rfl) rfl
theorem q934 : (Jvm.Cond.soleField "AlgolMill$Block" "around") ∈ lw_all := lw_g (lw_at lw_m4 33 rfl) rfl
theorem q935 : (Jvm.Cond.lays "AlgolMill$Block" "AlgolMill$Block" "mark" "I") ∈ lw_all := lw_g (lw_at lw_m4 34 rfl) rfl
theorem q936 : (Jvm.Cond.soleField "AlgolMill$Block" "mark") ∈ lw_all := lw_g (lw_at lw_m4 35 rfl) rfl
theorem q937 : (Jvm.Cond.lays "AlgolMill$Block" "AlgolMill$Block" "before" "I") ∈ lw_all := lw_g (lw_at lw_m4 36 rfl) rfl
theorem q938 : (Jvm.Cond.soleField "AlgolMill$Block" "before") ∈ lw_all := lw_g (lw_at lw_m4 37 rfl) rfl
theorem q939 : (Jvm.Cond.lays "AlgolMill$Block" "AlgolMill$Statement" "marks" "LAlgolMill$Things;") ∈ lw_all := lw_g (lw_at lw_m4 38 rfl) rfl
theorem q941 : (Jvm.Cond.superclass "AlgolMill$Block" "AlgolMill$Statement") ∈ lw_all := lw_g (lw_at lw_m4 40 rfl) rfl
theorem q989 : (Jvm.Cond.fieldLink "AlgolMill$Block" (96 : Nat) "AlgolMill$Exprs" "size" "I") ∈ lw_all := lw_g (lw_at lw_m4 88 rfl) rfl
theorem q1040 : (Jvm.Cond.fieldLink "AlgolMill$Block" (122 : Nat) "AlgolMill$Thing" "place" "I") ∈ lw_all := lw_g (lw_at lw_m4 139 rfl) rfl
theorem q1045 : (Jvm.Cond.fieldLink "AlgolMill$Block" (107 : Nat) "AlgolMill$Thing" "routine" "LAlgolMill$Routine;") ∈ lw_all := lw_g (lw_at lw_m4 144 rfl) rfl
theorem q1049 : (Jvm.Cond.fieldLink "AlgolMill$Block" (84 : Nat) "AlgolMill$Thing" "choices" "LAlgolMill$Switch;") ∈ lw_all := lw_g (lw_at lw_m4 148 rfl) rfl
theorem q1284 : (Jvm.Cond.instanceMethod ({ cls := "AlgolMill$Block", name := "add", desc := "(LAlgolMill$Rows;)V" } : Jvm.MethodName)) ∈ lw_all := lw_g (lw_at lw_m5 143 rfl) rfl
theorem q1285 : (Jvm.Cond.selects "AlgolMill$Block" ({ cls := "AlgolMill$Block", name := "add", desc := "(LAlgolMill$Rows;)V" } : Jvm.MethodName) ({ cls := "AlgolMill$Block", name := "add", desc := "(LAlgolMill$Rows;)V" } : Jvm.MethodName)) ∈ lw_all := lw_g (lw_at lw_m5 144 rfl) rfl
theorem q1286 : (Jvm.Cond.code ({ cls := "AlgolMill$Block", name := "add", desc := "(LAlgolMill$Rows;)V" } : Jvm.MethodName) prog_3_method_3_code (4 : Nat) (Option.none : Option Jvm.ClassFile.FieldType)) ∈ lw_all := lw_g (lw_at lw_m5 145 rfl) rfl
theorem q1287 : (Jvm.Cond.methodLink "AlgolMill$Block" (47 : Nat) ({ cls := "AlgolMill$Routine", name := "room", desc := "(I)I" } : Jvm.MethodName)) ∈ lw_all := lw_g (lw_at lw_m5 146 rfl) rfl
theorem q1293 : (Jvm.Cond.instanceMethod ({ cls := "AlgolMill$Block", name := "routine", desc := "(LAlgolMill$Thing;)V" } : Jvm.MethodName)) ∈ lw_all := lw_g (lw_at lw_m5 152 rfl) rfl
theorem q1294 : (Jvm.Cond.selects "AlgolMill$Block" ({ cls := "AlgolMill$Block", name := "routine", desc := "(LAlgolMill$Thing;)V" } : Jvm.MethodName) ({ cls := "AlgolMill$Block", name := "routine", desc := "(LAlgolMill$Thing;)V" } : Jvm.MethodName)) ∈ lw_all := lw_g (lw_at lw_m5 153 rfl) rfl
theorem q1295 : (Jvm.Cond.code ({ cls := "AlgolMill$Block", name := "routine", desc := "(LAlgolMill$Thing;)V" } : Jvm.MethodName) prog_3_method_5_code (2 : Nat) (Option.none : Option Jvm.ClassFile.FieldType)) ∈ lw_all := lw_g (lw_at lw_m5 154 rfl) rfl
theorem q1296 : (Jvm.Cond.methodLink "AlgolMill$Block" (59 : Nat) ({ cls := "AlgolMill$Things", name := "add", desc := "(LAlgolMill$Thing;)V" } : Jvm.MethodName)) ∈ lw_all := lw_g (lw_at lw_m5 155 rfl) rfl
theorem q1529 : (Jvm.Cond.fieldLink "AlgolMill$Block" (90 : Nat) "AlgolMill$Switch" "aims" "LAlgolMill$Exprs;") ∈ lw_all := lw_g (lw_at lw_m6 148 rfl) rfl
theorem q1539 : (Jvm.Cond.instanceMethod ({ cls := "AlgolMill$Block", name := "choices", desc := "(LAlgolMill$Thing;)V" } : Jvm.MethodName)) ∈ lw_all := lw_g (lw_at lw_m6 158 rfl) rfl
theorem q1540 : (Jvm.Cond.selects "AlgolMill$Block" ({ cls := "AlgolMill$Block", name := "choices", desc := "(LAlgolMill$Thing;)V" } : Jvm.MethodName) ({ cls := "AlgolMill$Block", name := "choices", desc := "(LAlgolMill$Thing;)V" } : Jvm.MethodName)) ∈ lw_all := lw_g (lw_at lw_m6 159 rfl) rfl
theorem q1541 : (Jvm.Cond.code ({ cls := "AlgolMill$Block", name := "choices", desc := "(LAlgolMill$Thing;)V" } : Jvm.MethodName) prog_3_method_6_code (2 : Nat) (Option.none : Option Jvm.ClassFile.FieldType)) ∈ lw_all := lw_g (lw_at lw_m6 160 rfl) rfl
theorem q1547 : (Jvm.Cond.instanceMethod ({ cls := "AlgolMill$Block", name := "variable", desc := "(LAlgolMill$Thing;)V" } : Jvm.MethodName)) ∈ lw_all := lw_g (lw_at lw_m6 166 rfl) rfl
theorem q1548 : (Jvm.Cond.selects "AlgolMill$Block" ({ cls := "AlgolMill$Block", name := "variable", desc := "(LAlgolMill$Thing;)V" } : Jvm.MethodName) ({ cls := "AlgolMill$Block", name := "variable", desc := "(LAlgolMill$Thing;)V" } : Jvm.MethodName)) ∈ lw_all := lw_g (lw_at lw_m6 167 rfl) rfl
theorem q1549 : (Jvm.Cond.code ({ cls := "AlgolMill$Block", name := "variable", desc := "(LAlgolMill$Thing;)V" } : Jvm.MethodName) prog_3_method_4_code (2 : Nat) (Option.none : Option Jvm.ClassFile.FieldType)) ∈ lw_all := lw_g (lw_at lw_m6 168 rfl) rfl
theorem q1551 : (Jvm.Cond.instanceMethod ({ cls := "AlgolMill$Block", name := "add", desc := "(LAlgolMill$Statement;)V" } : Jvm.MethodName)) ∈ lw_all := lw_g (lw_at lw_m6 170 rfl) rfl
theorem q1552 : (Jvm.Cond.selects "AlgolMill$Block" ({ cls := "AlgolMill$Block", name := "add", desc := "(LAlgolMill$Statement;)V" } : Jvm.MethodName) ({ cls := "AlgolMill$Block", name := "add", desc := "(LAlgolMill$Statement;)V" } : Jvm.MethodName)) ∈ lw_all := lw_g (lw_at lw_m6 171 rfl) rfl
theorem q1553 : (Jvm.Cond.code ({ cls := "AlgolMill$Block", name := "add", desc := "(LAlgolMill$Statement;)V" } : Jvm.MethodName) prog_3_method_2_code (4 : Nat) (Option.none : Option Jvm.ClassFile.FieldType)) ∈ lw_all := lw_g (lw_at lw_m6 172 rfl) rfl
theorem q1577 : (Jvm.Cond.selects "AlgolMill$Block" ({ cls := "AlgolMill$Statement", name := "check", desc := "(LAlgolMill$Checker;)V" } : Jvm.MethodName) ({ cls := "AlgolMill$Block", name := "check", desc := "(LAlgolMill$Checker;)V" } : Jvm.MethodName)) ∈ lw_all := lw_g (lw_at lw_m6 196 rfl) rfl
theorem q1578 : (Jvm.Cond.instanceMethod ({ cls := "AlgolMill$Block", name := "check", desc := "(LAlgolMill$Checker;)V" } : Jvm.MethodName)) ∈ lw_all := lw_g (lw_at lw_m6 197 rfl) rfl
theorem q1579 : (Jvm.Cond.code ({ cls := "AlgolMill$Block", name := "check", desc := "(LAlgolMill$Checker;)V" } : Jvm.MethodName) prog_3_method_7_code (5 : Nat) (Option.none : Option Jvm.ClassFile.FieldType)) ∈ lw_all := lw_g (lw_at lw_m6 198 rfl) rfl
theorem q1580 : (Jvm.Cond.methodLink "AlgolMill$Block" (63 : Nat) ({ cls := "AlgolMill$Rows", name := "check", desc := "(LAlgolMill$Checker;)V" } : Jvm.MethodName)) ∈ lw_all := lw_g (lw_at lw_m6 199 rfl) rfl
theorem q1718 : (Jvm.Cond.methodLink "AlgolMill$Block" (71 : Nat) ({ cls := "AlgolMill$Checker", name := "enter", desc := "(LAlgolMill$Scope;)V" } : Jvm.MethodName)) ∈ lw_all := lw_g (lw_at lw_m7 97 rfl) rfl
theorem q1722 : (Jvm.Cond.methodLink "AlgolMill$Block" (80 : Nat) ({ cls := "AlgolMill$Things", name := "get", desc := "(I)LAlgolMill$Thing;" } : Jvm.MethodName)) ∈ lw_all := lw_g (lw_at lw_m7 101 rfl) rfl
theorem q1723 : (Jvm.Cond.methodLink "AlgolMill$Block" (99 : Nat) ({ cls := "AlgolMill$Exprs", name := "get", desc := "(I)LAlgolMill$Expr;" } : Jvm.MethodName)) ∈ lw_all := lw_g (lw_at lw_m7 102 rfl) rfl
theorem q1724 : (Jvm.Cond.methodLink "AlgolMill$Block" (102 : Nat) ({ cls := "AlgolMill$Expr", name := "checkAim", desc := "(LAlgolMill$Checker;)V" } : Jvm.MethodName)) ∈ lw_all := lw_g (lw_at lw_m7 103 rfl) rfl
theorem q1725 : (Jvm.Cond.methodLink "AlgolMill$Block" (110 : Nat) ({ cls := "AlgolMill$Checker", name := "routine", desc := "(LAlgolMill$Routine;)V" } : Jvm.MethodName)) ∈ lw_all := lw_g (lw_at lw_m7 104 rfl) rfl
theorem q1781 : (Jvm.Cond.methodLink "AlgolMill$Block" (113 : Nat) ({ cls := "AlgolMill$Statement", name := "check", desc := "(LAlgolMill$Checker;)V" } : Jvm.MethodName)) ∈ lw_all := lw_g (lw_at lw_m7 160 rfl) rfl
theorem q1782 : (Jvm.Cond.methodLink "AlgolMill$Block" (114 : Nat) ({ cls := "AlgolMill$Checker", name := "leave", desc := "()V" } : Jvm.MethodName)) ∈ lw_all := lw_g (lw_at lw_m7 161 rfl) rfl
theorem q1840 : (Jvm.Cond.selects "AlgolMill$Block" ({ cls := "AlgolMill$Statement", name := "emit", desc := "(LAlgolMill$Coder;)V" } : Jvm.MethodName) ({ cls := "AlgolMill$Block", name := "emit", desc := "(LAlgolMill$Coder;)V" } : Jvm.MethodName)) ∈ lw_all := lw_g (lw_at lw_m7 219 rfl) rfl
theorem q1841 : (Jvm.Cond.instanceMethod ({ cls := "AlgolMill$Block", name := "emit", desc := "(LAlgolMill$Coder;)V" } : Jvm.MethodName)) ∈ lw_all := lw_g (lw_at lw_m7 220 rfl) rfl
theorem q1842 : (Jvm.Cond.code ({ cls := "AlgolMill$Block", name := "emit", desc := "(LAlgolMill$Coder;)V" } : Jvm.MethodName) prog_3_method_8_code (3 : Nat) (Option.none : Option Jvm.ClassFile.FieldType)) ∈ lw_all := lw_g (lw_at lw_m7 221 rfl) rfl
theorem q1843 : (Jvm.Cond.methodLink "AlgolMill$Block" (117 : Nat) ({ cls := "AlgolMill$Coder", name := "later", desc := "(LAlgolMill$Thing;)V" } : Jvm.MethodName)) ∈ lw_all := lw_g (lw_at lw_m7 222 rfl) rfl
theorem q1848 : (Jvm.Cond.methodLink "AlgolMill$Block" (125 : Nat) ({ cls := "AlgolMill$Coder", name := "zero", desc := "(I)V" } : Jvm.MethodName)) ∈ lw_all := lw_g (lw_at lw_m7 227 rfl) rfl
theorem q1852 : (Jvm.Cond.methodLink "AlgolMill$Block" (129 : Nat) ({ cls := "AlgolMill$Coder", name := "keepTop", desc := "(I)V" } : Jvm.MethodName)) ∈ lw_all := lw_g (lw_at lw_m7 231 rfl) rfl
theorem q1856 : (Jvm.Cond.methodLink "AlgolMill$Block" (132 : Nat) ({ cls := "AlgolMill$Rows", name := "emit", desc := "(LAlgolMill$Coder;)V" } : Jvm.MethodName)) ∈ lw_all := lw_g (lw_at lw_m7 235 rfl) rfl
theorem q2060 : (Jvm.Cond.methodLink "AlgolMill$Block" (136 : Nat) ({ cls := "AlgolMill$Coder", name := "statement", desc := "(LAlgolMill$Statement;)V" } : Jvm.MethodName)) ∈ lw_all := lw_g (lw_at lw_m8 199 rfl) rfl
theorem q2085 : (Jvm.Cond.selects "AlgolMill$Block" ({ cls := "AlgolMill$Statement", name := "isNothing", desc := "()Z" } : Jvm.MethodName) ({ cls := "AlgolMill$Statement", name := "isNothing", desc := "()Z" } : Jvm.MethodName)) ∈ lw_all := lw_g (lw_at lw_m8 224 rfl) rfl
theorem q2233 : (Jvm.Cond.methodLink "AlgolMill$Block" (140 : Nat) ({ cls := "AlgolMill$Coder", name := "setTop", desc := "(I)V" } : Jvm.MethodName)) ∈ lw_all := lw_g (lw_at lw_m9 132 rfl) rfl
theorem q3401 : (Jvm.Cond.castable "AlgolMill$Block" "AlgolMill$Statement") ∈ lw_tbl := lw_at lw_m14 100 rfl
theorem in_X14 : ∀ w ∈ wsX140, w ∈ lw_all := lw_in wsX140 [939, 915, 917, 919, 921, 923, 925, 927, 929, 931, 933, 935, 937] (by decide +kernel) (by decide +kernel)
/-! AlgolMill$Rows -/
def RX15 : String := "AlgolMill$Rows"
def TX15 : u_T := fun k => match k with
  | 0 => ("AlgolMill$Rows", "things", "LAlgolMill$Things;", true)
  | _ => ("AlgolMill$Rows", "bounds", "LAlgolMill$Exprs;", true)
def tyX15 : Nat → FieldType := fun k => match k with
  | 0 => .object "AlgolMill$Things"
  | _ => .object "AlgolMill$Exprs"
abbrev wsX150 : List Cond := u_ws RX15 TX15 2
theorem nmX15 : ∀ a, a < 2 → ∀ b, b < 2 → a ≠ b → (TX15 a).2.1 ≠ (TX15 b).2.1 := by decide +kernel
theorem tyX15_ok : ∀ k, k < 2 → parseFieldDescriptor (TX15 k).2.2.1 = some (tyX15 k) := by decide +kernel
abbrev cX15_init : ByteArray := prog_27_method_1_code
def yX15_init : MethodName := ⟨RX15, "<init>", "()V"⟩
abbrev cX15_add : ByteArray := prog_27_method_2_code
def yX15_add : MethodName := ⟨RX15, "add", "(LAlgolMill$Thing;)V"⟩
abbrev cX15_bound : ByteArray := prog_27_method_3_code
def yX15_bound : MethodName := ⟨RX15, "bound", "(LAlgolMill$Expr;)V"⟩
abbrev cX15_bounds : ByteArray := prog_27_method_5_code
def yX15_bounds : MethodName := ⟨RX15, "bounds", "()I"⟩
abbrev cX15_finish : ByteArray := prog_27_method_4_code
def yX15_finish : MethodName := ⟨RX15, "finish", "(LAlgolMill$Routine;)V"⟩
abbrev cX15_check : ByteArray := prog_27_method_6_code
def yX15_check : MethodName := ⟨RX15, "check", "(LAlgolMill$Checker;)V"⟩
abbrev cX15_emit : ByteArray := prog_27_method_7_code
def yX15_emit : MethodName := ⟨RX15, "emit", "(LAlgolMill$Coder;)V"⟩
theorem q208 : (Jvm.Cond.initialized "AlgolMill$Rows") ∈ lw_all := lw_g (lw_at lw_m1 27 rfl) rfl
theorem q444 : (Jvm.Cond.fieldLink "AlgolMill$Rows" (30 : Nat) "AlgolMill$Things" "size" "I") ∈ lw_all := lw_g (lw_at lw_m2 23 rfl) rfl
theorem q968 : (Jvm.Cond.instantiable "AlgolMill$Rows" (2 : Nat)) ∈ lw_all := lw_g (lw_at lw_m4 67 rfl) rfl
theorem q970 : (Jvm.Cond.instanceMethod ({ cls := "AlgolMill$Rows", name := "<init>", desc := "()V" } : Jvm.MethodName)) ∈ lw_all := lw_g (lw_at lw_m4 69 rfl) rfl
theorem q971 : (Jvm.Cond.code ({ cls := "AlgolMill$Rows", name := "<init>", desc := "()V" } : Jvm.MethodName) prog_27_method_1_code (1 : Nat) (Option.none : Option Jvm.ClassFile.FieldType)) ∈ lw_all := lw_g (lw_at lw_m4 70 rfl) rfl
theorem q972 : (Jvm.Cond.methodLink "AlgolMill$Rows" (1 : Nat) ({ cls := "java/lang/Object", name := "<init>", desc := "()V" } : Jvm.MethodName)) ∈ lw_all := lw_g (lw_at lw_m4 71 rfl) rfl
theorem q973 : (Jvm.Cond.classLink "AlgolMill$Rows" (7 : Nat) "AlgolMill$Things") ∈ lw_all := lw_g (lw_at lw_m4 72 rfl) rfl
theorem q974 : (Jvm.Cond.methodLinkNest "AlgolMill$Rows" (9 : Nat) ({ cls := "AlgolMill$Things", name := "<init>", desc := "()V" } : Jvm.MethodName) "AlgolMill") ∈ lw_tbl := lw_at lw_m4 73 rfl
theorem q975 : (Jvm.Cond.classLink "AlgolMill$Rows" (16 : Nat) "AlgolMill$Exprs") ∈ lw_all := lw_g (lw_at lw_m4 74 rfl) rfl
theorem q977 : (Jvm.Cond.methodLinkNest "AlgolMill$Rows" (18 : Nat) ({ cls := "AlgolMill$Exprs", name := "<init>", desc := "()V" } : Jvm.MethodName) "AlgolMill") ∈ lw_tbl := lw_at lw_m4 76 rfl
theorem q988 : (Jvm.Cond.fieldLink "AlgolMill$Rows" (38 : Nat) "AlgolMill$Exprs" "size" "I") ∈ lw_all := lw_g (lw_at lw_m4 87 rfl) rfl
theorem q996 : (Jvm.Cond.fieldLink "AlgolMill$Rows" (10 : Nat) "AlgolMill$Rows" "things" "LAlgolMill$Things;") ∈ lw_all := lw_g (lw_at lw_m4 95 rfl) rfl
theorem q997 : (Jvm.Cond.fieldLink "AlgolMill$Rows" (19 : Nat) "AlgolMill$Rows" "bounds" "LAlgolMill$Exprs;") ∈ lw_all := lw_g (lw_at lw_m4 96 rfl) rfl
theorem q998 : (Jvm.Cond.laysFinal "AlgolMill$Rows" "AlgolMill$Rows" "things" "LAlgolMill$Things;") ∈ lw_all := lw_g (lw_at lw_m4 97 rfl) rfl
theorem q999 : (Jvm.Cond.soleField "AlgolMill$Rows" "things") ∈ lw_all := lw_g (lw_at lw_m4 98 rfl) rfl
theorem q1000 : (Jvm.Cond.laysFinal "AlgolMill$Rows" "AlgolMill$Rows" "bounds" "LAlgolMill$Exprs;") ∈ lw_all := lw_g (lw_at lw_m4 99 rfl) rfl
theorem q1001 : (Jvm.Cond.soleField "AlgolMill$Rows" "bounds") ∈ lw_all := lw_g (lw_at lw_m4 100 rfl) rfl
theorem q1002 : (Jvm.Cond.superclass "AlgolMill$Rows" "java/lang/Object") ∈ lw_all := lw_g (lw_at lw_m4 101 rfl) rfl
theorem q1035 : (Jvm.Cond.fieldLink "AlgolMill$Rows" (39 : Nat) "AlgolMill$Thing" "bounds" "I") ∈ lw_all := lw_g (lw_at lw_m4 134 rfl) rfl
theorem q1039 : (Jvm.Cond.fieldLink "AlgolMill$Rows" (49 : Nat) "AlgolMill$Thing" "place" "I") ∈ lw_all := lw_g (lw_at lw_m4 138 rfl) rfl
theorem q1101 : (Jvm.Cond.instanceMethod ({ cls := "AlgolMill$Rows", name := "add", desc := "(LAlgolMill$Thing;)V" } : Jvm.MethodName)) ∈ lw_all := lw_g (lw_at lw_m4 200 rfl) rfl
theorem q1102 : (Jvm.Cond.selects "AlgolMill$Rows" ({ cls := "AlgolMill$Rows", name := "add", desc := "(LAlgolMill$Thing;)V" } : Jvm.MethodName) ({ cls := "AlgolMill$Rows", name := "add", desc := "(LAlgolMill$Thing;)V" } : Jvm.MethodName)) ∈ lw_all := lw_g (lw_at lw_m4 201 rfl) rfl
theorem q1103 : (Jvm.Cond.code ({ cls := "AlgolMill$Rows", name := "add", desc := "(LAlgolMill$Thing;)V" } : Jvm.MethodName) prog_27_method_2_code (2 : Nat) (Option.none : Option Jvm.ClassFile.FieldType)) ∈ lw_all := lw_g (lw_at lw_m4 202 rfl) rfl
theorem q1104 : (Jvm.Cond.methodLink "AlgolMill$Rows" (23 : Nat) ({ cls := "AlgolMill$Things", name := "add", desc := "(LAlgolMill$Thing;)V" } : Jvm.MethodName)) ∈ lw_all := lw_g (lw_at lw_m4 203 rfl) rfl
theorem q1266 : (Jvm.Cond.instanceMethod ({ cls := "AlgolMill$Rows", name := "bound", desc := "(LAlgolMill$Expr;)V" } : Jvm.MethodName)) ∈ lw_all := lw_g (lw_at lw_m5 125 rfl) rfl
theorem q1267 : (Jvm.Cond.selects "AlgolMill$Rows" ({ cls := "AlgolMill$Rows", name := "bound", desc := "(LAlgolMill$Expr;)V" } : Jvm.MethodName) ({ cls := "AlgolMill$Rows", name := "bound", desc := "(LAlgolMill$Expr;)V" } : Jvm.MethodName)) ∈ lw_all := lw_g (lw_at lw_m5 126 rfl) rfl
theorem q1268 : (Jvm.Cond.code ({ cls := "AlgolMill$Rows", name := "bound", desc := "(LAlgolMill$Expr;)V" } : Jvm.MethodName) prog_27_method_3_code (2 : Nat) (Option.none : Option Jvm.ClassFile.FieldType)) ∈ lw_all := lw_g (lw_at lw_m5 127 rfl) rfl
theorem q1269 : (Jvm.Cond.methodLink "AlgolMill$Rows" (27 : Nat) ({ cls := "AlgolMill$Exprs", name := "add", desc := "(LAlgolMill$Expr;)V" } : Jvm.MethodName)) ∈ lw_all := lw_g (lw_at lw_m5 128 rfl) rfl
theorem q1271 : (Jvm.Cond.instanceMethod ({ cls := "AlgolMill$Rows", name := "bounds", desc := "()I" } : Jvm.MethodName)) ∈ lw_all := lw_g (lw_at lw_m5 130 rfl) rfl
theorem q1272 : (Jvm.Cond.selects "AlgolMill$Rows" ({ cls := "AlgolMill$Rows", name := "bounds", desc := "()I" } : Jvm.MethodName) ({ cls := "AlgolMill$Rows", name := "bounds", desc := "()I" } : Jvm.MethodName)) ∈ lw_all := lw_g (lw_at lw_m5 131 rfl) rfl
theorem q1273 : (Jvm.Cond.code ({ cls := "AlgolMill$Rows", name := "bounds", desc := "()I" } : Jvm.MethodName) prog_27_method_5_code (1 : Nat) (Option.some Jvm.ClassFile.FieldType.int)) ∈ lw_all := lw_g (lw_at lw_m5 132 rfl) rfl
theorem q1275 : (Jvm.Cond.instanceMethod ({ cls := "AlgolMill$Rows", name := "finish", desc := "(LAlgolMill$Routine;)V" } : Jvm.MethodName)) ∈ lw_all := lw_g (lw_at lw_m5 134 rfl) rfl
theorem q1276 : (Jvm.Cond.selects "AlgolMill$Rows" ({ cls := "AlgolMill$Rows", name := "finish", desc := "(LAlgolMill$Routine;)V" } : Jvm.MethodName) ({ cls := "AlgolMill$Rows", name := "finish", desc := "(LAlgolMill$Routine;)V" } : Jvm.MethodName)) ∈ lw_all := lw_g (lw_at lw_m5 135 rfl) rfl
theorem q1277 : (Jvm.Cond.code ({ cls := "AlgolMill$Rows", name := "finish", desc := "(LAlgolMill$Routine;)V" } : Jvm.MethodName) prog_27_method_4_code (3 : Nat) (Option.none : Option Jvm.ClassFile.FieldType)) ∈ lw_all := lw_g (lw_at lw_m5 136 rfl) rfl
theorem q1278 : (Jvm.Cond.methodLink "AlgolMill$Rows" (34 : Nat) ({ cls := "AlgolMill$Things", name := "get", desc := "(I)LAlgolMill$Thing;" } : Jvm.MethodName)) ∈ lw_all := lw_g (lw_at lw_m5 137 rfl) rfl
theorem q1279 : (Jvm.Cond.methodLink "AlgolMill$Rows" (43 : Nat) ({ cls := "AlgolMill$Routine", name := "room", desc := "(I)I" } : Jvm.MethodName)) ∈ lw_all := lw_g (lw_at lw_m5 138 rfl) rfl
theorem q1581 : (Jvm.Cond.instanceMethod ({ cls := "AlgolMill$Rows", name := "check", desc := "(LAlgolMill$Checker;)V" } : Jvm.MethodName)) ∈ lw_all := lw_g (lw_at lw_m6 200 rfl) rfl
theorem q1582 : (Jvm.Cond.selects "AlgolMill$Rows" ({ cls := "AlgolMill$Rows", name := "check", desc := "(LAlgolMill$Checker;)V" } : Jvm.MethodName) ({ cls := "AlgolMill$Rows", name := "check", desc := "(LAlgolMill$Checker;)V" } : Jvm.MethodName)) ∈ lw_all := lw_g (lw_at lw_m6 201 rfl) rfl
theorem q1583 : (Jvm.Cond.code ({ cls := "AlgolMill$Rows", name := "check", desc := "(LAlgolMill$Checker;)V" } : Jvm.MethodName) prog_27_method_6_code (3 : Nat) (Option.none : Option Jvm.ClassFile.FieldType)) ∈ lw_all := lw_g (lw_at lw_m6 202 rfl) rfl
theorem q1584 : (Jvm.Cond.methodLink "AlgolMill$Rows" (52 : Nat) ({ cls := "AlgolMill$Exprs", name := "get", desc := "(I)LAlgolMill$Expr;" } : Jvm.MethodName)) ∈ lw_all := lw_g (lw_at lw_m6 203 rfl) rfl
theorem q1588 : (Jvm.Cond.methodLink "AlgolMill$Rows" (55 : Nat) ({ cls := "AlgolMill$Checker", name := "need", desc := "(LAlgolMill$Expr;I)V" } : Jvm.MethodName)) ∈ lw_all := lw_g (lw_at lw_m6 207 rfl) rfl
theorem q1857 : (Jvm.Cond.instanceMethod ({ cls := "AlgolMill$Rows", name := "emit", desc := "(LAlgolMill$Coder;)V" } : Jvm.MethodName)) ∈ lw_all := lw_g (lw_at lw_m7 236 rfl) rfl
theorem q1858 : (Jvm.Cond.selects "AlgolMill$Rows" ({ cls := "AlgolMill$Rows", name := "emit", desc := "(LAlgolMill$Coder;)V" } : Jvm.MethodName) ({ cls := "AlgolMill$Rows", name := "emit", desc := "(LAlgolMill$Coder;)V" } : Jvm.MethodName)) ∈ lw_all := lw_g (lw_at lw_m7 237 rfl) rfl
theorem q1859 : (Jvm.Cond.code ({ cls := "AlgolMill$Rows", name := "emit", desc := "(LAlgolMill$Coder;)V" } : Jvm.MethodName) prog_27_method_7_code (3 : Nat) (Option.none : Option Jvm.ClassFile.FieldType)) ∈ lw_all := lw_g (lw_at lw_m7 238 rfl) rfl
theorem q1860 : (Jvm.Cond.methodLink "AlgolMill$Rows" (61 : Nat) ({ cls := "AlgolMill$Expr", name := "emit", desc := "(LAlgolMill$Coder;)V" } : Jvm.MethodName)) ∈ lw_all := lw_g (lw_at lw_m7 239 rfl) rfl
theorem q2051 : (Jvm.Cond.methodLink "AlgolMill$Rows" (67 : Nat) ({ cls := "AlgolMill$Coder", name := "push", desc := "()V" } : Jvm.MethodName)) ∈ lw_all := lw_g (lw_at lw_m8 190 rfl) rfl
theorem q2052 : (Jvm.Cond.methodLink "AlgolMill$Rows" (72 : Nat) ({ cls := "AlgolMill$Coder", name := "allot", desc := "(II)V" } : Jvm.MethodName)) ∈ lw_all := lw_g (lw_at lw_m8 191 rfl) rfl
theorem q2056 : (Jvm.Cond.methodLink "AlgolMill$Rows" (76 : Nat) ({ cls := "AlgolMill$Coder", name := "drop", desc := "(I)V" } : Jvm.MethodName)) ∈ lw_all := lw_g (lw_at lw_m8 195 rfl) rfl
theorem in_X15 : ∀ w ∈ wsX150, w ∈ lw_all := lw_in wsX150 [998, 1000] (by decide +kernel) (by decide +kernel)
/-! AlgolMill$Exprs -/
def RX16 : String := "AlgolMill$Exprs"
def TX16 : u_T := fun k => match k with
  | 0 => ("AlgolMill$Exprs", "at", "[LAlgolMill$Expr;", false)
  | _ => ("AlgolMill$Exprs", "size", "I", false)
def tyX16 : Nat → FieldType := fun k => match k with
  | 0 => .array (.object "AlgolMill$Expr")
  | _ => .int
abbrev wsX160 : List Cond := u_ws RX16 TX16 2
theorem nmX16 : ∀ a, a < 2 → ∀ b, b < 2 → a ≠ b → (TX16 a).2.1 ≠ (TX16 b).2.1 := by decide +kernel
theorem tyX16_ok : ∀ k, k < 2 → parseFieldDescriptor (TX16 k).2.2.1 = some (tyX16 k) := by decide +kernel
abbrev cX16_init : ByteArray := prog_13_method_1_code
def yX16_init : MethodName := ⟨RX16, "<init>", "()V"⟩
abbrev cX16_add : ByteArray := prog_13_method_3_code
def yX16_add : MethodName := ⟨RX16, "add", "(LAlgolMill$Expr;)V"⟩
abbrev cX16_get : ByteArray := prog_13_method_2_code
def yX16_get : MethodName := ⟨RX16, "get", "(I)LAlgolMill$Expr;"⟩
theorem q209 : (Jvm.Cond.initialized "AlgolMill$Exprs") ∈ lw_all := lw_g (lw_at lw_m1 28 rfl) rfl
theorem q976 : (Jvm.Cond.instantiable "AlgolMill$Exprs" (2 : Nat)) ∈ lw_all := lw_g (lw_at lw_m4 75 rfl) rfl
theorem q978 : (Jvm.Cond.instanceMethod ({ cls := "AlgolMill$Exprs", name := "<init>", desc := "()V" } : Jvm.MethodName)) ∈ lw_all := lw_g (lw_at lw_m4 77 rfl) rfl
theorem q979 : (Jvm.Cond.code ({ cls := "AlgolMill$Exprs", name := "<init>", desc := "()V" } : Jvm.MethodName) prog_13_method_1_code (1 : Nat) (Option.none : Option Jvm.ClassFile.FieldType)) ∈ lw_all := lw_g (lw_at lw_m4 78 rfl) rfl
theorem q980 : (Jvm.Cond.methodLink "AlgolMill$Exprs" (1 : Nat) ({ cls := "java/lang/Object", name := "<init>", desc := "()V" } : Jvm.MethodName)) ∈ lw_all := lw_g (lw_at lw_m4 79 rfl) rfl
theorem q981 : (Jvm.Cond.classLink "AlgolMill$Exprs" (7 : Nat) "AlgolMill$Expr") ∈ lw_all := lw_g (lw_at lw_m4 80 rfl) rfl
theorem q983 : (Jvm.Cond.fieldLink "AlgolMill$Exprs" (9 : Nat) "AlgolMill$Exprs" "at" "[LAlgolMill$Expr;") ∈ lw_all := lw_g (lw_at lw_m4 82 rfl) rfl
theorem q984 : (Jvm.Cond.fieldLink "AlgolMill$Exprs" (15 : Nat) "AlgolMill$Exprs" "size" "I") ∈ lw_all := lw_g (lw_at lw_m4 83 rfl) rfl
theorem q991 : (Jvm.Cond.lays "AlgolMill$Exprs" "AlgolMill$Exprs" "at" "[LAlgolMill$Expr;") ∈ lw_all := lw_g (lw_at lw_m4 90 rfl) rfl
theorem q992 : (Jvm.Cond.soleField "AlgolMill$Exprs" "at") ∈ lw_all := lw_g (lw_at lw_m4 91 rfl) rfl
theorem q993 : (Jvm.Cond.lays "AlgolMill$Exprs" "AlgolMill$Exprs" "size" "I") ∈ lw_all := lw_g (lw_at lw_m4 92 rfl) rfl
theorem q994 : (Jvm.Cond.soleField "AlgolMill$Exprs" "size") ∈ lw_all := lw_g (lw_at lw_m4 93 rfl) rfl
theorem q995 : (Jvm.Cond.superclass "AlgolMill$Exprs" "java/lang/Object") ∈ lw_all := lw_g (lw_at lw_m4 94 rfl) rfl
theorem q1203 : (Jvm.Cond.instanceMethod ({ cls := "AlgolMill$Exprs", name := "add", desc := "(LAlgolMill$Expr;)V" } : Jvm.MethodName)) ∈ lw_all := lw_g (lw_at lw_m5 62 rfl) rfl
theorem q1204 : (Jvm.Cond.selects "AlgolMill$Exprs" ({ cls := "AlgolMill$Exprs", name := "add", desc := "(LAlgolMill$Expr;)V" } : Jvm.MethodName) ({ cls := "AlgolMill$Exprs", name := "add", desc := "(LAlgolMill$Expr;)V" } : Jvm.MethodName)) ∈ lw_all := lw_g (lw_at lw_m5 63 rfl) rfl
theorem q1205 : (Jvm.Cond.code ({ cls := "AlgolMill$Exprs", name := "add", desc := "(LAlgolMill$Expr;)V" } : Jvm.MethodName) prog_13_method_3_code (4 : Nat) (Option.none : Option Jvm.ClassFile.FieldType)) ∈ lw_all := lw_g (lw_at lw_m5 64 rfl) rfl
theorem q1585 : (Jvm.Cond.instanceMethod ({ cls := "AlgolMill$Exprs", name := "get", desc := "(I)LAlgolMill$Expr;" } : Jvm.MethodName)) ∈ lw_all := lw_g (lw_at lw_m6 204 rfl) rfl
theorem q1586 : (Jvm.Cond.selects "AlgolMill$Exprs" ({ cls := "AlgolMill$Exprs", name := "get", desc := "(I)LAlgolMill$Expr;" } : Jvm.MethodName) ({ cls := "AlgolMill$Exprs", name := "get", desc := "(I)LAlgolMill$Expr;" } : Jvm.MethodName)) ∈ lw_all := lw_g (lw_at lw_m6 205 rfl) rfl
theorem q1587 : (Jvm.Cond.code ({ cls := "AlgolMill$Exprs", name := "get", desc := "(I)LAlgolMill$Expr;" } : Jvm.MethodName) prog_13_method_2_code (2 : Nat) (Option.some (Jvm.ClassFile.FieldType.object "AlgolMill$Expr"))) ∈ lw_all := lw_g (lw_at lw_m6 206 rfl) rfl
theorem in_X16 : ∀ w ∈ wsX160, w ∈ lw_all := lw_in wsX160 [991, 993] (by decide +kernel) (by decide +kernel)
/-! AlgolMill$Thing -/
def RX17 : String := "AlgolMill$Thing"
def TX17 : u_T := fun k => match k with
  | 0 => ("AlgolMill$Thing", "token", "I", true)
  | 1 => ("AlgolMill$Thing", "sort", "I", false)
  | 2 => ("AlgolMill$Thing", "type", "I", false)
  | 3 => ("AlgolMill$Thing", "formal", "Z", false)
  | 4 => ("AlgolMill$Thing", "byValue", "Z", false)
  | 5 => ("AlgolMill$Thing", "own", "Z", false)
  | 6 => ("AlgolMill$Thing", "bounds", "I", false)
  | 7 => ("AlgolMill$Thing", "home", "LAlgolMill$Routine;", false)
  | 8 => ("AlgolMill$Thing", "place", "I", false)
  | 9 => ("AlgolMill$Thing", "routine", "LAlgolMill$Routine;", false)
  | 10 => ("AlgolMill$Thing", "choices", "LAlgolMill$Switch;", false)
  | 11 => ("AlgolMill$Thing", "address", "I", false)
  | _ => ("AlgolMill$Thing", "block", "LAlgolMill$Block;", false)
def tyX17 : Nat → FieldType := fun k => match k with
  | 0 => .int
  | 1 => .int
  | 2 => .int
  | 3 => .boolean
  | 4 => .boolean
  | 5 => .boolean
  | 6 => .int
  | 7 => .object "AlgolMill$Routine"
  | 8 => .int
  | 9 => .object "AlgolMill$Routine"
  | 10 => .object "AlgolMill$Switch"
  | 11 => .int
  | _ => .object "AlgolMill$Block"
abbrev wsX170 : List Cond := u_ws RX17 TX17 13
theorem nmX17 : ∀ a, a < 13 → ∀ b, b < 13 → a ≠ b → (TX17 a).2.1 ≠ (TX17 b).2.1 := by decide +kernel
theorem tyX17_ok : ∀ k, k < 13 → parseFieldDescriptor (TX17 k).2.2.1 = some (tyX17 k) := by decide +kernel
abbrev cX17_init : ByteArray := prog_33_method_1_code
def yX17_init : MethodName := ⟨RX17, "<init>", "(III)V"⟩
theorem q210 : (Jvm.Cond.initialized "AlgolMill$Thing") ∈ lw_all := lw_g (lw_at lw_m1 29 rfl) rfl
theorem q1008 : (Jvm.Cond.instantiable "AlgolMill$Thing" (13 : Nat)) ∈ lw_all := lw_g (lw_at lw_m4 107 rfl) rfl
theorem q1010 : (Jvm.Cond.instanceMethod ({ cls := "AlgolMill$Thing", name := "<init>", desc := "(III)V" } : Jvm.MethodName)) ∈ lw_all := lw_g (lw_at lw_m4 109 rfl) rfl
theorem q1011 : (Jvm.Cond.code ({ cls := "AlgolMill$Thing", name := "<init>", desc := "(III)V" } : Jvm.MethodName) prog_33_method_1_code (4 : Nat) (Option.none : Option Jvm.ClassFile.FieldType)) ∈ lw_all := lw_g (lw_at lw_m4 110 rfl) rfl
theorem q1012 : (Jvm.Cond.methodLink "AlgolMill$Thing" (1 : Nat) ({ cls := "java/lang/Object", name := "<init>", desc := "()V" } : Jvm.MethodName)) ∈ lw_all := lw_g (lw_at lw_m4 111 rfl) rfl
theorem q1013 : (Jvm.Cond.fieldLink "AlgolMill$Thing" (7 : Nat) "AlgolMill$Thing" "token" "I") ∈ lw_all := lw_g (lw_at lw_m4 112 rfl) rfl
theorem q1016 : (Jvm.Cond.fieldLink "AlgolMill$Thing" (13 : Nat) "AlgolMill$Thing" "sort" "I") ∈ lw_all := lw_g (lw_at lw_m4 115 rfl) rfl
theorem q1021 : (Jvm.Cond.fieldLink "AlgolMill$Thing" (16 : Nat) "AlgolMill$Thing" "type" "I") ∈ lw_all := lw_g (lw_at lw_m4 120 rfl) rfl
theorem q1056 : (Jvm.Cond.laysFinal "AlgolMill$Thing" "AlgolMill$Thing" "token" "I") ∈ lw_all := lw_g (lw_at lw_m4 155 rfl) rfl
theorem q1057 : (Jvm.Cond.soleField "AlgolMill$Thing" "token") ∈ lw_all := lw_g (lw_at lw_m4 156 rfl) rfl
theorem q1058 : (Jvm.Cond.lays "AlgolMill$Thing" "AlgolMill$Thing" "sort" "I") ∈ lw_all := lw_g (lw_at lw_m4 157 rfl) rfl
theorem q1059 : (Jvm.Cond.soleField "AlgolMill$Thing" "sort") ∈ lw_all := lw_g (lw_at lw_m4 158 rfl) rfl
theorem q1060 : (Jvm.Cond.lays "AlgolMill$Thing" "AlgolMill$Thing" "type" "I") ∈ lw_all := lw_g (lw_at lw_m4 159 rfl) rfl
theorem q1061 : (Jvm.Cond.soleField "AlgolMill$Thing" "type") ∈ lw_all := lw_g (lw_at lw_m4 160 rfl) rfl
theorem q1062 : (Jvm.Cond.lays "AlgolMill$Thing" "AlgolMill$Thing" "formal" "Z") ∈ lw_all := lw_g (lw_at lw_m4 161 rfl) rfl
theorem q1063 : (Jvm.Cond.soleField "AlgolMill$Thing" "formal") ∈ lw_all := lw_g (lw_at lw_m4 162 rfl) rfl
theorem q1064 : (Jvm.Cond.lays "AlgolMill$Thing" "AlgolMill$Thing" "byValue" "Z") ∈ lw_all := lw_g (lw_at lw_m4 163 rfl) rfl
theorem q1065 : (Jvm.Cond.soleField "AlgolMill$Thing" "byValue") ∈ lw_all := lw_g (lw_at lw_m4 164 rfl) rfl
theorem q1066 : (Jvm.Cond.lays "AlgolMill$Thing" "AlgolMill$Thing" "own" "Z") ∈ lw_all := lw_g (lw_at lw_m4 165 rfl) rfl
theorem q1067 : (Jvm.Cond.soleField "AlgolMill$Thing" "own") ∈ lw_all := lw_g (lw_at lw_m4 166 rfl) rfl
theorem q1068 : (Jvm.Cond.lays "AlgolMill$Thing" "AlgolMill$Thing" "bounds" "I") ∈ lw_all := lw_g (lw_at lw_m4 167 rfl) rfl
theorem q1069 : (Jvm.Cond.soleField "AlgolMill$Thing" "bounds") ∈ lw_all := lw_g (lw_at lw_m4 168 rfl) rfl
theorem q1070 : (Jvm.Cond.lays "AlgolMill$Thing" "AlgolMill$Thing" "home" "LAlgolMill$Routine;") ∈ lw_all := lw_g (lw_at lw_m4 169 rfl) rfl
theorem q1071 : (Jvm.Cond.soleField "AlgolMill$Thing" "home") ∈ lw_all := lw_g (lw_at lw_m4 170 rfl) rfl
theorem q1072 : (Jvm.Cond.lays "AlgolMill$Thing" "AlgolMill$Thing" "place" "I") ∈ lw_all := lw_g (lw_at lw_m4 171 rfl) rfl
theorem q1073 : (Jvm.Cond.soleField "AlgolMill$Thing" "place") ∈ lw_all := lw_g (lw_at lw_m4 172 rfl) rfl
theorem q1074 : (Jvm.Cond.lays "AlgolMill$Thing" "AlgolMill$Thing" "routine" "LAlgolMill$Routine;") ∈ lw_all := lw_g (lw_at lw_m4 173 rfl) rfl
theorem q1075 : (Jvm.Cond.soleField "AlgolMill$Thing" "routine") ∈ lw_all := lw_g (lw_at lw_m4 174 rfl) rfl
theorem q1076 : (Jvm.Cond.lays "AlgolMill$Thing" "AlgolMill$Thing" "choices" "LAlgolMill$Switch;") ∈ lw_all := lw_g (lw_at lw_m4 175 rfl) rfl
theorem q1077 : (Jvm.Cond.soleField "AlgolMill$Thing" "choices") ∈ lw_all := lw_g (lw_at lw_m4 176 rfl) rfl
theorem q1078 : (Jvm.Cond.lays "AlgolMill$Thing" "AlgolMill$Thing" "address" "I") ∈ lw_all := lw_g (lw_at lw_m4 177 rfl) rfl
theorem q1079 : (Jvm.Cond.soleField "AlgolMill$Thing" "address") ∈ lw_all := lw_g (lw_at lw_m4 178 rfl) rfl
theorem q1080 : (Jvm.Cond.lays "AlgolMill$Thing" "AlgolMill$Thing" "block" "LAlgolMill$Block;") ∈ lw_all := lw_g (lw_at lw_m4 179 rfl) rfl
theorem q1081 : (Jvm.Cond.soleField "AlgolMill$Thing" "block") ∈ lw_all := lw_g (lw_at lw_m4 180 rfl) rfl
theorem q1082 : (Jvm.Cond.superclass "AlgolMill$Thing" "java/lang/Object") ∈ lw_all := lw_g (lw_at lw_m4 181 rfl) rfl
theorem in_X17 : ∀ w ∈ wsX170, w ∈ lw_all := lw_in wsX170 [1056, 1058, 1060, 1062, 1064, 1066, 1068, 1070, 1072, 1074, 1076, 1078, 1080] (by decide +kernel) (by decide +kernel)
/-! AlgolMill$Expr -/
def RX18 : String := "AlgolMill$Expr"
abbrev cX18_init : ByteArray := prog_12_method_1_code
def yX18_init : MethodName := ⟨RX18, "<init>", "(I)V"⟩
abbrev cX18_checkAim : ByteArray := prog_12_method_3_code
def yX18_checkAim : MethodName := ⟨RX18, "checkAim", "(LAlgolMill$Checker;)V"⟩
abbrev cX18_looksAim : ByteArray := prog_12_method_4_code
def yX18_looksAim : MethodName := ⟨RX18, "looksAim", "()Z"⟩
abbrev cX18_checkNames : ByteArray := prog_12_method_5_code
def yX18_checkNames : MethodName := ⟨RX18, "checkNames", "(LAlgolMill$Checker;)V"⟩
abbrev cX18_isElement : ByteArray := prog_12_method_9_code
def yX18_isElement : MethodName := ⟨RX18, "isElement", "()Z"⟩
abbrev cX18_isPlace : ByteArray := prog_12_method_8_code
def yX18_isPlace : MethodName := ⟨RX18, "isPlace", "()Z"⟩
abbrev cX18_emitAim : ByteArray := prog_12_method_7_code
def yX18_emitAim : MethodName := ⟨RX18, "emitAim", "(LAlgolMill$Coder;)V"⟩
abbrev cX18_emitPlace : ByteArray := prog_12_method_10_code
def yX18_emitPlace : MethodName := ⟨RX18, "emitPlace", "(LAlgolMill$Coder;)V"⟩
theorem q211 : (Jvm.Cond.initialized "AlgolMill$Expr") ∈ lw_all := lw_g (lw_at lw_m1 30 rfl) rfl
theorem q1127 : (Jvm.Cond.instanceMethod ({ cls := "AlgolMill$Expr", name := "<init>", desc := "(I)V" } : Jvm.MethodName)) ∈ lw_all := lw_g (lw_at lw_m4 226 rfl) rfl
theorem q1128 : (Jvm.Cond.code ({ cls := "AlgolMill$Expr", name := "<init>", desc := "(I)V" } : Jvm.MethodName) prog_12_method_1_code (2 : Nat) (Option.none : Option Jvm.ClassFile.FieldType)) ∈ lw_all := lw_g (lw_at lw_m4 227 rfl) rfl
theorem q1129 : (Jvm.Cond.methodLink "AlgolMill$Expr" (1 : Nat) ({ cls := "java/lang/Object", name := "<init>", desc := "()V" } : Jvm.MethodName)) ∈ lw_all := lw_g (lw_at lw_m4 228 rfl) rfl
theorem q1133 : (Jvm.Cond.fieldLink "AlgolMill$Expr" (7 : Nat) "AlgolMill$Expr" "token" "I") ∈ lw_all := lw_g (lw_at lw_m4 232 rfl) rfl
theorem q1146 : (Jvm.Cond.soleField "AlgolMill$Expr" "token") ∈ lw_all := lw_g (lw_at lw_m5 5 rfl) rfl
theorem q1593 : (Jvm.Cond.declares ({ cls := "AlgolMill$Expr", name := "check", desc := "(LAlgolMill$Checker;)I" } : Jvm.MethodName)) ∈ lw_tbl := lw_at lw_m6 212 rfl
theorem q1594 : (Jvm.Cond.sameMethod "AlgolMill$Expr" "AlgolMill$Expr" "check" "(LAlgolMill$Checker;)I") ∈ lw_all := lw_g (lw_at lw_m6 213 rfl) rfl
theorem q1639 : (Jvm.Cond.instanceMethod ({ cls := "AlgolMill$Expr", name := "checkAim", desc := "(LAlgolMill$Checker;)V" } : Jvm.MethodName)) ∈ lw_all := lw_g (lw_at lw_m7 18 rfl) rfl
theorem q1640 : (Jvm.Cond.sameMethod "AlgolMill$Expr" "AlgolMill$Expr" "checkAim" "(LAlgolMill$Checker;)V") ∈ lw_all := lw_g (lw_at lw_m7 19 rfl) rfl
theorem q1656 : (Jvm.Cond.code ({ cls := "AlgolMill$Expr", name := "checkAim", desc := "(LAlgolMill$Checker;)V" } : Jvm.MethodName) prog_12_method_3_code (3 : Nat) (Option.none : Option Jvm.ClassFile.FieldType)) ∈ lw_all := lw_g (lw_at lw_m7 35 rfl) rfl
theorem q1657 : (Jvm.Cond.methodLink "AlgolMill$Expr" (13 : Nat) ({ cls := "AlgolMill$Expr", name := "check", desc := "(LAlgolMill$Checker;)I" } : Jvm.MethodName)) ∈ lw_all := lw_g (lw_at lw_m7 36 rfl) rfl
theorem q1661 : (Jvm.Cond.methodLink "AlgolMill$Expr" (17 : Nat) ({ cls := "AlgolMill$Checker", name := "fault", desc := "(II)V" } : Jvm.MethodName)) ∈ lw_all := lw_g (lw_at lw_m7 40 rfl) rfl
theorem q1667 : (Jvm.Cond.instanceMethod ({ cls := "AlgolMill$Expr", name := "looksAim", desc := "()Z" } : Jvm.MethodName)) ∈ lw_all := lw_g (lw_at lw_m7 46 rfl) rfl
theorem q1668 : (Jvm.Cond.sameMethod "AlgolMill$Expr" "AlgolMill$Expr" "looksAim" "()Z") ∈ lw_all := lw_g (lw_at lw_m7 47 rfl) rfl
theorem q1683 : (Jvm.Cond.code ({ cls := "AlgolMill$Expr", name := "looksAim", desc := "()Z" } : Jvm.MethodName) prog_12_method_4_code (1 : Nat) (Option.some Jvm.ClassFile.FieldType.boolean)) ∈ lw_all := lw_g (lw_at lw_m7 62 rfl) rfl
theorem q1685 : (Jvm.Cond.instanceMethod ({ cls := "AlgolMill$Expr", name := "checkNames", desc := "(LAlgolMill$Checker;)V" } : Jvm.MethodName)) ∈ lw_all := lw_g (lw_at lw_m7 64 rfl) rfl
theorem q1686 : (Jvm.Cond.sameMethod "AlgolMill$Expr" "AlgolMill$Expr" "checkNames" "(LAlgolMill$Checker;)V") ∈ lw_all := lw_g (lw_at lw_m7 65 rfl) rfl
theorem q1701 : (Jvm.Cond.code ({ cls := "AlgolMill$Expr", name := "checkNames", desc := "(LAlgolMill$Checker;)V" } : Jvm.MethodName) prog_12_method_5_code (2 : Nat) (Option.none : Option Jvm.ClassFile.FieldType)) ∈ lw_all := lw_g (lw_at lw_m7 80 rfl) rfl
theorem q1861 : (Jvm.Cond.declares ({ cls := "AlgolMill$Expr", name := "emit", desc := "(LAlgolMill$Coder;)V" } : Jvm.MethodName)) ∈ lw_tbl := lw_at lw_m8 0 rfl
theorem q1862 : (Jvm.Cond.sameMethod "AlgolMill$Expr" "AlgolMill$Expr" "emit" "(LAlgolMill$Coder;)V") ∈ lw_all := lw_g (lw_at lw_m8 1 rfl) rfl
theorem q1935 : (Jvm.Cond.instanceMethod ({ cls := "AlgolMill$Expr", name := "isElement", desc := "()Z" } : Jvm.MethodName)) ∈ lw_all := lw_g (lw_at lw_m8 74 rfl) rfl
theorem q1936 : (Jvm.Cond.sameMethod "AlgolMill$Expr" "AlgolMill$Expr" "isElement" "()Z") ∈ lw_all := lw_g (lw_at lw_m8 75 rfl) rfl
theorem q1945 : (Jvm.Cond.code ({ cls := "AlgolMill$Expr", name := "isElement", desc := "()Z" } : Jvm.MethodName) prog_12_method_9_code (1 : Nat) (Option.some Jvm.ClassFile.FieldType.boolean)) ∈ lw_all := lw_g (lw_at lw_m8 84 rfl) rfl
theorem q1976 : (Jvm.Cond.instanceMethod ({ cls := "AlgolMill$Expr", name := "isPlace", desc := "()Z" } : Jvm.MethodName)) ∈ lw_all := lw_g (lw_at lw_m8 115 rfl) rfl
theorem q1977 : (Jvm.Cond.sameMethod "AlgolMill$Expr" "AlgolMill$Expr" "isPlace" "()Z") ∈ lw_all := lw_g (lw_at lw_m8 116 rfl) rfl
theorem q1986 : (Jvm.Cond.code ({ cls := "AlgolMill$Expr", name := "isPlace", desc := "()Z" } : Jvm.MethodName) prog_12_method_8_code (1 : Nat) (Option.some Jvm.ClassFile.FieldType.boolean)) ∈ lw_all := lw_g (lw_at lw_m8 125 rfl) rfl
theorem q2117 : (Jvm.Cond.instanceMethod ({ cls := "AlgolMill$Expr", name := "emitAim", desc := "(LAlgolMill$Coder;)V" } : Jvm.MethodName)) ∈ lw_all := lw_g (lw_at lw_m9 16 rfl) rfl
theorem q2118 : (Jvm.Cond.sameMethod "AlgolMill$Expr" "AlgolMill$Expr" "emitAim" "(LAlgolMill$Coder;)V") ∈ lw_all := lw_g (lw_at lw_m9 17 rfl) rfl
theorem q2141 : (Jvm.Cond.code ({ cls := "AlgolMill$Expr", name := "emitAim", desc := "(LAlgolMill$Coder;)V" } : Jvm.MethodName) prog_12_method_7_code (2 : Nat) (Option.none : Option Jvm.ClassFile.FieldType)) ∈ lw_all := lw_g (lw_at lw_m9 40 rfl) rfl
theorem q2142 : (Jvm.Cond.classLink "AlgolMill$Expr" (23 : Nat) "java/lang/IllegalStateException") ∈ lw_all := lw_g (lw_at lw_m9 41 rfl) rfl
theorem q2143 : (Jvm.Cond.methodLink "AlgolMill$Expr" (25 : Nat) ({ cls := "java/lang/IllegalStateException", name := "<init>", desc := "()V" } : Jvm.MethodName)) ∈ lw_all := lw_g (lw_at lw_m9 42 rfl) rfl
theorem q2220 : (Jvm.Cond.instanceMethod ({ cls := "AlgolMill$Expr", name := "emitPlace", desc := "(LAlgolMill$Coder;)V" } : Jvm.MethodName)) ∈ lw_all := lw_g (lw_at lw_m9 119 rfl) rfl
theorem q2221 : (Jvm.Cond.sameMethod "AlgolMill$Expr" "AlgolMill$Expr" "emitPlace" "(LAlgolMill$Coder;)V") ∈ lw_all := lw_g (lw_at lw_m9 120 rfl) rfl
theorem q2228 : (Jvm.Cond.code ({ cls := "AlgolMill$Expr", name := "emitPlace", desc := "(LAlgolMill$Coder;)V" } : Jvm.MethodName) prog_12_method_10_code (2 : Nat) (Option.none : Option Jvm.ClassFile.FieldType)) ∈ lw_all := lw_g (lw_at lw_m9 127 rfl) rfl
theorem q2229 : (Jvm.Cond.methodLink "AlgolMill$Expr" (26 : Nat) ({ cls := "AlgolMill$Coder", name := "error", desc := "(I)V" } : Jvm.MethodName)) ∈ lw_all := lw_g (lw_at lw_m9 128 rfl) rfl
/-! AlgolMill$Before -/
def RX19 : String := "AlgolMill$Before"
def TX19 : u_T := fun k => match k with
  | 0 => ("AlgolMill$Expr", "token", "I", true)
  | 1 => ("AlgolMill$Before", "op", "I", true)
  | _ => ("AlgolMill$Before", "first", "LAlgolMill$Expr;", true)
def tyX19 : Nat → FieldType := fun k => match k with
  | 0 => .int
  | 1 => .int
  | _ => .object "AlgolMill$Expr"
abbrev wsX190 : List Cond := u_ws RX19 TX19 3
theorem nmX19 : ∀ a, a < 3 → ∀ b, b < 3 → a ≠ b → (TX19 a).2.1 ≠ (TX19 b).2.1 := by decide +kernel
theorem tyX19_ok : ∀ k, k < 3 → parseFieldDescriptor (TX19 k).2.2.1 = some (tyX19 k) := by decide +kernel
abbrev cX19_init : ByteArray := prog_2_method_1_code
def yX19_init : MethodName := ⟨RX19, "<init>", "(IILAlgolMill$Expr;)V"⟩
abbrev cX19_check : ByteArray := prog_2_method_2_code
def yX19_check : MethodName := ⟨RX19, "check", "(LAlgolMill$Checker;)I"⟩
abbrev cX19_emit : ByteArray := prog_2_method_3_code
def yX19_emit : MethodName := ⟨RX19, "emit", "(LAlgolMill$Coder;)V"⟩
theorem q212 : (Jvm.Cond.initialized "AlgolMill$Before") ∈ lw_all := lw_g (lw_at lw_m1 31 rfl) rfl
theorem q1122 : (Jvm.Cond.instantiable "AlgolMill$Before" (3 : Nat)) ∈ lw_all := lw_g (lw_at lw_m4 221 rfl) rfl
theorem q1124 : (Jvm.Cond.instanceMethod ({ cls := "AlgolMill$Before", name := "<init>", desc := "(IILAlgolMill$Expr;)V" } : Jvm.MethodName)) ∈ lw_all := lw_g (lw_at lw_m4 223 rfl) rfl
theorem q1125 : (Jvm.Cond.code ({ cls := "AlgolMill$Before", name := "<init>", desc := "(IILAlgolMill$Expr;)V" } : Jvm.MethodName) prog_2_method_1_code (4 : Nat) (Option.none : Option Jvm.ClassFile.FieldType)) ∈ lw_all := lw_g (lw_at lw_m4 224 rfl) rfl
theorem q1126 : (Jvm.Cond.methodLink "AlgolMill$Before" (3 : Nat) ({ cls := "AlgolMill$Expr", name := "<init>", desc := "(I)V" } : Jvm.MethodName)) ∈ lw_all := lw_g (lw_at lw_m4 225 rfl) rfl
theorem q1130 : (Jvm.Cond.fieldLink "AlgolMill$Before" (9 : Nat) "AlgolMill$Before" "op" "I") ∈ lw_all := lw_g (lw_at lw_m4 229 rfl) rfl
theorem q1131 : (Jvm.Cond.fieldLink "AlgolMill$Before" (15 : Nat) "AlgolMill$Before" "first" "LAlgolMill$Expr;") ∈ lw_all := lw_g (lw_at lw_m4 230 rfl) rfl
theorem q1141 : (Jvm.Cond.laysFinal "AlgolMill$Before" "AlgolMill$Before" "op" "I") ∈ lw_all := lw_g (lw_at lw_m5 0 rfl) rfl
theorem q1142 : (Jvm.Cond.soleField "AlgolMill$Before" "op") ∈ lw_all := lw_g (lw_at lw_m5 1 rfl) rfl
theorem q1143 : (Jvm.Cond.laysFinal "AlgolMill$Before" "AlgolMill$Before" "first" "LAlgolMill$Expr;") ∈ lw_all := lw_g (lw_at lw_m5 2 rfl) rfl
theorem q1144 : (Jvm.Cond.soleField "AlgolMill$Before" "first") ∈ lw_all := lw_g (lw_at lw_m5 3 rfl) rfl
theorem q1145 : (Jvm.Cond.laysFinal "AlgolMill$Before" "AlgolMill$Expr" "token" "I") ∈ lw_all := lw_g (lw_at lw_m5 4 rfl) rfl
theorem q1147 : (Jvm.Cond.superclass "AlgolMill$Before" "AlgolMill$Expr") ∈ lw_all := lw_g (lw_at lw_m5 6 rfl) rfl
theorem q1595 : (Jvm.Cond.selects "AlgolMill$Before" ({ cls := "AlgolMill$Expr", name := "check", desc := "(LAlgolMill$Checker;)I" } : Jvm.MethodName) ({ cls := "AlgolMill$Before", name := "check", desc := "(LAlgolMill$Checker;)I" } : Jvm.MethodName)) ∈ lw_all := lw_g (lw_at lw_m6 214 rfl) rfl
theorem q1596 : (Jvm.Cond.instanceMethod ({ cls := "AlgolMill$Before", name := "check", desc := "(LAlgolMill$Checker;)I" } : Jvm.MethodName)) ∈ lw_all := lw_g (lw_at lw_m6 215 rfl) rfl
theorem q1597 : (Jvm.Cond.code ({ cls := "AlgolMill$Before", name := "check", desc := "(LAlgolMill$Checker;)I" } : Jvm.MethodName) prog_2_method_2_code (3 : Nat) (Option.some Jvm.ClassFile.FieldType.int)) ∈ lw_all := lw_g (lw_at lw_m6 216 rfl) rfl
theorem q1598 : (Jvm.Cond.methodLink "AlgolMill$Before" (19 : Nat) ({ cls := "AlgolMill$Checker", name := "need", desc := "(LAlgolMill$Expr;I)V" } : Jvm.MethodName)) ∈ lw_all := lw_g (lw_at lw_m6 217 rfl) rfl
theorem q1641 : (Jvm.Cond.selects "AlgolMill$Before" ({ cls := "AlgolMill$Expr", name := "checkAim", desc := "(LAlgolMill$Checker;)V" } : Jvm.MethodName) ({ cls := "AlgolMill$Expr", name := "checkAim", desc := "(LAlgolMill$Checker;)V" } : Jvm.MethodName)) ∈ lw_all := lw_g (lw_at lw_m7 20 rfl) rfl
theorem q1669 : (Jvm.Cond.selects "AlgolMill$Before" ({ cls := "AlgolMill$Expr", name := "looksAim", desc := "()Z" } : Jvm.MethodName) ({ cls := "AlgolMill$Expr", name := "looksAim", desc := "()Z" } : Jvm.MethodName)) ∈ lw_all := lw_g (lw_at lw_m7 48 rfl) rfl
theorem q1687 : (Jvm.Cond.selects "AlgolMill$Before" ({ cls := "AlgolMill$Expr", name := "checkNames", desc := "(LAlgolMill$Checker;)V" } : Jvm.MethodName) ({ cls := "AlgolMill$Expr", name := "checkNames", desc := "(LAlgolMill$Checker;)V" } : Jvm.MethodName)) ∈ lw_all := lw_g (lw_at lw_m7 66 rfl) rfl
theorem q1863 : (Jvm.Cond.selects "AlgolMill$Before" ({ cls := "AlgolMill$Expr", name := "emit", desc := "(LAlgolMill$Coder;)V" } : Jvm.MethodName) ({ cls := "AlgolMill$Before", name := "emit", desc := "(LAlgolMill$Coder;)V" } : Jvm.MethodName)) ∈ lw_all := lw_g (lw_at lw_m8 2 rfl) rfl
theorem q1864 : (Jvm.Cond.instanceMethod ({ cls := "AlgolMill$Before", name := "emit", desc := "(LAlgolMill$Coder;)V" } : Jvm.MethodName)) ∈ lw_all := lw_g (lw_at lw_m8 3 rfl) rfl
theorem q1865 : (Jvm.Cond.code ({ cls := "AlgolMill$Before", name := "emit", desc := "(LAlgolMill$Coder;)V" } : Jvm.MethodName) prog_2_method_3_code (2 : Nat) (Option.none : Option Jvm.ClassFile.FieldType)) ∈ lw_all := lw_g (lw_at lw_m8 4 rfl) rfl
theorem q1866 : (Jvm.Cond.methodLink "AlgolMill$Before" (25 : Nat) ({ cls := "AlgolMill$Expr", name := "emit", desc := "(LAlgolMill$Coder;)V" } : Jvm.MethodName)) ∈ lw_all := lw_g (lw_at lw_m8 5 rfl) rfl
theorem q1937 : (Jvm.Cond.selects "AlgolMill$Before" ({ cls := "AlgolMill$Expr", name := "isElement", desc := "()Z" } : Jvm.MethodName) ({ cls := "AlgolMill$Expr", name := "isElement", desc := "()Z" } : Jvm.MethodName)) ∈ lw_all := lw_g (lw_at lw_m8 76 rfl) rfl
theorem q1978 : (Jvm.Cond.selects "AlgolMill$Before" ({ cls := "AlgolMill$Expr", name := "isPlace", desc := "()Z" } : Jvm.MethodName) ({ cls := "AlgolMill$Expr", name := "isPlace", desc := "()Z" } : Jvm.MethodName)) ∈ lw_all := lw_g (lw_at lw_m8 117 rfl) rfl
theorem q2041 : (Jvm.Cond.methodLink "AlgolMill$Before" (29 : Nat) ({ cls := "AlgolMill$Coder", name := "invert", desc := "()V" } : Jvm.MethodName)) ∈ lw_all := lw_g (lw_at lw_m8 180 rfl) rfl
theorem q2042 : (Jvm.Cond.methodLink "AlgolMill$Before" (35 : Nat) ({ cls := "AlgolMill$Coder", name := "negate", desc := "()V" } : Jvm.MethodName)) ∈ lw_all := lw_g (lw_at lw_m8 181 rfl) rfl
theorem q2119 : (Jvm.Cond.selects "AlgolMill$Before" ({ cls := "AlgolMill$Expr", name := "emitAim", desc := "(LAlgolMill$Coder;)V" } : Jvm.MethodName) ({ cls := "AlgolMill$Expr", name := "emitAim", desc := "(LAlgolMill$Coder;)V" } : Jvm.MethodName)) ∈ lw_all := lw_g (lw_at lw_m9 18 rfl) rfl
theorem q2222 : (Jvm.Cond.selects "AlgolMill$Before" ({ cls := "AlgolMill$Expr", name := "emitPlace", desc := "(LAlgolMill$Coder;)V" } : Jvm.MethodName) ({ cls := "AlgolMill$Expr", name := "emitPlace", desc := "(LAlgolMill$Coder;)V" } : Jvm.MethodName)) ∈ lw_all := lw_g (lw_at lw_m9 121 rfl) rfl
theorem q3409 : (Jvm.Cond.castable "AlgolMill$Before" "AlgolMill$Expr") ∈ lw_tbl := lw_at lw_m14 108 rfl
theorem in_X19 : ∀ w ∈ wsX190, w ∈ lw_all := lw_in wsX190 [1145, 1141, 1143] (by decide +kernel) (by decide +kernel)
/-! AlgolMill$Constant -/
def RX20 : String := "AlgolMill$Constant"
def TX20 : u_T := fun k => match k with
  | 0 => ("AlgolMill$Expr", "token", "I", true)
  | 1 => ("AlgolMill$Constant", "value", "J", true)
  | _ => ("AlgolMill$Constant", "type", "I", true)
def tyX20 : Nat → FieldType := fun k => match k with
  | 0 => .int
  | 1 => .long
  | _ => .int
abbrev wsX200 : List Cond := u_ws RX20 TX20 3
theorem nmX20 : ∀ a, a < 3 → ∀ b, b < 3 → a ≠ b → (TX20 a).2.1 ≠ (TX20 b).2.1 := by decide +kernel
theorem tyX20_ok : ∀ k, k < 3 → parseFieldDescriptor (TX20 k).2.2.1 = some (tyX20 k) := by decide +kernel
abbrev cX20_init : ByteArray := prog_10_method_1_code
def yX20_init : MethodName := ⟨RX20, "<init>", "(IJI)V"⟩
abbrev cX20_check : ByteArray := prog_10_method_2_code
def yX20_check : MethodName := ⟨RX20, "check", "(LAlgolMill$Checker;)I"⟩
abbrev cX20_emit : ByteArray := prog_10_method_3_code
def yX20_emit : MethodName := ⟨RX20, "emit", "(LAlgolMill$Coder;)V"⟩
theorem q213 : (Jvm.Cond.initialized "AlgolMill$Constant") ∈ lw_all := lw_g (lw_at lw_m1 32 rfl) rfl
theorem q1153 : (Jvm.Cond.instantiable "AlgolMill$Constant" (3 : Nat)) ∈ lw_all := lw_g (lw_at lw_m5 12 rfl) rfl
theorem q1159 : (Jvm.Cond.instanceMethod ({ cls := "AlgolMill$Constant", name := "<init>", desc := "(IJI)V" } : Jvm.MethodName)) ∈ lw_all := lw_g (lw_at lw_m5 18 rfl) rfl
theorem q1160 : (Jvm.Cond.code ({ cls := "AlgolMill$Constant", name := "<init>", desc := "(IJI)V" } : Jvm.MethodName) prog_10_method_1_code (5 : Nat) (Option.none : Option Jvm.ClassFile.FieldType)) ∈ lw_all := lw_g (lw_at lw_m5 19 rfl) rfl
theorem q1161 : (Jvm.Cond.methodLink "AlgolMill$Constant" (1 : Nat) ({ cls := "AlgolMill$Expr", name := "<init>", desc := "(I)V" } : Jvm.MethodName)) ∈ lw_all := lw_g (lw_at lw_m5 20 rfl) rfl
theorem q1162 : (Jvm.Cond.fieldLink "AlgolMill$Constant" (7 : Nat) "AlgolMill$Constant" "value" "J") ∈ lw_all := lw_g (lw_at lw_m5 21 rfl) rfl
theorem q1163 : (Jvm.Cond.fieldLink "AlgolMill$Constant" (13 : Nat) "AlgolMill$Constant" "type" "I") ∈ lw_all := lw_g (lw_at lw_m5 22 rfl) rfl
theorem q1164 : (Jvm.Cond.laysFinal "AlgolMill$Constant" "AlgolMill$Constant" "value" "J") ∈ lw_all := lw_g (lw_at lw_m5 23 rfl) rfl
theorem q1165 : (Jvm.Cond.soleField "AlgolMill$Constant" "value") ∈ lw_all := lw_g (lw_at lw_m5 24 rfl) rfl
theorem q1166 : (Jvm.Cond.laysFinal "AlgolMill$Constant" "AlgolMill$Constant" "type" "I") ∈ lw_all := lw_g (lw_at lw_m5 25 rfl) rfl
theorem q1167 : (Jvm.Cond.soleField "AlgolMill$Constant" "type") ∈ lw_all := lw_g (lw_at lw_m5 26 rfl) rfl
theorem q1168 : (Jvm.Cond.laysFinal "AlgolMill$Constant" "AlgolMill$Expr" "token" "I") ∈ lw_all := lw_g (lw_at lw_m5 27 rfl) rfl
theorem q1169 : (Jvm.Cond.superclass "AlgolMill$Constant" "AlgolMill$Expr") ∈ lw_all := lw_g (lw_at lw_m5 28 rfl) rfl
theorem q1609 : (Jvm.Cond.instanceMethod ({ cls := "AlgolMill$Constant", name := "check", desc := "(LAlgolMill$Checker;)I" } : Jvm.MethodName)) ∈ lw_all := lw_g (lw_at lw_m6 228 rfl) rfl
theorem q1610 : (Jvm.Cond.code ({ cls := "AlgolMill$Constant", name := "check", desc := "(LAlgolMill$Checker;)I" } : Jvm.MethodName) prog_10_method_2_code (2 : Nat) (Option.some Jvm.ClassFile.FieldType.int)) ∈ lw_all := lw_g (lw_at lw_m6 229 rfl) rfl
theorem q1653 : (Jvm.Cond.selects "AlgolMill$Constant" ({ cls := "AlgolMill$Expr", name := "checkAim", desc := "(LAlgolMill$Checker;)V" } : Jvm.MethodName) ({ cls := "AlgolMill$Expr", name := "checkAim", desc := "(LAlgolMill$Checker;)V" } : Jvm.MethodName)) ∈ lw_all := lw_g (lw_at lw_m7 32 rfl) rfl
theorem q1680 : (Jvm.Cond.selects "AlgolMill$Constant" ({ cls := "AlgolMill$Expr", name := "looksAim", desc := "()Z" } : Jvm.MethodName) ({ cls := "AlgolMill$Expr", name := "looksAim", desc := "()Z" } : Jvm.MethodName)) ∈ lw_all := lw_g (lw_at lw_m7 59 rfl) rfl
theorem q1698 : (Jvm.Cond.selects "AlgolMill$Constant" ({ cls := "AlgolMill$Expr", name := "checkNames", desc := "(LAlgolMill$Checker;)V" } : Jvm.MethodName) ({ cls := "AlgolMill$Expr", name := "checkNames", desc := "(LAlgolMill$Checker;)V" } : Jvm.MethodName)) ∈ lw_all := lw_g (lw_at lw_m7 77 rfl) rfl
theorem q1715 : (Jvm.Cond.selects "AlgolMill$Constant" ({ cls := "AlgolMill$Expr", name := "check", desc := "(LAlgolMill$Checker;)I" } : Jvm.MethodName) ({ cls := "AlgolMill$Constant", name := "check", desc := "(LAlgolMill$Checker;)I" } : Jvm.MethodName)) ∈ lw_all := lw_g (lw_at lw_m7 94 rfl) rfl
theorem q1873 : (Jvm.Cond.instanceMethod ({ cls := "AlgolMill$Constant", name := "emit", desc := "(LAlgolMill$Coder;)V" } : Jvm.MethodName)) ∈ lw_all := lw_g (lw_at lw_m8 12 rfl) rfl
theorem q1874 : (Jvm.Cond.code ({ cls := "AlgolMill$Constant", name := "emit", desc := "(LAlgolMill$Coder;)V" } : Jvm.MethodName) prog_10_method_3_code (2 : Nat) (Option.none : Option Jvm.ClassFile.FieldType)) ∈ lw_all := lw_g (lw_at lw_m8 13 rfl) rfl
theorem q1875 : (Jvm.Cond.methodLink "AlgolMill$Constant" (17 : Nat) ({ cls := "AlgolMill$Coder", name := "load", desc := "(J)V" } : Jvm.MethodName)) ∈ lw_all := lw_g (lw_at lw_m8 14 rfl) rfl
theorem q1940 : (Jvm.Cond.selects "AlgolMill$Constant" ({ cls := "AlgolMill$Expr", name := "isElement", desc := "()Z" } : Jvm.MethodName) ({ cls := "AlgolMill$Expr", name := "isElement", desc := "()Z" } : Jvm.MethodName)) ∈ lw_all := lw_g (lw_at lw_m8 79 rfl) rfl
theorem q1981 : (Jvm.Cond.selects "AlgolMill$Constant" ({ cls := "AlgolMill$Expr", name := "isPlace", desc := "()Z" } : Jvm.MethodName) ({ cls := "AlgolMill$Expr", name := "isPlace", desc := "()Z" } : Jvm.MethodName)) ∈ lw_all := lw_g (lw_at lw_m8 120 rfl) rfl
theorem q2048 : (Jvm.Cond.selects "AlgolMill$Constant" ({ cls := "AlgolMill$Expr", name := "emit", desc := "(LAlgolMill$Coder;)V" } : Jvm.MethodName) ({ cls := "AlgolMill$Constant", name := "emit", desc := "(LAlgolMill$Coder;)V" } : Jvm.MethodName)) ∈ lw_all := lw_g (lw_at lw_m8 187 rfl) rfl
theorem q2138 : (Jvm.Cond.selects "AlgolMill$Constant" ({ cls := "AlgolMill$Expr", name := "emitAim", desc := "(LAlgolMill$Coder;)V" } : Jvm.MethodName) ({ cls := "AlgolMill$Expr", name := "emitAim", desc := "(LAlgolMill$Coder;)V" } : Jvm.MethodName)) ∈ lw_all := lw_g (lw_at lw_m9 37 rfl) rfl
theorem q2225 : (Jvm.Cond.selects "AlgolMill$Constant" ({ cls := "AlgolMill$Expr", name := "emitPlace", desc := "(LAlgolMill$Coder;)V" } : Jvm.MethodName) ({ cls := "AlgolMill$Expr", name := "emitPlace", desc := "(LAlgolMill$Coder;)V" } : Jvm.MethodName)) ∈ lw_all := lw_g (lw_at lw_m9 124 rfl) rfl
theorem q3412 : (Jvm.Cond.castable "AlgolMill$Constant" "AlgolMill$Expr") ∈ lw_tbl := lw_at lw_m14 111 rfl
theorem in_X20 : ∀ w ∈ wsX200, w ∈ lw_all := lw_in wsX200 [1168, 1164, 1166] (by decide +kernel) (by decide +kernel)
/-! AlgolMill$Name -/
def RX21 : String := "AlgolMill$Name"
def TX21 : u_T := fun k => match k with
  | 0 => ("AlgolMill$Expr", "token", "I", true)
  | 1 => ("AlgolMill$Name", "form", "I", true)
  | 2 => ("AlgolMill$Name", "parts", "LAlgolMill$Exprs;", true)
  | 3 => ("AlgolMill$Name", "thing", "LAlgolMill$Thing;", false)
  | _ => ("AlgolMill$Name", "gives", "Z", false)
def tyX21 : Nat → FieldType := fun k => match k with
  | 0 => .int
  | 1 => .int
  | 2 => .object "AlgolMill$Exprs"
  | 3 => .object "AlgolMill$Thing"
  | _ => .boolean
abbrev wsX210 : List Cond := u_ws RX21 TX21 5
theorem nmX21 : ∀ a, a < 5 → ∀ b, b < 5 → a ≠ b → (TX21 a).2.1 ≠ (TX21 b).2.1 := by decide +kernel
theorem tyX21_ok : ∀ k, k < 5 → parseFieldDescriptor (TX21 k).2.2.1 = some (tyX21 k) := by decide +kernel
abbrev cX21_init : ByteArray := prog_20_method_1_code
def yX21_init : MethodName := ⟨RX21, "<init>", "(II)V"⟩
abbrev cX21_check : ByteArray := prog_20_method_2_code
def yX21_check : MethodName := ⟨RX21, "check", "(LAlgolMill$Checker;)I"⟩
abbrev cX21_checkCall : ByteArray := prog_20_method_4_code
def yX21_checkCall : MethodName := ⟨RX21, "checkCall", "(LAlgolMill$Checker;Z)I"⟩
abbrev cX21_checkAim : ByteArray := prog_20_method_5_code
def yX21_checkAim : MethodName := ⟨RX21, "checkAim", "(LAlgolMill$Checker;)V"⟩
abbrev cX21_looksAim : ByteArray := prog_20_method_6_code
def yX21_looksAim : MethodName := ⟨RX21, "looksAim", "()Z"⟩
abbrev cX21_checkNames : ByteArray := prog_20_method_7_code
def yX21_checkNames : MethodName := ⟨RX21, "checkNames", "(LAlgolMill$Checker;)V"⟩
abbrev cX21_checkElement : ByteArray := prog_20_method_3_code
def yX21_checkElement : MethodName := ⟨RX21, "checkElement", "(LAlgolMill$Checker;)I"⟩
abbrev cX21_checkPlace : ByteArray := prog_20_method_8_code
def yX21_checkPlace : MethodName := ⟨RX21, "checkPlace", "(LAlgolMill$Checker;Z)I"⟩
abbrev cX21_emit : ByteArray := prog_20_method_12_code
def yX21_emit : MethodName := ⟨RX21, "emit", "(LAlgolMill$Coder;)V"⟩
abbrev cX21_isElement : ByteArray := prog_20_method_10_code
def yX21_isElement : MethodName := ⟨RX21, "isElement", "()Z"⟩
abbrev cX21_isPlace : ByteArray := prog_20_method_9_code
def yX21_isPlace : MethodName := ⟨RX21, "isPlace", "()Z"⟩
abbrev cX21_emitPlace : ByteArray := prog_20_method_11_code
def yX21_emitPlace : MethodName := ⟨RX21, "emitPlace", "(LAlgolMill$Coder;)V"⟩
abbrev cX21_emitAim : ByteArray := prog_20_method_13_code
def yX21_emitAim : MethodName := ⟨RX21, "emitAim", "(LAlgolMill$Coder;)V"⟩
theorem q214 : (Jvm.Cond.initialized "AlgolMill$Name") ∈ lw_all := lw_g (lw_at lw_m1 33 rfl) rfl
theorem q445 : (Jvm.Cond.fieldLink "AlgolMill$Name" (83 : Nat) "AlgolMill$Things" "size" "I") ∈ lw_all := lw_g (lw_at lw_m2 24 rfl) rfl
theorem q792 : (Jvm.Cond.fieldLink "AlgolMill$Name" (77 : Nat) "AlgolMill$Routine" "formals" "LAlgolMill$Things;") ∈ lw_all := lw_g (lw_at lw_m3 131 rfl) rfl
theorem q985 : (Jvm.Cond.fieldLink "AlgolMill$Name" (55 : Nat) "AlgolMill$Exprs" "size" "I") ∈ lw_all := lw_g (lw_at lw_m4 84 rfl) rfl
theorem q1017 : (Jvm.Cond.fieldLink "AlgolMill$Name" (43 : Nat) "AlgolMill$Thing" "sort" "I") ∈ lw_all := lw_g (lw_at lw_m4 116 rfl) rfl
theorem q1022 : (Jvm.Cond.fieldLink "AlgolMill$Name" (48 : Nat) "AlgolMill$Thing" "type" "I") ∈ lw_all := lw_g (lw_at lw_m4 121 rfl) rfl
theorem q1025 : (Jvm.Cond.fieldLink "AlgolMill$Name" (66 : Nat) "AlgolMill$Thing" "formal" "Z") ∈ lw_all := lw_g (lw_at lw_m4 124 rfl) rfl
theorem q1029 : (Jvm.Cond.fieldLink "AlgolMill$Name" (117 : Nat) "AlgolMill$Thing" "byValue" "Z") ∈ lw_all := lw_g (lw_at lw_m4 128 rfl) rfl
theorem q1032 : (Jvm.Cond.fieldLink "AlgolMill$Name" (109 : Nat) "AlgolMill$Thing" "own" "Z") ∈ lw_all := lw_g (lw_at lw_m4 131 rfl) rfl
theorem q1034 : (Jvm.Cond.fieldLink "AlgolMill$Name" (70 : Nat) "AlgolMill$Thing" "bounds" "I") ∈ lw_all := lw_g (lw_at lw_m4 133 rfl) rfl
theorem q1037 : (Jvm.Cond.fieldLink "AlgolMill$Name" (124 : Nat) "AlgolMill$Thing" "home" "LAlgolMill$Routine;") ∈ lw_all := lw_g (lw_at lw_m4 136 rfl) rfl
theorem q1041 : (Jvm.Cond.fieldLink "AlgolMill$Name" (112 : Nat) "AlgolMill$Thing" "place" "I") ∈ lw_all := lw_g (lw_at lw_m4 140 rfl) rfl
theorem q1044 : (Jvm.Cond.fieldLink "AlgolMill$Name" (73 : Nat) "AlgolMill$Thing" "routine" "LAlgolMill$Routine;") ∈ lw_all := lw_g (lw_at lw_m4 143 rfl) rfl
theorem q1134 : (Jvm.Cond.fieldLink "AlgolMill$Name" (22 : Nat) "AlgolMill$Name" "token" "I") ∈ lw_all := lw_g (lw_at lw_m4 233 rfl) rfl
theorem q1135 : (Jvm.Cond.sameField "AlgolMill$Name" "AlgolMill$Expr" "token" "I") ∈ lw_all := lw_g (lw_at lw_m4 234 rfl) rfl
theorem q1175 : (Jvm.Cond.instantiable "AlgolMill$Name" (5 : Nat)) ∈ lw_all := lw_g (lw_at lw_m5 34 rfl) rfl
theorem q1177 : (Jvm.Cond.instanceMethod ({ cls := "AlgolMill$Name", name := "<init>", desc := "(II)V" } : Jvm.MethodName)) ∈ lw_all := lw_g (lw_at lw_m5 36 rfl) rfl
theorem q1178 : (Jvm.Cond.code ({ cls := "AlgolMill$Name", name := "<init>", desc := "(II)V" } : Jvm.MethodName) prog_20_method_1_code (3 : Nat) (Option.none : Option Jvm.ClassFile.FieldType)) ∈ lw_all := lw_g (lw_at lw_m5 37 rfl) rfl
theorem q1179 : (Jvm.Cond.methodLink "AlgolMill$Name" (1 : Nat) ({ cls := "AlgolMill$Expr", name := "<init>", desc := "(I)V" } : Jvm.MethodName)) ∈ lw_all := lw_g (lw_at lw_m5 38 rfl) rfl
theorem q1180 : (Jvm.Cond.classLink "AlgolMill$Name" (7 : Nat) "AlgolMill$Exprs") ∈ lw_all := lw_g (lw_at lw_m5 39 rfl) rfl
theorem q1181 : (Jvm.Cond.methodLinkNest "AlgolMill$Name" (9 : Nat) ({ cls := "AlgolMill$Exprs", name := "<init>", desc := "()V" } : Jvm.MethodName) "AlgolMill") ∈ lw_tbl := lw_at lw_m5 40 rfl
theorem q1182 : (Jvm.Cond.fieldLink "AlgolMill$Name" (18 : Nat) "AlgolMill$Name" "form" "I") ∈ lw_all := lw_g (lw_at lw_m5 41 rfl) rfl
theorem q1185 : (Jvm.Cond.fieldLink "AlgolMill$Name" (12 : Nat) "AlgolMill$Name" "parts" "LAlgolMill$Exprs;") ∈ lw_all := lw_g (lw_at lw_m5 44 rfl) rfl
theorem q1188 : (Jvm.Cond.fieldLink "AlgolMill$Name" (31 : Nat) "AlgolMill$Name" "thing" "LAlgolMill$Thing;") ∈ lw_all := lw_g (lw_at lw_m5 47 rfl) rfl
theorem q1191 : (Jvm.Cond.fieldLink "AlgolMill$Name" (96 : Nat) "AlgolMill$Name" "gives" "Z") ∈ lw_all := lw_g (lw_at lw_m5 50 rfl) rfl
theorem q1192 : (Jvm.Cond.laysFinal "AlgolMill$Name" "AlgolMill$Name" "form" "I") ∈ lw_all := lw_g (lw_at lw_m5 51 rfl) rfl
theorem q1193 : (Jvm.Cond.soleField "AlgolMill$Name" "form") ∈ lw_all := lw_g (lw_at lw_m5 52 rfl) rfl
theorem q1194 : (Jvm.Cond.laysFinal "AlgolMill$Name" "AlgolMill$Name" "parts" "LAlgolMill$Exprs;") ∈ lw_all := lw_g (lw_at lw_m5 53 rfl) rfl
theorem q1195 : (Jvm.Cond.soleField "AlgolMill$Name" "parts") ∈ lw_all := lw_g (lw_at lw_m5 54 rfl) rfl
theorem q1196 : (Jvm.Cond.lays "AlgolMill$Name" "AlgolMill$Name" "thing" "LAlgolMill$Thing;") ∈ lw_all := lw_g (lw_at lw_m5 55 rfl) rfl
theorem q1197 : (Jvm.Cond.soleField "AlgolMill$Name" "thing") ∈ lw_all := lw_g (lw_at lw_m5 56 rfl) rfl
theorem q1198 : (Jvm.Cond.lays "AlgolMill$Name" "AlgolMill$Name" "gives" "Z") ∈ lw_all := lw_g (lw_at lw_m5 57 rfl) rfl
theorem q1199 : (Jvm.Cond.soleField "AlgolMill$Name" "gives") ∈ lw_all := lw_g (lw_at lw_m5 58 rfl) rfl
theorem q1200 : (Jvm.Cond.laysFinal "AlgolMill$Name" "AlgolMill$Expr" "token" "I") ∈ lw_all := lw_g (lw_at lw_m5 59 rfl) rfl
theorem q1201 : (Jvm.Cond.superclass "AlgolMill$Name" "AlgolMill$Expr") ∈ lw_all := lw_g (lw_at lw_m5 60 rfl) rfl
theorem q1611 : (Jvm.Cond.instanceMethod ({ cls := "AlgolMill$Name", name := "check", desc := "(LAlgolMill$Checker;)I" } : Jvm.MethodName)) ∈ lw_all := lw_g (lw_at lw_m6 230 rfl) rfl
theorem q1612 : (Jvm.Cond.code ({ cls := "AlgolMill$Name", name := "check", desc := "(LAlgolMill$Checker;)I" } : Jvm.MethodName) prog_20_method_2_code (2 : Nat) (Option.some Jvm.ClassFile.FieldType.int)) ∈ lw_all := lw_g (lw_at lw_m6 231 rfl) rfl
theorem q1613 : (Jvm.Cond.methodLink "AlgolMill$Name" (25 : Nat) ({ cls := "AlgolMill$Checker", name := "find", desc := "(I)LAlgolMill$Thing;" } : Jvm.MethodName)) ∈ lw_all := lw_g (lw_at lw_m6 232 rfl) rfl
theorem q1626 : (Jvm.Cond.methodLink "AlgolMill$Name" (35 : Nat) ({ cls := "AlgolMill$Name", name := "checkCall", desc := "(LAlgolMill$Checker;Z)I" } : Jvm.MethodName)) ∈ lw_all := lw_g (lw_at lw_m7 5 rfl) rfl
theorem q1627 : (Jvm.Cond.instanceMethod ({ cls := "AlgolMill$Name", name := "checkCall", desc := "(LAlgolMill$Checker;Z)I" } : Jvm.MethodName)) ∈ lw_all := lw_g (lw_at lw_m7 6 rfl) rfl
theorem q1628 : (Jvm.Cond.selects "AlgolMill$Name" ({ cls := "AlgolMill$Name", name := "checkCall", desc := "(LAlgolMill$Checker;Z)I" } : Jvm.MethodName) ({ cls := "AlgolMill$Name", name := "checkCall", desc := "(LAlgolMill$Checker;Z)I" } : Jvm.MethodName)) ∈ lw_all := lw_g (lw_at lw_m7 7 rfl) rfl
theorem q1629 : (Jvm.Cond.code ({ cls := "AlgolMill$Name", name := "checkCall", desc := "(LAlgolMill$Checker;Z)I" } : Jvm.MethodName) prog_20_method_4_code (6 : Nat) (Option.some Jvm.ClassFile.FieldType.int)) ∈ lw_all := lw_g (lw_at lw_m7 8 rfl) rfl
theorem q1630 : (Jvm.Cond.methodLink "AlgolMill$Name" (51 : Nat) ({ cls := "AlgolMill$Checker", name := "fault", desc := "(II)V" } : Jvm.MethodName)) ∈ lw_all := lw_g (lw_at lw_m7 9 rfl) rfl
theorem q1631 : (Jvm.Cond.methodLink "AlgolMill$Name" (58 : Nat) ({ cls := "AlgolMill$Exprs", name := "get", desc := "(I)LAlgolMill$Expr;" } : Jvm.MethodName)) ∈ lw_all := lw_g (lw_at lw_m7 10 rfl) rfl
theorem q1632 : (Jvm.Cond.methodLink "AlgolMill$Name" (86 : Nat) ({ cls := "AlgolMill$Things", name := "get", desc := "(I)LAlgolMill$Thing;" } : Jvm.MethodName)) ∈ lw_all := lw_g (lw_at lw_m7 11 rfl) rfl
theorem q1633 : (Jvm.Cond.methodLink "AlgolMill$Name" (88 : Nat) ({ cls := "AlgolMill$Checker", name := "actual", desc := "(LAlgolMill$Expr;LAlgolMill$Thing;)V" } : Jvm.MethodName)) ∈ lw_all := lw_g (lw_at lw_m7 12 rfl) rfl
theorem q1647 : (Jvm.Cond.instanceMethod ({ cls := "AlgolMill$Name", name := "checkAim", desc := "(LAlgolMill$Checker;)V" } : Jvm.MethodName)) ∈ lw_all := lw_g (lw_at lw_m7 26 rfl) rfl
theorem q1648 : (Jvm.Cond.code ({ cls := "AlgolMill$Name", name := "checkAim", desc := "(LAlgolMill$Checker;)V" } : Jvm.MethodName) prog_20_method_5_code (4 : Nat) (Option.none : Option Jvm.ClassFile.FieldType)) ∈ lw_all := lw_g (lw_at lw_m7 27 rfl) rfl
theorem q1649 : (Jvm.Cond.methodLink "AlgolMill$Name" (62 : Nat) ({ cls := "AlgolMill$Checker", name := "need", desc := "(LAlgolMill$Expr;I)V" } : Jvm.MethodName)) ∈ lw_all := lw_g (lw_at lw_m7 28 rfl) rfl
theorem q1654 : (Jvm.Cond.selects "AlgolMill$Name" ({ cls := "AlgolMill$Expr", name := "checkAim", desc := "(LAlgolMill$Checker;)V" } : Jvm.MethodName) ({ cls := "AlgolMill$Name", name := "checkAim", desc := "(LAlgolMill$Checker;)V" } : Jvm.MethodName)) ∈ lw_all := lw_g (lw_at lw_m7 33 rfl) rfl
theorem q1675 : (Jvm.Cond.instanceMethod ({ cls := "AlgolMill$Name", name := "looksAim", desc := "()Z" } : Jvm.MethodName)) ∈ lw_all := lw_g (lw_at lw_m7 54 rfl) rfl
theorem q1676 : (Jvm.Cond.code ({ cls := "AlgolMill$Name", name := "looksAim", desc := "()Z" } : Jvm.MethodName) prog_20_method_6_code (1 : Nat) (Option.some Jvm.ClassFile.FieldType.boolean)) ∈ lw_all := lw_g (lw_at lw_m7 55 rfl) rfl
theorem q1681 : (Jvm.Cond.selects "AlgolMill$Name" ({ cls := "AlgolMill$Expr", name := "looksAim", desc := "()Z" } : Jvm.MethodName) ({ cls := "AlgolMill$Name", name := "looksAim", desc := "()Z" } : Jvm.MethodName)) ∈ lw_all := lw_g (lw_at lw_m7 60 rfl) rfl
theorem q1693 : (Jvm.Cond.instanceMethod ({ cls := "AlgolMill$Name", name := "checkNames", desc := "(LAlgolMill$Checker;)V" } : Jvm.MethodName)) ∈ lw_all := lw_g (lw_at lw_m7 72 rfl) rfl
theorem q1694 : (Jvm.Cond.code ({ cls := "AlgolMill$Name", name := "checkNames", desc := "(LAlgolMill$Checker;)V" } : Jvm.MethodName) prog_20_method_7_code (2 : Nat) (Option.none : Option Jvm.ClassFile.FieldType)) ∈ lw_all := lw_g (lw_at lw_m7 73 rfl) rfl
theorem q1699 : (Jvm.Cond.selects "AlgolMill$Name" ({ cls := "AlgolMill$Expr", name := "checkNames", desc := "(LAlgolMill$Checker;)V" } : Jvm.MethodName) ({ cls := "AlgolMill$Name", name := "checkNames", desc := "(LAlgolMill$Checker;)V" } : Jvm.MethodName)) ∈ lw_all := lw_g (lw_at lw_m7 78 rfl) rfl
theorem q1704 : (Jvm.Cond.methodLink "AlgolMill$Name" (39 : Nat) ({ cls := "AlgolMill$Name", name := "checkElement", desc := "(LAlgolMill$Checker;)I" } : Jvm.MethodName)) ∈ lw_all := lw_g (lw_at lw_m7 83 rfl) rfl
theorem q1705 : (Jvm.Cond.privateMethod ({ cls := "AlgolMill$Name", name := "checkElement", desc := "(LAlgolMill$Checker;)I" } : Jvm.MethodName)) ∈ lw_tbl := lw_at lw_m7 84 rfl
theorem q1706 : (Jvm.Cond.instanceMethod ({ cls := "AlgolMill$Name", name := "checkElement", desc := "(LAlgolMill$Checker;)I" } : Jvm.MethodName)) ∈ lw_all := lw_g (lw_at lw_m7 85 rfl) rfl
theorem q1707 : (Jvm.Cond.code ({ cls := "AlgolMill$Name", name := "checkElement", desc := "(LAlgolMill$Checker;)I" } : Jvm.MethodName) prog_20_method_3_code (3 : Nat) (Option.some Jvm.ClassFile.FieldType.int)) ∈ lw_all := lw_g (lw_at lw_m7 86 rfl) rfl
theorem q1716 : (Jvm.Cond.selects "AlgolMill$Name" ({ cls := "AlgolMill$Expr", name := "check", desc := "(LAlgolMill$Checker;)I" } : Jvm.MethodName) ({ cls := "AlgolMill$Name", name := "check", desc := "(LAlgolMill$Checker;)I" } : Jvm.MethodName)) ∈ lw_all := lw_g (lw_at lw_m7 95 rfl) rfl
theorem q1751 : (Jvm.Cond.instanceMethod ({ cls := "AlgolMill$Name", name := "checkPlace", desc := "(LAlgolMill$Checker;Z)I" } : Jvm.MethodName)) ∈ lw_all := lw_g (lw_at lw_m7 130 rfl) rfl
theorem q1752 : (Jvm.Cond.selects "AlgolMill$Name" ({ cls := "AlgolMill$Name", name := "checkPlace", desc := "(LAlgolMill$Checker;Z)I" } : Jvm.MethodName) ({ cls := "AlgolMill$Name", name := "checkPlace", desc := "(LAlgolMill$Checker;Z)I" } : Jvm.MethodName)) ∈ lw_all := lw_g (lw_at lw_m7 131 rfl) rfl
theorem q1753 : (Jvm.Cond.code ({ cls := "AlgolMill$Name", name := "checkPlace", desc := "(LAlgolMill$Checker;Z)I" } : Jvm.MethodName) prog_20_method_8_code (3 : Nat) (Option.some Jvm.ClassFile.FieldType.int)) ∈ lw_all := lw_g (lw_at lw_m7 132 rfl) rfl
theorem q1754 : (Jvm.Cond.methodLink "AlgolMill$Name" (92 : Nat) ({ cls := "AlgolMill$Checker", name := "isInside", desc := "(LAlgolMill$Routine;)Z" } : Jvm.MethodName)) ∈ lw_all := lw_g (lw_at lw_m7 133 rfl) rfl
theorem q1881 : (Jvm.Cond.instanceMethod ({ cls := "AlgolMill$Name", name := "emit", desc := "(LAlgolMill$Coder;)V" } : Jvm.MethodName)) ∈ lw_all := lw_g (lw_at lw_m8 20 rfl) rfl
theorem q1882 : (Jvm.Cond.code ({ cls := "AlgolMill$Name", name := "emit", desc := "(LAlgolMill$Coder;)V" } : Jvm.MethodName) prog_20_method_12_code (2 : Nat) (Option.none : Option Jvm.ClassFile.FieldType)) ∈ lw_all := lw_g (lw_at lw_m8 21 rfl) rfl
theorem q1883 : (Jvm.Cond.methodLink "AlgolMill$Name" (99 : Nat) ({ cls := "AlgolMill$Coder", name := "element", desc := "(LAlgolMill$Name;)V" } : Jvm.MethodName)) ∈ lw_all := lw_g (lw_at lw_m8 22 rfl) rfl
theorem q1912 : (Jvm.Cond.methodLink "AlgolMill$Name" (127 : Nat) ({ cls := "AlgolMill$Coder", name := "fetch", desc := "()V" } : Jvm.MethodName)) ∈ lw_all := lw_g (lw_at lw_m8 51 rfl) rfl
theorem q1913 : (Jvm.Cond.methodLink "AlgolMill$Name" (130 : Nat) ({ cls := "AlgolMill$Coder", name := "call", desc := "(LAlgolMill$Name;)V" } : Jvm.MethodName)) ∈ lw_all := lw_g (lw_at lw_m8 52 rfl) rfl
theorem q1941 : (Jvm.Cond.selects "AlgolMill$Name" ({ cls := "AlgolMill$Expr", name := "isElement", desc := "()Z" } : Jvm.MethodName) ({ cls := "AlgolMill$Name", name := "isElement", desc := "()Z" } : Jvm.MethodName)) ∈ lw_all := lw_g (lw_at lw_m8 80 rfl) rfl
theorem q1942 : (Jvm.Cond.instanceMethod ({ cls := "AlgolMill$Name", name := "isElement", desc := "()Z" } : Jvm.MethodName)) ∈ lw_all := lw_g (lw_at lw_m8 81 rfl) rfl
theorem q1943 : (Jvm.Cond.code ({ cls := "AlgolMill$Name", name := "isElement", desc := "()Z" } : Jvm.MethodName) prog_20_method_10_code (1 : Nat) (Option.some Jvm.ClassFile.FieldType.boolean)) ∈ lw_all := lw_g (lw_at lw_m8 82 rfl) rfl
theorem q1982 : (Jvm.Cond.selects "AlgolMill$Name" ({ cls := "AlgolMill$Expr", name := "isPlace", desc := "()Z" } : Jvm.MethodName) ({ cls := "AlgolMill$Name", name := "isPlace", desc := "()Z" } : Jvm.MethodName)) ∈ lw_all := lw_g (lw_at lw_m8 121 rfl) rfl
theorem q1983 : (Jvm.Cond.instanceMethod ({ cls := "AlgolMill$Name", name := "isPlace", desc := "()Z" } : Jvm.MethodName)) ∈ lw_all := lw_g (lw_at lw_m8 122 rfl) rfl
theorem q1984 : (Jvm.Cond.code ({ cls := "AlgolMill$Name", name := "isPlace", desc := "()Z" } : Jvm.MethodName) prog_20_method_9_code (1 : Nat) (Option.some Jvm.ClassFile.FieldType.boolean)) ∈ lw_all := lw_g (lw_at lw_m8 123 rfl) rfl
theorem q1991 : (Jvm.Cond.methodLink "AlgolMill$Name" (120 : Nat) ({ cls := "AlgolMill$Coder", name := "use", desc := "(LAlgolMill$Thing;I)V" } : Jvm.MethodName)) ∈ lw_all := lw_g (lw_at lw_m8 130 rfl) rfl
theorem q1995 : (Jvm.Cond.methodLink "AlgolMill$Name" (133 : Nat) ({ cls := "AlgolMill$Name", name := "emitPlace", desc := "(LAlgolMill$Coder;)V" } : Jvm.MethodName)) ∈ lw_all := lw_g (lw_at lw_m8 134 rfl) rfl
theorem q1996 : (Jvm.Cond.instanceMethod ({ cls := "AlgolMill$Name", name := "emitPlace", desc := "(LAlgolMill$Coder;)V" } : Jvm.MethodName)) ∈ lw_all := lw_g (lw_at lw_m8 135 rfl) rfl
theorem q1997 : (Jvm.Cond.selects "AlgolMill$Name" ({ cls := "AlgolMill$Name", name := "emitPlace", desc := "(LAlgolMill$Coder;)V" } : Jvm.MethodName) ({ cls := "AlgolMill$Name", name := "emitPlace", desc := "(LAlgolMill$Coder;)V" } : Jvm.MethodName)) ∈ lw_all := lw_g (lw_at lw_m8 136 rfl) rfl
theorem q1998 : (Jvm.Cond.code ({ cls := "AlgolMill$Name", name := "emitPlace", desc := "(LAlgolMill$Coder;)V" } : Jvm.MethodName) prog_20_method_11_code (2 : Nat) (Option.none : Option Jvm.ClassFile.FieldType)) ∈ lw_all := lw_g (lw_at lw_m8 137 rfl) rfl
theorem q1999 : (Jvm.Cond.methodLink "AlgolMill$Name" (105 : Nat) ({ cls := "AlgolMill$Coder", name := "place", desc := "(LAlgolMill$Routine;I)V" } : Jvm.MethodName)) ∈ lw_all := lw_g (lw_at lw_m8 138 rfl) rfl
theorem q2000 : (Jvm.Cond.methodLink "AlgolMill$Name" (114 : Nat) ({ cls := "AlgolMill$Coder", name := "address", desc := "(I)V" } : Jvm.MethodName)) ∈ lw_all := lw_g (lw_at lw_m8 139 rfl) rfl
theorem q2049 : (Jvm.Cond.selects "AlgolMill$Name" ({ cls := "AlgolMill$Expr", name := "emit", desc := "(LAlgolMill$Coder;)V" } : Jvm.MethodName) ({ cls := "AlgolMill$Name", name := "emit", desc := "(LAlgolMill$Coder;)V" } : Jvm.MethodName)) ∈ lw_all := lw_g (lw_at lw_m8 188 rfl) rfl
theorem q2125 : (Jvm.Cond.instanceMethod ({ cls := "AlgolMill$Name", name := "emitAim", desc := "(LAlgolMill$Coder;)V" } : Jvm.MethodName)) ∈ lw_all := lw_g (lw_at lw_m9 24 rfl) rfl
theorem q2126 : (Jvm.Cond.code ({ cls := "AlgolMill$Name", name := "emitAim", desc := "(LAlgolMill$Coder;)V" } : Jvm.MethodName) prog_20_method_13_code (2 : Nat) (Option.none : Option Jvm.ClassFile.FieldType)) ∈ lw_all := lw_g (lw_at lw_m9 25 rfl) rfl
theorem q2127 : (Jvm.Cond.methodLink "AlgolMill$Name" (137 : Nat) ({ cls := "AlgolMill$Coder", name := "choose", desc := "(LAlgolMill$Name;)V" } : Jvm.MethodName)) ∈ lw_all := lw_g (lw_at lw_m9 26 rfl) rfl
theorem q2131 : (Jvm.Cond.methodLink "AlgolMill$Name" (140 : Nat) ({ cls := "AlgolMill$Coder", name := "mark", desc := "(LAlgolMill$Thing;)V" } : Jvm.MethodName)) ∈ lw_all := lw_g (lw_at lw_m9 30 rfl) rfl
theorem q2139 : (Jvm.Cond.selects "AlgolMill$Name" ({ cls := "AlgolMill$Expr", name := "emitAim", desc := "(LAlgolMill$Coder;)V" } : Jvm.MethodName) ({ cls := "AlgolMill$Name", name := "emitAim", desc := "(LAlgolMill$Coder;)V" } : Jvm.MethodName)) ∈ lw_all := lw_g (lw_at lw_m9 38 rfl) rfl
theorem q2226 : (Jvm.Cond.selects "AlgolMill$Name" ({ cls := "AlgolMill$Expr", name := "emitPlace", desc := "(LAlgolMill$Coder;)V" } : Jvm.MethodName) ({ cls := "AlgolMill$Name", name := "emitPlace", desc := "(LAlgolMill$Coder;)V" } : Jvm.MethodName)) ∈ lw_all := lw_g (lw_at lw_m9 125 rfl) rfl
theorem q3400 : (Jvm.Cond.castable "AlgolMill$Name" "AlgolMill$Name") ∈ lw_tbl := lw_at lw_m14 99 rfl
theorem q3413 : (Jvm.Cond.castable "AlgolMill$Name" "AlgolMill$Expr") ∈ lw_tbl := lw_at lw_m14 112 rfl
theorem in_X21 : ∀ w ∈ wsX210, w ∈ lw_all := lw_in wsX210 [1200, 1192, 1194, 1196, 1198] (by decide +kernel) (by decide +kernel)
/-! AlgolMill$Round -/
def RX22 : String := "AlgolMill$Round"
def TX22 : u_T := fun k => match k with
  | 0 => ("AlgolMill$Expr", "token", "I", true)
  | _ => ("AlgolMill$Round", "inside", "LAlgolMill$Expr;", true)
def tyX22 : Nat → FieldType := fun k => match k with
  | 0 => .int
  | _ => .object "AlgolMill$Expr"
abbrev wsX220 : List Cond := u_ws RX22 TX22 2
theorem nmX22 : ∀ a, a < 2 → ∀ b, b < 2 → a ≠ b → (TX22 a).2.1 ≠ (TX22 b).2.1 := by decide +kernel
theorem tyX22_ok : ∀ k, k < 2 → parseFieldDescriptor (TX22 k).2.2.1 = some (tyX22 k) := by decide +kernel
abbrev cX22_init : ByteArray := prog_25_method_1_code
def yX22_init : MethodName := ⟨RX22, "<init>", "(ILAlgolMill$Expr;)V"⟩
abbrev cX22_checkAim : ByteArray := prog_25_method_3_code
def yX22_checkAim : MethodName := ⟨RX22, "checkAim", "(LAlgolMill$Checker;)V"⟩
abbrev cX22_check : ByteArray := prog_25_method_2_code
def yX22_check : MethodName := ⟨RX22, "check", "(LAlgolMill$Checker;)I"⟩
abbrev cX22_looksAim : ByteArray := prog_25_method_4_code
def yX22_looksAim : MethodName := ⟨RX22, "looksAim", "()Z"⟩
abbrev cX22_checkNames : ByteArray := prog_25_method_5_code
def yX22_checkNames : MethodName := ⟨RX22, "checkNames", "(LAlgolMill$Checker;)V"⟩
abbrev cX22_emit : ByteArray := prog_25_method_6_code
def yX22_emit : MethodName := ⟨RX22, "emit", "(LAlgolMill$Coder;)V"⟩
abbrev cX22_emitAim : ByteArray := prog_25_method_7_code
def yX22_emitAim : MethodName := ⟨RX22, "emitAim", "(LAlgolMill$Coder;)V"⟩
theorem q215 : (Jvm.Cond.initialized "AlgolMill$Round") ∈ lw_all := lw_g (lw_at lw_m1 34 rfl) rfl
theorem q1207 : (Jvm.Cond.instantiable "AlgolMill$Round" (2 : Nat)) ∈ lw_all := lw_g (lw_at lw_m5 66 rfl) rfl
theorem q1209 : (Jvm.Cond.instanceMethod ({ cls := "AlgolMill$Round", name := "<init>", desc := "(ILAlgolMill$Expr;)V" } : Jvm.MethodName)) ∈ lw_all := lw_g (lw_at lw_m5 68 rfl) rfl
theorem q1210 : (Jvm.Cond.code ({ cls := "AlgolMill$Round", name := "<init>", desc := "(ILAlgolMill$Expr;)V" } : Jvm.MethodName) prog_25_method_1_code (3 : Nat) (Option.none : Option Jvm.ClassFile.FieldType)) ∈ lw_all := lw_g (lw_at lw_m5 69 rfl) rfl
theorem q1211 : (Jvm.Cond.methodLink "AlgolMill$Round" (1 : Nat) ({ cls := "AlgolMill$Expr", name := "<init>", desc := "(I)V" } : Jvm.MethodName)) ∈ lw_all := lw_g (lw_at lw_m5 70 rfl) rfl
theorem q1212 : (Jvm.Cond.fieldLink "AlgolMill$Round" (7 : Nat) "AlgolMill$Round" "inside" "LAlgolMill$Expr;") ∈ lw_all := lw_g (lw_at lw_m5 71 rfl) rfl
theorem q1213 : (Jvm.Cond.laysFinal "AlgolMill$Round" "AlgolMill$Round" "inside" "LAlgolMill$Expr;") ∈ lw_all := lw_g (lw_at lw_m5 72 rfl) rfl
theorem q1214 : (Jvm.Cond.soleField "AlgolMill$Round" "inside") ∈ lw_all := lw_g (lw_at lw_m5 73 rfl) rfl
theorem q1215 : (Jvm.Cond.laysFinal "AlgolMill$Round" "AlgolMill$Expr" "token" "I") ∈ lw_all := lw_g (lw_at lw_m5 74 rfl) rfl
theorem q1216 : (Jvm.Cond.superclass "AlgolMill$Round" "AlgolMill$Expr") ∈ lw_all := lw_g (lw_at lw_m5 75 rfl) rfl
theorem q1650 : (Jvm.Cond.instanceMethod ({ cls := "AlgolMill$Round", name := "checkAim", desc := "(LAlgolMill$Checker;)V" } : Jvm.MethodName)) ∈ lw_all := lw_g (lw_at lw_m7 29 rfl) rfl
theorem q1651 : (Jvm.Cond.code ({ cls := "AlgolMill$Round", name := "checkAim", desc := "(LAlgolMill$Checker;)V" } : Jvm.MethodName) prog_25_method_3_code (2 : Nat) (Option.none : Option Jvm.ClassFile.FieldType)) ∈ lw_all := lw_g (lw_at lw_m7 30 rfl) rfl
theorem q1652 : (Jvm.Cond.methodLink "AlgolMill$Round" (17 : Nat) ({ cls := "AlgolMill$Expr", name := "checkAim", desc := "(LAlgolMill$Checker;)V" } : Jvm.MethodName)) ∈ lw_all := lw_g (lw_at lw_m7 31 rfl) rfl
theorem q1655 : (Jvm.Cond.selects "AlgolMill$Round" ({ cls := "AlgolMill$Expr", name := "checkAim", desc := "(LAlgolMill$Checker;)V" } : Jvm.MethodName) ({ cls := "AlgolMill$Round", name := "checkAim", desc := "(LAlgolMill$Checker;)V" } : Jvm.MethodName)) ∈ lw_all := lw_g (lw_at lw_m7 34 rfl) rfl
theorem q1658 : (Jvm.Cond.instanceMethod ({ cls := "AlgolMill$Round", name := "check", desc := "(LAlgolMill$Checker;)I" } : Jvm.MethodName)) ∈ lw_all := lw_g (lw_at lw_m7 37 rfl) rfl
theorem q1659 : (Jvm.Cond.code ({ cls := "AlgolMill$Round", name := "check", desc := "(LAlgolMill$Checker;)I" } : Jvm.MethodName) prog_25_method_2_code (2 : Nat) (Option.some Jvm.ClassFile.FieldType.int)) ∈ lw_all := lw_g (lw_at lw_m7 38 rfl) rfl
theorem q1660 : (Jvm.Cond.methodLink "AlgolMill$Round" (13 : Nat) ({ cls := "AlgolMill$Expr", name := "check", desc := "(LAlgolMill$Checker;)I" } : Jvm.MethodName)) ∈ lw_all := lw_g (lw_at lw_m7 39 rfl) rfl
theorem q1677 : (Jvm.Cond.instanceMethod ({ cls := "AlgolMill$Round", name := "looksAim", desc := "()Z" } : Jvm.MethodName)) ∈ lw_all := lw_g (lw_at lw_m7 56 rfl) rfl
theorem q1678 : (Jvm.Cond.code ({ cls := "AlgolMill$Round", name := "looksAim", desc := "()Z" } : Jvm.MethodName) prog_25_method_4_code (1 : Nat) (Option.some Jvm.ClassFile.FieldType.boolean)) ∈ lw_all := lw_g (lw_at lw_m7 57 rfl) rfl
theorem q1679 : (Jvm.Cond.methodLink "AlgolMill$Round" (21 : Nat) ({ cls := "AlgolMill$Expr", name := "looksAim", desc := "()Z" } : Jvm.MethodName)) ∈ lw_all := lw_g (lw_at lw_m7 58 rfl) rfl
theorem q1682 : (Jvm.Cond.selects "AlgolMill$Round" ({ cls := "AlgolMill$Expr", name := "looksAim", desc := "()Z" } : Jvm.MethodName) ({ cls := "AlgolMill$Round", name := "looksAim", desc := "()Z" } : Jvm.MethodName)) ∈ lw_all := lw_g (lw_at lw_m7 61 rfl) rfl
theorem q1695 : (Jvm.Cond.instanceMethod ({ cls := "AlgolMill$Round", name := "checkNames", desc := "(LAlgolMill$Checker;)V" } : Jvm.MethodName)) ∈ lw_all := lw_g (lw_at lw_m7 74 rfl) rfl
theorem q1696 : (Jvm.Cond.code ({ cls := "AlgolMill$Round", name := "checkNames", desc := "(LAlgolMill$Checker;)V" } : Jvm.MethodName) prog_25_method_5_code (2 : Nat) (Option.none : Option Jvm.ClassFile.FieldType)) ∈ lw_all := lw_g (lw_at lw_m7 75 rfl) rfl
theorem q1697 : (Jvm.Cond.methodLink "AlgolMill$Round" (25 : Nat) ({ cls := "AlgolMill$Expr", name := "checkNames", desc := "(LAlgolMill$Checker;)V" } : Jvm.MethodName)) ∈ lw_all := lw_g (lw_at lw_m7 76 rfl) rfl
theorem q1700 : (Jvm.Cond.selects "AlgolMill$Round" ({ cls := "AlgolMill$Expr", name := "checkNames", desc := "(LAlgolMill$Checker;)V" } : Jvm.MethodName) ({ cls := "AlgolMill$Round", name := "checkNames", desc := "(LAlgolMill$Checker;)V" } : Jvm.MethodName)) ∈ lw_all := lw_g (lw_at lw_m7 79 rfl) rfl
theorem q1717 : (Jvm.Cond.selects "AlgolMill$Round" ({ cls := "AlgolMill$Expr", name := "check", desc := "(LAlgolMill$Checker;)I" } : Jvm.MethodName) ({ cls := "AlgolMill$Round", name := "check", desc := "(LAlgolMill$Checker;)I" } : Jvm.MethodName)) ∈ lw_all := lw_g (lw_at lw_m7 96 rfl) rfl
theorem q1889 : (Jvm.Cond.instanceMethod ({ cls := "AlgolMill$Round", name := "emit", desc := "(LAlgolMill$Coder;)V" } : Jvm.MethodName)) ∈ lw_all := lw_g (lw_at lw_m8 28 rfl) rfl
theorem q1890 : (Jvm.Cond.code ({ cls := "AlgolMill$Round", name := "emit", desc := "(LAlgolMill$Coder;)V" } : Jvm.MethodName) prog_25_method_6_code (2 : Nat) (Option.none : Option Jvm.ClassFile.FieldType)) ∈ lw_all := lw_g (lw_at lw_m8 29 rfl) rfl
theorem q1891 : (Jvm.Cond.methodLink "AlgolMill$Round" (28 : Nat) ({ cls := "AlgolMill$Expr", name := "emit", desc := "(LAlgolMill$Coder;)V" } : Jvm.MethodName)) ∈ lw_all := lw_g (lw_at lw_m8 30 rfl) rfl
theorem q1944 : (Jvm.Cond.selects "AlgolMill$Round" ({ cls := "AlgolMill$Expr", name := "isElement", desc := "()Z" } : Jvm.MethodName) ({ cls := "AlgolMill$Expr", name := "isElement", desc := "()Z" } : Jvm.MethodName)) ∈ lw_all := lw_g (lw_at lw_m8 83 rfl) rfl
theorem q1985 : (Jvm.Cond.selects "AlgolMill$Round" ({ cls := "AlgolMill$Expr", name := "isPlace", desc := "()Z" } : Jvm.MethodName) ({ cls := "AlgolMill$Expr", name := "isPlace", desc := "()Z" } : Jvm.MethodName)) ∈ lw_all := lw_g (lw_at lw_m8 124 rfl) rfl
theorem q2050 : (Jvm.Cond.selects "AlgolMill$Round" ({ cls := "AlgolMill$Expr", name := "emit", desc := "(LAlgolMill$Coder;)V" } : Jvm.MethodName) ({ cls := "AlgolMill$Round", name := "emit", desc := "(LAlgolMill$Coder;)V" } : Jvm.MethodName)) ∈ lw_all := lw_g (lw_at lw_m8 189 rfl) rfl
theorem q2135 : (Jvm.Cond.instanceMethod ({ cls := "AlgolMill$Round", name := "emitAim", desc := "(LAlgolMill$Coder;)V" } : Jvm.MethodName)) ∈ lw_all := lw_g (lw_at lw_m9 34 rfl) rfl
theorem q2136 : (Jvm.Cond.code ({ cls := "AlgolMill$Round", name := "emitAim", desc := "(LAlgolMill$Coder;)V" } : Jvm.MethodName) prog_25_method_7_code (2 : Nat) (Option.none : Option Jvm.ClassFile.FieldType)) ∈ lw_all := lw_g (lw_at lw_m9 35 rfl) rfl
theorem q2137 : (Jvm.Cond.methodLink "AlgolMill$Round" (32 : Nat) ({ cls := "AlgolMill$Expr", name := "emitAim", desc := "(LAlgolMill$Coder;)V" } : Jvm.MethodName)) ∈ lw_all := lw_g (lw_at lw_m9 36 rfl) rfl
theorem q2140 : (Jvm.Cond.selects "AlgolMill$Round" ({ cls := "AlgolMill$Expr", name := "emitAim", desc := "(LAlgolMill$Coder;)V" } : Jvm.MethodName) ({ cls := "AlgolMill$Round", name := "emitAim", desc := "(LAlgolMill$Coder;)V" } : Jvm.MethodName)) ∈ lw_all := lw_g (lw_at lw_m9 39 rfl) rfl
theorem q2227 : (Jvm.Cond.selects "AlgolMill$Round" ({ cls := "AlgolMill$Expr", name := "emitPlace", desc := "(LAlgolMill$Coder;)V" } : Jvm.MethodName) ({ cls := "AlgolMill$Expr", name := "emitPlace", desc := "(LAlgolMill$Coder;)V" } : Jvm.MethodName)) ∈ lw_all := lw_g (lw_at lw_m9 126 rfl) rfl
theorem q3414 : (Jvm.Cond.castable "AlgolMill$Round" "AlgolMill$Expr") ∈ lw_tbl := lw_at lw_m14 113 rfl
theorem in_X22 : ∀ w ∈ wsX220, w ∈ lw_all := lw_in wsX220 [1215, 1213] (by decide +kernel) (by decide +kernel)
/-! AlgolMill$Chain -/
def RX23 : String := "AlgolMill$Chain"
def TX23 : u_T := fun k => match k with
  | 0 => ("AlgolMill$Expr", "token", "I", true)
  | 1 => ("AlgolMill$Chain", "operands", "LAlgolMill$Exprs;", true)
  | _ => ("AlgolMill$Chain", "ops", "LAlgolMill$Ints;", true)
def tyX23 : Nat → FieldType := fun k => match k with
  | 0 => .int
  | 1 => .object "AlgolMill$Exprs"
  | _ => .object "AlgolMill$Ints"
abbrev wsX230 : List Cond := u_ws RX23 TX23 3
theorem nmX23 : ∀ a, a < 3 → ∀ b, b < 3 → a ≠ b → (TX23 a).2.1 ≠ (TX23 b).2.1 := by decide +kernel
theorem tyX23_ok : ∀ k, k < 3 → parseFieldDescriptor (TX23 k).2.2.1 = some (tyX23 k) := by decide +kernel
abbrev cX23_init : ByteArray := prog_6_method_1_code
def yX23_init : MethodName := ⟨RX23, "<init>", "(LAlgolMill$Expr;)V"⟩
abbrev cX23_add : ByteArray := prog_6_method_2_code
def yX23_add : MethodName := ⟨RX23, "add", "(ILAlgolMill$Expr;)V"⟩
abbrev cX23_check : ByteArray := prog_6_method_3_code
def yX23_check : MethodName := ⟨RX23, "check", "(LAlgolMill$Checker;)I"⟩
abbrev cX23_emit : ByteArray := prog_6_method_4_code
def yX23_emit : MethodName := ⟨RX23, "emit", "(LAlgolMill$Coder;)V"⟩
theorem q216 : (Jvm.Cond.initialized "AlgolMill$Chain") ∈ lw_all := lw_g (lw_at lw_m1 35 rfl) rfl
theorem q261 : (Jvm.Cond.fieldLink "AlgolMill$Chain" (73 : Nat) "AlgolMill$Ints" "size" "I") ∈ lw_all := lw_g (lw_at lw_m1 80 rfl) rfl
theorem q986 : (Jvm.Cond.fieldLink "AlgolMill$Chain" (62 : Nat) "AlgolMill$Exprs" "size" "I") ∈ lw_all := lw_g (lw_at lw_m4 85 rfl) rfl
theorem q1132 : (Jvm.Cond.fieldLink "AlgolMill$Chain" (3 : Nat) "AlgolMill$Expr" "token" "I") ∈ lw_all := lw_g (lw_at lw_m4 231 rfl) rfl
theorem q1225 : (Jvm.Cond.instantiable "AlgolMill$Chain" (3 : Nat)) ∈ lw_all := lw_g (lw_at lw_m5 84 rfl) rfl
theorem q1227 : (Jvm.Cond.instanceMethod ({ cls := "AlgolMill$Chain", name := "<init>", desc := "(LAlgolMill$Expr;)V" } : Jvm.MethodName)) ∈ lw_all := lw_g (lw_at lw_m5 86 rfl) rfl
theorem q1228 : (Jvm.Cond.code ({ cls := "AlgolMill$Chain", name := "<init>", desc := "(LAlgolMill$Expr;)V" } : Jvm.MethodName) prog_6_method_1_code (2 : Nat) (Option.none : Option Jvm.ClassFile.FieldType)) ∈ lw_all := lw_g (lw_at lw_m5 87 rfl) rfl
theorem q1229 : (Jvm.Cond.methodLink "AlgolMill$Chain" (9 : Nat) ({ cls := "AlgolMill$Expr", name := "<init>", desc := "(I)V" } : Jvm.MethodName)) ∈ lw_all := lw_g (lw_at lw_m5 88 rfl) rfl
theorem q1230 : (Jvm.Cond.classLink "AlgolMill$Chain" (13 : Nat) "AlgolMill$Exprs") ∈ lw_all := lw_g (lw_at lw_m5 89 rfl) rfl
theorem q1231 : (Jvm.Cond.methodLinkNest "AlgolMill$Chain" (15 : Nat) ({ cls := "AlgolMill$Exprs", name := "<init>", desc := "()V" } : Jvm.MethodName) "AlgolMill") ∈ lw_tbl := lw_at lw_m5 90 rfl
theorem q1232 : (Jvm.Cond.classLink "AlgolMill$Chain" (24 : Nat) "AlgolMill$Ints") ∈ lw_all := lw_g (lw_at lw_m5 91 rfl) rfl
theorem q1233 : (Jvm.Cond.methodLink "AlgolMill$Chain" (26 : Nat) ({ cls := "AlgolMill$Ints", name := "<init>", desc := "(I)V" } : Jvm.MethodName)) ∈ lw_all := lw_g (lw_at lw_m5 92 rfl) rfl
theorem q1234 : (Jvm.Cond.methodLink "AlgolMill$Chain" (31 : Nat) ({ cls := "AlgolMill$Exprs", name := "add", desc := "(LAlgolMill$Expr;)V" } : Jvm.MethodName)) ∈ lw_all := lw_g (lw_at lw_m5 93 rfl) rfl
theorem q1235 : (Jvm.Cond.fieldLink "AlgolMill$Chain" (18 : Nat) "AlgolMill$Chain" "operands" "LAlgolMill$Exprs;") ∈ lw_all := lw_g (lw_at lw_m5 94 rfl) rfl
theorem q1236 : (Jvm.Cond.fieldLink "AlgolMill$Chain" (27 : Nat) "AlgolMill$Chain" "ops" "LAlgolMill$Ints;") ∈ lw_all := lw_g (lw_at lw_m5 95 rfl) rfl
theorem q1237 : (Jvm.Cond.laysFinal "AlgolMill$Chain" "AlgolMill$Chain" "operands" "LAlgolMill$Exprs;") ∈ lw_all := lw_g (lw_at lw_m5 96 rfl) rfl
theorem q1238 : (Jvm.Cond.soleField "AlgolMill$Chain" "operands") ∈ lw_all := lw_g (lw_at lw_m5 97 rfl) rfl
theorem q1239 : (Jvm.Cond.laysFinal "AlgolMill$Chain" "AlgolMill$Chain" "ops" "LAlgolMill$Ints;") ∈ lw_all := lw_g (lw_at lw_m5 98 rfl) rfl
theorem q1240 : (Jvm.Cond.soleField "AlgolMill$Chain" "ops") ∈ lw_all := lw_g (lw_at lw_m5 99 rfl) rfl
theorem q1241 : (Jvm.Cond.laysFinal "AlgolMill$Chain" "AlgolMill$Expr" "token" "I") ∈ lw_all := lw_g (lw_at lw_m5 100 rfl) rfl
theorem q1242 : (Jvm.Cond.superclass "AlgolMill$Chain" "AlgolMill$Expr") ∈ lw_all := lw_g (lw_at lw_m5 101 rfl) rfl
theorem q1244 : (Jvm.Cond.instanceMethod ({ cls := "AlgolMill$Chain", name := "add", desc := "(ILAlgolMill$Expr;)V" } : Jvm.MethodName)) ∈ lw_all := lw_g (lw_at lw_m5 103 rfl) rfl
theorem q1245 : (Jvm.Cond.selects "AlgolMill$Chain" ({ cls := "AlgolMill$Chain", name := "add", desc := "(ILAlgolMill$Expr;)V" } : Jvm.MethodName) ({ cls := "AlgolMill$Chain", name := "add", desc := "(ILAlgolMill$Expr;)V" } : Jvm.MethodName)) ∈ lw_all := lw_g (lw_at lw_m5 104 rfl) rfl
theorem q1246 : (Jvm.Cond.code ({ cls := "AlgolMill$Chain", name := "add", desc := "(ILAlgolMill$Expr;)V" } : Jvm.MethodName) prog_6_method_2_code (3 : Nat) (Option.none : Option Jvm.ClassFile.FieldType)) ∈ lw_all := lw_g (lw_at lw_m5 105 rfl) rfl
theorem q1247 : (Jvm.Cond.methodLink "AlgolMill$Chain" (35 : Nat) ({ cls := "AlgolMill$Ints", name := "add", desc := "(I)V" } : Jvm.MethodName)) ∈ lw_all := lw_g (lw_at lw_m5 106 rfl) rfl
theorem q1599 : (Jvm.Cond.selects "AlgolMill$Chain" ({ cls := "AlgolMill$Expr", name := "check", desc := "(LAlgolMill$Checker;)I" } : Jvm.MethodName) ({ cls := "AlgolMill$Chain", name := "check", desc := "(LAlgolMill$Checker;)I" } : Jvm.MethodName)) ∈ lw_all := lw_g (lw_at lw_m6 218 rfl) rfl
theorem q1600 : (Jvm.Cond.instanceMethod ({ cls := "AlgolMill$Chain", name := "check", desc := "(LAlgolMill$Checker;)I" } : Jvm.MethodName)) ∈ lw_all := lw_g (lw_at lw_m6 219 rfl) rfl
theorem q1601 : (Jvm.Cond.code ({ cls := "AlgolMill$Chain", name := "check", desc := "(LAlgolMill$Checker;)I" } : Jvm.MethodName) prog_6_method_3_code (5 : Nat) (Option.some Jvm.ClassFile.FieldType.int)) ∈ lw_all := lw_g (lw_at lw_m6 220 rfl) rfl
theorem q1602 : (Jvm.Cond.methodLink "AlgolMill$Chain" (37 : Nat) ({ cls := "AlgolMill$Ints", name := "get", desc := "(I)I" } : Jvm.MethodName)) ∈ lw_all := lw_g (lw_at lw_m6 221 rfl) rfl
theorem q1603 : (Jvm.Cond.methodLink "AlgolMill$Chain" (41 : Nat) ({ cls := "AlgolMill$Exprs", name := "get", desc := "(I)LAlgolMill$Expr;" } : Jvm.MethodName)) ∈ lw_all := lw_g (lw_at lw_m6 222 rfl) rfl
theorem q1604 : (Jvm.Cond.methodLink "AlgolMill$Chain" (44 : Nat) ({ cls := "AlgolMill$Expr", name := "check", desc := "(LAlgolMill$Checker;)I" } : Jvm.MethodName)) ∈ lw_all := lw_g (lw_at lw_m6 223 rfl) rfl
theorem q1642 : (Jvm.Cond.selects "AlgolMill$Chain" ({ cls := "AlgolMill$Expr", name := "checkAim", desc := "(LAlgolMill$Checker;)V" } : Jvm.MethodName) ({ cls := "AlgolMill$Expr", name := "checkAim", desc := "(LAlgolMill$Checker;)V" } : Jvm.MethodName)) ∈ lw_all := lw_g (lw_at lw_m7 21 rfl) rfl
theorem q1670 : (Jvm.Cond.selects "AlgolMill$Chain" ({ cls := "AlgolMill$Expr", name := "looksAim", desc := "()Z" } : Jvm.MethodName) ({ cls := "AlgolMill$Expr", name := "looksAim", desc := "()Z" } : Jvm.MethodName)) ∈ lw_all := lw_g (lw_at lw_m7 49 rfl) rfl
theorem q1688 : (Jvm.Cond.selects "AlgolMill$Chain" ({ cls := "AlgolMill$Expr", name := "checkNames", desc := "(LAlgolMill$Checker;)V" } : Jvm.MethodName) ({ cls := "AlgolMill$Expr", name := "checkNames", desc := "(LAlgolMill$Checker;)V" } : Jvm.MethodName)) ∈ lw_all := lw_g (lw_at lw_m7 67 rfl) rfl
theorem q1709 : (Jvm.Cond.methodLink "AlgolMill$Chain" (48 : Nat) ({ cls := "AlgolMill$Checker", name := "fault", desc := "(II)V" } : Jvm.MethodName)) ∈ lw_all := lw_g (lw_at lw_m7 88 rfl) rfl
theorem q1710 : (Jvm.Cond.constantLong "AlgolMill$Chain" (54 : Nat) (181 : Int64)) ∈ lw_all := lw_g (lw_at lw_m7 89 rfl) rfl
theorem q1711 : (Jvm.Cond.constantLong "AlgolMill$Chain" (56 : Nat) (184 : Int64)) ∈ lw_all := lw_g (lw_at lw_m7 90 rfl) rfl
theorem q1712 : (Jvm.Cond.methodLinkNest "AlgolMill$Chain" (58 : Nat) ({ cls := "AlgolMill", name := "in", desc := "(JJJ)Z" } : Jvm.MethodName) "AlgolMill") ∈ lw_tbl := lw_at lw_m7 91 rfl
theorem q1713 : (Jvm.Cond.methodLink "AlgolMill$Chain" (65 : Nat) ({ cls := "AlgolMill$Checker", name := "need", desc := "(LAlgolMill$Expr;I)V" } : Jvm.MethodName)) ∈ lw_all := lw_g (lw_at lw_m7 92 rfl) rfl
theorem q1867 : (Jvm.Cond.instanceMethod ({ cls := "AlgolMill$Chain", name := "emit", desc := "(LAlgolMill$Coder;)V" } : Jvm.MethodName)) ∈ lw_all := lw_g (lw_at lw_m8 6 rfl) rfl
theorem q1868 : (Jvm.Cond.code ({ cls := "AlgolMill$Chain", name := "emit", desc := "(LAlgolMill$Coder;)V" } : Jvm.MethodName) prog_6_method_4_code (3 : Nat) (Option.none : Option Jvm.ClassFile.FieldType)) ∈ lw_all := lw_g (lw_at lw_m8 7 rfl) rfl
theorem q1869 : (Jvm.Cond.methodLink "AlgolMill$Chain" (69 : Nat) ({ cls := "AlgolMill$Expr", name := "emit", desc := "(LAlgolMill$Coder;)V" } : Jvm.MethodName)) ∈ lw_all := lw_g (lw_at lw_m8 8 rfl) rfl
theorem q1938 : (Jvm.Cond.selects "AlgolMill$Chain" ({ cls := "AlgolMill$Expr", name := "isElement", desc := "()Z" } : Jvm.MethodName) ({ cls := "AlgolMill$Expr", name := "isElement", desc := "()Z" } : Jvm.MethodName)) ∈ lw_all := lw_g (lw_at lw_m8 77 rfl) rfl
theorem q1979 : (Jvm.Cond.selects "AlgolMill$Chain" ({ cls := "AlgolMill$Expr", name := "isPlace", desc := "()Z" } : Jvm.MethodName) ({ cls := "AlgolMill$Expr", name := "isPlace", desc := "()Z" } : Jvm.MethodName)) ∈ lw_all := lw_g (lw_at lw_m8 118 rfl) rfl
theorem q2025 : (Jvm.Cond.methodLink "AlgolMill$Chain" (74 : Nat) ({ cls := "AlgolMill$Coder", name := "push", desc := "()V" } : Jvm.MethodName)) ∈ lw_all := lw_g (lw_at lw_m8 164 rfl) rfl
theorem q2026 : (Jvm.Cond.methodLink "AlgolMill$Chain" (79 : Nat) ({ cls := "AlgolMill$Coder", name := "two", desc := "(I)V" } : Jvm.MethodName)) ∈ lw_all := lw_g (lw_at lw_m8 165 rfl) rfl
theorem q2046 : (Jvm.Cond.selects "AlgolMill$Chain" ({ cls := "AlgolMill$Expr", name := "emit", desc := "(LAlgolMill$Coder;)V" } : Jvm.MethodName) ({ cls := "AlgolMill$Chain", name := "emit", desc := "(LAlgolMill$Coder;)V" } : Jvm.MethodName)) ∈ lw_all := lw_g (lw_at lw_m8 185 rfl) rfl
theorem q2120 : (Jvm.Cond.selects "AlgolMill$Chain" ({ cls := "AlgolMill$Expr", name := "emitAim", desc := "(LAlgolMill$Coder;)V" } : Jvm.MethodName) ({ cls := "AlgolMill$Expr", name := "emitAim", desc := "(LAlgolMill$Coder;)V" } : Jvm.MethodName)) ∈ lw_all := lw_g (lw_at lw_m9 19 rfl) rfl
theorem q2223 : (Jvm.Cond.selects "AlgolMill$Chain" ({ cls := "AlgolMill$Expr", name := "emitPlace", desc := "(LAlgolMill$Coder;)V" } : Jvm.MethodName) ({ cls := "AlgolMill$Expr", name := "emitPlace", desc := "(LAlgolMill$Coder;)V" } : Jvm.MethodName)) ∈ lw_all := lw_g (lw_at lw_m9 122 rfl) rfl
theorem q3410 : (Jvm.Cond.castable "AlgolMill$Chain" "AlgolMill$Expr") ∈ lw_tbl := lw_at lw_m14 109 rfl
theorem in_X23 : ∀ w ∈ wsX230, w ∈ lw_all := lw_in wsX230 [1241, 1237, 1239] (by decide +kernel) (by decide +kernel)
/-! AlgolMill$Choice -/
def RX24 : String := "AlgolMill$Choice"
def TX24 : u_T := fun k => match k with
  | 0 => ("AlgolMill$Expr", "token", "I", true)
  | 1 => ("AlgolMill$Choice", "test", "LAlgolMill$Expr;", true)
  | 2 => ("AlgolMill$Choice", "first", "LAlgolMill$Expr;", true)
  | _ => ("AlgolMill$Choice", "second", "LAlgolMill$Expr;", true)
def tyX24 : Nat → FieldType := fun k => match k with
  | 0 => .int
  | 1 => .object "AlgolMill$Expr"
  | 2 => .object "AlgolMill$Expr"
  | _ => .object "AlgolMill$Expr"
abbrev wsX240 : List Cond := u_ws RX24 TX24 4
theorem nmX24 : ∀ a, a < 4 → ∀ b, b < 4 → a ≠ b → (TX24 a).2.1 ≠ (TX24 b).2.1 := by decide +kernel
theorem tyX24_ok : ∀ k, k < 4 → parseFieldDescriptor (TX24 k).2.2.1 = some (tyX24 k) := by decide +kernel
abbrev cX24_init : ByteArray := prog_8_method_1_code
def yX24_init : MethodName := ⟨RX24, "<init>", "(ILAlgolMill$Expr;LAlgolMill$Expr;LAlgolMill$Expr;)V"⟩
abbrev cX24_check : ByteArray := prog_8_method_2_code
def yX24_check : MethodName := ⟨RX24, "check", "(LAlgolMill$Checker;)I"⟩
abbrev cX24_checkAim : ByteArray := prog_8_method_5_code
def yX24_checkAim : MethodName := ⟨RX24, "checkAim", "(LAlgolMill$Checker;)V"⟩
abbrev cX24_looksAim : ByteArray := prog_8_method_3_code
def yX24_looksAim : MethodName := ⟨RX24, "looksAim", "()Z"⟩
abbrev cX24_checkNames : ByteArray := prog_8_method_4_code
def yX24_checkNames : MethodName := ⟨RX24, "checkNames", "(LAlgolMill$Checker;)V"⟩
abbrev cX24_emit : ByteArray := prog_8_method_6_code
def yX24_emit : MethodName := ⟨RX24, "emit", "(LAlgolMill$Coder;)V"⟩
abbrev cX24_emitAim : ByteArray := prog_8_method_7_code
def yX24_emitAim : MethodName := ⟨RX24, "emitAim", "(LAlgolMill$Coder;)V"⟩
theorem q217 : (Jvm.Cond.initialized "AlgolMill$Choice") ∈ lw_all := lw_g (lw_at lw_m1 36 rfl) rfl
theorem q1136 : (Jvm.Cond.fieldLink "AlgolMill$Choice" (29 : Nat) "AlgolMill$Expr" "token" "I") ∈ lw_all := lw_g (lw_at lw_m4 235 rfl) rfl
theorem q1249 : (Jvm.Cond.instantiable "AlgolMill$Choice" (4 : Nat)) ∈ lw_all := lw_g (lw_at lw_m5 108 rfl) rfl
theorem q1251 : (Jvm.Cond.instanceMethod ({ cls := "AlgolMill$Choice", name := "<init>", desc := "(ILAlgolMill$Expr;LAlgolMill$Expr;LAlgolMill$Expr;)V" } : Jvm.MethodName)) ∈ lw_all := lw_g (lw_at lw_m5 110 rfl) rfl
theorem q1252 : (Jvm.Cond.code ({ cls := "AlgolMill$Choice", name := "<init>", desc := "(ILAlgolMill$Expr;LAlgolMill$Expr;LAlgolMill$Expr;)V" } : Jvm.MethodName) prog_8_method_1_code (5 : Nat) (Option.none : Option Jvm.ClassFile.FieldType)) ∈ lw_all := lw_g (lw_at lw_m5 111 rfl) rfl
theorem q1253 : (Jvm.Cond.methodLink "AlgolMill$Choice" (1 : Nat) ({ cls := "AlgolMill$Expr", name := "<init>", desc := "(I)V" } : Jvm.MethodName)) ∈ lw_all := lw_g (lw_at lw_m5 112 rfl) rfl
theorem q1254 : (Jvm.Cond.fieldLink "AlgolMill$Choice" (7 : Nat) "AlgolMill$Choice" "test" "LAlgolMill$Expr;") ∈ lw_all := lw_g (lw_at lw_m5 113 rfl) rfl
theorem q1255 : (Jvm.Cond.fieldLink "AlgolMill$Choice" (13 : Nat) "AlgolMill$Choice" "first" "LAlgolMill$Expr;") ∈ lw_all := lw_g (lw_at lw_m5 114 rfl) rfl
theorem q1256 : (Jvm.Cond.fieldLink "AlgolMill$Choice" (16 : Nat) "AlgolMill$Choice" "second" "LAlgolMill$Expr;") ∈ lw_all := lw_g (lw_at lw_m5 115 rfl) rfl
theorem q1257 : (Jvm.Cond.laysFinal "AlgolMill$Choice" "AlgolMill$Choice" "test" "LAlgolMill$Expr;") ∈ lw_all := lw_g (lw_at lw_m5 116 rfl) rfl
theorem q1258 : (Jvm.Cond.soleField "AlgolMill$Choice" "test") ∈ lw_all := lw_g (lw_at lw_m5 117 rfl) rfl
theorem q1259 : (Jvm.Cond.laysFinal "AlgolMill$Choice" "AlgolMill$Choice" "first" "LAlgolMill$Expr;") ∈ lw_all := lw_g (lw_at lw_m5 118 rfl) rfl
theorem q1260 : (Jvm.Cond.soleField "AlgolMill$Choice" "first") ∈ lw_all := lw_g (lw_at lw_m5 119 rfl) rfl
theorem q1261 : (Jvm.Cond.laysFinal "AlgolMill$Choice" "AlgolMill$Choice" "second" "LAlgolMill$Expr;") ∈ lw_all := lw_g (lw_at lw_m5 120 rfl) rfl
theorem q1262 : (Jvm.Cond.soleField "AlgolMill$Choice" "second") ∈ lw_all := lw_g (lw_at lw_m5 121 rfl) rfl
theorem q1263 : (Jvm.Cond.laysFinal "AlgolMill$Choice" "AlgolMill$Expr" "token" "I") ∈ lw_all := lw_g (lw_at lw_m5 122 rfl) rfl
theorem q1264 : (Jvm.Cond.superclass "AlgolMill$Choice" "AlgolMill$Expr") ∈ lw_all := lw_g (lw_at lw_m5 123 rfl) rfl
theorem q1605 : (Jvm.Cond.instanceMethod ({ cls := "AlgolMill$Choice", name := "check", desc := "(LAlgolMill$Checker;)I" } : Jvm.MethodName)) ∈ lw_all := lw_g (lw_at lw_m6 224 rfl) rfl
theorem q1606 : (Jvm.Cond.code ({ cls := "AlgolMill$Choice", name := "check", desc := "(LAlgolMill$Checker;)I" } : Jvm.MethodName) prog_8_method_2_code (4 : Nat) (Option.some Jvm.ClassFile.FieldType.int)) ∈ lw_all := lw_g (lw_at lw_m6 225 rfl) rfl
theorem q1607 : (Jvm.Cond.methodLink "AlgolMill$Choice" (19 : Nat) ({ cls := "AlgolMill$Checker", name := "need", desc := "(LAlgolMill$Expr;I)V" } : Jvm.MethodName)) ∈ lw_all := lw_g (lw_at lw_m6 226 rfl) rfl
theorem q1608 : (Jvm.Cond.methodLink "AlgolMill$Choice" (25 : Nat) ({ cls := "AlgolMill$Expr", name := "check", desc := "(LAlgolMill$Checker;)I" } : Jvm.MethodName)) ∈ lw_all := lw_g (lw_at lw_m6 227 rfl) rfl
theorem q1643 : (Jvm.Cond.selects "AlgolMill$Choice" ({ cls := "AlgolMill$Expr", name := "checkAim", desc := "(LAlgolMill$Checker;)V" } : Jvm.MethodName) ({ cls := "AlgolMill$Choice", name := "checkAim", desc := "(LAlgolMill$Checker;)V" } : Jvm.MethodName)) ∈ lw_all := lw_g (lw_at lw_m7 22 rfl) rfl
theorem q1644 : (Jvm.Cond.instanceMethod ({ cls := "AlgolMill$Choice", name := "checkAim", desc := "(LAlgolMill$Checker;)V" } : Jvm.MethodName)) ∈ lw_all := lw_g (lw_at lw_m7 23 rfl) rfl
theorem q1645 : (Jvm.Cond.code ({ cls := "AlgolMill$Choice", name := "checkAim", desc := "(LAlgolMill$Checker;)V" } : Jvm.MethodName) prog_8_method_5_code (2 : Nat) (Option.none : Option Jvm.ClassFile.FieldType)) ∈ lw_all := lw_g (lw_at lw_m7 24 rfl) rfl
theorem q1646 : (Jvm.Cond.methodLink "AlgolMill$Choice" (45 : Nat) ({ cls := "AlgolMill$Expr", name := "checkAim", desc := "(LAlgolMill$Checker;)V" } : Jvm.MethodName)) ∈ lw_all := lw_g (lw_at lw_m7 25 rfl) rfl
theorem q1671 : (Jvm.Cond.selects "AlgolMill$Choice" ({ cls := "AlgolMill$Expr", name := "looksAim", desc := "()Z" } : Jvm.MethodName) ({ cls := "AlgolMill$Choice", name := "looksAim", desc := "()Z" } : Jvm.MethodName)) ∈ lw_all := lw_g (lw_at lw_m7 50 rfl) rfl
theorem q1672 : (Jvm.Cond.instanceMethod ({ cls := "AlgolMill$Choice", name := "looksAim", desc := "()Z" } : Jvm.MethodName)) ∈ lw_all := lw_g (lw_at lw_m7 51 rfl) rfl
theorem q1673 : (Jvm.Cond.code ({ cls := "AlgolMill$Choice", name := "looksAim", desc := "()Z" } : Jvm.MethodName) prog_8_method_3_code (1 : Nat) (Option.some Jvm.ClassFile.FieldType.boolean)) ∈ lw_all := lw_g (lw_at lw_m7 52 rfl) rfl
theorem q1674 : (Jvm.Cond.methodLink "AlgolMill$Choice" (37 : Nat) ({ cls := "AlgolMill$Expr", name := "looksAim", desc := "()Z" } : Jvm.MethodName)) ∈ lw_all := lw_g (lw_at lw_m7 53 rfl) rfl
theorem q1689 : (Jvm.Cond.selects "AlgolMill$Choice" ({ cls := "AlgolMill$Expr", name := "checkNames", desc := "(LAlgolMill$Checker;)V" } : Jvm.MethodName) ({ cls := "AlgolMill$Choice", name := "checkNames", desc := "(LAlgolMill$Checker;)V" } : Jvm.MethodName)) ∈ lw_all := lw_g (lw_at lw_m7 68 rfl) rfl
theorem q1690 : (Jvm.Cond.instanceMethod ({ cls := "AlgolMill$Choice", name := "checkNames", desc := "(LAlgolMill$Checker;)V" } : Jvm.MethodName)) ∈ lw_all := lw_g (lw_at lw_m7 69 rfl) rfl
theorem q1691 : (Jvm.Cond.code ({ cls := "AlgolMill$Choice", name := "checkNames", desc := "(LAlgolMill$Checker;)V" } : Jvm.MethodName) prog_8_method_4_code (2 : Nat) (Option.none : Option Jvm.ClassFile.FieldType)) ∈ lw_all := lw_g (lw_at lw_m7 70 rfl) rfl
theorem q1692 : (Jvm.Cond.methodLink "AlgolMill$Choice" (41 : Nat) ({ cls := "AlgolMill$Expr", name := "checkNames", desc := "(LAlgolMill$Checker;)V" } : Jvm.MethodName)) ∈ lw_all := lw_g (lw_at lw_m7 71 rfl) rfl
theorem q1708 : (Jvm.Cond.methodLink "AlgolMill$Choice" (33 : Nat) ({ cls := "AlgolMill$Checker", name := "fault", desc := "(II)V" } : Jvm.MethodName)) ∈ lw_all := lw_g (lw_at lw_m7 87 rfl) rfl
theorem q1714 : (Jvm.Cond.selects "AlgolMill$Choice" ({ cls := "AlgolMill$Expr", name := "check", desc := "(LAlgolMill$Checker;)I" } : Jvm.MethodName) ({ cls := "AlgolMill$Choice", name := "check", desc := "(LAlgolMill$Checker;)I" } : Jvm.MethodName)) ∈ lw_all := lw_g (lw_at lw_m7 93 rfl) rfl
theorem q1870 : (Jvm.Cond.instanceMethod ({ cls := "AlgolMill$Choice", name := "emit", desc := "(LAlgolMill$Coder;)V" } : Jvm.MethodName)) ∈ lw_all := lw_g (lw_at lw_m8 9 rfl) rfl
theorem q1871 : (Jvm.Cond.code ({ cls := "AlgolMill$Choice", name := "emit", desc := "(LAlgolMill$Coder;)V" } : Jvm.MethodName) prog_8_method_6_code (4 : Nat) (Option.none : Option Jvm.ClassFile.FieldType)) ∈ lw_all := lw_g (lw_at lw_m8 10 rfl) rfl
theorem q1872 : (Jvm.Cond.methodLink "AlgolMill$Choice" (48 : Nat) ({ cls := "AlgolMill$Expr", name := "emit", desc := "(LAlgolMill$Coder;)V" } : Jvm.MethodName)) ∈ lw_all := lw_g (lw_at lw_m8 11 rfl) rfl
theorem q1939 : (Jvm.Cond.selects "AlgolMill$Choice" ({ cls := "AlgolMill$Expr", name := "isElement", desc := "()Z" } : Jvm.MethodName) ({ cls := "AlgolMill$Expr", name := "isElement", desc := "()Z" } : Jvm.MethodName)) ∈ lw_all := lw_g (lw_at lw_m8 78 rfl) rfl
theorem q1980 : (Jvm.Cond.selects "AlgolMill$Choice" ({ cls := "AlgolMill$Expr", name := "isPlace", desc := "()Z" } : Jvm.MethodName) ({ cls := "AlgolMill$Expr", name := "isPlace", desc := "()Z" } : Jvm.MethodName)) ∈ lw_all := lw_g (lw_at lw_m8 119 rfl) rfl
theorem q2004 : (Jvm.Cond.methodLink "AlgolMill$Choice" (52 : Nat) ({ cls := "AlgolMill$Coder", name := "jumpIfNot", desc := "()I" } : Jvm.MethodName)) ∈ lw_all := lw_g (lw_at lw_m8 143 rfl) rfl
theorem q2008 : (Jvm.Cond.methodLink "AlgolMill$Choice" (58 : Nat) ({ cls := "AlgolMill$Coder", name := "jump", desc := "()I" } : Jvm.MethodName)) ∈ lw_all := lw_g (lw_at lw_m8 147 rfl) rfl
theorem q2012 : (Jvm.Cond.methodLink "AlgolMill$Choice" (61 : Nat) ({ cls := "AlgolMill$Coder", name := "here", desc := "(I)V" } : Jvm.MethodName)) ∈ lw_all := lw_g (lw_at lw_m8 151 rfl) rfl
theorem q2047 : (Jvm.Cond.selects "AlgolMill$Choice" ({ cls := "AlgolMill$Expr", name := "emit", desc := "(LAlgolMill$Coder;)V" } : Jvm.MethodName) ({ cls := "AlgolMill$Choice", name := "emit", desc := "(LAlgolMill$Coder;)V" } : Jvm.MethodName)) ∈ lw_all := lw_g (lw_at lw_m8 186 rfl) rfl
theorem q2121 : (Jvm.Cond.selects "AlgolMill$Choice" ({ cls := "AlgolMill$Expr", name := "emitAim", desc := "(LAlgolMill$Coder;)V" } : Jvm.MethodName) ({ cls := "AlgolMill$Choice", name := "emitAim", desc := "(LAlgolMill$Coder;)V" } : Jvm.MethodName)) ∈ lw_all := lw_g (lw_at lw_m9 20 rfl) rfl
theorem q2122 : (Jvm.Cond.instanceMethod ({ cls := "AlgolMill$Choice", name := "emitAim", desc := "(LAlgolMill$Coder;)V" } : Jvm.MethodName)) ∈ lw_all := lw_g (lw_at lw_m9 21 rfl) rfl
theorem q2123 : (Jvm.Cond.code ({ cls := "AlgolMill$Choice", name := "emitAim", desc := "(LAlgolMill$Coder;)V" } : Jvm.MethodName) prog_8_method_7_code (4 : Nat) (Option.none : Option Jvm.ClassFile.FieldType)) ∈ lw_all := lw_g (lw_at lw_m9 22 rfl) rfl
theorem q2124 : (Jvm.Cond.methodLink "AlgolMill$Choice" (64 : Nat) ({ cls := "AlgolMill$Expr", name := "emitAim", desc := "(LAlgolMill$Coder;)V" } : Jvm.MethodName)) ∈ lw_all := lw_g (lw_at lw_m9 23 rfl) rfl
theorem q2224 : (Jvm.Cond.selects "AlgolMill$Choice" ({ cls := "AlgolMill$Expr", name := "emitPlace", desc := "(LAlgolMill$Coder;)V" } : Jvm.MethodName) ({ cls := "AlgolMill$Expr", name := "emitPlace", desc := "(LAlgolMill$Coder;)V" } : Jvm.MethodName)) ∈ lw_all := lw_g (lw_at lw_m9 123 rfl) rfl
theorem q3411 : (Jvm.Cond.castable "AlgolMill$Choice" "AlgolMill$Expr") ∈ lw_tbl := lw_at lw_m14 110 rfl
theorem in_X24 : ∀ w ∈ wsX240, w ∈ lw_all := lw_in wsX240 [1263, 1257, 1259, 1261] (by decide +kernel) (by decide +kernel)
/-! AlgolMill$Call -/
def RX25 : String := "AlgolMill$Call"
def TX25 : u_T := fun k => match k with
  | 0 => ("AlgolMill$Statement", "marks", "LAlgolMill$Things;", false)
  | _ => ("AlgolMill$Call", "name", "LAlgolMill$Name;", true)
def tyX25 : Nat → FieldType := fun k => match k with
  | 0 => .object "AlgolMill$Things"
  | _ => .object "AlgolMill$Name"
abbrev wsX250 : List Cond := u_ws RX25 TX25 2
theorem nmX25 : ∀ a, a < 2 → ∀ b, b < 2 → a ≠ b → (TX25 a).2.1 ≠ (TX25 b).2.1 := by decide +kernel
theorem tyX25_ok : ∀ k, k < 2 → parseFieldDescriptor (TX25 k).2.2.1 = some (tyX25 k) := by decide +kernel
abbrev cX25_init : ByteArray := prog_5_method_1_code
def yX25_init : MethodName := ⟨RX25, "<init>", "(LAlgolMill$Name;)V"⟩
abbrev cX25_check : ByteArray := prog_5_method_2_code
def yX25_check : MethodName := ⟨RX25, "check", "(LAlgolMill$Checker;)V"⟩
abbrev cX25_emit : ByteArray := prog_5_method_3_code
def yX25_emit : MethodName := ⟨RX25, "emit", "(LAlgolMill$Coder;)V"⟩
theorem q218 : (Jvm.Cond.initialized "AlgolMill$Call") ∈ lw_all := lw_g (lw_at lw_m1 37 rfl) rfl
theorem q1337 : (Jvm.Cond.instantiable "AlgolMill$Call" (2 : Nat)) ∈ lw_all := lw_g (lw_at lw_m5 196 rfl) rfl
theorem q1339 : (Jvm.Cond.instanceMethod ({ cls := "AlgolMill$Call", name := "<init>", desc := "(LAlgolMill$Name;)V" } : Jvm.MethodName)) ∈ lw_all := lw_g (lw_at lw_m5 198 rfl) rfl
theorem q1340 : (Jvm.Cond.code ({ cls := "AlgolMill$Call", name := "<init>", desc := "(LAlgolMill$Name;)V" } : Jvm.MethodName) prog_5_method_1_code (2 : Nat) (Option.none : Option Jvm.ClassFile.FieldType)) ∈ lw_all := lw_g (lw_at lw_m5 199 rfl) rfl
theorem q1341 : (Jvm.Cond.methodLinkNest "AlgolMill$Call" (1 : Nat) ({ cls := "AlgolMill$Statement", name := "<init>", desc := "()V" } : Jvm.MethodName) "AlgolMill") ∈ lw_tbl := lw_at lw_m5 200 rfl
theorem q1342 : (Jvm.Cond.fieldLink "AlgolMill$Call" (7 : Nat) "AlgolMill$Call" "name" "LAlgolMill$Name;") ∈ lw_all := lw_g (lw_at lw_m5 201 rfl) rfl
theorem q1343 : (Jvm.Cond.laysFinal "AlgolMill$Call" "AlgolMill$Call" "name" "LAlgolMill$Name;") ∈ lw_all := lw_g (lw_at lw_m5 202 rfl) rfl
theorem q1344 : (Jvm.Cond.soleField "AlgolMill$Call" "name") ∈ lw_all := lw_g (lw_at lw_m5 203 rfl) rfl
theorem q1345 : (Jvm.Cond.lays "AlgolMill$Call" "AlgolMill$Statement" "marks" "LAlgolMill$Things;") ∈ lw_all := lw_g (lw_at lw_m5 204 rfl) rfl
theorem q1346 : (Jvm.Cond.superclass "AlgolMill$Call" "AlgolMill$Statement") ∈ lw_all := lw_g (lw_at lw_m5 205 rfl) rfl
theorem q1742 : (Jvm.Cond.instanceMethod ({ cls := "AlgolMill$Call", name := "check", desc := "(LAlgolMill$Checker;)V" } : Jvm.MethodName)) ∈ lw_all := lw_g (lw_at lw_m7 121 rfl) rfl
theorem q1743 : (Jvm.Cond.code ({ cls := "AlgolMill$Call", name := "check", desc := "(LAlgolMill$Checker;)V" } : Jvm.MethodName) prog_5_method_2_code (2 : Nat) (Option.none : Option Jvm.ClassFile.FieldType)) ∈ lw_all := lw_g (lw_at lw_m7 122 rfl) rfl
theorem q1744 : (Jvm.Cond.methodLink "AlgolMill$Call" (13 : Nat) ({ cls := "AlgolMill$Name", name := "checkCall", desc := "(LAlgolMill$Checker;Z)I" } : Jvm.MethodName)) ∈ lw_all := lw_g (lw_at lw_m7 123 rfl) rfl
theorem q1784 : (Jvm.Cond.selects "AlgolMill$Call" ({ cls := "AlgolMill$Statement", name := "check", desc := "(LAlgolMill$Checker;)V" } : Jvm.MethodName) ({ cls := "AlgolMill$Call", name := "check", desc := "(LAlgolMill$Checker;)V" } : Jvm.MethodName)) ∈ lw_all := lw_g (lw_at lw_m7 163 rfl) rfl
theorem q2087 : (Jvm.Cond.selects "AlgolMill$Call" ({ cls := "AlgolMill$Statement", name := "isNothing", desc := "()Z" } : Jvm.MethodName) ({ cls := "AlgolMill$Statement", name := "isNothing", desc := "()Z" } : Jvm.MethodName)) ∈ lw_all := lw_g (lw_at lw_m8 226 rfl) rfl
theorem q2111 : (Jvm.Cond.instanceMethod ({ cls := "AlgolMill$Call", name := "emit", desc := "(LAlgolMill$Coder;)V" } : Jvm.MethodName)) ∈ lw_all := lw_g (lw_at lw_m9 10 rfl) rfl
theorem q2112 : (Jvm.Cond.code ({ cls := "AlgolMill$Call", name := "emit", desc := "(LAlgolMill$Coder;)V" } : Jvm.MethodName) prog_5_method_3_code (2 : Nat) (Option.none : Option Jvm.ClassFile.FieldType)) ∈ lw_all := lw_g (lw_at lw_m9 11 rfl) rfl
theorem q2113 : (Jvm.Cond.methodLink "AlgolMill$Call" (19 : Nat) ({ cls := "AlgolMill$Coder", name := "call", desc := "(LAlgolMill$Name;)V" } : Jvm.MethodName)) ∈ lw_all := lw_g (lw_at lw_m9 12 rfl) rfl
theorem q2235 : (Jvm.Cond.selects "AlgolMill$Call" ({ cls := "AlgolMill$Statement", name := "emit", desc := "(LAlgolMill$Coder;)V" } : Jvm.MethodName) ({ cls := "AlgolMill$Call", name := "emit", desc := "(LAlgolMill$Coder;)V" } : Jvm.MethodName)) ∈ lw_all := lw_g (lw_at lw_m9 134 rfl) rfl
theorem q3403 : (Jvm.Cond.castable "AlgolMill$Call" "AlgolMill$Statement") ∈ lw_tbl := lw_at lw_m14 102 rfl
theorem in_X25 : ∀ w ∈ wsX250, w ∈ lw_all := lw_in wsX250 [1345, 1343] (by decide +kernel) (by decide +kernel)
/-! AlgolMill$Setting -/
def RX26 : String := "AlgolMill$Setting"
def TX26 : u_T := fun k => match k with
  | 0 => ("AlgolMill$Statement", "marks", "LAlgolMill$Things;", false)
  | 1 => ("AlgolMill$Setting", "places", "LAlgolMill$Exprs;", true)
  | _ => ("AlgolMill$Setting", "value", "LAlgolMill$Expr;", false)
def tyX26 : Nat → FieldType := fun k => match k with
  | 0 => .object "AlgolMill$Things"
  | 1 => .object "AlgolMill$Exprs"
  | _ => .object "AlgolMill$Expr"
abbrev wsX260 : List Cond := u_ws RX26 TX26 3
theorem nmX26 : ∀ a, a < 3 → ∀ b, b < 3 → a ≠ b → (TX26 a).2.1 ≠ (TX26 b).2.1 := by decide +kernel
theorem tyX26_ok : ∀ k, k < 3 → parseFieldDescriptor (TX26 k).2.2.1 = some (tyX26 k) := by decide +kernel
abbrev cX26_init : ByteArray := prog_30_method_1_code
def yX26_init : MethodName := ⟨RX26, "<init>", "()V"⟩
abbrev cX26_add : ByteArray := prog_30_method_2_code
def yX26_add : MethodName := ⟨RX26, "add", "(LAlgolMill$Name;)V"⟩
abbrev cX26_value : ByteArray := prog_30_method_3_code
def yX26_value : MethodName := ⟨RX26, "value", "(LAlgolMill$Expr;)V"⟩
abbrev cX26_check : ByteArray := prog_30_method_4_code
def yX26_check : MethodName := ⟨RX26, "check", "(LAlgolMill$Checker;)V"⟩
abbrev cX26_emit : ByteArray := prog_30_method_5_code
def yX26_emit : MethodName := ⟨RX26, "emit", "(LAlgolMill$Coder;)V"⟩
theorem q219 : (Jvm.Cond.initialized "AlgolMill$Setting") ∈ lw_all := lw_g (lw_at lw_m1 38 rfl) rfl
theorem q987 : (Jvm.Cond.fieldLink "AlgolMill$Setting" (24 : Nat) "AlgolMill$Exprs" "size" "I") ∈ lw_all := lw_g (lw_at lw_m4 86 rfl) rfl
theorem q1138 : (Jvm.Cond.fieldLink "AlgolMill$Setting" (32 : Nat) "AlgolMill$Expr" "token" "I") ∈ lw_all := lw_g (lw_at lw_m4 237 rfl) rfl
theorem q1348 : (Jvm.Cond.instantiable "AlgolMill$Setting" (3 : Nat)) ∈ lw_all := lw_g (lw_at lw_m5 207 rfl) rfl
theorem q1350 : (Jvm.Cond.instanceMethod ({ cls := "AlgolMill$Setting", name := "<init>", desc := "()V" } : Jvm.MethodName)) ∈ lw_all := lw_g (lw_at lw_m5 209 rfl) rfl
theorem q1351 : (Jvm.Cond.code ({ cls := "AlgolMill$Setting", name := "<init>", desc := "()V" } : Jvm.MethodName) prog_30_method_1_code (1 : Nat) (Option.none : Option Jvm.ClassFile.FieldType)) ∈ lw_all := lw_g (lw_at lw_m5 210 rfl) rfl
theorem q1352 : (Jvm.Cond.methodLinkNest "AlgolMill$Setting" (1 : Nat) ({ cls := "AlgolMill$Statement", name := "<init>", desc := "()V" } : Jvm.MethodName) "AlgolMill") ∈ lw_tbl := lw_at lw_m5 211 rfl
theorem q1353 : (Jvm.Cond.classLink "AlgolMill$Setting" (7 : Nat) "AlgolMill$Exprs") ∈ lw_all := lw_g (lw_at lw_m5 212 rfl) rfl
theorem q1354 : (Jvm.Cond.methodLinkNest "AlgolMill$Setting" (9 : Nat) ({ cls := "AlgolMill$Exprs", name := "<init>", desc := "()V" } : Jvm.MethodName) "AlgolMill") ∈ lw_tbl := lw_at lw_m5 213 rfl
theorem q1355 : (Jvm.Cond.fieldLink "AlgolMill$Setting" (10 : Nat) "AlgolMill$Setting" "places" "LAlgolMill$Exprs;") ∈ lw_all := lw_g (lw_at lw_m5 214 rfl) rfl
theorem q1356 : (Jvm.Cond.fieldLink "AlgolMill$Setting" (20 : Nat) "AlgolMill$Setting" "value" "LAlgolMill$Expr;") ∈ lw_all := lw_g (lw_at lw_m5 215 rfl) rfl
theorem q1357 : (Jvm.Cond.laysFinal "AlgolMill$Setting" "AlgolMill$Setting" "places" "LAlgolMill$Exprs;") ∈ lw_all := lw_g (lw_at lw_m5 216 rfl) rfl
theorem q1358 : (Jvm.Cond.soleField "AlgolMill$Setting" "places") ∈ lw_all := lw_g (lw_at lw_m5 217 rfl) rfl
theorem q1359 : (Jvm.Cond.lays "AlgolMill$Setting" "AlgolMill$Setting" "value" "LAlgolMill$Expr;") ∈ lw_all := lw_g (lw_at lw_m5 218 rfl) rfl
theorem q1360 : (Jvm.Cond.soleField "AlgolMill$Setting" "value") ∈ lw_all := lw_g (lw_at lw_m5 219 rfl) rfl
theorem q1361 : (Jvm.Cond.lays "AlgolMill$Setting" "AlgolMill$Statement" "marks" "LAlgolMill$Things;") ∈ lw_all := lw_g (lw_at lw_m5 220 rfl) rfl
theorem q1362 : (Jvm.Cond.superclass "AlgolMill$Setting" "AlgolMill$Statement") ∈ lw_all := lw_g (lw_at lw_m5 221 rfl) rfl
theorem q1364 : (Jvm.Cond.instanceMethod ({ cls := "AlgolMill$Setting", name := "add", desc := "(LAlgolMill$Name;)V" } : Jvm.MethodName)) ∈ lw_all := lw_g (lw_at lw_m5 223 rfl) rfl
theorem q1365 : (Jvm.Cond.selects "AlgolMill$Setting" ({ cls := "AlgolMill$Setting", name := "add", desc := "(LAlgolMill$Name;)V" } : Jvm.MethodName) ({ cls := "AlgolMill$Setting", name := "add", desc := "(LAlgolMill$Name;)V" } : Jvm.MethodName)) ∈ lw_all := lw_g (lw_at lw_m5 224 rfl) rfl
theorem q1366 : (Jvm.Cond.code ({ cls := "AlgolMill$Setting", name := "add", desc := "(LAlgolMill$Name;)V" } : Jvm.MethodName) prog_30_method_2_code (2 : Nat) (Option.none : Option Jvm.ClassFile.FieldType)) ∈ lw_all := lw_g (lw_at lw_m5 225 rfl) rfl
theorem q1367 : (Jvm.Cond.methodLink "AlgolMill$Setting" (16 : Nat) ({ cls := "AlgolMill$Exprs", name := "add", desc := "(LAlgolMill$Expr;)V" } : Jvm.MethodName)) ∈ lw_all := lw_g (lw_at lw_m5 226 rfl) rfl
theorem q1369 : (Jvm.Cond.instanceMethod ({ cls := "AlgolMill$Setting", name := "value", desc := "(LAlgolMill$Expr;)V" } : Jvm.MethodName)) ∈ lw_all := lw_g (lw_at lw_m5 228 rfl) rfl
theorem q1370 : (Jvm.Cond.selects "AlgolMill$Setting" ({ cls := "AlgolMill$Setting", name := "value", desc := "(LAlgolMill$Expr;)V" } : Jvm.MethodName) ({ cls := "AlgolMill$Setting", name := "value", desc := "(LAlgolMill$Expr;)V" } : Jvm.MethodName)) ∈ lw_all := lw_g (lw_at lw_m5 229 rfl) rfl
theorem q1371 : (Jvm.Cond.code ({ cls := "AlgolMill$Setting", name := "value", desc := "(LAlgolMill$Expr;)V" } : Jvm.MethodName) prog_30_method_3_code (2 : Nat) (Option.none : Option Jvm.ClassFile.FieldType)) ∈ lw_all := lw_g (lw_at lw_m5 230 rfl) rfl
theorem q1770 : (Jvm.Cond.instanceMethod ({ cls := "AlgolMill$Setting", name := "check", desc := "(LAlgolMill$Checker;)V" } : Jvm.MethodName)) ∈ lw_all := lw_g (lw_at lw_m7 149 rfl) rfl
theorem q1771 : (Jvm.Cond.code ({ cls := "AlgolMill$Setting", name := "check", desc := "(LAlgolMill$Checker;)V" } : Jvm.MethodName) prog_30_method_4_code (5 : Nat) (Option.none : Option Jvm.ClassFile.FieldType)) ∈ lw_all := lw_g (lw_at lw_m7 150 rfl) rfl
theorem q1772 : (Jvm.Cond.methodLink "AlgolMill$Setting" (28 : Nat) ({ cls := "AlgolMill$Exprs", name := "get", desc := "(I)LAlgolMill$Expr;" } : Jvm.MethodName)) ∈ lw_all := lw_g (lw_at lw_m7 151 rfl) rfl
theorem q1773 : (Jvm.Cond.methodLink "AlgolMill$Setting" (37 : Nat) ({ cls := "AlgolMill$Checker", name := "fault", desc := "(II)V" } : Jvm.MethodName)) ∈ lw_all := lw_g (lw_at lw_m7 152 rfl) rfl
theorem q1774 : (Jvm.Cond.classLink "AlgolMill$Setting" (43 : Nat) "AlgolMill$Name") ∈ lw_all := lw_g (lw_at lw_m7 153 rfl) rfl
theorem q1775 : (Jvm.Cond.methodLink "AlgolMill$Setting" (45 : Nat) ({ cls := "AlgolMill$Name", name := "checkPlace", desc := "(LAlgolMill$Checker;Z)I" } : Jvm.MethodName)) ∈ lw_all := lw_g (lw_at lw_m7 154 rfl) rfl
theorem q1776 : (Jvm.Cond.methodLink "AlgolMill$Setting" (49 : Nat) ({ cls := "AlgolMill$Expr", name := "check", desc := "(LAlgolMill$Checker;)I" } : Jvm.MethodName)) ∈ lw_all := lw_g (lw_at lw_m7 155 rfl) rfl
theorem q1789 : (Jvm.Cond.selects "AlgolMill$Setting" ({ cls := "AlgolMill$Statement", name := "check", desc := "(LAlgolMill$Checker;)V" } : Jvm.MethodName) ({ cls := "AlgolMill$Setting", name := "check", desc := "(LAlgolMill$Checker;)V" } : Jvm.MethodName)) ∈ lw_all := lw_g (lw_at lw_m7 168 rfl) rfl
theorem q2094 : (Jvm.Cond.selects "AlgolMill$Setting" ({ cls := "AlgolMill$Statement", name := "isNothing", desc := "()Z" } : Jvm.MethodName) ({ cls := "AlgolMill$Statement", name := "isNothing", desc := "()Z" } : Jvm.MethodName)) ∈ lw_all := lw_g (lw_at lw_m8 233 rfl) rfl
theorem q2217 : (Jvm.Cond.instanceMethod ({ cls := "AlgolMill$Setting", name := "emit", desc := "(LAlgolMill$Coder;)V" } : Jvm.MethodName)) ∈ lw_all := lw_g (lw_at lw_m9 116 rfl) rfl
theorem q2218 : (Jvm.Cond.code ({ cls := "AlgolMill$Setting", name := "emit", desc := "(LAlgolMill$Coder;)V" } : Jvm.MethodName) prog_30_method_5_code (3 : Nat) (Option.none : Option Jvm.ClassFile.FieldType)) ∈ lw_all := lw_g (lw_at lw_m9 117 rfl) rfl
theorem q2219 : (Jvm.Cond.methodLink "AlgolMill$Setting" (53 : Nat) ({ cls := "AlgolMill$Expr", name := "emitPlace", desc := "(LAlgolMill$Coder;)V" } : Jvm.MethodName)) ∈ lw_all := lw_g (lw_at lw_m9 118 rfl) rfl
theorem q2230 : (Jvm.Cond.methodLink "AlgolMill$Setting" (57 : Nat) ({ cls := "AlgolMill$Coder", name := "push", desc := "()V" } : Jvm.MethodName)) ∈ lw_all := lw_g (lw_at lw_m9 129 rfl) rfl
theorem q2231 : (Jvm.Cond.methodLink "AlgolMill$Setting" (62 : Nat) ({ cls := "AlgolMill$Expr", name := "emit", desc := "(LAlgolMill$Coder;)V" } : Jvm.MethodName)) ∈ lw_all := lw_g (lw_at lw_m9 130 rfl) rfl
theorem q2232 : (Jvm.Cond.methodLink "AlgolMill$Setting" (65 : Nat) ({ cls := "AlgolMill$Coder", name := "store", desc := "()V" } : Jvm.MethodName)) ∈ lw_all := lw_g (lw_at lw_m9 131 rfl) rfl
theorem q2240 : (Jvm.Cond.selects "AlgolMill$Setting" ({ cls := "AlgolMill$Statement", name := "emit", desc := "(LAlgolMill$Coder;)V" } : Jvm.MethodName) ({ cls := "AlgolMill$Setting", name := "emit", desc := "(LAlgolMill$Coder;)V" } : Jvm.MethodName)) ∈ lw_all := lw_g (lw_at lw_m9 139 rfl) rfl
theorem q3408 : (Jvm.Cond.castable "AlgolMill$Setting" "AlgolMill$Statement") ∈ lw_tbl := lw_at lw_m14 107 rfl
theorem in_X26 : ∀ w ∈ wsX260, w ∈ lw_all := lw_in wsX260 [1361, 1357, 1359] (by decide +kernel) (by decide +kernel)
/-! AlgolMill$Print -/
def RX27 : String := "AlgolMill$Print"
def TX27 : u_T := fun k => match k with
  | 0 => ("AlgolMill$Statement", "marks", "LAlgolMill$Things;", false)
  | _ => ("AlgolMill$Print", "value", "LAlgolMill$Expr;", true)
def tyX27 : Nat → FieldType := fun k => match k with
  | 0 => .object "AlgolMill$Things"
  | _ => .object "AlgolMill$Expr"
abbrev wsX270 : List Cond := u_ws RX27 TX27 2
theorem nmX27 : ∀ a, a < 2 → ∀ b, b < 2 → a ≠ b → (TX27 a).2.1 ≠ (TX27 b).2.1 := by decide +kernel
theorem tyX27_ok : ∀ k, k < 2 → parseFieldDescriptor (TX27 k).2.2.1 = some (tyX27 k) := by decide +kernel
abbrev cX27_init : ByteArray := prog_24_method_1_code
def yX27_init : MethodName := ⟨RX27, "<init>", "(LAlgolMill$Expr;)V"⟩
abbrev cX27_check : ByteArray := prog_24_method_2_code
def yX27_check : MethodName := ⟨RX27, "check", "(LAlgolMill$Checker;)V"⟩
abbrev cX27_emit : ByteArray := prog_24_method_3_code
def yX27_emit : MethodName := ⟨RX27, "emit", "(LAlgolMill$Coder;)V"⟩
theorem q220 : (Jvm.Cond.initialized "AlgolMill$Print") ∈ lw_all := lw_g (lw_at lw_m1 39 rfl) rfl
theorem q1377 : (Jvm.Cond.instantiable "AlgolMill$Print" (2 : Nat)) ∈ lw_all := lw_g (lw_at lw_m5 236 rfl) rfl
theorem q1379 : (Jvm.Cond.instanceMethod ({ cls := "AlgolMill$Print", name := "<init>", desc := "(LAlgolMill$Expr;)V" } : Jvm.MethodName)) ∈ lw_all := lw_g (lw_at lw_m5 238 rfl) rfl
theorem q1380 : (Jvm.Cond.code ({ cls := "AlgolMill$Print", name := "<init>", desc := "(LAlgolMill$Expr;)V" } : Jvm.MethodName) prog_24_method_1_code (2 : Nat) (Option.none : Option Jvm.ClassFile.FieldType)) ∈ lw_all := lw_g (lw_at lw_m5 239 rfl) rfl
theorem q1381 : (Jvm.Cond.methodLinkNest "AlgolMill$Print" (1 : Nat) ({ cls := "AlgolMill$Statement", name := "<init>", desc := "()V" } : Jvm.MethodName) "AlgolMill") ∈ lw_tbl := lw_at lw_m6 0 rfl
theorem q1382 : (Jvm.Cond.fieldLink "AlgolMill$Print" (7 : Nat) "AlgolMill$Print" "value" "LAlgolMill$Expr;") ∈ lw_all := lw_g (lw_at lw_m6 1 rfl) rfl
theorem q1383 : (Jvm.Cond.laysFinal "AlgolMill$Print" "AlgolMill$Print" "value" "LAlgolMill$Expr;") ∈ lw_all := lw_g (lw_at lw_m6 2 rfl) rfl
theorem q1384 : (Jvm.Cond.soleField "AlgolMill$Print" "value") ∈ lw_all := lw_g (lw_at lw_m6 3 rfl) rfl
theorem q1385 : (Jvm.Cond.lays "AlgolMill$Print" "AlgolMill$Statement" "marks" "LAlgolMill$Things;") ∈ lw_all := lw_g (lw_at lw_m6 4 rfl) rfl
theorem q1386 : (Jvm.Cond.superclass "AlgolMill$Print" "AlgolMill$Statement") ∈ lw_all := lw_g (lw_at lw_m6 5 rfl) rfl
theorem q1767 : (Jvm.Cond.instanceMethod ({ cls := "AlgolMill$Print", name := "check", desc := "(LAlgolMill$Checker;)V" } : Jvm.MethodName)) ∈ lw_all := lw_g (lw_at lw_m7 146 rfl) rfl
theorem q1768 : (Jvm.Cond.code ({ cls := "AlgolMill$Print", name := "check", desc := "(LAlgolMill$Checker;)V" } : Jvm.MethodName) prog_24_method_2_code (3 : Nat) (Option.none : Option Jvm.ClassFile.FieldType)) ∈ lw_all := lw_g (lw_at lw_m7 147 rfl) rfl
theorem q1769 : (Jvm.Cond.methodLink "AlgolMill$Print" (13 : Nat) ({ cls := "AlgolMill$Expr", name := "check", desc := "(LAlgolMill$Checker;)I" } : Jvm.MethodName)) ∈ lw_all := lw_g (lw_at lw_m7 148 rfl) rfl
theorem q1788 : (Jvm.Cond.selects "AlgolMill$Print" ({ cls := "AlgolMill$Statement", name := "check", desc := "(LAlgolMill$Checker;)V" } : Jvm.MethodName) ({ cls := "AlgolMill$Print", name := "check", desc := "(LAlgolMill$Checker;)V" } : Jvm.MethodName)) ∈ lw_all := lw_g (lw_at lw_m7 167 rfl) rfl
theorem q2093 : (Jvm.Cond.selects "AlgolMill$Print" ({ cls := "AlgolMill$Statement", name := "isNothing", desc := "()Z" } : Jvm.MethodName) ({ cls := "AlgolMill$Statement", name := "isNothing", desc := "()Z" } : Jvm.MethodName)) ∈ lw_all := lw_g (lw_at lw_m8 232 rfl) rfl
theorem q2210 : (Jvm.Cond.instanceMethod ({ cls := "AlgolMill$Print", name := "emit", desc := "(LAlgolMill$Coder;)V" } : Jvm.MethodName)) ∈ lw_all := lw_g (lw_at lw_m9 109 rfl) rfl
theorem q2211 : (Jvm.Cond.code ({ cls := "AlgolMill$Print", name := "emit", desc := "(LAlgolMill$Coder;)V" } : Jvm.MethodName) prog_24_method_3_code (2 : Nat) (Option.none : Option Jvm.ClassFile.FieldType)) ∈ lw_all := lw_g (lw_at lw_m9 110 rfl) rfl
theorem q2212 : (Jvm.Cond.methodLink "AlgolMill$Print" (19 : Nat) ({ cls := "AlgolMill$Expr", name := "emit", desc := "(LAlgolMill$Coder;)V" } : Jvm.MethodName)) ∈ lw_all := lw_g (lw_at lw_m9 111 rfl) rfl
theorem q2213 : (Jvm.Cond.methodLink "AlgolMill$Print" (23 : Nat) ({ cls := "AlgolMill$Coder", name := "print", desc := "()V" } : Jvm.MethodName)) ∈ lw_all := lw_g (lw_at lw_m9 112 rfl) rfl
theorem q2239 : (Jvm.Cond.selects "AlgolMill$Print" ({ cls := "AlgolMill$Statement", name := "emit", desc := "(LAlgolMill$Coder;)V" } : Jvm.MethodName) ({ cls := "AlgolMill$Print", name := "emit", desc := "(LAlgolMill$Coder;)V" } : Jvm.MethodName)) ∈ lw_all := lw_g (lw_at lw_m9 138 rfl) rfl
theorem q3407 : (Jvm.Cond.castable "AlgolMill$Print" "AlgolMill$Statement") ∈ lw_tbl := lw_at lw_m14 106 rfl
theorem in_X27 : ∀ w ∈ wsX270, w ∈ lw_all := lw_in wsX270 [1385, 1383] (by decide +kernel) (by decide +kernel)
/-! AlgolMill$Goto -/
def RX28 : String := "AlgolMill$Goto"
def TX28 : u_T := fun k => match k with
  | 0 => ("AlgolMill$Statement", "marks", "LAlgolMill$Things;", false)
  | _ => ("AlgolMill$Goto", "aim", "LAlgolMill$Expr;", true)
def tyX28 : Nat → FieldType := fun k => match k with
  | 0 => .object "AlgolMill$Things"
  | _ => .object "AlgolMill$Expr"
abbrev wsX280 : List Cond := u_ws RX28 TX28 2
theorem nmX28 : ∀ a, a < 2 → ∀ b, b < 2 → a ≠ b → (TX28 a).2.1 ≠ (TX28 b).2.1 := by decide +kernel
theorem tyX28_ok : ∀ k, k < 2 → parseFieldDescriptor (TX28 k).2.2.1 = some (tyX28 k) := by decide +kernel
abbrev cX28_init : ByteArray := prog_14_method_1_code
def yX28_init : MethodName := ⟨RX28, "<init>", "(LAlgolMill$Expr;)V"⟩
abbrev cX28_check : ByteArray := prog_14_method_2_code
def yX28_check : MethodName := ⟨RX28, "check", "(LAlgolMill$Checker;)V"⟩
abbrev cX28_emit : ByteArray := prog_14_method_3_code
def yX28_emit : MethodName := ⟨RX28, "emit", "(LAlgolMill$Coder;)V"⟩
theorem q221 : (Jvm.Cond.initialized "AlgolMill$Goto") ∈ lw_all := lw_g (lw_at lw_m1 40 rfl) rfl
theorem q1388 : (Jvm.Cond.instantiable "AlgolMill$Goto" (2 : Nat)) ∈ lw_all := lw_g (lw_at lw_m6 7 rfl) rfl
theorem q1394 : (Jvm.Cond.instanceMethod ({ cls := "AlgolMill$Goto", name := "<init>", desc := "(LAlgolMill$Expr;)V" } : Jvm.MethodName)) ∈ lw_all := lw_g (lw_at lw_m6 13 rfl) rfl
theorem q1395 : (Jvm.Cond.code ({ cls := "AlgolMill$Goto", name := "<init>", desc := "(LAlgolMill$Expr;)V" } : Jvm.MethodName) prog_14_method_1_code (2 : Nat) (Option.none : Option Jvm.ClassFile.FieldType)) ∈ lw_all := lw_g (lw_at lw_m6 14 rfl) rfl
theorem q1396 : (Jvm.Cond.methodLinkNest "AlgolMill$Goto" (1 : Nat) ({ cls := "AlgolMill$Statement", name := "<init>", desc := "()V" } : Jvm.MethodName) "AlgolMill") ∈ lw_tbl := lw_at lw_m6 15 rfl
theorem q1397 : (Jvm.Cond.fieldLink "AlgolMill$Goto" (7 : Nat) "AlgolMill$Goto" "aim" "LAlgolMill$Expr;") ∈ lw_all := lw_g (lw_at lw_m6 16 rfl) rfl
theorem q1398 : (Jvm.Cond.laysFinal "AlgolMill$Goto" "AlgolMill$Goto" "aim" "LAlgolMill$Expr;") ∈ lw_all := lw_g (lw_at lw_m6 17 rfl) rfl
theorem q1399 : (Jvm.Cond.soleField "AlgolMill$Goto" "aim") ∈ lw_all := lw_g (lw_at lw_m6 18 rfl) rfl
theorem q1400 : (Jvm.Cond.lays "AlgolMill$Goto" "AlgolMill$Statement" "marks" "LAlgolMill$Things;") ∈ lw_all := lw_g (lw_at lw_m6 19 rfl) rfl
theorem q1401 : (Jvm.Cond.superclass "AlgolMill$Goto" "AlgolMill$Statement") ∈ lw_all := lw_g (lw_at lw_m6 20 rfl) rfl
theorem q1745 : (Jvm.Cond.instanceMethod ({ cls := "AlgolMill$Goto", name := "check", desc := "(LAlgolMill$Checker;)V" } : Jvm.MethodName)) ∈ lw_all := lw_g (lw_at lw_m7 124 rfl) rfl
theorem q1746 : (Jvm.Cond.code ({ cls := "AlgolMill$Goto", name := "check", desc := "(LAlgolMill$Checker;)V" } : Jvm.MethodName) prog_14_method_2_code (2 : Nat) (Option.none : Option Jvm.ClassFile.FieldType)) ∈ lw_all := lw_g (lw_at lw_m7 125 rfl) rfl
theorem q1747 : (Jvm.Cond.methodLink "AlgolMill$Goto" (13 : Nat) ({ cls := "AlgolMill$Expr", name := "checkAim", desc := "(LAlgolMill$Checker;)V" } : Jvm.MethodName)) ∈ lw_all := lw_g (lw_at lw_m7 126 rfl) rfl
theorem q1785 : (Jvm.Cond.selects "AlgolMill$Goto" ({ cls := "AlgolMill$Statement", name := "check", desc := "(LAlgolMill$Checker;)V" } : Jvm.MethodName) ({ cls := "AlgolMill$Goto", name := "check", desc := "(LAlgolMill$Checker;)V" } : Jvm.MethodName)) ∈ lw_all := lw_g (lw_at lw_m7 164 rfl) rfl
theorem q2088 : (Jvm.Cond.selects "AlgolMill$Goto" ({ cls := "AlgolMill$Statement", name := "isNothing", desc := "()Z" } : Jvm.MethodName) ({ cls := "AlgolMill$Statement", name := "isNothing", desc := "()Z" } : Jvm.MethodName)) ∈ lw_all := lw_g (lw_at lw_m8 227 rfl) rfl
theorem q2114 : (Jvm.Cond.instanceMethod ({ cls := "AlgolMill$Goto", name := "emit", desc := "(LAlgolMill$Coder;)V" } : Jvm.MethodName)) ∈ lw_all := lw_g (lw_at lw_m9 13 rfl) rfl
theorem q2115 : (Jvm.Cond.code ({ cls := "AlgolMill$Goto", name := "emit", desc := "(LAlgolMill$Coder;)V" } : Jvm.MethodName) prog_14_method_3_code (2 : Nat) (Option.none : Option Jvm.ClassFile.FieldType)) ∈ lw_all := lw_g (lw_at lw_m9 14 rfl) rfl
theorem q2116 : (Jvm.Cond.methodLink "AlgolMill$Goto" (19 : Nat) ({ cls := "AlgolMill$Expr", name := "emitAim", desc := "(LAlgolMill$Coder;)V" } : Jvm.MethodName)) ∈ lw_all := lw_g (lw_at lw_m9 15 rfl) rfl
theorem q2144 : (Jvm.Cond.methodLink "AlgolMill$Goto" (23 : Nat) ({ cls := "AlgolMill$Coder", name := "enter", desc := "()V" } : Jvm.MethodName)) ∈ lw_all := lw_g (lw_at lw_m9 43 rfl) rfl
theorem q2236 : (Jvm.Cond.selects "AlgolMill$Goto" ({ cls := "AlgolMill$Statement", name := "emit", desc := "(LAlgolMill$Coder;)V" } : Jvm.MethodName) ({ cls := "AlgolMill$Goto", name := "emit", desc := "(LAlgolMill$Coder;)V" } : Jvm.MethodName)) ∈ lw_all := lw_g (lw_at lw_m9 135 rfl) rfl
theorem q3404 : (Jvm.Cond.castable "AlgolMill$Goto" "AlgolMill$Statement") ∈ lw_tbl := lw_at lw_m14 103 rfl
theorem in_X28 : ∀ w ∈ wsX280, w ∈ lw_all := lw_in wsX280 [1400, 1398] (by decide +kernel) (by decide +kernel)
/-! AlgolMill$Inner -/
def RX29 : String := "AlgolMill$Inner"
def TX29 : u_T := fun k => match k with
  | 0 => ("AlgolMill$Inner", "statement", "LAlgolMill$Statement;", true)
  | _ => ("AlgolMill$Inner", "scope", "LAlgolMill$Scope;", true)
def tyX29 : Nat → FieldType := fun k => match k with
  | 0 => .object "AlgolMill$Statement"
  | _ => .object "AlgolMill$Scope"
abbrev wsX290 : List Cond := u_ws RX29 TX29 2
theorem nmX29 : ∀ a, a < 2 → ∀ b, b < 2 → a ≠ b → (TX29 a).2.1 ≠ (TX29 b).2.1 := by decide +kernel
theorem tyX29_ok : ∀ k, k < 2 → parseFieldDescriptor (TX29 k).2.2.1 = some (tyX29 k) := by decide +kernel
abbrev cX29_init : ByteArray := prog_15_method_1_code
def yX29_init : MethodName := ⟨RX29, "<init>", "(LAlgolMill$Statement;LAlgolMill$Scope;)V"⟩
abbrev cX29_check : ByteArray := prog_15_method_2_code
def yX29_check : MethodName := ⟨RX29, "check", "(LAlgolMill$Checker;)V"⟩
abbrev cX29_emit : ByteArray := prog_15_method_3_code
def yX29_emit : MethodName := ⟨RX29, "emit", "(LAlgolMill$Coder;)V"⟩
theorem q222 : (Jvm.Cond.initialized "AlgolMill$Inner") ∈ lw_all := lw_g (lw_at lw_m1 41 rfl) rfl
theorem q1411 : (Jvm.Cond.instantiable "AlgolMill$Inner" (2 : Nat)) ∈ lw_all := lw_g (lw_at lw_m6 30 rfl) rfl
theorem q1413 : (Jvm.Cond.instanceMethod ({ cls := "AlgolMill$Inner", name := "<init>", desc := "(LAlgolMill$Statement;LAlgolMill$Scope;)V" } : Jvm.MethodName)) ∈ lw_all := lw_g (lw_at lw_m6 32 rfl) rfl
theorem q1414 : (Jvm.Cond.code ({ cls := "AlgolMill$Inner", name := "<init>", desc := "(LAlgolMill$Statement;LAlgolMill$Scope;)V" } : Jvm.MethodName) prog_15_method_1_code (3 : Nat) (Option.none : Option Jvm.ClassFile.FieldType)) ∈ lw_all := lw_g (lw_at lw_m6 33 rfl) rfl
theorem q1415 : (Jvm.Cond.methodLink "AlgolMill$Inner" (1 : Nat) ({ cls := "java/lang/Object", name := "<init>", desc := "()V" } : Jvm.MethodName)) ∈ lw_all := lw_g (lw_at lw_m6 34 rfl) rfl
theorem q1416 : (Jvm.Cond.fieldLink "AlgolMill$Inner" (7 : Nat) "AlgolMill$Inner" "statement" "LAlgolMill$Statement;") ∈ lw_all := lw_g (lw_at lw_m6 35 rfl) rfl
theorem q1417 : (Jvm.Cond.fieldLink "AlgolMill$Inner" (13 : Nat) "AlgolMill$Inner" "scope" "LAlgolMill$Scope;") ∈ lw_all := lw_g (lw_at lw_m6 36 rfl) rfl
theorem q1418 : (Jvm.Cond.laysFinal "AlgolMill$Inner" "AlgolMill$Inner" "statement" "LAlgolMill$Statement;") ∈ lw_all := lw_g (lw_at lw_m6 37 rfl) rfl
theorem q1419 : (Jvm.Cond.soleField "AlgolMill$Inner" "statement") ∈ lw_all := lw_g (lw_at lw_m6 38 rfl) rfl
theorem q1420 : (Jvm.Cond.laysFinal "AlgolMill$Inner" "AlgolMill$Inner" "scope" "LAlgolMill$Scope;") ∈ lw_all := lw_g (lw_at lw_m6 39 rfl) rfl
theorem q1421 : (Jvm.Cond.soleField "AlgolMill$Inner" "scope") ∈ lw_all := lw_g (lw_at lw_m6 40 rfl) rfl
theorem q1422 : (Jvm.Cond.superclass "AlgolMill$Inner" "java/lang/Object") ∈ lw_all := lw_g (lw_at lw_m6 41 rfl) rfl
theorem q1738 : (Jvm.Cond.instanceMethod ({ cls := "AlgolMill$Inner", name := "check", desc := "(LAlgolMill$Checker;)V" } : Jvm.MethodName)) ∈ lw_all := lw_g (lw_at lw_m7 117 rfl) rfl
theorem q1739 : (Jvm.Cond.selects "AlgolMill$Inner" ({ cls := "AlgolMill$Inner", name := "check", desc := "(LAlgolMill$Checker;)V" } : Jvm.MethodName) ({ cls := "AlgolMill$Inner", name := "check", desc := "(LAlgolMill$Checker;)V" } : Jvm.MethodName)) ∈ lw_all := lw_g (lw_at lw_m7 118 rfl) rfl
theorem q1740 : (Jvm.Cond.code ({ cls := "AlgolMill$Inner", name := "check", desc := "(LAlgolMill$Checker;)V" } : Jvm.MethodName) prog_15_method_2_code (2 : Nat) (Option.none : Option Jvm.ClassFile.FieldType)) ∈ lw_all := lw_g (lw_at lw_m7 119 rfl) rfl
theorem q1741 : (Jvm.Cond.methodLink "AlgolMill$Inner" (17 : Nat) ({ cls := "AlgolMill$Checker", name := "in", desc := "(LAlgolMill$Scope;LAlgolMill$Statement;)V" } : Jvm.MethodName)) ∈ lw_all := lw_g (lw_at lw_m7 120 rfl) rfl
theorem q2105 : (Jvm.Cond.instanceMethod ({ cls := "AlgolMill$Inner", name := "emit", desc := "(LAlgolMill$Coder;)V" } : Jvm.MethodName)) ∈ lw_all := lw_g (lw_at lw_m9 4 rfl) rfl
theorem q2106 : (Jvm.Cond.selects "AlgolMill$Inner" ({ cls := "AlgolMill$Inner", name := "emit", desc := "(LAlgolMill$Coder;)V" } : Jvm.MethodName) ({ cls := "AlgolMill$Inner", name := "emit", desc := "(LAlgolMill$Coder;)V" } : Jvm.MethodName)) ∈ lw_all := lw_g (lw_at lw_m9 5 rfl) rfl
theorem q2107 : (Jvm.Cond.code ({ cls := "AlgolMill$Inner", name := "emit", desc := "(LAlgolMill$Coder;)V" } : Jvm.MethodName) prog_15_method_3_code (2 : Nat) (Option.none : Option Jvm.ClassFile.FieldType)) ∈ lw_all := lw_g (lw_at lw_m9 6 rfl) rfl
theorem q2108 : (Jvm.Cond.methodLink "AlgolMill$Inner" (23 : Nat) ({ cls := "AlgolMill$Coder", name := "statement", desc := "(LAlgolMill$Statement;)V" } : Jvm.MethodName)) ∈ lw_all := lw_g (lw_at lw_m9 7 rfl) rfl
theorem in_X29 : ∀ w ∈ wsX290, w ∈ lw_all := lw_in wsX290 [1418, 1420] (by decide +kernel) (by decide +kernel)
/-! AlgolMill$Branch -/
def RX30 : String := "AlgolMill$Branch"
def TX30 : u_T := fun k => match k with
  | 0 => ("AlgolMill$Statement", "marks", "LAlgolMill$Things;", false)
  | 1 => ("AlgolMill$Branch", "test", "LAlgolMill$Expr;", true)
  | 2 => ("AlgolMill$Branch", "first", "LAlgolMill$Inner;", true)
  | _ => ("AlgolMill$Branch", "second", "LAlgolMill$Inner;", true)
def tyX30 : Nat → FieldType := fun k => match k with
  | 0 => .object "AlgolMill$Things"
  | 1 => .object "AlgolMill$Expr"
  | 2 => .object "AlgolMill$Inner"
  | _ => .object "AlgolMill$Inner"
abbrev wsX300 : List Cond := u_ws RX30 TX30 4
theorem nmX30 : ∀ a, a < 4 → ∀ b, b < 4 → a ≠ b → (TX30 a).2.1 ≠ (TX30 b).2.1 := by decide +kernel
theorem tyX30_ok : ∀ k, k < 4 → parseFieldDescriptor (TX30 k).2.2.1 = some (tyX30 k) := by decide +kernel
abbrev cX30_init : ByteArray := prog_4_method_1_code
def yX30_init : MethodName := ⟨RX30, "<init>", "(LAlgolMill$Expr;LAlgolMill$Inner;LAlgolMill$Inner;)V"⟩
abbrev cX30_check : ByteArray := prog_4_method_2_code
def yX30_check : MethodName := ⟨RX30, "check", "(LAlgolMill$Checker;)V"⟩
abbrev cX30_emit : ByteArray := prog_4_method_3_code
def yX30_emit : MethodName := ⟨RX30, "emit", "(LAlgolMill$Coder;)V"⟩
theorem q223 : (Jvm.Cond.initialized "AlgolMill$Branch") ∈ lw_all := lw_g (lw_at lw_m1 42 rfl) rfl
theorem q1424 : (Jvm.Cond.instantiable "AlgolMill$Branch" (4 : Nat)) ∈ lw_all := lw_g (lw_at lw_m6 43 rfl) rfl
theorem q1426 : (Jvm.Cond.instanceMethod ({ cls := "AlgolMill$Branch", name := "<init>", desc := "(LAlgolMill$Expr;LAlgolMill$Inner;LAlgolMill$Inner;)V" } : Jvm.MethodName)) ∈ lw_all := lw_g (lw_at lw_m6 45 rfl) rfl
theorem q1427 : (Jvm.Cond.code ({ cls := "AlgolMill$Branch", name := "<init>", desc := "(LAlgolMill$Expr;LAlgolMill$Inner;LAlgolMill$Inner;)V" } : Jvm.MethodName) prog_4_method_1_code (4 : Nat) (Option.none : Option Jvm.ClassFile.FieldType)) ∈ lw_all := lw_g (lw_at lw_m6 46 rfl) rfl
theorem q1428 : (Jvm.Cond.methodLinkNest "AlgolMill$Branch" (1 : Nat) ({ cls := "AlgolMill$Statement", name := "<init>", desc := "()V" } : Jvm.MethodName) "AlgolMill") ∈ lw_tbl := lw_at lw_m6 47 rfl
theorem q1429 : (Jvm.Cond.fieldLink "AlgolMill$Branch" (7 : Nat) "AlgolMill$Branch" "test" "LAlgolMill$Expr;") ∈ lw_all := lw_g (lw_at lw_m6 48 rfl) rfl
theorem q1430 : (Jvm.Cond.fieldLink "AlgolMill$Branch" (13 : Nat) "AlgolMill$Branch" "first" "LAlgolMill$Inner;") ∈ lw_all := lw_g (lw_at lw_m6 49 rfl) rfl
theorem q1431 : (Jvm.Cond.fieldLink "AlgolMill$Branch" (17 : Nat) "AlgolMill$Branch" "second" "LAlgolMill$Inner;") ∈ lw_all := lw_g (lw_at lw_m6 50 rfl) rfl
theorem q1432 : (Jvm.Cond.laysFinal "AlgolMill$Branch" "AlgolMill$Branch" "test" "LAlgolMill$Expr;") ∈ lw_all := lw_g (lw_at lw_m6 51 rfl) rfl
theorem q1433 : (Jvm.Cond.soleField "AlgolMill$Branch" "test") ∈ lw_all := lw_g (lw_at lw_m6 52 rfl) rfl
theorem q1434 : (Jvm.Cond.laysFinal "AlgolMill$Branch" "AlgolMill$Branch" "first" "LAlgolMill$Inner;") ∈ lw_all := lw_g (lw_at lw_m6 53 rfl) rfl
theorem q1435 : (Jvm.Cond.soleField "AlgolMill$Branch" "first") ∈ lw_all := lw_g (lw_at lw_m6 54 rfl) rfl
theorem q1436 : (Jvm.Cond.laysFinal "AlgolMill$Branch" "AlgolMill$Branch" "second" "LAlgolMill$Inner;") ∈ lw_all := lw_g (lw_at lw_m6 55 rfl) rfl
theorem q1437 : (Jvm.Cond.soleField "AlgolMill$Branch" "second") ∈ lw_all := lw_g (lw_at lw_m6 56 rfl) rfl
theorem q1438 : (Jvm.Cond.lays "AlgolMill$Branch" "AlgolMill$Statement" "marks" "LAlgolMill$Things;") ∈ lw_all := lw_g (lw_at lw_m6 57 rfl) rfl
theorem q1439 : (Jvm.Cond.superclass "AlgolMill$Branch" "AlgolMill$Statement") ∈ lw_all := lw_g (lw_at lw_m6 58 rfl) rfl
theorem q1734 : (Jvm.Cond.instanceMethod ({ cls := "AlgolMill$Branch", name := "check", desc := "(LAlgolMill$Checker;)V" } : Jvm.MethodName)) ∈ lw_all := lw_g (lw_at lw_m7 113 rfl) rfl
theorem q1735 : (Jvm.Cond.code ({ cls := "AlgolMill$Branch", name := "check", desc := "(LAlgolMill$Checker;)V" } : Jvm.MethodName) prog_4_method_2_code (2 : Nat) (Option.none : Option Jvm.ClassFile.FieldType)) ∈ lw_all := lw_g (lw_at lw_m7 114 rfl) rfl
theorem q1736 : (Jvm.Cond.methodLink "AlgolMill$Branch" (20 : Nat) ({ cls := "AlgolMill$Checker", name := "need", desc := "(LAlgolMill$Expr;I)V" } : Jvm.MethodName)) ∈ lw_all := lw_g (lw_at lw_m7 115 rfl) rfl
theorem q1737 : (Jvm.Cond.methodLink "AlgolMill$Branch" (26 : Nat) ({ cls := "AlgolMill$Inner", name := "check", desc := "(LAlgolMill$Checker;)V" } : Jvm.MethodName)) ∈ lw_all := lw_g (lw_at lw_m7 116 rfl) rfl
theorem q1783 : (Jvm.Cond.selects "AlgolMill$Branch" ({ cls := "AlgolMill$Statement", name := "check", desc := "(LAlgolMill$Checker;)V" } : Jvm.MethodName) ({ cls := "AlgolMill$Branch", name := "check", desc := "(LAlgolMill$Checker;)V" } : Jvm.MethodName)) ∈ lw_all := lw_g (lw_at lw_m7 162 rfl) rfl
theorem q2086 : (Jvm.Cond.selects "AlgolMill$Branch" ({ cls := "AlgolMill$Statement", name := "isNothing", desc := "()Z" } : Jvm.MethodName) ({ cls := "AlgolMill$Statement", name := "isNothing", desc := "()Z" } : Jvm.MethodName)) ∈ lw_all := lw_g (lw_at lw_m8 225 rfl) rfl
theorem q2100 : (Jvm.Cond.instanceMethod ({ cls := "AlgolMill$Branch", name := "emit", desc := "(LAlgolMill$Coder;)V" } : Jvm.MethodName)) ∈ lw_all := lw_g (lw_at lw_m8 239 rfl) rfl
theorem q2101 : (Jvm.Cond.code ({ cls := "AlgolMill$Branch", name := "emit", desc := "(LAlgolMill$Coder;)V" } : Jvm.MethodName) prog_4_method_3_code (4 : Nat) (Option.none : Option Jvm.ClassFile.FieldType)) ∈ lw_all := lw_g (lw_at lw_m9 0 rfl) rfl
theorem q2102 : (Jvm.Cond.methodLink "AlgolMill$Branch" (32 : Nat) ({ cls := "AlgolMill$Expr", name := "emit", desc := "(LAlgolMill$Coder;)V" } : Jvm.MethodName)) ∈ lw_all := lw_g (lw_at lw_m9 1 rfl) rfl
theorem q2103 : (Jvm.Cond.methodLink "AlgolMill$Branch" (38 : Nat) ({ cls := "AlgolMill$Coder", name := "jumpIfNot", desc := "()I" } : Jvm.MethodName)) ∈ lw_all := lw_g (lw_at lw_m9 2 rfl) rfl
theorem q2104 : (Jvm.Cond.methodLink "AlgolMill$Branch" (44 : Nat) ({ cls := "AlgolMill$Inner", name := "emit", desc := "(LAlgolMill$Coder;)V" } : Jvm.MethodName)) ∈ lw_all := lw_g (lw_at lw_m9 3 rfl) rfl
theorem q2109 : (Jvm.Cond.methodLink "AlgolMill$Branch" (45 : Nat) ({ cls := "AlgolMill$Coder", name := "jump", desc := "()I" } : Jvm.MethodName)) ∈ lw_all := lw_g (lw_at lw_m9 8 rfl) rfl
theorem q2110 : (Jvm.Cond.methodLink "AlgolMill$Branch" (48 : Nat) ({ cls := "AlgolMill$Coder", name := "here", desc := "(I)V" } : Jvm.MethodName)) ∈ lw_all := lw_g (lw_at lw_m9 9 rfl) rfl
theorem q2234 : (Jvm.Cond.selects "AlgolMill$Branch" ({ cls := "AlgolMill$Statement", name := "emit", desc := "(LAlgolMill$Coder;)V" } : Jvm.MethodName) ({ cls := "AlgolMill$Branch", name := "emit", desc := "(LAlgolMill$Coder;)V" } : Jvm.MethodName)) ∈ lw_all := lw_g (lw_at lw_m9 133 rfl) rfl
theorem q3402 : (Jvm.Cond.castable "AlgolMill$Branch" "AlgolMill$Statement") ∈ lw_tbl := lw_at lw_m14 101 rfl
theorem in_X30 : ∀ w ∈ wsX300, w ∈ lw_all := lw_in wsX300 [1438, 1432, 1434, 1436] (by decide +kernel) (by decide +kernel)
/-! AlgolMill$Loop -/
def RX31 : String := "AlgolMill$Loop"
def TX31 : u_T := fun k => match k with
  | 0 => ("AlgolMill$Statement", "marks", "LAlgolMill$Things;", false)
  | 1 => ("AlgolMill$Loop", "variable", "LAlgolMill$Name;", true)
  | 2 => ("AlgolMill$Loop", "elements", "[LAlgolMill$Element;", false)
  | 3 => ("AlgolMill$Loop", "many", "I", false)
  | 4 => ("AlgolMill$Loop", "body", "LAlgolMill$Inner;", false)
  | 5 => ("AlgolMill$Loop", "home", "LAlgolMill$Routine;", true)
  | _ => ("AlgolMill$Loop", "depth", "I", true)
def tyX31 : Nat → FieldType := fun k => match k with
  | 0 => .object "AlgolMill$Things"
  | 1 => .object "AlgolMill$Name"
  | 2 => .array (.object "AlgolMill$Element")
  | 3 => .int
  | 4 => .object "AlgolMill$Inner"
  | 5 => .object "AlgolMill$Routine"
  | _ => .int
abbrev wsX310 : List Cond := u_ws RX31 TX31 7
theorem nmX31 : ∀ a, a < 7 → ∀ b, b < 7 → a ≠ b → (TX31 a).2.1 ≠ (TX31 b).2.1 := by decide +kernel
theorem tyX31_ok : ∀ k, k < 7 → parseFieldDescriptor (TX31 k).2.2.1 = some (tyX31 k) := by decide +kernel
abbrev cX31_init : ByteArray := prog_18_method_1_code
def yX31_init : MethodName := ⟨RX31, "<init>", "(LAlgolMill$Name;LAlgolMill$Routine;I)V"⟩
abbrev cX31_add : ByteArray := prog_18_method_2_code
def yX31_add : MethodName := ⟨RX31, "add", "(LAlgolMill$Element;)V"⟩
abbrev cX31_body : ByteArray := prog_18_method_3_code
def yX31_body : MethodName := ⟨RX31, "body", "(LAlgolMill$Inner;)V"⟩
abbrev cX31_check : ByteArray := prog_18_method_4_code
def yX31_check : MethodName := ⟨RX31, "check", "(LAlgolMill$Checker;)V"⟩
abbrev cX31_emit : ByteArray := prog_18_method_5_code
def yX31_emit : MethodName := ⟨RX31, "emit", "(LAlgolMill$Coder;)V"⟩
theorem q224 : (Jvm.Cond.initialized "AlgolMill$Loop") ∈ lw_all := lw_g (lw_at lw_m1 43 rfl) rfl
theorem q1137 : (Jvm.Cond.fieldLink "AlgolMill$Loop" (40 : Nat) "AlgolMill$Name" "token" "I") ∈ lw_all := lw_g (lw_at lw_m4 236 rfl) rfl
theorem q1449 : (Jvm.Cond.instantiable "AlgolMill$Loop" (7 : Nat)) ∈ lw_all := lw_g (lw_at lw_m6 68 rfl) rfl
theorem q1451 : (Jvm.Cond.instanceMethod ({ cls := "AlgolMill$Loop", name := "<init>", desc := "(LAlgolMill$Name;LAlgolMill$Routine;I)V" } : Jvm.MethodName)) ∈ lw_all := lw_g (lw_at lw_m6 70 rfl) rfl
theorem q1452 : (Jvm.Cond.code ({ cls := "AlgolMill$Loop", name := "<init>", desc := "(LAlgolMill$Name;LAlgolMill$Routine;I)V" } : Jvm.MethodName) prog_18_method_1_code (4 : Nat) (Option.none : Option Jvm.ClassFile.FieldType)) ∈ lw_all := lw_g (lw_at lw_m6 71 rfl) rfl
theorem q1453 : (Jvm.Cond.methodLinkNest "AlgolMill$Loop" (1 : Nat) ({ cls := "AlgolMill$Statement", name := "<init>", desc := "()V" } : Jvm.MethodName) "AlgolMill") ∈ lw_tbl := lw_at lw_m6 72 rfl
theorem q1454 : (Jvm.Cond.classLink "AlgolMill$Loop" (7 : Nat) "AlgolMill$Element") ∈ lw_all := lw_g (lw_at lw_m6 73 rfl) rfl
theorem q1456 : (Jvm.Cond.fieldLink "AlgolMill$Loop" (15 : Nat) "AlgolMill$Loop" "variable" "LAlgolMill$Name;") ∈ lw_all := lw_g (lw_at lw_m6 75 rfl) rfl
theorem q1457 : (Jvm.Cond.fieldLink "AlgolMill$Loop" (9 : Nat) "AlgolMill$Loop" "elements" "[LAlgolMill$Element;") ∈ lw_all := lw_g (lw_at lw_m6 76 rfl) rfl
theorem q1458 : (Jvm.Cond.fieldLink "AlgolMill$Loop" (27 : Nat) "AlgolMill$Loop" "many" "I") ∈ lw_all := lw_g (lw_at lw_m6 77 rfl) rfl
theorem q1459 : (Jvm.Cond.fieldLink "AlgolMill$Loop" (30 : Nat) "AlgolMill$Loop" "body" "LAlgolMill$Inner;") ∈ lw_all := lw_g (lw_at lw_m6 78 rfl) rfl
theorem q1460 : (Jvm.Cond.fieldLink "AlgolMill$Loop" (19 : Nat) "AlgolMill$Loop" "home" "LAlgolMill$Routine;") ∈ lw_all := lw_g (lw_at lw_m6 79 rfl) rfl
theorem q1461 : (Jvm.Cond.fieldLink "AlgolMill$Loop" (23 : Nat) "AlgolMill$Loop" "depth" "I") ∈ lw_all := lw_g (lw_at lw_m6 80 rfl) rfl
theorem q1462 : (Jvm.Cond.laysFinal "AlgolMill$Loop" "AlgolMill$Loop" "variable" "LAlgolMill$Name;") ∈ lw_all := lw_g (lw_at lw_m6 81 rfl) rfl
theorem q1463 : (Jvm.Cond.soleField "AlgolMill$Loop" "variable") ∈ lw_all := lw_g (lw_at lw_m6 82 rfl) rfl
theorem q1464 : (Jvm.Cond.lays "AlgolMill$Loop" "AlgolMill$Loop" "elements" "[LAlgolMill$Element;") ∈ lw_all := lw_g (lw_at lw_m6 83 rfl) rfl
theorem q1465 : (Jvm.Cond.soleField "AlgolMill$Loop" "elements") ∈ lw_all := lw_g (lw_at lw_m6 84 rfl) rfl
theorem q1466 : (Jvm.Cond.lays "AlgolMill$Loop" "AlgolMill$Loop" "many" "I") ∈ lw_all := lw_g (lw_at lw_m6 85 rfl) rfl
theorem q1467 : (Jvm.Cond.soleField "AlgolMill$Loop" "many") ∈ lw_all := lw_g (lw_at lw_m6 86 rfl) rfl
theorem q1468 : (Jvm.Cond.lays "AlgolMill$Loop" "AlgolMill$Loop" "body" "LAlgolMill$Inner;") ∈ lw_all := lw_g (lw_at lw_m6 87 rfl) rfl
theorem q1469 : (Jvm.Cond.soleField "AlgolMill$Loop" "body") ∈ lw_all := lw_g (lw_at lw_m6 88 rfl) rfl
theorem q1470 : (Jvm.Cond.laysFinal "AlgolMill$Loop" "AlgolMill$Loop" "home" "LAlgolMill$Routine;") ∈ lw_all := lw_g (lw_at lw_m6 89 rfl) rfl
theorem q1471 : (Jvm.Cond.soleField "AlgolMill$Loop" "home") ∈ lw_all := lw_g (lw_at lw_m6 90 rfl) rfl
theorem q1472 : (Jvm.Cond.laysFinal "AlgolMill$Loop" "AlgolMill$Loop" "depth" "I") ∈ lw_all := lw_g (lw_at lw_m6 91 rfl) rfl
theorem q1473 : (Jvm.Cond.soleField "AlgolMill$Loop" "depth") ∈ lw_all := lw_g (lw_at lw_m6 92 rfl) rfl
theorem q1474 : (Jvm.Cond.lays "AlgolMill$Loop" "AlgolMill$Statement" "marks" "LAlgolMill$Things;") ∈ lw_all := lw_g (lw_at lw_m6 93 rfl) rfl
theorem q1475 : (Jvm.Cond.superclass "AlgolMill$Loop" "AlgolMill$Statement") ∈ lw_all := lw_g (lw_at lw_m6 94 rfl) rfl
theorem q1501 : (Jvm.Cond.instanceMethod ({ cls := "AlgolMill$Loop", name := "add", desc := "(LAlgolMill$Element;)V" } : Jvm.MethodName)) ∈ lw_all := lw_g (lw_at lw_m6 120 rfl) rfl
theorem q1502 : (Jvm.Cond.selects "AlgolMill$Loop" ({ cls := "AlgolMill$Loop", name := "add", desc := "(LAlgolMill$Element;)V" } : Jvm.MethodName) ({ cls := "AlgolMill$Loop", name := "add", desc := "(LAlgolMill$Element;)V" } : Jvm.MethodName)) ∈ lw_all := lw_g (lw_at lw_m6 121 rfl) rfl
theorem q1503 : (Jvm.Cond.code ({ cls := "AlgolMill$Loop", name := "add", desc := "(LAlgolMill$Element;)V" } : Jvm.MethodName) prog_18_method_2_code (4 : Nat) (Option.none : Option Jvm.ClassFile.FieldType)) ∈ lw_all := lw_g (lw_at lw_m6 122 rfl) rfl
theorem q1505 : (Jvm.Cond.instanceMethod ({ cls := "AlgolMill$Loop", name := "body", desc := "(LAlgolMill$Inner;)V" } : Jvm.MethodName)) ∈ lw_all := lw_g (lw_at lw_m6 124 rfl) rfl
theorem q1506 : (Jvm.Cond.selects "AlgolMill$Loop" ({ cls := "AlgolMill$Loop", name := "body", desc := "(LAlgolMill$Inner;)V" } : Jvm.MethodName) ({ cls := "AlgolMill$Loop", name := "body", desc := "(LAlgolMill$Inner;)V" } : Jvm.MethodName)) ∈ lw_all := lw_g (lw_at lw_m6 125 rfl) rfl
theorem q1507 : (Jvm.Cond.code ({ cls := "AlgolMill$Loop", name := "body", desc := "(LAlgolMill$Inner;)V" } : Jvm.MethodName) prog_18_method_3_code (2 : Nat) (Option.none : Option Jvm.ClassFile.FieldType)) ∈ lw_all := lw_g (lw_at lw_m6 126 rfl) rfl
theorem q1748 : (Jvm.Cond.instanceMethod ({ cls := "AlgolMill$Loop", name := "check", desc := "(LAlgolMill$Checker;)V" } : Jvm.MethodName)) ∈ lw_all := lw_g (lw_at lw_m7 127 rfl) rfl
theorem q1749 : (Jvm.Cond.code ({ cls := "AlgolMill$Loop", name := "check", desc := "(LAlgolMill$Checker;)V" } : Jvm.MethodName) prog_18_method_4_code (4 : Nat) (Option.none : Option Jvm.ClassFile.FieldType)) ∈ lw_all := lw_g (lw_at lw_m7 128 rfl) rfl
theorem q1750 : (Jvm.Cond.methodLink "AlgolMill$Loop" (34 : Nat) ({ cls := "AlgolMill$Name", name := "checkPlace", desc := "(LAlgolMill$Checker;Z)I" } : Jvm.MethodName)) ∈ lw_all := lw_g (lw_at lw_m7 129 rfl) rfl
theorem q1758 : (Jvm.Cond.methodLink "AlgolMill$Loop" (43 : Nat) ({ cls := "AlgolMill$Checker", name := "fault", desc := "(II)V" } : Jvm.MethodName)) ∈ lw_all := lw_g (lw_at lw_m7 137 rfl) rfl
theorem q1759 : (Jvm.Cond.methodLink "AlgolMill$Loop" (49 : Nat) ({ cls := "AlgolMill$Element", name := "check", desc := "(LAlgolMill$Checker;)V" } : Jvm.MethodName)) ∈ lw_all := lw_g (lw_at lw_m7 138 rfl) rfl
theorem q1764 : (Jvm.Cond.methodLink "AlgolMill$Loop" (53 : Nat) ({ cls := "AlgolMill$Inner", name := "check", desc := "(LAlgolMill$Checker;)V" } : Jvm.MethodName)) ∈ lw_all := lw_g (lw_at lw_m7 143 rfl) rfl
theorem q1786 : (Jvm.Cond.selects "AlgolMill$Loop" ({ cls := "AlgolMill$Statement", name := "check", desc := "(LAlgolMill$Checker;)V" } : Jvm.MethodName) ({ cls := "AlgolMill$Loop", name := "check", desc := "(LAlgolMill$Checker;)V" } : Jvm.MethodName)) ∈ lw_all := lw_g (lw_at lw_m7 165 rfl) rfl
theorem q2089 : (Jvm.Cond.selects "AlgolMill$Loop" ({ cls := "AlgolMill$Statement", name := "isNothing", desc := "()Z" } : Jvm.MethodName) ({ cls := "AlgolMill$Statement", name := "isNothing", desc := "()Z" } : Jvm.MethodName)) ∈ lw_all := lw_g (lw_at lw_m8 228 rfl) rfl
theorem q2148 : (Jvm.Cond.instanceMethod ({ cls := "AlgolMill$Loop", name := "emit", desc := "(LAlgolMill$Coder;)V" } : Jvm.MethodName)) ∈ lw_all := lw_g (lw_at lw_m9 47 rfl) rfl
theorem q2149 : (Jvm.Cond.code ({ cls := "AlgolMill$Loop", name := "emit", desc := "(LAlgolMill$Coder;)V" } : Jvm.MethodName) prog_18_method_5_code (7 : Nat) (Option.none : Option Jvm.ClassFile.FieldType)) ∈ lw_all := lw_g (lw_at lw_m9 48 rfl) rfl
theorem q2150 : (Jvm.Cond.methodLink "AlgolMill$Loop" (56 : Nat) ({ cls := "AlgolMill$Routine", name := "back", desc := "(I)I" } : Jvm.MethodName)) ∈ lw_all := lw_g (lw_at lw_m9 49 rfl) rfl
theorem q2154 : (Jvm.Cond.methodLink "AlgolMill$Loop" (62 : Nat) ({ cls := "AlgolMill$Coder", name := "jump", desc := "()I" } : Jvm.MethodName)) ∈ lw_all := lw_g (lw_at lw_m9 53 rfl) rfl
theorem q2155 : (Jvm.Cond.methodLink "AlgolMill$Loop" (68 : Nat) ({ cls := "AlgolMill$Coder", name := "here", desc := "()I" } : Jvm.MethodName)) ∈ lw_all := lw_g (lw_at lw_m9 54 rfl) rfl
theorem q2156 : (Jvm.Cond.methodLink "AlgolMill$Loop" (71 : Nat) ({ cls := "AlgolMill$Inner", name := "emit", desc := "(LAlgolMill$Coder;)V" } : Jvm.MethodName)) ∈ lw_all := lw_g (lw_at lw_m9 55 rfl) rfl
theorem q2157 : (Jvm.Cond.methodLink "AlgolMill$Loop" (75 : Nat) ({ cls := "AlgolMill$Coder", name := "jumpBack", desc := "(I)V" } : Jvm.MethodName)) ∈ lw_all := lw_g (lw_at lw_m9 56 rfl) rfl
theorem q2161 : (Jvm.Cond.methodLink "AlgolMill$Loop" (79 : Nat) ({ cls := "AlgolMill$Name", name := "emitPlace", desc := "(LAlgolMill$Coder;)V" } : Jvm.MethodName)) ∈ lw_all := lw_g (lw_at lw_m9 60 rfl) rfl
theorem q2162 : (Jvm.Cond.methodLink "AlgolMill$Loop" (82 : Nat) ({ cls := "AlgolMill$Coder", name := "back", desc := "()V" } : Jvm.MethodName)) ∈ lw_all := lw_g (lw_at lw_m9 61 rfl) rfl
theorem q2166 : (Jvm.Cond.methodLink "AlgolMill$Loop" (84 : Nat) ({ cls := "AlgolMill$Coder", name := "here", desc := "(I)V" } : Jvm.MethodName)) ∈ lw_all := lw_g (lw_at lw_m9 65 rfl) rfl
theorem q2167 : (Jvm.Cond.methodLink "AlgolMill$Loop" (86 : Nat) ({ cls := "AlgolMill$Element", name := "emit", desc := "(LAlgolMill$Coder;III)V" } : Jvm.MethodName)) ∈ lw_all := lw_g (lw_at lw_m9 66 rfl) rfl
theorem q2237 : (Jvm.Cond.selects "AlgolMill$Loop" ({ cls := "AlgolMill$Statement", name := "emit", desc := "(LAlgolMill$Coder;)V" } : Jvm.MethodName) ({ cls := "AlgolMill$Loop", name := "emit", desc := "(LAlgolMill$Coder;)V" } : Jvm.MethodName)) ∈ lw_all := lw_g (lw_at lw_m9 136 rfl) rfl
theorem q3405 : (Jvm.Cond.castable "AlgolMill$Loop" "AlgolMill$Statement") ∈ lw_tbl := lw_at lw_m14 104 rfl
theorem in_X31 : ∀ w ∈ wsX310, w ∈ lw_all := lw_in wsX310 [1474, 1462, 1464, 1466, 1468, 1470, 1472] (by decide +kernel) (by decide +kernel)
/-! AlgolMill$Element -/
def RX32 : String := "AlgolMill$Element"
def TX32 : u_T := fun k => match k with
  | 0 => ("AlgolMill$Element", "first", "LAlgolMill$Expr;", true)
  | 1 => ("AlgolMill$Element", "step", "LAlgolMill$Expr;", true)
  | _ => ("AlgolMill$Element", "last", "LAlgolMill$Expr;", true)
def tyX32 : Nat → FieldType := fun k => match k with
  | 0 => .object "AlgolMill$Expr"
  | 1 => .object "AlgolMill$Expr"
  | _ => .object "AlgolMill$Expr"
abbrev wsX320 : List Cond := u_ws RX32 TX32 3
theorem nmX32 : ∀ a, a < 3 → ∀ b, b < 3 → a ≠ b → (TX32 a).2.1 ≠ (TX32 b).2.1 := by decide +kernel
theorem tyX32_ok : ∀ k, k < 3 → parseFieldDescriptor (TX32 k).2.2.1 = some (tyX32 k) := by decide +kernel
abbrev cX32_init : ByteArray := prog_11_method_1_code
def yX32_init : MethodName := ⟨RX32, "<init>", "(LAlgolMill$Expr;LAlgolMill$Expr;LAlgolMill$Expr;)V"⟩
abbrev cX32_check : ByteArray := prog_11_method_2_code
def yX32_check : MethodName := ⟨RX32, "check", "(LAlgolMill$Checker;)V"⟩
abbrev cX32_emit : ByteArray := prog_11_method_3_code
def yX32_emit : MethodName := ⟨RX32, "emit", "(LAlgolMill$Coder;III)V"⟩
abbrev cX32_once : ByteArray := prog_11_method_4_code
def yX32_once : MethodName := ⟨RX32, "once", "(LAlgolMill$Coder;ILAlgolMill$Expr;)V"⟩
abbrev cX32_stepping : ByteArray := prog_11_method_5_code
def yX32_stepping : MethodName := ⟨RX32, "stepping", "(LAlgolMill$Coder;III)V"⟩
theorem q225 : (Jvm.Cond.initialized "AlgolMill$Element") ∈ lw_all := lw_g (lw_at lw_m1 44 rfl) rfl
theorem q1485 : (Jvm.Cond.instantiable "AlgolMill$Element" (3 : Nat)) ∈ lw_all := lw_g (lw_at lw_m6 104 rfl) rfl
theorem q1487 : (Jvm.Cond.instanceMethod ({ cls := "AlgolMill$Element", name := "<init>", desc := "(LAlgolMill$Expr;LAlgolMill$Expr;LAlgolMill$Expr;)V" } : Jvm.MethodName)) ∈ lw_all := lw_g (lw_at lw_m6 106 rfl) rfl
theorem q1488 : (Jvm.Cond.code ({ cls := "AlgolMill$Element", name := "<init>", desc := "(LAlgolMill$Expr;LAlgolMill$Expr;LAlgolMill$Expr;)V" } : Jvm.MethodName) prog_11_method_1_code (4 : Nat) (Option.none : Option Jvm.ClassFile.FieldType)) ∈ lw_all := lw_g (lw_at lw_m6 107 rfl) rfl
theorem q1489 : (Jvm.Cond.methodLink "AlgolMill$Element" (1 : Nat) ({ cls := "java/lang/Object", name := "<init>", desc := "()V" } : Jvm.MethodName)) ∈ lw_all := lw_g (lw_at lw_m6 108 rfl) rfl
theorem q1490 : (Jvm.Cond.fieldLink "AlgolMill$Element" (7 : Nat) "AlgolMill$Element" "first" "LAlgolMill$Expr;") ∈ lw_all := lw_g (lw_at lw_m6 109 rfl) rfl
theorem q1491 : (Jvm.Cond.fieldLink "AlgolMill$Element" (13 : Nat) "AlgolMill$Element" "step" "LAlgolMill$Expr;") ∈ lw_all := lw_g (lw_at lw_m6 110 rfl) rfl
theorem q1492 : (Jvm.Cond.fieldLink "AlgolMill$Element" (16 : Nat) "AlgolMill$Element" "last" "LAlgolMill$Expr;") ∈ lw_all := lw_g (lw_at lw_m6 111 rfl) rfl
theorem q1493 : (Jvm.Cond.laysFinal "AlgolMill$Element" "AlgolMill$Element" "first" "LAlgolMill$Expr;") ∈ lw_all := lw_g (lw_at lw_m6 112 rfl) rfl
theorem q1494 : (Jvm.Cond.soleField "AlgolMill$Element" "first") ∈ lw_all := lw_g (lw_at lw_m6 113 rfl) rfl
theorem q1495 : (Jvm.Cond.laysFinal "AlgolMill$Element" "AlgolMill$Element" "step" "LAlgolMill$Expr;") ∈ lw_all := lw_g (lw_at lw_m6 114 rfl) rfl
theorem q1496 : (Jvm.Cond.soleField "AlgolMill$Element" "step") ∈ lw_all := lw_g (lw_at lw_m6 115 rfl) rfl
theorem q1497 : (Jvm.Cond.laysFinal "AlgolMill$Element" "AlgolMill$Element" "last" "LAlgolMill$Expr;") ∈ lw_all := lw_g (lw_at lw_m6 116 rfl) rfl
theorem q1498 : (Jvm.Cond.soleField "AlgolMill$Element" "last") ∈ lw_all := lw_g (lw_at lw_m6 117 rfl) rfl
theorem q1499 : (Jvm.Cond.superclass "AlgolMill$Element" "java/lang/Object") ∈ lw_all := lw_g (lw_at lw_m6 118 rfl) rfl
theorem q1760 : (Jvm.Cond.instanceMethod ({ cls := "AlgolMill$Element", name := "check", desc := "(LAlgolMill$Checker;)V" } : Jvm.MethodName)) ∈ lw_all := lw_g (lw_at lw_m7 139 rfl) rfl
theorem q1761 : (Jvm.Cond.selects "AlgolMill$Element" ({ cls := "AlgolMill$Element", name := "check", desc := "(LAlgolMill$Checker;)V" } : Jvm.MethodName) ({ cls := "AlgolMill$Element", name := "check", desc := "(LAlgolMill$Checker;)V" } : Jvm.MethodName)) ∈ lw_all := lw_g (lw_at lw_m7 140 rfl) rfl
theorem q1762 : (Jvm.Cond.code ({ cls := "AlgolMill$Element", name := "check", desc := "(LAlgolMill$Checker;)V" } : Jvm.MethodName) prog_11_method_2_code (2 : Nat) (Option.none : Option Jvm.ClassFile.FieldType)) ∈ lw_all := lw_g (lw_at lw_m7 141 rfl) rfl
theorem q1763 : (Jvm.Cond.methodLink "AlgolMill$Element" (19 : Nat) ({ cls := "AlgolMill$Checker", name := "need", desc := "(LAlgolMill$Expr;I)V" } : Jvm.MethodName)) ∈ lw_all := lw_g (lw_at lw_m7 142 rfl) rfl
theorem q2168 : (Jvm.Cond.instanceMethod ({ cls := "AlgolMill$Element", name := "emit", desc := "(LAlgolMill$Coder;III)V" } : Jvm.MethodName)) ∈ lw_all := lw_g (lw_at lw_m9 67 rfl) rfl
theorem q2169 : (Jvm.Cond.selects "AlgolMill$Element" ({ cls := "AlgolMill$Element", name := "emit", desc := "(LAlgolMill$Coder;III)V" } : Jvm.MethodName) ({ cls := "AlgolMill$Element", name := "emit", desc := "(LAlgolMill$Coder;III)V" } : Jvm.MethodName)) ∈ lw_all := lw_g (lw_at lw_m9 68 rfl) rfl
theorem q2170 : (Jvm.Cond.code ({ cls := "AlgolMill$Element", name := "emit", desc := "(LAlgolMill$Coder;III)V" } : Jvm.MethodName) prog_11_method_3_code (7 : Nat) (Option.none : Option Jvm.ClassFile.FieldType)) ∈ lw_all := lw_g (lw_at lw_m9 69 rfl) rfl
theorem q2171 : (Jvm.Cond.methodLink "AlgolMill$Element" (25 : Nat) ({ cls := "AlgolMill$Element", name := "once", desc := "(LAlgolMill$Coder;ILAlgolMill$Expr;)V" } : Jvm.MethodName)) ∈ lw_all := lw_g (lw_at lw_m9 70 rfl) rfl
theorem q2172 : (Jvm.Cond.static ({ cls := "AlgolMill$Element", name := "once", desc := "(LAlgolMill$Coder;ILAlgolMill$Expr;)V" } : Jvm.MethodName)) ∈ lw_all := lw_g (lw_at lw_m9 71 rfl) rfl
theorem q2173 : (Jvm.Cond.code ({ cls := "AlgolMill$Element", name := "once", desc := "(LAlgolMill$Coder;ILAlgolMill$Expr;)V" } : Jvm.MethodName) prog_11_method_4_code (3 : Nat) (Option.none : Option Jvm.ClassFile.FieldType)) ∈ lw_all := lw_g (lw_at lw_m9 72 rfl) rfl
theorem q2174 : (Jvm.Cond.methodLink "AlgolMill$Element" (58 : Nat) ({ cls := "AlgolMill$Coder", name := "step", desc := "()V" } : Jvm.MethodName)) ∈ lw_all := lw_g (lw_at lw_m9 73 rfl) rfl
theorem q2175 : (Jvm.Cond.methodLink "AlgolMill$Element" (60 : Nat) ({ cls := "AlgolMill$Coder", name := "run", desc := "(I)V" } : Jvm.MethodName)) ∈ lw_all := lw_g (lw_at lw_m9 74 rfl) rfl
theorem q2179 : (Jvm.Cond.methodLink "AlgolMill$Element" (63 : Nat) ({ cls := "AlgolMill$Coder", name := "push", desc := "()V" } : Jvm.MethodName)) ∈ lw_all := lw_g (lw_at lw_m9 78 rfl) rfl
theorem q2180 : (Jvm.Cond.methodLink "AlgolMill$Element" (39 : Nat) ({ cls := "AlgolMill$Expr", name := "emit", desc := "(LAlgolMill$Coder;)V" } : Jvm.MethodName)) ∈ lw_all := lw_g (lw_at lw_m9 79 rfl) rfl
theorem q2181 : (Jvm.Cond.methodLink "AlgolMill$Element" (66 : Nat) ({ cls := "AlgolMill$Coder", name := "store", desc := "()V" } : Jvm.MethodName)) ∈ lw_all := lw_g (lw_at lw_m9 80 rfl) rfl
theorem q2185 : (Jvm.Cond.methodLink "AlgolMill$Element" (29 : Nat) ({ cls := "AlgolMill$Coder", name := "runBody", desc := "(II)V" } : Jvm.MethodName)) ∈ lw_all := lw_g (lw_at lw_m9 84 rfl) rfl
theorem q2189 : (Jvm.Cond.methodLink "AlgolMill$Element" (35 : Nat) ({ cls := "AlgolMill$Coder", name := "here", desc := "()I" } : Jvm.MethodName)) ∈ lw_all := lw_g (lw_at lw_m9 88 rfl) rfl
theorem q2190 : (Jvm.Cond.methodLink "AlgolMill$Element" (45 : Nat) ({ cls := "AlgolMill$Coder", name := "jumpIfNot", desc := "()I" } : Jvm.MethodName)) ∈ lw_all := lw_g (lw_at lw_m9 89 rfl) rfl
theorem q2191 : (Jvm.Cond.methodLink "AlgolMill$Element" (48 : Nat) ({ cls := "AlgolMill$Coder", name := "jumpTo", desc := "(I)V" } : Jvm.MethodName)) ∈ lw_all := lw_g (lw_at lw_m9 90 rfl) rfl
theorem q2195 : (Jvm.Cond.methodLink "AlgolMill$Element" (52 : Nat) ({ cls := "AlgolMill$Coder", name := "here", desc := "(I)V" } : Jvm.MethodName)) ∈ lw_all := lw_g (lw_at lw_m9 94 rfl) rfl
theorem q2196 : (Jvm.Cond.methodLink "AlgolMill$Element" (54 : Nat) ({ cls := "AlgolMill$Element", name := "stepping", desc := "(LAlgolMill$Coder;III)V" } : Jvm.MethodName)) ∈ lw_all := lw_g (lw_at lw_m9 95 rfl) rfl
theorem q2197 : (Jvm.Cond.privateMethod ({ cls := "AlgolMill$Element", name := "stepping", desc := "(LAlgolMill$Coder;III)V" } : Jvm.MethodName)) ∈ lw_tbl := lw_at lw_m9 96 rfl
theorem q2198 : (Jvm.Cond.instanceMethod ({ cls := "AlgolMill$Element", name := "stepping", desc := "(LAlgolMill$Coder;III)V" } : Jvm.MethodName)) ∈ lw_all := lw_g (lw_at lw_m9 97 rfl) rfl
theorem q2199 : (Jvm.Cond.code ({ cls := "AlgolMill$Element", name := "stepping", desc := "(LAlgolMill$Coder;III)V" } : Jvm.MethodName) prog_11_method_5_code (9 : Nat) (Option.none : Option Jvm.ClassFile.FieldType)) ∈ lw_all := lw_g (lw_at lw_m9 98 rfl) rfl
theorem q2200 : (Jvm.Cond.methodLink "AlgolMill$Element" (69 : Nat) ({ cls := "AlgolMill$Coder", name := "jump", desc := "()I" } : Jvm.MethodName)) ∈ lw_all := lw_g (lw_at lw_m9 99 rfl) rfl
theorem q2201 : (Jvm.Cond.methodLink "AlgolMill$Element" (72 : Nat) ({ cls := "AlgolMill$Coder", name := "back", desc := "()V" } : Jvm.MethodName)) ∈ lw_all := lw_g (lw_at lw_m9 100 rfl) rfl
theorem q2202 : (Jvm.Cond.methodLink "AlgolMill$Element" (75 : Nat) ({ cls := "AlgolMill$Coder", name := "fetch", desc := "()V" } : Jvm.MethodName)) ∈ lw_all := lw_g (lw_at lw_m9 101 rfl) rfl
theorem q2203 : (Jvm.Cond.methodLink "AlgolMill$Element" (78 : Nat) ({ cls := "AlgolMill$Coder", name := "jumpIfOver", desc := "()I" } : Jvm.MethodName)) ∈ lw_all := lw_g (lw_at lw_m9 102 rfl) rfl
theorem q2207 : (Jvm.Cond.methodLink "AlgolMill$Element" (81 : Nat) ({ cls := "AlgolMill$Coder", name := "two", desc := "(I)V" } : Jvm.MethodName)) ∈ lw_all := lw_g (lw_at lw_m9 106 rfl) rfl
theorem in_X32 : ∀ w ∈ wsX320, w ∈ lw_all := lw_in wsX320 [1493, 1495, 1497] (by decide +kernel) (by decide +kernel)
/-! AlgolMill$Nothing -/
def RX33 : String := "AlgolMill$Nothing"
def TX33 : u_T := fun k => match k with
  | _ => ("AlgolMill$Statement", "marks", "LAlgolMill$Things;", false)
def tyX33 : Nat → FieldType := fun k => match k with
  | _ => .object "AlgolMill$Things"
abbrev wsX330 : List Cond := u_ws RX33 TX33 1
theorem nmX33 : ∀ a, a < 1 → ∀ b, b < 1 → a ≠ b → (TX33 a).2.1 ≠ (TX33 b).2.1 := by decide +kernel
theorem tyX33_ok : ∀ k, k < 1 → parseFieldDescriptor (TX33 k).2.2.1 = some (tyX33 k) := by decide +kernel
abbrev cX33_init : ByteArray := prog_21_method_1_code
def yX33_init : MethodName := ⟨RX33, "<init>", "()V"⟩
abbrev cX33_check : ByteArray := prog_21_method_2_code
def yX33_check : MethodName := ⟨RX33, "check", "(LAlgolMill$Checker;)V"⟩
abbrev cX33_isNothing : ByteArray := prog_21_method_4_code
def yX33_isNothing : MethodName := ⟨RX33, "isNothing", "()Z"⟩
abbrev cX33_emit : ByteArray := prog_21_method_3_code
def yX33_emit : MethodName := ⟨RX33, "emit", "(LAlgolMill$Coder;)V"⟩
theorem q226 : (Jvm.Cond.initialized "AlgolMill$Nothing") ∈ lw_all := lw_g (lw_at lw_m1 45 rfl) rfl
theorem q1509 : (Jvm.Cond.instantiable "AlgolMill$Nothing" (1 : Nat)) ∈ lw_all := lw_g (lw_at lw_m6 128 rfl) rfl
theorem q1511 : (Jvm.Cond.instanceMethod ({ cls := "AlgolMill$Nothing", name := "<init>", desc := "()V" } : Jvm.MethodName)) ∈ lw_all := lw_g (lw_at lw_m6 130 rfl) rfl
theorem q1512 : (Jvm.Cond.code ({ cls := "AlgolMill$Nothing", name := "<init>", desc := "()V" } : Jvm.MethodName) prog_21_method_1_code (1 : Nat) (Option.none : Option Jvm.ClassFile.FieldType)) ∈ lw_all := lw_g (lw_at lw_m6 131 rfl) rfl
theorem q1513 : (Jvm.Cond.methodLinkNest "AlgolMill$Nothing" (1 : Nat) ({ cls := "AlgolMill$Statement", name := "<init>", desc := "()V" } : Jvm.MethodName) "AlgolMill") ∈ lw_tbl := lw_at lw_m6 132 rfl
theorem q1514 : (Jvm.Cond.lays "AlgolMill$Nothing" "AlgolMill$Statement" "marks" "LAlgolMill$Things;") ∈ lw_all := lw_g (lw_at lw_m6 133 rfl) rfl
theorem q1515 : (Jvm.Cond.superclass "AlgolMill$Nothing" "AlgolMill$Statement") ∈ lw_all := lw_g (lw_at lw_m6 134 rfl) rfl
theorem q1765 : (Jvm.Cond.instanceMethod ({ cls := "AlgolMill$Nothing", name := "check", desc := "(LAlgolMill$Checker;)V" } : Jvm.MethodName)) ∈ lw_all := lw_g (lw_at lw_m7 144 rfl) rfl
theorem q1766 : (Jvm.Cond.code ({ cls := "AlgolMill$Nothing", name := "check", desc := "(LAlgolMill$Checker;)V" } : Jvm.MethodName) prog_21_method_2_code (2 : Nat) (Option.none : Option Jvm.ClassFile.FieldType)) ∈ lw_all := lw_g (lw_at lw_m7 145 rfl) rfl
theorem q1787 : (Jvm.Cond.selects "AlgolMill$Nothing" ({ cls := "AlgolMill$Statement", name := "check", desc := "(LAlgolMill$Checker;)V" } : Jvm.MethodName) ({ cls := "AlgolMill$Nothing", name := "check", desc := "(LAlgolMill$Checker;)V" } : Jvm.MethodName)) ∈ lw_all := lw_g (lw_at lw_m7 166 rfl) rfl
theorem q2090 : (Jvm.Cond.selects "AlgolMill$Nothing" ({ cls := "AlgolMill$Statement", name := "isNothing", desc := "()Z" } : Jvm.MethodName) ({ cls := "AlgolMill$Nothing", name := "isNothing", desc := "()Z" } : Jvm.MethodName)) ∈ lw_all := lw_g (lw_at lw_m8 229 rfl) rfl
theorem q2091 : (Jvm.Cond.instanceMethod ({ cls := "AlgolMill$Nothing", name := "isNothing", desc := "()Z" } : Jvm.MethodName)) ∈ lw_all := lw_g (lw_at lw_m8 230 rfl) rfl
theorem q2092 : (Jvm.Cond.code ({ cls := "AlgolMill$Nothing", name := "isNothing", desc := "()Z" } : Jvm.MethodName) prog_21_method_4_code (1 : Nat) (Option.some Jvm.ClassFile.FieldType.boolean)) ∈ lw_all := lw_g (lw_at lw_m8 231 rfl) rfl
theorem q2208 : (Jvm.Cond.instanceMethod ({ cls := "AlgolMill$Nothing", name := "emit", desc := "(LAlgolMill$Coder;)V" } : Jvm.MethodName)) ∈ lw_all := lw_g (lw_at lw_m9 107 rfl) rfl
theorem q2209 : (Jvm.Cond.code ({ cls := "AlgolMill$Nothing", name := "emit", desc := "(LAlgolMill$Coder;)V" } : Jvm.MethodName) prog_21_method_3_code (2 : Nat) (Option.none : Option Jvm.ClassFile.FieldType)) ∈ lw_all := lw_g (lw_at lw_m9 108 rfl) rfl
theorem q2238 : (Jvm.Cond.selects "AlgolMill$Nothing" ({ cls := "AlgolMill$Statement", name := "emit", desc := "(LAlgolMill$Coder;)V" } : Jvm.MethodName) ({ cls := "AlgolMill$Nothing", name := "emit", desc := "(LAlgolMill$Coder;)V" } : Jvm.MethodName)) ∈ lw_all := lw_g (lw_at lw_m9 137 rfl) rfl
theorem q3406 : (Jvm.Cond.castable "AlgolMill$Nothing" "AlgolMill$Statement") ∈ lw_tbl := lw_at lw_m14 105 rfl
theorem in_X33 : ∀ w ∈ wsX330, w ∈ lw_all := lw_in wsX330 [1514] (by decide +kernel) (by decide +kernel)
/-! AlgolMill$Switch -/
def RX34 : String := "AlgolMill$Switch"
def TX34 : u_T := fun k => match k with
  | 0 => ("AlgolMill$Switch", "aims", "LAlgolMill$Exprs;", true)
  | _ => ("AlgolMill$Switch", "address", "I", false)
def tyX34 : Nat → FieldType := fun k => match k with
  | 0 => .object "AlgolMill$Exprs"
  | _ => .int
abbrev wsX340 : List Cond := u_ws RX34 TX34 2
theorem nmX34 : ∀ a, a < 2 → ∀ b, b < 2 → a ≠ b → (TX34 a).2.1 ≠ (TX34 b).2.1 := by decide +kernel
theorem tyX34_ok : ∀ k, k < 2 → parseFieldDescriptor (TX34 k).2.2.1 = some (tyX34 k) := by decide +kernel
abbrev cX34_init : ByteArray := prog_32_method_1_code
def yX34_init : MethodName := ⟨RX34, "<init>", "()V"⟩
theorem q227 : (Jvm.Cond.initialized "AlgolMill$Switch") ∈ lw_all := lw_g (lw_at lw_m1 46 rfl) rfl
theorem q1521 : (Jvm.Cond.instantiable "AlgolMill$Switch" (2 : Nat)) ∈ lw_all := lw_g (lw_at lw_m6 140 rfl) rfl
theorem q1523 : (Jvm.Cond.instanceMethod ({ cls := "AlgolMill$Switch", name := "<init>", desc := "()V" } : Jvm.MethodName)) ∈ lw_all := lw_g (lw_at lw_m6 142 rfl) rfl
theorem q1524 : (Jvm.Cond.code ({ cls := "AlgolMill$Switch", name := "<init>", desc := "()V" } : Jvm.MethodName) prog_32_method_1_code (1 : Nat) (Option.none : Option Jvm.ClassFile.FieldType)) ∈ lw_all := lw_g (lw_at lw_m6 143 rfl) rfl
theorem q1525 : (Jvm.Cond.methodLink "AlgolMill$Switch" (1 : Nat) ({ cls := "java/lang/Object", name := "<init>", desc := "()V" } : Jvm.MethodName)) ∈ lw_all := lw_g (lw_at lw_m6 144 rfl) rfl
theorem q1526 : (Jvm.Cond.classLink "AlgolMill$Switch" (7 : Nat) "AlgolMill$Exprs") ∈ lw_all := lw_g (lw_at lw_m6 145 rfl) rfl
theorem q1527 : (Jvm.Cond.methodLinkNest "AlgolMill$Switch" (9 : Nat) ({ cls := "AlgolMill$Exprs", name := "<init>", desc := "()V" } : Jvm.MethodName) "AlgolMill") ∈ lw_tbl := lw_at lw_m6 146 rfl
theorem q1528 : (Jvm.Cond.fieldLink "AlgolMill$Switch" (10 : Nat) "AlgolMill$Switch" "aims" "LAlgolMill$Exprs;") ∈ lw_all := lw_g (lw_at lw_m6 147 rfl) rfl
theorem q1533 : (Jvm.Cond.laysFinal "AlgolMill$Switch" "AlgolMill$Switch" "aims" "LAlgolMill$Exprs;") ∈ lw_all := lw_g (lw_at lw_m6 152 rfl) rfl
theorem q1534 : (Jvm.Cond.soleField "AlgolMill$Switch" "aims") ∈ lw_all := lw_g (lw_at lw_m6 153 rfl) rfl
theorem q1535 : (Jvm.Cond.lays "AlgolMill$Switch" "AlgolMill$Switch" "address" "I") ∈ lw_all := lw_g (lw_at lw_m6 154 rfl) rfl
theorem q1536 : (Jvm.Cond.soleField "AlgolMill$Switch" "address") ∈ lw_all := lw_g (lw_at lw_m6 155 rfl) rfl
theorem q1537 : (Jvm.Cond.superclass "AlgolMill$Switch" "java/lang/Object") ∈ lw_all := lw_g (lw_at lw_m6 156 rfl) rfl
theorem in_X34 : ∀ w ∈ wsX340, w ∈ lw_all := lw_in wsX340 [1533, 1535] (by decide +kernel) (by decide +kernel)
/-! AlgolMill$Checker -/
def RX35 : String := "AlgolMill$Checker"
def TX35 : u_T := fun k => match k with
  | 0 => ("AlgolMill$Checker", "parser", "LAlgolMill$Parser;", true)
  | 1 => ("AlgolMill$Checker", "scope", "LAlgolMill$Scope;", false)
  | _ => ("AlgolMill$Checker", "home", "LAlgolMill$Routine;", false)
def tyX35 : Nat → FieldType := fun k => match k with
  | 0 => .object "AlgolMill$Parser"
  | 1 => .object "AlgolMill$Scope"
  | _ => .object "AlgolMill$Routine"
abbrev wsX350 : List Cond := u_ws RX35 TX35 3
theorem nmX35 : ∀ a, a < 3 → ∀ b, b < 3 → a ≠ b → (TX35 a).2.1 ≠ (TX35 b).2.1 := by decide +kernel
theorem tyX35_ok : ∀ k, k < 3 → parseFieldDescriptor (TX35 k).2.2.1 = some (tyX35 k) := by decide +kernel
abbrev cX35_init : ByteArray := prog_7_method_1_code
def yX35_init : MethodName := ⟨RX35, "<init>", "(LAlgolMill$Parser;)V"⟩
abbrev cX35_check : ByteArray := prog_7_method_2_code
def yX35_check : MethodName := ⟨RX35, "check", "(LAlgolMill$Routine;)V"⟩
abbrev cX35_need : ByteArray := prog_7_method_10_code
def yX35_need : MethodName := ⟨RX35, "need", "(LAlgolMill$Expr;I)V"⟩
abbrev cX35_find : ByteArray := prog_7_method_9_code
def yX35_find : MethodName := ⟨RX35, "find", "(I)LAlgolMill$Thing;"⟩
abbrev cX35_fault : ByteArray := prog_7_method_3_code
def yX35_fault : MethodName := ⟨RX35, "fault", "(II)V"⟩
abbrev cX35_actual : ByteArray := prog_7_method_12_code
def yX35_actual : MethodName := ⟨RX35, "actual", "(LAlgolMill$Expr;LAlgolMill$Thing;)V"⟩
abbrev cX35_loose : ByteArray := prog_7_method_11_code
def yX35_loose : MethodName := ⟨RX35, "loose", "(LAlgolMill$Expr;)V"⟩
abbrev cX35_enter : ByteArray := prog_7_method_4_code
def yX35_enter : MethodName := ⟨RX35, "enter", "(LAlgolMill$Scope;)V"⟩
abbrev cX35_routine : ByteArray := prog_7_method_7_code
def yX35_routine : MethodName := ⟨RX35, "routine", "(LAlgolMill$Routine;)V"⟩
abbrev cX35_in : ByteArray := prog_7_method_6_code
def yX35_in : MethodName := ⟨RX35, "in", "(LAlgolMill$Scope;LAlgolMill$Statement;)V"⟩
abbrev cX35_isInside : ByteArray := prog_7_method_8_code
def yX35_isInside : MethodName := ⟨RX35, "isInside", "(LAlgolMill$Routine;)Z"⟩
abbrev cX35_leave : ByteArray := prog_7_method_5_code
def yX35_leave : MethodName := ⟨RX35, "leave", "()V"⟩
theorem q228 : (Jvm.Cond.initialized "AlgolMill$Checker") ∈ lw_all := lw_g (lw_at lw_m1 47 rfl) rfl
theorem q387 : (Jvm.Cond.fieldLink "AlgolMill$Checker" (75 : Nat) "AlgolMill$Parser" "scanner" "LAlgolMill$Scanner;") ∈ lw_all := lw_g (lw_at lw_m1 206 rfl) rfl
theorem q447 : (Jvm.Cond.fieldLink "AlgolMill$Checker" (65 : Nat) "AlgolMill$Things" "size" "I") ∈ lw_all := lw_g (lw_at lw_m2 26 rfl) rfl
theorem q788 : (Jvm.Cond.fieldLink "AlgolMill$Checker" (59 : Nat) "AlgolMill$Routine" "around" "LAlgolMill$Routine;") ∈ lw_all := lw_g (lw_at lw_m3 127 rfl) rfl
theorem q793 : (Jvm.Cond.fieldLink "AlgolMill$Checker" (144 : Nat) "AlgolMill$Routine" "formals" "LAlgolMill$Things;") ∈ lw_all := lw_g (lw_at lw_m3 132 rfl) rfl
theorem q796 : (Jvm.Cond.fieldLink "AlgolMill$Checker" (24 : Nat) "AlgolMill$Routine" "body" "LAlgolMill$Statement;") ∈ lw_all := lw_g (lw_at lw_m3 135 rfl) rfl
theorem q799 : (Jvm.Cond.fieldLink "AlgolMill$Checker" (13 : Nat) "AlgolMill$Routine" "scope" "LAlgolMill$Scope;") ∈ lw_all := lw_g (lw_at lw_m3 138 rfl) rfl
theorem q801 : (Jvm.Cond.fieldLink "AlgolMill$Checker" (52 : Nat) "AlgolMill$Routine" "inner" "LAlgolMill$Scope;") ∈ lw_all := lw_g (lw_at lw_m3 140 rfl) rfl
theorem q843 : (Jvm.Cond.fieldLink "AlgolMill$Checker" (40 : Nat) "AlgolMill$Scope" "around" "LAlgolMill$Scope;") ∈ lw_all := lw_g (lw_at lw_m3 182 rfl) rfl
theorem q848 : (Jvm.Cond.fieldLink "AlgolMill$Checker" (61 : Nat) "AlgolMill$Scope" "things" "LAlgolMill$Things;") ∈ lw_all := lw_g (lw_at lw_m3 187 rfl) rfl
theorem q1014 : (Jvm.Cond.fieldLink "AlgolMill$Checker" (79 : Nat) "AlgolMill$Thing" "token" "I") ∈ lw_all := lw_g (lw_at lw_m4 113 rfl) rfl
theorem q1018 : (Jvm.Cond.fieldLink "AlgolMill$Checker" (90 : Nat) "AlgolMill$Thing" "sort" "I") ∈ lw_all := lw_g (lw_at lw_m4 117 rfl) rfl
theorem q1023 : (Jvm.Cond.fieldLink "AlgolMill$Checker" (110 : Nat) "AlgolMill$Thing" "type" "I") ∈ lw_all := lw_g (lw_at lw_m4 122 rfl) rfl
theorem q1026 : (Jvm.Cond.fieldLink "AlgolMill$Checker" (137 : Nat) "AlgolMill$Thing" "formal" "Z") ∈ lw_all := lw_g (lw_at lw_m4 125 rfl) rfl
theorem q1047 : (Jvm.Cond.fieldLink "AlgolMill$Checker" (141 : Nat) "AlgolMill$Thing" "routine" "LAlgolMill$Routine;") ∈ lw_all := lw_g (lw_at lw_m4 146 rfl) rfl
theorem q1139 : (Jvm.Cond.fieldLink "AlgolMill$Checker" (102 : Nat) "AlgolMill$Expr" "token" "I") ∈ lw_all := lw_g (lw_at lw_m4 238 rfl) rfl
theorem q1140 : (Jvm.Cond.fieldLink "AlgolMill$Checker" (126 : Nat) "AlgolMill$Name" "token" "I") ∈ lw_all := lw_g (lw_at lw_m4 239 rfl) rfl
theorem q1183 : (Jvm.Cond.fieldLink "AlgolMill$Checker" (134 : Nat) "AlgolMill$Name" "form" "I") ∈ lw_all := lw_g (lw_at lw_m5 42 rfl) rfl
theorem q1189 : (Jvm.Cond.fieldLink "AlgolMill$Checker" (130 : Nat) "AlgolMill$Name" "thing" "LAlgolMill$Thing;") ∈ lw_all := lw_g (lw_at lw_m5 48 rfl) rfl
theorem q1555 : (Jvm.Cond.instantiable "AlgolMill$Checker" (3 : Nat)) ∈ lw_all := lw_g (lw_at lw_m6 174 rfl) rfl
theorem q1557 : (Jvm.Cond.instanceMethod ({ cls := "AlgolMill$Checker", name := "<init>", desc := "(LAlgolMill$Parser;)V" } : Jvm.MethodName)) ∈ lw_all := lw_g (lw_at lw_m6 176 rfl) rfl
theorem q1558 : (Jvm.Cond.code ({ cls := "AlgolMill$Checker", name := "<init>", desc := "(LAlgolMill$Parser;)V" } : Jvm.MethodName) prog_7_method_1_code (2 : Nat) (Option.none : Option Jvm.ClassFile.FieldType)) ∈ lw_all := lw_g (lw_at lw_m6 177 rfl) rfl
theorem q1559 : (Jvm.Cond.methodLink "AlgolMill$Checker" (1 : Nat) ({ cls := "java/lang/Object", name := "<init>", desc := "()V" } : Jvm.MethodName)) ∈ lw_all := lw_g (lw_at lw_m6 178 rfl) rfl
theorem q1560 : (Jvm.Cond.fieldLink "AlgolMill$Checker" (7 : Nat) "AlgolMill$Checker" "parser" "LAlgolMill$Parser;") ∈ lw_all := lw_g (lw_at lw_m6 179 rfl) rfl
theorem q1561 : (Jvm.Cond.fieldLink "AlgolMill$Checker" (19 : Nat) "AlgolMill$Checker" "scope" "LAlgolMill$Scope;") ∈ lw_all := lw_g (lw_at lw_m6 180 rfl) rfl
theorem q1562 : (Jvm.Cond.fieldLink "AlgolMill$Checker" (20 : Nat) "AlgolMill$Checker" "home" "LAlgolMill$Routine;") ∈ lw_all := lw_g (lw_at lw_m6 181 rfl) rfl
theorem q1563 : (Jvm.Cond.laysFinal "AlgolMill$Checker" "AlgolMill$Checker" "parser" "LAlgolMill$Parser;") ∈ lw_all := lw_g (lw_at lw_m6 182 rfl) rfl
theorem q1564 : (Jvm.Cond.soleField "AlgolMill$Checker" "parser") ∈ lw_all := lw_g (lw_at lw_m6 183 rfl) rfl
theorem q1565 : (Jvm.Cond.lays "AlgolMill$Checker" "AlgolMill$Checker" "scope" "LAlgolMill$Scope;") ∈ lw_all := lw_g (lw_at lw_m6 184 rfl) rfl
theorem q1566 : (Jvm.Cond.soleField "AlgolMill$Checker" "scope") ∈ lw_all := lw_g (lw_at lw_m6 185 rfl) rfl
theorem q1567 : (Jvm.Cond.lays "AlgolMill$Checker" "AlgolMill$Checker" "home" "LAlgolMill$Routine;") ∈ lw_all := lw_g (lw_at lw_m6 186 rfl) rfl
theorem q1568 : (Jvm.Cond.soleField "AlgolMill$Checker" "home") ∈ lw_all := lw_g (lw_at lw_m6 187 rfl) rfl
theorem q1569 : (Jvm.Cond.superclass "AlgolMill$Checker" "java/lang/Object") ∈ lw_all := lw_g (lw_at lw_m6 188 rfl) rfl
theorem q1571 : (Jvm.Cond.instanceMethod ({ cls := "AlgolMill$Checker", name := "check", desc := "(LAlgolMill$Routine;)V" } : Jvm.MethodName)) ∈ lw_all := lw_g (lw_at lw_m6 190 rfl) rfl
theorem q1572 : (Jvm.Cond.selects "AlgolMill$Checker" ({ cls := "AlgolMill$Checker", name := "check", desc := "(LAlgolMill$Routine;)V" } : Jvm.MethodName) ({ cls := "AlgolMill$Checker", name := "check", desc := "(LAlgolMill$Routine;)V" } : Jvm.MethodName)) ∈ lw_all := lw_g (lw_at lw_m6 191 rfl) rfl
theorem q1573 : (Jvm.Cond.code ({ cls := "AlgolMill$Checker", name := "check", desc := "(LAlgolMill$Routine;)V" } : Jvm.MethodName) prog_7_method_2_code (2 : Nat) (Option.none : Option Jvm.ClassFile.FieldType)) ∈ lw_all := lw_g (lw_at lw_m6 192 rfl) rfl
theorem q1574 : (Jvm.Cond.methodLink "AlgolMill$Checker" (28 : Nat) ({ cls := "AlgolMill$Statement", name := "check", desc := "(LAlgolMill$Checker;)V" } : Jvm.MethodName)) ∈ lw_all := lw_g (lw_at lw_m6 193 rfl) rfl
theorem q1589 : (Jvm.Cond.instanceMethod ({ cls := "AlgolMill$Checker", name := "need", desc := "(LAlgolMill$Expr;I)V" } : Jvm.MethodName)) ∈ lw_all := lw_g (lw_at lw_m6 208 rfl) rfl
theorem q1590 : (Jvm.Cond.selects "AlgolMill$Checker" ({ cls := "AlgolMill$Checker", name := "need", desc := "(LAlgolMill$Expr;I)V" } : Jvm.MethodName) ({ cls := "AlgolMill$Checker", name := "need", desc := "(LAlgolMill$Expr;I)V" } : Jvm.MethodName)) ∈ lw_all := lw_g (lw_at lw_m6 209 rfl) rfl
theorem q1591 : (Jvm.Cond.code ({ cls := "AlgolMill$Checker", name := "need", desc := "(LAlgolMill$Expr;I)V" } : Jvm.MethodName) prog_7_method_10_code (4 : Nat) (Option.none : Option Jvm.ClassFile.FieldType)) ∈ lw_all := lw_g (lw_at lw_m6 210 rfl) rfl
theorem q1592 : (Jvm.Cond.methodLink "AlgolMill$Checker" (97 : Nat) ({ cls := "AlgolMill$Expr", name := "check", desc := "(LAlgolMill$Checker;)I" } : Jvm.MethodName)) ∈ lw_all := lw_g (lw_at lw_m6 211 rfl) rfl
theorem q1614 : (Jvm.Cond.instanceMethod ({ cls := "AlgolMill$Checker", name := "find", desc := "(I)LAlgolMill$Thing;" } : Jvm.MethodName)) ∈ lw_all := lw_g (lw_at lw_m6 233 rfl) rfl
theorem q1615 : (Jvm.Cond.selects "AlgolMill$Checker" ({ cls := "AlgolMill$Checker", name := "find", desc := "(I)LAlgolMill$Thing;" } : Jvm.MethodName) ({ cls := "AlgolMill$Checker", name := "find", desc := "(I)LAlgolMill$Thing;" } : Jvm.MethodName)) ∈ lw_all := lw_g (lw_at lw_m6 234 rfl) rfl
theorem q1616 : (Jvm.Cond.code ({ cls := "AlgolMill$Checker", name := "find", desc := "(I)LAlgolMill$Thing;" } : Jvm.MethodName) prog_7_method_9_code (5 : Nat) (Option.some (Jvm.ClassFile.FieldType.object "AlgolMill$Thing"))) ∈ lw_all := lw_g (lw_at lw_m6 235 rfl) rfl
theorem q1617 : (Jvm.Cond.methodLink "AlgolMill$Checker" (71 : Nat) ({ cls := "AlgolMill$Things", name := "get", desc := "(I)LAlgolMill$Thing;" } : Jvm.MethodName)) ∈ lw_all := lw_g (lw_at lw_m6 236 rfl) rfl
theorem q1618 : (Jvm.Cond.methodLink "AlgolMill$Checker" (84 : Nat) ({ cls := "AlgolMill$Scanner", name := "same", desc := "(II)Z" } : Jvm.MethodName)) ∈ lw_all := lw_g (lw_at lw_m6 237 rfl) rfl
theorem q1619 : (Jvm.Cond.classLink "AlgolMill$Checker" (80 : Nat) "AlgolMill$Thing") ∈ lw_all := lw_g (lw_at lw_m6 238 rfl) rfl
theorem q1620 : (Jvm.Cond.methodLink "AlgolMill$Checker" (93 : Nat) ({ cls := "AlgolMill$Thing", name := "<init>", desc := "(III)V" } : Jvm.MethodName)) ∈ lw_all := lw_g (lw_at lw_m6 239 rfl) rfl
theorem q1621 : (Jvm.Cond.methodLink "AlgolMill$Checker" (96 : Nat) ({ cls := "AlgolMill$Checker", name := "fault", desc := "(II)V" } : Jvm.MethodName)) ∈ lw_all := lw_g (lw_at lw_m7 0 rfl) rfl
theorem q1622 : (Jvm.Cond.instanceMethod ({ cls := "AlgolMill$Checker", name := "fault", desc := "(II)V" } : Jvm.MethodName)) ∈ lw_all := lw_g (lw_at lw_m7 1 rfl) rfl
theorem q1623 : (Jvm.Cond.selects "AlgolMill$Checker" ({ cls := "AlgolMill$Checker", name := "fault", desc := "(II)V" } : Jvm.MethodName) ({ cls := "AlgolMill$Checker", name := "fault", desc := "(II)V" } : Jvm.MethodName)) ∈ lw_all := lw_g (lw_at lw_m7 2 rfl) rfl
theorem q1624 : (Jvm.Cond.code ({ cls := "AlgolMill$Checker", name := "fault", desc := "(II)V" } : Jvm.MethodName) prog_7_method_3_code (3 : Nat) (Option.none : Option Jvm.ClassFile.FieldType)) ∈ lw_all := lw_g (lw_at lw_m7 3 rfl) rfl
theorem q1625 : (Jvm.Cond.methodLink "AlgolMill$Checker" (34 : Nat) ({ cls := "AlgolMill$Parser", name := "fault", desc := "(II)V" } : Jvm.MethodName)) ∈ lw_all := lw_g (lw_at lw_m7 4 rfl) rfl
theorem q1634 : (Jvm.Cond.instanceMethod ({ cls := "AlgolMill$Checker", name := "actual", desc := "(LAlgolMill$Expr;LAlgolMill$Thing;)V" } : Jvm.MethodName)) ∈ lw_all := lw_g (lw_at lw_m7 13 rfl) rfl
theorem q1635 : (Jvm.Cond.selects "AlgolMill$Checker" ({ cls := "AlgolMill$Checker", name := "actual", desc := "(LAlgolMill$Expr;LAlgolMill$Thing;)V" } : Jvm.MethodName) ({ cls := "AlgolMill$Checker", name := "actual", desc := "(LAlgolMill$Expr;LAlgolMill$Thing;)V" } : Jvm.MethodName)) ∈ lw_all := lw_g (lw_at lw_m7 14 rfl) rfl
theorem q1636 : (Jvm.Cond.code ({ cls := "AlgolMill$Checker", name := "actual", desc := "(LAlgolMill$Expr;LAlgolMill$Thing;)V" } : Jvm.MethodName) prog_7_method_12_code (5 : Nat) (Option.none : Option Jvm.ClassFile.FieldType)) ∈ lw_all := lw_g (lw_at lw_m7 15 rfl) rfl
theorem q1637 : (Jvm.Cond.methodLink "AlgolMill$Checker" (113 : Nat) ({ cls := "AlgolMill$Checker", name := "need", desc := "(LAlgolMill$Expr;I)V" } : Jvm.MethodName)) ∈ lw_all := lw_g (lw_at lw_m7 16 rfl) rfl
theorem q1638 : (Jvm.Cond.methodLink "AlgolMill$Checker" (117 : Nat) ({ cls := "AlgolMill$Expr", name := "checkAim", desc := "(LAlgolMill$Checker;)V" } : Jvm.MethodName)) ∈ lw_all := lw_g (lw_at lw_m7 17 rfl) rfl
theorem q1662 : (Jvm.Cond.methodLink "AlgolMill$Checker" (120 : Nat) ({ cls := "AlgolMill$Checker", name := "loose", desc := "(LAlgolMill$Expr;)V" } : Jvm.MethodName)) ∈ lw_all := lw_g (lw_at lw_m7 41 rfl) rfl
theorem q1663 : (Jvm.Cond.privateMethod ({ cls := "AlgolMill$Checker", name := "loose", desc := "(LAlgolMill$Expr;)V" } : Jvm.MethodName)) ∈ lw_tbl := lw_at lw_m7 42 rfl
theorem q1664 : (Jvm.Cond.instanceMethod ({ cls := "AlgolMill$Checker", name := "loose", desc := "(LAlgolMill$Expr;)V" } : Jvm.MethodName)) ∈ lw_all := lw_g (lw_at lw_m7 43 rfl) rfl
theorem q1665 : (Jvm.Cond.code ({ cls := "AlgolMill$Checker", name := "loose", desc := "(LAlgolMill$Expr;)V" } : Jvm.MethodName) prog_7_method_11_code (3 : Nat) (Option.none : Option Jvm.ClassFile.FieldType)) ∈ lw_all := lw_g (lw_at lw_m7 44 rfl) rfl
theorem q1666 : (Jvm.Cond.methodLink "AlgolMill$Checker" (103 : Nat) ({ cls := "AlgolMill$Expr", name := "looksAim", desc := "()Z" } : Jvm.MethodName)) ∈ lw_all := lw_g (lw_at lw_m7 45 rfl) rfl
theorem q1684 : (Jvm.Cond.methodLink "AlgolMill$Checker" (107 : Nat) ({ cls := "AlgolMill$Expr", name := "checkNames", desc := "(LAlgolMill$Checker;)V" } : Jvm.MethodName)) ∈ lw_all := lw_g (lw_at lw_m7 63 rfl) rfl
theorem q1702 : (Jvm.Cond.classLink "AlgolMill$Checker" (124 : Nat) "AlgolMill$Name") ∈ lw_all := lw_g (lw_at lw_m7 81 rfl) rfl
theorem q1703 : (Jvm.Cond.methodLink "AlgolMill$Checker" (127 : Nat) ({ cls := "AlgolMill$Checker", name := "find", desc := "(I)LAlgolMill$Thing;" } : Jvm.MethodName)) ∈ lw_all := lw_g (lw_at lw_m7 82 rfl) rfl
theorem q1719 : (Jvm.Cond.instanceMethod ({ cls := "AlgolMill$Checker", name := "enter", desc := "(LAlgolMill$Scope;)V" } : Jvm.MethodName)) ∈ lw_all := lw_g (lw_at lw_m7 98 rfl) rfl
theorem q1720 : (Jvm.Cond.selects "AlgolMill$Checker" ({ cls := "AlgolMill$Checker", name := "enter", desc := "(LAlgolMill$Scope;)V" } : Jvm.MethodName) ({ cls := "AlgolMill$Checker", name := "enter", desc := "(LAlgolMill$Scope;)V" } : Jvm.MethodName)) ∈ lw_all := lw_g (lw_at lw_m7 99 rfl) rfl
theorem q1721 : (Jvm.Cond.code ({ cls := "AlgolMill$Checker", name := "enter", desc := "(LAlgolMill$Scope;)V" } : Jvm.MethodName) prog_7_method_4_code (2 : Nat) (Option.none : Option Jvm.ClassFile.FieldType)) ∈ lw_all := lw_g (lw_at lw_m7 100 rfl) rfl
theorem q1726 : (Jvm.Cond.instanceMethod ({ cls := "AlgolMill$Checker", name := "routine", desc := "(LAlgolMill$Routine;)V" } : Jvm.MethodName)) ∈ lw_all := lw_g (lw_at lw_m7 105 rfl) rfl
theorem q1727 : (Jvm.Cond.selects "AlgolMill$Checker" ({ cls := "AlgolMill$Checker", name := "routine", desc := "(LAlgolMill$Routine;)V" } : Jvm.MethodName) ({ cls := "AlgolMill$Checker", name := "routine", desc := "(LAlgolMill$Routine;)V" } : Jvm.MethodName)) ∈ lw_all := lw_g (lw_at lw_m7 106 rfl) rfl
theorem q1728 : (Jvm.Cond.code ({ cls := "AlgolMill$Checker", name := "routine", desc := "(LAlgolMill$Routine;)V" } : Jvm.MethodName) prog_7_method_7_code (4 : Nat) (Option.none : Option Jvm.ClassFile.FieldType)) ∈ lw_all := lw_g (lw_at lw_m7 107 rfl) rfl
theorem q1729 : (Jvm.Cond.methodLink "AlgolMill$Checker" (55 : Nat) ({ cls := "AlgolMill$Checker", name := "in", desc := "(LAlgolMill$Scope;LAlgolMill$Statement;)V" } : Jvm.MethodName)) ∈ lw_all := lw_g (lw_at lw_m7 108 rfl) rfl
theorem q1730 : (Jvm.Cond.instanceMethod ({ cls := "AlgolMill$Checker", name := "in", desc := "(LAlgolMill$Scope;LAlgolMill$Statement;)V" } : Jvm.MethodName)) ∈ lw_all := lw_g (lw_at lw_m7 109 rfl) rfl
theorem q1731 : (Jvm.Cond.selects "AlgolMill$Checker" ({ cls := "AlgolMill$Checker", name := "in", desc := "(LAlgolMill$Scope;LAlgolMill$Statement;)V" } : Jvm.MethodName) ({ cls := "AlgolMill$Checker", name := "in", desc := "(LAlgolMill$Scope;LAlgolMill$Statement;)V" } : Jvm.MethodName)) ∈ lw_all := lw_g (lw_at lw_m7 110 rfl) rfl
theorem q1732 : (Jvm.Cond.code ({ cls := "AlgolMill$Checker", name := "in", desc := "(LAlgolMill$Scope;LAlgolMill$Statement;)V" } : Jvm.MethodName) prog_7_method_6_code (3 : Nat) (Option.none : Option Jvm.ClassFile.FieldType)) ∈ lw_all := lw_g (lw_at lw_m7 111 rfl) rfl
theorem q1733 : (Jvm.Cond.methodLink "AlgolMill$Checker" (45 : Nat) ({ cls := "AlgolMill$Checker", name := "enter", desc := "(LAlgolMill$Scope;)V" } : Jvm.MethodName)) ∈ lw_all := lw_g (lw_at lw_m7 112 rfl) rfl
theorem q1755 : (Jvm.Cond.instanceMethod ({ cls := "AlgolMill$Checker", name := "isInside", desc := "(LAlgolMill$Routine;)Z" } : Jvm.MethodName)) ∈ lw_all := lw_g (lw_at lw_m7 134 rfl) rfl
theorem q1756 : (Jvm.Cond.selects "AlgolMill$Checker" ({ cls := "AlgolMill$Checker", name := "isInside", desc := "(LAlgolMill$Routine;)Z" } : Jvm.MethodName) ({ cls := "AlgolMill$Checker", name := "isInside", desc := "(LAlgolMill$Routine;)Z" } : Jvm.MethodName)) ∈ lw_all := lw_g (lw_at lw_m7 135 rfl) rfl
theorem q1757 : (Jvm.Cond.code ({ cls := "AlgolMill$Checker", name := "isInside", desc := "(LAlgolMill$Routine;)Z" } : Jvm.MethodName) prog_7_method_8_code (3 : Nat) (Option.some Jvm.ClassFile.FieldType.boolean)) ∈ lw_all := lw_g (lw_at lw_m7 136 rfl) rfl
theorem q1777 : (Jvm.Cond.methodLink "AlgolMill$Checker" (49 : Nat) ({ cls := "AlgolMill$Checker", name := "leave", desc := "()V" } : Jvm.MethodName)) ∈ lw_all := lw_g (lw_at lw_m7 156 rfl) rfl
theorem q1778 : (Jvm.Cond.instanceMethod ({ cls := "AlgolMill$Checker", name := "leave", desc := "()V" } : Jvm.MethodName)) ∈ lw_all := lw_g (lw_at lw_m7 157 rfl) rfl
theorem q1779 : (Jvm.Cond.selects "AlgolMill$Checker" ({ cls := "AlgolMill$Checker", name := "leave", desc := "()V" } : Jvm.MethodName) ({ cls := "AlgolMill$Checker", name := "leave", desc := "()V" } : Jvm.MethodName)) ∈ lw_all := lw_g (lw_at lw_m7 158 rfl) rfl
theorem q1780 : (Jvm.Cond.code ({ cls := "AlgolMill$Checker", name := "leave", desc := "()V" } : Jvm.MethodName) prog_7_method_5_code (1 : Nat) (Option.none : Option Jvm.ClassFile.FieldType)) ∈ lw_all := lw_g (lw_at lw_m7 159 rfl) rfl
theorem in_X35 : ∀ w ∈ wsX350, w ∈ lw_all := lw_in wsX350 [1563, 1565, 1567] (by decide +kernel) (by decide +kernel)
/-! AlgolMill$Thunk -/
def RX36 : String := "AlgolMill$Thunk"
def TX36 : u_T := fun k => match k with
  | 0 => ("AlgolMill$Thunk", "expr", "LAlgolMill$Expr;", true)
  | 1 => ("AlgolMill$Thunk", "how", "I", true)
  | 2 => ("AlgolMill$Thunk", "home", "LAlgolMill$Routine;", true)
  | 3 => ("AlgolMill$Thunk", "target", "I", true)
  | _ => ("AlgolMill$Thunk", "place", "I", false)
def tyX36 : Nat → FieldType := fun k => match k with
  | 0 => .object "AlgolMill$Expr"
  | 1 => .int
  | 2 => .object "AlgolMill$Routine"
  | 3 => .int
  | _ => .int
abbrev wsX360 : List Cond := u_ws RX36 TX36 5
theorem nmX36 : ∀ a, a < 5 → ∀ b, b < 5 → a ≠ b → (TX36 a).2.1 ≠ (TX36 b).2.1 := by decide +kernel
theorem tyX36_ok : ∀ k, k < 5 → parseFieldDescriptor (TX36 k).2.2.1 = some (tyX36 k) := by decide +kernel
abbrev cX36_init : ByteArray := prog_35_method_1_code
def yX36_init : MethodName := ⟨RX36, "<init>", "(LAlgolMill$Expr;ILAlgolMill$Routine;I)V"⟩
theorem q230 : (Jvm.Cond.initialized "AlgolMill$Thunk") ∈ lw_all := lw_g (lw_at lw_m1 49 rfl) rfl
theorem q1950 : (Jvm.Cond.instantiable "AlgolMill$Thunk" (5 : Nat)) ∈ lw_all := lw_g (lw_at lw_m8 89 rfl) rfl
theorem q1952 : (Jvm.Cond.instanceMethod ({ cls := "AlgolMill$Thunk", name := "<init>", desc := "(LAlgolMill$Expr;ILAlgolMill$Routine;I)V" } : Jvm.MethodName)) ∈ lw_all := lw_g (lw_at lw_m8 91 rfl) rfl
theorem q1953 : (Jvm.Cond.code ({ cls := "AlgolMill$Thunk", name := "<init>", desc := "(LAlgolMill$Expr;ILAlgolMill$Routine;I)V" } : Jvm.MethodName) prog_35_method_1_code (5 : Nat) (Option.none : Option Jvm.ClassFile.FieldType)) ∈ lw_all := lw_g (lw_at lw_m8 92 rfl) rfl
theorem q1954 : (Jvm.Cond.methodLink "AlgolMill$Thunk" (1 : Nat) ({ cls := "java/lang/Object", name := "<init>", desc := "()V" } : Jvm.MethodName)) ∈ lw_all := lw_g (lw_at lw_m8 93 rfl) rfl
theorem q1955 : (Jvm.Cond.fieldLink "AlgolMill$Thunk" (7 : Nat) "AlgolMill$Thunk" "expr" "LAlgolMill$Expr;") ∈ lw_all := lw_g (lw_at lw_m8 94 rfl) rfl
theorem q1957 : (Jvm.Cond.fieldLink "AlgolMill$Thunk" (13 : Nat) "AlgolMill$Thunk" "how" "I") ∈ lw_all := lw_g (lw_at lw_m8 96 rfl) rfl
theorem q1959 : (Jvm.Cond.fieldLink "AlgolMill$Thunk" (17 : Nat) "AlgolMill$Thunk" "home" "LAlgolMill$Routine;") ∈ lw_all := lw_g (lw_at lw_m8 98 rfl) rfl
theorem q1961 : (Jvm.Cond.fieldLink "AlgolMill$Thunk" (21 : Nat) "AlgolMill$Thunk" "target" "I") ∈ lw_all := lw_g (lw_at lw_m8 100 rfl) rfl
theorem q1964 : (Jvm.Cond.laysFinal "AlgolMill$Thunk" "AlgolMill$Thunk" "expr" "LAlgolMill$Expr;") ∈ lw_all := lw_g (lw_at lw_m8 103 rfl) rfl
theorem q1965 : (Jvm.Cond.soleField "AlgolMill$Thunk" "expr") ∈ lw_all := lw_g (lw_at lw_m8 104 rfl) rfl
theorem q1966 : (Jvm.Cond.laysFinal "AlgolMill$Thunk" "AlgolMill$Thunk" "how" "I") ∈ lw_all := lw_g (lw_at lw_m8 105 rfl) rfl
theorem q1967 : (Jvm.Cond.soleField "AlgolMill$Thunk" "how") ∈ lw_all := lw_g (lw_at lw_m8 106 rfl) rfl
theorem q1968 : (Jvm.Cond.laysFinal "AlgolMill$Thunk" "AlgolMill$Thunk" "home" "LAlgolMill$Routine;") ∈ lw_all := lw_g (lw_at lw_m8 107 rfl) rfl
theorem q1969 : (Jvm.Cond.soleField "AlgolMill$Thunk" "home") ∈ lw_all := lw_g (lw_at lw_m8 108 rfl) rfl
theorem q1970 : (Jvm.Cond.laysFinal "AlgolMill$Thunk" "AlgolMill$Thunk" "target" "I") ∈ lw_all := lw_g (lw_at lw_m8 109 rfl) rfl
theorem q1971 : (Jvm.Cond.soleField "AlgolMill$Thunk" "target") ∈ lw_all := lw_g (lw_at lw_m8 110 rfl) rfl
theorem q1972 : (Jvm.Cond.lays "AlgolMill$Thunk" "AlgolMill$Thunk" "place" "I") ∈ lw_all := lw_g (lw_at lw_m8 111 rfl) rfl
theorem q1973 : (Jvm.Cond.soleField "AlgolMill$Thunk" "place") ∈ lw_all := lw_g (lw_at lw_m8 112 rfl) rfl
theorem q1974 : (Jvm.Cond.superclass "AlgolMill$Thunk" "java/lang/Object") ∈ lw_all := lw_g (lw_at lw_m8 113 rfl) rfl
theorem in_X36 : ∀ w ∈ wsX360, w ∈ lw_all := lw_in wsX360 [1964, 1966, 1968, 1970, 1972] (by decide +kernel) (by decide +kernel)
theorem q269 : (Jvm.Cond.arrayClass Jvm.ClassFile.FieldType.byte) ∈ lw_all := lw_g (lw_at lw_m1 88 rfl) rfl
theorem q270 : (Jvm.Cond.arrayClass Jvm.ClassFile.FieldType.int) ∈ lw_all := lw_g (lw_at lw_m1 89 rfl) rfl
theorem q287 : (Jvm.Cond.arrayClass Jvm.ClassFile.FieldType.long) ∈ lw_all := lw_g (lw_at lw_m1 106 rfl) rfl
theorem q433 : (Jvm.Cond.arrayOver (Jvm.ClassFile.FieldType.object "AlgolMill$Thunk")) ∈ lw_tbl := lw_at lw_m2 12 rfl
theorem q441 : (Jvm.Cond.arrayOver (Jvm.ClassFile.FieldType.object "AlgolMill$Thing")) ∈ lw_tbl := lw_at lw_m2 20 rfl
theorem q893 : (Jvm.Cond.arrayOver (Jvm.ClassFile.FieldType.object "AlgolMill$Statement")) ∈ lw_tbl := lw_at lw_m3 232 rfl
theorem q897 : (Jvm.Cond.arrayOver (Jvm.ClassFile.FieldType.object "AlgolMill$Rows")) ∈ lw_tbl := lw_at lw_m3 236 rfl
theorem q982 : (Jvm.Cond.arrayOver (Jvm.ClassFile.FieldType.object "AlgolMill$Expr")) ∈ lw_tbl := lw_at lw_m4 81 rfl
theorem q1455 : (Jvm.Cond.arrayOver (Jvm.ClassFile.FieldType.object "AlgolMill$Element")) ∈ lw_tbl := lw_at lw_m6 74 rfl
theorem q2394 : (Jvm.Cond.arrayOver (Jvm.ClassFile.FieldType.object "java/lang/String")) ∈ lw_tbl := lw_at lw_m10 53 rfl
theorem q2853 : (Jvm.Cond.arrayClass Jvm.ClassFile.FieldType.boolean) ∈ lw_all := lw_g (lw_at lw_m12 32 rfl) rfl
theorem q203 : (Jvm.Cond.initialized "java/lang/System") ∈ lw_all := lw_g (lw_at lw_m1 22 rfl) rfl
theorem q763 : (Jvm.Cond.static ({ cls := "java/lang/System", name := "arraycopy", desc := "(Ljava/lang/Object;ILjava/lang/Object;II)V" } : Jvm.MethodName)) ∈ lw_all := lw_g (lw_at lw_m3 102 rfl) rfl
theorem q764 : (Jvm.Cond.native ({ cls := "java/lang/System", name := "arraycopy", desc := "(Ljava/lang/Object;ILjava/lang/Object;II)V" } : Jvm.MethodName)) ∈ lw_all := lw_g (lw_at lw_m3 103 rfl) rfl
