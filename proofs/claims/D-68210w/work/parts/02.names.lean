/-! java/lang/Object -/
set_option maxRecDepth 100000
def RJ6 : String := "java/lang/Object"
abbrev cJ6_init : ByteArray := object_method_1_code
def yJ6_init : MethodName := ⟨RJ6, "<init>", "()V"⟩
theorem q393 : (Jvm.Cond.instanceMethod ({ cls := "java/lang/Object", name := "<init>", desc := "()V" } : Jvm.MethodName)) ∈ lw_all := lw_g (lw_at lw_m1 34 rfl) rfl
theorem q394 : (Jvm.Cond.code ({ cls := "java/lang/Object", name := "<init>", desc := "()V" } : Jvm.MethodName) object_method_1_code (1 : Nat) (Option.none : Option Jvm.ClassFile.FieldType)) ∈ lw_all := lw_g (lw_at lw_m1 35 rfl) rfl

/-! java/lang/Throwable -/
set_option maxRecDepth 100000
def RJ0 : String := "java/lang/Throwable"
def TJ0 : u_T := fun k => match k with
  | 0 => ("java/lang/Throwable", "cause", "Ljava/lang/Throwable;", false)
  | 1 => ("java/lang/Throwable", "stackTrace", "[Ljava/lang/StackTraceElement;", false)
  | 2 => ("java/lang/Throwable", "suppressedExceptions", "Ljava/util/List;", false)
  | 3 => ("java/lang/Throwable", "detailMessage", "Ljava/lang/String;", false)
  | _ => ("java/lang/Throwable", "backtrace", "Ljava/lang/Object;", false)
def tyJ0 : Nat → FieldType := fun k => match k with
  | 0 => .object "java/lang/Throwable"
  | 1 => .array (.object "java/lang/StackTraceElement")
  | 2 => .object "java/util/List"
  | 3 => .object "java/lang/String"
  | _ => .object "java/lang/Object"
abbrev wsJ00 : List Cond := u_ws RJ0 TJ0 5
theorem nmJ0 : ∀ a, a < 5 → ∀ b, b < 5 → a ≠ b → (TJ0 a).2.1 ≠ (TJ0 b).2.1 := by decide +kernel
theorem tyJ0_ok : ∀ k, k < 5 → parseFieldDescriptor (TJ0 k).2.2.1 = some (tyJ0 k) := by decide +kernel
abbrev cJ0_init : ByteArray := prog_29_method_1_code
def yJ0_init : MethodName := ⟨RJ0, "<init>", "()V"⟩
theorem q378 : (Jvm.Cond.initialized "java/lang/Throwable") ∈ lw_all := lw_g (lw_at lw_m1 19 rfl) rfl
theorem q1303 : (Jvm.Cond.declares ({ cls := "java/lang/Throwable", name := "<init>", desc := "()V" } : Jvm.MethodName)) ∈ lw_tbl := lw_at lw_m4 224 rfl
theorem q1304 : (Jvm.Cond.declares ({ cls := "java/lang/Throwable", name := "<init>", desc := "(Ljava/lang/String;)V" } : Jvm.MethodName)) ∈ lw_tbl := lw_at lw_m4 225 rfl
theorem q1308 : (Jvm.Cond.lays "java/lang/Throwable" "java/lang/Throwable" "cause" "Ljava/lang/Throwable;") ∈ lw_all := lw_g (lw_at lw_m4 229 rfl) rfl
theorem q1310 : (Jvm.Cond.lays "java/lang/Throwable" "java/lang/Throwable" "stackTrace" "[Ljava/lang/StackTraceElement;") ∈ lw_all := lw_g (lw_at lw_m4 231 rfl) rfl
theorem q1312 : (Jvm.Cond.lays "java/lang/Throwable" "java/lang/Throwable" "suppressedExceptions" "Ljava/util/List;") ∈ lw_all := lw_g (lw_at lw_m4 233 rfl) rfl
theorem q1314 : (Jvm.Cond.lays "java/lang/Throwable" "java/lang/Throwable" "detailMessage" "Ljava/lang/String;") ∈ lw_all := lw_g (lw_at lw_m4 235 rfl) rfl
theorem q1316 : (Jvm.Cond.lays "java/lang/Throwable" "java/lang/Throwable" "backtrace" "Ljava/lang/Object;") ∈ lw_all := lw_g (lw_at lw_m4 237 rfl) rfl
theorem q1317 : (Jvm.Cond.fieldLink "java/lang/Throwable" (198 : Nat) "java/lang/Throwable" "backtrace" "Ljava/lang/Object;") ∈ lw_all := lw_g (lw_at lw_m4 238 rfl) rfl
theorem q1318 : (Jvm.Cond.superclass "java/lang/Throwable" "java/lang/Object") ∈ lw_all := lw_g (lw_at lw_m4 239 rfl) rfl
theorem q1319 : (Jvm.Cond.instanceMethod ({ cls := "java/lang/Throwable", name := "<init>", desc := "()V" } : Jvm.MethodName)) ∈ lw_all := lw_g (lw_at lw_m5 0 rfl) rfl
theorem q1320 : (Jvm.Cond.code ({ cls := "java/lang/Throwable", name := "<init>", desc := "()V" } : Jvm.MethodName) prog_29_method_1_code (1 : Nat) (Option.none : Option Jvm.ClassFile.FieldType)) ∈ lw_all := lw_g (lw_at lw_m5 1 rfl) rfl
theorem q1321 : (Jvm.Cond.methodLink "java/lang/Throwable" (1 : Nat) ({ cls := "java/lang/Object", name := "<init>", desc := "()V" } : Jvm.MethodName)) ∈ lw_all := lw_g (lw_at lw_m5 2 rfl) rfl
theorem q1322 : (Jvm.Cond.fieldLink "java/lang/Throwable" (13 : Nat) "java/lang/Throwable" "UNASSIGNED_STACK" "[Ljava/lang/StackTraceElement;") ∈ lw_all := lw_g (lw_at lw_m5 3 rfl) rfl
theorem q1323 : (Jvm.Cond.laysStatic "java/lang/Throwable" "UNASSIGNED_STACK" "[Ljava/lang/StackTraceElement;") ∈ lw_tbl := lw_at lw_m5 4 rfl
theorem q1324 : (Jvm.Cond.fieldLink "java/lang/Throwable" (20 : Nat) "java/lang/Throwable" "SUPPRESSED_SENTINEL" "Ljava/util/List;") ∈ lw_all := lw_g (lw_at lw_m5 5 rfl) rfl
theorem q1325 : (Jvm.Cond.laysStatic "java/lang/Throwable" "SUPPRESSED_SENTINEL" "Ljava/util/List;") ∈ lw_tbl := lw_at lw_m5 6 rfl
theorem q1326 : (Jvm.Cond.methodLink "java/lang/Throwable" (27 : Nat) ({ cls := "java/lang/Throwable", name := "fillInStackTrace", desc := "()Ljava/lang/Throwable;" } : Jvm.MethodName)) ∈ lw_all := lw_g (lw_at lw_m5 7 rfl) rfl
theorem q1327 : (Jvm.Cond.instanceMethod ({ cls := "java/lang/Throwable", name := "fillInStackTrace", desc := "()Ljava/lang/Throwable;" } : Jvm.MethodName)) ∈ lw_all := lw_g (lw_at lw_m5 8 rfl) rfl
theorem q1328 : (Jvm.Cond.sameMethod "java/lang/Throwable" "java/lang/Throwable" "fillInStackTrace" "()Ljava/lang/Throwable;") ∈ lw_all := lw_g (lw_at lw_m5 9 rfl) rfl
theorem q1330 : (Jvm.Cond.codeSync ({ cls := "java/lang/Throwable", name := "fillInStackTrace", desc := "()Ljava/lang/Throwable;" } : Jvm.MethodName) prog_29_method_18_code (1 : Nat) (Option.some (Jvm.ClassFile.FieldType.object "java/lang/Throwable"))) ∈ lw_all := lw_g (lw_at lw_m5 11 rfl) rfl
theorem q1331 : (Jvm.Cond.methodLink "java/lang/Throwable" (202 : Nat) ({ cls := "java/lang/Throwable", name := "fillInStackTrace", desc := "(I)Ljava/lang/Throwable;" } : Jvm.MethodName)) ∈ lw_all := lw_g (lw_at lw_m5 12 rfl) rfl
theorem q1332 : (Jvm.Cond.privateMethod ({ cls := "java/lang/Throwable", name := "fillInStackTrace", desc := "(I)Ljava/lang/Throwable;" } : Jvm.MethodName)) ∈ lw_tbl := lw_at lw_m5 13 rfl
theorem q1333 : (Jvm.Cond.instanceMethod ({ cls := "java/lang/Throwable", name := "fillInStackTrace", desc := "(I)Ljava/lang/Throwable;" } : Jvm.MethodName)) ∈ lw_all := lw_g (lw_at lw_m5 14 rfl) rfl
theorem q1334 : (Jvm.Cond.instantiable "java/lang/Throwable" (6 : Nat)) ∈ lw_all := lw_g (lw_at lw_m5 15 rfl) rfl
theorem q1335 : (Jvm.Cond.native ({ cls := "java/lang/Throwable", name := "fillInStackTrace", desc := "(I)Ljava/lang/Throwable;" } : Jvm.MethodName)) ∈ lw_all := lw_g (lw_at lw_m5 16 rfl) rfl
theorem q1346 : (Jvm.Cond.fieldLink "java/lang/Throwable" (198 : Nat) "java/lang/Throwable" "backtrace" "Ljava/lang/Object;") ∈ lw_all := lw_g (lw_at lw_m5 27 rfl) rfl
theorem q1347 : (Jvm.Cond.fieldLink "java/lang/Throwable" (7 : Nat) "java/lang/Throwable" "cause" "Ljava/lang/Throwable;") ∈ lw_all := lw_g (lw_at lw_m5 28 rfl) rfl
theorem q1348 : (Jvm.Cond.fieldLink "java/lang/Throwable" (17 : Nat) "java/lang/Throwable" "stackTrace" "[Ljava/lang/StackTraceElement;") ∈ lw_all := lw_g (lw_at lw_m5 29 rfl) rfl
theorem q1349 : (Jvm.Cond.fieldLink "java/lang/Throwable" (24 : Nat) "java/lang/Throwable" "suppressedExceptions" "Ljava/util/List;") ∈ lw_all := lw_g (lw_at lw_m5 30 rfl) rfl
theorem q1350 : (Jvm.Cond.soleField "java/lang/Throwable" "backtrace") ∈ lw_all := lw_g (lw_at lw_m5 31 rfl) rfl
theorem q1351 : (Jvm.Cond.soleField "java/lang/Throwable" "detailMessage") ∈ lw_all := lw_g (lw_at lw_m5 32 rfl) rfl
theorem q1352 : (Jvm.Cond.soleField "java/lang/Throwable" "cause") ∈ lw_all := lw_g (lw_at lw_m5 33 rfl) rfl
theorem q1353 : (Jvm.Cond.soleField "java/lang/Throwable" "stackTrace") ∈ lw_all := lw_g (lw_at lw_m5 34 rfl) rfl
theorem q1355 : (Jvm.Cond.soleField "java/lang/Throwable" "depth") ∈ lw_all := lw_g (lw_at lw_m5 36 rfl) rfl
theorem q1356 : (Jvm.Cond.soleField "java/lang/Throwable" "suppressedExceptions") ∈ lw_all := lw_g (lw_at lw_m5 37 rfl) rfl
theorem q4413 : (Jvm.Cond.sameMethod "java/lang/Throwable" "java/lang/Throwable" "fillInStackTrace" "(I)Ljava/lang/Throwable;") ∈ lw_all := lw_g (lw_at lw_m17 214 rfl) rfl
theorem in_J0 : ∀ w ∈ wsJ00, w ∈ lw_all := lw_in wsJ00 [1308, 1310, 1312, 1314, 1316] (by decide +kernel) (by decide +kernel)

/-! java/lang/Exception -/
set_option maxRecDepth 100000
def RJ1 : String := "java/lang/Exception"
abbrev cJ1_init : ByteArray := prog_24_method_1_code
def yJ1_init : MethodName := ⟨RJ1, "<init>", "()V"⟩
theorem q379 : (Jvm.Cond.initialized "java/lang/Exception") ∈ lw_all := lw_g (lw_at lw_m1 20 rfl) rfl
theorem q1301 : (Jvm.Cond.declares ({ cls := "java/lang/Exception", name := "<init>", desc := "()V" } : Jvm.MethodName)) ∈ lw_tbl := lw_at lw_m4 222 rfl
theorem q1302 : (Jvm.Cond.declares ({ cls := "java/lang/Exception", name := "<init>", desc := "(Ljava/lang/String;)V" } : Jvm.MethodName)) ∈ lw_tbl := lw_at lw_m4 223 rfl
theorem q1343 : (Jvm.Cond.instanceMethod ({ cls := "java/lang/Exception", name := "<init>", desc := "()V" } : Jvm.MethodName)) ∈ lw_all := lw_g (lw_at lw_m5 24 rfl) rfl
theorem q1344 : (Jvm.Cond.code ({ cls := "java/lang/Exception", name := "<init>", desc := "()V" } : Jvm.MethodName) prog_24_method_1_code (1 : Nat) (Option.none : Option Jvm.ClassFile.FieldType)) ∈ lw_all := lw_g (lw_at lw_m5 25 rfl) rfl
theorem q1345 : (Jvm.Cond.methodLink "java/lang/Exception" (1 : Nat) ({ cls := "java/lang/Throwable", name := "<init>", desc := "()V" } : Jvm.MethodName)) ∈ lw_all := lw_g (lw_at lw_m5 26 rfl) rfl

/-! java/lang/RuntimeException -/
set_option maxRecDepth 100000
def RJ2 : String := "java/lang/RuntimeException"
abbrev cJ2_init : ByteArray := prog_28_method_1_code
def yJ2_init : MethodName := ⟨RJ2, "<init>", "()V"⟩
theorem q380 : (Jvm.Cond.initialized "java/lang/RuntimeException") ∈ lw_all := lw_g (lw_at lw_m1 21 rfl) rfl
theorem q1299 : (Jvm.Cond.declares ({ cls := "java/lang/RuntimeException", name := "<init>", desc := "()V" } : Jvm.MethodName)) ∈ lw_tbl := lw_at lw_m4 220 rfl
theorem q1300 : (Jvm.Cond.declares ({ cls := "java/lang/RuntimeException", name := "<init>", desc := "(Ljava/lang/String;)V" } : Jvm.MethodName)) ∈ lw_tbl := lw_at lw_m4 221 rfl
theorem q1340 : (Jvm.Cond.instanceMethod ({ cls := "java/lang/RuntimeException", name := "<init>", desc := "()V" } : Jvm.MethodName)) ∈ lw_all := lw_g (lw_at lw_m5 21 rfl) rfl
theorem q1341 : (Jvm.Cond.code ({ cls := "java/lang/RuntimeException", name := "<init>", desc := "()V" } : Jvm.MethodName) prog_28_method_1_code (1 : Nat) (Option.none : Option Jvm.ClassFile.FieldType)) ∈ lw_all := lw_g (lw_at lw_m5 22 rfl) rfl
theorem q1342 : (Jvm.Cond.methodLink "java/lang/RuntimeException" (1 : Nat) ({ cls := "java/lang/Exception", name := "<init>", desc := "()V" } : Jvm.MethodName)) ∈ lw_all := lw_g (lw_at lw_m5 23 rfl) rfl

/-! java/lang/Math -/
set_option maxRecDepth 100000
def RJ3 : String := "java/lang/Math"
abbrev cJ3_min : ByteArray := prog_27_method_69_code
def yJ3_min : MethodName := ⟨RJ3, "min", "(II)I"⟩
abbrev cJ3_min_2 : ByteArray := prog_27_method_70_code
def yJ3_min_2 : MethodName := ⟨RJ3, "min", "(JJ)J"⟩
theorem q383 : (Jvm.Cond.initialized "java/lang/Math") ∈ lw_all := lw_g (lw_at lw_m1 24 rfl) rfl
theorem q1265 : (Jvm.Cond.static ({ cls := "java/lang/Math", name := "min", desc := "(II)I" } : Jvm.MethodName)) ∈ lw_all := lw_g (lw_at lw_m4 186 rfl) rfl
theorem q1266 : (Jvm.Cond.code ({ cls := "java/lang/Math", name := "min", desc := "(II)I" } : Jvm.MethodName) prog_27_method_69_code (2 : Nat) (Option.some Jvm.ClassFile.FieldType.int)) ∈ lw_all := lw_g (lw_at lw_m4 187 rfl) rfl
theorem q2259 : (Jvm.Cond.static ({ cls := "java/lang/Math", name := "min", desc := "(JJ)J" } : Jvm.MethodName)) ∈ lw_all := lw_g (lw_at lw_m8 220 rfl) rfl
theorem q2260 : (Jvm.Cond.code ({ cls := "java/lang/Math", name := "min", desc := "(JJ)J" } : Jvm.MethodName) prog_27_method_70_code (4 : Nat) (Option.some Jvm.ClassFile.FieldType.long)) ∈ lw_all := lw_g (lw_at lw_m8 221 rfl) rfl

/-! java/lang/IllegalArgumentException -/
set_option maxRecDepth 100000
def RJ4 : String := "java/lang/IllegalArgumentException"
def TJ4 : u_T := fun k => match k with
  | 0 => ("java/lang/Throwable", "cause", "Ljava/lang/Throwable;", false)
  | 1 => ("java/lang/Throwable", "stackTrace", "[Ljava/lang/StackTraceElement;", false)
  | 2 => ("java/lang/Throwable", "suppressedExceptions", "Ljava/util/List;", false)
  | 3 => ("java/lang/Throwable", "detailMessage", "Ljava/lang/String;", false)
  | 4 => ("java/lang/Throwable", "backtrace", "Ljava/lang/Object;", false)
  | _ => ("java/lang/Throwable", "depth", "I", false)
def tyJ4 : Nat → FieldType := fun k => match k with
  | 0 => .object "java/lang/Throwable"
  | 1 => .array (.object "java/lang/StackTraceElement")
  | 2 => .object "java/util/List"
  | 3 => .object "java/lang/String"
  | 4 => .object "java/lang/Object"
  | _ => .int
abbrev wsJ40 : List Cond := u_ws RJ4 TJ4 6
theorem nmJ4 : ∀ a, a < 6 → ∀ b, b < 6 → a ≠ b → (TJ4 a).2.1 ≠ (TJ4 b).2.1 := by decide +kernel
theorem tyJ4_ok : ∀ k, k < 6 → parseFieldDescriptor (TJ4 k).2.2.1 = some (tyJ4 k) := by decide +kernel
abbrev cJ4_init : ByteArray := prog_25_method_1_code
def yJ4_init : MethodName := ⟨RJ4, "<init>", "()V"⟩
theorem q384 : (Jvm.Cond.initialized "java/lang/IllegalArgumentException") ∈ lw_all := lw_g (lw_at lw_m1 25 rfl) rfl
theorem q1297 : (Jvm.Cond.instantiable "java/lang/IllegalArgumentException" (6 : Nat)) ∈ lw_all := lw_g (lw_at lw_m4 218 rfl) rfl
theorem q1298 : (Jvm.Cond.castable "java/lang/IllegalArgumentException" "java/lang/IllegalArgumentException") ∈ lw_tbl := lw_at lw_m4 219 rfl
theorem q1305 : (Jvm.Cond.selects "java/lang/IllegalArgumentException" ({ cls := "java/lang/Throwable", name := "fillInStackTrace", desc := "(I)Ljava/lang/Throwable;" } : Jvm.MethodName) ({ cls := "java/lang/Throwable", name := "fillInStackTrace", desc := "(I)Ljava/lang/Throwable;" } : Jvm.MethodName)) ∈ lw_all := lw_g (lw_at lw_m4 226 rfl) rfl
theorem q1306 : (Jvm.Cond.selects "java/lang/IllegalArgumentException" ({ cls := "java/lang/Throwable", name := "fillInStackTrace", desc := "()Ljava/lang/Throwable;" } : Jvm.MethodName) ({ cls := "java/lang/Throwable", name := "fillInStackTrace", desc := "()Ljava/lang/Throwable;" } : Jvm.MethodName)) ∈ lw_all := lw_g (lw_at lw_m4 227 rfl) rfl
theorem q1307 : (Jvm.Cond.lays "java/lang/IllegalArgumentException" "java/lang/Throwable" "cause" "Ljava/lang/Throwable;") ∈ lw_all := lw_g (lw_at lw_m4 228 rfl) rfl
theorem q1309 : (Jvm.Cond.lays "java/lang/IllegalArgumentException" "java/lang/Throwable" "stackTrace" "[Ljava/lang/StackTraceElement;") ∈ lw_all := lw_g (lw_at lw_m4 230 rfl) rfl
theorem q1311 : (Jvm.Cond.lays "java/lang/IllegalArgumentException" "java/lang/Throwable" "suppressedExceptions" "Ljava/util/List;") ∈ lw_all := lw_g (lw_at lw_m4 232 rfl) rfl
theorem q1313 : (Jvm.Cond.lays "java/lang/IllegalArgumentException" "java/lang/Throwable" "detailMessage" "Ljava/lang/String;") ∈ lw_all := lw_g (lw_at lw_m4 234 rfl) rfl
theorem q1315 : (Jvm.Cond.lays "java/lang/IllegalArgumentException" "java/lang/Throwable" "backtrace" "Ljava/lang/Object;") ∈ lw_all := lw_g (lw_at lw_m4 236 rfl) rfl
theorem q1337 : (Jvm.Cond.instanceMethod ({ cls := "java/lang/IllegalArgumentException", name := "<init>", desc := "()V" } : Jvm.MethodName)) ∈ lw_all := lw_g (lw_at lw_m5 18 rfl) rfl
theorem q1338 : (Jvm.Cond.code ({ cls := "java/lang/IllegalArgumentException", name := "<init>", desc := "()V" } : Jvm.MethodName) prog_25_method_1_code (1 : Nat) (Option.none : Option Jvm.ClassFile.FieldType)) ∈ lw_all := lw_g (lw_at lw_m5 19 rfl) rfl
theorem q1339 : (Jvm.Cond.methodLink "java/lang/IllegalArgumentException" (1 : Nat) ({ cls := "java/lang/RuntimeException", name := "<init>", desc := "()V" } : Jvm.MethodName)) ∈ lw_all := lw_g (lw_at lw_m5 20 rfl) rfl
theorem q1354 : (Jvm.Cond.lays "java/lang/IllegalArgumentException" "java/lang/Throwable" "depth" "I") ∈ lw_all := lw_g (lw_at lw_m5 35 rfl) rfl
theorem q1357 : (Jvm.Cond.superclass "java/lang/IllegalArgumentException" "java/lang/RuntimeException") ∈ lw_all := lw_g (lw_at lw_m5 38 rfl) rfl
theorem in_J4 : ∀ w ∈ wsJ40, w ∈ lw_all := lw_in wsJ40 [1307, 1309, 1311, 1313, 1315, 1354] (by decide +kernel) (by decide +kernel)

/-! java/lang/Long -/
set_option maxRecDepth 100000
def RJ5 : String := "java/lang/Long"
abbrev cJ5_divideUnsigned : ByteArray := prog_26_method_44_code
def yJ5_divideUnsigned : MethodName := ⟨RJ5, "divideUnsigned", "(JJ)J"⟩
abbrev cJ5_remainderUnsigned : ByteArray := prog_26_method_45_code
def yJ5_remainderUnsigned : MethodName := ⟨RJ5, "remainderUnsigned", "(JJ)J"⟩
theorem q386 : (Jvm.Cond.initialized "java/lang/Long") ∈ lw_all := lw_g (lw_at lw_m1 27 rfl) rfl
theorem q4229 : (Jvm.Cond.static ({ cls := "java/lang/Long", name := "divideUnsigned", desc := "(JJ)J" } : Jvm.MethodName)) ∈ lw_all := lw_g (lw_at lw_m17 30 rfl) rfl
theorem q4230 : (Jvm.Cond.code ({ cls := "java/lang/Long", name := "divideUnsigned", desc := "(JJ)J" } : Jvm.MethodName) prog_26_method_44_code (8 : Nat) (Option.some Jvm.ClassFile.FieldType.long)) ∈ lw_all := lw_g (lw_at lw_m17 31 rfl) rfl
theorem q4231 : (Jvm.Cond.constantLong "java/lang/Long" (306 : Nat) (-1 : Int64)) ∈ lw_all := lw_g (lw_at lw_m17 32 rfl) rfl
theorem q4233 : (Jvm.Cond.static ({ cls := "java/lang/Long", name := "remainderUnsigned", desc := "(JJ)J" } : Jvm.MethodName)) ∈ lw_all := lw_g (lw_at lw_m17 34 rfl) rfl
theorem q4234 : (Jvm.Cond.code ({ cls := "java/lang/Long", name := "remainderUnsigned", desc := "(JJ)J" } : Jvm.MethodName) prog_26_method_45_code (8 : Nat) (Option.some Jvm.ClassFile.FieldType.long)) ∈ lw_all := lw_g (lw_at lw_m17 35 rfl) rfl

/-! ModuleEngine -/
set_option maxRecDepth 100000
def RX0 : String := "ModuleEngine"
def TX0 : u_T := fun k => match k with
  | 0 => ("ModuleEngine", "reader", "LModuleEngine$Bytes;", true)
  | 1 => ("ModuleEngine", "numbers", "LModuleEngine$Numbers;", true)
  | 2 => ("ModuleEngine", "flat", "LModuleEngine$Flat;", true)
  | 3 => ("ModuleEngine", "registers", "LModuleEngine$Registers;", true)
  | 4 => ("ModuleEngine", "loader", "LModuleEngine$Loader;", true)
  | 5 => ("ModuleEngine", "store", "LModuleEngine$Store;", true)
  | 6 => ("ModuleEngine", "runner", "LModuleEngine$Runner;", true)
  | 7 => ("ModuleEngine", "given", "[J", true)
  | 8 => ("ModuleEngine", "spare", "LModuleEngine$Module;", false)
  | 9 => ("ModuleEngine", "many", "I", false)
  | 10 => ("ModuleEngine", "fed", "I", false)
  | 11 => ("ModuleEngine", "fault", "I", false)
  | _ => ("ModuleEngine", "place", "I", false)
def tyX0 : Nat → FieldType := fun k => match k with
  | 0 => .object "ModuleEngine$Bytes"
  | 1 => .object "ModuleEngine$Numbers"
  | 2 => .object "ModuleEngine$Flat"
  | 3 => .object "ModuleEngine$Registers"
  | 4 => .object "ModuleEngine$Loader"
  | 5 => .object "ModuleEngine$Store"
  | 6 => .object "ModuleEngine$Runner"
  | 7 => .array .long
  | 8 => .object "ModuleEngine$Module"
  | 9 => .int
  | 10 => .int
  | 11 => .int
  | _ => .int
abbrev wsX00 : List Cond := u_ws RX0 TX0 13
set_option maxRecDepth 100000 in
theorem nmX0 : ∀ a, a < 13 → ∀ b, b < 13 → a ≠ b → (TX0 a).2.1 ≠ (TX0 b).2.1 := by decide +kernel
set_option maxRecDepth 100000 in
theorem tyX0_ok : ∀ k, k < 13 → parseFieldDescriptor (TX0 k).2.2.1 = some (tyX0 k) := by decide +kernel
abbrev cX0_init : ByteArray := prog_1_method_1_code
def yX0_init : MethodName := ⟨RX0, "<init>", "()V"⟩
abbrev cX0_feed : ByteArray := prog_1_method_2_code
def yX0_feed : MethodName := ⟨RX0, "feed", "(IIIII)I"⟩
abbrev cX0_module : ByteArray := prog_1_method_3_code
def yX0_module : MethodName := ⟨RX0, "module", "(I)I"⟩
abbrev cX0_fault : ByteArray := prog_1_method_4_code
def yX0_fault : MethodName := ⟨RX0, "fault", "(I)I"⟩
abbrev cX0_offer : ByteArray := prog_1_method_5_code
def yX0_offer : MethodName := ⟨RX0, "offer", "(II)I"⟩
abbrev cX0_make : ByteArray := prog_1_method_6_code
def yX0_make : MethodName := ⟨RX0, "make", "(I)I"⟩
abbrev cX0_argument : ByteArray := prog_1_method_7_code
def yX0_argument : MethodName := ⟨RX0, "argument", "(J)I"⟩
abbrev cX0_call : ByteArray := prog_1_method_10_code
def yX0_call : MethodName := ⟨RX0, "call", "(II)Z"⟩
abbrev cX0_takes : ByteArray := prog_1_method_9_code
def yX0_takes : MethodName := ⟨RX0, "takes", "(IZ)Z"⟩
abbrev cX0_isReference : ByteArray := prog_1_method_8_code
def yX0_isReference : MethodName := ⟨RX0, "isReference", "(JI)Z"⟩
abbrev cX0_run : ByteArray := prog_1_method_11_code
def yX0_run : MethodName := ⟨RX0, "run", "(I)I"⟩
abbrev cX0_give : ByteArray := prog_1_method_12_code
def yX0_give : MethodName := ⟨RX0, "give", "()Z"⟩
abbrev cX0_answer : ByteArray := prog_1_method_13_code
def yX0_answer : MethodName := ⟨RX0, "answer", "()Z"⟩
abbrev cX0_state : ByteArray := prog_1_method_14_code
def yX0_state : MethodName := ⟨RX0, "state", "(I)I"⟩
abbrev cX0_value : ByteArray := prog_1_method_15_code
def yX0_value : MethodName := ⟨RX0, "value", "(I)J"⟩
abbrev cX0_tier : ByteArray := prog_1_method_16_code
def yX0_tier : MethodName := ⟨RX0, "tier", "(I)I"⟩
abbrev cX0_export : ByteArray := prog_1_method_17_code
def yX0_export : MethodName := ⟨RX0, "export", "(III)I"⟩
abbrev cX0_memory : ByteArray := prog_1_method_20_code
def yX0_memory : MethodName := ⟨RX0, "memory", "(III)I"⟩
abbrev cX0_isByte : ByteArray := prog_1_method_19_code
def yX0_isByte : MethodName := ⟨RX0, "isByte", "(III)Z"⟩
abbrev cX0_wide : ByteArray := prog_1_method_18_code
def yX0_wide : MethodName := ⟨RX0, "wide", "(I)J"⟩
abbrev cX0_poke : ByteArray := prog_1_method_21_code
def yX0_poke : MethodName := ⟨RX0, "poke", "(IIII)Z"⟩
abbrev cX0_table : ByteArray := prog_1_method_22_code
def yX0_table : MethodName := ⟨RX0, "table", "(III)I"⟩
abbrev cX0_global : ByteArray := prog_1_method_23_code
def yX0_global : MethodName := ⟨RX0, "global", "(II)J"⟩
theorem q360 : (Jvm.Cond.initialized "ModuleEngine") ∈ lw_all := lw_g (lw_at lw_m1 1 rfl) rfl
theorem q388 : (Jvm.Cond.instantiable "ModuleEngine" (13 : Nat)) ∈ lw_all := lw_g (lw_at lw_m1 29 rfl) rfl
theorem q390 : (Jvm.Cond.instanceMethod ({ cls := "ModuleEngine", name := "<init>", desc := "()V" } : Jvm.MethodName)) ∈ lw_all := lw_g (lw_at lw_m1 31 rfl) rfl
theorem q391 : (Jvm.Cond.code ({ cls := "ModuleEngine", name := "<init>", desc := "()V" } : Jvm.MethodName) prog_1_method_1_code (1 : Nat) (Option.none : Option Jvm.ClassFile.FieldType)) ∈ lw_all := lw_g (lw_at lw_m1 32 rfl) rfl
theorem q392 : (Jvm.Cond.methodLink "ModuleEngine" (1 : Nat) ({ cls := "java/lang/Object", name := "<init>", desc := "()V" } : Jvm.MethodName)) ∈ lw_all := lw_g (lw_at lw_m1 33 rfl) rfl
theorem q395 : (Jvm.Cond.classLink "ModuleEngine" (7 : Nat) "ModuleEngine$Bytes") ∈ lw_all := lw_g (lw_at lw_m1 36 rfl) rfl
theorem q397 : (Jvm.Cond.constant "ModuleEngine" (11 : Nat) (40960 : Int32)) ∈ lw_all := lw_g (lw_at lw_m1 38 rfl) rfl
theorem q398 : (Jvm.Cond.methodLink "ModuleEngine" (12 : Nat) ({ cls := "ModuleEngine$Bytes", name := "<init>", desc := "(I)V" } : Jvm.MethodName)) ∈ lw_all := lw_g (lw_at lw_m1 39 rfl) rfl
theorem q540 : (Jvm.Cond.fieldLinkNest "ModuleEngine" (87 : Nat) "ModuleEngine$Bytes" "size" "I" "ModuleEngine") ∈ lw_tbl := lw_at lw_m1 181 rfl
theorem q542 : (Jvm.Cond.fieldLinkNest "ModuleEngine" (109 : Nat) "ModuleEngine$Bytes" "fault" "I" "ModuleEngine") ∈ lw_tbl := lw_at lw_m1 183 rfl
theorem q545 : (Jvm.Cond.fieldLinkNest "ModuleEngine" (112 : Nat) "ModuleEngine$Bytes" "place" "I" "ModuleEngine") ∈ lw_tbl := lw_at lw_m1 186 rfl
theorem q571 : (Jvm.Cond.classLink "ModuleEngine" (19 : Nat) "ModuleEngine$Numbers") ∈ lw_all := lw_g (lw_at lw_m1 212 rfl) rfl
theorem q573 : (Jvm.Cond.methodLinkNest "ModuleEngine" (21 : Nat) ({ cls := "ModuleEngine$Numbers", name := "<init>", desc := "()V" } : Jvm.MethodName) "ModuleEngine") ∈ lw_tbl := lw_at lw_m1 214 rfl
theorem q618 : (Jvm.Cond.classLink "ModuleEngine" (26 : Nat) "ModuleEngine$Flat") ∈ lw_all := lw_g (lw_at lw_m2 19 rfl) rfl
theorem q620 : (Jvm.Cond.methodLink "ModuleEngine" (28 : Nat) ({ cls := "ModuleEngine$Flat", name := "<init>", desc := "(LModuleEngine$Numbers;)V" } : Jvm.MethodName)) ∈ lw_all := lw_g (lw_at lw_m2 21 rfl) rfl
theorem q683 : (Jvm.Cond.classLink "ModuleEngine" (35 : Nat) "ModuleEngine$Registers") ∈ lw_all := lw_g (lw_at lw_m2 84 rfl) rfl
theorem q685 : (Jvm.Cond.methodLink "ModuleEngine" (37 : Nat) ({ cls := "ModuleEngine$Registers", name := "<init>", desc := "(LModuleEngine$Flat;LModuleEngine$Numbers;)V" } : Jvm.MethodName)) ∈ lw_all := lw_g (lw_at lw_m2 86 rfl) rfl
theorem q746 : (Jvm.Cond.classLink "ModuleEngine" (44 : Nat) "ModuleEngine$Loader") ∈ lw_all := lw_g (lw_at lw_m2 147 rfl) rfl
theorem q748 : (Jvm.Cond.methodLink "ModuleEngine" (46 : Nat) ({ cls := "ModuleEngine$Loader", name := "<init>", desc := "(LModuleEngine$Flat;)V" } : Jvm.MethodName)) ∈ lw_all := lw_g (lw_at lw_m2 149 rfl) rfl
theorem q942 : (Jvm.Cond.classLink "ModuleEngine" (53 : Nat) "ModuleEngine$Store") ∈ lw_all := lw_g (lw_at lw_m3 103 rfl) rfl
theorem q944 : (Jvm.Cond.methodLinkNest "ModuleEngine" (55 : Nat) ({ cls := "ModuleEngine$Store", name := "<init>", desc := "()V" } : Jvm.MethodName) "ModuleEngine") ∈ lw_tbl := lw_at lw_m3 105 rfl
theorem q1017 : (Jvm.Cond.fieldLinkNest "ModuleEngine" (90 : Nat) "ModuleEngine$Store" "moduleCount" "I" "ModuleEngine") ∈ lw_tbl := lw_at lw_m3 178 rfl
theorem q1028 : (Jvm.Cond.fieldLinkNest "ModuleEngine" (226 : Nat) "ModuleEngine$Store" "tables" "LModuleEngine$Tables;" "ModuleEngine") ∈ lw_tbl := lw_at lw_m3 189 rfl
theorem q1031 : (Jvm.Cond.fieldLinkNest "ModuleEngine" (217 : Nat) "ModuleEngine$Store" "pages" "LModuleEngine$Pages;" "ModuleEngine") ∈ lw_tbl := lw_at lw_m3 192 rfl
theorem q1036 : (Jvm.Cond.fieldLinkNest "ModuleEngine" (259 : Nat) "ModuleEngine$Store" "globalTypes" "LModuleEngine$Row;" "ModuleEngine") ∈ lw_tbl := lw_at lw_m3 197 rfl
theorem q1039 : (Jvm.Cond.fieldLinkNest "ModuleEngine" (287 : Nat) "ModuleEngine$Store" "globals" "[J" "ModuleEngine") ∈ lw_tbl := lw_at lw_m3 200 rfl
theorem q1054 : (Jvm.Cond.fieldLinkNest "ModuleEngine" (214 : Nat) "ModuleEngine$Store" "instanceCount" "I" "ModuleEngine") ∈ lw_tbl := lw_at lw_m3 215 rfl
theorem q1114 : (Jvm.Cond.classLink "ModuleEngine" (60 : Nat) "ModuleEngine$Runner") ∈ lw_all := lw_g (lw_at lw_m4 35 rfl) rfl
theorem q1116 : (Jvm.Cond.methodLink "ModuleEngine" (62 : Nat) ({ cls := "ModuleEngine$Runner", name := "<init>", desc := "(LModuleEngine$Flat;LModuleEngine$Registers;LModuleEngine$Numbers;LModuleEngine$Store;)V" } : Jvm.MethodName)) ∈ lw_all := lw_g (lw_at lw_m4 37 rfl) rfl
theorem q1125 : (Jvm.Cond.fieldLinkNest "ModuleEngine" (240 : Nat) "ModuleEngine$Runner" "values" "[J" "ModuleEngine") ∈ lw_tbl := lw_at lw_m4 46 rfl
theorem q1133 : (Jvm.Cond.fieldLinkNest "ModuleEngine" (233 : Nat) "ModuleEngine$Runner" "changes" "I" "ModuleEngine") ∈ lw_tbl := lw_at lw_m4 54 rfl
theorem q1135 : (Jvm.Cond.fieldLinkNest "ModuleEngine" (246 : Nat) "ModuleEngine$Runner" "tier" "I" "ModuleEngine") ∈ lw_tbl := lw_at lw_m4 56 rfl
theorem q1137 : (Jvm.Cond.fieldLinkNest "ModuleEngine" (211 : Nat) "ModuleEngine$Runner" "frames" "I" "ModuleEngine") ∈ lw_tbl := lw_at lw_m4 58 rfl
theorem q1143 : (Jvm.Cond.fieldLinkNest "ModuleEngine" (192 : Nat) "ModuleEngine$Runner" "state" "I" "ModuleEngine") ∈ lw_tbl := lw_at lw_m4 64 rfl
theorem q1145 : (Jvm.Cond.fieldLinkNest "ModuleEngine" (205 : Nat) "ModuleEngine$Runner" "trap" "I" "ModuleEngine") ∈ lw_tbl := lw_at lw_m4 66 rfl
theorem q1147 : (Jvm.Cond.fieldLinkNest "ModuleEngine" (208 : Nat) "ModuleEngine$Runner" "steps" "I" "ModuleEngine") ∈ lw_tbl := lw_at lw_m4 68 rfl
theorem q1149 : (Jvm.Cond.fieldLinkNest "ModuleEngine" (195 : Nat) "ModuleEngine$Runner" "host" "I" "ModuleEngine") ∈ lw_tbl := lw_at lw_m4 70 rfl
theorem q1151 : (Jvm.Cond.fieldLinkNest "ModuleEngine" (198 : Nat) "ModuleEngine$Runner" "hostFunction" "I" "ModuleEngine") ∈ lw_tbl := lw_at lw_m4 72 rfl
theorem q1153 : (Jvm.Cond.fieldLinkNest "ModuleEngine" (243 : Nat) "ModuleEngine$Runner" "hostFirst" "I" "ModuleEngine") ∈ lw_tbl := lw_at lw_m4 74 rfl
theorem q1155 : (Jvm.Cond.fieldLinkNest "ModuleEngine" (237 : Nat) "ModuleEngine$Runner" "results" "[J" "ModuleEngine") ∈ lw_tbl := lw_at lw_m4 76 rfl
theorem q1157 : (Jvm.Cond.fieldLinkNest "ModuleEngine" (236 : Nat) "ModuleEngine$Runner" "many" "I" "ModuleEngine") ∈ lw_tbl := lw_at lw_m4 78 rfl
theorem q1212 : (Jvm.Cond.fieldLink "ModuleEngine" (15 : Nat) "ModuleEngine" "reader" "LModuleEngine$Bytes;") ∈ lw_all := lw_g (lw_at lw_m4 133 rfl) rfl
theorem q1213 : (Jvm.Cond.fieldLink "ModuleEngine" (22 : Nat) "ModuleEngine" "numbers" "LModuleEngine$Numbers;") ∈ lw_all := lw_g (lw_at lw_m4 134 rfl) rfl
theorem q1214 : (Jvm.Cond.fieldLink "ModuleEngine" (31 : Nat) "ModuleEngine" "flat" "LModuleEngine$Flat;") ∈ lw_all := lw_g (lw_at lw_m4 135 rfl) rfl
theorem q1215 : (Jvm.Cond.fieldLink "ModuleEngine" (40 : Nat) "ModuleEngine" "registers" "LModuleEngine$Registers;") ∈ lw_all := lw_g (lw_at lw_m4 136 rfl) rfl
theorem q1216 : (Jvm.Cond.fieldLink "ModuleEngine" (49 : Nat) "ModuleEngine" "loader" "LModuleEngine$Loader;") ∈ lw_all := lw_g (lw_at lw_m4 137 rfl) rfl
theorem q1217 : (Jvm.Cond.fieldLink "ModuleEngine" (56 : Nat) "ModuleEngine" "store" "LModuleEngine$Store;") ∈ lw_all := lw_g (lw_at lw_m4 138 rfl) rfl
theorem q1218 : (Jvm.Cond.fieldLink "ModuleEngine" (65 : Nat) "ModuleEngine" "runner" "LModuleEngine$Runner;") ∈ lw_all := lw_g (lw_at lw_m4 139 rfl) rfl
theorem q1219 : (Jvm.Cond.fieldLink "ModuleEngine" (69 : Nat) "ModuleEngine" "given" "[J") ∈ lw_all := lw_g (lw_at lw_m4 140 rfl) rfl
theorem q1220 : (Jvm.Cond.fieldLink "ModuleEngine" (93 : Nat) "ModuleEngine" "spare" "LModuleEngine$Module;") ∈ lw_all := lw_g (lw_at lw_m4 141 rfl) rfl
theorem q1221 : (Jvm.Cond.fieldLink "ModuleEngine" (145 : Nat) "ModuleEngine" "many" "I") ∈ lw_all := lw_g (lw_at lw_m4 142 rfl) rfl
theorem q1222 : (Jvm.Cond.fieldLink "ModuleEngine" (80 : Nat) "ModuleEngine" "fed" "I") ∈ lw_all := lw_g (lw_at lw_m4 143 rfl) rfl
theorem q1223 : (Jvm.Cond.fieldLink "ModuleEngine" (73 : Nat) "ModuleEngine" "fault" "I") ∈ lw_all := lw_g (lw_at lw_m4 144 rfl) rfl
theorem q1224 : (Jvm.Cond.fieldLink "ModuleEngine" (77 : Nat) "ModuleEngine" "place" "I") ∈ lw_all := lw_g (lw_at lw_m4 145 rfl) rfl
theorem q1225 : (Jvm.Cond.laysFinal "ModuleEngine" "ModuleEngine" "reader" "LModuleEngine$Bytes;") ∈ lw_all := lw_g (lw_at lw_m4 146 rfl) rfl
theorem q1226 : (Jvm.Cond.soleField "ModuleEngine" "reader") ∈ lw_all := lw_g (lw_at lw_m4 147 rfl) rfl
theorem q1227 : (Jvm.Cond.laysFinal "ModuleEngine" "ModuleEngine" "numbers" "LModuleEngine$Numbers;") ∈ lw_all := lw_g (lw_at lw_m4 148 rfl) rfl
theorem q1228 : (Jvm.Cond.soleField "ModuleEngine" "numbers") ∈ lw_all := lw_g (lw_at lw_m4 149 rfl) rfl
theorem q1229 : (Jvm.Cond.laysFinal "ModuleEngine" "ModuleEngine" "flat" "LModuleEngine$Flat;") ∈ lw_all := lw_g (lw_at lw_m4 150 rfl) rfl
theorem q1230 : (Jvm.Cond.soleField "ModuleEngine" "flat") ∈ lw_all := lw_g (lw_at lw_m4 151 rfl) rfl
theorem q1231 : (Jvm.Cond.laysFinal "ModuleEngine" "ModuleEngine" "registers" "LModuleEngine$Registers;") ∈ lw_all := lw_g (lw_at lw_m4 152 rfl) rfl
theorem q1232 : (Jvm.Cond.soleField "ModuleEngine" "registers") ∈ lw_all := lw_g (lw_at lw_m4 153 rfl) rfl
theorem q1233 : (Jvm.Cond.laysFinal "ModuleEngine" "ModuleEngine" "loader" "LModuleEngine$Loader;") ∈ lw_all := lw_g (lw_at lw_m4 154 rfl) rfl
theorem q1234 : (Jvm.Cond.soleField "ModuleEngine" "loader") ∈ lw_all := lw_g (lw_at lw_m4 155 rfl) rfl
theorem q1235 : (Jvm.Cond.laysFinal "ModuleEngine" "ModuleEngine" "store" "LModuleEngine$Store;") ∈ lw_all := lw_g (lw_at lw_m4 156 rfl) rfl
theorem q1236 : (Jvm.Cond.soleField "ModuleEngine" "store") ∈ lw_all := lw_g (lw_at lw_m4 157 rfl) rfl
theorem q1237 : (Jvm.Cond.laysFinal "ModuleEngine" "ModuleEngine" "runner" "LModuleEngine$Runner;") ∈ lw_all := lw_g (lw_at lw_m4 158 rfl) rfl
theorem q1238 : (Jvm.Cond.soleField "ModuleEngine" "runner") ∈ lw_all := lw_g (lw_at lw_m4 159 rfl) rfl
theorem q1239 : (Jvm.Cond.laysFinal "ModuleEngine" "ModuleEngine" "given" "[J") ∈ lw_all := lw_g (lw_at lw_m4 160 rfl) rfl
theorem q1240 : (Jvm.Cond.soleField "ModuleEngine" "given") ∈ lw_all := lw_g (lw_at lw_m4 161 rfl) rfl
theorem q1241 : (Jvm.Cond.lays "ModuleEngine" "ModuleEngine" "spare" "LModuleEngine$Module;") ∈ lw_all := lw_g (lw_at lw_m4 162 rfl) rfl
theorem q1242 : (Jvm.Cond.soleField "ModuleEngine" "spare") ∈ lw_all := lw_g (lw_at lw_m4 163 rfl) rfl
theorem q1243 : (Jvm.Cond.lays "ModuleEngine" "ModuleEngine" "many" "I") ∈ lw_all := lw_g (lw_at lw_m4 164 rfl) rfl
theorem q1244 : (Jvm.Cond.soleField "ModuleEngine" "many") ∈ lw_all := lw_g (lw_at lw_m4 165 rfl) rfl
theorem q1245 : (Jvm.Cond.lays "ModuleEngine" "ModuleEngine" "fed" "I") ∈ lw_all := lw_g (lw_at lw_m4 166 rfl) rfl
theorem q1246 : (Jvm.Cond.soleField "ModuleEngine" "fed") ∈ lw_all := lw_g (lw_at lw_m4 167 rfl) rfl
theorem q1247 : (Jvm.Cond.lays "ModuleEngine" "ModuleEngine" "fault" "I") ∈ lw_all := lw_g (lw_at lw_m4 168 rfl) rfl
theorem q1248 : (Jvm.Cond.soleField "ModuleEngine" "fault") ∈ lw_all := lw_g (lw_at lw_m4 169 rfl) rfl
theorem q1249 : (Jvm.Cond.lays "ModuleEngine" "ModuleEngine" "place" "I") ∈ lw_all := lw_g (lw_at lw_m4 170 rfl) rfl
theorem q1250 : (Jvm.Cond.soleField "ModuleEngine" "place") ∈ lw_all := lw_g (lw_at lw_m4 171 rfl) rfl
theorem q1251 : (Jvm.Cond.superclass "ModuleEngine" "java/lang/Object") ∈ lw_all := lw_g (lw_at lw_m4 172 rfl) rfl
theorem q1253 : (Jvm.Cond.instanceMethod ({ cls := "ModuleEngine", name := "feed", desc := "(IIIII)I" } : Jvm.MethodName)) ∈ lw_all := lw_g (lw_at lw_m4 174 rfl) rfl
theorem q1254 : (Jvm.Cond.selects "ModuleEngine" ({ cls := "ModuleEngine", name := "feed", desc := "(IIIII)I" } : Jvm.MethodName) ({ cls := "ModuleEngine", name := "feed", desc := "(IIIII)I" } : Jvm.MethodName)) ∈ lw_all := lw_g (lw_at lw_m4 175 rfl) rfl
theorem q1255 : (Jvm.Cond.code ({ cls := "ModuleEngine", name := "feed", desc := "(IIIII)I" } : Jvm.MethodName) prog_1_method_2_code (6 : Nat) (Option.some Jvm.ClassFile.FieldType.int)) ∈ lw_all := lw_g (lw_at lw_m4 176 rfl) rfl
theorem q1256 : (Jvm.Cond.methodLink "ModuleEngine" (83 : Nat) ({ cls := "ModuleEngine$Bytes", name := "feed", desc := "(I)I" } : Jvm.MethodName)) ∈ lw_all := lw_g (lw_at lw_m4 177 rfl) rfl
theorem q1268 : (Jvm.Cond.instanceMethod ({ cls := "ModuleEngine", name := "module", desc := "(I)I" } : Jvm.MethodName)) ∈ lw_all := lw_g (lw_at lw_m4 189 rfl) rfl
theorem q1269 : (Jvm.Cond.selects "ModuleEngine" ({ cls := "ModuleEngine", name := "module", desc := "(I)I" } : Jvm.MethodName) ({ cls := "ModuleEngine", name := "module", desc := "(I)I" } : Jvm.MethodName)) ∈ lw_all := lw_g (lw_at lw_m4 190 rfl) rfl
theorem q1270 : (Jvm.Cond.code ({ cls := "ModuleEngine", name := "module", desc := "(I)I" } : Jvm.MethodName) prog_1_method_3_code (5 : Nat) (Option.some Jvm.ClassFile.FieldType.int)) ∈ lw_all := lw_g (lw_at lw_m4 191 rfl) rfl
theorem q1271 : (Jvm.Cond.methodLink "ModuleEngine" (97 : Nat) ({ cls := "ModuleEngine$Bytes", name := "read", desc := "(ILModuleEngine$Module;)LModuleEngine$Module;" } : Jvm.MethodName)) ∈ lw_all := lw_g (lw_at lw_m4 192 rfl) rfl
theorem q1526 : (Jvm.Cond.methodLink "ModuleEngine" (101 : Nat) ({ cls := "ModuleEngine$Flat", name := "many", desc := "()I" } : Jvm.MethodName)) ∈ lw_all := lw_g (lw_at lw_m5 207 rfl) rfl
theorem q1531 : (Jvm.Cond.methodLink "ModuleEngine" (105 : Nat) ({ cls := "ModuleEngine$Loader", name := "load", desc := "(LModuleEngine$Module;)Z" } : Jvm.MethodName)) ∈ lw_all := lw_g (lw_at lw_m5 212 rfl) rfl
theorem q2132 : (Jvm.Cond.methodLink "ModuleEngine" (110 : Nat) ({ cls := "ModuleEngine$Loader", name := "fault", desc := "()I" } : Jvm.MethodName)) ∈ lw_all := lw_g (lw_at lw_m8 93 rfl) rfl
theorem q2136 : (Jvm.Cond.methodLink "ModuleEngine" (113 : Nat) ({ cls := "ModuleEngine$Loader", name := "place", desc := "()I" } : Jvm.MethodName)) ∈ lw_all := lw_g (lw_at lw_m8 97 rfl) rfl
theorem q2140 : (Jvm.Cond.methodLink "ModuleEngine" (115 : Nat) ({ cls := "ModuleEngine$Store", name := "add", desc := "(LModuleEngine$Module;I)V" } : Jvm.MethodName)) ∈ lw_all := lw_g (lw_at lw_m8 101 rfl) rfl
theorem q2147 : (Jvm.Cond.instanceMethod ({ cls := "ModuleEngine", name := "fault", desc := "(I)I" } : Jvm.MethodName)) ∈ lw_all := lw_g (lw_at lw_m8 108 rfl) rfl
theorem q2148 : (Jvm.Cond.selects "ModuleEngine" ({ cls := "ModuleEngine", name := "fault", desc := "(I)I" } : Jvm.MethodName) ({ cls := "ModuleEngine", name := "fault", desc := "(I)I" } : Jvm.MethodName)) ∈ lw_all := lw_g (lw_at lw_m8 109 rfl) rfl
theorem q2149 : (Jvm.Cond.code ({ cls := "ModuleEngine", name := "fault", desc := "(I)I" } : Jvm.MethodName) prog_1_method_4_code (2 : Nat) (Option.some Jvm.ClassFile.FieldType.int)) ∈ lw_all := lw_g (lw_at lw_m8 110 rfl) rfl
theorem q2151 : (Jvm.Cond.instanceMethod ({ cls := "ModuleEngine", name := "offer", desc := "(II)I" } : Jvm.MethodName)) ∈ lw_all := lw_g (lw_at lw_m8 112 rfl) rfl
theorem q2152 : (Jvm.Cond.selects "ModuleEngine" ({ cls := "ModuleEngine", name := "offer", desc := "(II)I" } : Jvm.MethodName) ({ cls := "ModuleEngine", name := "offer", desc := "(II)I" } : Jvm.MethodName)) ∈ lw_all := lw_g (lw_at lw_m8 113 rfl) rfl
theorem q2153 : (Jvm.Cond.code ({ cls := "ModuleEngine", name := "offer", desc := "(II)I" } : Jvm.MethodName) prog_1_method_5_code (3 : Nat) (Option.some Jvm.ClassFile.FieldType.int)) ∈ lw_all := lw_g (lw_at lw_m8 114 rfl) rfl
theorem q2154 : (Jvm.Cond.methodLink "ModuleEngine" (119 : Nat) ({ cls := "ModuleEngine$Store", name := "offer", desc := "(II)I" } : Jvm.MethodName)) ∈ lw_all := lw_g (lw_at lw_m8 115 rfl) rfl
theorem q2182 : (Jvm.Cond.instanceMethod ({ cls := "ModuleEngine", name := "make", desc := "(I)I" } : Jvm.MethodName)) ∈ lw_all := lw_g (lw_at lw_m8 143 rfl) rfl
theorem q2183 : (Jvm.Cond.selects "ModuleEngine" ({ cls := "ModuleEngine", name := "make", desc := "(I)I" } : Jvm.MethodName) ({ cls := "ModuleEngine", name := "make", desc := "(I)I" } : Jvm.MethodName)) ∈ lw_all := lw_g (lw_at lw_m8 144 rfl) rfl
theorem q2184 : (Jvm.Cond.code ({ cls := "ModuleEngine", name := "make", desc := "(I)I" } : Jvm.MethodName) prog_1_method_6_code (5 : Nat) (Option.some Jvm.ClassFile.FieldType.int)) ∈ lw_all := lw_g (lw_at lw_m8 145 rfl) rfl
theorem q2185 : (Jvm.Cond.methodLink "ModuleEngine" (123 : Nat) ({ cls := "ModuleEngine$Runner", name := "isBusy", desc := "()Z" } : Jvm.MethodName)) ∈ lw_all := lw_g (lw_at lw_m8 146 rfl) rfl
theorem q2189 : (Jvm.Cond.methodLink "ModuleEngine" (127 : Nat) ({ cls := "ModuleEngine$Store", name := "make", desc := "(I)I" } : Jvm.MethodName)) ∈ lw_all := lw_g (lw_at lw_m8 150 rfl) rfl
theorem q2318 : (Jvm.Cond.methodLink "ModuleEngine" (130 : Nat) ({ cls := "ModuleEngine$Store", name := "begin", desc := "(I)I" } : Jvm.MethodName)) ∈ lw_all := lw_g (lw_at lw_m9 39 rfl) rfl
theorem q2355 : (Jvm.Cond.methodLink "ModuleEngine" (133 : Nat) ({ cls := "ModuleEngine$Store", name := "startOf", desc := "(I)I" } : Jvm.MethodName)) ∈ lw_all := lw_g (lw_at lw_m9 76 rfl) rfl
theorem q2359 : (Jvm.Cond.methodLink "ModuleEngine" (136 : Nat) ({ cls := "ModuleEngine$Runner", name := "clear", desc := "()V" } : Jvm.MethodName)) ∈ lw_all := lw_g (lw_at lw_m9 80 rfl) rfl
theorem q2363 : (Jvm.Cond.methodLink "ModuleEngine" (139 : Nat) ({ cls := "ModuleEngine$Runner", name := "stop", desc := "(I)V" } : Jvm.MethodName)) ∈ lw_all := lw_g (lw_at lw_m9 84 rfl) rfl
theorem q2367 : (Jvm.Cond.methodLink "ModuleEngine" (142 : Nat) ({ cls := "ModuleEngine$Runner", name := "begin", desc := "(I[J)V" } : Jvm.MethodName)) ∈ lw_all := lw_g (lw_at lw_m9 88 rfl) rfl
theorem q2875 : (Jvm.Cond.instanceMethod ({ cls := "ModuleEngine", name := "argument", desc := "(J)I" } : Jvm.MethodName)) ∈ lw_all := lw_g (lw_at lw_m11 116 rfl) rfl
theorem q2876 : (Jvm.Cond.selects "ModuleEngine" ({ cls := "ModuleEngine", name := "argument", desc := "(J)I" } : Jvm.MethodName) ({ cls := "ModuleEngine", name := "argument", desc := "(J)I" } : Jvm.MethodName)) ∈ lw_all := lw_g (lw_at lw_m11 117 rfl) rfl
theorem q2877 : (Jvm.Cond.code ({ cls := "ModuleEngine", name := "argument", desc := "(J)I" } : Jvm.MethodName) prog_1_method_7_code (3 : Nat) (Option.some Jvm.ClassFile.FieldType.int)) ∈ lw_all := lw_g (lw_at lw_m11 118 rfl) rfl
theorem q2879 : (Jvm.Cond.instanceMethod ({ cls := "ModuleEngine", name := "call", desc := "(II)Z" } : Jvm.MethodName)) ∈ lw_all := lw_g (lw_at lw_m11 120 rfl) rfl
theorem q2880 : (Jvm.Cond.selects "ModuleEngine" ({ cls := "ModuleEngine", name := "call", desc := "(II)Z" } : Jvm.MethodName) ({ cls := "ModuleEngine", name := "call", desc := "(II)Z" } : Jvm.MethodName)) ∈ lw_all := lw_g (lw_at lw_m11 121 rfl) rfl
theorem q2881 : (Jvm.Cond.code ({ cls := "ModuleEngine", name := "call", desc := "(II)Z" } : Jvm.MethodName) prog_1_method_10_code (4 : Nat) (Option.some Jvm.ClassFile.FieldType.boolean)) ∈ lw_all := lw_g (lw_at lw_m11 122 rfl) rfl
theorem q2882 : (Jvm.Cond.methodLink "ModuleEngine" (177 : Nat) ({ cls := "ModuleEngine$Store", name := "is", desc := "(III)Z" } : Jvm.MethodName)) ∈ lw_all := lw_g (lw_at lw_m11 123 rfl) rfl
theorem q2886 : (Jvm.Cond.methodLink "ModuleEngine" (181 : Nat) ({ cls := "ModuleEngine$Store", name := "exported", desc := "(II)I" } : Jvm.MethodName)) ∈ lw_all := lw_g (lw_at lw_m11 127 rfl) rfl
theorem q2887 : (Jvm.Cond.methodLink "ModuleEngine" (184 : Nat) ({ cls := "ModuleEngine", name := "takes", desc := "(IZ)Z" } : Jvm.MethodName)) ∈ lw_all := lw_g (lw_at lw_m11 128 rfl) rfl
theorem q2888 : (Jvm.Cond.privateMethod ({ cls := "ModuleEngine", name := "takes", desc := "(IZ)Z" } : Jvm.MethodName)) ∈ lw_tbl := lw_at lw_m11 129 rfl
theorem q2889 : (Jvm.Cond.instanceMethod ({ cls := "ModuleEngine", name := "takes", desc := "(IZ)Z" } : Jvm.MethodName)) ∈ lw_all := lw_g (lw_at lw_m11 130 rfl) rfl
theorem q2890 : (Jvm.Cond.code ({ cls := "ModuleEngine", name := "takes", desc := "(IZ)Z" } : Jvm.MethodName) prog_1_method_9_code (6 : Nat) (Option.some Jvm.ClassFile.FieldType.boolean)) ∈ lw_all := lw_g (lw_at lw_m11 131 rfl) rfl
theorem q2891 : (Jvm.Cond.methodLink "ModuleEngine" (156 : Nat) ({ cls := "ModuleEngine$Store", name := "resultsOf", desc := "(I)I" } : Jvm.MethodName)) ∈ lw_all := lw_g (lw_at lw_m11 132 rfl) rfl
theorem q2895 : (Jvm.Cond.methodLink "ModuleEngine" (159 : Nat) ({ cls := "ModuleEngine$Store", name := "parametersOf", desc := "(I)I" } : Jvm.MethodName)) ∈ lw_all := lw_g (lw_at lw_m11 136 rfl) rfl
theorem q2896 : (Jvm.Cond.methodLink "ModuleEngine" (162 : Nat) ({ cls := "ModuleEngine$Store", name := "resultOf", desc := "(II)I" } : Jvm.MethodName)) ∈ lw_all := lw_g (lw_at lw_m11 137 rfl) rfl
theorem q2900 : (Jvm.Cond.methodLink "ModuleEngine" (165 : Nat) ({ cls := "ModuleEngine$Store", name := "parameterOf", desc := "(II)I" } : Jvm.MethodName)) ∈ lw_all := lw_g (lw_at lw_m11 141 rfl) rfl
theorem q2904 : (Jvm.Cond.methodLink "ModuleEngine" (168 : Nat) ({ cls := "ModuleEngine$Checker", name := "isReference", desc := "(I)Z" } : Jvm.MethodName)) ∈ lw_all := lw_g (lw_at lw_m11 145 rfl) rfl
theorem q2905 : (Jvm.Cond.methodLink "ModuleEngine" (172 : Nat) ({ cls := "ModuleEngine", name := "isReference", desc := "(JI)Z" } : Jvm.MethodName)) ∈ lw_all := lw_g (lw_at lw_m11 146 rfl) rfl
theorem q2906 : (Jvm.Cond.privateMethod ({ cls := "ModuleEngine", name := "isReference", desc := "(JI)Z" } : Jvm.MethodName)) ∈ lw_tbl := lw_at lw_m11 147 rfl
theorem q2907 : (Jvm.Cond.instanceMethod ({ cls := "ModuleEngine", name := "isReference", desc := "(JI)Z" } : Jvm.MethodName)) ∈ lw_all := lw_g (lw_at lw_m11 148 rfl) rfl
theorem q2908 : (Jvm.Cond.code ({ cls := "ModuleEngine", name := "isReference", desc := "(JI)Z" } : Jvm.MethodName) prog_1_method_8_code (4 : Nat) (Option.some Jvm.ClassFile.FieldType.boolean)) ∈ lw_all := lw_g (lw_at lw_m11 149 rfl) rfl
theorem q2909 : (Jvm.Cond.constantLong "ModuleEngine" (147 : Nat) (-1 : Int64)) ∈ lw_all := lw_g (lw_at lw_m11 150 rfl) rfl
theorem q2910 : (Jvm.Cond.constantLong "ModuleEngine" (149 : Nat) (2147483647 : Int64)) ∈ lw_all := lw_g (lw_at lw_m11 151 rfl) rfl
theorem q2911 : (Jvm.Cond.methodLink "ModuleEngine" (153 : Nat) ({ cls := "ModuleEngine$Store", name := "functionCount", desc := "()I" } : Jvm.MethodName)) ∈ lw_all := lw_g (lw_at lw_m11 152 rfl) rfl
theorem q2912 : (Jvm.Cond.constantLong "ModuleEngine" (175 : Nat) (4294967295 : Int64)) ∈ lw_all := lw_g (lw_at lw_m11 153 rfl) rfl
theorem q2914 : (Jvm.Cond.instanceMethod ({ cls := "ModuleEngine", name := "run", desc := "(I)I" } : Jvm.MethodName)) ∈ lw_all := lw_g (lw_at lw_m11 155 rfl) rfl
theorem q2915 : (Jvm.Cond.selects "ModuleEngine" ({ cls := "ModuleEngine", name := "run", desc := "(I)I" } : Jvm.MethodName) ({ cls := "ModuleEngine", name := "run", desc := "(I)I" } : Jvm.MethodName)) ∈ lw_all := lw_g (lw_at lw_m11 156 rfl) rfl
theorem q2916 : (Jvm.Cond.code ({ cls := "ModuleEngine", name := "run", desc := "(I)I" } : Jvm.MethodName) prog_1_method_11_code (2 : Nat) (Option.some Jvm.ClassFile.FieldType.int)) ∈ lw_all := lw_g (lw_at lw_m11 157 rfl) rfl
theorem q2917 : (Jvm.Cond.constant "ModuleEngine" (188 : Nat) (100000 : Int32)) ∈ lw_all := lw_g (lw_at lw_m11 158 rfl) rfl
theorem q2918 : (Jvm.Cond.methodLink "ModuleEngine" (189 : Nat) ({ cls := "ModuleEngine$Runner", name := "run", desc := "(I)I" } : Jvm.MethodName)) ∈ lw_all := lw_g (lw_at lw_m11 159 rfl) rfl
theorem q2923 : (Jvm.Cond.instanceMethod ({ cls := "ModuleEngine", name := "give", desc := "()Z" } : Jvm.MethodName)) ∈ lw_all := lw_g (lw_at lw_m11 164 rfl) rfl
theorem q2924 : (Jvm.Cond.selects "ModuleEngine" ({ cls := "ModuleEngine", name := "give", desc := "()Z" } : Jvm.MethodName) ({ cls := "ModuleEngine", name := "give", desc := "()Z" } : Jvm.MethodName)) ∈ lw_all := lw_g (lw_at lw_m11 165 rfl) rfl
theorem q2925 : (Jvm.Cond.code ({ cls := "ModuleEngine", name := "give", desc := "()Z" } : Jvm.MethodName) prog_1_method_12_code (1 : Nat) (Option.some Jvm.ClassFile.FieldType.boolean)) ∈ lw_all := lw_g (lw_at lw_m11 166 rfl) rfl
theorem q2927 : (Jvm.Cond.instanceMethod ({ cls := "ModuleEngine", name := "answer", desc := "()Z" } : Jvm.MethodName)) ∈ lw_all := lw_g (lw_at lw_m11 168 rfl) rfl
theorem q2928 : (Jvm.Cond.selects "ModuleEngine" ({ cls := "ModuleEngine", name := "answer", desc := "()Z" } : Jvm.MethodName) ({ cls := "ModuleEngine", name := "answer", desc := "()Z" } : Jvm.MethodName)) ∈ lw_all := lw_g (lw_at lw_m11 169 rfl) rfl
theorem q2929 : (Jvm.Cond.code ({ cls := "ModuleEngine", name := "answer", desc := "()Z" } : Jvm.MethodName) prog_1_method_13_code (1 : Nat) (Option.some Jvm.ClassFile.FieldType.boolean)) ∈ lw_all := lw_g (lw_at lw_m11 170 rfl) rfl
theorem q2930 : (Jvm.Cond.methodLink "ModuleEngine" (201 : Nat) ({ cls := "ModuleEngine$Runner", name := "answer", desc := "([J)V" } : Jvm.MethodName)) ∈ lw_all := lw_g (lw_at lw_m11 171 rfl) rfl
theorem q2936 : (Jvm.Cond.instanceMethod ({ cls := "ModuleEngine", name := "state", desc := "(I)I" } : Jvm.MethodName)) ∈ lw_all := lw_g (lw_at lw_m11 177 rfl) rfl
theorem q2937 : (Jvm.Cond.selects "ModuleEngine" ({ cls := "ModuleEngine", name := "state", desc := "(I)I" } : Jvm.MethodName) ({ cls := "ModuleEngine", name := "state", desc := "(I)I" } : Jvm.MethodName)) ∈ lw_all := lw_g (lw_at lw_m11 178 rfl) rfl
theorem q2938 : (Jvm.Cond.code ({ cls := "ModuleEngine", name := "state", desc := "(I)I" } : Jvm.MethodName) prog_1_method_14_code (2 : Nat) (Option.some Jvm.ClassFile.FieldType.int)) ∈ lw_all := lw_g (lw_at lw_m11 179 rfl) rfl
theorem q2939 : (Jvm.Cond.methodLink "ModuleEngine" (221 : Nat) ({ cls := "ModuleEngine$Pages", name := "left", desc := "()I" } : Jvm.MethodName)) ∈ lw_all := lw_g (lw_at lw_m11 180 rfl) rfl
theorem q2940 : (Jvm.Cond.methodLink "ModuleEngine" (230 : Nat) ({ cls := "ModuleEngine$Tables", name := "left", desc := "()I" } : Jvm.MethodName)) ∈ lw_all := lw_g (lw_at lw_m11 181 rfl) rfl
theorem q2942 : (Jvm.Cond.instanceMethod ({ cls := "ModuleEngine", name := "value", desc := "(I)J" } : Jvm.MethodName)) ∈ lw_all := lw_g (lw_at lw_m11 183 rfl) rfl
theorem q2943 : (Jvm.Cond.selects "ModuleEngine" ({ cls := "ModuleEngine", name := "value", desc := "(I)J" } : Jvm.MethodName) ({ cls := "ModuleEngine", name := "value", desc := "(I)J" } : Jvm.MethodName)) ∈ lw_all := lw_g (lw_at lw_m11 184 rfl) rfl
theorem q2944 : (Jvm.Cond.code ({ cls := "ModuleEngine", name := "value", desc := "(I)J" } : Jvm.MethodName) prog_1_method_15_code (2 : Nat) (Option.some Jvm.ClassFile.FieldType.long)) ∈ lw_all := lw_g (lw_at lw_m11 185 rfl) rfl
theorem q2946 : (Jvm.Cond.instanceMethod ({ cls := "ModuleEngine", name := "tier", desc := "(I)I" } : Jvm.MethodName)) ∈ lw_all := lw_g (lw_at lw_m11 187 rfl) rfl
theorem q2947 : (Jvm.Cond.selects "ModuleEngine" ({ cls := "ModuleEngine", name := "tier", desc := "(I)I" } : Jvm.MethodName) ({ cls := "ModuleEngine", name := "tier", desc := "(I)I" } : Jvm.MethodName)) ∈ lw_all := lw_g (lw_at lw_m11 188 rfl) rfl
theorem q2948 : (Jvm.Cond.code ({ cls := "ModuleEngine", name := "tier", desc := "(I)I" } : Jvm.MethodName) prog_1_method_16_code (3 : Nat) (Option.some Jvm.ClassFile.FieldType.int)) ∈ lw_all := lw_g (lw_at lw_m11 189 rfl) rfl
theorem q2950 : (Jvm.Cond.instanceMethod ({ cls := "ModuleEngine", name := "export", desc := "(III)I" } : Jvm.MethodName)) ∈ lw_all := lw_g (lw_at lw_m11 191 rfl) rfl
theorem q2951 : (Jvm.Cond.selects "ModuleEngine" ({ cls := "ModuleEngine", name := "export", desc := "(III)I" } : Jvm.MethodName) ({ cls := "ModuleEngine", name := "export", desc := "(III)I" } : Jvm.MethodName)) ∈ lw_all := lw_g (lw_at lw_m11 192 rfl) rfl
theorem q2952 : (Jvm.Cond.code ({ cls := "ModuleEngine", name := "export", desc := "(III)I" } : Jvm.MethodName) prog_1_method_17_code (6 : Nat) (Option.some Jvm.ClassFile.FieldType.int)) ∈ lw_all := lw_g (lw_at lw_m11 193 rfl) rfl
theorem q2953 : (Jvm.Cond.methodLink "ModuleEngine" (249 : Nat) ({ cls := "ModuleEngine$Store", name := "isExport", desc := "(II)Z" } : Jvm.MethodName)) ∈ lw_all := lw_g (lw_at lw_m11 194 rfl) rfl
theorem q2954 : (Jvm.Cond.methodLink "ModuleEngine" (253 : Nat) ({ cls := "ModuleEngine$Store", name := "exportKind", desc := "(II)I" } : Jvm.MethodName)) ∈ lw_all := lw_g (lw_at lw_m11 195 rfl) rfl
theorem q2955 : (Jvm.Cond.methodLink "ModuleEngine" (256 : Nat) ({ cls := "ModuleEngine$Tables", name := "size", desc := "(I)I" } : Jvm.MethodName)) ∈ lw_all := lw_g (lw_at lw_m11 196 rfl) rfl
theorem q2956 : (Jvm.Cond.methodLink "ModuleEngine" (258 : Nat) ({ cls := "ModuleEngine$Pages", name := "size", desc := "(I)I" } : Jvm.MethodName)) ∈ lw_all := lw_g (lw_at lw_m11 197 rfl) rfl
theorem q2957 : (Jvm.Cond.methodLink "ModuleEngine" (263 : Nat) ({ cls := "ModuleEngine$Row", name := "at", desc := "(I)I" } : Jvm.MethodName)) ∈ lw_all := lw_g (lw_at lw_m11 198 rfl) rfl
theorem q2959 : (Jvm.Cond.instanceMethod ({ cls := "ModuleEngine", name := "memory", desc := "(III)I" } : Jvm.MethodName)) ∈ lw_all := lw_g (lw_at lw_m11 200 rfl) rfl
theorem q2960 : (Jvm.Cond.selects "ModuleEngine" ({ cls := "ModuleEngine", name := "memory", desc := "(III)I" } : Jvm.MethodName) ({ cls := "ModuleEngine", name := "memory", desc := "(III)I" } : Jvm.MethodName)) ∈ lw_all := lw_g (lw_at lw_m11 201 rfl) rfl
theorem q2961 : (Jvm.Cond.code ({ cls := "ModuleEngine", name := "memory", desc := "(III)I" } : Jvm.MethodName) prog_1_method_20_code (4 : Nat) (Option.some Jvm.ClassFile.FieldType.int)) ∈ lw_all := lw_g (lw_at lw_m11 202 rfl) rfl
theorem q2962 : (Jvm.Cond.methodLink "ModuleEngine" (275 : Nat) ({ cls := "ModuleEngine", name := "isByte", desc := "(III)Z" } : Jvm.MethodName)) ∈ lw_all := lw_g (lw_at lw_m11 203 rfl) rfl
theorem q2963 : (Jvm.Cond.privateMethod ({ cls := "ModuleEngine", name := "isByte", desc := "(III)Z" } : Jvm.MethodName)) ∈ lw_tbl := lw_at lw_m11 204 rfl
theorem q2964 : (Jvm.Cond.instanceMethod ({ cls := "ModuleEngine", name := "isByte", desc := "(III)Z" } : Jvm.MethodName)) ∈ lw_all := lw_g (lw_at lw_m11 205 rfl) rfl
theorem q2965 : (Jvm.Cond.code ({ cls := "ModuleEngine", name := "isByte", desc := "(III)Z" } : Jvm.MethodName) prog_1_method_19_code (4 : Nat) (Option.some Jvm.ClassFile.FieldType.boolean)) ∈ lw_all := lw_g (lw_at lw_m11 206 rfl) rfl
theorem q2966 : (Jvm.Cond.methodLink "ModuleEngine" (268 : Nat) ({ cls := "ModuleEngine", name := "wide", desc := "(I)J" } : Jvm.MethodName)) ∈ lw_all := lw_g (lw_at lw_m11 207 rfl) rfl
theorem q2967 : (Jvm.Cond.static ({ cls := "ModuleEngine", name := "wide", desc := "(I)J" } : Jvm.MethodName)) ∈ lw_all := lw_g (lw_at lw_m11 208 rfl) rfl
theorem q2968 : (Jvm.Cond.code ({ cls := "ModuleEngine", name := "wide", desc := "(I)J" } : Jvm.MethodName) prog_1_method_18_code (1 : Nat) (Option.some Jvm.ClassFile.FieldType.long)) ∈ lw_all := lw_g (lw_at lw_m11 209 rfl) rfl
theorem q2969 : (Jvm.Cond.methodLink "ModuleEngine" (272 : Nat) ({ cls := "ModuleEngine$Pages", name := "end", desc := "(I)J" } : Jvm.MethodName)) ∈ lw_all := lw_g (lw_at lw_m11 210 rfl) rfl
theorem q2970 : (Jvm.Cond.methodLink "ModuleEngine" (278 : Nat) ({ cls := "ModuleEngine$Pages", name := "get", desc := "(IJ)I" } : Jvm.MethodName)) ∈ lw_all := lw_g (lw_at lw_m11 211 rfl) rfl
theorem q2972 : (Jvm.Cond.instanceMethod ({ cls := "ModuleEngine", name := "poke", desc := "(IIII)Z" } : Jvm.MethodName)) ∈ lw_all := lw_g (lw_at lw_m11 213 rfl) rfl
theorem q2973 : (Jvm.Cond.selects "ModuleEngine" ({ cls := "ModuleEngine", name := "poke", desc := "(IIII)Z" } : Jvm.MethodName) ({ cls := "ModuleEngine", name := "poke", desc := "(IIII)Z" } : Jvm.MethodName)) ∈ lw_all := lw_g (lw_at lw_m11 214 rfl) rfl
theorem q2974 : (Jvm.Cond.code ({ cls := "ModuleEngine", name := "poke", desc := "(IIII)Z" } : Jvm.MethodName) prog_1_method_21_code (5 : Nat) (Option.some Jvm.ClassFile.FieldType.boolean)) ∈ lw_all := lw_g (lw_at lw_m11 215 rfl) rfl
theorem q2975 : (Jvm.Cond.methodLink "ModuleEngine" (282 : Nat) ({ cls := "ModuleEngine$Pages", name := "put", desc := "(IJI)V" } : Jvm.MethodName)) ∈ lw_all := lw_g (lw_at lw_m11 216 rfl) rfl
theorem q2977 : (Jvm.Cond.instanceMethod ({ cls := "ModuleEngine", name := "table", desc := "(III)I" } : Jvm.MethodName)) ∈ lw_all := lw_g (lw_at lw_m11 218 rfl) rfl
theorem q2978 : (Jvm.Cond.selects "ModuleEngine" ({ cls := "ModuleEngine", name := "table", desc := "(III)I" } : Jvm.MethodName) ({ cls := "ModuleEngine", name := "table", desc := "(III)I" } : Jvm.MethodName)) ∈ lw_all := lw_g (lw_at lw_m11 219 rfl) rfl
theorem q2979 : (Jvm.Cond.code ({ cls := "ModuleEngine", name := "table", desc := "(III)I" } : Jvm.MethodName) prog_1_method_22_code (4 : Nat) (Option.some Jvm.ClassFile.FieldType.int)) ∈ lw_all := lw_g (lw_at lw_m11 220 rfl) rfl
theorem q2980 : (Jvm.Cond.methodLink "ModuleEngine" (286 : Nat) ({ cls := "ModuleEngine$Tables", name := "get", desc := "(IJ)I" } : Jvm.MethodName)) ∈ lw_all := lw_g (lw_at lw_m11 221 rfl) rfl
theorem q2982 : (Jvm.Cond.instanceMethod ({ cls := "ModuleEngine", name := "global", desc := "(II)J" } : Jvm.MethodName)) ∈ lw_all := lw_g (lw_at lw_m11 223 rfl) rfl
theorem q2983 : (Jvm.Cond.selects "ModuleEngine" ({ cls := "ModuleEngine", name := "global", desc := "(II)J" } : Jvm.MethodName) ({ cls := "ModuleEngine", name := "global", desc := "(II)J" } : Jvm.MethodName)) ∈ lw_all := lw_g (lw_at lw_m11 224 rfl) rfl
theorem q2984 : (Jvm.Cond.code ({ cls := "ModuleEngine", name := "global", desc := "(II)J" } : Jvm.MethodName) prog_1_method_23_code (3 : Nat) (Option.some Jvm.ClassFile.FieldType.long)) ∈ lw_all := lw_g (lw_at lw_m11 225 rfl) rfl
theorem in_X0 : ∀ w ∈ wsX00, w ∈ lw_all := lw_in wsX00 [1225, 1227, 1229, 1231, 1233, 1235, 1237, 1239, 1241, 1243, 1245, 1247, 1249] (by decide +kernel) (by decide +kernel)

/-! ModuleEngine$Bytes -/
set_option maxRecDepth 100000
def RX1 : String := "ModuleEngine$Bytes"
def TX1 : u_T := fun k => match k with
  | 0 => ("ModuleEngine$Bytes", "bytes", "[B", false)
  | 1 => ("ModuleEngine$Bytes", "room", "I", true)
  | 2 => ("ModuleEngine$Bytes", "size", "I", false)
  | 3 => ("ModuleEngine$Bytes", "module", "LModuleEngine$Module;", false)
  | 4 => ("ModuleEngine$Bytes", "fault", "I", false)
  | 5 => ("ModuleEngine$Bytes", "place", "I", false)
  | 6 => ("ModuleEngine$Bytes", "at", "I", false)
  | 7 => ("ModuleEngine$Bytes", "end", "I", false)
  | 8 => ("ModuleEngine$Bytes", "blocks", "LModuleEngine$Row;", true)
  | _ => ("ModuleEngine$Bytes", "held", "LModuleEngine$Row;", true)
def tyX1 : Nat → FieldType := fun k => match k with
  | 0 => .array .byte
  | 1 => .int
  | 2 => .int
  | 3 => .object "ModuleEngine$Module"
  | 4 => .int
  | 5 => .int
  | 6 => .int
  | 7 => .int
  | 8 => .object "ModuleEngine$Row"
  | _ => .object "ModuleEngine$Row"
abbrev wsX10 : List Cond := u_ws RX1 TX1 10
theorem nmX1 : ∀ a, a < 10 → ∀ b, b < 10 → a ≠ b → (TX1 a).2.1 ≠ (TX1 b).2.1 := by decide +kernel
theorem tyX1_ok : ∀ k, k < 10 → parseFieldDescriptor (TX1 k).2.2.1 = some (tyX1 k) := by decide +kernel
abbrev cX1_init : ByteArray := prog_2_method_1_code
def yX1_init : MethodName := ⟨RX1, "<init>", "(I)V"⟩
abbrev cX1_feed : ByteArray := prog_2_method_2_code
def yX1_feed : MethodName := ⟨RX1, "feed", "(I)I"⟩
abbrev cX1_grow : ByteArray := prog_2_method_3_code
def yX1_grow : MethodName := ⟨RX1, "grow", "()V"⟩
abbrev cX1_read : ByteArray := prog_2_method_4_code
def yX1_read : MethodName := ⟨RX1, "read", "(ILModuleEngine$Module;)LModuleEngine$Module;"⟩
abbrev cX1_readModule : ByteArray := prog_2_method_43_code
def yX1_readModule : MethodName := ⟨RX1, "readModule", "()V"⟩
abbrev cX1_take : ByteArray := prog_2_method_6_code
def yX1_take : MethodName := ⟨RX1, "take", "()I"⟩
abbrev cX1_stop : ByteArray := prog_2_method_5_code
def yX1_stop : MethodName := ⟨RX1, "stop", "(II)V"⟩
abbrev cX1_order : ByteArray := prog_2_method_42_code
def yX1_order : MethodName := ⟨RX1, "order", "(I)I"⟩
abbrev cX1_whole : ByteArray := prog_2_method_9_code
def yX1_whole : MethodName := ⟨RX1, "whole", "()I"⟩
abbrev cX1_number : ByteArray := prog_2_method_7_code
def yX1_number : MethodName := ⟨RX1, "number", "(IZ)J"⟩
abbrev cX1_isLast : ByteArray := prog_2_method_8_code
def yX1_isLast : MethodName := ⟨RX1, "isLast", "(IIZ)Z"⟩
abbrev cX1_content : ByteArray := prog_2_method_41_code
def yX1_content : MethodName := ⟨RX1, "content", "(I)V"⟩
abbrev cX1_custom : ByteArray := prog_2_method_39_code
def yX1_custom : MethodName := ⟨RX1, "custom", "()V"⟩
abbrev cX1_text : ByteArray := prog_2_method_11_code
def yX1_text : MethodName := ⟨RX1, "text", "(LModuleEngine$Row;)V"⟩
abbrev cX1_pass : ByteArray := prog_2_method_10_code
def yX1_pass : MethodName := ⟨RX1, "pass", "(I)I"⟩
abbrev cX1_characterAt : ByteArray := prog_2_method_12_code
def yX1_characterAt : MethodName := ⟨RX1, "characterAt", "(II)I"⟩
abbrev cX1_one : ByteArray := prog_2_method_40_code
def yX1_one : MethodName := ⟨RX1, "one", "(I)V"⟩
abbrev cX1_functionType : ByteArray := prog_2_method_18_code
def yX1_functionType : MethodName := ⟨RX1, "functionType", "()V"⟩
abbrev cX1_valueType : ByteArray := prog_2_method_16_code
def yX1_valueType : MethodName := ⟨RX1, "valueType", "()I"⟩
abbrev cX1_isValue : ByteArray := prog_2_method_14_code
def yX1_isValue : MethodName := ⟨RX1, "isValue", "(I)Z"⟩
abbrev cX1_isReference : ByteArray := prog_2_method_13_code
def yX1_isReference : MethodName := ⟨RX1, "isReference", "(I)Z"⟩
abbrev cX1_importOne : ByteArray := prog_2_method_32_code
def yX1_importOne : MethodName := ⟨RX1, "importOne", "()V"⟩
abbrev cX1_form : ByteArray := prog_2_method_17_code
def yX1_form : MethodName := ⟨RX1, "form", "(I)I"⟩
abbrev cX1_table : ByteArray := prog_2_method_20_code
def yX1_table : MethodName := ⟨RX1, "table", "(LModuleEngine$Row;)V"⟩
abbrev cX1_referenceType : ByteArray := prog_2_method_15_code
def yX1_referenceType : MethodName := ⟨RX1, "referenceType", "()I"⟩
abbrev cX1_limits : ByteArray := prog_2_method_19_code
def yX1_limits : MethodName := ⟨RX1, "limits", "(LModuleEngine$Row;)V"⟩
abbrev cX1_memory : ByteArray := prog_2_method_21_code
def yX1_memory : MethodName := ⟨RX1, "memory", "(LModuleEngine$Row;)V"⟩
abbrev cX1_global : ByteArray := prog_2_method_33_code
def yX1_global : MethodName := ⟨RX1, "global", "(LModuleEngine$Row;)V"⟩
abbrev cX1_expression : ByteArray := prog_2_method_31_code
def yX1_expression : MethodName := ⟨RX1, "expression", "(LModuleEngine$Row;)V"⟩
abbrev cX1_instruction : ByteArray := prog_2_method_30_code
def yX1_instruction : MethodName := ⟨RX1, "instruction", "()V"⟩
abbrev cX1_isAlone : ByteArray := prog_2_method_27_code
def yX1_isAlone : MethodName := ⟨RX1, "isAlone", "(I)Z"⟩
abbrev cX1_hasWhole : ByteArray := prog_2_method_28_code
def yX1_hasWhole : MethodName := ⟨RX1, "hasWhole", "(I)Z"⟩
abbrev cX1_wholes : ByteArray := prog_2_method_24_code
def yX1_wholes : MethodName := ⟨RX1, "wholes", "(I)V"⟩
abbrev cX1_open : ByteArray := prog_2_method_23_code
def yX1_open : MethodName := ⟨RX1, "open", "(Z)V"⟩
abbrev cX1_blockType : ByteArray := prog_2_method_22_code
def yX1_blockType : MethodName := ⟨RX1, "blockType", "()V"⟩
abbrev cX1_elseHere : ByteArray := prog_2_method_26_code
def yX1_elseHere : MethodName := ⟨RX1, "elseHere", "(I)V"⟩
abbrev cX1_other : ByteArray := prog_2_method_29_code
def yX1_other : MethodName := ⟨RX1, "other", "(II)V"⟩
abbrev cX1_prefixed : ByteArray := prog_2_method_25_code
def yX1_prefixed : MethodName := ⟨RX1, "prefixed", "(I)V"⟩
abbrev cX1_export : ByteArray := prog_2_method_34_code
def yX1_export : MethodName := ⟨RX1, "export", "()V"⟩
abbrev cX1_element : ByteArray := prog_2_method_36_code
def yX1_element : MethodName := ⟨RX1, "element", "()V"⟩
abbrev cX1_small : ByteArray := prog_2_method_35_code
def yX1_small : MethodName := ⟨RX1, "small", "(I)I"⟩
abbrev cX1_body : ByteArray := prog_2_method_37_code
def yX1_body : MethodName := ⟨RX1, "body", "()V"⟩
abbrev cX1_datum : ByteArray := prog_2_method_38_code
def yX1_datum : MethodName := ⟨RX1, "datum", "()V"⟩
theorem q361 : (Jvm.Cond.initialized "ModuleEngine$Bytes") ∈ lw_all := lw_g (lw_at lw_m1 2 rfl) rfl
theorem q396 : (Jvm.Cond.instantiable "ModuleEngine$Bytes" (10 : Nat)) ∈ lw_all := lw_g (lw_at lw_m1 37 rfl) rfl
theorem q399 : (Jvm.Cond.instanceMethod ({ cls := "ModuleEngine$Bytes", name := "<init>", desc := "(I)V" } : Jvm.MethodName)) ∈ lw_all := lw_g (lw_at lw_m1 40 rfl) rfl
theorem q400 : (Jvm.Cond.code ({ cls := "ModuleEngine$Bytes", name := "<init>", desc := "(I)V" } : Jvm.MethodName) prog_2_method_1_code (2 : Nat) (Option.none : Option Jvm.ClassFile.FieldType)) ∈ lw_all := lw_g (lw_at lw_m1 41 rfl) rfl
theorem q401 : (Jvm.Cond.methodLink "ModuleEngine$Bytes" (1 : Nat) ({ cls := "java/lang/Object", name := "<init>", desc := "()V" } : Jvm.MethodName)) ∈ lw_all := lw_g (lw_at lw_m1 42 rfl) rfl
theorem q402 : (Jvm.Cond.classLink "ModuleEngine$Bytes" (13 : Nat) "ModuleEngine$Module") ∈ lw_all := lw_g (lw_at lw_m1 43 rfl) rfl
theorem q404 : (Jvm.Cond.methodLinkNest "ModuleEngine$Bytes" (15 : Nat) ({ cls := "ModuleEngine$Module", name := "<init>", desc := "()V" } : Jvm.MethodName) "ModuleEngine") ∈ lw_tbl := lw_at lw_m1 45 rfl
theorem q425 : (Jvm.Cond.fieldLinkNest "ModuleEngine$Bytes" (72 : Nat) "ModuleEngine$Module" "bytes" "[B" "ModuleEngine") ∈ lw_tbl := lw_at lw_m1 66 rfl
theorem q429 : (Jvm.Cond.fieldLinkNest "ModuleEngine$Bytes" (116 : Nat) "ModuleEngine$Module" "types" "LModuleEngine$Row;" "ModuleEngine") ∈ lw_tbl := lw_at lw_m1 70 rfl
theorem q431 : (Jvm.Cond.fieldLinkNest "ModuleEngine$Bytes" (119 : Nat) "ModuleEngine$Module" "signatures" "LModuleEngine$Row;" "ModuleEngine") ∈ lw_tbl := lw_at lw_m1 72 rfl
theorem q435 : (Jvm.Cond.fieldLinkNest "ModuleEngine$Bytes" (179 : Nat) "ModuleEngine$Module" "imports" "LModuleEngine$Row;" "ModuleEngine") ∈ lw_tbl := lw_at lw_m1 76 rfl
theorem q439 : (Jvm.Cond.fieldLinkNest "ModuleEngine$Bytes" (229 : Nat) "ModuleEngine$Module" "functions" "LModuleEngine$Row;" "ModuleEngine") ∈ lw_tbl := lw_at lw_m1 80 rfl
theorem q443 : (Jvm.Cond.fieldLinkNest "ModuleEngine$Bytes" (232 : Nat) "ModuleEngine$Module" "tables" "LModuleEngine$Row;" "ModuleEngine") ∈ lw_tbl := lw_at lw_m1 84 rfl
theorem q447 : (Jvm.Cond.fieldLinkNest "ModuleEngine$Bytes" (235 : Nat) "ModuleEngine$Module" "memories" "LModuleEngine$Row;" "ModuleEngine") ∈ lw_tbl := lw_at lw_m1 88 rfl
theorem q451 : (Jvm.Cond.fieldLinkNest "ModuleEngine$Bytes" (238 : Nat) "ModuleEngine$Module" "globals" "LModuleEngine$Row;" "ModuleEngine") ∈ lw_tbl := lw_at lw_m1 92 rfl
theorem q455 : (Jvm.Cond.fieldLinkNest "ModuleEngine$Bytes" (194 : Nat) "ModuleEngine$Module" "exports" "LModuleEngine$Row;" "ModuleEngine") ∈ lw_tbl := lw_at lw_m1 96 rfl
theorem q459 : (Jvm.Cond.fieldLinkNest "ModuleEngine$Bytes" (206 : Nat) "ModuleEngine$Module" "elements" "LModuleEngine$Row;" "ModuleEngine") ∈ lw_tbl := lw_at lw_m1 100 rfl
theorem q463 : (Jvm.Cond.fieldLinkNest "ModuleEngine$Bytes" (203 : Nat) "ModuleEngine$Module" "items" "LModuleEngine$Row;" "ModuleEngine") ∈ lw_tbl := lw_at lw_m1 104 rfl
theorem q467 : (Jvm.Cond.fieldLinkNest "ModuleEngine$Bytes" (214 : Nat) "ModuleEngine$Module" "bodies" "LModuleEngine$Row;" "ModuleEngine") ∈ lw_tbl := lw_at lw_m1 108 rfl
theorem q471 : (Jvm.Cond.fieldLinkNest "ModuleEngine$Bytes" (209 : Nat) "ModuleEngine$Module" "locals" "LModuleEngine$Row;" "ModuleEngine") ∈ lw_tbl := lw_at lw_m1 112 rfl
theorem q475 : (Jvm.Cond.fieldLinkNest "ModuleEngine$Bytes" (217 : Nat) "ModuleEngine$Module" "data" "LModuleEngine$Row;" "ModuleEngine") ∈ lw_tbl := lw_at lw_m1 116 rfl
theorem q477 : (Jvm.Cond.fieldLinkNest "ModuleEngine$Bytes" (220 : Nat) "ModuleEngine$Module" "customs" "LModuleEngine$Row;" "ModuleEngine") ∈ lw_tbl := lw_at lw_m1 118 rfl
theorem q480 : (Jvm.Cond.fieldLinkNest "ModuleEngine$Bytes" (276 : Nat) "ModuleEngine$Module" "sections" "I" "ModuleEngine") ∈ lw_tbl := lw_at lw_m1 121 rfl
theorem q483 : (Jvm.Cond.fieldLinkNest "ModuleEngine$Bytes" (256 : Nat) "ModuleEngine$Module" "start" "I" "ModuleEngine") ∈ lw_tbl := lw_at lw_m1 124 rfl
theorem q489 : (Jvm.Cond.fieldLinkNest "ModuleEngine$Bytes" (259 : Nat) "ModuleEngine$Module" "hasStart" "Z" "ModuleEngine") ∈ lw_tbl := lw_at lw_m1 130 rfl
theorem q491 : (Jvm.Cond.fieldLinkNest "ModuleEngine$Bytes" (142 : Nat) "ModuleEngine$Module" "saidData" "J" "ModuleEngine") ∈ lw_tbl := lw_at lw_m1 132 rfl
theorem q535 : (Jvm.Cond.classLink "ModuleEngine$Bytes" (24 : Nat) "ModuleEngine$Row") ∈ lw_all := lw_g (lw_at lw_m1 176 rfl) rfl
theorem q536 : (Jvm.Cond.methodLinkNest "ModuleEngine$Bytes" (26 : Nat) ({ cls := "ModuleEngine$Row", name := "<init>", desc := "()V" } : Jvm.MethodName) "ModuleEngine") ∈ lw_tbl := lw_at lw_m1 177 rfl
theorem q537 : (Jvm.Cond.fieldLink "ModuleEngine$Bytes" (7 : Nat) "ModuleEngine$Bytes" "bytes" "[B") ∈ lw_all := lw_g (lw_at lw_m1 178 rfl) rfl
theorem q538 : (Jvm.Cond.fieldLink "ModuleEngine$Bytes" (34 : Nat) "ModuleEngine$Bytes" "room" "I") ∈ lw_all := lw_g (lw_at lw_m1 179 rfl) rfl
theorem q539 : (Jvm.Cond.fieldLink "ModuleEngine$Bytes" (37 : Nat) "ModuleEngine$Bytes" "size" "I") ∈ lw_all := lw_g (lw_at lw_m1 180 rfl) rfl
theorem q541 : (Jvm.Cond.fieldLink "ModuleEngine$Bytes" (16 : Nat) "ModuleEngine$Bytes" "module" "LModuleEngine$Module;") ∈ lw_all := lw_g (lw_at lw_m1 182 rfl) rfl
theorem q543 : (Jvm.Cond.fieldLink "ModuleEngine$Bytes" (53 : Nat) "ModuleEngine$Bytes" "fault" "I") ∈ lw_all := lw_g (lw_at lw_m1 184 rfl) rfl
theorem q544 : (Jvm.Cond.fieldLink "ModuleEngine$Bytes" (20 : Nat) "ModuleEngine$Bytes" "place" "I") ∈ lw_all := lw_g (lw_at lw_m1 185 rfl) rfl
theorem q546 : (Jvm.Cond.fieldLink "ModuleEngine$Bytes" (56 : Nat) "ModuleEngine$Bytes" "at" "I") ∈ lw_all := lw_g (lw_at lw_m1 187 rfl) rfl
theorem q547 : (Jvm.Cond.fieldLink "ModuleEngine$Bytes" (59 : Nat) "ModuleEngine$Bytes" "end" "I") ∈ lw_all := lw_g (lw_at lw_m1 188 rfl) rfl
theorem q548 : (Jvm.Cond.fieldLink "ModuleEngine$Bytes" (27 : Nat) "ModuleEngine$Bytes" "blocks" "LModuleEngine$Row;") ∈ lw_all := lw_g (lw_at lw_m1 189 rfl) rfl
theorem q549 : (Jvm.Cond.fieldLink "ModuleEngine$Bytes" (31 : Nat) "ModuleEngine$Bytes" "held" "LModuleEngine$Row;") ∈ lw_all := lw_g (lw_at lw_m1 190 rfl) rfl
theorem q550 : (Jvm.Cond.lays "ModuleEngine$Bytes" "ModuleEngine$Bytes" "bytes" "[B") ∈ lw_all := lw_g (lw_at lw_m1 191 rfl) rfl
theorem q551 : (Jvm.Cond.soleField "ModuleEngine$Bytes" "bytes") ∈ lw_all := lw_g (lw_at lw_m1 192 rfl) rfl
theorem q552 : (Jvm.Cond.laysFinal "ModuleEngine$Bytes" "ModuleEngine$Bytes" "room" "I") ∈ lw_all := lw_g (lw_at lw_m1 193 rfl) rfl
theorem q553 : (Jvm.Cond.soleField "ModuleEngine$Bytes" "room") ∈ lw_all := lw_g (lw_at lw_m1 194 rfl) rfl
theorem q554 : (Jvm.Cond.lays "ModuleEngine$Bytes" "ModuleEngine$Bytes" "size" "I") ∈ lw_all := lw_g (lw_at lw_m1 195 rfl) rfl
theorem q555 : (Jvm.Cond.soleField "ModuleEngine$Bytes" "size") ∈ lw_all := lw_g (lw_at lw_m1 196 rfl) rfl
theorem q556 : (Jvm.Cond.lays "ModuleEngine$Bytes" "ModuleEngine$Bytes" "module" "LModuleEngine$Module;") ∈ lw_all := lw_g (lw_at lw_m1 197 rfl) rfl
theorem q557 : (Jvm.Cond.soleField "ModuleEngine$Bytes" "module") ∈ lw_all := lw_g (lw_at lw_m1 198 rfl) rfl
theorem q558 : (Jvm.Cond.lays "ModuleEngine$Bytes" "ModuleEngine$Bytes" "fault" "I") ∈ lw_all := lw_g (lw_at lw_m1 199 rfl) rfl
theorem q559 : (Jvm.Cond.soleField "ModuleEngine$Bytes" "fault") ∈ lw_all := lw_g (lw_at lw_m1 200 rfl) rfl
theorem q560 : (Jvm.Cond.lays "ModuleEngine$Bytes" "ModuleEngine$Bytes" "place" "I") ∈ lw_all := lw_g (lw_at lw_m1 201 rfl) rfl
theorem q561 : (Jvm.Cond.soleField "ModuleEngine$Bytes" "place") ∈ lw_all := lw_g (lw_at lw_m1 202 rfl) rfl
theorem q562 : (Jvm.Cond.lays "ModuleEngine$Bytes" "ModuleEngine$Bytes" "at" "I") ∈ lw_all := lw_g (lw_at lw_m1 203 rfl) rfl
theorem q563 : (Jvm.Cond.soleField "ModuleEngine$Bytes" "at") ∈ lw_all := lw_g (lw_at lw_m1 204 rfl) rfl
theorem q564 : (Jvm.Cond.lays "ModuleEngine$Bytes" "ModuleEngine$Bytes" "end" "I") ∈ lw_all := lw_g (lw_at lw_m1 205 rfl) rfl
theorem q565 : (Jvm.Cond.soleField "ModuleEngine$Bytes" "end") ∈ lw_all := lw_g (lw_at lw_m1 206 rfl) rfl
theorem q566 : (Jvm.Cond.laysFinal "ModuleEngine$Bytes" "ModuleEngine$Bytes" "blocks" "LModuleEngine$Row;") ∈ lw_all := lw_g (lw_at lw_m1 207 rfl) rfl
theorem q567 : (Jvm.Cond.soleField "ModuleEngine$Bytes" "blocks") ∈ lw_all := lw_g (lw_at lw_m1 208 rfl) rfl
theorem q568 : (Jvm.Cond.laysFinal "ModuleEngine$Bytes" "ModuleEngine$Bytes" "held" "LModuleEngine$Row;") ∈ lw_all := lw_g (lw_at lw_m1 209 rfl) rfl
theorem q569 : (Jvm.Cond.soleField "ModuleEngine$Bytes" "held") ∈ lw_all := lw_g (lw_at lw_m1 210 rfl) rfl
theorem q570 : (Jvm.Cond.superclass "ModuleEngine$Bytes" "java/lang/Object") ∈ lw_all := lw_g (lw_at lw_m1 211 rfl) rfl
theorem q1257 : (Jvm.Cond.instanceMethod ({ cls := "ModuleEngine$Bytes", name := "feed", desc := "(I)I" } : Jvm.MethodName)) ∈ lw_all := lw_g (lw_at lw_m4 178 rfl) rfl
theorem q1258 : (Jvm.Cond.selects "ModuleEngine$Bytes" ({ cls := "ModuleEngine$Bytes", name := "feed", desc := "(I)I" } : Jvm.MethodName) ({ cls := "ModuleEngine$Bytes", name := "feed", desc := "(I)I" } : Jvm.MethodName)) ∈ lw_all := lw_g (lw_at lw_m4 179 rfl) rfl
theorem q1259 : (Jvm.Cond.code ({ cls := "ModuleEngine$Bytes", name := "feed", desc := "(I)I" } : Jvm.MethodName) prog_2_method_2_code (3 : Nat) (Option.some Jvm.ClassFile.FieldType.int)) ∈ lw_all := lw_g (lw_at lw_m4 180 rfl) rfl
theorem q1260 : (Jvm.Cond.methodLink "ModuleEngine$Bytes" (40 : Nat) ({ cls := "ModuleEngine$Bytes", name := "grow", desc := "()V" } : Jvm.MethodName)) ∈ lw_all := lw_g (lw_at lw_m4 181 rfl) rfl
theorem q1261 : (Jvm.Cond.privateMethod ({ cls := "ModuleEngine$Bytes", name := "grow", desc := "()V" } : Jvm.MethodName)) ∈ lw_tbl := lw_at lw_m4 182 rfl
theorem q1262 : (Jvm.Cond.instanceMethod ({ cls := "ModuleEngine$Bytes", name := "grow", desc := "()V" } : Jvm.MethodName)) ∈ lw_all := lw_g (lw_at lw_m4 183 rfl) rfl
theorem q1263 : (Jvm.Cond.code ({ cls := "ModuleEngine$Bytes", name := "grow", desc := "()V" } : Jvm.MethodName) prog_2_method_3_code (3 : Nat) (Option.none : Option Jvm.ClassFile.FieldType)) ∈ lw_all := lw_g (lw_at lw_m4 184 rfl) rfl
theorem q1264 : (Jvm.Cond.methodLink "ModuleEngine$Bytes" (43 : Nat) ({ cls := "java/lang/Math", name := "min", desc := "(II)I" } : Jvm.MethodName)) ∈ lw_all := lw_g (lw_at lw_m4 185 rfl) rfl
theorem q1272 : (Jvm.Cond.instanceMethod ({ cls := "ModuleEngine$Bytes", name := "read", desc := "(ILModuleEngine$Module;)LModuleEngine$Module;" } : Jvm.MethodName)) ∈ lw_all := lw_g (lw_at lw_m4 193 rfl) rfl
theorem q1273 : (Jvm.Cond.selects "ModuleEngine$Bytes" ({ cls := "ModuleEngine$Bytes", name := "read", desc := "(ILModuleEngine$Module;)LModuleEngine$Module;" } : Jvm.MethodName) ({ cls := "ModuleEngine$Bytes", name := "read", desc := "(ILModuleEngine$Module;)LModuleEngine$Module;" } : Jvm.MethodName)) ∈ lw_all := lw_g (lw_at lw_m4 194 rfl) rfl
theorem q1274 : (Jvm.Cond.codeWith ({ cls := "ModuleEngine$Bytes", name := "read", desc := "(ILModuleEngine$Module;)LModuleEngine$Module;" } : Jvm.MethodName) prog_2_method_4_code (4 : Nat) (Option.some (Jvm.ClassFile.FieldType.object "ModuleEngine$Module")) [((37 : Nat), (41 : Nat), (44 : Nat), (65 : Nat))]) ∈ lw_all := lw_g (lw_at lw_m4 195 rfl) rfl
theorem q1275 : (Jvm.Cond.classLink "ModuleEngine$Bytes" (65 : Nat) "java/lang/IllegalArgumentException") ∈ lw_all := lw_g (lw_at lw_m4 196 rfl) rfl
theorem q1276 : (Jvm.Cond.methodLink "ModuleEngine$Bytes" (49 : Nat) ({ cls := "ModuleEngine$Module", name := "begin", desc := "([BI)V" } : Jvm.MethodName)) ∈ lw_all := lw_g (lw_at lw_m4 197 rfl) rfl
theorem q1285 : (Jvm.Cond.methodLink "ModuleEngine$Bytes" (62 : Nat) ({ cls := "ModuleEngine$Bytes", name := "readModule", desc := "()V" } : Jvm.MethodName)) ∈ lw_all := lw_g (lw_at lw_m4 206 rfl) rfl
theorem q1286 : (Jvm.Cond.privateMethod ({ cls := "ModuleEngine$Bytes", name := "readModule", desc := "()V" } : Jvm.MethodName)) ∈ lw_tbl := lw_at lw_m4 207 rfl
theorem q1287 : (Jvm.Cond.instanceMethod ({ cls := "ModuleEngine$Bytes", name := "readModule", desc := "()V" } : Jvm.MethodName)) ∈ lw_all := lw_g (lw_at lw_m4 208 rfl) rfl
theorem q1288 : (Jvm.Cond.code ({ cls := "ModuleEngine$Bytes", name := "readModule", desc := "()V" } : Jvm.MethodName) prog_2_method_43_code (7 : Nat) (Option.none : Option Jvm.ClassFile.FieldType)) ∈ lw_all := lw_g (lw_at lw_m4 209 rfl) rfl
theorem q1289 : (Jvm.Cond.methodLink "ModuleEngine$Bytes" (73 : Nat) ({ cls := "ModuleEngine$Bytes", name := "take", desc := "()I" } : Jvm.MethodName)) ∈ lw_all := lw_g (lw_at lw_m4 210 rfl) rfl
theorem q1290 : (Jvm.Cond.privateMethod ({ cls := "ModuleEngine$Bytes", name := "take", desc := "()I" } : Jvm.MethodName)) ∈ lw_tbl := lw_at lw_m4 211 rfl
theorem q1291 : (Jvm.Cond.instanceMethod ({ cls := "ModuleEngine$Bytes", name := "take", desc := "()I" } : Jvm.MethodName)) ∈ lw_all := lw_g (lw_at lw_m4 212 rfl) rfl
theorem q1292 : (Jvm.Cond.code ({ cls := "ModuleEngine$Bytes", name := "take", desc := "()I" } : Jvm.MethodName) prog_2_method_6_code (2 : Nat) (Option.some Jvm.ClassFile.FieldType.int)) ∈ lw_all := lw_g (lw_at lw_m4 213 rfl) rfl
theorem q1293 : (Jvm.Cond.methodLink "ModuleEngine$Bytes" (68 : Nat) ({ cls := "ModuleEngine$Bytes", name := "stop", desc := "(II)V" } : Jvm.MethodName)) ∈ lw_all := lw_g (lw_at lw_m4 214 rfl) rfl
theorem q1294 : (Jvm.Cond.privateMethod ({ cls := "ModuleEngine$Bytes", name := "stop", desc := "(II)V" } : Jvm.MethodName)) ∈ lw_tbl := lw_at lw_m4 215 rfl
theorem q1295 : (Jvm.Cond.instanceMethod ({ cls := "ModuleEngine$Bytes", name := "stop", desc := "(II)V" } : Jvm.MethodName)) ∈ lw_all := lw_g (lw_at lw_m4 216 rfl) rfl
theorem q1296 : (Jvm.Cond.code ({ cls := "ModuleEngine$Bytes", name := "stop", desc := "(II)V" } : Jvm.MethodName) prog_2_method_5_code (3 : Nat) (Option.none : Option Jvm.ClassFile.FieldType)) ∈ lw_all := lw_g (lw_at lw_m4 217 rfl) rfl
theorem q1336 : (Jvm.Cond.methodLink "ModuleEngine$Bytes" (67 : Nat) ({ cls := "java/lang/IllegalArgumentException", name := "<init>", desc := "()V" } : Jvm.MethodName)) ∈ lw_all := lw_g (lw_at lw_m5 17 rfl) rfl
theorem q1358 : (Jvm.Cond.constantLong "ModuleEngine$Bytes" (266 : Nat) (6131245312 : Int64)) ∈ lw_all := lw_g (lw_at lw_m5 39 rfl) rfl
theorem q1359 : (Jvm.Cond.constantLong "ModuleEngine$Bytes" (268 : Nat) (255 : Int64)) ∈ lw_all := lw_g (lw_at lw_m5 40 rfl) rfl
theorem q1360 : (Jvm.Cond.methodLink "ModuleEngine$Bytes" (270 : Nat) ({ cls := "ModuleEngine$Bytes", name := "order", desc := "(I)I" } : Jvm.MethodName)) ∈ lw_all := lw_g (lw_at lw_m5 41 rfl) rfl
theorem q1361 : (Jvm.Cond.static ({ cls := "ModuleEngine$Bytes", name := "order", desc := "(I)I" } : Jvm.MethodName)) ∈ lw_all := lw_g (lw_at lw_m5 42 rfl) rfl
theorem q1362 : (Jvm.Cond.code ({ cls := "ModuleEngine$Bytes", name := "order", desc := "(I)I" } : Jvm.MethodName) prog_2_method_42_code (1 : Nat) (Option.some Jvm.ClassFile.FieldType.int)) ∈ lw_all := lw_g (lw_at lw_m5 43 rfl) rfl
theorem q1363 : (Jvm.Cond.methodLink "ModuleEngine$Bytes" (91 : Nat) ({ cls := "ModuleEngine$Bytes", name := "whole", desc := "()I" } : Jvm.MethodName)) ∈ lw_all := lw_g (lw_at lw_m5 44 rfl) rfl
theorem q1364 : (Jvm.Cond.privateMethod ({ cls := "ModuleEngine$Bytes", name := "whole", desc := "()I" } : Jvm.MethodName)) ∈ lw_tbl := lw_at lw_m5 45 rfl
theorem q1365 : (Jvm.Cond.instanceMethod ({ cls := "ModuleEngine$Bytes", name := "whole", desc := "()I" } : Jvm.MethodName)) ∈ lw_all := lw_g (lw_at lw_m5 46 rfl) rfl
theorem q1366 : (Jvm.Cond.code ({ cls := "ModuleEngine$Bytes", name := "whole", desc := "()I" } : Jvm.MethodName) prog_2_method_9_code (1 : Nat) (Option.some Jvm.ClassFile.FieldType.int)) ∈ lw_all := lw_g (lw_at lw_m5 47 rfl) rfl
theorem q1367 : (Jvm.Cond.methodLink "ModuleEngine$Bytes" (83 : Nat) ({ cls := "ModuleEngine$Bytes", name := "number", desc := "(IZ)J" } : Jvm.MethodName)) ∈ lw_all := lw_g (lw_at lw_m5 48 rfl) rfl
theorem q1368 : (Jvm.Cond.privateMethod ({ cls := "ModuleEngine$Bytes", name := "number", desc := "(IZ)J" } : Jvm.MethodName)) ∈ lw_tbl := lw_at lw_m5 49 rfl
theorem q1369 : (Jvm.Cond.instanceMethod ({ cls := "ModuleEngine$Bytes", name := "number", desc := "(IZ)J" } : Jvm.MethodName)) ∈ lw_all := lw_g (lw_at lw_m5 50 rfl) rfl
theorem q1370 : (Jvm.Cond.code ({ cls := "ModuleEngine$Bytes", name := "number", desc := "(IZ)J" } : Jvm.MethodName) prog_2_method_7_code (9 : Nat) (Option.some Jvm.ClassFile.FieldType.long)) ∈ lw_all := lw_g (lw_at lw_m5 51 rfl) rfl
theorem q1371 : (Jvm.Cond.methodLink "ModuleEngine$Bytes" (77 : Nat) ({ cls := "ModuleEngine$Bytes", name := "isLast", desc := "(IIZ)Z" } : Jvm.MethodName)) ∈ lw_all := lw_g (lw_at lw_m5 52 rfl) rfl
theorem q1372 : (Jvm.Cond.static ({ cls := "ModuleEngine$Bytes", name := "isLast", desc := "(IIZ)Z" } : Jvm.MethodName)) ∈ lw_all := lw_g (lw_at lw_m5 53 rfl) rfl
theorem q1373 : (Jvm.Cond.code ({ cls := "ModuleEngine$Bytes", name := "isLast", desc := "(IIZ)Z" } : Jvm.MethodName) prog_2_method_8_code (4 : Nat) (Option.some Jvm.ClassFile.FieldType.boolean)) ∈ lw_all := lw_g (lw_at lw_m5 54 rfl) rfl
theorem q1374 : (Jvm.Cond.constantLong "ModuleEngine$Bytes" (81 : Nat) (-1 : Int64)) ∈ lw_all := lw_g (lw_at lw_m5 55 rfl) rfl
theorem q1375 : (Jvm.Cond.methodLink "ModuleEngine$Bytes" (87 : Nat) ({ cls := "ModuleEngine$Module", name := "wide", desc := "(I)J" } : Jvm.MethodName)) ∈ lw_all := lw_g (lw_at lw_m5 56 rfl) rfl
theorem q1379 : (Jvm.Cond.methodLink "ModuleEngine$Bytes" (273 : Nat) ({ cls := "ModuleEngine$Bytes", name := "content", desc := "(I)V" } : Jvm.MethodName)) ∈ lw_all := lw_g (lw_at lw_m5 60 rfl) rfl
theorem q1380 : (Jvm.Cond.privateMethod ({ cls := "ModuleEngine$Bytes", name := "content", desc := "(I)V" } : Jvm.MethodName)) ∈ lw_tbl := lw_at lw_m5 61 rfl
theorem q1381 : (Jvm.Cond.instanceMethod ({ cls := "ModuleEngine$Bytes", name := "content", desc := "(I)V" } : Jvm.MethodName)) ∈ lw_all := lw_g (lw_at lw_m5 62 rfl) rfl
theorem q1382 : (Jvm.Cond.code ({ cls := "ModuleEngine$Bytes", name := "content", desc := "(I)V" } : Jvm.MethodName) prog_2_method_41_code (4 : Nat) (Option.none : Option Jvm.ClassFile.FieldType)) ∈ lw_all := lw_g (lw_at lw_m5 63 rfl) rfl
theorem q1383 : (Jvm.Cond.methodLink "ModuleEngine$Bytes" (253 : Nat) ({ cls := "ModuleEngine$Bytes", name := "custom", desc := "()V" } : Jvm.MethodName)) ∈ lw_all := lw_g (lw_at lw_m5 64 rfl) rfl
theorem q1384 : (Jvm.Cond.privateMethod ({ cls := "ModuleEngine$Bytes", name := "custom", desc := "()V" } : Jvm.MethodName)) ∈ lw_tbl := lw_at lw_m5 65 rfl
theorem q1385 : (Jvm.Cond.instanceMethod ({ cls := "ModuleEngine$Bytes", name := "custom", desc := "()V" } : Jvm.MethodName)) ∈ lw_all := lw_g (lw_at lw_m5 66 rfl) rfl
theorem q1386 : (Jvm.Cond.code ({ cls := "ModuleEngine$Bytes", name := "custom", desc := "()V" } : Jvm.MethodName) prog_2_method_39_code (2 : Nat) (Option.none : Option Jvm.ClassFile.FieldType)) ∈ lw_all := lw_g (lw_at lw_m5 67 rfl) rfl
theorem q1387 : (Jvm.Cond.methodLink "ModuleEngine$Bytes" (170 : Nat) ({ cls := "ModuleEngine$Row", name := "cut", desc := "(I)V" } : Jvm.MethodName)) ∈ lw_all := lw_g (lw_at lw_m5 68 rfl) rfl
theorem q1388 : (Jvm.Cond.methodLink "ModuleEngine$Bytes" (182 : Nat) ({ cls := "ModuleEngine$Bytes", name := "text", desc := "(LModuleEngine$Row;)V" } : Jvm.MethodName)) ∈ lw_all := lw_g (lw_at lw_m5 69 rfl) rfl
theorem q1389 : (Jvm.Cond.privateMethod ({ cls := "ModuleEngine$Bytes", name := "text", desc := "(LModuleEngine$Row;)V" } : Jvm.MethodName)) ∈ lw_tbl := lw_at lw_m5 70 rfl
theorem q1390 : (Jvm.Cond.instanceMethod ({ cls := "ModuleEngine$Bytes", name := "text", desc := "(LModuleEngine$Row;)V" } : Jvm.MethodName)) ∈ lw_all := lw_g (lw_at lw_m5 71 rfl) rfl
theorem q1391 : (Jvm.Cond.code ({ cls := "ModuleEngine$Bytes", name := "text", desc := "(LModuleEngine$Row;)V" } : Jvm.MethodName) prog_2_method_11_code (6 : Nat) (Option.none : Option Jvm.ClassFile.FieldType)) ∈ lw_all := lw_g (lw_at lw_m5 72 rfl) rfl
theorem q1392 : (Jvm.Cond.methodLink "ModuleEngine$Bytes" (94 : Nat) ({ cls := "ModuleEngine$Bytes", name := "pass", desc := "(I)I" } : Jvm.MethodName)) ∈ lw_all := lw_g (lw_at lw_m5 73 rfl) rfl
theorem q1393 : (Jvm.Cond.privateMethod ({ cls := "ModuleEngine$Bytes", name := "pass", desc := "(I)I" } : Jvm.MethodName)) ∈ lw_tbl := lw_at lw_m5 74 rfl
theorem q1394 : (Jvm.Cond.instanceMethod ({ cls := "ModuleEngine$Bytes", name := "pass", desc := "(I)I" } : Jvm.MethodName)) ∈ lw_all := lw_g (lw_at lw_m5 75 rfl) rfl
theorem q1395 : (Jvm.Cond.code ({ cls := "ModuleEngine$Bytes", name := "pass", desc := "(I)I" } : Jvm.MethodName) prog_2_method_10_code (3 : Nat) (Option.some Jvm.ClassFile.FieldType.int)) ∈ lw_all := lw_g (lw_at lw_m5 76 rfl) rfl
theorem q1396 : (Jvm.Cond.methodLink "ModuleEngine$Bytes" (98 : Nat) ({ cls := "ModuleEngine$Bytes", name := "characterAt", desc := "(II)I" } : Jvm.MethodName)) ∈ lw_all := lw_g (lw_at lw_m5 77 rfl) rfl
theorem q1397 : (Jvm.Cond.privateMethod ({ cls := "ModuleEngine$Bytes", name := "characterAt", desc := "(II)I" } : Jvm.MethodName)) ∈ lw_tbl := lw_at lw_m5 78 rfl
theorem q1398 : (Jvm.Cond.instanceMethod ({ cls := "ModuleEngine$Bytes", name := "characterAt", desc := "(II)I" } : Jvm.MethodName)) ∈ lw_all := lw_g (lw_at lw_m5 79 rfl) rfl
theorem q1399 : (Jvm.Cond.code ({ cls := "ModuleEngine$Bytes", name := "characterAt", desc := "(II)I" } : Jvm.MethodName) prog_2_method_12_code (8 : Nat) (Option.some Jvm.ClassFile.FieldType.int)) ∈ lw_all := lw_g (lw_at lw_m5 80 rfl) rfl
theorem q1400 : (Jvm.Cond.constant "ModuleEngine$Bytes" (105 : Nat) (65536 : Int32)) ∈ lw_all := lw_g (lw_at lw_m5 81 rfl) rfl
theorem q1401 : (Jvm.Cond.constant "ModuleEngine$Bytes" (106 : Nat) (1114111 : Int32)) ∈ lw_all := lw_g (lw_at lw_m5 82 rfl) rfl
theorem q1402 : (Jvm.Cond.constant "ModuleEngine$Bytes" (107 : Nat) (55296 : Int32)) ∈ lw_all := lw_g (lw_at lw_m5 83 rfl) rfl
theorem q1403 : (Jvm.Cond.constant "ModuleEngine$Bytes" (108 : Nat) (57343 : Int32)) ∈ lw_all := lw_g (lw_at lw_m5 84 rfl) rfl
theorem q1404 : (Jvm.Cond.methodLink "ModuleEngine$Bytes" (101 : Nat) ({ cls := "ModuleEngine$Row", name := "add", desc := "(I)V" } : Jvm.MethodName)) ∈ lw_all := lw_g (lw_at lw_m5 85 rfl) rfl
theorem q1408 : (Jvm.Cond.methodLink "ModuleEngine$Bytes" (149 : Nat) ({ cls := "ModuleEngine$Row", name := "at", desc := "(I)I" } : Jvm.MethodName)) ∈ lw_all := lw_g (lw_at lw_m5 89 rfl) rfl
theorem q1412 : (Jvm.Cond.methodLink "ModuleEngine$Bytes" (263 : Nat) ({ cls := "ModuleEngine$Bytes", name := "one", desc := "(I)V" } : Jvm.MethodName)) ∈ lw_all := lw_g (lw_at lw_m5 93 rfl) rfl
theorem q1413 : (Jvm.Cond.privateMethod ({ cls := "ModuleEngine$Bytes", name := "one", desc := "(I)V" } : Jvm.MethodName)) ∈ lw_tbl := lw_at lw_m5 94 rfl
theorem q1414 : (Jvm.Cond.instanceMethod ({ cls := "ModuleEngine$Bytes", name := "one", desc := "(I)V" } : Jvm.MethodName)) ∈ lw_all := lw_g (lw_at lw_m5 95 rfl) rfl
theorem q1415 : (Jvm.Cond.code ({ cls := "ModuleEngine$Bytes", name := "one", desc := "(I)V" } : Jvm.MethodName) prog_2_method_40_code (2 : Nat) (Option.none : Option Jvm.ClassFile.FieldType)) ∈ lw_all := lw_g (lw_at lw_m5 96 rfl) rfl
theorem q1416 : (Jvm.Cond.methodLink "ModuleEngine$Bytes" (223 : Nat) ({ cls := "ModuleEngine$Bytes", name := "functionType", desc := "()V" } : Jvm.MethodName)) ∈ lw_all := lw_g (lw_at lw_m5 97 rfl) rfl
theorem q1417 : (Jvm.Cond.privateMethod ({ cls := "ModuleEngine$Bytes", name := "functionType", desc := "()V" } : Jvm.MethodName)) ∈ lw_tbl := lw_at lw_m5 98 rfl
theorem q1418 : (Jvm.Cond.instanceMethod ({ cls := "ModuleEngine$Bytes", name := "functionType", desc := "()V" } : Jvm.MethodName)) ∈ lw_all := lw_g (lw_at lw_m5 99 rfl) rfl
theorem q1419 : (Jvm.Cond.code ({ cls := "ModuleEngine$Bytes", name := "functionType", desc := "()V" } : Jvm.MethodName) prog_2_method_18_code (5 : Nat) (Option.none : Option Jvm.ClassFile.FieldType)) ∈ lw_all := lw_g (lw_at lw_m5 100 rfl) rfl
theorem q1420 : (Jvm.Cond.methodLink "ModuleEngine$Bytes" (122 : Nat) ({ cls := "ModuleEngine$Row", name := "size", desc := "()I" } : Jvm.MethodName)) ∈ lw_all := lw_g (lw_at lw_m5 101 rfl) rfl
theorem q1424 : (Jvm.Cond.methodLink "ModuleEngine$Bytes" (124 : Nat) ({ cls := "ModuleEngine$Bytes", name := "valueType", desc := "()I" } : Jvm.MethodName)) ∈ lw_all := lw_g (lw_at lw_m5 105 rfl) rfl
theorem q1425 : (Jvm.Cond.privateMethod ({ cls := "ModuleEngine$Bytes", name := "valueType", desc := "()I" } : Jvm.MethodName)) ∈ lw_tbl := lw_at lw_m5 106 rfl
theorem q1426 : (Jvm.Cond.instanceMethod ({ cls := "ModuleEngine$Bytes", name := "valueType", desc := "()I" } : Jvm.MethodName)) ∈ lw_all := lw_g (lw_at lw_m5 107 rfl) rfl
theorem q1427 : (Jvm.Cond.code ({ cls := "ModuleEngine$Bytes", name := "valueType", desc := "()I" } : Jvm.MethodName) prog_2_method_16_code (3 : Nat) (Option.some Jvm.ClassFile.FieldType.int)) ∈ lw_all := lw_g (lw_at lw_m5 108 rfl) rfl
theorem q1428 : (Jvm.Cond.methodLink "ModuleEngine$Bytes" (113 : Nat) ({ cls := "ModuleEngine$Bytes", name := "isValue", desc := "(I)Z" } : Jvm.MethodName)) ∈ lw_all := lw_g (lw_at lw_m5 109 rfl) rfl
theorem q1429 : (Jvm.Cond.static ({ cls := "ModuleEngine$Bytes", name := "isValue", desc := "(I)Z" } : Jvm.MethodName)) ∈ lw_all := lw_g (lw_at lw_m5 110 rfl) rfl
theorem q1430 : (Jvm.Cond.code ({ cls := "ModuleEngine$Bytes", name := "isValue", desc := "(I)Z" } : Jvm.MethodName) prog_2_method_14_code (1 : Nat) (Option.some Jvm.ClassFile.FieldType.boolean)) ∈ lw_all := lw_g (lw_at lw_m5 111 rfl) rfl
theorem q1431 : (Jvm.Cond.methodLink "ModuleEngine$Bytes" (109 : Nat) ({ cls := "ModuleEngine$Bytes", name := "isReference", desc := "(I)Z" } : Jvm.MethodName)) ∈ lw_all := lw_g (lw_at lw_m5 112 rfl) rfl
theorem q1432 : (Jvm.Cond.static ({ cls := "ModuleEngine$Bytes", name := "isReference", desc := "(I)Z" } : Jvm.MethodName)) ∈ lw_all := lw_g (lw_at lw_m5 113 rfl) rfl
theorem q1433 : (Jvm.Cond.code ({ cls := "ModuleEngine$Bytes", name := "isReference", desc := "(I)Z" } : Jvm.MethodName) prog_2_method_13_code (1 : Nat) (Option.some Jvm.ClassFile.FieldType.boolean)) ∈ lw_all := lw_g (lw_at lw_m5 114 rfl) rfl
theorem q1434 : (Jvm.Cond.methodLink "ModuleEngine$Bytes" (226 : Nat) ({ cls := "ModuleEngine$Bytes", name := "importOne", desc := "()V" } : Jvm.MethodName)) ∈ lw_all := lw_g (lw_at lw_m5 115 rfl) rfl
theorem q1435 : (Jvm.Cond.privateMethod ({ cls := "ModuleEngine$Bytes", name := "importOne", desc := "()V" } : Jvm.MethodName)) ∈ lw_tbl := lw_at lw_m5 116 rfl
theorem q1436 : (Jvm.Cond.instanceMethod ({ cls := "ModuleEngine$Bytes", name := "importOne", desc := "()V" } : Jvm.MethodName)) ∈ lw_all := lw_g (lw_at lw_m5 117 rfl) rfl
theorem q1437 : (Jvm.Cond.code ({ cls := "ModuleEngine$Bytes", name := "importOne", desc := "()V" } : Jvm.MethodName) prog_2_method_32_code (6 : Nat) (Option.none : Option Jvm.ClassFile.FieldType)) ∈ lw_all := lw_g (lw_at lw_m5 118 rfl) rfl
theorem q1438 : (Jvm.Cond.methodLink "ModuleEngine$Bytes" (151 : Nat) ({ cls := "ModuleEngine$Row", name := "set", desc := "(II)V" } : Jvm.MethodName)) ∈ lw_all := lw_g (lw_at lw_m5 119 rfl) rfl
theorem q1442 : (Jvm.Cond.methodLink "ModuleEngine$Bytes" (127 : Nat) ({ cls := "ModuleEngine$Bytes", name := "form", desc := "(I)I" } : Jvm.MethodName)) ∈ lw_all := lw_g (lw_at lw_m5 123 rfl) rfl
theorem q1443 : (Jvm.Cond.privateMethod ({ cls := "ModuleEngine$Bytes", name := "form", desc := "(I)I" } : Jvm.MethodName)) ∈ lw_tbl := lw_at lw_m5 124 rfl
theorem q1444 : (Jvm.Cond.instanceMethod ({ cls := "ModuleEngine$Bytes", name := "form", desc := "(I)I" } : Jvm.MethodName)) ∈ lw_all := lw_g (lw_at lw_m5 125 rfl) rfl
theorem q1445 : (Jvm.Cond.code ({ cls := "ModuleEngine$Bytes", name := "form", desc := "(I)I" } : Jvm.MethodName) prog_2_method_17_code (4 : Nat) (Option.some Jvm.ClassFile.FieldType.int)) ∈ lw_all := lw_g (lw_at lw_m5 126 rfl) rfl
theorem q1446 : (Jvm.Cond.methodLink "ModuleEngine$Bytes" (185 : Nat) ({ cls := "ModuleEngine$Bytes", name := "table", desc := "(LModuleEngine$Row;)V" } : Jvm.MethodName)) ∈ lw_all := lw_g (lw_at lw_m5 127 rfl) rfl
theorem q1447 : (Jvm.Cond.privateMethod ({ cls := "ModuleEngine$Bytes", name := "table", desc := "(LModuleEngine$Row;)V" } : Jvm.MethodName)) ∈ lw_tbl := lw_at lw_m5 128 rfl
theorem q1448 : (Jvm.Cond.instanceMethod ({ cls := "ModuleEngine$Bytes", name := "table", desc := "(LModuleEngine$Row;)V" } : Jvm.MethodName)) ∈ lw_all := lw_g (lw_at lw_m5 129 rfl) rfl
theorem q1449 : (Jvm.Cond.code ({ cls := "ModuleEngine$Bytes", name := "table", desc := "(LModuleEngine$Row;)V" } : Jvm.MethodName) prog_2_method_20_code (2 : Nat) (Option.none : Option Jvm.ClassFile.FieldType)) ∈ lw_all := lw_g (lw_at lw_m5 130 rfl) rfl
theorem q1450 : (Jvm.Cond.methodLink "ModuleEngine$Bytes" (130 : Nat) ({ cls := "ModuleEngine$Bytes", name := "referenceType", desc := "()I" } : Jvm.MethodName)) ∈ lw_all := lw_g (lw_at lw_m5 131 rfl) rfl
theorem q1451 : (Jvm.Cond.privateMethod ({ cls := "ModuleEngine$Bytes", name := "referenceType", desc := "()I" } : Jvm.MethodName)) ∈ lw_tbl := lw_at lw_m5 132 rfl
theorem q1452 : (Jvm.Cond.instanceMethod ({ cls := "ModuleEngine$Bytes", name := "referenceType", desc := "()I" } : Jvm.MethodName)) ∈ lw_all := lw_g (lw_at lw_m5 133 rfl) rfl
theorem q1453 : (Jvm.Cond.code ({ cls := "ModuleEngine$Bytes", name := "referenceType", desc := "()I" } : Jvm.MethodName) prog_2_method_15_code (3 : Nat) (Option.some Jvm.ClassFile.FieldType.int)) ∈ lw_all := lw_g (lw_at lw_m5 134 rfl) rfl
theorem q1454 : (Jvm.Cond.methodLink "ModuleEngine$Bytes" (133 : Nat) ({ cls := "ModuleEngine$Bytes", name := "limits", desc := "(LModuleEngine$Row;)V" } : Jvm.MethodName)) ∈ lw_all := lw_g (lw_at lw_m5 135 rfl) rfl
theorem q1455 : (Jvm.Cond.privateMethod ({ cls := "ModuleEngine$Bytes", name := "limits", desc := "(LModuleEngine$Row;)V" } : Jvm.MethodName)) ∈ lw_tbl := lw_at lw_m5 136 rfl
theorem q1456 : (Jvm.Cond.instanceMethod ({ cls := "ModuleEngine$Bytes", name := "limits", desc := "(LModuleEngine$Row;)V" } : Jvm.MethodName)) ∈ lw_all := lw_g (lw_at lw_m5 137 rfl) rfl
theorem q1457 : (Jvm.Cond.code ({ cls := "ModuleEngine$Bytes", name := "limits", desc := "(LModuleEngine$Row;)V" } : Jvm.MethodName) prog_2_method_19_code (3 : Nat) (Option.none : Option Jvm.ClassFile.FieldType)) ∈ lw_all := lw_g (lw_at lw_m5 138 rfl) rfl
theorem q1458 : (Jvm.Cond.methodLink "ModuleEngine$Bytes" (188 : Nat) ({ cls := "ModuleEngine$Bytes", name := "memory", desc := "(LModuleEngine$Row;)V" } : Jvm.MethodName)) ∈ lw_all := lw_g (lw_at lw_m5 139 rfl) rfl
theorem q1459 : (Jvm.Cond.privateMethod ({ cls := "ModuleEngine$Bytes", name := "memory", desc := "(LModuleEngine$Row;)V" } : Jvm.MethodName)) ∈ lw_tbl := lw_at lw_m5 140 rfl
theorem q1460 : (Jvm.Cond.instanceMethod ({ cls := "ModuleEngine$Bytes", name := "memory", desc := "(LModuleEngine$Row;)V" } : Jvm.MethodName)) ∈ lw_all := lw_g (lw_at lw_m5 141 rfl) rfl
theorem q1461 : (Jvm.Cond.code ({ cls := "ModuleEngine$Bytes", name := "memory", desc := "(LModuleEngine$Row;)V" } : Jvm.MethodName) prog_2_method_21_code (2 : Nat) (Option.none : Option Jvm.ClassFile.FieldType)) ∈ lw_all := lw_g (lw_at lw_m5 142 rfl) rfl
theorem q1462 : (Jvm.Cond.methodLink "ModuleEngine$Bytes" (191 : Nat) ({ cls := "ModuleEngine$Bytes", name := "global", desc := "(LModuleEngine$Row;)V" } : Jvm.MethodName)) ∈ lw_all := lw_g (lw_at lw_m5 143 rfl) rfl
theorem q1463 : (Jvm.Cond.privateMethod ({ cls := "ModuleEngine$Bytes", name := "global", desc := "(LModuleEngine$Row;)V" } : Jvm.MethodName)) ∈ lw_tbl := lw_at lw_m5 144 rfl
theorem q1464 : (Jvm.Cond.instanceMethod ({ cls := "ModuleEngine$Bytes", name := "global", desc := "(LModuleEngine$Row;)V" } : Jvm.MethodName)) ∈ lw_all := lw_g (lw_at lw_m5 145 rfl) rfl
theorem q1465 : (Jvm.Cond.code ({ cls := "ModuleEngine$Bytes", name := "global", desc := "(LModuleEngine$Row;)V" } : Jvm.MethodName) prog_2_method_33_code (2 : Nat) (Option.none : Option Jvm.ClassFile.FieldType)) ∈ lw_all := lw_g (lw_at lw_m5 146 rfl) rfl
theorem q1466 : (Jvm.Cond.methodLink "ModuleEngine$Bytes" (200 : Nat) ({ cls := "ModuleEngine$Bytes", name := "expression", desc := "(LModuleEngine$Row;)V" } : Jvm.MethodName)) ∈ lw_all := lw_g (lw_at lw_m5 147 rfl) rfl
theorem q1467 : (Jvm.Cond.privateMethod ({ cls := "ModuleEngine$Bytes", name := "expression", desc := "(LModuleEngine$Row;)V" } : Jvm.MethodName)) ∈ lw_tbl := lw_at lw_m5 148 rfl
theorem q1468 : (Jvm.Cond.instanceMethod ({ cls := "ModuleEngine$Bytes", name := "expression", desc := "(LModuleEngine$Row;)V" } : Jvm.MethodName)) ∈ lw_all := lw_g (lw_at lw_m5 149 rfl) rfl
theorem q1469 : (Jvm.Cond.code ({ cls := "ModuleEngine$Bytes", name := "expression", desc := "(LModuleEngine$Row;)V" } : Jvm.MethodName) prog_2_method_31_code (2 : Nat) (Option.none : Option Jvm.ClassFile.FieldType)) ∈ lw_all := lw_g (lw_at lw_m5 150 rfl) rfl
theorem q1470 : (Jvm.Cond.methodLink "ModuleEngine$Bytes" (176 : Nat) ({ cls := "ModuleEngine$Bytes", name := "instruction", desc := "()V" } : Jvm.MethodName)) ∈ lw_all := lw_g (lw_at lw_m5 151 rfl) rfl
theorem q1471 : (Jvm.Cond.privateMethod ({ cls := "ModuleEngine$Bytes", name := "instruction", desc := "()V" } : Jvm.MethodName)) ∈ lw_tbl := lw_at lw_m5 152 rfl
theorem q1472 : (Jvm.Cond.instanceMethod ({ cls := "ModuleEngine$Bytes", name := "instruction", desc := "()V" } : Jvm.MethodName)) ∈ lw_all := lw_g (lw_at lw_m5 153 rfl) rfl
theorem q1473 : (Jvm.Cond.code ({ cls := "ModuleEngine$Bytes", name := "instruction", desc := "()V" } : Jvm.MethodName) prog_2_method_30_code (3 : Nat) (Option.none : Option Jvm.ClassFile.FieldType)) ∈ lw_all := lw_g (lw_at lw_m5 154 rfl) rfl
theorem q1474 : (Jvm.Cond.methodLink "ModuleEngine$Bytes" (157 : Nat) ({ cls := "ModuleEngine$Bytes", name := "isAlone", desc := "(I)Z" } : Jvm.MethodName)) ∈ lw_all := lw_g (lw_at lw_m5 155 rfl) rfl
theorem q1475 : (Jvm.Cond.static ({ cls := "ModuleEngine$Bytes", name := "isAlone", desc := "(I)Z" } : Jvm.MethodName)) ∈ lw_all := lw_g (lw_at lw_m5 156 rfl) rfl
theorem q1476 : (Jvm.Cond.code ({ cls := "ModuleEngine$Bytes", name := "isAlone", desc := "(I)Z" } : Jvm.MethodName) prog_2_method_27_code (1 : Nat) (Option.some Jvm.ClassFile.FieldType.boolean)) ∈ lw_all := lw_g (lw_at lw_m5 157 rfl) rfl
theorem q1477 : (Jvm.Cond.methodLink "ModuleEngine$Bytes" (160 : Nat) ({ cls := "ModuleEngine$Bytes", name := "hasWhole", desc := "(I)Z" } : Jvm.MethodName)) ∈ lw_all := lw_g (lw_at lw_m5 158 rfl) rfl
theorem q1478 : (Jvm.Cond.static ({ cls := "ModuleEngine$Bytes", name := "hasWhole", desc := "(I)Z" } : Jvm.MethodName)) ∈ lw_all := lw_g (lw_at lw_m5 159 rfl) rfl
theorem q1479 : (Jvm.Cond.code ({ cls := "ModuleEngine$Bytes", name := "hasWhole", desc := "(I)Z" } : Jvm.MethodName) prog_2_method_28_code (1 : Nat) (Option.some Jvm.ClassFile.FieldType.boolean)) ∈ lw_all := lw_g (lw_at lw_m5 160 rfl) rfl
theorem q1480 : (Jvm.Cond.methodLink "ModuleEngine$Bytes" (146 : Nat) ({ cls := "ModuleEngine$Bytes", name := "wholes", desc := "(I)V" } : Jvm.MethodName)) ∈ lw_all := lw_g (lw_at lw_m5 161 rfl) rfl
theorem q1481 : (Jvm.Cond.privateMethod ({ cls := "ModuleEngine$Bytes", name := "wholes", desc := "(I)V" } : Jvm.MethodName)) ∈ lw_tbl := lw_at lw_m5 162 rfl
theorem q1482 : (Jvm.Cond.instanceMethod ({ cls := "ModuleEngine$Bytes", name := "wholes", desc := "(I)V" } : Jvm.MethodName)) ∈ lw_all := lw_g (lw_at lw_m5 163 rfl) rfl
theorem q1483 : (Jvm.Cond.code ({ cls := "ModuleEngine$Bytes", name := "wholes", desc := "(I)V" } : Jvm.MethodName) prog_2_method_24_code (3 : Nat) (Option.none : Option Jvm.ClassFile.FieldType)) ∈ lw_all := lw_g (lw_at lw_m5 164 rfl) rfl
theorem q1484 : (Jvm.Cond.methodLink "ModuleEngine$Bytes" (163 : Nat) ({ cls := "ModuleEngine$Bytes", name := "open", desc := "(Z)V" } : Jvm.MethodName)) ∈ lw_all := lw_g (lw_at lw_m5 165 rfl) rfl
theorem q1485 : (Jvm.Cond.privateMethod ({ cls := "ModuleEngine$Bytes", name := "open", desc := "(Z)V" } : Jvm.MethodName)) ∈ lw_tbl := lw_at lw_m5 166 rfl
theorem q1486 : (Jvm.Cond.instanceMethod ({ cls := "ModuleEngine$Bytes", name := "open", desc := "(Z)V" } : Jvm.MethodName)) ∈ lw_all := lw_g (lw_at lw_m5 167 rfl) rfl
theorem q1487 : (Jvm.Cond.code ({ cls := "ModuleEngine$Bytes", name := "open", desc := "(Z)V" } : Jvm.MethodName) prog_2_method_23_code (2 : Nat) (Option.none : Option Jvm.ClassFile.FieldType)) ∈ lw_all := lw_g (lw_at lw_m5 168 rfl) rfl
theorem q1488 : (Jvm.Cond.methodLink "ModuleEngine$Bytes" (139 : Nat) ({ cls := "ModuleEngine$Bytes", name := "blockType", desc := "()V" } : Jvm.MethodName)) ∈ lw_all := lw_g (lw_at lw_m5 169 rfl) rfl
theorem q1489 : (Jvm.Cond.privateMethod ({ cls := "ModuleEngine$Bytes", name := "blockType", desc := "()V" } : Jvm.MethodName)) ∈ lw_tbl := lw_at lw_m5 170 rfl
theorem q1490 : (Jvm.Cond.instanceMethod ({ cls := "ModuleEngine$Bytes", name := "blockType", desc := "()V" } : Jvm.MethodName)) ∈ lw_all := lw_g (lw_at lw_m5 171 rfl) rfl
theorem q1491 : (Jvm.Cond.code ({ cls := "ModuleEngine$Bytes", name := "blockType", desc := "()V" } : Jvm.MethodName) prog_2_method_22_code (6 : Nat) (Option.none : Option Jvm.ClassFile.FieldType)) ∈ lw_all := lw_g (lw_at lw_m5 172 rfl) rfl
theorem q1492 : (Jvm.Cond.constantLong "ModuleEngine$Bytes" (137 : Nat) (-64 : Int64)) ∈ lw_all := lw_g (lw_at lw_m5 173 rfl) rfl
theorem q1493 : (Jvm.Cond.methodLink "ModuleEngine$Bytes" (167 : Nat) ({ cls := "ModuleEngine$Bytes", name := "elseHere", desc := "(I)V" } : Jvm.MethodName)) ∈ lw_all := lw_g (lw_at lw_m5 174 rfl) rfl
theorem q1494 : (Jvm.Cond.privateMethod ({ cls := "ModuleEngine$Bytes", name := "elseHere", desc := "(I)V" } : Jvm.MethodName)) ∈ lw_tbl := lw_at lw_m5 175 rfl
theorem q1495 : (Jvm.Cond.instanceMethod ({ cls := "ModuleEngine$Bytes", name := "elseHere", desc := "(I)V" } : Jvm.MethodName)) ∈ lw_all := lw_g (lw_at lw_m5 176 rfl) rfl
theorem q1496 : (Jvm.Cond.code ({ cls := "ModuleEngine$Bytes", name := "elseHere", desc := "(I)V" } : Jvm.MethodName) prog_2_method_26_code (3 : Nat) (Option.none : Option Jvm.ClassFile.FieldType)) ∈ lw_all := lw_g (lw_at lw_m5 177 rfl) rfl
theorem q1497 : (Jvm.Cond.methodLink "ModuleEngine$Bytes" (173 : Nat) ({ cls := "ModuleEngine$Bytes", name := "other", desc := "(II)V" } : Jvm.MethodName)) ∈ lw_all := lw_g (lw_at lw_m5 178 rfl) rfl
theorem q1498 : (Jvm.Cond.privateMethod ({ cls := "ModuleEngine$Bytes", name := "other", desc := "(II)V" } : Jvm.MethodName)) ∈ lw_tbl := lw_at lw_m5 179 rfl
theorem q1499 : (Jvm.Cond.instanceMethod ({ cls := "ModuleEngine$Bytes", name := "other", desc := "(II)V" } : Jvm.MethodName)) ∈ lw_all := lw_g (lw_at lw_m5 180 rfl) rfl
theorem q1500 : (Jvm.Cond.code ({ cls := "ModuleEngine$Bytes", name := "other", desc := "(II)V" } : Jvm.MethodName) prog_2_method_29_code (6 : Nat) (Option.none : Option Jvm.ClassFile.FieldType)) ∈ lw_all := lw_g (lw_at lw_m5 181 rfl) rfl
theorem q1501 : (Jvm.Cond.methodLink "ModuleEngine$Bytes" (154 : Nat) ({ cls := "ModuleEngine$Bytes", name := "prefixed", desc := "(I)V" } : Jvm.MethodName)) ∈ lw_all := lw_g (lw_at lw_m5 182 rfl) rfl
theorem q1502 : (Jvm.Cond.privateMethod ({ cls := "ModuleEngine$Bytes", name := "prefixed", desc := "(I)V" } : Jvm.MethodName)) ∈ lw_tbl := lw_at lw_m5 183 rfl
theorem q1503 : (Jvm.Cond.instanceMethod ({ cls := "ModuleEngine$Bytes", name := "prefixed", desc := "(I)V" } : Jvm.MethodName)) ∈ lw_all := lw_g (lw_at lw_m5 184 rfl) rfl
theorem q1504 : (Jvm.Cond.code ({ cls := "ModuleEngine$Bytes", name := "prefixed", desc := "(I)V" } : Jvm.MethodName) prog_2_method_25_code (3 : Nat) (Option.none : Option Jvm.ClassFile.FieldType)) ∈ lw_all := lw_g (lw_at lw_m5 185 rfl) rfl
theorem q1505 : (Jvm.Cond.methodLink "ModuleEngine$Bytes" (241 : Nat) ({ cls := "ModuleEngine$Bytes", name := "export", desc := "()V" } : Jvm.MethodName)) ∈ lw_all := lw_g (lw_at lw_m5 186 rfl) rfl
theorem q1506 : (Jvm.Cond.privateMethod ({ cls := "ModuleEngine$Bytes", name := "export", desc := "()V" } : Jvm.MethodName)) ∈ lw_tbl := lw_at lw_m5 187 rfl
theorem q1507 : (Jvm.Cond.instanceMethod ({ cls := "ModuleEngine$Bytes", name := "export", desc := "()V" } : Jvm.MethodName)) ∈ lw_all := lw_g (lw_at lw_m5 188 rfl) rfl
theorem q1508 : (Jvm.Cond.code ({ cls := "ModuleEngine$Bytes", name := "export", desc := "()V" } : Jvm.MethodName) prog_2_method_34_code (2 : Nat) (Option.none : Option Jvm.ClassFile.FieldType)) ∈ lw_all := lw_g (lw_at lw_m5 189 rfl) rfl
theorem q1509 : (Jvm.Cond.methodLink "ModuleEngine$Bytes" (244 : Nat) ({ cls := "ModuleEngine$Bytes", name := "element", desc := "()V" } : Jvm.MethodName)) ∈ lw_all := lw_g (lw_at lw_m5 190 rfl) rfl
theorem q1510 : (Jvm.Cond.privateMethod ({ cls := "ModuleEngine$Bytes", name := "element", desc := "()V" } : Jvm.MethodName)) ∈ lw_tbl := lw_at lw_m5 191 rfl
theorem q1511 : (Jvm.Cond.instanceMethod ({ cls := "ModuleEngine$Bytes", name := "element", desc := "()V" } : Jvm.MethodName)) ∈ lw_all := lw_g (lw_at lw_m5 192 rfl) rfl
theorem q1512 : (Jvm.Cond.code ({ cls := "ModuleEngine$Bytes", name := "element", desc := "()V" } : Jvm.MethodName) prog_2_method_36_code (10 : Nat) (Option.none : Option Jvm.ClassFile.FieldType)) ∈ lw_all := lw_g (lw_at lw_m5 193 rfl) rfl
theorem q1513 : (Jvm.Cond.methodLink "ModuleEngine$Bytes" (197 : Nat) ({ cls := "ModuleEngine$Bytes", name := "small", desc := "(I)I" } : Jvm.MethodName)) ∈ lw_all := lw_g (lw_at lw_m5 194 rfl) rfl
theorem q1514 : (Jvm.Cond.privateMethod ({ cls := "ModuleEngine$Bytes", name := "small", desc := "(I)I" } : Jvm.MethodName)) ∈ lw_tbl := lw_at lw_m5 195 rfl
theorem q1515 : (Jvm.Cond.instanceMethod ({ cls := "ModuleEngine$Bytes", name := "small", desc := "(I)I" } : Jvm.MethodName)) ∈ lw_all := lw_g (lw_at lw_m5 196 rfl) rfl
theorem q1516 : (Jvm.Cond.code ({ cls := "ModuleEngine$Bytes", name := "small", desc := "(I)I" } : Jvm.MethodName) prog_2_method_35_code (4 : Nat) (Option.some Jvm.ClassFile.FieldType.int)) ∈ lw_all := lw_g (lw_at lw_m5 197 rfl) rfl
theorem q1517 : (Jvm.Cond.methodLink "ModuleEngine$Bytes" (247 : Nat) ({ cls := "ModuleEngine$Bytes", name := "body", desc := "()V" } : Jvm.MethodName)) ∈ lw_all := lw_g (lw_at lw_m5 198 rfl) rfl
theorem q1518 : (Jvm.Cond.privateMethod ({ cls := "ModuleEngine$Bytes", name := "body", desc := "()V" } : Jvm.MethodName)) ∈ lw_tbl := lw_at lw_m5 199 rfl
theorem q1519 : (Jvm.Cond.instanceMethod ({ cls := "ModuleEngine$Bytes", name := "body", desc := "()V" } : Jvm.MethodName)) ∈ lw_all := lw_g (lw_at lw_m5 200 rfl) rfl
theorem q1520 : (Jvm.Cond.code ({ cls := "ModuleEngine$Bytes", name := "body", desc := "()V" } : Jvm.MethodName) prog_2_method_37_code (11 : Nat) (Option.none : Option Jvm.ClassFile.FieldType)) ∈ lw_all := lw_g (lw_at lw_m5 201 rfl) rfl
theorem q1521 : (Jvm.Cond.constantLong "ModuleEngine$Bytes" (212 : Nat) (4294967295 : Int64)) ∈ lw_all := lw_g (lw_at lw_m5 202 rfl) rfl
theorem q1522 : (Jvm.Cond.methodLink "ModuleEngine$Bytes" (250 : Nat) ({ cls := "ModuleEngine$Bytes", name := "datum", desc := "()V" } : Jvm.MethodName)) ∈ lw_all := lw_g (lw_at lw_m5 203 rfl) rfl
theorem q1523 : (Jvm.Cond.privateMethod ({ cls := "ModuleEngine$Bytes", name := "datum", desc := "()V" } : Jvm.MethodName)) ∈ lw_tbl := lw_at lw_m5 204 rfl
theorem q1524 : (Jvm.Cond.instanceMethod ({ cls := "ModuleEngine$Bytes", name := "datum", desc := "()V" } : Jvm.MethodName)) ∈ lw_all := lw_g (lw_at lw_m5 205 rfl) rfl
theorem q1525 : (Jvm.Cond.code ({ cls := "ModuleEngine$Bytes", name := "datum", desc := "()V" } : Jvm.MethodName) prog_2_method_38_code (7 : Nat) (Option.none : Option Jvm.ClassFile.FieldType)) ∈ lw_all := lw_g (lw_at lw_m5 206 rfl) rfl
theorem in_X1 : ∀ w ∈ wsX10, w ∈ lw_all := lw_in wsX10 [550, 552, 554, 556, 558, 560, 562, 564, 566, 568] (by decide +kernel) (by decide +kernel)

/-! ModuleEngine$Module -/
set_option maxRecDepth 100000
def RX2 : String := "ModuleEngine$Module"
def TX2 : u_T := fun k => match k with
  | 0 => ("ModuleEngine$Module", "bytes", "[B", false)
  | 1 => ("ModuleEngine$Module", "types", "LModuleEngine$Row;", true)
  | 2 => ("ModuleEngine$Module", "signatures", "LModuleEngine$Row;", true)
  | 3 => ("ModuleEngine$Module", "imports", "LModuleEngine$Row;", true)
  | 4 => ("ModuleEngine$Module", "functions", "LModuleEngine$Row;", true)
  | 5 => ("ModuleEngine$Module", "tables", "LModuleEngine$Row;", true)
  | 6 => ("ModuleEngine$Module", "memories", "LModuleEngine$Row;", true)
  | 7 => ("ModuleEngine$Module", "globals", "LModuleEngine$Row;", true)
  | 8 => ("ModuleEngine$Module", "exports", "LModuleEngine$Row;", true)
  | 9 => ("ModuleEngine$Module", "elements", "LModuleEngine$Row;", true)
  | 10 => ("ModuleEngine$Module", "items", "LModuleEngine$Row;", true)
  | 11 => ("ModuleEngine$Module", "bodies", "LModuleEngine$Row;", true)
  | 12 => ("ModuleEngine$Module", "locals", "LModuleEngine$Row;", true)
  | 13 => ("ModuleEngine$Module", "data", "LModuleEngine$Row;", true)
  | 14 => ("ModuleEngine$Module", "customs", "LModuleEngine$Row;", true)
  | 15 => ("ModuleEngine$Module", "rows", "[LModuleEngine$Row;", true)
  | 16 => ("ModuleEngine$Module", "sections", "I", false)
  | 17 => ("ModuleEngine$Module", "start", "I", false)
  | 18 => ("ModuleEngine$Module", "size", "I", false)
  | 19 => ("ModuleEngine$Module", "hasStart", "Z", false)
  | _ => ("ModuleEngine$Module", "saidData", "J", false)
def tyX2 : Nat → FieldType := fun k => match k with
  | 0 => .array .byte
  | 1 => .object "ModuleEngine$Row"
  | 2 => .object "ModuleEngine$Row"
  | 3 => .object "ModuleEngine$Row"
  | 4 => .object "ModuleEngine$Row"
  | 5 => .object "ModuleEngine$Row"
  | 6 => .object "ModuleEngine$Row"
  | 7 => .object "ModuleEngine$Row"
  | 8 => .object "ModuleEngine$Row"
  | 9 => .object "ModuleEngine$Row"
  | 10 => .object "ModuleEngine$Row"
  | 11 => .object "ModuleEngine$Row"
  | 12 => .object "ModuleEngine$Row"
  | 13 => .object "ModuleEngine$Row"
  | 14 => .object "ModuleEngine$Row"
  | 15 => .array (.object "ModuleEngine$Row")
  | 16 => .int
  | 17 => .int
  | 18 => .int
  | 19 => .boolean
  | _ => .long
abbrev wsX20 : List Cond := u_ws RX2 TX2 21
set_option maxRecDepth 100000 in
theorem nmX2 : ∀ a, a < 21 → ∀ b, b < 21 → a ≠ b → (TX2 a).2.1 ≠ (TX2 b).2.1 := by decide +kernel
set_option maxRecDepth 100000 in
theorem tyX2_ok : ∀ k, k < 21 → parseFieldDescriptor (TX2 k).2.2.1 = some (tyX2 k) := by decide +kernel
abbrev cX2_init : ByteArray := prog_6_method_1_code
def yX2_init : MethodName := ⟨RX2, "<init>", "()V"⟩
abbrev cX2_begin : ByteArray := prog_6_method_2_code
def yX2_begin : MethodName := ⟨RX2, "begin", "([BI)V"⟩
abbrev cX2_wide : ByteArray := prog_6_method_3_code
def yX2_wide : MethodName := ⟨RX2, "wide", "(I)J"⟩
abbrev cX2_typeCount : ByteArray := prog_6_method_4_code
def yX2_typeCount : MethodName := ⟨RX2, "typeCount", "()I"⟩
abbrev cX2_parameters : ByteArray := prog_6_method_5_code
def yX2_parameters : MethodName := ⟨RX2, "parameters", "(I)I"⟩
abbrev cX2_results : ByteArray := prog_6_method_7_code
def yX2_results : MethodName := ⟨RX2, "results", "(I)I"⟩
abbrev cX2_parameter : ByteArray := prog_6_method_6_code
def yX2_parameter : MethodName := ⟨RX2, "parameter", "(II)I"⟩
abbrev cX2_result : ByteArray := prog_6_method_8_code
def yX2_result : MethodName := ⟨RX2, "result", "(II)I"⟩
theorem q362 : (Jvm.Cond.initialized "ModuleEngine$Module") ∈ lw_all := lw_g (lw_at lw_m1 3 rfl) rfl
theorem q403 : (Jvm.Cond.instantiable "ModuleEngine$Module" (21 : Nat)) ∈ lw_all := lw_g (lw_at lw_m1 44 rfl) rfl
theorem q405 : (Jvm.Cond.instanceMethod ({ cls := "ModuleEngine$Module", name := "<init>", desc := "()V" } : Jvm.MethodName)) ∈ lw_all := lw_g (lw_at lw_m1 46 rfl) rfl
theorem q406 : (Jvm.Cond.code ({ cls := "ModuleEngine$Module", name := "<init>", desc := "()V" } : Jvm.MethodName) prog_6_method_1_code (1 : Nat) (Option.none : Option Jvm.ClassFile.FieldType)) ∈ lw_all := lw_g (lw_at lw_m1 47 rfl) rfl
theorem q407 : (Jvm.Cond.methodLink "ModuleEngine$Module" (1 : Nat) ({ cls := "java/lang/Object", name := "<init>", desc := "()V" } : Jvm.MethodName)) ∈ lw_all := lw_g (lw_at lw_m1 48 rfl) rfl
theorem q408 : (Jvm.Cond.classLink "ModuleEngine$Module" (13 : Nat) "ModuleEngine$Row") ∈ lw_all := lw_g (lw_at lw_m1 49 rfl) rfl
theorem q410 : (Jvm.Cond.methodLinkNest "ModuleEngine$Module" (15 : Nat) ({ cls := "ModuleEngine$Row", name := "<init>", desc := "()V" } : Jvm.MethodName) "ModuleEngine") ∈ lw_tbl := lw_at lw_m1 51 rfl
theorem q424 : (Jvm.Cond.fieldLink "ModuleEngine$Module" (7 : Nat) "ModuleEngine$Module" "bytes" "[B") ∈ lw_all := lw_g (lw_at lw_m1 65 rfl) rfl
theorem q428 : (Jvm.Cond.fieldLink "ModuleEngine$Module" (16 : Nat) "ModuleEngine$Module" "types" "LModuleEngine$Row;") ∈ lw_all := lw_g (lw_at lw_m1 69 rfl) rfl
theorem q430 : (Jvm.Cond.fieldLink "ModuleEngine$Module" (20 : Nat) "ModuleEngine$Module" "signatures" "LModuleEngine$Row;") ∈ lw_all := lw_g (lw_at lw_m1 71 rfl) rfl
theorem q432 : (Jvm.Cond.fieldLink "ModuleEngine$Module" (23 : Nat) "ModuleEngine$Module" "imports" "LModuleEngine$Row;") ∈ lw_all := lw_g (lw_at lw_m1 73 rfl) rfl
theorem q436 : (Jvm.Cond.fieldLink "ModuleEngine$Module" (26 : Nat) "ModuleEngine$Module" "functions" "LModuleEngine$Row;") ∈ lw_all := lw_g (lw_at lw_m1 77 rfl) rfl
theorem q440 : (Jvm.Cond.fieldLink "ModuleEngine$Module" (29 : Nat) "ModuleEngine$Module" "tables" "LModuleEngine$Row;") ∈ lw_all := lw_g (lw_at lw_m1 81 rfl) rfl
theorem q444 : (Jvm.Cond.fieldLink "ModuleEngine$Module" (32 : Nat) "ModuleEngine$Module" "memories" "LModuleEngine$Row;") ∈ lw_all := lw_g (lw_at lw_m1 85 rfl) rfl
theorem q448 : (Jvm.Cond.fieldLink "ModuleEngine$Module" (35 : Nat) "ModuleEngine$Module" "globals" "LModuleEngine$Row;") ∈ lw_all := lw_g (lw_at lw_m1 89 rfl) rfl
theorem q452 : (Jvm.Cond.fieldLink "ModuleEngine$Module" (38 : Nat) "ModuleEngine$Module" "exports" "LModuleEngine$Row;") ∈ lw_all := lw_g (lw_at lw_m1 93 rfl) rfl
theorem q456 : (Jvm.Cond.fieldLink "ModuleEngine$Module" (41 : Nat) "ModuleEngine$Module" "elements" "LModuleEngine$Row;") ∈ lw_all := lw_g (lw_at lw_m1 97 rfl) rfl
theorem q460 : (Jvm.Cond.fieldLink "ModuleEngine$Module" (44 : Nat) "ModuleEngine$Module" "items" "LModuleEngine$Row;") ∈ lw_all := lw_g (lw_at lw_m1 101 rfl) rfl
theorem q464 : (Jvm.Cond.fieldLink "ModuleEngine$Module" (47 : Nat) "ModuleEngine$Module" "bodies" "LModuleEngine$Row;") ∈ lw_all := lw_g (lw_at lw_m1 105 rfl) rfl
theorem q468 : (Jvm.Cond.fieldLink "ModuleEngine$Module" (50 : Nat) "ModuleEngine$Module" "locals" "LModuleEngine$Row;") ∈ lw_all := lw_g (lw_at lw_m1 109 rfl) rfl
theorem q472 : (Jvm.Cond.fieldLink "ModuleEngine$Module" (53 : Nat) "ModuleEngine$Module" "data" "LModuleEngine$Row;") ∈ lw_all := lw_g (lw_at lw_m1 113 rfl) rfl
theorem q476 : (Jvm.Cond.fieldLink "ModuleEngine$Module" (56 : Nat) "ModuleEngine$Module" "customs" "LModuleEngine$Row;") ∈ lw_all := lw_g (lw_at lw_m1 117 rfl) rfl
theorem q478 : (Jvm.Cond.fieldLink "ModuleEngine$Module" (59 : Nat) "ModuleEngine$Module" "rows" "[LModuleEngine$Row;") ∈ lw_all := lw_g (lw_at lw_m1 119 rfl) rfl
theorem q479 : (Jvm.Cond.fieldLink "ModuleEngine$Module" (71 : Nat) "ModuleEngine$Module" "sections" "I") ∈ lw_all := lw_g (lw_at lw_m1 120 rfl) rfl
theorem q484 : (Jvm.Cond.fieldLink "ModuleEngine$Module" (63 : Nat) "ModuleEngine$Module" "size" "I") ∈ lw_all := lw_g (lw_at lw_m1 125 rfl) rfl
theorem q486 : (Jvm.Cond.fieldLink "ModuleEngine$Module" (74 : Nat) "ModuleEngine$Module" "hasStart" "Z") ∈ lw_all := lw_g (lw_at lw_m1 127 rfl) rfl
theorem q490 : (Jvm.Cond.fieldLink "ModuleEngine$Module" (80 : Nat) "ModuleEngine$Module" "saidData" "J") ∈ lw_all := lw_g (lw_at lw_m1 131 rfl) rfl
theorem q492 : (Jvm.Cond.lays "ModuleEngine$Module" "ModuleEngine$Module" "bytes" "[B") ∈ lw_all := lw_g (lw_at lw_m1 133 rfl) rfl
theorem q493 : (Jvm.Cond.soleField "ModuleEngine$Module" "bytes") ∈ lw_all := lw_g (lw_at lw_m1 134 rfl) rfl
theorem q494 : (Jvm.Cond.laysFinal "ModuleEngine$Module" "ModuleEngine$Module" "types" "LModuleEngine$Row;") ∈ lw_all := lw_g (lw_at lw_m1 135 rfl) rfl
theorem q495 : (Jvm.Cond.soleField "ModuleEngine$Module" "types") ∈ lw_all := lw_g (lw_at lw_m1 136 rfl) rfl
theorem q496 : (Jvm.Cond.laysFinal "ModuleEngine$Module" "ModuleEngine$Module" "signatures" "LModuleEngine$Row;") ∈ lw_all := lw_g (lw_at lw_m1 137 rfl) rfl
theorem q497 : (Jvm.Cond.soleField "ModuleEngine$Module" "signatures") ∈ lw_all := lw_g (lw_at lw_m1 138 rfl) rfl
theorem q498 : (Jvm.Cond.laysFinal "ModuleEngine$Module" "ModuleEngine$Module" "imports" "LModuleEngine$Row;") ∈ lw_all := lw_g (lw_at lw_m1 139 rfl) rfl
theorem q499 : (Jvm.Cond.soleField "ModuleEngine$Module" "imports") ∈ lw_all := lw_g (lw_at lw_m1 140 rfl) rfl
theorem q500 : (Jvm.Cond.laysFinal "ModuleEngine$Module" "ModuleEngine$Module" "functions" "LModuleEngine$Row;") ∈ lw_all := lw_g (lw_at lw_m1 141 rfl) rfl
theorem q501 : (Jvm.Cond.soleField "ModuleEngine$Module" "functions") ∈ lw_all := lw_g (lw_at lw_m1 142 rfl) rfl
theorem q502 : (Jvm.Cond.laysFinal "ModuleEngine$Module" "ModuleEngine$Module" "tables" "LModuleEngine$Row;") ∈ lw_all := lw_g (lw_at lw_m1 143 rfl) rfl
theorem q503 : (Jvm.Cond.soleField "ModuleEngine$Module" "tables") ∈ lw_all := lw_g (lw_at lw_m1 144 rfl) rfl
theorem q504 : (Jvm.Cond.laysFinal "ModuleEngine$Module" "ModuleEngine$Module" "memories" "LModuleEngine$Row;") ∈ lw_all := lw_g (lw_at lw_m1 145 rfl) rfl
theorem q505 : (Jvm.Cond.soleField "ModuleEngine$Module" "memories") ∈ lw_all := lw_g (lw_at lw_m1 146 rfl) rfl
theorem q506 : (Jvm.Cond.laysFinal "ModuleEngine$Module" "ModuleEngine$Module" "globals" "LModuleEngine$Row;") ∈ lw_all := lw_g (lw_at lw_m1 147 rfl) rfl
theorem q507 : (Jvm.Cond.soleField "ModuleEngine$Module" "globals") ∈ lw_all := lw_g (lw_at lw_m1 148 rfl) rfl
theorem q508 : (Jvm.Cond.laysFinal "ModuleEngine$Module" "ModuleEngine$Module" "exports" "LModuleEngine$Row;") ∈ lw_all := lw_g (lw_at lw_m1 149 rfl) rfl
theorem q509 : (Jvm.Cond.soleField "ModuleEngine$Module" "exports") ∈ lw_all := lw_g (lw_at lw_m1 150 rfl) rfl
theorem q510 : (Jvm.Cond.laysFinal "ModuleEngine$Module" "ModuleEngine$Module" "elements" "LModuleEngine$Row;") ∈ lw_all := lw_g (lw_at lw_m1 151 rfl) rfl
theorem q511 : (Jvm.Cond.soleField "ModuleEngine$Module" "elements") ∈ lw_all := lw_g (lw_at lw_m1 152 rfl) rfl
theorem q512 : (Jvm.Cond.laysFinal "ModuleEngine$Module" "ModuleEngine$Module" "items" "LModuleEngine$Row;") ∈ lw_all := lw_g (lw_at lw_m1 153 rfl) rfl
theorem q513 : (Jvm.Cond.soleField "ModuleEngine$Module" "items") ∈ lw_all := lw_g (lw_at lw_m1 154 rfl) rfl
theorem q514 : (Jvm.Cond.laysFinal "ModuleEngine$Module" "ModuleEngine$Module" "bodies" "LModuleEngine$Row;") ∈ lw_all := lw_g (lw_at lw_m1 155 rfl) rfl
theorem q515 : (Jvm.Cond.soleField "ModuleEngine$Module" "bodies") ∈ lw_all := lw_g (lw_at lw_m1 156 rfl) rfl
theorem q516 : (Jvm.Cond.laysFinal "ModuleEngine$Module" "ModuleEngine$Module" "locals" "LModuleEngine$Row;") ∈ lw_all := lw_g (lw_at lw_m1 157 rfl) rfl
theorem q517 : (Jvm.Cond.soleField "ModuleEngine$Module" "locals") ∈ lw_all := lw_g (lw_at lw_m1 158 rfl) rfl
theorem q518 : (Jvm.Cond.laysFinal "ModuleEngine$Module" "ModuleEngine$Module" "data" "LModuleEngine$Row;") ∈ lw_all := lw_g (lw_at lw_m1 159 rfl) rfl
theorem q519 : (Jvm.Cond.soleField "ModuleEngine$Module" "data") ∈ lw_all := lw_g (lw_at lw_m1 160 rfl) rfl
theorem q520 : (Jvm.Cond.laysFinal "ModuleEngine$Module" "ModuleEngine$Module" "customs" "LModuleEngine$Row;") ∈ lw_all := lw_g (lw_at lw_m1 161 rfl) rfl
theorem q521 : (Jvm.Cond.soleField "ModuleEngine$Module" "customs") ∈ lw_all := lw_g (lw_at lw_m1 162 rfl) rfl
theorem q522 : (Jvm.Cond.laysFinal "ModuleEngine$Module" "ModuleEngine$Module" "rows" "[LModuleEngine$Row;") ∈ lw_all := lw_g (lw_at lw_m1 163 rfl) rfl
theorem q523 : (Jvm.Cond.soleField "ModuleEngine$Module" "rows") ∈ lw_all := lw_g (lw_at lw_m1 164 rfl) rfl
theorem q524 : (Jvm.Cond.lays "ModuleEngine$Module" "ModuleEngine$Module" "sections" "I") ∈ lw_all := lw_g (lw_at lw_m1 165 rfl) rfl
theorem q525 : (Jvm.Cond.soleField "ModuleEngine$Module" "sections") ∈ lw_all := lw_g (lw_at lw_m1 166 rfl) rfl
theorem q526 : (Jvm.Cond.lays "ModuleEngine$Module" "ModuleEngine$Module" "start" "I") ∈ lw_all := lw_g (lw_at lw_m1 167 rfl) rfl
theorem q527 : (Jvm.Cond.soleField "ModuleEngine$Module" "start") ∈ lw_all := lw_g (lw_at lw_m1 168 rfl) rfl
theorem q528 : (Jvm.Cond.lays "ModuleEngine$Module" "ModuleEngine$Module" "size" "I") ∈ lw_all := lw_g (lw_at lw_m1 169 rfl) rfl
theorem q529 : (Jvm.Cond.soleField "ModuleEngine$Module" "size") ∈ lw_all := lw_g (lw_at lw_m1 170 rfl) rfl
theorem q530 : (Jvm.Cond.lays "ModuleEngine$Module" "ModuleEngine$Module" "hasStart" "Z") ∈ lw_all := lw_g (lw_at lw_m1 171 rfl) rfl
theorem q531 : (Jvm.Cond.soleField "ModuleEngine$Module" "hasStart") ∈ lw_all := lw_g (lw_at lw_m1 172 rfl) rfl
theorem q532 : (Jvm.Cond.lays "ModuleEngine$Module" "ModuleEngine$Module" "saidData" "J") ∈ lw_all := lw_g (lw_at lw_m1 173 rfl) rfl
theorem q533 : (Jvm.Cond.soleField "ModuleEngine$Module" "saidData") ∈ lw_all := lw_g (lw_at lw_m1 174 rfl) rfl
theorem q534 : (Jvm.Cond.superclass "ModuleEngine$Module" "java/lang/Object") ∈ lw_all := lw_g (lw_at lw_m1 175 rfl) rfl
theorem q1277 : (Jvm.Cond.instanceMethod ({ cls := "ModuleEngine$Module", name := "begin", desc := "([BI)V" } : Jvm.MethodName)) ∈ lw_all := lw_g (lw_at lw_m4 198 rfl) rfl
theorem q1278 : (Jvm.Cond.selects "ModuleEngine$Module" ({ cls := "ModuleEngine$Module", name := "begin", desc := "([BI)V" } : Jvm.MethodName) ({ cls := "ModuleEngine$Module", name := "begin", desc := "([BI)V" } : Jvm.MethodName)) ∈ lw_all := lw_g (lw_at lw_m4 199 rfl) rfl
theorem q1279 : (Jvm.Cond.code ({ cls := "ModuleEngine$Module", name := "begin", desc := "([BI)V" } : Jvm.MethodName) prog_6_method_2_code (7 : Nat) (Option.none : Option Jvm.ClassFile.FieldType)) ∈ lw_all := lw_g (lw_at lw_m4 200 rfl) rfl
theorem q1280 : (Jvm.Cond.methodLink "ModuleEngine$Module" (67 : Nat) ({ cls := "ModuleEngine$Row", name := "cut", desc := "(I)V" } : Jvm.MethodName)) ∈ lw_all := lw_g (lw_at lw_m4 201 rfl) rfl
theorem q1284 : (Jvm.Cond.constantLong "ModuleEngine$Module" (78 : Nat) (-1 : Int64)) ∈ lw_all := lw_g (lw_at lw_m4 205 rfl) rfl
theorem q1376 : (Jvm.Cond.static ({ cls := "ModuleEngine$Module", name := "wide", desc := "(I)J" } : Jvm.MethodName)) ∈ lw_all := lw_g (lw_at lw_m5 57 rfl) rfl
theorem q1377 : (Jvm.Cond.code ({ cls := "ModuleEngine$Module", name := "wide", desc := "(I)J" } : Jvm.MethodName) prog_6_method_3_code (1 : Nat) (Option.some Jvm.ClassFile.FieldType.long)) ∈ lw_all := lw_g (lw_at lw_m5 58 rfl) rfl
theorem q1378 : (Jvm.Cond.constantLong "ModuleEngine$Module" (84 : Nat) (4294967295 : Int64)) ∈ lw_all := lw_g (lw_at lw_m5 59 rfl) rfl
theorem q1549 : (Jvm.Cond.instanceMethod ({ cls := "ModuleEngine$Module", name := "typeCount", desc := "()I" } : Jvm.MethodName)) ∈ lw_all := lw_g (lw_at lw_m5 230 rfl) rfl
theorem q1550 : (Jvm.Cond.selects "ModuleEngine$Module" ({ cls := "ModuleEngine$Module", name := "typeCount", desc := "()I" } : Jvm.MethodName) ({ cls := "ModuleEngine$Module", name := "typeCount", desc := "()I" } : Jvm.MethodName)) ∈ lw_all := lw_g (lw_at lw_m5 231 rfl) rfl
theorem q1551 : (Jvm.Cond.code ({ cls := "ModuleEngine$Module", name := "typeCount", desc := "()I" } : Jvm.MethodName) prog_6_method_4_code (1 : Nat) (Option.some Jvm.ClassFile.FieldType.int)) ∈ lw_all := lw_g (lw_at lw_m5 232 rfl) rfl
theorem q1552 : (Jvm.Cond.methodLink "ModuleEngine$Module" (86 : Nat) ({ cls := "ModuleEngine$Row", name := "size", desc := "()I" } : Jvm.MethodName)) ∈ lw_all := lw_g (lw_at lw_m5 233 rfl) rfl
theorem q1558 : (Jvm.Cond.instanceMethod ({ cls := "ModuleEngine$Module", name := "parameters", desc := "(I)I" } : Jvm.MethodName)) ∈ lw_all := lw_g (lw_at lw_m5 239 rfl) rfl
theorem q1559 : (Jvm.Cond.selects "ModuleEngine$Module" ({ cls := "ModuleEngine$Module", name := "parameters", desc := "(I)I" } : Jvm.MethodName) ({ cls := "ModuleEngine$Module", name := "parameters", desc := "(I)I" } : Jvm.MethodName)) ∈ lw_all := lw_g (lw_at lw_m6 0 rfl) rfl
theorem q1560 : (Jvm.Cond.code ({ cls := "ModuleEngine$Module", name := "parameters", desc := "(I)I" } : Jvm.MethodName) prog_6_method_5_code (2 : Nat) (Option.some Jvm.ClassFile.FieldType.int)) ∈ lw_all := lw_g (lw_at lw_m6 1 rfl) rfl
theorem q1561 : (Jvm.Cond.methodLink "ModuleEngine$Module" (89 : Nat) ({ cls := "ModuleEngine$Row", name := "at", desc := "(I)I" } : Jvm.MethodName)) ∈ lw_all := lw_g (lw_at lw_m6 2 rfl) rfl
theorem q1563 : (Jvm.Cond.instanceMethod ({ cls := "ModuleEngine$Module", name := "results", desc := "(I)I" } : Jvm.MethodName)) ∈ lw_all := lw_g (lw_at lw_m6 4 rfl) rfl
theorem q1564 : (Jvm.Cond.selects "ModuleEngine$Module" ({ cls := "ModuleEngine$Module", name := "results", desc := "(I)I" } : Jvm.MethodName) ({ cls := "ModuleEngine$Module", name := "results", desc := "(I)I" } : Jvm.MethodName)) ∈ lw_all := lw_g (lw_at lw_m6 5 rfl) rfl
theorem q1565 : (Jvm.Cond.code ({ cls := "ModuleEngine$Module", name := "results", desc := "(I)I" } : Jvm.MethodName) prog_6_method_7_code (2 : Nat) (Option.some Jvm.ClassFile.FieldType.int)) ∈ lw_all := lw_g (lw_at lw_m6 6 rfl) rfl
theorem q1566 : (Jvm.Cond.methodLink "ModuleEngine$Module" (93 : Nat) ({ cls := "ModuleEngine$Module", name := "parameters", desc := "(I)I" } : Jvm.MethodName)) ∈ lw_all := lw_g (lw_at lw_m6 7 rfl) rfl
theorem q1776 : (Jvm.Cond.instanceMethod ({ cls := "ModuleEngine$Module", name := "parameter", desc := "(II)I" } : Jvm.MethodName)) ∈ lw_all := lw_g (lw_at lw_m6 217 rfl) rfl
theorem q1777 : (Jvm.Cond.selects "ModuleEngine$Module" ({ cls := "ModuleEngine$Module", name := "parameter", desc := "(II)I" } : Jvm.MethodName) ({ cls := "ModuleEngine$Module", name := "parameter", desc := "(II)I" } : Jvm.MethodName)) ∈ lw_all := lw_g (lw_at lw_m6 218 rfl) rfl
theorem q1778 : (Jvm.Cond.code ({ cls := "ModuleEngine$Module", name := "parameter", desc := "(II)I" } : Jvm.MethodName) prog_6_method_6_code (3 : Nat) (Option.some Jvm.ClassFile.FieldType.int)) ∈ lw_all := lw_g (lw_at lw_m6 219 rfl) rfl
theorem q1899 : (Jvm.Cond.instanceMethod ({ cls := "ModuleEngine$Module", name := "result", desc := "(II)I" } : Jvm.MethodName)) ∈ lw_all := lw_g (lw_at lw_m7 100 rfl) rfl
theorem q1900 : (Jvm.Cond.selects "ModuleEngine$Module" ({ cls := "ModuleEngine$Module", name := "result", desc := "(II)I" } : Jvm.MethodName) ({ cls := "ModuleEngine$Module", name := "result", desc := "(II)I" } : Jvm.MethodName)) ∈ lw_all := lw_g (lw_at lw_m7 101 rfl) rfl
theorem q1901 : (Jvm.Cond.code ({ cls := "ModuleEngine$Module", name := "result", desc := "(II)I" } : Jvm.MethodName) prog_6_method_8_code (3 : Nat) (Option.some Jvm.ClassFile.FieldType.int)) ∈ lw_all := lw_g (lw_at lw_m7 102 rfl) rfl
theorem in_X2 : ∀ w ∈ wsX20, w ∈ lw_all := lw_in wsX20 [492, 494, 496, 498, 500, 502, 504, 506, 508, 510, 512, 514, 516, 518, 520, 522, 524, 526, 528, 530, 532] (by decide +kernel) (by decide +kernel)

/-! ModuleEngine$Row -/
set_option maxRecDepth 100000
def RX3 : String := "ModuleEngine$Row"
def TX3 : u_T := fun k => match k with
  | 0 => ("ModuleEngine$Row", "cells", "[I", false)
  | _ => ("ModuleEngine$Row", "size", "I", false)
def tyX3 : Nat → FieldType := fun k => match k with
  | 0 => .array .int
  | _ => .int
abbrev wsX30 : List Cond := u_ws RX3 TX3 2
theorem nmX3 : ∀ a, a < 2 → ∀ b, b < 2 → a ≠ b → (TX3 a).2.1 ≠ (TX3 b).2.1 := by decide +kernel
theorem tyX3_ok : ∀ k, k < 2 → parseFieldDescriptor (TX3 k).2.2.1 = some (tyX3 k) := by decide +kernel
abbrev cX3_init : ByteArray := prog_12_method_1_code
def yX3_init : MethodName := ⟨RX3, "<init>", "()V"⟩
abbrev cX3_cut : ByteArray := prog_12_method_6_code
def yX3_cut : MethodName := ⟨RX3, "cut", "(I)V"⟩
abbrev cX3_add : ByteArray := prog_12_method_2_code
def yX3_add : MethodName := ⟨RX3, "add", "(I)V"⟩
abbrev cX3_at : ByteArray := prog_12_method_3_code
def yX3_at : MethodName := ⟨RX3, "at", "(I)I"⟩
abbrev cX3_size : ByteArray := prog_12_method_5_code
def yX3_size : MethodName := ⟨RX3, "size", "()I"⟩
abbrev cX3_set : ByteArray := prog_12_method_4_code
def yX3_set : MethodName := ⟨RX3, "set", "(II)V"⟩
abbrev cX3_last : ByteArray := prog_12_method_7_code
def yX3_last : MethodName := ⟨RX3, "last", "()I"⟩
theorem q363 : (Jvm.Cond.initialized "ModuleEngine$Row") ∈ lw_all := lw_g (lw_at lw_m1 4 rfl) rfl
theorem q409 : (Jvm.Cond.instantiable "ModuleEngine$Row" (2 : Nat)) ∈ lw_all := lw_g (lw_at lw_m1 50 rfl) rfl
theorem q411 : (Jvm.Cond.instanceMethod ({ cls := "ModuleEngine$Row", name := "<init>", desc := "()V" } : Jvm.MethodName)) ∈ lw_all := lw_g (lw_at lw_m1 52 rfl) rfl
theorem q412 : (Jvm.Cond.code ({ cls := "ModuleEngine$Row", name := "<init>", desc := "()V" } : Jvm.MethodName) prog_12_method_1_code (1 : Nat) (Option.none : Option Jvm.ClassFile.FieldType)) ∈ lw_all := lw_g (lw_at lw_m1 53 rfl) rfl
theorem q413 : (Jvm.Cond.methodLink "ModuleEngine$Row" (1 : Nat) ({ cls := "java/lang/Object", name := "<init>", desc := "()V" } : Jvm.MethodName)) ∈ lw_all := lw_g (lw_at lw_m1 54 rfl) rfl
theorem q414 : (Jvm.Cond.fieldLink "ModuleEngine$Row" (7 : Nat) "ModuleEngine$Row" "cells" "[I") ∈ lw_all := lw_g (lw_at lw_m1 55 rfl) rfl
theorem q415 : (Jvm.Cond.fieldLink "ModuleEngine$Row" (13 : Nat) "ModuleEngine$Row" "size" "I") ∈ lw_all := lw_g (lw_at lw_m1 56 rfl) rfl
theorem q416 : (Jvm.Cond.lays "ModuleEngine$Row" "ModuleEngine$Row" "cells" "[I") ∈ lw_all := lw_g (lw_at lw_m1 57 rfl) rfl
theorem q417 : (Jvm.Cond.soleField "ModuleEngine$Row" "cells") ∈ lw_all := lw_g (lw_at lw_m1 58 rfl) rfl
theorem q418 : (Jvm.Cond.lays "ModuleEngine$Row" "ModuleEngine$Row" "size" "I") ∈ lw_all := lw_g (lw_at lw_m1 59 rfl) rfl
theorem q419 : (Jvm.Cond.soleField "ModuleEngine$Row" "size") ∈ lw_all := lw_g (lw_at lw_m1 60 rfl) rfl
theorem q420 : (Jvm.Cond.superclass "ModuleEngine$Row" "java/lang/Object") ∈ lw_all := lw_g (lw_at lw_m1 61 rfl) rfl
theorem q1281 : (Jvm.Cond.instanceMethod ({ cls := "ModuleEngine$Row", name := "cut", desc := "(I)V" } : Jvm.MethodName)) ∈ lw_all := lw_g (lw_at lw_m4 202 rfl) rfl
theorem q1282 : (Jvm.Cond.selects "ModuleEngine$Row" ({ cls := "ModuleEngine$Row", name := "cut", desc := "(I)V" } : Jvm.MethodName) ({ cls := "ModuleEngine$Row", name := "cut", desc := "(I)V" } : Jvm.MethodName)) ∈ lw_all := lw_g (lw_at lw_m4 203 rfl) rfl
theorem q1283 : (Jvm.Cond.code ({ cls := "ModuleEngine$Row", name := "cut", desc := "(I)V" } : Jvm.MethodName) prog_12_method_6_code (2 : Nat) (Option.none : Option Jvm.ClassFile.FieldType)) ∈ lw_all := lw_g (lw_at lw_m4 204 rfl) rfl
theorem q1405 : (Jvm.Cond.instanceMethod ({ cls := "ModuleEngine$Row", name := "add", desc := "(I)V" } : Jvm.MethodName)) ∈ lw_all := lw_g (lw_at lw_m5 86 rfl) rfl
theorem q1406 : (Jvm.Cond.selects "ModuleEngine$Row" ({ cls := "ModuleEngine$Row", name := "add", desc := "(I)V" } : Jvm.MethodName) ({ cls := "ModuleEngine$Row", name := "add", desc := "(I)V" } : Jvm.MethodName)) ∈ lw_all := lw_g (lw_at lw_m5 87 rfl) rfl
theorem q1407 : (Jvm.Cond.code ({ cls := "ModuleEngine$Row", name := "add", desc := "(I)V" } : Jvm.MethodName) prog_12_method_2_code (4 : Nat) (Option.none : Option Jvm.ClassFile.FieldType)) ∈ lw_all := lw_g (lw_at lw_m5 88 rfl) rfl
theorem q1409 : (Jvm.Cond.instanceMethod ({ cls := "ModuleEngine$Row", name := "at", desc := "(I)I" } : Jvm.MethodName)) ∈ lw_all := lw_g (lw_at lw_m5 90 rfl) rfl
theorem q1410 : (Jvm.Cond.selects "ModuleEngine$Row" ({ cls := "ModuleEngine$Row", name := "at", desc := "(I)I" } : Jvm.MethodName) ({ cls := "ModuleEngine$Row", name := "at", desc := "(I)I" } : Jvm.MethodName)) ∈ lw_all := lw_g (lw_at lw_m5 91 rfl) rfl
theorem q1411 : (Jvm.Cond.code ({ cls := "ModuleEngine$Row", name := "at", desc := "(I)I" } : Jvm.MethodName) prog_12_method_3_code (2 : Nat) (Option.some Jvm.ClassFile.FieldType.int)) ∈ lw_all := lw_g (lw_at lw_m5 92 rfl) rfl
theorem q1421 : (Jvm.Cond.instanceMethod ({ cls := "ModuleEngine$Row", name := "size", desc := "()I" } : Jvm.MethodName)) ∈ lw_all := lw_g (lw_at lw_m5 102 rfl) rfl
theorem q1422 : (Jvm.Cond.selects "ModuleEngine$Row" ({ cls := "ModuleEngine$Row", name := "size", desc := "()I" } : Jvm.MethodName) ({ cls := "ModuleEngine$Row", name := "size", desc := "()I" } : Jvm.MethodName)) ∈ lw_all := lw_g (lw_at lw_m5 103 rfl) rfl
theorem q1423 : (Jvm.Cond.code ({ cls := "ModuleEngine$Row", name := "size", desc := "()I" } : Jvm.MethodName) prog_12_method_5_code (1 : Nat) (Option.some Jvm.ClassFile.FieldType.int)) ∈ lw_all := lw_g (lw_at lw_m5 104 rfl) rfl
theorem q1439 : (Jvm.Cond.instanceMethod ({ cls := "ModuleEngine$Row", name := "set", desc := "(II)V" } : Jvm.MethodName)) ∈ lw_all := lw_g (lw_at lw_m5 120 rfl) rfl
theorem q1440 : (Jvm.Cond.selects "ModuleEngine$Row" ({ cls := "ModuleEngine$Row", name := "set", desc := "(II)V" } : Jvm.MethodName) ({ cls := "ModuleEngine$Row", name := "set", desc := "(II)V" } : Jvm.MethodName)) ∈ lw_all := lw_g (lw_at lw_m5 121 rfl) rfl
theorem q1441 : (Jvm.Cond.code ({ cls := "ModuleEngine$Row", name := "set", desc := "(II)V" } : Jvm.MethodName) prog_12_method_4_code (3 : Nat) (Option.none : Option Jvm.ClassFile.FieldType)) ∈ lw_all := lw_g (lw_at lw_m5 122 rfl) rfl
theorem q1813 : (Jvm.Cond.instanceMethod ({ cls := "ModuleEngine$Row", name := "last", desc := "()I" } : Jvm.MethodName)) ∈ lw_all := lw_g (lw_at lw_m7 14 rfl) rfl
theorem q1814 : (Jvm.Cond.selects "ModuleEngine$Row" ({ cls := "ModuleEngine$Row", name := "last", desc := "()I" } : Jvm.MethodName) ({ cls := "ModuleEngine$Row", name := "last", desc := "()I" } : Jvm.MethodName)) ∈ lw_all := lw_g (lw_at lw_m7 15 rfl) rfl
theorem q1815 : (Jvm.Cond.code ({ cls := "ModuleEngine$Row", name := "last", desc := "()I" } : Jvm.MethodName) prog_12_method_7_code (1 : Nat) (Option.some Jvm.ClassFile.FieldType.int)) ∈ lw_all := lw_g (lw_at lw_m7 16 rfl) rfl
theorem in_X3 : ∀ w ∈ wsX30, w ∈ lw_all := lw_in wsX30 [416, 418] (by decide +kernel) (by decide +kernel)

/-! ModuleEngine$Numbers -/
set_option maxRecDepth 100000
def RX4 : String := "ModuleEngine$Numbers"
def TX4 : u_T := fun k => match k with
  | 0 => ("ModuleEngine$Numbers", "single", "LModuleEngine$Numbers$Format;", true)
  | 1 => ("ModuleEngine$Numbers", "wide", "LModuleEngine$Numbers$Format;", true)
  | 2 => ("ModuleEngine$Numbers", "trap", "I", false)
  | _ => ("ModuleEngine$Numbers", "more", "Z", false)
def tyX4 : Nat → FieldType := fun k => match k with
  | 0 => .object "ModuleEngine$Numbers$Format"
  | 1 => .object "ModuleEngine$Numbers$Format"
  | 2 => .int
  | _ => .boolean
abbrev wsX40 : List Cond := u_ws RX4 TX4 4
theorem nmX4 : ∀ a, a < 4 → ∀ b, b < 4 → a ≠ b → (TX4 a).2.1 ≠ (TX4 b).2.1 := by decide +kernel
theorem tyX4_ok : ∀ k, k < 4 → parseFieldDescriptor (TX4 k).2.2.1 = some (tyX4 k) := by decide +kernel
abbrev cX4_init : ByteArray := prog_8_method_1_code
def yX4_init : MethodName := ⟨RX4, "<init>", "()V"⟩
abbrev cX4_operands : ByteArray := prog_8_method_4_code
def yX4_operands : MethodName := ⟨RX4, "operands", "(I)I"⟩
abbrev cX4_apply : ByteArray := prog_8_method_8_code
def yX4_apply : MethodName := ⟨RX4, "apply", "(IJJ)J"⟩
abbrev cX4_compare : ByteArray := prog_8_method_10_code
def yX4_compare : MethodName := ⟨RX4, "compare", "(IZJJ)J"⟩
abbrev cX4_isBelow : ByteArray := prog_8_method_9_code
def yX4_isBelow : MethodName := ⟨RX4, "isBelow", "(JJ)Z"⟩
abbrev cX4_operandType : ByteArray := prog_8_method_5_code
def yX4_operandType : MethodName := ⟨RX4, "operandType", "(I)I"⟩
abbrev cX4_format : ByteArray := prog_8_method_6_code
def yX4_format : MethodName := ⟨RX4, "format", "(I)LModuleEngine$Numbers$Format;"⟩
abbrev cX4_compareFloating : ByteArray := prog_8_method_17_code
def yX4_compareFloating : MethodName := ⟨RX4, "compareFloating", "(LModuleEngine$Numbers$Format;IJJ)Z"⟩
abbrev cX4_whole : ByteArray := prog_8_method_12_code
def yX4_whole : MethodName := ⟨RX4, "whole", "(IJJ)J"⟩
abbrev cX4_count : ByteArray := prog_8_method_11_code
def yX4_count : MethodName := ⟨RX4, "count", "(IJI)I"⟩
abbrev cX4_quotient : ByteArray := prog_8_method_14_code
def yX4_quotient : MethodName := ⟨RX4, "quotient", "(ZJJJ)J"⟩
abbrev cX4_stop : ByteArray := prog_8_method_7_code
def yX4_stop : MethodName := ⟨RX4, "stop", "(I)J"⟩
abbrev cX4_quotientBelow : ByteArray := prog_8_method_15_code
def yX4_quotientBelow : MethodName := ⟨RX4, "quotientBelow", "(ZJJ)J"⟩
abbrev cX4_wholeWide : ByteArray := prog_8_method_13_code
def yX4_wholeWide : MethodName := ⟨RX4, "wholeWide", "(IJJ)J"⟩
abbrev cX4_floating : ByteArray := prog_8_method_18_code
def yX4_floating : MethodName := ⟨RX4, "floating", "(LModuleEngine$Numbers$Format;IJJ)J"⟩
abbrev cX4_integral : ByteArray := prog_8_method_20_code
def yX4_integral : MethodName := ⟨RX4, "integral", "(LModuleEngine$Numbers$Format;IJ)J"⟩
abbrev cX4_root : ByteArray := prog_8_method_26_code
def yX4_root : MethodName := ⟨RX4, "root", "(LModuleEngine$Numbers$Format;J)J"⟩
abbrev cX4_straight : ByteArray := prog_8_method_21_code
def yX4_straight : MethodName := ⟨RX4, "straight", "(J)J"⟩
abbrev cX4_places : ByteArray := prog_8_method_22_code
def yX4_places : MethodName := ⟨RX4, "places", "(J)I"⟩
abbrev cX4_sum : ByteArray := prog_8_method_23_code
def yX4_sum : MethodName := ⟨RX4, "sum", "(LModuleEngine$Numbers$Format;JJ)J"⟩
abbrev cX4_product : ByteArray := prog_8_method_24_code
def yX4_product : MethodName := ⟨RX4, "product", "(LModuleEngine$Numbers$Format;JJ)J"⟩
abbrev cX4_ratio : ByteArray := prog_8_method_25_code
def yX4_ratio : MethodName := ⟨RX4, "ratio", "(LModuleEngine$Numbers$Format;JJ)J"⟩
abbrev cX4_lesser : ByteArray := prog_8_method_19_code
def yX4_lesser : MethodName := ⟨RX4, "lesser", "(LModuleEngine$Numbers$Format;ZJJ)J"⟩
abbrev cX4_towards : ByteArray := prog_8_method_30_code
def yX4_towards : MethodName := ⟨RX4, "towards", "(IJZ)J"⟩
abbrev cX4_extend : ByteArray := prog_8_method_16_code
def yX4_extend : MethodName := ⟨RX4, "extend", "(IJ)J"⟩
abbrev cX4_convert : ByteArray := prog_8_method_27_code
def yX4_convert : MethodName := ⟨RX4, "convert", "(IJ)J"⟩
abbrev cX4_reformat : ByteArray := prog_8_method_29_code
def yX4_reformat : MethodName := ⟨RX4, "reformat", "(LModuleEngine$Numbers$Format;LModuleEngine$Numbers$Format;J)J"⟩
abbrev cX4_fromWhole : ByteArray := prog_8_method_28_code
def yX4_fromWhole : MethodName := ⟨RX4, "fromWhole", "(LModuleEngine$Numbers$Format;IJ)J"⟩
abbrev cX4_trap : ByteArray := prog_8_method_2_code
def yX4_trap : MethodName := ⟨RX4, "trap", "()I"⟩
theorem q364 : (Jvm.Cond.initialized "ModuleEngine$Numbers") ∈ lw_all := lw_g (lw_at lw_m1 5 rfl) rfl
theorem q572 : (Jvm.Cond.instantiable "ModuleEngine$Numbers" (4 : Nat)) ∈ lw_all := lw_g (lw_at lw_m1 213 rfl) rfl
theorem q574 : (Jvm.Cond.instanceMethod ({ cls := "ModuleEngine$Numbers", name := "<init>", desc := "()V" } : Jvm.MethodName)) ∈ lw_all := lw_g (lw_at lw_m1 215 rfl) rfl
theorem q575 : (Jvm.Cond.code ({ cls := "ModuleEngine$Numbers", name := "<init>", desc := "()V" } : Jvm.MethodName) prog_8_method_1_code (1 : Nat) (Option.none : Option Jvm.ClassFile.FieldType)) ∈ lw_all := lw_g (lw_at lw_m1 216 rfl) rfl
theorem q576 : (Jvm.Cond.methodLink "ModuleEngine$Numbers" (1 : Nat) ({ cls := "java/lang/Object", name := "<init>", desc := "()V" } : Jvm.MethodName)) ∈ lw_all := lw_g (lw_at lw_m1 217 rfl) rfl
theorem q577 : (Jvm.Cond.classLink "ModuleEngine$Numbers" (7 : Nat) "ModuleEngine$Numbers$Format") ∈ lw_all := lw_g (lw_at lw_m1 218 rfl) rfl
theorem q579 : (Jvm.Cond.methodLink "ModuleEngine$Numbers" (9 : Nat) ({ cls := "ModuleEngine$Numbers$Format", name := "<init>", desc := "(III)V" } : Jvm.MethodName)) ∈ lw_all := lw_g (lw_at lw_m1 220 rfl) rfl
theorem q587 : (Jvm.Cond.fieldLinkNest "ModuleEngine$Numbers" (186 : Nat) "ModuleEngine$Numbers$Format" "bias" "I" "ModuleEngine") ∈ lw_tbl := lw_at lw_m1 228 rfl
theorem q590 : (Jvm.Cond.fieldLinkNest "ModuleEngine$Numbers" (114 : Nat) "ModuleEngine$Numbers$Format" "none" "J" "ModuleEngine") ∈ lw_tbl := lw_at lw_m1 231 rfl
theorem q592 : (Jvm.Cond.fieldLinkNest "ModuleEngine$Numbers" (159 : Nat) "ModuleEngine$Numbers$Format" "infinite" "J" "ModuleEngine") ∈ lw_tbl := lw_at lw_m1 233 rfl
theorem q606 : (Jvm.Cond.fieldLink "ModuleEngine$Numbers" (12 : Nat) "ModuleEngine$Numbers" "single" "LModuleEngine$Numbers$Format;") ∈ lw_all := lw_g (lw_at lw_m2 7 rfl) rfl
theorem q607 : (Jvm.Cond.fieldLink "ModuleEngine$Numbers" (18 : Nat) "ModuleEngine$Numbers" "wide" "LModuleEngine$Numbers$Format;") ∈ lw_all := lw_g (lw_at lw_m2 8 rfl) rfl
theorem q608 : (Jvm.Cond.fieldLink "ModuleEngine$Numbers" (21 : Nat) "ModuleEngine$Numbers" "trap" "I") ∈ lw_all := lw_g (lw_at lw_m2 9 rfl) rfl
theorem q609 : (Jvm.Cond.laysFinal "ModuleEngine$Numbers" "ModuleEngine$Numbers" "single" "LModuleEngine$Numbers$Format;") ∈ lw_all := lw_g (lw_at lw_m2 10 rfl) rfl
theorem q610 : (Jvm.Cond.soleField "ModuleEngine$Numbers" "single") ∈ lw_all := lw_g (lw_at lw_m2 11 rfl) rfl
theorem q611 : (Jvm.Cond.laysFinal "ModuleEngine$Numbers" "ModuleEngine$Numbers" "wide" "LModuleEngine$Numbers$Format;") ∈ lw_all := lw_g (lw_at lw_m2 12 rfl) rfl
theorem q612 : (Jvm.Cond.soleField "ModuleEngine$Numbers" "wide") ∈ lw_all := lw_g (lw_at lw_m2 13 rfl) rfl
theorem q613 : (Jvm.Cond.lays "ModuleEngine$Numbers" "ModuleEngine$Numbers" "trap" "I") ∈ lw_all := lw_g (lw_at lw_m2 14 rfl) rfl
theorem q614 : (Jvm.Cond.soleField "ModuleEngine$Numbers" "trap") ∈ lw_all := lw_g (lw_at lw_m2 15 rfl) rfl
theorem q615 : (Jvm.Cond.lays "ModuleEngine$Numbers" "ModuleEngine$Numbers" "more" "Z") ∈ lw_all := lw_g (lw_at lw_m2 16 rfl) rfl
theorem q616 : (Jvm.Cond.soleField "ModuleEngine$Numbers" "more") ∈ lw_all := lw_g (lw_at lw_m2 17 rfl) rfl
theorem q617 : (Jvm.Cond.superclass "ModuleEngine$Numbers" "java/lang/Object") ∈ lw_all := lw_g (lw_at lw_m2 18 rfl) rfl
theorem q2125 : (Jvm.Cond.instanceMethod ({ cls := "ModuleEngine$Numbers", name := "operands", desc := "(I)I" } : Jvm.MethodName)) ∈ lw_all := lw_g (lw_at lw_m8 86 rfl) rfl
theorem q2126 : (Jvm.Cond.selects "ModuleEngine$Numbers" ({ cls := "ModuleEngine$Numbers", name := "operands", desc := "(I)I" } : Jvm.MethodName) ({ cls := "ModuleEngine$Numbers", name := "operands", desc := "(I)I" } : Jvm.MethodName)) ∈ lw_all := lw_g (lw_at lw_m8 87 rfl) rfl
theorem q2127 : (Jvm.Cond.code ({ cls := "ModuleEngine$Numbers", name := "operands", desc := "(I)I" } : Jvm.MethodName) prog_8_method_4_code (2 : Nat) (Option.some Jvm.ClassFile.FieldType.int)) ∈ lw_all := lw_g (lw_at lw_m8 88 rfl) rfl
theorem q2514 : (Jvm.Cond.instanceMethod ({ cls := "ModuleEngine$Numbers", name := "apply", desc := "(IJJ)J" } : Jvm.MethodName)) ∈ lw_all := lw_g (lw_at lw_m9 235 rfl) rfl
theorem q2515 : (Jvm.Cond.selects "ModuleEngine$Numbers" ({ cls := "ModuleEngine$Numbers", name := "apply", desc := "(IJJ)J" } : Jvm.MethodName) ({ cls := "ModuleEngine$Numbers", name := "apply", desc := "(IJJ)J" } : Jvm.MethodName)) ∈ lw_all := lw_g (lw_at lw_m9 236 rfl) rfl
theorem q2516 : (Jvm.Cond.code ({ cls := "ModuleEngine$Numbers", name := "apply", desc := "(IJJ)J" } : Jvm.MethodName) prog_8_method_8_code (6 : Nat) (Option.some Jvm.ClassFile.FieldType.long)) ∈ lw_all := lw_g (lw_at lw_m9 237 rfl) rfl
theorem q2517 : (Jvm.Cond.methodLink "ModuleEngine$Numbers" (25 : Nat) ({ cls := "ModuleEngine$Numbers", name := "compare", desc := "(IZJJ)J" } : Jvm.MethodName)) ∈ lw_all := lw_g (lw_at lw_m9 238 rfl) rfl
theorem q2518 : (Jvm.Cond.static ({ cls := "ModuleEngine$Numbers", name := "compare", desc := "(IZJJ)J" } : Jvm.MethodName)) ∈ lw_all := lw_g (lw_at lw_m9 239 rfl) rfl
theorem q2519 : (Jvm.Cond.code ({ cls := "ModuleEngine$Numbers", name := "compare", desc := "(IZJJ)J" } : Jvm.MethodName) prog_8_method_10_code (12 : Nat) (Option.some Jvm.ClassFile.FieldType.long)) ∈ lw_all := lw_g (lw_at lw_m10 0 rfl) rfl
theorem q2520 : (Jvm.Cond.methodLink "ModuleEngine$Numbers" (67 : Nat) ({ cls := "ModuleEngine$Numbers", name := "isBelow", desc := "(JJ)Z" } : Jvm.MethodName)) ∈ lw_all := lw_g (lw_at lw_m10 1 rfl) rfl
theorem q2521 : (Jvm.Cond.static ({ cls := "ModuleEngine$Numbers", name := "isBelow", desc := "(JJ)Z" } : Jvm.MethodName)) ∈ lw_all := lw_g (lw_at lw_m10 2 rfl) rfl
theorem q2522 : (Jvm.Cond.code ({ cls := "ModuleEngine$Numbers", name := "isBelow", desc := "(JJ)Z" } : Jvm.MethodName) prog_8_method_9_code (4 : Nat) (Option.some Jvm.ClassFile.FieldType.boolean)) ∈ lw_all := lw_g (lw_at lw_m10 3 rfl) rfl
theorem q2523 : (Jvm.Cond.constantLong "ModuleEngine$Numbers" (65 : Nat) (-9223372036854775808 : Int64)) ∈ lw_all := lw_g (lw_at lw_m10 4 rfl) rfl
theorem q2524 : (Jvm.Cond.methodLink "ModuleEngine$Numbers" (29 : Nat) ({ cls := "ModuleEngine$Numbers", name := "operandType", desc := "(I)I" } : Jvm.MethodName)) ∈ lw_all := lw_g (lw_at lw_m10 5 rfl) rfl
theorem q2525 : (Jvm.Cond.instanceMethod ({ cls := "ModuleEngine$Numbers", name := "operandType", desc := "(I)I" } : Jvm.MethodName)) ∈ lw_all := lw_g (lw_at lw_m10 6 rfl) rfl
theorem q2526 : (Jvm.Cond.selects "ModuleEngine$Numbers" ({ cls := "ModuleEngine$Numbers", name := "operandType", desc := "(I)I" } : Jvm.MethodName) ({ cls := "ModuleEngine$Numbers", name := "operandType", desc := "(I)I" } : Jvm.MethodName)) ∈ lw_all := lw_g (lw_at lw_m10 7 rfl) rfl
theorem q2527 : (Jvm.Cond.code ({ cls := "ModuleEngine$Numbers", name := "operandType", desc := "(I)I" } : Jvm.MethodName) prog_8_method_5_code (2 : Nat) (Option.some Jvm.ClassFile.FieldType.int)) ∈ lw_all := lw_g (lw_at lw_m10 8 rfl) rfl
theorem q2528 : (Jvm.Cond.methodLink "ModuleEngine$Numbers" (33 : Nat) ({ cls := "ModuleEngine$Numbers", name := "format", desc := "(I)LModuleEngine$Numbers$Format;" } : Jvm.MethodName)) ∈ lw_all := lw_g (lw_at lw_m10 9 rfl) rfl
theorem q2529 : (Jvm.Cond.privateMethod ({ cls := "ModuleEngine$Numbers", name := "format", desc := "(I)LModuleEngine$Numbers$Format;" } : Jvm.MethodName)) ∈ lw_tbl := lw_at lw_m10 10 rfl
theorem q2530 : (Jvm.Cond.instanceMethod ({ cls := "ModuleEngine$Numbers", name := "format", desc := "(I)LModuleEngine$Numbers$Format;" } : Jvm.MethodName)) ∈ lw_all := lw_g (lw_at lw_m10 11 rfl) rfl
theorem q2531 : (Jvm.Cond.code ({ cls := "ModuleEngine$Numbers", name := "format", desc := "(I)LModuleEngine$Numbers$Format;" } : Jvm.MethodName) prog_8_method_6_code (2 : Nat) (Option.some (Jvm.ClassFile.FieldType.object "ModuleEngine$Numbers$Format"))) ∈ lw_all := lw_g (lw_at lw_m10 12 rfl) rfl
theorem q2532 : (Jvm.Cond.methodLink "ModuleEngine$Numbers" (37 : Nat) ({ cls := "ModuleEngine$Numbers", name := "compareFloating", desc := "(LModuleEngine$Numbers$Format;IJJ)Z" } : Jvm.MethodName)) ∈ lw_all := lw_g (lw_at lw_m10 13 rfl) rfl
theorem q2533 : (Jvm.Cond.static ({ cls := "ModuleEngine$Numbers", name := "compareFloating", desc := "(LModuleEngine$Numbers$Format;IJJ)Z" } : Jvm.MethodName)) ∈ lw_all := lw_g (lw_at lw_m10 14 rfl) rfl
theorem q2534 : (Jvm.Cond.code ({ cls := "ModuleEngine$Numbers", name := "compareFloating", desc := "(LModuleEngine$Numbers$Format;IJJ)Z" } : Jvm.MethodName) prog_8_method_17_code (10 : Nat) (Option.some Jvm.ClassFile.FieldType.boolean)) ∈ lw_all := lw_g (lw_at lw_m10 15 rfl) rfl
theorem q2535 : (Jvm.Cond.methodLink "ModuleEngine$Numbers" (95 : Nat) ({ cls := "ModuleEngine$Numbers$Format", name := "isNone", desc := "(J)Z" } : Jvm.MethodName)) ∈ lw_all := lw_g (lw_at lw_m10 16 rfl) rfl
theorem q2547 : (Jvm.Cond.methodLink "ModuleEngine$Numbers" (99 : Nat) ({ cls := "ModuleEngine$Numbers$Format", name := "sign", desc := "(J)Z" } : Jvm.MethodName)) ∈ lw_all := lw_g (lw_at lw_m10 28 rfl) rfl
theorem q2551 : (Jvm.Cond.methodLink "ModuleEngine$Numbers" (102 : Nat) ({ cls := "ModuleEngine$Numbers$Format", name := "rest", desc := "(J)J" } : Jvm.MethodName)) ∈ lw_all := lw_g (lw_at lw_m10 32 rfl) rfl
theorem q2552 : (Jvm.Cond.methodLink "ModuleEngine$Numbers" (41 : Nat) ({ cls := "ModuleEngine$Numbers", name := "whole", desc := "(IJJ)J" } : Jvm.MethodName)) ∈ lw_all := lw_g (lw_at lw_m10 33 rfl) rfl
theorem q2553 : (Jvm.Cond.privateMethod ({ cls := "ModuleEngine$Numbers", name := "whole", desc := "(IJJ)J" } : Jvm.MethodName)) ∈ lw_tbl := lw_at lw_m10 34 rfl
theorem q2554 : (Jvm.Cond.instanceMethod ({ cls := "ModuleEngine$Numbers", name := "whole", desc := "(IJJ)J" } : Jvm.MethodName)) ∈ lw_all := lw_g (lw_at lw_m10 35 rfl) rfl
theorem q2555 : (Jvm.Cond.code ({ cls := "ModuleEngine$Numbers", name := "whole", desc := "(IJJ)J" } : Jvm.MethodName) prog_8_method_12_code (9 : Nat) (Option.some Jvm.ClassFile.FieldType.long)) ∈ lw_all := lw_g (lw_at lw_m10 36 rfl) rfl
theorem q2556 : (Jvm.Cond.constantLong "ModuleEngine$Numbers" (45 : Nat) (4294967295 : Int64)) ∈ lw_all := lw_g (lw_at lw_m10 37 rfl) rfl
theorem q2557 : (Jvm.Cond.methodLink "ModuleEngine$Numbers" (71 : Nat) ({ cls := "ModuleEngine$Numbers", name := "count", desc := "(IJI)I" } : Jvm.MethodName)) ∈ lw_all := lw_g (lw_at lw_m10 38 rfl) rfl
theorem q2558 : (Jvm.Cond.static ({ cls := "ModuleEngine$Numbers", name := "count", desc := "(IJI)I" } : Jvm.MethodName)) ∈ lw_all := lw_g (lw_at lw_m10 39 rfl) rfl
theorem q2559 : (Jvm.Cond.code ({ cls := "ModuleEngine$Numbers", name := "count", desc := "(IJI)I" } : Jvm.MethodName) prog_8_method_11_code (6 : Nat) (Option.some Jvm.ClassFile.FieldType.int)) ∈ lw_all := lw_g (lw_at lw_m10 40 rfl) rfl
theorem q2560 : (Jvm.Cond.constantLong "ModuleEngine$Numbers" (75 : Nat) (-2147483648 : Int64)) ∈ lw_all := lw_g (lw_at lw_m10 41 rfl) rfl
theorem q2561 : (Jvm.Cond.methodLink "ModuleEngine$Numbers" (77 : Nat) ({ cls := "ModuleEngine$Numbers", name := "quotient", desc := "(ZJJJ)J" } : Jvm.MethodName)) ∈ lw_all := lw_g (lw_at lw_m10 42 rfl) rfl
theorem q2562 : (Jvm.Cond.privateMethod ({ cls := "ModuleEngine$Numbers", name := "quotient", desc := "(ZJJJ)J" } : Jvm.MethodName)) ∈ lw_tbl := lw_at lw_m10 43 rfl
theorem q2563 : (Jvm.Cond.instanceMethod ({ cls := "ModuleEngine$Numbers", name := "quotient", desc := "(ZJJJ)J" } : Jvm.MethodName)) ∈ lw_all := lw_g (lw_at lw_m10 44 rfl) rfl
theorem q2564 : (Jvm.Cond.code ({ cls := "ModuleEngine$Numbers", name := "quotient", desc := "(ZJJJ)J" } : Jvm.MethodName) prog_8_method_14_code (8 : Nat) (Option.some Jvm.ClassFile.FieldType.long)) ∈ lw_all := lw_g (lw_at lw_m10 45 rfl) rfl
theorem q2565 : (Jvm.Cond.methodLink "ModuleEngine$Numbers" (87 : Nat) ({ cls := "ModuleEngine$Numbers", name := "stop", desc := "(I)J" } : Jvm.MethodName)) ∈ lw_all := lw_g (lw_at lw_m10 46 rfl) rfl
theorem q2566 : (Jvm.Cond.privateMethod ({ cls := "ModuleEngine$Numbers", name := "stop", desc := "(I)J" } : Jvm.MethodName)) ∈ lw_tbl := lw_at lw_m10 47 rfl
theorem q2567 : (Jvm.Cond.instanceMethod ({ cls := "ModuleEngine$Numbers", name := "stop", desc := "(I)J" } : Jvm.MethodName)) ∈ lw_all := lw_g (lw_at lw_m10 48 rfl) rfl
theorem q2568 : (Jvm.Cond.code ({ cls := "ModuleEngine$Numbers", name := "stop", desc := "(I)J" } : Jvm.MethodName) prog_8_method_7_code (2 : Nat) (Option.some Jvm.ClassFile.FieldType.long)) ∈ lw_all := lw_g (lw_at lw_m10 49 rfl) rfl
theorem q2569 : (Jvm.Cond.constantLong "ModuleEngine$Numbers" (91 : Nat) (-1 : Int64)) ∈ lw_all := lw_g (lw_at lw_m10 50 rfl) rfl
theorem q2570 : (Jvm.Cond.methodLink "ModuleEngine$Numbers" (81 : Nat) ({ cls := "ModuleEngine$Numbers", name := "quotientBelow", desc := "(ZJJ)J" } : Jvm.MethodName)) ∈ lw_all := lw_g (lw_at lw_m10 51 rfl) rfl
theorem q2571 : (Jvm.Cond.privateMethod ({ cls := "ModuleEngine$Numbers", name := "quotientBelow", desc := "(ZJJ)J" } : Jvm.MethodName)) ∈ lw_tbl := lw_at lw_m10 52 rfl
theorem q2572 : (Jvm.Cond.instanceMethod ({ cls := "ModuleEngine$Numbers", name := "quotientBelow", desc := "(ZJJ)J" } : Jvm.MethodName)) ∈ lw_all := lw_g (lw_at lw_m10 53 rfl) rfl
theorem q2573 : (Jvm.Cond.code ({ cls := "ModuleEngine$Numbers", name := "quotientBelow", desc := "(ZJJ)J" } : Jvm.MethodName) prog_8_method_15_code (13 : Nat) (Option.some Jvm.ClassFile.FieldType.long)) ∈ lw_all := lw_g (lw_at lw_m10 54 rfl) rfl
theorem q2574 : (Jvm.Cond.constantLong "ModuleEngine$Numbers" (93 : Nat) (2 : Int64)) ∈ lw_all := lw_g (lw_at lw_m10 55 rfl) rfl
theorem q2575 : (Jvm.Cond.methodLink "ModuleEngine$Numbers" (47 : Nat) ({ cls := "ModuleEngine$Numbers", name := "wholeWide", desc := "(IJJ)J" } : Jvm.MethodName)) ∈ lw_all := lw_g (lw_at lw_m10 56 rfl) rfl
theorem q2576 : (Jvm.Cond.privateMethod ({ cls := "ModuleEngine$Numbers", name := "wholeWide", desc := "(IJJ)J" } : Jvm.MethodName)) ∈ lw_tbl := lw_at lw_m10 57 rfl
theorem q2577 : (Jvm.Cond.instanceMethod ({ cls := "ModuleEngine$Numbers", name := "wholeWide", desc := "(IJJ)J" } : Jvm.MethodName)) ∈ lw_all := lw_g (lw_at lw_m10 58 rfl) rfl
theorem q2578 : (Jvm.Cond.code ({ cls := "ModuleEngine$Numbers", name := "wholeWide", desc := "(IJJ)J" } : Jvm.MethodName) prog_8_method_13_code (7 : Nat) (Option.some Jvm.ClassFile.FieldType.long)) ∈ lw_all := lw_g (lw_at lw_m10 59 rfl) rfl
theorem q2579 : (Jvm.Cond.constantLong "ModuleEngine$Numbers" (85 : Nat) (63 : Int64)) ∈ lw_all := lw_g (lw_at lw_m10 60 rfl) rfl
theorem q2580 : (Jvm.Cond.methodLink "ModuleEngine$Numbers" (50 : Nat) ({ cls := "ModuleEngine$Numbers", name := "floating", desc := "(LModuleEngine$Numbers$Format;IJJ)J" } : Jvm.MethodName)) ∈ lw_all := lw_g (lw_at lw_m10 61 rfl) rfl
theorem q2581 : (Jvm.Cond.privateMethod ({ cls := "ModuleEngine$Numbers", name := "floating", desc := "(LModuleEngine$Numbers$Format;IJJ)J" } : Jvm.MethodName)) ∈ lw_tbl := lw_at lw_m10 62 rfl
theorem q2582 : (Jvm.Cond.instanceMethod ({ cls := "ModuleEngine$Numbers", name := "floating", desc := "(LModuleEngine$Numbers$Format;IJJ)J" } : Jvm.MethodName)) ∈ lw_all := lw_g (lw_at lw_m10 63 rfl) rfl
theorem q2583 : (Jvm.Cond.code ({ cls := "ModuleEngine$Numbers", name := "floating", desc := "(LModuleEngine$Numbers$Format;IJJ)J" } : Jvm.MethodName) prog_8_method_18_code (13 : Nat) (Option.some Jvm.ClassFile.FieldType.long)) ∈ lw_all := lw_g (lw_at lw_m10 64 rfl) rfl
theorem q2584 : (Jvm.Cond.methodLink "ModuleEngine$Numbers" (106 : Nat) ({ cls := "ModuleEngine$Numbers$Format", name := "signBit", desc := "()J" } : Jvm.MethodName)) ∈ lw_all := lw_g (lw_at lw_m10 65 rfl) rfl
theorem q2585 : (Jvm.Cond.methodLink "ModuleEngine$Numbers" (110 : Nat) ({ cls := "ModuleEngine$Numbers$Format", name := "signed", desc := "(ZJ)J" } : Jvm.MethodName)) ∈ lw_all := lw_g (lw_at lw_m10 66 rfl) rfl
theorem q2589 : (Jvm.Cond.methodLink "ModuleEngine$Numbers" (118 : Nat) ({ cls := "ModuleEngine$Numbers", name := "integral", desc := "(LModuleEngine$Numbers$Format;IJ)J" } : Jvm.MethodName)) ∈ lw_all := lw_g (lw_at lw_m10 70 rfl) rfl
theorem q2590 : (Jvm.Cond.static ({ cls := "ModuleEngine$Numbers", name := "integral", desc := "(LModuleEngine$Numbers$Format;IJ)J" } : Jvm.MethodName)) ∈ lw_all := lw_g (lw_at lw_m10 71 rfl) rfl
theorem q2591 : (Jvm.Cond.code ({ cls := "ModuleEngine$Numbers", name := "integral", desc := "(LModuleEngine$Numbers$Format;IJ)J" } : Jvm.MethodName) prog_8_method_20_code (15 : Nat) (Option.some Jvm.ClassFile.FieldType.long)) ∈ lw_all := lw_g (lw_at lw_m10 72 rfl) rfl
theorem q2592 : (Jvm.Cond.methodLink "ModuleEngine$Numbers" (143 : Nat) ({ cls := "ModuleEngine$Numbers$Format", name := "scale", desc := "(J)I" } : Jvm.MethodName)) ∈ lw_all := lw_g (lw_at lw_m10 73 rfl) rfl
theorem q2600 : (Jvm.Cond.methodLink "ModuleEngine$Numbers" (147 : Nat) ({ cls := "ModuleEngine$Numbers$Format", name := "isInfinite", desc := "(J)Z" } : Jvm.MethodName)) ∈ lw_all := lw_g (lw_at lw_m10 81 rfl) rfl
theorem q2604 : (Jvm.Cond.methodLink "ModuleEngine$Numbers" (140 : Nat) ({ cls := "ModuleEngine$Numbers$Format", name := "isZero", desc := "(J)Z" } : Jvm.MethodName)) ∈ lw_all := lw_g (lw_at lw_m10 85 rfl) rfl
theorem q2608 : (Jvm.Cond.methodLink "ModuleEngine$Numbers" (150 : Nat) ({ cls := "ModuleEngine$Numbers$Format", name := "significand", desc := "(J)J" } : Jvm.MethodName)) ∈ lw_all := lw_g (lw_at lw_m10 89 rfl) rfl
theorem q2616 : (Jvm.Cond.methodLink "ModuleEngine$Numbers" (153 : Nat) ({ cls := "ModuleEngine$Numbers$Format", name := "round", desc := "(ZJIZ)J" } : Jvm.MethodName)) ∈ lw_all := lw_g (lw_at lw_m10 97 rfl) rfl
theorem q2622 : (Jvm.Cond.methodLink "ModuleEngine$Numbers" (122 : Nat) ({ cls := "ModuleEngine$Numbers", name := "root", desc := "(LModuleEngine$Numbers$Format;J)J" } : Jvm.MethodName)) ∈ lw_all := lw_g (lw_at lw_m10 103 rfl) rfl
theorem q2623 : (Jvm.Cond.static ({ cls := "ModuleEngine$Numbers", name := "root", desc := "(LModuleEngine$Numbers$Format;J)J" } : Jvm.MethodName)) ∈ lw_all := lw_g (lw_at lw_m10 104 rfl) rfl
theorem q2624 : (Jvm.Cond.code ({ cls := "ModuleEngine$Numbers", name := "root", desc := "(LModuleEngine$Numbers$Format;J)J" } : Jvm.MethodName) prog_8_method_26_code (12 : Nat) (Option.some Jvm.ClassFile.FieldType.long)) ∈ lw_all := lw_g (lw_at lw_m10 105 rfl) rfl
theorem q2625 : (Jvm.Cond.methodLink "ModuleEngine$Numbers" (162 : Nat) ({ cls := "ModuleEngine$Numbers", name := "straight", desc := "(J)J" } : Jvm.MethodName)) ∈ lw_all := lw_g (lw_at lw_m10 106 rfl) rfl
theorem q2626 : (Jvm.Cond.static ({ cls := "ModuleEngine$Numbers", name := "straight", desc := "(J)J" } : Jvm.MethodName)) ∈ lw_all := lw_g (lw_at lw_m10 107 rfl) rfl
theorem q2627 : (Jvm.Cond.code ({ cls := "ModuleEngine$Numbers", name := "straight", desc := "(J)J" } : Jvm.MethodName) prog_8_method_21_code (4 : Nat) (Option.some Jvm.ClassFile.FieldType.long)) ∈ lw_all := lw_g (lw_at lw_m10 108 rfl) rfl
theorem q2628 : (Jvm.Cond.constantLong "ModuleEngine$Numbers" (157 : Nat) (4503599627370496 : Int64)) ∈ lw_all := lw_g (lw_at lw_m10 109 rfl) rfl
theorem q2629 : (Jvm.Cond.methodLink "ModuleEngine$Numbers" (165 : Nat) ({ cls := "ModuleEngine$Numbers", name := "places", desc := "(J)I" } : Jvm.MethodName)) ∈ lw_all := lw_g (lw_at lw_m10 110 rfl) rfl
theorem q2630 : (Jvm.Cond.static ({ cls := "ModuleEngine$Numbers", name := "places", desc := "(J)I" } : Jvm.MethodName)) ∈ lw_all := lw_g (lw_at lw_m10 111 rfl) rfl
theorem q2631 : (Jvm.Cond.code ({ cls := "ModuleEngine$Numbers", name := "places", desc := "(J)I" } : Jvm.MethodName) prog_8_method_22_code (3 : Nat) (Option.some Jvm.ClassFile.FieldType.int)) ∈ lw_all := lw_g (lw_at lw_m10 112 rfl) rfl
theorem q2632 : (Jvm.Cond.constantLong "ModuleEngine$Numbers" (172 : Nat) (4 : Int64)) ∈ lw_all := lw_g (lw_at lw_m10 113 rfl) rfl
theorem q2633 : (Jvm.Cond.constantLong "ModuleEngine$Numbers" (174 : Nat) (3 : Int64)) ∈ lw_all := lw_g (lw_at lw_m10 114 rfl) rfl
theorem q2634 : (Jvm.Cond.methodLink "ModuleEngine$Numbers" (126 : Nat) ({ cls := "ModuleEngine$Numbers", name := "sum", desc := "(LModuleEngine$Numbers$Format;JJ)J" } : Jvm.MethodName)) ∈ lw_all := lw_g (lw_at lw_m10 115 rfl) rfl
theorem q2635 : (Jvm.Cond.static ({ cls := "ModuleEngine$Numbers", name := "sum", desc := "(LModuleEngine$Numbers$Format;JJ)J" } : Jvm.MethodName)) ∈ lw_all := lw_g (lw_at lw_m10 116 rfl) rfl
theorem q2636 : (Jvm.Cond.code ({ cls := "ModuleEngine$Numbers", name := "sum", desc := "(LModuleEngine$Numbers$Format;JJ)J" } : Jvm.MethodName) prog_8_method_23_code (19 : Nat) (Option.some Jvm.ClassFile.FieldType.long)) ∈ lw_all := lw_g (lw_at lw_m10 117 rfl) rfl
theorem q2637 : (Jvm.Cond.methodLink "ModuleEngine$Numbers" (130 : Nat) ({ cls := "ModuleEngine$Numbers", name := "product", desc := "(LModuleEngine$Numbers$Format;JJ)J" } : Jvm.MethodName)) ∈ lw_all := lw_g (lw_at lw_m10 118 rfl) rfl
theorem q2638 : (Jvm.Cond.static ({ cls := "ModuleEngine$Numbers", name := "product", desc := "(LModuleEngine$Numbers$Format;JJ)J" } : Jvm.MethodName)) ∈ lw_all := lw_g (lw_at lw_m10 119 rfl) rfl
theorem q2639 : (Jvm.Cond.code ({ cls := "ModuleEngine$Numbers", name := "product", desc := "(LModuleEngine$Numbers$Format;JJ)J" } : Jvm.MethodName) prog_8_method_24_code (29 : Nat) (Option.some Jvm.ClassFile.FieldType.long)) ∈ lw_all := lw_g (lw_at lw_m10 120 rfl) rfl
theorem q2640 : (Jvm.Cond.constantLong "ModuleEngine$Numbers" (168 : Nat) (134217727 : Int64)) ∈ lw_all := lw_g (lw_at lw_m10 121 rfl) rfl
theorem q2641 : (Jvm.Cond.constantLong "ModuleEngine$Numbers" (170 : Nat) (70368744177663 : Int64)) ∈ lw_all := lw_g (lw_at lw_m10 122 rfl) rfl
theorem q2642 : (Jvm.Cond.methodLink "ModuleEngine$Numbers" (133 : Nat) ({ cls := "ModuleEngine$Numbers", name := "ratio", desc := "(LModuleEngine$Numbers$Format;JJ)J" } : Jvm.MethodName)) ∈ lw_all := lw_g (lw_at lw_m10 123 rfl) rfl
theorem q2643 : (Jvm.Cond.static ({ cls := "ModuleEngine$Numbers", name := "ratio", desc := "(LModuleEngine$Numbers$Format;JJ)J" } : Jvm.MethodName)) ∈ lw_all := lw_g (lw_at lw_m10 124 rfl) rfl
theorem q2644 : (Jvm.Cond.code ({ cls := "ModuleEngine$Numbers", name := "ratio", desc := "(LModuleEngine$Numbers$Format;JJ)J" } : Jvm.MethodName) prog_8_method_25_code (15 : Nat) (Option.some Jvm.ClassFile.FieldType.long)) ∈ lw_all := lw_g (lw_at lw_m10 125 rfl) rfl
theorem q2645 : (Jvm.Cond.methodLink "ModuleEngine$Numbers" (136 : Nat) ({ cls := "ModuleEngine$Numbers", name := "lesser", desc := "(LModuleEngine$Numbers$Format;ZJJ)J" } : Jvm.MethodName)) ∈ lw_all := lw_g (lw_at lw_m10 126 rfl) rfl
theorem q2646 : (Jvm.Cond.static ({ cls := "ModuleEngine$Numbers", name := "lesser", desc := "(LModuleEngine$Numbers$Format;ZJJ)J" } : Jvm.MethodName)) ∈ lw_all := lw_g (lw_at lw_m10 127 rfl) rfl
theorem q2647 : (Jvm.Cond.code ({ cls := "ModuleEngine$Numbers", name := "lesser", desc := "(LModuleEngine$Numbers$Format;ZJJ)J" } : Jvm.MethodName) prog_8_method_19_code (6 : Nat) (Option.some Jvm.ClassFile.FieldType.long)) ∈ lw_all := lw_g (lw_at lw_m10 128 rfl) rfl
theorem q2648 : (Jvm.Cond.methodLink "ModuleEngine$Numbers" (54 : Nat) ({ cls := "ModuleEngine$Numbers", name := "towards", desc := "(IJZ)J" } : Jvm.MethodName)) ∈ lw_all := lw_g (lw_at lw_m10 129 rfl) rfl
theorem q2649 : (Jvm.Cond.privateMethod ({ cls := "ModuleEngine$Numbers", name := "towards", desc := "(IJZ)J" } : Jvm.MethodName)) ∈ lw_tbl := lw_at lw_m10 130 rfl
theorem q2650 : (Jvm.Cond.instanceMethod ({ cls := "ModuleEngine$Numbers", name := "towards", desc := "(IJZ)J" } : Jvm.MethodName)) ∈ lw_all := lw_g (lw_at lw_m10 131 rfl) rfl
theorem q2651 : (Jvm.Cond.code ({ cls := "ModuleEngine$Numbers", name := "towards", desc := "(IJZ)J" } : Jvm.MethodName) prog_8_method_30_code (22 : Nat) (Option.some Jvm.ClassFile.FieldType.long)) ∈ lw_all := lw_g (lw_at lw_m10 132 rfl) rfl
theorem q2652 : (Jvm.Cond.methodLink "ModuleEngine$Numbers" (183 : Nat) ({ cls := "ModuleEngine$Numbers$Format", name := "exponent", desc := "(J)I" } : Jvm.MethodName)) ∈ lw_all := lw_g (lw_at lw_m10 133 rfl) rfl
theorem q2653 : (Jvm.Cond.methodLink "ModuleEngine$Numbers" (58 : Nat) ({ cls := "ModuleEngine$Numbers", name := "extend", desc := "(IJ)J" } : Jvm.MethodName)) ∈ lw_all := lw_g (lw_at lw_m10 134 rfl) rfl
theorem q2654 : (Jvm.Cond.static ({ cls := "ModuleEngine$Numbers", name := "extend", desc := "(IJ)J" } : Jvm.MethodName)) ∈ lw_all := lw_g (lw_at lw_m10 135 rfl) rfl
theorem q2655 : (Jvm.Cond.code ({ cls := "ModuleEngine$Numbers", name := "extend", desc := "(IJ)J" } : Jvm.MethodName) prog_8_method_16_code (6 : Nat) (Option.some Jvm.ClassFile.FieldType.long)) ∈ lw_all := lw_g (lw_at lw_m10 136 rfl) rfl
theorem q2656 : (Jvm.Cond.methodLink "ModuleEngine$Numbers" (62 : Nat) ({ cls := "ModuleEngine$Numbers", name := "convert", desc := "(IJ)J" } : Jvm.MethodName)) ∈ lw_all := lw_g (lw_at lw_m10 137 rfl) rfl
theorem q2657 : (Jvm.Cond.privateMethod ({ cls := "ModuleEngine$Numbers", name := "convert", desc := "(IJ)J" } : Jvm.MethodName)) ∈ lw_tbl := lw_at lw_m10 138 rfl
theorem q2658 : (Jvm.Cond.instanceMethod ({ cls := "ModuleEngine$Numbers", name := "convert", desc := "(IJ)J" } : Jvm.MethodName)) ∈ lw_all := lw_g (lw_at lw_m10 139 rfl) rfl
theorem q2659 : (Jvm.Cond.code ({ cls := "ModuleEngine$Numbers", name := "convert", desc := "(IJ)J" } : Jvm.MethodName) prog_8_method_27_code (5 : Nat) (Option.some Jvm.ClassFile.FieldType.long)) ∈ lw_all := lw_g (lw_at lw_m10 140 rfl) rfl
theorem q2660 : (Jvm.Cond.methodLink "ModuleEngine$Numbers" (176 : Nat) ({ cls := "ModuleEngine$Numbers", name := "reformat", desc := "(LModuleEngine$Numbers$Format;LModuleEngine$Numbers$Format;J)J" } : Jvm.MethodName)) ∈ lw_all := lw_g (lw_at lw_m10 141 rfl) rfl
theorem q2661 : (Jvm.Cond.static ({ cls := "ModuleEngine$Numbers", name := "reformat", desc := "(LModuleEngine$Numbers$Format;LModuleEngine$Numbers$Format;J)J" } : Jvm.MethodName)) ∈ lw_all := lw_g (lw_at lw_m10 142 rfl) rfl
theorem q2662 : (Jvm.Cond.code ({ cls := "ModuleEngine$Numbers", name := "reformat", desc := "(LModuleEngine$Numbers$Format;LModuleEngine$Numbers$Format;J)J" } : Jvm.MethodName) prog_8_method_29_code (4 : Nat) (Option.some Jvm.ClassFile.FieldType.long)) ∈ lw_all := lw_g (lw_at lw_m10 143 rfl) rfl
theorem q2663 : (Jvm.Cond.methodLink "ModuleEngine$Numbers" (180 : Nat) ({ cls := "ModuleEngine$Numbers", name := "fromWhole", desc := "(LModuleEngine$Numbers$Format;IJ)J" } : Jvm.MethodName)) ∈ lw_all := lw_g (lw_at lw_m10 144 rfl) rfl
theorem q2664 : (Jvm.Cond.static ({ cls := "ModuleEngine$Numbers", name := "fromWhole", desc := "(LModuleEngine$Numbers$Format;IJ)J" } : Jvm.MethodName)) ∈ lw_all := lw_g (lw_at lw_m10 145 rfl) rfl
theorem q2665 : (Jvm.Cond.code ({ cls := "ModuleEngine$Numbers", name := "fromWhole", desc := "(LModuleEngine$Numbers$Format;IJ)J" } : Jvm.MethodName) prog_8_method_28_code (9 : Nat) (Option.some Jvm.ClassFile.FieldType.long)) ∈ lw_all := lw_g (lw_at lw_m10 146 rfl) rfl
theorem q2667 : (Jvm.Cond.instanceMethod ({ cls := "ModuleEngine$Numbers", name := "trap", desc := "()I" } : Jvm.MethodName)) ∈ lw_all := lw_g (lw_at lw_m10 148 rfl) rfl
theorem q2668 : (Jvm.Cond.selects "ModuleEngine$Numbers" ({ cls := "ModuleEngine$Numbers", name := "trap", desc := "()I" } : Jvm.MethodName) ({ cls := "ModuleEngine$Numbers", name := "trap", desc := "()I" } : Jvm.MethodName)) ∈ lw_all := lw_g (lw_at lw_m10 149 rfl) rfl
theorem q2669 : (Jvm.Cond.code ({ cls := "ModuleEngine$Numbers", name := "trap", desc := "()I" } : Jvm.MethodName) prog_8_method_2_code (1 : Nat) (Option.some Jvm.ClassFile.FieldType.int)) ∈ lw_all := lw_g (lw_at lw_m10 150 rfl) rfl
theorem in_X4 : ∀ w ∈ wsX40, w ∈ lw_all := lw_in wsX40 [609, 611, 613, 615] (by decide +kernel) (by decide +kernel)

/-! ModuleEngine$Numbers$Format -/
set_option maxRecDepth 100000
def RX5 : String := "ModuleEngine$Numbers$Format"
def TX5 : u_T := fun k => match k with
  | 0 => ("ModuleEngine$Numbers$Format", "bits", "I", true)
  | 1 => ("ModuleEngine$Numbers$Format", "precision", "I", true)
  | 2 => ("ModuleEngine$Numbers$Format", "bias", "I", true)
  | 3 => ("ModuleEngine$Numbers$Format", "hidden", "J", true)
  | 4 => ("ModuleEngine$Numbers$Format", "none", "J", true)
  | _ => ("ModuleEngine$Numbers$Format", "infinite", "J", true)
def tyX5 : Nat → FieldType := fun k => match k with
  | 0 => .int
  | 1 => .int
  | 2 => .int
  | 3 => .long
  | 4 => .long
  | _ => .long
abbrev wsX50 : List Cond := u_ws RX5 TX5 6
theorem nmX5 : ∀ a, a < 6 → ∀ b, b < 6 → a ≠ b → (TX5 a).2.1 ≠ (TX5 b).2.1 := by decide +kernel
theorem tyX5_ok : ∀ k, k < 6 → parseFieldDescriptor (TX5 k).2.2.1 = some (tyX5 k) := by decide +kernel
abbrev cX5_init : ByteArray := prog_9_method_1_code
def yX5_init : MethodName := ⟨RX5, "<init>", "(III)V"⟩
abbrev cX5_isNone : ByteArray := prog_9_method_7_code
def yX5_isNone : MethodName := ⟨RX5, "isNone", "(J)Z"⟩
abbrev cX5_rest : ByteArray := prog_9_method_4_code
def yX5_rest : MethodName := ⟨RX5, "rest", "(J)J"⟩
abbrev cX5_signBit : ByteArray := prog_9_method_2_code
def yX5_signBit : MethodName := ⟨RX5, "signBit", "()J"⟩
abbrev cX5_sign : ByteArray := prog_9_method_3_code
def yX5_sign : MethodName := ⟨RX5, "sign", "(J)Z"⟩
abbrev cX5_signed : ByteArray := prog_9_method_10_code
def yX5_signed : MethodName := ⟨RX5, "signed", "(ZJ)J"⟩
abbrev cX5_scale : ByteArray := prog_9_method_12_code
def yX5_scale : MethodName := ⟨RX5, "scale", "(J)I"⟩
abbrev cX5_exponent : ByteArray := prog_9_method_5_code
def yX5_exponent : MethodName := ⟨RX5, "exponent", "(J)I"⟩
abbrev cX5_isInfinite : ByteArray := prog_9_method_8_code
def yX5_isInfinite : MethodName := ⟨RX5, "isInfinite", "(J)Z"⟩
abbrev cX5_isZero : ByteArray := prog_9_method_9_code
def yX5_isZero : MethodName := ⟨RX5, "isZero", "(J)Z"⟩
abbrev cX5_significand : ByteArray := prog_9_method_11_code
def yX5_significand : MethodName := ⟨RX5, "significand", "(J)J"⟩
abbrev cX5_fraction : ByteArray := prog_9_method_6_code
def yX5_fraction : MethodName := ⟨RX5, "fraction", "(J)J"⟩
abbrev cX5_round : ByteArray := prog_9_method_13_code
def yX5_round : MethodName := ⟨RX5, "round", "(ZJIZ)J"⟩
theorem q365 : (Jvm.Cond.initialized "ModuleEngine$Numbers$Format") ∈ lw_all := lw_g (lw_at lw_m1 6 rfl) rfl
theorem q578 : (Jvm.Cond.instantiable "ModuleEngine$Numbers$Format" (6 : Nat)) ∈ lw_all := lw_g (lw_at lw_m1 219 rfl) rfl
theorem q580 : (Jvm.Cond.instanceMethod ({ cls := "ModuleEngine$Numbers$Format", name := "<init>", desc := "(III)V" } : Jvm.MethodName)) ∈ lw_all := lw_g (lw_at lw_m1 221 rfl) rfl
theorem q581 : (Jvm.Cond.code ({ cls := "ModuleEngine$Numbers$Format", name := "<init>", desc := "(III)V" } : Jvm.MethodName) prog_9_method_1_code (4 : Nat) (Option.none : Option Jvm.ClassFile.FieldType)) ∈ lw_all := lw_g (lw_at lw_m1 222 rfl) rfl
theorem q582 : (Jvm.Cond.methodLink "ModuleEngine$Numbers$Format" (1 : Nat) ({ cls := "java/lang/Object", name := "<init>", desc := "()V" } : Jvm.MethodName)) ∈ lw_all := lw_g (lw_at lw_m1 223 rfl) rfl
theorem q583 : (Jvm.Cond.constantLong "ModuleEngine$Numbers$Format" (23 : Nat) (2 : Int64)) ∈ lw_all := lw_g (lw_at lw_m1 224 rfl) rfl
theorem q584 : (Jvm.Cond.fieldLink "ModuleEngine$Numbers$Format" (7 : Nat) "ModuleEngine$Numbers$Format" "bits" "I") ∈ lw_all := lw_g (lw_at lw_m1 225 rfl) rfl
theorem q585 : (Jvm.Cond.fieldLink "ModuleEngine$Numbers$Format" (13 : Nat) "ModuleEngine$Numbers$Format" "precision" "I") ∈ lw_all := lw_g (lw_at lw_m1 226 rfl) rfl
theorem q586 : (Jvm.Cond.fieldLink "ModuleEngine$Numbers$Format" (16 : Nat) "ModuleEngine$Numbers$Format" "bias" "I") ∈ lw_all := lw_g (lw_at lw_m1 227 rfl) rfl
theorem q588 : (Jvm.Cond.fieldLink "ModuleEngine$Numbers$Format" (19 : Nat) "ModuleEngine$Numbers$Format" "hidden" "J") ∈ lw_all := lw_g (lw_at lw_m1 229 rfl) rfl
theorem q589 : (Jvm.Cond.fieldLink "ModuleEngine$Numbers$Format" (28 : Nat) "ModuleEngine$Numbers$Format" "none" "J") ∈ lw_all := lw_g (lw_at lw_m1 230 rfl) rfl
theorem q591 : (Jvm.Cond.fieldLink "ModuleEngine$Numbers$Format" (25 : Nat) "ModuleEngine$Numbers$Format" "infinite" "J") ∈ lw_all := lw_g (lw_at lw_m1 232 rfl) rfl
theorem q593 : (Jvm.Cond.laysFinal "ModuleEngine$Numbers$Format" "ModuleEngine$Numbers$Format" "bits" "I") ∈ lw_all := lw_g (lw_at lw_m1 234 rfl) rfl
theorem q594 : (Jvm.Cond.soleField "ModuleEngine$Numbers$Format" "bits") ∈ lw_all := lw_g (lw_at lw_m1 235 rfl) rfl
theorem q595 : (Jvm.Cond.laysFinal "ModuleEngine$Numbers$Format" "ModuleEngine$Numbers$Format" "precision" "I") ∈ lw_all := lw_g (lw_at lw_m1 236 rfl) rfl
theorem q596 : (Jvm.Cond.soleField "ModuleEngine$Numbers$Format" "precision") ∈ lw_all := lw_g (lw_at lw_m1 237 rfl) rfl
theorem q597 : (Jvm.Cond.laysFinal "ModuleEngine$Numbers$Format" "ModuleEngine$Numbers$Format" "bias" "I") ∈ lw_all := lw_g (lw_at lw_m1 238 rfl) rfl
theorem q598 : (Jvm.Cond.soleField "ModuleEngine$Numbers$Format" "bias") ∈ lw_all := lw_g (lw_at lw_m1 239 rfl) rfl
theorem q599 : (Jvm.Cond.laysFinal "ModuleEngine$Numbers$Format" "ModuleEngine$Numbers$Format" "hidden" "J") ∈ lw_all := lw_g (lw_at lw_m2 0 rfl) rfl
theorem q600 : (Jvm.Cond.soleField "ModuleEngine$Numbers$Format" "hidden") ∈ lw_all := lw_g (lw_at lw_m2 1 rfl) rfl
theorem q601 : (Jvm.Cond.laysFinal "ModuleEngine$Numbers$Format" "ModuleEngine$Numbers$Format" "none" "J") ∈ lw_all := lw_g (lw_at lw_m2 2 rfl) rfl
theorem q602 : (Jvm.Cond.soleField "ModuleEngine$Numbers$Format" "none") ∈ lw_all := lw_g (lw_at lw_m2 3 rfl) rfl
theorem q603 : (Jvm.Cond.laysFinal "ModuleEngine$Numbers$Format" "ModuleEngine$Numbers$Format" "infinite" "J") ∈ lw_all := lw_g (lw_at lw_m2 4 rfl) rfl
theorem q604 : (Jvm.Cond.soleField "ModuleEngine$Numbers$Format" "infinite") ∈ lw_all := lw_g (lw_at lw_m2 5 rfl) rfl
theorem q605 : (Jvm.Cond.superclass "ModuleEngine$Numbers$Format" "java/lang/Object") ∈ lw_all := lw_g (lw_at lw_m2 6 rfl) rfl
theorem q2536 : (Jvm.Cond.instanceMethod ({ cls := "ModuleEngine$Numbers$Format", name := "isNone", desc := "(J)Z" } : Jvm.MethodName)) ∈ lw_all := lw_g (lw_at lw_m10 17 rfl) rfl
theorem q2537 : (Jvm.Cond.selects "ModuleEngine$Numbers$Format" ({ cls := "ModuleEngine$Numbers$Format", name := "isNone", desc := "(J)Z" } : Jvm.MethodName) ({ cls := "ModuleEngine$Numbers$Format", name := "isNone", desc := "(J)Z" } : Jvm.MethodName)) ∈ lw_all := lw_g (lw_at lw_m10 18 rfl) rfl
theorem q2538 : (Jvm.Cond.code ({ cls := "ModuleEngine$Numbers$Format", name := "isNone", desc := "(J)Z" } : Jvm.MethodName) prog_9_method_7_code (3 : Nat) (Option.some Jvm.ClassFile.FieldType.boolean)) ∈ lw_all := lw_g (lw_at lw_m10 19 rfl) rfl
theorem q2539 : (Jvm.Cond.methodLink "ModuleEngine$Numbers$Format" (35 : Nat) ({ cls := "ModuleEngine$Numbers$Format", name := "rest", desc := "(J)J" } : Jvm.MethodName)) ∈ lw_all := lw_g (lw_at lw_m10 20 rfl) rfl
theorem q2540 : (Jvm.Cond.instanceMethod ({ cls := "ModuleEngine$Numbers$Format", name := "rest", desc := "(J)J" } : Jvm.MethodName)) ∈ lw_all := lw_g (lw_at lw_m10 21 rfl) rfl
theorem q2541 : (Jvm.Cond.selects "ModuleEngine$Numbers$Format" ({ cls := "ModuleEngine$Numbers$Format", name := "rest", desc := "(J)J" } : Jvm.MethodName) ({ cls := "ModuleEngine$Numbers$Format", name := "rest", desc := "(J)J" } : Jvm.MethodName)) ∈ lw_all := lw_g (lw_at lw_m10 22 rfl) rfl
theorem q2542 : (Jvm.Cond.code ({ cls := "ModuleEngine$Numbers$Format", name := "rest", desc := "(J)J" } : Jvm.MethodName) prog_9_method_4_code (3 : Nat) (Option.some Jvm.ClassFile.FieldType.long)) ∈ lw_all := lw_g (lw_at lw_m10 23 rfl) rfl
theorem q2543 : (Jvm.Cond.methodLink "ModuleEngine$Numbers$Format" (31 : Nat) ({ cls := "ModuleEngine$Numbers$Format", name := "signBit", desc := "()J" } : Jvm.MethodName)) ∈ lw_all := lw_g (lw_at lw_m10 24 rfl) rfl
theorem q2544 : (Jvm.Cond.instanceMethod ({ cls := "ModuleEngine$Numbers$Format", name := "signBit", desc := "()J" } : Jvm.MethodName)) ∈ lw_all := lw_g (lw_at lw_m10 25 rfl) rfl
theorem q2545 : (Jvm.Cond.selects "ModuleEngine$Numbers$Format" ({ cls := "ModuleEngine$Numbers$Format", name := "signBit", desc := "()J" } : Jvm.MethodName) ({ cls := "ModuleEngine$Numbers$Format", name := "signBit", desc := "()J" } : Jvm.MethodName)) ∈ lw_all := lw_g (lw_at lw_m10 26 rfl) rfl
theorem q2546 : (Jvm.Cond.code ({ cls := "ModuleEngine$Numbers$Format", name := "signBit", desc := "()J" } : Jvm.MethodName) prog_9_method_2_code (1 : Nat) (Option.some Jvm.ClassFile.FieldType.long)) ∈ lw_all := lw_g (lw_at lw_m10 27 rfl) rfl
theorem q2548 : (Jvm.Cond.instanceMethod ({ cls := "ModuleEngine$Numbers$Format", name := "sign", desc := "(J)Z" } : Jvm.MethodName)) ∈ lw_all := lw_g (lw_at lw_m10 29 rfl) rfl
theorem q2549 : (Jvm.Cond.selects "ModuleEngine$Numbers$Format" ({ cls := "ModuleEngine$Numbers$Format", name := "sign", desc := "(J)Z" } : Jvm.MethodName) ({ cls := "ModuleEngine$Numbers$Format", name := "sign", desc := "(J)Z" } : Jvm.MethodName)) ∈ lw_all := lw_g (lw_at lw_m10 30 rfl) rfl
theorem q2550 : (Jvm.Cond.code ({ cls := "ModuleEngine$Numbers$Format", name := "sign", desc := "(J)Z" } : Jvm.MethodName) prog_9_method_3_code (3 : Nat) (Option.some Jvm.ClassFile.FieldType.boolean)) ∈ lw_all := lw_g (lw_at lw_m10 31 rfl) rfl
theorem q2586 : (Jvm.Cond.instanceMethod ({ cls := "ModuleEngine$Numbers$Format", name := "signed", desc := "(ZJ)J" } : Jvm.MethodName)) ∈ lw_all := lw_g (lw_at lw_m10 67 rfl) rfl
theorem q2587 : (Jvm.Cond.selects "ModuleEngine$Numbers$Format" ({ cls := "ModuleEngine$Numbers$Format", name := "signed", desc := "(ZJ)J" } : Jvm.MethodName) ({ cls := "ModuleEngine$Numbers$Format", name := "signed", desc := "(ZJ)J" } : Jvm.MethodName)) ∈ lw_all := lw_g (lw_at lw_m10 68 rfl) rfl
theorem q2588 : (Jvm.Cond.code ({ cls := "ModuleEngine$Numbers$Format", name := "signed", desc := "(ZJ)J" } : Jvm.MethodName) prog_9_method_10_code (4 : Nat) (Option.some Jvm.ClassFile.FieldType.long)) ∈ lw_all := lw_g (lw_at lw_m10 69 rfl) rfl
theorem q2593 : (Jvm.Cond.instanceMethod ({ cls := "ModuleEngine$Numbers$Format", name := "scale", desc := "(J)I" } : Jvm.MethodName)) ∈ lw_all := lw_g (lw_at lw_m10 74 rfl) rfl
theorem q2594 : (Jvm.Cond.selects "ModuleEngine$Numbers$Format" ({ cls := "ModuleEngine$Numbers$Format", name := "scale", desc := "(J)I" } : Jvm.MethodName) ({ cls := "ModuleEngine$Numbers$Format", name := "scale", desc := "(J)I" } : Jvm.MethodName)) ∈ lw_all := lw_g (lw_at lw_m10 75 rfl) rfl
theorem q2595 : (Jvm.Cond.code ({ cls := "ModuleEngine$Numbers$Format", name := "scale", desc := "(J)I" } : Jvm.MethodName) prog_9_method_12_code (3 : Nat) (Option.some Jvm.ClassFile.FieldType.int)) ∈ lw_all := lw_g (lw_at lw_m10 76 rfl) rfl
theorem q2596 : (Jvm.Cond.methodLink "ModuleEngine$Numbers$Format" (39 : Nat) ({ cls := "ModuleEngine$Numbers$Format", name := "exponent", desc := "(J)I" } : Jvm.MethodName)) ∈ lw_all := lw_g (lw_at lw_m10 77 rfl) rfl
theorem q2597 : (Jvm.Cond.instanceMethod ({ cls := "ModuleEngine$Numbers$Format", name := "exponent", desc := "(J)I" } : Jvm.MethodName)) ∈ lw_all := lw_g (lw_at lw_m10 78 rfl) rfl
theorem q2598 : (Jvm.Cond.selects "ModuleEngine$Numbers$Format" ({ cls := "ModuleEngine$Numbers$Format", name := "exponent", desc := "(J)I" } : Jvm.MethodName) ({ cls := "ModuleEngine$Numbers$Format", name := "exponent", desc := "(J)I" } : Jvm.MethodName)) ∈ lw_all := lw_g (lw_at lw_m10 79 rfl) rfl
theorem q2599 : (Jvm.Cond.code ({ cls := "ModuleEngine$Numbers$Format", name := "exponent", desc := "(J)I" } : Jvm.MethodName) prog_9_method_5_code (3 : Nat) (Option.some Jvm.ClassFile.FieldType.int)) ∈ lw_all := lw_g (lw_at lw_m10 80 rfl) rfl
theorem q2601 : (Jvm.Cond.instanceMethod ({ cls := "ModuleEngine$Numbers$Format", name := "isInfinite", desc := "(J)Z" } : Jvm.MethodName)) ∈ lw_all := lw_g (lw_at lw_m10 82 rfl) rfl
theorem q2602 : (Jvm.Cond.selects "ModuleEngine$Numbers$Format" ({ cls := "ModuleEngine$Numbers$Format", name := "isInfinite", desc := "(J)Z" } : Jvm.MethodName) ({ cls := "ModuleEngine$Numbers$Format", name := "isInfinite", desc := "(J)Z" } : Jvm.MethodName)) ∈ lw_all := lw_g (lw_at lw_m10 83 rfl) rfl
theorem q2603 : (Jvm.Cond.code ({ cls := "ModuleEngine$Numbers$Format", name := "isInfinite", desc := "(J)Z" } : Jvm.MethodName) prog_9_method_8_code (3 : Nat) (Option.some Jvm.ClassFile.FieldType.boolean)) ∈ lw_all := lw_g (lw_at lw_m10 84 rfl) rfl
theorem q2605 : (Jvm.Cond.instanceMethod ({ cls := "ModuleEngine$Numbers$Format", name := "isZero", desc := "(J)Z" } : Jvm.MethodName)) ∈ lw_all := lw_g (lw_at lw_m10 86 rfl) rfl
theorem q2606 : (Jvm.Cond.selects "ModuleEngine$Numbers$Format" ({ cls := "ModuleEngine$Numbers$Format", name := "isZero", desc := "(J)Z" } : Jvm.MethodName) ({ cls := "ModuleEngine$Numbers$Format", name := "isZero", desc := "(J)Z" } : Jvm.MethodName)) ∈ lw_all := lw_g (lw_at lw_m10 87 rfl) rfl
theorem q2607 : (Jvm.Cond.code ({ cls := "ModuleEngine$Numbers$Format", name := "isZero", desc := "(J)Z" } : Jvm.MethodName) prog_9_method_9_code (3 : Nat) (Option.some Jvm.ClassFile.FieldType.boolean)) ∈ lw_all := lw_g (lw_at lw_m10 88 rfl) rfl
theorem q2609 : (Jvm.Cond.instanceMethod ({ cls := "ModuleEngine$Numbers$Format", name := "significand", desc := "(J)J" } : Jvm.MethodName)) ∈ lw_all := lw_g (lw_at lw_m10 90 rfl) rfl
theorem q2610 : (Jvm.Cond.selects "ModuleEngine$Numbers$Format" ({ cls := "ModuleEngine$Numbers$Format", name := "significand", desc := "(J)J" } : Jvm.MethodName) ({ cls := "ModuleEngine$Numbers$Format", name := "significand", desc := "(J)J" } : Jvm.MethodName)) ∈ lw_all := lw_g (lw_at lw_m10 91 rfl) rfl
theorem q2611 : (Jvm.Cond.code ({ cls := "ModuleEngine$Numbers$Format", name := "significand", desc := "(J)J" } : Jvm.MethodName) prog_9_method_11_code (3 : Nat) (Option.some Jvm.ClassFile.FieldType.long)) ∈ lw_all := lw_g (lw_at lw_m10 92 rfl) rfl
theorem q2612 : (Jvm.Cond.methodLink "ModuleEngine$Numbers$Format" (43 : Nat) ({ cls := "ModuleEngine$Numbers$Format", name := "fraction", desc := "(J)J" } : Jvm.MethodName)) ∈ lw_all := lw_g (lw_at lw_m10 93 rfl) rfl
theorem q2613 : (Jvm.Cond.instanceMethod ({ cls := "ModuleEngine$Numbers$Format", name := "fraction", desc := "(J)J" } : Jvm.MethodName)) ∈ lw_all := lw_g (lw_at lw_m10 94 rfl) rfl
theorem q2614 : (Jvm.Cond.selects "ModuleEngine$Numbers$Format" ({ cls := "ModuleEngine$Numbers$Format", name := "fraction", desc := "(J)J" } : Jvm.MethodName) ({ cls := "ModuleEngine$Numbers$Format", name := "fraction", desc := "(J)J" } : Jvm.MethodName)) ∈ lw_all := lw_g (lw_at lw_m10 95 rfl) rfl
theorem q2615 : (Jvm.Cond.code ({ cls := "ModuleEngine$Numbers$Format", name := "fraction", desc := "(J)J" } : Jvm.MethodName) prog_9_method_6_code (3 : Nat) (Option.some Jvm.ClassFile.FieldType.long)) ∈ lw_all := lw_g (lw_at lw_m10 96 rfl) rfl
theorem q2617 : (Jvm.Cond.instanceMethod ({ cls := "ModuleEngine$Numbers$Format", name := "round", desc := "(ZJIZ)J" } : Jvm.MethodName)) ∈ lw_all := lw_g (lw_at lw_m10 98 rfl) rfl
theorem q2618 : (Jvm.Cond.selects "ModuleEngine$Numbers$Format" ({ cls := "ModuleEngine$Numbers$Format", name := "round", desc := "(ZJIZ)J" } : Jvm.MethodName) ({ cls := "ModuleEngine$Numbers$Format", name := "round", desc := "(ZJIZ)J" } : Jvm.MethodName)) ∈ lw_all := lw_g (lw_at lw_m10 99 rfl) rfl
theorem q2619 : (Jvm.Cond.code ({ cls := "ModuleEngine$Numbers$Format", name := "round", desc := "(ZJIZ)J" } : Jvm.MethodName) prog_9_method_13_code (20 : Nat) (Option.some Jvm.ClassFile.FieldType.long)) ∈ lw_all := lw_g (lw_at lw_m10 100 rfl) rfl
theorem q2620 : (Jvm.Cond.constantLong "ModuleEngine$Numbers$Format" (46 : Nat) (4611686018427387904 : Int64)) ∈ lw_all := lw_g (lw_at lw_m10 101 rfl) rfl
theorem q2621 : (Jvm.Cond.methodLink "ModuleEngine$Numbers$Format" (48 : Nat) ({ cls := "ModuleEngine$Numbers$Format", name := "signed", desc := "(ZJ)J" } : Jvm.MethodName)) ∈ lw_all := lw_g (lw_at lw_m10 102 rfl) rfl
theorem in_X5 : ∀ w ∈ wsX50, w ∈ lw_all := lw_in wsX50 [593, 595, 597, 599, 601, 603] (by decide +kernel) (by decide +kernel)

/-! ModuleEngine$Flat -/
set_option maxRecDepth 100000
def RX6 : String := "ModuleEngine$Flat"
def TX6 : u_T := fun k => match k with
  | 0 => ("ModuleEngine$Flat", "numbers", "LModuleEngine$Numbers;", true)
  | 1 => ("ModuleEngine$Flat", "code", "[I", false)
  | 2 => ("ModuleEngine$Flat", "used", "I", false)
  | 3 => ("ModuleEngine$Flat", "starts", "LModuleEngine$Row;", true)
  | 4 => ("ModuleEngine$Flat", "parameters", "LModuleEngine$Row;", true)
  | 5 => ("ModuleEngine$Flat", "results", "LModuleEngine$Row;", true)
  | 6 => ("ModuleEngine$Flat", "locals", "LModuleEngine$Row;", true)
  | 7 => ("ModuleEngine$Flat", "highest", "LModuleEngine$Row;", true)
  | 8 => ("ModuleEngine$Flat", "most", "I", false)
  | 9 => ("ModuleEngine$Flat", "kind", "[I", true)
  | 10 => ("ModuleEngine$Flat", "takes", "[I", true)
  | 11 => ("ModuleEngine$Flat", "gives", "[I", true)
  | 12 => ("ModuleEngine$Flat", "height", "[I", true)
  | 13 => ("ModuleEngine$Flat", "begin", "[I", true)
  | 14 => ("ModuleEngine$Flat", "chain", "[I", true)
  | 15 => ("ModuleEngine$Flat", "other", "[I", true)
  | 16 => ("ModuleEngine$Flat", "labels", "I", false)
  | _ => ("ModuleEngine$Flat", "operands", "I", false)
def tyX6 : Nat → FieldType := fun k => match k with
  | 0 => .object "ModuleEngine$Numbers"
  | 1 => .array .int
  | 2 => .int
  | 3 => .object "ModuleEngine$Row"
  | 4 => .object "ModuleEngine$Row"
  | 5 => .object "ModuleEngine$Row"
  | 6 => .object "ModuleEngine$Row"
  | 7 => .object "ModuleEngine$Row"
  | 8 => .int
  | 9 => .array .int
  | 10 => .array .int
  | 11 => .array .int
  | 12 => .array .int
  | 13 => .array .int
  | 14 => .array .int
  | 15 => .array .int
  | 16 => .int
  | _ => .int
abbrev wsX60 : List Cond := u_ws RX6 TX6 18
set_option maxRecDepth 100000 in
theorem nmX6 : ∀ a, a < 18 → ∀ b, b < 18 → a ≠ b → (TX6 a).2.1 ≠ (TX6 b).2.1 := by decide +kernel
set_option maxRecDepth 100000 in
theorem tyX6_ok : ∀ k, k < 18 → parseFieldDescriptor (TX6 k).2.2.1 = some (tyX6 k) := by decide +kernel
abbrev cX6_init : ByteArray := prog_4_method_1_code
def yX6_init : MethodName := ⟨RX6, "<init>", "(LModuleEngine$Numbers;)V"⟩
abbrev cX6_many : ByteArray := prog_4_method_2_code
def yX6_many : MethodName := ⟨RX6, "many", "()I"⟩
abbrev cX6_begin : ByteArray := prog_4_method_9_code
def yX6_begin : MethodName := ⟨RX6, "begin", "(III)V"⟩
abbrev cX6_label : ByteArray := prog_4_method_10_code
def yX6_label : MethodName := ⟨RX6, "label", "(III)V"⟩
abbrev cX6_stop : ByteArray := prog_4_method_24_code
def yX6_stop : MethodName := ⟨RX6, "stop", "()V"⟩
abbrev cX6_emit : ByteArray := prog_4_method_14_code
def yX6_emit : MethodName := ⟨RX6, "emit", "(IIII)I"⟩
abbrev cX6_die : ByteArray := prog_4_method_13_code
def yX6_die : MethodName := ⟨RX6, "die", "()V"⟩
abbrev cX6_open : ByteArray := prog_4_method_18_code
def yX6_open : MethodName := ⟨RX6, "open", "(III)V"⟩
abbrev cX6_take : ByteArray := prog_4_method_11_code
def yX6_take : MethodName := ⟨RX6, "take", "(I)V"⟩
abbrev cX6_put : ByteArray := prog_4_method_12_code
def yX6_put : MethodName := ⟨RX6, "put", "(I)V"⟩
abbrev cX6_count : ByteArray := prog_4_method_26_code
def yX6_count : MethodName := ⟨RX6, "count", "()V"⟩
abbrev cX6_otherPart : ByteArray := prog_4_method_19_code
def yX6_otherPart : MethodName := ⟨RX6, "otherPart", "()V"⟩
abbrev cX6_close : ByteArray := prog_4_method_20_code
def yX6_close : MethodName := ⟨RX6, "close", "()Z"⟩
abbrev cX6_patch : ByteArray := prog_4_method_17_code
def yX6_patch : MethodName := ⟨RX6, "patch", "(I)V"⟩
abbrev cX6_branch : ByteArray := prog_4_method_21_code
def yX6_branch : MethodName := ⟨RX6, "branch", "(II)V"⟩
abbrev cX6_wants : ByteArray := prog_4_method_15_code
def yX6_wants : MethodName := ⟨RX6, "wants", "(I)I"⟩
abbrev cX6_emitBranch : ByteArray := prog_4_method_16_code
def yX6_emitBranch : MethodName := ⟨RX6, "emitBranch", "(II)V"⟩
abbrev cX6_table : ByteArray := prog_4_method_22_code
def yX6_table : MethodName := ⟨RX6, "table", "(LModuleEngine$Row;I)V"⟩
abbrev cX6_leave : ByteArray := prog_4_method_23_code
def yX6_leave : MethodName := ⟨RX6, "leave", "()V"⟩
abbrev cX6_write : ByteArray := prog_4_method_25_code
def yX6_write : MethodName := ⟨RX6, "write", "(IIIIII)V"⟩
abbrev cX6_in : ByteArray := prog_4_method_27_code
def yX6_in : MethodName := ⟨RX6, "in", "(I)I"⟩
abbrev cX6_out : ByteArray := prog_4_method_28_code
def yX6_out : MethodName := ⟨RX6, "out", "(I)I"⟩
abbrev cX6_asks : ByteArray := prog_4_method_8_code
def yX6_asks : MethodName := ⟨RX6, "asks", "(I)I"⟩
abbrev cX6_localsOf : ByteArray := prog_4_method_7_code
def yX6_localsOf : MethodName := ⟨RX6, "localsOf", "(I)I"⟩
abbrev cX6_opAt : ByteArray := prog_4_method_3_code
def yX6_opAt : MethodName := ⟨RX6, "opAt", "(I)I"⟩
abbrev cX6_fieldAt : ByteArray := prog_4_method_4_code
def yX6_fieldAt : MethodName := ⟨RX6, "fieldAt", "(II)I"⟩
abbrev cX6_parametersOf : ByteArray := prog_4_method_5_code
def yX6_parametersOf : MethodName := ⟨RX6, "parametersOf", "(I)I"⟩
theorem q366 : (Jvm.Cond.initialized "ModuleEngine$Flat") ∈ lw_all := lw_g (lw_at lw_m1 7 rfl) rfl
theorem q619 : (Jvm.Cond.instantiable "ModuleEngine$Flat" (18 : Nat)) ∈ lw_all := lw_g (lw_at lw_m2 20 rfl) rfl
theorem q621 : (Jvm.Cond.instanceMethod ({ cls := "ModuleEngine$Flat", name := "<init>", desc := "(LModuleEngine$Numbers;)V" } : Jvm.MethodName)) ∈ lw_all := lw_g (lw_at lw_m2 22 rfl) rfl
theorem q622 : (Jvm.Cond.code ({ cls := "ModuleEngine$Flat", name := "<init>", desc := "(LModuleEngine$Numbers;)V" } : Jvm.MethodName) prog_4_method_1_code (2 : Nat) (Option.none : Option Jvm.ClassFile.FieldType)) ∈ lw_all := lw_g (lw_at lw_m2 23 rfl) rfl
theorem q623 : (Jvm.Cond.methodLink "ModuleEngine$Flat" (1 : Nat) ({ cls := "java/lang/Object", name := "<init>", desc := "()V" } : Jvm.MethodName)) ∈ lw_all := lw_g (lw_at lw_m2 24 rfl) rfl
theorem q624 : (Jvm.Cond.classLink "ModuleEngine$Flat" (13 : Nat) "ModuleEngine$Row") ∈ lw_all := lw_g (lw_at lw_m2 25 rfl) rfl
theorem q625 : (Jvm.Cond.methodLinkNest "ModuleEngine$Flat" (15 : Nat) ({ cls := "ModuleEngine$Row", name := "<init>", desc := "()V" } : Jvm.MethodName) "ModuleEngine") ∈ lw_tbl := lw_at lw_m2 26 rfl
theorem q626 : (Jvm.Cond.fieldLink "ModuleEngine$Flat" (53 : Nat) "ModuleEngine$Flat" "numbers" "LModuleEngine$Numbers;") ∈ lw_all := lw_g (lw_at lw_m2 27 rfl) rfl
theorem q627 : (Jvm.Cond.fieldLink "ModuleEngine$Flat" (7 : Nat) "ModuleEngine$Flat" "code" "[I") ∈ lw_all := lw_g (lw_at lw_m2 28 rfl) rfl
theorem q628 : (Jvm.Cond.fieldLink "ModuleEngine$Flat" (68 : Nat) "ModuleEngine$Flat" "used" "I") ∈ lw_all := lw_g (lw_at lw_m2 29 rfl) rfl
theorem q629 : (Jvm.Cond.fieldLink "ModuleEngine$Flat" (16 : Nat) "ModuleEngine$Flat" "starts" "LModuleEngine$Row;") ∈ lw_all := lw_g (lw_at lw_m2 30 rfl) rfl
theorem q632 : (Jvm.Cond.fieldLink "ModuleEngine$Flat" (20 : Nat) "ModuleEngine$Flat" "parameters" "LModuleEngine$Row;") ∈ lw_all := lw_g (lw_at lw_m2 33 rfl) rfl
theorem q633 : (Jvm.Cond.fieldLink "ModuleEngine$Flat" (23 : Nat) "ModuleEngine$Flat" "results" "LModuleEngine$Row;") ∈ lw_all := lw_g (lw_at lw_m2 34 rfl) rfl
theorem q634 : (Jvm.Cond.fieldLink "ModuleEngine$Flat" (26 : Nat) "ModuleEngine$Flat" "locals" "LModuleEngine$Row;") ∈ lw_all := lw_g (lw_at lw_m2 35 rfl) rfl
theorem q635 : (Jvm.Cond.fieldLink "ModuleEngine$Flat" (29 : Nat) "ModuleEngine$Flat" "highest" "LModuleEngine$Row;") ∈ lw_all := lw_g (lw_at lw_m2 36 rfl) rfl
theorem q636 : (Jvm.Cond.fieldLink "ModuleEngine$Flat" (76 : Nat) "ModuleEngine$Flat" "most" "I") ∈ lw_all := lw_g (lw_at lw_m2 37 rfl) rfl
theorem q637 : (Jvm.Cond.fieldLink "ModuleEngine$Flat" (32 : Nat) "ModuleEngine$Flat" "kind" "[I") ∈ lw_all := lw_g (lw_at lw_m2 38 rfl) rfl
theorem q638 : (Jvm.Cond.fieldLink "ModuleEngine$Flat" (35 : Nat) "ModuleEngine$Flat" "takes" "[I") ∈ lw_all := lw_g (lw_at lw_m2 39 rfl) rfl
theorem q639 : (Jvm.Cond.fieldLink "ModuleEngine$Flat" (38 : Nat) "ModuleEngine$Flat" "gives" "[I") ∈ lw_all := lw_g (lw_at lw_m2 40 rfl) rfl
theorem q640 : (Jvm.Cond.fieldLink "ModuleEngine$Flat" (41 : Nat) "ModuleEngine$Flat" "height" "[I") ∈ lw_all := lw_g (lw_at lw_m2 41 rfl) rfl
theorem q641 : (Jvm.Cond.fieldLink "ModuleEngine$Flat" (44 : Nat) "ModuleEngine$Flat" "begin" "[I") ∈ lw_all := lw_g (lw_at lw_m2 42 rfl) rfl
theorem q642 : (Jvm.Cond.fieldLink "ModuleEngine$Flat" (47 : Nat) "ModuleEngine$Flat" "chain" "[I") ∈ lw_all := lw_g (lw_at lw_m2 43 rfl) rfl
theorem q643 : (Jvm.Cond.fieldLink "ModuleEngine$Flat" (50 : Nat) "ModuleEngine$Flat" "other" "[I") ∈ lw_all := lw_g (lw_at lw_m2 44 rfl) rfl
theorem q644 : (Jvm.Cond.fieldLink "ModuleEngine$Flat" (79 : Nat) "ModuleEngine$Flat" "labels" "I") ∈ lw_all := lw_g (lw_at lw_m2 45 rfl) rfl
theorem q645 : (Jvm.Cond.fieldLink "ModuleEngine$Flat" (82 : Nat) "ModuleEngine$Flat" "operands" "I") ∈ lw_all := lw_g (lw_at lw_m2 46 rfl) rfl
theorem q646 : (Jvm.Cond.laysFinal "ModuleEngine$Flat" "ModuleEngine$Flat" "numbers" "LModuleEngine$Numbers;") ∈ lw_all := lw_g (lw_at lw_m2 47 rfl) rfl
theorem q647 : (Jvm.Cond.soleField "ModuleEngine$Flat" "numbers") ∈ lw_all := lw_g (lw_at lw_m2 48 rfl) rfl
theorem q648 : (Jvm.Cond.lays "ModuleEngine$Flat" "ModuleEngine$Flat" "code" "[I") ∈ lw_all := lw_g (lw_at lw_m2 49 rfl) rfl
theorem q649 : (Jvm.Cond.soleField "ModuleEngine$Flat" "code") ∈ lw_all := lw_g (lw_at lw_m2 50 rfl) rfl
theorem q650 : (Jvm.Cond.lays "ModuleEngine$Flat" "ModuleEngine$Flat" "used" "I") ∈ lw_all := lw_g (lw_at lw_m2 51 rfl) rfl
theorem q651 : (Jvm.Cond.soleField "ModuleEngine$Flat" "used") ∈ lw_all := lw_g (lw_at lw_m2 52 rfl) rfl
theorem q652 : (Jvm.Cond.laysFinal "ModuleEngine$Flat" "ModuleEngine$Flat" "starts" "LModuleEngine$Row;") ∈ lw_all := lw_g (lw_at lw_m2 53 rfl) rfl
theorem q653 : (Jvm.Cond.soleField "ModuleEngine$Flat" "starts") ∈ lw_all := lw_g (lw_at lw_m2 54 rfl) rfl
theorem q654 : (Jvm.Cond.laysFinal "ModuleEngine$Flat" "ModuleEngine$Flat" "parameters" "LModuleEngine$Row;") ∈ lw_all := lw_g (lw_at lw_m2 55 rfl) rfl
theorem q655 : (Jvm.Cond.soleField "ModuleEngine$Flat" "parameters") ∈ lw_all := lw_g (lw_at lw_m2 56 rfl) rfl
theorem q656 : (Jvm.Cond.laysFinal "ModuleEngine$Flat" "ModuleEngine$Flat" "results" "LModuleEngine$Row;") ∈ lw_all := lw_g (lw_at lw_m2 57 rfl) rfl
theorem q657 : (Jvm.Cond.soleField "ModuleEngine$Flat" "results") ∈ lw_all := lw_g (lw_at lw_m2 58 rfl) rfl
theorem q658 : (Jvm.Cond.laysFinal "ModuleEngine$Flat" "ModuleEngine$Flat" "locals" "LModuleEngine$Row;") ∈ lw_all := lw_g (lw_at lw_m2 59 rfl) rfl
theorem q659 : (Jvm.Cond.soleField "ModuleEngine$Flat" "locals") ∈ lw_all := lw_g (lw_at lw_m2 60 rfl) rfl
theorem q660 : (Jvm.Cond.laysFinal "ModuleEngine$Flat" "ModuleEngine$Flat" "highest" "LModuleEngine$Row;") ∈ lw_all := lw_g (lw_at lw_m2 61 rfl) rfl
theorem q661 : (Jvm.Cond.soleField "ModuleEngine$Flat" "highest") ∈ lw_all := lw_g (lw_at lw_m2 62 rfl) rfl
theorem q662 : (Jvm.Cond.lays "ModuleEngine$Flat" "ModuleEngine$Flat" "most" "I") ∈ lw_all := lw_g (lw_at lw_m2 63 rfl) rfl
theorem q663 : (Jvm.Cond.soleField "ModuleEngine$Flat" "most") ∈ lw_all := lw_g (lw_at lw_m2 64 rfl) rfl
theorem q664 : (Jvm.Cond.laysFinal "ModuleEngine$Flat" "ModuleEngine$Flat" "kind" "[I") ∈ lw_all := lw_g (lw_at lw_m2 65 rfl) rfl
theorem q665 : (Jvm.Cond.soleField "ModuleEngine$Flat" "kind") ∈ lw_all := lw_g (lw_at lw_m2 66 rfl) rfl
theorem q666 : (Jvm.Cond.laysFinal "ModuleEngine$Flat" "ModuleEngine$Flat" "takes" "[I") ∈ lw_all := lw_g (lw_at lw_m2 67 rfl) rfl
theorem q667 : (Jvm.Cond.soleField "ModuleEngine$Flat" "takes") ∈ lw_all := lw_g (lw_at lw_m2 68 rfl) rfl
theorem q668 : (Jvm.Cond.laysFinal "ModuleEngine$Flat" "ModuleEngine$Flat" "gives" "[I") ∈ lw_all := lw_g (lw_at lw_m2 69 rfl) rfl
theorem q669 : (Jvm.Cond.soleField "ModuleEngine$Flat" "gives") ∈ lw_all := lw_g (lw_at lw_m2 70 rfl) rfl
theorem q670 : (Jvm.Cond.laysFinal "ModuleEngine$Flat" "ModuleEngine$Flat" "height" "[I") ∈ lw_all := lw_g (lw_at lw_m2 71 rfl) rfl
theorem q671 : (Jvm.Cond.soleField "ModuleEngine$Flat" "height") ∈ lw_all := lw_g (lw_at lw_m2 72 rfl) rfl
theorem q672 : (Jvm.Cond.laysFinal "ModuleEngine$Flat" "ModuleEngine$Flat" "begin" "[I") ∈ lw_all := lw_g (lw_at lw_m2 73 rfl) rfl
theorem q673 : (Jvm.Cond.soleField "ModuleEngine$Flat" "begin") ∈ lw_all := lw_g (lw_at lw_m2 74 rfl) rfl
theorem q674 : (Jvm.Cond.laysFinal "ModuleEngine$Flat" "ModuleEngine$Flat" "chain" "[I") ∈ lw_all := lw_g (lw_at lw_m2 75 rfl) rfl
theorem q675 : (Jvm.Cond.soleField "ModuleEngine$Flat" "chain") ∈ lw_all := lw_g (lw_at lw_m2 76 rfl) rfl
theorem q676 : (Jvm.Cond.laysFinal "ModuleEngine$Flat" "ModuleEngine$Flat" "other" "[I") ∈ lw_all := lw_g (lw_at lw_m2 77 rfl) rfl
theorem q677 : (Jvm.Cond.soleField "ModuleEngine$Flat" "other") ∈ lw_all := lw_g (lw_at lw_m2 78 rfl) rfl
theorem q678 : (Jvm.Cond.lays "ModuleEngine$Flat" "ModuleEngine$Flat" "labels" "I") ∈ lw_all := lw_g (lw_at lw_m2 79 rfl) rfl
theorem q679 : (Jvm.Cond.soleField "ModuleEngine$Flat" "labels") ∈ lw_all := lw_g (lw_at lw_m2 80 rfl) rfl
theorem q680 : (Jvm.Cond.lays "ModuleEngine$Flat" "ModuleEngine$Flat" "operands" "I") ∈ lw_all := lw_g (lw_at lw_m2 81 rfl) rfl
theorem q681 : (Jvm.Cond.soleField "ModuleEngine$Flat" "operands") ∈ lw_all := lw_g (lw_at lw_m2 82 rfl) rfl
theorem q682 : (Jvm.Cond.superclass "ModuleEngine$Flat" "java/lang/Object") ∈ lw_all := lw_g (lw_at lw_m2 83 rfl) rfl
theorem q1527 : (Jvm.Cond.instanceMethod ({ cls := "ModuleEngine$Flat", name := "many", desc := "()I" } : Jvm.MethodName)) ∈ lw_all := lw_g (lw_at lw_m5 208 rfl) rfl
theorem q1528 : (Jvm.Cond.selects "ModuleEngine$Flat" ({ cls := "ModuleEngine$Flat", name := "many", desc := "()I" } : Jvm.MethodName) ({ cls := "ModuleEngine$Flat", name := "many", desc := "()I" } : Jvm.MethodName)) ∈ lw_all := lw_g (lw_at lw_m5 209 rfl) rfl
theorem q1529 : (Jvm.Cond.code ({ cls := "ModuleEngine$Flat", name := "many", desc := "()I" } : Jvm.MethodName) prog_4_method_2_code (1 : Nat) (Option.some Jvm.ClassFile.FieldType.int)) ∈ lw_all := lw_g (lw_at lw_m5 210 rfl) rfl
theorem q1530 : (Jvm.Cond.methodLink "ModuleEngine$Flat" (57 : Nat) ({ cls := "ModuleEngine$Row", name := "size", desc := "()I" } : Jvm.MethodName)) ∈ lw_all := lw_g (lw_at lw_m5 211 rfl) rfl
theorem q2027 : (Jvm.Cond.instanceMethod ({ cls := "ModuleEngine$Flat", name := "begin", desc := "(III)V" } : Jvm.MethodName)) ∈ lw_all := lw_g (lw_at lw_m7 228 rfl) rfl
theorem q2028 : (Jvm.Cond.selects "ModuleEngine$Flat" ({ cls := "ModuleEngine$Flat", name := "begin", desc := "(III)V" } : Jvm.MethodName) ({ cls := "ModuleEngine$Flat", name := "begin", desc := "(III)V" } : Jvm.MethodName)) ∈ lw_all := lw_g (lw_at lw_m7 229 rfl) rfl
theorem q2029 : (Jvm.Cond.code ({ cls := "ModuleEngine$Flat", name := "begin", desc := "(III)V" } : Jvm.MethodName) prog_4_method_9_code (4 : Nat) (Option.none : Option Jvm.ClassFile.FieldType)) ∈ lw_all := lw_g (lw_at lw_m7 230 rfl) rfl
theorem q2030 : (Jvm.Cond.methodLink "ModuleEngine$Flat" (72 : Nat) ({ cls := "ModuleEngine$Row", name := "add", desc := "(I)V" } : Jvm.MethodName)) ∈ lw_all := lw_g (lw_at lw_m7 231 rfl) rfl
theorem q2031 : (Jvm.Cond.methodLink "ModuleEngine$Flat" (85 : Nat) ({ cls := "ModuleEngine$Flat", name := "label", desc := "(III)V" } : Jvm.MethodName)) ∈ lw_all := lw_g (lw_at lw_m7 232 rfl) rfl
theorem q2032 : (Jvm.Cond.privateMethod ({ cls := "ModuleEngine$Flat", name := "label", desc := "(III)V" } : Jvm.MethodName)) ∈ lw_tbl := lw_at lw_m7 233 rfl
theorem q2033 : (Jvm.Cond.instanceMethod ({ cls := "ModuleEngine$Flat", name := "label", desc := "(III)V" } : Jvm.MethodName)) ∈ lw_all := lw_g (lw_at lw_m7 234 rfl) rfl
theorem q2034 : (Jvm.Cond.code ({ cls := "ModuleEngine$Flat", name := "label", desc := "(III)V" } : Jvm.MethodName) prog_4_method_10_code (4 : Nat) (Option.none : Option Jvm.ClassFile.FieldType)) ∈ lw_all := lw_g (lw_at lw_m7 235 rfl) rfl
theorem q2040 : (Jvm.Cond.instanceMethod ({ cls := "ModuleEngine$Flat", name := "stop", desc := "()V" } : Jvm.MethodName)) ∈ lw_all := lw_g (lw_at lw_m8 1 rfl) rfl
theorem q2041 : (Jvm.Cond.selects "ModuleEngine$Flat" ({ cls := "ModuleEngine$Flat", name := "stop", desc := "()V" } : Jvm.MethodName) ({ cls := "ModuleEngine$Flat", name := "stop", desc := "()V" } : Jvm.MethodName)) ∈ lw_all := lw_g (lw_at lw_m8 2 rfl) rfl
theorem q2042 : (Jvm.Cond.code ({ cls := "ModuleEngine$Flat", name := "stop", desc := "()V" } : Jvm.MethodName) prog_4_method_24_code (1 : Nat) (Option.none : Option Jvm.ClassFile.FieldType)) ∈ lw_all := lw_g (lw_at lw_m8 3 rfl) rfl
theorem q2043 : (Jvm.Cond.methodLink "ModuleEngine$Flat" (92 : Nat) ({ cls := "ModuleEngine$Flat", name := "emit", desc := "(IIII)I" } : Jvm.MethodName)) ∈ lw_all := lw_g (lw_at lw_m8 4 rfl) rfl
theorem q2044 : (Jvm.Cond.privateMethod ({ cls := "ModuleEngine$Flat", name := "emit", desc := "(IIII)I" } : Jvm.MethodName)) ∈ lw_tbl := lw_at lw_m8 5 rfl
theorem q2045 : (Jvm.Cond.instanceMethod ({ cls := "ModuleEngine$Flat", name := "emit", desc := "(IIII)I" } : Jvm.MethodName)) ∈ lw_all := lw_g (lw_at lw_m8 6 rfl) rfl
theorem q2046 : (Jvm.Cond.code ({ cls := "ModuleEngine$Flat", name := "emit", desc := "(IIII)I" } : Jvm.MethodName) prog_4_method_14_code (7 : Nat) (Option.some Jvm.ClassFile.FieldType.int)) ∈ lw_all := lw_g (lw_at lw_m8 7 rfl) rfl
theorem q2047 : (Jvm.Cond.methodLink "ModuleEngine$Flat" (112 : Nat) ({ cls := "ModuleEngine$Flat", name := "die", desc := "()V" } : Jvm.MethodName)) ∈ lw_all := lw_g (lw_at lw_m8 8 rfl) rfl
theorem q2048 : (Jvm.Cond.privateMethod ({ cls := "ModuleEngine$Flat", name := "die", desc := "()V" } : Jvm.MethodName)) ∈ lw_tbl := lw_at lw_m8 9 rfl
theorem q2049 : (Jvm.Cond.instanceMethod ({ cls := "ModuleEngine$Flat", name := "die", desc := "()V" } : Jvm.MethodName)) ∈ lw_all := lw_g (lw_at lw_m8 10 rfl) rfl
theorem q2050 : (Jvm.Cond.code ({ cls := "ModuleEngine$Flat", name := "die", desc := "()V" } : Jvm.MethodName) prog_4_method_13_code (1 : Nat) (Option.none : Option Jvm.ClassFile.FieldType)) ∈ lw_all := lw_g (lw_at lw_m8 11 rfl) rfl
theorem q2056 : (Jvm.Cond.instanceMethod ({ cls := "ModuleEngine$Flat", name := "open", desc := "(III)V" } : Jvm.MethodName)) ∈ lw_all := lw_g (lw_at lw_m8 17 rfl) rfl
theorem q2057 : (Jvm.Cond.selects "ModuleEngine$Flat" ({ cls := "ModuleEngine$Flat", name := "open", desc := "(III)V" } : Jvm.MethodName) ({ cls := "ModuleEngine$Flat", name := "open", desc := "(III)V" } : Jvm.MethodName)) ∈ lw_all := lw_g (lw_at lw_m8 18 rfl) rfl
theorem q2058 : (Jvm.Cond.code ({ cls := "ModuleEngine$Flat", name := "open", desc := "(III)V" } : Jvm.MethodName) prog_4_method_18_code (5 : Nat) (Option.none : Option Jvm.ClassFile.FieldType)) ∈ lw_all := lw_g (lw_at lw_m8 19 rfl) rfl
theorem q2059 : (Jvm.Cond.methodLink "ModuleEngine$Flat" (96 : Nat) ({ cls := "ModuleEngine$Flat", name := "take", desc := "(I)V" } : Jvm.MethodName)) ∈ lw_all := lw_g (lw_at lw_m8 20 rfl) rfl
theorem q2060 : (Jvm.Cond.privateMethod ({ cls := "ModuleEngine$Flat", name := "take", desc := "(I)V" } : Jvm.MethodName)) ∈ lw_tbl := lw_at lw_m8 21 rfl
theorem q2061 : (Jvm.Cond.instanceMethod ({ cls := "ModuleEngine$Flat", name := "take", desc := "(I)V" } : Jvm.MethodName)) ∈ lw_all := lw_g (lw_at lw_m8 22 rfl) rfl
theorem q2062 : (Jvm.Cond.code ({ cls := "ModuleEngine$Flat", name := "take", desc := "(I)V" } : Jvm.MethodName) prog_4_method_11_code (3 : Nat) (Option.none : Option Jvm.ClassFile.FieldType)) ∈ lw_all := lw_g (lw_at lw_m8 23 rfl) rfl
theorem q2063 : (Jvm.Cond.methodLink "ModuleEngine$Flat" (99 : Nat) ({ cls := "ModuleEngine$Flat", name := "put", desc := "(I)V" } : Jvm.MethodName)) ∈ lw_all := lw_g (lw_at lw_m8 24 rfl) rfl
theorem q2064 : (Jvm.Cond.privateMethod ({ cls := "ModuleEngine$Flat", name := "put", desc := "(I)V" } : Jvm.MethodName)) ∈ lw_tbl := lw_at lw_m8 25 rfl
theorem q2065 : (Jvm.Cond.instanceMethod ({ cls := "ModuleEngine$Flat", name := "put", desc := "(I)V" } : Jvm.MethodName)) ∈ lw_all := lw_g (lw_at lw_m8 26 rfl) rfl
theorem q2066 : (Jvm.Cond.code ({ cls := "ModuleEngine$Flat", name := "put", desc := "(I)V" } : Jvm.MethodName) prog_4_method_12_code (2 : Nat) (Option.none : Option Jvm.ClassFile.FieldType)) ∈ lw_all := lw_g (lw_at lw_m8 27 rfl) rfl
theorem q2067 : (Jvm.Cond.methodLink "ModuleEngine$Flat" (102 : Nat) ({ cls := "ModuleEngine$Flat", name := "count", desc := "()V" } : Jvm.MethodName)) ∈ lw_all := lw_g (lw_at lw_m8 28 rfl) rfl
theorem q2068 : (Jvm.Cond.privateMethod ({ cls := "ModuleEngine$Flat", name := "count", desc := "()V" } : Jvm.MethodName)) ∈ lw_tbl := lw_at lw_m8 29 rfl
theorem q2069 : (Jvm.Cond.instanceMethod ({ cls := "ModuleEngine$Flat", name := "count", desc := "()V" } : Jvm.MethodName)) ∈ lw_all := lw_g (lw_at lw_m8 30 rfl) rfl
theorem q2070 : (Jvm.Cond.code ({ cls := "ModuleEngine$Flat", name := "count", desc := "()V" } : Jvm.MethodName) prog_4_method_26_code (1 : Nat) (Option.none : Option Jvm.ClassFile.FieldType)) ∈ lw_all := lw_g (lw_at lw_m8 31 rfl) rfl
theorem q2072 : (Jvm.Cond.instanceMethod ({ cls := "ModuleEngine$Flat", name := "otherPart", desc := "()V" } : Jvm.MethodName)) ∈ lw_all := lw_g (lw_at lw_m8 33 rfl) rfl
theorem q2073 : (Jvm.Cond.selects "ModuleEngine$Flat" ({ cls := "ModuleEngine$Flat", name := "otherPart", desc := "()V" } : Jvm.MethodName) ({ cls := "ModuleEngine$Flat", name := "otherPart", desc := "()V" } : Jvm.MethodName)) ∈ lw_all := lw_g (lw_at lw_m8 34 rfl) rfl
theorem q2074 : (Jvm.Cond.code ({ cls := "ModuleEngine$Flat", name := "otherPart", desc := "()V" } : Jvm.MethodName) prog_4_method_19_code (3 : Nat) (Option.none : Option Jvm.ClassFile.FieldType)) ∈ lw_all := lw_g (lw_at lw_m8 35 rfl) rfl
theorem q2076 : (Jvm.Cond.instanceMethod ({ cls := "ModuleEngine$Flat", name := "close", desc := "()Z" } : Jvm.MethodName)) ∈ lw_all := lw_g (lw_at lw_m8 37 rfl) rfl
theorem q2077 : (Jvm.Cond.selects "ModuleEngine$Flat" ({ cls := "ModuleEngine$Flat", name := "close", desc := "()Z" } : Jvm.MethodName) ({ cls := "ModuleEngine$Flat", name := "close", desc := "()Z" } : Jvm.MethodName)) ∈ lw_all := lw_g (lw_at lw_m8 38 rfl) rfl
theorem q2078 : (Jvm.Cond.code ({ cls := "ModuleEngine$Flat", name := "close", desc := "()Z" } : Jvm.MethodName) prog_4_method_20_code (2 : Nat) (Option.some Jvm.ClassFile.FieldType.boolean)) ∈ lw_all := lw_g (lw_at lw_m8 39 rfl) rfl
theorem q2079 : (Jvm.Cond.methodLink "ModuleEngine$Flat" (105 : Nat) ({ cls := "ModuleEngine$Flat", name := "patch", desc := "(I)V" } : Jvm.MethodName)) ∈ lw_all := lw_g (lw_at lw_m8 40 rfl) rfl
theorem q2080 : (Jvm.Cond.privateMethod ({ cls := "ModuleEngine$Flat", name := "patch", desc := "(I)V" } : Jvm.MethodName)) ∈ lw_tbl := lw_at lw_m8 41 rfl
theorem q2081 : (Jvm.Cond.instanceMethod ({ cls := "ModuleEngine$Flat", name := "patch", desc := "(I)V" } : Jvm.MethodName)) ∈ lw_all := lw_g (lw_at lw_m8 42 rfl) rfl
theorem q2082 : (Jvm.Cond.code ({ cls := "ModuleEngine$Flat", name := "patch", desc := "(I)V" } : Jvm.MethodName) prog_4_method_17_code (4 : Nat) (Option.none : Option Jvm.ClassFile.FieldType)) ∈ lw_all := lw_g (lw_at lw_m8 43 rfl) rfl
theorem q2084 : (Jvm.Cond.instanceMethod ({ cls := "ModuleEngine$Flat", name := "branch", desc := "(II)V" } : Jvm.MethodName)) ∈ lw_all := lw_g (lw_at lw_m8 45 rfl) rfl
theorem q2085 : (Jvm.Cond.selects "ModuleEngine$Flat" ({ cls := "ModuleEngine$Flat", name := "branch", desc := "(II)V" } : Jvm.MethodName) ({ cls := "ModuleEngine$Flat", name := "branch", desc := "(II)V" } : Jvm.MethodName)) ∈ lw_all := lw_g (lw_at lw_m8 46 rfl) rfl
theorem q2086 : (Jvm.Cond.code ({ cls := "ModuleEngine$Flat", name := "branch", desc := "(II)V" } : Jvm.MethodName) prog_4_method_21_code (4 : Nat) (Option.none : Option Jvm.ClassFile.FieldType)) ∈ lw_all := lw_g (lw_at lw_m8 47 rfl) rfl
theorem q2087 : (Jvm.Cond.methodLink "ModuleEngine$Flat" (89 : Nat) ({ cls := "ModuleEngine$Flat", name := "wants", desc := "(I)I" } : Jvm.MethodName)) ∈ lw_all := lw_g (lw_at lw_m8 48 rfl) rfl
theorem q2088 : (Jvm.Cond.privateMethod ({ cls := "ModuleEngine$Flat", name := "wants", desc := "(I)I" } : Jvm.MethodName)) ∈ lw_tbl := lw_at lw_m8 49 rfl
theorem q2089 : (Jvm.Cond.instanceMethod ({ cls := "ModuleEngine$Flat", name := "wants", desc := "(I)I" } : Jvm.MethodName)) ∈ lw_all := lw_g (lw_at lw_m8 50 rfl) rfl
theorem q2090 : (Jvm.Cond.code ({ cls := "ModuleEngine$Flat", name := "wants", desc := "(I)I" } : Jvm.MethodName) prog_4_method_15_code (3 : Nat) (Option.some Jvm.ClassFile.FieldType.int)) ∈ lw_all := lw_g (lw_at lw_m8 51 rfl) rfl
theorem q2091 : (Jvm.Cond.methodLink "ModuleEngine$Flat" (108 : Nat) ({ cls := "ModuleEngine$Flat", name := "emitBranch", desc := "(II)V" } : Jvm.MethodName)) ∈ lw_all := lw_g (lw_at lw_m8 52 rfl) rfl
theorem q2092 : (Jvm.Cond.privateMethod ({ cls := "ModuleEngine$Flat", name := "emitBranch", desc := "(II)V" } : Jvm.MethodName)) ∈ lw_tbl := lw_at lw_m8 53 rfl
theorem q2093 : (Jvm.Cond.instanceMethod ({ cls := "ModuleEngine$Flat", name := "emitBranch", desc := "(II)V" } : Jvm.MethodName)) ∈ lw_all := lw_g (lw_at lw_m8 54 rfl) rfl
theorem q2094 : (Jvm.Cond.code ({ cls := "ModuleEngine$Flat", name := "emitBranch", desc := "(II)V" } : Jvm.MethodName) prog_4_method_16_code (6 : Nat) (Option.none : Option Jvm.ClassFile.FieldType)) ∈ lw_all := lw_g (lw_at lw_m8 55 rfl) rfl
theorem q2096 : (Jvm.Cond.instanceMethod ({ cls := "ModuleEngine$Flat", name := "table", desc := "(LModuleEngine$Row;I)V" } : Jvm.MethodName)) ∈ lw_all := lw_g (lw_at lw_m8 57 rfl) rfl
theorem q2097 : (Jvm.Cond.selects "ModuleEngine$Flat" ({ cls := "ModuleEngine$Flat", name := "table", desc := "(LModuleEngine$Row;I)V" } : Jvm.MethodName) ({ cls := "ModuleEngine$Flat", name := "table", desc := "(LModuleEngine$Row;I)V" } : Jvm.MethodName)) ∈ lw_all := lw_g (lw_at lw_m8 58 rfl) rfl
theorem q2098 : (Jvm.Cond.code ({ cls := "ModuleEngine$Flat", name := "table", desc := "(LModuleEngine$Row;I)V" } : Jvm.MethodName) prog_4_method_22_code (4 : Nat) (Option.none : Option Jvm.ClassFile.FieldType)) ∈ lw_all := lw_g (lw_at lw_m8 59 rfl) rfl
theorem q2099 : (Jvm.Cond.methodLink "ModuleEngine$Flat" (61 : Nat) ({ cls := "ModuleEngine$Row", name := "at", desc := "(I)I" } : Jvm.MethodName)) ∈ lw_all := lw_g (lw_at lw_m8 60 rfl) rfl
theorem q2101 : (Jvm.Cond.instanceMethod ({ cls := "ModuleEngine$Flat", name := "leave", desc := "()V" } : Jvm.MethodName)) ∈ lw_all := lw_g (lw_at lw_m8 62 rfl) rfl
theorem q2102 : (Jvm.Cond.selects "ModuleEngine$Flat" ({ cls := "ModuleEngine$Flat", name := "leave", desc := "()V" } : Jvm.MethodName) ({ cls := "ModuleEngine$Flat", name := "leave", desc := "()V" } : Jvm.MethodName)) ∈ lw_all := lw_g (lw_at lw_m8 63 rfl) rfl
theorem q2103 : (Jvm.Cond.code ({ cls := "ModuleEngine$Flat", name := "leave", desc := "()V" } : Jvm.MethodName) prog_4_method_23_code (1 : Nat) (Option.none : Option Jvm.ClassFile.FieldType)) ∈ lw_all := lw_g (lw_at lw_m8 64 rfl) rfl
theorem q2113 : (Jvm.Cond.instanceMethod ({ cls := "ModuleEngine$Flat", name := "write", desc := "(IIIIII)V" } : Jvm.MethodName)) ∈ lw_all := lw_g (lw_at lw_m8 74 rfl) rfl
theorem q2114 : (Jvm.Cond.selects "ModuleEngine$Flat" ({ cls := "ModuleEngine$Flat", name := "write", desc := "(IIIIII)V" } : Jvm.MethodName) ({ cls := "ModuleEngine$Flat", name := "write", desc := "(IIIIII)V" } : Jvm.MethodName)) ∈ lw_all := lw_g (lw_at lw_m8 75 rfl) rfl
theorem q2115 : (Jvm.Cond.code ({ cls := "ModuleEngine$Flat", name := "write", desc := "(IIIIII)V" } : Jvm.MethodName) prog_4_method_25_code (7 : Nat) (Option.none : Option Jvm.ClassFile.FieldType)) ∈ lw_all := lw_g (lw_at lw_m8 76 rfl) rfl
theorem q2121 : (Jvm.Cond.instanceMethod ({ cls := "ModuleEngine$Flat", name := "in", desc := "(I)I" } : Jvm.MethodName)) ∈ lw_all := lw_g (lw_at lw_m8 82 rfl) rfl
theorem q2122 : (Jvm.Cond.selects "ModuleEngine$Flat" ({ cls := "ModuleEngine$Flat", name := "in", desc := "(I)I" } : Jvm.MethodName) ({ cls := "ModuleEngine$Flat", name := "in", desc := "(I)I" } : Jvm.MethodName)) ∈ lw_all := lw_g (lw_at lw_m8 83 rfl) rfl
theorem q2123 : (Jvm.Cond.code ({ cls := "ModuleEngine$Flat", name := "in", desc := "(I)I" } : Jvm.MethodName) prog_4_method_27_code (2 : Nat) (Option.some Jvm.ClassFile.FieldType.int)) ∈ lw_all := lw_g (lw_at lw_m8 84 rfl) rfl
theorem q2124 : (Jvm.Cond.methodLink "ModuleEngine$Flat" (115 : Nat) ({ cls := "ModuleEngine$Numbers", name := "operands", desc := "(I)I" } : Jvm.MethodName)) ∈ lw_all := lw_g (lw_at lw_m8 85 rfl) rfl
theorem q2129 : (Jvm.Cond.instanceMethod ({ cls := "ModuleEngine$Flat", name := "out", desc := "(I)I" } : Jvm.MethodName)) ∈ lw_all := lw_g (lw_at lw_m8 90 rfl) rfl
theorem q2130 : (Jvm.Cond.selects "ModuleEngine$Flat" ({ cls := "ModuleEngine$Flat", name := "out", desc := "(I)I" } : Jvm.MethodName) ({ cls := "ModuleEngine$Flat", name := "out", desc := "(I)I" } : Jvm.MethodName)) ∈ lw_all := lw_g (lw_at lw_m8 91 rfl) rfl
theorem q2131 : (Jvm.Cond.code ({ cls := "ModuleEngine$Flat", name := "out", desc := "(I)I" } : Jvm.MethodName) prog_4_method_28_code (2 : Nat) (Option.some Jvm.ClassFile.FieldType.int)) ∈ lw_all := lw_g (lw_at lw_m8 92 rfl) rfl
theorem q2386 : (Jvm.Cond.instanceMethod ({ cls := "ModuleEngine$Flat", name := "asks", desc := "(I)I" } : Jvm.MethodName)) ∈ lw_all := lw_g (lw_at lw_m9 107 rfl) rfl
theorem q2387 : (Jvm.Cond.selects "ModuleEngine$Flat" ({ cls := "ModuleEngine$Flat", name := "asks", desc := "(I)I" } : Jvm.MethodName) ({ cls := "ModuleEngine$Flat", name := "asks", desc := "(I)I" } : Jvm.MethodName)) ∈ lw_all := lw_g (lw_at lw_m9 108 rfl) rfl
theorem q2388 : (Jvm.Cond.code ({ cls := "ModuleEngine$Flat", name := "asks", desc := "(I)I" } : Jvm.MethodName) prog_4_method_8_code (2 : Nat) (Option.some Jvm.ClassFile.FieldType.int)) ∈ lw_all := lw_g (lw_at lw_m9 109 rfl) rfl
theorem q2389 : (Jvm.Cond.methodLink "ModuleEngine$Flat" (65 : Nat) ({ cls := "ModuleEngine$Flat", name := "localsOf", desc := "(I)I" } : Jvm.MethodName)) ∈ lw_all := lw_g (lw_at lw_m9 110 rfl) rfl
theorem q2390 : (Jvm.Cond.instanceMethod ({ cls := "ModuleEngine$Flat", name := "localsOf", desc := "(I)I" } : Jvm.MethodName)) ∈ lw_all := lw_g (lw_at lw_m9 111 rfl) rfl
theorem q2391 : (Jvm.Cond.selects "ModuleEngine$Flat" ({ cls := "ModuleEngine$Flat", name := "localsOf", desc := "(I)I" } : Jvm.MethodName) ({ cls := "ModuleEngine$Flat", name := "localsOf", desc := "(I)I" } : Jvm.MethodName)) ∈ lw_all := lw_g (lw_at lw_m9 112 rfl) rfl
theorem q2392 : (Jvm.Cond.code ({ cls := "ModuleEngine$Flat", name := "localsOf", desc := "(I)I" } : Jvm.MethodName) prog_4_method_7_code (2 : Nat) (Option.some Jvm.ClassFile.FieldType.int)) ∈ lw_all := lw_g (lw_at lw_m9 113 rfl) rfl
theorem q2409 : (Jvm.Cond.instanceMethod ({ cls := "ModuleEngine$Flat", name := "opAt", desc := "(I)I" } : Jvm.MethodName)) ∈ lw_all := lw_g (lw_at lw_m9 130 rfl) rfl
theorem q2410 : (Jvm.Cond.selects "ModuleEngine$Flat" ({ cls := "ModuleEngine$Flat", name := "opAt", desc := "(I)I" } : Jvm.MethodName) ({ cls := "ModuleEngine$Flat", name := "opAt", desc := "(I)I" } : Jvm.MethodName)) ∈ lw_all := lw_g (lw_at lw_m9 131 rfl) rfl
theorem q2411 : (Jvm.Cond.code ({ cls := "ModuleEngine$Flat", name := "opAt", desc := "(I)I" } : Jvm.MethodName) prog_4_method_3_code (2 : Nat) (Option.some Jvm.ClassFile.FieldType.int)) ∈ lw_all := lw_g (lw_at lw_m9 132 rfl) rfl
theorem q2420 : (Jvm.Cond.instanceMethod ({ cls := "ModuleEngine$Flat", name := "fieldAt", desc := "(II)I" } : Jvm.MethodName)) ∈ lw_all := lw_g (lw_at lw_m9 141 rfl) rfl
theorem q2421 : (Jvm.Cond.selects "ModuleEngine$Flat" ({ cls := "ModuleEngine$Flat", name := "fieldAt", desc := "(II)I" } : Jvm.MethodName) ({ cls := "ModuleEngine$Flat", name := "fieldAt", desc := "(II)I" } : Jvm.MethodName)) ∈ lw_all := lw_g (lw_at lw_m9 142 rfl) rfl
theorem q2422 : (Jvm.Cond.code ({ cls := "ModuleEngine$Flat", name := "fieldAt", desc := "(II)I" } : Jvm.MethodName) prog_4_method_4_code (3 : Nat) (Option.some Jvm.ClassFile.FieldType.int)) ∈ lw_all := lw_g (lw_at lw_m9 143 rfl) rfl
theorem q2677 : (Jvm.Cond.instanceMethod ({ cls := "ModuleEngine$Flat", name := "parametersOf", desc := "(I)I" } : Jvm.MethodName)) ∈ lw_all := lw_g (lw_at lw_m10 158 rfl) rfl
theorem q2678 : (Jvm.Cond.selects "ModuleEngine$Flat" ({ cls := "ModuleEngine$Flat", name := "parametersOf", desc := "(I)I" } : Jvm.MethodName) ({ cls := "ModuleEngine$Flat", name := "parametersOf", desc := "(I)I" } : Jvm.MethodName)) ∈ lw_all := lw_g (lw_at lw_m10 159 rfl) rfl
theorem q2679 : (Jvm.Cond.code ({ cls := "ModuleEngine$Flat", name := "parametersOf", desc := "(I)I" } : Jvm.MethodName) prog_4_method_5_code (2 : Nat) (Option.some Jvm.ClassFile.FieldType.int)) ∈ lw_all := lw_g (lw_at lw_m10 160 rfl) rfl
theorem in_X6 : ∀ w ∈ wsX60, w ∈ lw_all := lw_in wsX60 [646, 648, 650, 652, 654, 656, 658, 660, 662, 664, 666, 668, 670, 672, 674, 676, 678, 680] (by decide +kernel) (by decide +kernel)

/-! ModuleEngine$Registers -/
set_option maxRecDepth 100000
def RX7 : String := "ModuleEngine$Registers"
def TX7 : u_T := fun k => match k with
  | 0 => ("ModuleEngine$Registers", "flat", "LModuleEngine$Flat;", true)
  | 1 => ("ModuleEngine$Registers", "numbers", "LModuleEngine$Numbers;", true)
  | 2 => ("ModuleEngine$Registers", "code", "[I", false)
  | 3 => ("ModuleEngine$Registers", "used", "I", false)
  | 4 => ("ModuleEngine$Registers", "constants", "[J", false)
  | 5 => ("ModuleEngine$Registers", "many", "I", false)
  | 6 => ("ModuleEngine$Registers", "starts", "LModuleEngine$Row;", true)
  | 7 => ("ModuleEngine$Registers", "full", "Z", false)
  | 8 => ("ModuleEngine$Registers", "height", "[I", false)
  | 9 => ("ModuleEngine$Registers", "place", "[I", false)
  | 10 => ("ModuleEngine$Registers", "kind", "[I", true)
  | 11 => ("ModuleEngine$Registers", "which", "[I", true)
  | 12 => ("ModuleEngine$Registers", "operands", "I", false)
  | 13 => ("ModuleEngine$Registers", "first", "I", false)
  | 14 => ("ModuleEngine$Registers", "waiting", "I", false)
  | 15 => ("ModuleEngine$Registers", "here", "I", false)
  | _ => ("ModuleEngine$Registers", "alive", "Z", false)
def tyX7 : Nat → FieldType := fun k => match k with
  | 0 => .object "ModuleEngine$Flat"
  | 1 => .object "ModuleEngine$Numbers"
  | 2 => .array .int
  | 3 => .int
  | 4 => .array .long
  | 5 => .int
  | 6 => .object "ModuleEngine$Row"
  | 7 => .boolean
  | 8 => .array .int
  | 9 => .array .int
  | 10 => .array .int
  | 11 => .array .int
  | 12 => .int
  | 13 => .int
  | 14 => .int
  | 15 => .int
  | _ => .boolean
abbrev wsX70 : List Cond := u_ws RX7 TX7 17
set_option maxRecDepth 100000 in
theorem nmX7 : ∀ a, a < 17 → ∀ b, b < 17 → a ≠ b → (TX7 a).2.1 ≠ (TX7 b).2.1 := by decide +kernel
set_option maxRecDepth 100000 in
theorem tyX7_ok : ∀ k, k < 17 → parseFieldDescriptor (TX7 k).2.2.1 = some (tyX7 k) := by decide +kernel
abbrev cX7_init : ByteArray := prog_11_method_1_code
def yX7_init : MethodName := ⟨RX7, "<init>", "(LModuleEngine$Flat;LModuleEngine$Numbers;)V"⟩
abbrev cX7_need : ByteArray := prog_11_method_15_code
def yX7_need : MethodName := ⟨RX7, "need", "(I)V"⟩
abbrev cX7_compile : ByteArray := prog_11_method_16_code
def yX7_compile : MethodName := ⟨RX7, "compile", "(I)V"⟩
abbrev cX7_room : ByteArray := prog_11_method_14_code
def yX7_room : MethodName := ⟨RX7, "room", "(I)V"⟩
abbrev cX7_isBranch : ByteArray := prog_11_method_13_code
def yX7_isBranch : MethodName := ⟨RX7, "isBranch", "(I)Z"⟩
abbrev cX7_join : ByteArray := prog_11_method_18_code
def yX7_join : MethodName := ⟨RX7, "join", "(I)V"⟩
abbrev cX7_settle : ByteArray := prog_11_method_11_code
def yX7_settle : MethodName := ⟨RX7, "settle", "(I)V"⟩
abbrev cX7_slot : ByteArray := prog_11_method_7_code
def yX7_slot : MethodName := ⟨RX7, "slot", "(I)I"⟩
abbrev cX7_emit : ByteArray := prog_11_method_4_code
def yX7_emit : MethodName := ⟨RX7, "emit", "(IIIIII)I"⟩
abbrev cX7_steps : ByteArray := prog_11_method_5_code
def yX7_steps : MethodName := ⟨RX7, "steps", "(I)I"⟩
abbrev cX7_push : ByteArray := prog_11_method_9_code
def yX7_push : MethodName := ⟨RX7, "push", "(II)V"⟩
abbrev cX7_translate : ByteArray := prog_11_method_20_code
def yX7_translate : MethodName := ⟨RX7, "translate", "(I)V"⟩
abbrev cX7_pop : ByteArray := prog_11_method_10_code
def yX7_pop : MethodName := ⟨RX7, "pop", "()I"⟩
abbrev cX7_operand : ByteArray := prog_11_method_8_code
def yX7_operand : MethodName := ⟨RX7, "operand", "(I)I"⟩
abbrev cX7_reach : ByteArray := prog_11_method_17_code
def yX7_reach : MethodName := ⟨RX7, "reach", "(II)V"⟩
abbrev cX7_lower : ByteArray := prog_11_method_19_code
def yX7_lower : MethodName := ⟨RX7, "lower", "(II)V"⟩
abbrev cX7_branchIf : ByteArray := prog_11_method_22_code
def yX7_branchIf : MethodName := ⟨RX7, "branchIf", "(III)V"⟩
abbrev cX7_table : ByteArray := prog_11_method_23_code
def yX7_table : MethodName := ⟨RX7, "table", "(II)V"⟩
abbrev cX7_call : ByteArray := prog_11_method_21_code
def yX7_call : MethodName := ⟨RX7, "call", "(IIIII)V"⟩
abbrev cX7_plain : ByteArray := prog_11_method_24_code
def yX7_plain : MethodName := ⟨RX7, "plain", "(III)V"⟩
abbrev cX7_free : ByteArray := prog_11_method_12_code
def yX7_free : MethodName := ⟨RX7, "free", "(I)V"⟩
abbrev cX7_constant : ByteArray := prog_11_method_6_code
def yX7_constant : MethodName := ⟨RX7, "constant", "(J)I"⟩
abbrev cX7_load : ByteArray := prog_11_method_26_code
def yX7_load : MethodName := ⟨RX7, "load", "(II)V"⟩
abbrev cX7_place : ByteArray := prog_11_method_25_code
def yX7_place : MethodName := ⟨RX7, "place", "(III)V"⟩
abbrev cX7_store : ByteArray := prog_11_method_27_code
def yX7_store : MethodName := ⟨RX7, "store", "(II)V"⟩
abbrev cX7_calculate : ByteArray := prog_11_method_28_code
def yX7_calculate : MethodName := ⟨RX7, "calculate", "(I)V"⟩
abbrev cX7_has : ByteArray := prog_11_method_2_code
def yX7_has : MethodName := ⟨RX7, "has", "(I)Z"⟩
abbrev cX7_startOf : ByteArray := prog_11_method_3_code
def yX7_startOf : MethodName := ⟨RX7, "startOf", "(I)I"⟩
theorem q367 : (Jvm.Cond.initialized "ModuleEngine$Registers") ∈ lw_all := lw_g (lw_at lw_m1 8 rfl) rfl
theorem q631 : (Jvm.Cond.fieldLinkNest "ModuleEngine$Registers" (95 : Nat) "ModuleEngine$Flat" "starts" "LModuleEngine$Row;" "ModuleEngine") ∈ lw_tbl := lw_at lw_m2 32 rfl
theorem q684 : (Jvm.Cond.instantiable "ModuleEngine$Registers" (17 : Nat)) ∈ lw_all := lw_g (lw_at lw_m2 85 rfl) rfl
theorem q686 : (Jvm.Cond.instanceMethod ({ cls := "ModuleEngine$Registers", name := "<init>", desc := "(LModuleEngine$Flat;LModuleEngine$Numbers;)V" } : Jvm.MethodName)) ∈ lw_all := lw_g (lw_at lw_m2 87 rfl) rfl
theorem q687 : (Jvm.Cond.code ({ cls := "ModuleEngine$Registers", name := "<init>", desc := "(LModuleEngine$Flat;LModuleEngine$Numbers;)V" } : Jvm.MethodName) prog_11_method_1_code (3 : Nat) (Option.none : Option Jvm.ClassFile.FieldType)) ∈ lw_all := lw_g (lw_at lw_m2 88 rfl) rfl
theorem q688 : (Jvm.Cond.methodLink "ModuleEngine$Registers" (1 : Nat) ({ cls := "java/lang/Object", name := "<init>", desc := "()V" } : Jvm.MethodName)) ∈ lw_all := lw_g (lw_at lw_m2 89 rfl) rfl
theorem q689 : (Jvm.Cond.classLink "ModuleEngine$Registers" (17 : Nat) "ModuleEngine$Row") ∈ lw_all := lw_g (lw_at lw_m2 90 rfl) rfl
theorem q690 : (Jvm.Cond.methodLinkNest "ModuleEngine$Registers" (19 : Nat) ({ cls := "ModuleEngine$Row", name := "<init>", desc := "()V" } : Jvm.MethodName) "ModuleEngine") ∈ lw_tbl := lw_at lw_m2 91 rfl
theorem q691 : (Jvm.Cond.fieldLink "ModuleEngine$Registers" (36 : Nat) "ModuleEngine$Registers" "flat" "LModuleEngine$Flat;") ∈ lw_all := lw_g (lw_at lw_m2 92 rfl) rfl
theorem q692 : (Jvm.Cond.fieldLink "ModuleEngine$Registers" (40 : Nat) "ModuleEngine$Registers" "numbers" "LModuleEngine$Numbers;") ∈ lw_all := lw_g (lw_at lw_m2 93 rfl) rfl
theorem q693 : (Jvm.Cond.fieldLink "ModuleEngine$Registers" (7 : Nat) "ModuleEngine$Registers" "code" "[I") ∈ lw_all := lw_g (lw_at lw_m2 94 rfl) rfl
theorem q695 : (Jvm.Cond.fieldLink "ModuleEngine$Registers" (52 : Nat) "ModuleEngine$Registers" "used" "I") ∈ lw_all := lw_g (lw_at lw_m2 96 rfl) rfl
theorem q696 : (Jvm.Cond.fieldLink "ModuleEngine$Registers" (13 : Nat) "ModuleEngine$Registers" "constants" "[J") ∈ lw_all := lw_g (lw_at lw_m2 97 rfl) rfl
theorem q698 : (Jvm.Cond.fieldLink "ModuleEngine$Registers" (63 : Nat) "ModuleEngine$Registers" "many" "I") ∈ lw_all := lw_g (lw_at lw_m2 99 rfl) rfl
theorem q699 : (Jvm.Cond.fieldLink "ModuleEngine$Registers" (20 : Nat) "ModuleEngine$Registers" "starts" "LModuleEngine$Row;") ∈ lw_all := lw_g (lw_at lw_m2 100 rfl) rfl
theorem q700 : (Jvm.Cond.fieldLink "ModuleEngine$Registers" (56 : Nat) "ModuleEngine$Registers" "full" "Z") ∈ lw_all := lw_g (lw_at lw_m2 101 rfl) rfl
theorem q701 : (Jvm.Cond.fieldLink "ModuleEngine$Registers" (24 : Nat) "ModuleEngine$Registers" "height" "[I") ∈ lw_all := lw_g (lw_at lw_m2 102 rfl) rfl
theorem q702 : (Jvm.Cond.fieldLink "ModuleEngine$Registers" (27 : Nat) "ModuleEngine$Registers" "place" "[I") ∈ lw_all := lw_g (lw_at lw_m2 103 rfl) rfl
theorem q703 : (Jvm.Cond.fieldLink "ModuleEngine$Registers" (30 : Nat) "ModuleEngine$Registers" "kind" "[I") ∈ lw_all := lw_g (lw_at lw_m2 104 rfl) rfl
theorem q704 : (Jvm.Cond.fieldLink "ModuleEngine$Registers" (33 : Nat) "ModuleEngine$Registers" "which" "[I") ∈ lw_all := lw_g (lw_at lw_m2 105 rfl) rfl
theorem q705 : (Jvm.Cond.fieldLink "ModuleEngine$Registers" (72 : Nat) "ModuleEngine$Registers" "operands" "I") ∈ lw_all := lw_g (lw_at lw_m2 106 rfl) rfl
theorem q706 : (Jvm.Cond.fieldLink "ModuleEngine$Registers" (66 : Nat) "ModuleEngine$Registers" "first" "I") ∈ lw_all := lw_g (lw_at lw_m2 107 rfl) rfl
theorem q707 : (Jvm.Cond.fieldLink "ModuleEngine$Registers" (60 : Nat) "ModuleEngine$Registers" "waiting" "I") ∈ lw_all := lw_g (lw_at lw_m2 108 rfl) rfl
theorem q708 : (Jvm.Cond.fieldLink "ModuleEngine$Registers" (119 : Nat) "ModuleEngine$Registers" "here" "I") ∈ lw_all := lw_g (lw_at lw_m2 109 rfl) rfl
theorem q709 : (Jvm.Cond.fieldLink "ModuleEngine$Registers" (113 : Nat) "ModuleEngine$Registers" "alive" "Z") ∈ lw_all := lw_g (lw_at lw_m2 110 rfl) rfl
theorem q710 : (Jvm.Cond.laysFinal "ModuleEngine$Registers" "ModuleEngine$Registers" "flat" "LModuleEngine$Flat;") ∈ lw_all := lw_g (lw_at lw_m2 111 rfl) rfl
theorem q711 : (Jvm.Cond.soleField "ModuleEngine$Registers" "flat") ∈ lw_all := lw_g (lw_at lw_m2 112 rfl) rfl
theorem q712 : (Jvm.Cond.laysFinal "ModuleEngine$Registers" "ModuleEngine$Registers" "numbers" "LModuleEngine$Numbers;") ∈ lw_all := lw_g (lw_at lw_m2 113 rfl) rfl
theorem q713 : (Jvm.Cond.soleField "ModuleEngine$Registers" "numbers") ∈ lw_all := lw_g (lw_at lw_m2 114 rfl) rfl
theorem q714 : (Jvm.Cond.lays "ModuleEngine$Registers" "ModuleEngine$Registers" "code" "[I") ∈ lw_all := lw_g (lw_at lw_m2 115 rfl) rfl
theorem q715 : (Jvm.Cond.soleField "ModuleEngine$Registers" "code") ∈ lw_all := lw_g (lw_at lw_m2 116 rfl) rfl
theorem q716 : (Jvm.Cond.lays "ModuleEngine$Registers" "ModuleEngine$Registers" "used" "I") ∈ lw_all := lw_g (lw_at lw_m2 117 rfl) rfl
theorem q717 : (Jvm.Cond.soleField "ModuleEngine$Registers" "used") ∈ lw_all := lw_g (lw_at lw_m2 118 rfl) rfl
theorem q718 : (Jvm.Cond.lays "ModuleEngine$Registers" "ModuleEngine$Registers" "constants" "[J") ∈ lw_all := lw_g (lw_at lw_m2 119 rfl) rfl
theorem q719 : (Jvm.Cond.soleField "ModuleEngine$Registers" "constants") ∈ lw_all := lw_g (lw_at lw_m2 120 rfl) rfl
theorem q720 : (Jvm.Cond.lays "ModuleEngine$Registers" "ModuleEngine$Registers" "many" "I") ∈ lw_all := lw_g (lw_at lw_m2 121 rfl) rfl
theorem q721 : (Jvm.Cond.soleField "ModuleEngine$Registers" "many") ∈ lw_all := lw_g (lw_at lw_m2 122 rfl) rfl
theorem q722 : (Jvm.Cond.laysFinal "ModuleEngine$Registers" "ModuleEngine$Registers" "starts" "LModuleEngine$Row;") ∈ lw_all := lw_g (lw_at lw_m2 123 rfl) rfl
theorem q723 : (Jvm.Cond.soleField "ModuleEngine$Registers" "starts") ∈ lw_all := lw_g (lw_at lw_m2 124 rfl) rfl
theorem q724 : (Jvm.Cond.lays "ModuleEngine$Registers" "ModuleEngine$Registers" "full" "Z") ∈ lw_all := lw_g (lw_at lw_m2 125 rfl) rfl
theorem q725 : (Jvm.Cond.soleField "ModuleEngine$Registers" "full") ∈ lw_all := lw_g (lw_at lw_m2 126 rfl) rfl
theorem q726 : (Jvm.Cond.lays "ModuleEngine$Registers" "ModuleEngine$Registers" "height" "[I") ∈ lw_all := lw_g (lw_at lw_m2 127 rfl) rfl
theorem q727 : (Jvm.Cond.soleField "ModuleEngine$Registers" "height") ∈ lw_all := lw_g (lw_at lw_m2 128 rfl) rfl
theorem q728 : (Jvm.Cond.lays "ModuleEngine$Registers" "ModuleEngine$Registers" "place" "[I") ∈ lw_all := lw_g (lw_at lw_m2 129 rfl) rfl
theorem q729 : (Jvm.Cond.soleField "ModuleEngine$Registers" "place") ∈ lw_all := lw_g (lw_at lw_m2 130 rfl) rfl
theorem q730 : (Jvm.Cond.laysFinal "ModuleEngine$Registers" "ModuleEngine$Registers" "kind" "[I") ∈ lw_all := lw_g (lw_at lw_m2 131 rfl) rfl
theorem q731 : (Jvm.Cond.soleField "ModuleEngine$Registers" "kind") ∈ lw_all := lw_g (lw_at lw_m2 132 rfl) rfl
theorem q732 : (Jvm.Cond.laysFinal "ModuleEngine$Registers" "ModuleEngine$Registers" "which" "[I") ∈ lw_all := lw_g (lw_at lw_m2 133 rfl) rfl
theorem q733 : (Jvm.Cond.soleField "ModuleEngine$Registers" "which") ∈ lw_all := lw_g (lw_at lw_m2 134 rfl) rfl
theorem q734 : (Jvm.Cond.lays "ModuleEngine$Registers" "ModuleEngine$Registers" "operands" "I") ∈ lw_all := lw_g (lw_at lw_m2 135 rfl) rfl
theorem q735 : (Jvm.Cond.soleField "ModuleEngine$Registers" "operands") ∈ lw_all := lw_g (lw_at lw_m2 136 rfl) rfl
theorem q736 : (Jvm.Cond.lays "ModuleEngine$Registers" "ModuleEngine$Registers" "first" "I") ∈ lw_all := lw_g (lw_at lw_m2 137 rfl) rfl
theorem q737 : (Jvm.Cond.soleField "ModuleEngine$Registers" "first") ∈ lw_all := lw_g (lw_at lw_m2 138 rfl) rfl
theorem q738 : (Jvm.Cond.lays "ModuleEngine$Registers" "ModuleEngine$Registers" "waiting" "I") ∈ lw_all := lw_g (lw_at lw_m2 139 rfl) rfl
theorem q739 : (Jvm.Cond.soleField "ModuleEngine$Registers" "waiting") ∈ lw_all := lw_g (lw_at lw_m2 140 rfl) rfl
theorem q740 : (Jvm.Cond.lays "ModuleEngine$Registers" "ModuleEngine$Registers" "here" "I") ∈ lw_all := lw_g (lw_at lw_m2 141 rfl) rfl
theorem q741 : (Jvm.Cond.soleField "ModuleEngine$Registers" "here") ∈ lw_all := lw_g (lw_at lw_m2 142 rfl) rfl
theorem q742 : (Jvm.Cond.lays "ModuleEngine$Registers" "ModuleEngine$Registers" "alive" "Z") ∈ lw_all := lw_g (lw_at lw_m2 143 rfl) rfl
theorem q743 : (Jvm.Cond.soleField "ModuleEngine$Registers" "alive") ∈ lw_all := lw_g (lw_at lw_m2 144 rfl) rfl
theorem q744 : (Jvm.Cond.superclass "ModuleEngine$Registers" "java/lang/Object") ∈ lw_all := lw_g (lw_at lw_m2 145 rfl) rfl
theorem q2398 : (Jvm.Cond.instanceMethod ({ cls := "ModuleEngine$Registers", name := "need", desc := "(I)V" } : Jvm.MethodName)) ∈ lw_all := lw_g (lw_at lw_m9 119 rfl) rfl
theorem q2399 : (Jvm.Cond.selects "ModuleEngine$Registers" ({ cls := "ModuleEngine$Registers", name := "need", desc := "(I)V" } : Jvm.MethodName) ({ cls := "ModuleEngine$Registers", name := "need", desc := "(I)V" } : Jvm.MethodName)) ∈ lw_all := lw_g (lw_at lw_m9 120 rfl) rfl
theorem q2400 : (Jvm.Cond.code ({ cls := "ModuleEngine$Registers", name := "need", desc := "(I)V" } : Jvm.MethodName) prog_11_method_15_code (3 : Nat) (Option.none : Option Jvm.ClassFile.FieldType)) ∈ lw_all := lw_g (lw_at lw_m9 121 rfl) rfl
theorem q2401 : (Jvm.Cond.methodLink "ModuleEngine$Registers" (44 : Nat) ({ cls := "ModuleEngine$Row", name := "size", desc := "()I" } : Jvm.MethodName)) ∈ lw_all := lw_g (lw_at lw_m9 122 rfl) rfl
theorem q2402 : (Jvm.Cond.methodLink "ModuleEngine$Registers" (84 : Nat) ({ cls := "ModuleEngine$Row", name := "add", desc := "(I)V" } : Jvm.MethodName)) ∈ lw_all := lw_g (lw_at lw_m9 123 rfl) rfl
theorem q2403 : (Jvm.Cond.methodLink "ModuleEngine$Registers" (48 : Nat) ({ cls := "ModuleEngine$Row", name := "at", desc := "(I)I" } : Jvm.MethodName)) ∈ lw_all := lw_g (lw_at lw_m9 124 rfl) rfl
theorem q2404 : (Jvm.Cond.methodLink "ModuleEngine$Registers" (88 : Nat) ({ cls := "ModuleEngine$Registers", name := "compile", desc := "(I)V" } : Jvm.MethodName)) ∈ lw_all := lw_g (lw_at lw_m9 125 rfl) rfl
theorem q2405 : (Jvm.Cond.privateMethod ({ cls := "ModuleEngine$Registers", name := "compile", desc := "(I)V" } : Jvm.MethodName)) ∈ lw_tbl := lw_at lw_m9 126 rfl
theorem q2406 : (Jvm.Cond.instanceMethod ({ cls := "ModuleEngine$Registers", name := "compile", desc := "(I)V" } : Jvm.MethodName)) ∈ lw_all := lw_g (lw_at lw_m9 127 rfl) rfl
theorem q2407 : (Jvm.Cond.code ({ cls := "ModuleEngine$Registers", name := "compile", desc := "(I)V" } : Jvm.MethodName) prog_11_method_16_code (7 : Nat) (Option.none : Option Jvm.ClassFile.FieldType)) ∈ lw_all := lw_g (lw_at lw_m9 128 rfl) rfl
theorem q2408 : (Jvm.Cond.methodLink "ModuleEngine$Registers" (96 : Nat) ({ cls := "ModuleEngine$Flat", name := "opAt", desc := "(I)I" } : Jvm.MethodName)) ∈ lw_all := lw_g (lw_at lw_m9 129 rfl) rfl
theorem q2412 : (Jvm.Cond.methodLink "ModuleEngine$Registers" (99 : Nat) ({ cls := "ModuleEngine$Registers", name := "room", desc := "(I)V" } : Jvm.MethodName)) ∈ lw_all := lw_g (lw_at lw_m9 133 rfl) rfl
theorem q2413 : (Jvm.Cond.privateMethod ({ cls := "ModuleEngine$Registers", name := "room", desc := "(I)V" } : Jvm.MethodName)) ∈ lw_tbl := lw_at lw_m9 134 rfl
theorem q2414 : (Jvm.Cond.instanceMethod ({ cls := "ModuleEngine$Registers", name := "room", desc := "(I)V" } : Jvm.MethodName)) ∈ lw_all := lw_g (lw_at lw_m9 135 rfl) rfl
theorem q2415 : (Jvm.Cond.code ({ cls := "ModuleEngine$Registers", name := "room", desc := "(I)V" } : Jvm.MethodName) prog_11_method_14_code (3 : Nat) (Option.none : Option Jvm.ClassFile.FieldType)) ∈ lw_all := lw_g (lw_at lw_m9 136 rfl) rfl
theorem q2416 : (Jvm.Cond.methodLink "ModuleEngine$Registers" (102 : Nat) ({ cls := "ModuleEngine$Registers", name := "isBranch", desc := "(I)Z" } : Jvm.MethodName)) ∈ lw_all := lw_g (lw_at lw_m9 137 rfl) rfl
theorem q2417 : (Jvm.Cond.static ({ cls := "ModuleEngine$Registers", name := "isBranch", desc := "(I)Z" } : Jvm.MethodName)) ∈ lw_all := lw_g (lw_at lw_m9 138 rfl) rfl
theorem q2418 : (Jvm.Cond.code ({ cls := "ModuleEngine$Registers", name := "isBranch", desc := "(I)Z" } : Jvm.MethodName) prog_11_method_13_code (1 : Nat) (Option.some Jvm.ClassFile.FieldType.boolean)) ∈ lw_all := lw_g (lw_at lw_m9 139 rfl) rfl
theorem q2419 : (Jvm.Cond.methodLink "ModuleEngine$Registers" (106 : Nat) ({ cls := "ModuleEngine$Flat", name := "fieldAt", desc := "(II)I" } : Jvm.MethodName)) ∈ lw_all := lw_g (lw_at lw_m9 140 rfl) rfl
theorem q2423 : (Jvm.Cond.methodLink "ModuleEngine$Registers" (110 : Nat) ({ cls := "ModuleEngine$Flat", name := "localsOf", desc := "(I)I" } : Jvm.MethodName)) ∈ lw_all := lw_g (lw_at lw_m9 144 rfl) rfl
theorem q2424 : (Jvm.Cond.methodLink "ModuleEngine$Registers" (116 : Nat) ({ cls := "ModuleEngine$Registers", name := "join", desc := "(I)V" } : Jvm.MethodName)) ∈ lw_all := lw_g (lw_at lw_m9 145 rfl) rfl
theorem q2425 : (Jvm.Cond.privateMethod ({ cls := "ModuleEngine$Registers", name := "join", desc := "(I)V" } : Jvm.MethodName)) ∈ lw_tbl := lw_at lw_m9 146 rfl
theorem q2426 : (Jvm.Cond.instanceMethod ({ cls := "ModuleEngine$Registers", name := "join", desc := "(I)V" } : Jvm.MethodName)) ∈ lw_all := lw_g (lw_at lw_m9 147 rfl) rfl
theorem q2427 : (Jvm.Cond.code ({ cls := "ModuleEngine$Registers", name := "join", desc := "(I)V" } : Jvm.MethodName) prog_11_method_18_code (3 : Nat) (Option.none : Option Jvm.ClassFile.FieldType)) ∈ lw_all := lw_g (lw_at lw_m9 148 rfl) rfl
theorem q2428 : (Jvm.Cond.methodLink "ModuleEngine$Registers" (125 : Nat) ({ cls := "ModuleEngine$Registers", name := "settle", desc := "(I)V" } : Jvm.MethodName)) ∈ lw_all := lw_g (lw_at lw_m9 149 rfl) rfl
theorem q2429 : (Jvm.Cond.privateMethod ({ cls := "ModuleEngine$Registers", name := "settle", desc := "(I)V" } : Jvm.MethodName)) ∈ lw_tbl := lw_at lw_m9 150 rfl
theorem q2430 : (Jvm.Cond.instanceMethod ({ cls := "ModuleEngine$Registers", name := "settle", desc := "(I)V" } : Jvm.MethodName)) ∈ lw_all := lw_g (lw_at lw_m9 151 rfl) rfl
theorem q2431 : (Jvm.Cond.code ({ cls := "ModuleEngine$Registers", name := "settle", desc := "(I)V" } : Jvm.MethodName) prog_11_method_11_code (3 : Nat) (Option.none : Option Jvm.ClassFile.FieldType)) ∈ lw_all := lw_g (lw_at lw_m9 152 rfl) rfl
theorem q2432 : (Jvm.Cond.methodLink "ModuleEngine$Registers" (69 : Nat) ({ cls := "ModuleEngine$Registers", name := "slot", desc := "(I)I" } : Jvm.MethodName)) ∈ lw_all := lw_g (lw_at lw_m9 153 rfl) rfl
theorem q2433 : (Jvm.Cond.privateMethod ({ cls := "ModuleEngine$Registers", name := "slot", desc := "(I)I" } : Jvm.MethodName)) ∈ lw_tbl := lw_at lw_m9 154 rfl
theorem q2434 : (Jvm.Cond.instanceMethod ({ cls := "ModuleEngine$Registers", name := "slot", desc := "(I)I" } : Jvm.MethodName)) ∈ lw_all := lw_g (lw_at lw_m9 155 rfl) rfl
theorem q2435 : (Jvm.Cond.code ({ cls := "ModuleEngine$Registers", name := "slot", desc := "(I)I" } : Jvm.MethodName) prog_11_method_7_code (2 : Nat) (Option.some Jvm.ClassFile.FieldType.int)) ∈ lw_all := lw_g (lw_at lw_m9 156 rfl) rfl
theorem q2436 : (Jvm.Cond.methodLink "ModuleEngine$Registers" (78 : Nat) ({ cls := "ModuleEngine$Registers", name := "emit", desc := "(IIIIII)I" } : Jvm.MethodName)) ∈ lw_all := lw_g (lw_at lw_m9 157 rfl) rfl
theorem q2437 : (Jvm.Cond.privateMethod ({ cls := "ModuleEngine$Registers", name := "emit", desc := "(IIIIII)I" } : Jvm.MethodName)) ∈ lw_tbl := lw_at lw_m9 158 rfl
theorem q2438 : (Jvm.Cond.instanceMethod ({ cls := "ModuleEngine$Registers", name := "emit", desc := "(IIIIII)I" } : Jvm.MethodName)) ∈ lw_all := lw_g (lw_at lw_m9 159 rfl) rfl
theorem q2439 : (Jvm.Cond.code ({ cls := "ModuleEngine$Registers", name := "emit", desc := "(IIIIII)I" } : Jvm.MethodName) prog_11_method_4_code (9 : Nat) (Option.some Jvm.ClassFile.FieldType.int)) ∈ lw_all := lw_g (lw_at lw_m9 160 rfl) rfl
theorem q2440 : (Jvm.Cond.methodLink "ModuleEngine$Registers" (128 : Nat) ({ cls := "ModuleEngine$Registers", name := "steps", desc := "(I)I" } : Jvm.MethodName)) ∈ lw_all := lw_g (lw_at lw_m9 161 rfl) rfl
theorem q2441 : (Jvm.Cond.privateMethod ({ cls := "ModuleEngine$Registers", name := "steps", desc := "(I)I" } : Jvm.MethodName)) ∈ lw_tbl := lw_at lw_m9 162 rfl
theorem q2442 : (Jvm.Cond.instanceMethod ({ cls := "ModuleEngine$Registers", name := "steps", desc := "(I)I" } : Jvm.MethodName)) ∈ lw_all := lw_g (lw_at lw_m9 163 rfl) rfl
theorem q2443 : (Jvm.Cond.code ({ cls := "ModuleEngine$Registers", name := "steps", desc := "(I)I" } : Jvm.MethodName) prog_11_method_5_code (3 : Nat) (Option.some Jvm.ClassFile.FieldType.int)) ∈ lw_all := lw_g (lw_at lw_m9 164 rfl) rfl
theorem q2444 : (Jvm.Cond.methodLink "ModuleEngine$Registers" (131 : Nat) ({ cls := "ModuleEngine$Registers", name := "push", desc := "(II)V" } : Jvm.MethodName)) ∈ lw_all := lw_g (lw_at lw_m9 165 rfl) rfl
theorem q2445 : (Jvm.Cond.privateMethod ({ cls := "ModuleEngine$Registers", name := "push", desc := "(II)V" } : Jvm.MethodName)) ∈ lw_tbl := lw_at lw_m9 166 rfl
theorem q2446 : (Jvm.Cond.instanceMethod ({ cls := "ModuleEngine$Registers", name := "push", desc := "(II)V" } : Jvm.MethodName)) ∈ lw_all := lw_g (lw_at lw_m9 167 rfl) rfl
theorem q2447 : (Jvm.Cond.code ({ cls := "ModuleEngine$Registers", name := "push", desc := "(II)V" } : Jvm.MethodName) prog_11_method_9_code (3 : Nat) (Option.none : Option Jvm.ClassFile.FieldType)) ∈ lw_all := lw_g (lw_at lw_m9 168 rfl) rfl
theorem q2448 : (Jvm.Cond.methodLink "ModuleEngine$Registers" (122 : Nat) ({ cls := "ModuleEngine$Registers", name := "translate", desc := "(I)V" } : Jvm.MethodName)) ∈ lw_all := lw_g (lw_at lw_m9 169 rfl) rfl
theorem q2449 : (Jvm.Cond.privateMethod ({ cls := "ModuleEngine$Registers", name := "translate", desc := "(I)V" } : Jvm.MethodName)) ∈ lw_tbl := lw_at lw_m9 170 rfl
theorem q2450 : (Jvm.Cond.instanceMethod ({ cls := "ModuleEngine$Registers", name := "translate", desc := "(I)V" } : Jvm.MethodName)) ∈ lw_all := lw_g (lw_at lw_m9 171 rfl) rfl
theorem q2451 : (Jvm.Cond.code ({ cls := "ModuleEngine$Registers", name := "translate", desc := "(I)V" } : Jvm.MethodName) prog_11_method_20_code (9 : Nat) (Option.none : Option Jvm.ClassFile.FieldType)) ∈ lw_all := lw_g (lw_at lw_m9 172 rfl) rfl
theorem q2452 : (Jvm.Cond.methodLink "ModuleEngine$Registers" (134 : Nat) ({ cls := "ModuleEngine$Registers", name := "pop", desc := "()I" } : Jvm.MethodName)) ∈ lw_all := lw_g (lw_at lw_m9 173 rfl) rfl
theorem q2453 : (Jvm.Cond.privateMethod ({ cls := "ModuleEngine$Registers", name := "pop", desc := "()I" } : Jvm.MethodName)) ∈ lw_tbl := lw_at lw_m9 174 rfl
theorem q2454 : (Jvm.Cond.instanceMethod ({ cls := "ModuleEngine$Registers", name := "pop", desc := "()I" } : Jvm.MethodName)) ∈ lw_all := lw_g (lw_at lw_m9 175 rfl) rfl
theorem q2455 : (Jvm.Cond.code ({ cls := "ModuleEngine$Registers", name := "pop", desc := "()I" } : Jvm.MethodName) prog_11_method_10_code (1 : Nat) (Option.some Jvm.ClassFile.FieldType.int)) ∈ lw_all := lw_g (lw_at lw_m9 176 rfl) rfl
theorem q2456 : (Jvm.Cond.methodLink "ModuleEngine$Registers" (75 : Nat) ({ cls := "ModuleEngine$Registers", name := "operand", desc := "(I)I" } : Jvm.MethodName)) ∈ lw_all := lw_g (lw_at lw_m9 177 rfl) rfl
theorem q2457 : (Jvm.Cond.privateMethod ({ cls := "ModuleEngine$Registers", name := "operand", desc := "(I)I" } : Jvm.MethodName)) ∈ lw_tbl := lw_at lw_m9 178 rfl
theorem q2458 : (Jvm.Cond.instanceMethod ({ cls := "ModuleEngine$Registers", name := "operand", desc := "(I)I" } : Jvm.MethodName)) ∈ lw_all := lw_g (lw_at lw_m9 179 rfl) rfl
theorem q2459 : (Jvm.Cond.code ({ cls := "ModuleEngine$Registers", name := "operand", desc := "(I)I" } : Jvm.MethodName) prog_11_method_8_code (2 : Nat) (Option.some Jvm.ClassFile.FieldType.int)) ∈ lw_all := lw_g (lw_at lw_m9 180 rfl) rfl
theorem q2460 : (Jvm.Cond.methodLink "ModuleEngine$Registers" (137 : Nat) ({ cls := "ModuleEngine$Registers", name := "reach", desc := "(II)V" } : Jvm.MethodName)) ∈ lw_all := lw_g (lw_at lw_m9 181 rfl) rfl
theorem q2461 : (Jvm.Cond.privateMethod ({ cls := "ModuleEngine$Registers", name := "reach", desc := "(II)V" } : Jvm.MethodName)) ∈ lw_tbl := lw_at lw_m9 182 rfl
theorem q2462 : (Jvm.Cond.instanceMethod ({ cls := "ModuleEngine$Registers", name := "reach", desc := "(II)V" } : Jvm.MethodName)) ∈ lw_all := lw_g (lw_at lw_m9 183 rfl) rfl
theorem q2463 : (Jvm.Cond.code ({ cls := "ModuleEngine$Registers", name := "reach", desc := "(II)V" } : Jvm.MethodName) prog_11_method_17_code (3 : Nat) (Option.none : Option Jvm.ClassFile.FieldType)) ∈ lw_all := lw_g (lw_at lw_m9 184 rfl) rfl
theorem q2464 : (Jvm.Cond.methodLink "ModuleEngine$Registers" (140 : Nat) ({ cls := "ModuleEngine$Registers", name := "lower", desc := "(II)V" } : Jvm.MethodName)) ∈ lw_all := lw_g (lw_at lw_m9 185 rfl) rfl
theorem q2465 : (Jvm.Cond.privateMethod ({ cls := "ModuleEngine$Registers", name := "lower", desc := "(II)V" } : Jvm.MethodName)) ∈ lw_tbl := lw_at lw_m9 186 rfl
theorem q2466 : (Jvm.Cond.instanceMethod ({ cls := "ModuleEngine$Registers", name := "lower", desc := "(II)V" } : Jvm.MethodName)) ∈ lw_all := lw_g (lw_at lw_m9 187 rfl) rfl
theorem q2467 : (Jvm.Cond.code ({ cls := "ModuleEngine$Registers", name := "lower", desc := "(II)V" } : Jvm.MethodName) prog_11_method_19_code (5 : Nat) (Option.none : Option Jvm.ClassFile.FieldType)) ∈ lw_all := lw_g (lw_at lw_m9 188 rfl) rfl
theorem q2468 : (Jvm.Cond.methodLink "ModuleEngine$Registers" (143 : Nat) ({ cls := "ModuleEngine$Registers", name := "branchIf", desc := "(III)V" } : Jvm.MethodName)) ∈ lw_all := lw_g (lw_at lw_m9 189 rfl) rfl
theorem q2469 : (Jvm.Cond.privateMethod ({ cls := "ModuleEngine$Registers", name := "branchIf", desc := "(III)V" } : Jvm.MethodName)) ∈ lw_tbl := lw_at lw_m9 190 rfl
theorem q2470 : (Jvm.Cond.instanceMethod ({ cls := "ModuleEngine$Registers", name := "branchIf", desc := "(III)V" } : Jvm.MethodName)) ∈ lw_all := lw_g (lw_at lw_m9 191 rfl) rfl
theorem q2471 : (Jvm.Cond.code ({ cls := "ModuleEngine$Registers", name := "branchIf", desc := "(III)V" } : Jvm.MethodName) prog_11_method_22_code (6 : Nat) (Option.none : Option Jvm.ClassFile.FieldType)) ∈ lw_all := lw_g (lw_at lw_m9 192 rfl) rfl
theorem q2472 : (Jvm.Cond.methodLink "ModuleEngine$Registers" (147 : Nat) ({ cls := "ModuleEngine$Registers", name := "table", desc := "(II)V" } : Jvm.MethodName)) ∈ lw_all := lw_g (lw_at lw_m9 193 rfl) rfl
theorem q2473 : (Jvm.Cond.privateMethod ({ cls := "ModuleEngine$Registers", name := "table", desc := "(II)V" } : Jvm.MethodName)) ∈ lw_tbl := lw_at lw_m9 194 rfl
theorem q2474 : (Jvm.Cond.instanceMethod ({ cls := "ModuleEngine$Registers", name := "table", desc := "(II)V" } : Jvm.MethodName)) ∈ lw_all := lw_g (lw_at lw_m9 195 rfl) rfl
theorem q2475 : (Jvm.Cond.code ({ cls := "ModuleEngine$Registers", name := "table", desc := "(II)V" } : Jvm.MethodName) prog_11_method_23_code (8 : Nat) (Option.none : Option Jvm.ClassFile.FieldType)) ∈ lw_all := lw_g (lw_at lw_m9 196 rfl) rfl
theorem q2476 : (Jvm.Cond.methodLink "ModuleEngine$Registers" (150 : Nat) ({ cls := "ModuleEngine$Registers", name := "call", desc := "(IIIII)V" } : Jvm.MethodName)) ∈ lw_all := lw_g (lw_at lw_m9 197 rfl) rfl
theorem q2477 : (Jvm.Cond.privateMethod ({ cls := "ModuleEngine$Registers", name := "call", desc := "(IIIII)V" } : Jvm.MethodName)) ∈ lw_tbl := lw_at lw_m9 198 rfl
theorem q2478 : (Jvm.Cond.instanceMethod ({ cls := "ModuleEngine$Registers", name := "call", desc := "(IIIII)V" } : Jvm.MethodName)) ∈ lw_all := lw_g (lw_at lw_m9 199 rfl) rfl
theorem q2479 : (Jvm.Cond.code ({ cls := "ModuleEngine$Registers", name := "call", desc := "(IIIII)V" } : Jvm.MethodName) prog_11_method_21_code (7 : Nat) (Option.none : Option Jvm.ClassFile.FieldType)) ∈ lw_all := lw_g (lw_at lw_m9 200 rfl) rfl
theorem q2480 : (Jvm.Cond.methodLink "ModuleEngine$Registers" (154 : Nat) ({ cls := "ModuleEngine$Registers", name := "plain", desc := "(III)V" } : Jvm.MethodName)) ∈ lw_all := lw_g (lw_at lw_m9 201 rfl) rfl
theorem q2481 : (Jvm.Cond.privateMethod ({ cls := "ModuleEngine$Registers", name := "plain", desc := "(III)V" } : Jvm.MethodName)) ∈ lw_tbl := lw_at lw_m9 202 rfl
theorem q2482 : (Jvm.Cond.instanceMethod ({ cls := "ModuleEngine$Registers", name := "plain", desc := "(III)V" } : Jvm.MethodName)) ∈ lw_all := lw_g (lw_at lw_m9 203 rfl) rfl
theorem q2483 : (Jvm.Cond.code ({ cls := "ModuleEngine$Registers", name := "plain", desc := "(III)V" } : Jvm.MethodName) prog_11_method_24_code (10 : Nat) (Option.none : Option Jvm.ClassFile.FieldType)) ∈ lw_all := lw_g (lw_at lw_m9 204 rfl) rfl
theorem q2484 : (Jvm.Cond.methodLink "ModuleEngine$Registers" (157 : Nat) ({ cls := "ModuleEngine$Registers", name := "free", desc := "(I)V" } : Jvm.MethodName)) ∈ lw_all := lw_g (lw_at lw_m9 205 rfl) rfl
theorem q2485 : (Jvm.Cond.privateMethod ({ cls := "ModuleEngine$Registers", name := "free", desc := "(I)V" } : Jvm.MethodName)) ∈ lw_tbl := lw_at lw_m9 206 rfl
theorem q2486 : (Jvm.Cond.instanceMethod ({ cls := "ModuleEngine$Registers", name := "free", desc := "(I)V" } : Jvm.MethodName)) ∈ lw_all := lw_g (lw_at lw_m9 207 rfl) rfl
theorem q2487 : (Jvm.Cond.code ({ cls := "ModuleEngine$Registers", name := "free", desc := "(I)V" } : Jvm.MethodName) prog_11_method_12_code (3 : Nat) (Option.none : Option Jvm.ClassFile.FieldType)) ∈ lw_all := lw_g (lw_at lw_m9 208 rfl) rfl
theorem q2488 : (Jvm.Cond.constantLong "ModuleEngine$Registers" (160 : Nat) (4294967295 : Int64)) ∈ lw_all := lw_g (lw_at lw_m9 209 rfl) rfl
theorem q2489 : (Jvm.Cond.constantLong "ModuleEngine$Registers" (162 : Nat) (-1 : Int64)) ∈ lw_all := lw_g (lw_at lw_m9 210 rfl) rfl
theorem q2490 : (Jvm.Cond.methodLink "ModuleEngine$Registers" (164 : Nat) ({ cls := "ModuleEngine$Registers", name := "constant", desc := "(J)I" } : Jvm.MethodName)) ∈ lw_all := lw_g (lw_at lw_m9 211 rfl) rfl
theorem q2491 : (Jvm.Cond.privateMethod ({ cls := "ModuleEngine$Registers", name := "constant", desc := "(J)I" } : Jvm.MethodName)) ∈ lw_tbl := lw_at lw_m9 212 rfl
theorem q2492 : (Jvm.Cond.instanceMethod ({ cls := "ModuleEngine$Registers", name := "constant", desc := "(J)I" } : Jvm.MethodName)) ∈ lw_all := lw_g (lw_at lw_m9 213 rfl) rfl
theorem q2493 : (Jvm.Cond.code ({ cls := "ModuleEngine$Registers", name := "constant", desc := "(J)I" } : Jvm.MethodName) prog_11_method_6_code (5 : Nat) (Option.some Jvm.ClassFile.FieldType.int)) ∈ lw_all := lw_g (lw_at lw_m9 214 rfl) rfl
theorem q2494 : (Jvm.Cond.methodLink "ModuleEngine$Registers" (168 : Nat) ({ cls := "ModuleEngine$Registers", name := "load", desc := "(II)V" } : Jvm.MethodName)) ∈ lw_all := lw_g (lw_at lw_m9 215 rfl) rfl
theorem q2495 : (Jvm.Cond.privateMethod ({ cls := "ModuleEngine$Registers", name := "load", desc := "(II)V" } : Jvm.MethodName)) ∈ lw_tbl := lw_at lw_m9 216 rfl
theorem q2496 : (Jvm.Cond.instanceMethod ({ cls := "ModuleEngine$Registers", name := "load", desc := "(II)V" } : Jvm.MethodName)) ∈ lw_all := lw_g (lw_at lw_m9 217 rfl) rfl
theorem q2497 : (Jvm.Cond.code ({ cls := "ModuleEngine$Registers", name := "load", desc := "(II)V" } : Jvm.MethodName) prog_11_method_26_code (4 : Nat) (Option.none : Option Jvm.ClassFile.FieldType)) ∈ lw_all := lw_g (lw_at lw_m9 218 rfl) rfl
theorem q2498 : (Jvm.Cond.methodLink "ModuleEngine$Registers" (171 : Nat) ({ cls := "ModuleEngine$Registers", name := "place", desc := "(III)V" } : Jvm.MethodName)) ∈ lw_all := lw_g (lw_at lw_m9 219 rfl) rfl
theorem q2499 : (Jvm.Cond.privateMethod ({ cls := "ModuleEngine$Registers", name := "place", desc := "(III)V" } : Jvm.MethodName)) ∈ lw_tbl := lw_at lw_m9 220 rfl
theorem q2500 : (Jvm.Cond.instanceMethod ({ cls := "ModuleEngine$Registers", name := "place", desc := "(III)V" } : Jvm.MethodName)) ∈ lw_all := lw_g (lw_at lw_m9 221 rfl) rfl
theorem q2501 : (Jvm.Cond.code ({ cls := "ModuleEngine$Registers", name := "place", desc := "(III)V" } : Jvm.MethodName) prog_11_method_25_code (5 : Nat) (Option.none : Option Jvm.ClassFile.FieldType)) ∈ lw_all := lw_g (lw_at lw_m9 222 rfl) rfl
theorem q2502 : (Jvm.Cond.methodLink "ModuleEngine$Registers" (179 : Nat) ({ cls := "ModuleEngine$Flat", name := "in", desc := "(I)I" } : Jvm.MethodName)) ∈ lw_all := lw_g (lw_at lw_m9 223 rfl) rfl
theorem q2503 : (Jvm.Cond.methodLink "ModuleEngine$Registers" (182 : Nat) ({ cls := "ModuleEngine$Flat", name := "out", desc := "(I)I" } : Jvm.MethodName)) ∈ lw_all := lw_g (lw_at lw_m9 224 rfl) rfl
theorem q2504 : (Jvm.Cond.methodLink "ModuleEngine$Registers" (173 : Nat) ({ cls := "ModuleEngine$Registers", name := "store", desc := "(II)V" } : Jvm.MethodName)) ∈ lw_all := lw_g (lw_at lw_m9 225 rfl) rfl
theorem q2505 : (Jvm.Cond.privateMethod ({ cls := "ModuleEngine$Registers", name := "store", desc := "(II)V" } : Jvm.MethodName)) ∈ lw_tbl := lw_at lw_m9 226 rfl
theorem q2506 : (Jvm.Cond.instanceMethod ({ cls := "ModuleEngine$Registers", name := "store", desc := "(II)V" } : Jvm.MethodName)) ∈ lw_all := lw_g (lw_at lw_m9 227 rfl) rfl
theorem q2507 : (Jvm.Cond.code ({ cls := "ModuleEngine$Registers", name := "store", desc := "(II)V" } : Jvm.MethodName) prog_11_method_27_code (5 : Nat) (Option.none : Option Jvm.ClassFile.FieldType)) ∈ lw_all := lw_g (lw_at lw_m9 228 rfl) rfl
theorem q2508 : (Jvm.Cond.methodLink "ModuleEngine$Registers" (176 : Nat) ({ cls := "ModuleEngine$Registers", name := "calculate", desc := "(I)V" } : Jvm.MethodName)) ∈ lw_all := lw_g (lw_at lw_m9 229 rfl) rfl
theorem q2509 : (Jvm.Cond.privateMethod ({ cls := "ModuleEngine$Registers", name := "calculate", desc := "(I)V" } : Jvm.MethodName)) ∈ lw_tbl := lw_at lw_m9 230 rfl
theorem q2510 : (Jvm.Cond.instanceMethod ({ cls := "ModuleEngine$Registers", name := "calculate", desc := "(I)V" } : Jvm.MethodName)) ∈ lw_all := lw_g (lw_at lw_m9 231 rfl) rfl
theorem q2511 : (Jvm.Cond.code ({ cls := "ModuleEngine$Registers", name := "calculate", desc := "(I)V" } : Jvm.MethodName) prog_11_method_28_code (7 : Nat) (Option.none : Option Jvm.ClassFile.FieldType)) ∈ lw_all := lw_g (lw_at lw_m9 232 rfl) rfl
theorem q2512 : (Jvm.Cond.methodLink "ModuleEngine$Registers" (185 : Nat) ({ cls := "ModuleEngine$Numbers", name := "operands", desc := "(I)I" } : Jvm.MethodName)) ∈ lw_all := lw_g (lw_at lw_m9 233 rfl) rfl
theorem q2513 : (Jvm.Cond.methodLink "ModuleEngine$Registers" (189 : Nat) ({ cls := "ModuleEngine$Numbers", name := "apply", desc := "(IJJ)J" } : Jvm.MethodName)) ∈ lw_all := lw_g (lw_at lw_m9 234 rfl) rfl
theorem q2666 : (Jvm.Cond.methodLink "ModuleEngine$Registers" (193 : Nat) ({ cls := "ModuleEngine$Numbers", name := "trap", desc := "()I" } : Jvm.MethodName)) ∈ lw_all := lw_g (lw_at lw_m10 147 rfl) rfl
theorem q2670 : (Jvm.Cond.methodLink "ModuleEngine$Registers" (91 : Nat) ({ cls := "ModuleEngine$Row", name := "set", desc := "(II)V" } : Jvm.MethodName)) ∈ lw_all := lw_g (lw_at lw_m10 151 rfl) rfl
theorem q2683 : (Jvm.Cond.instanceMethod ({ cls := "ModuleEngine$Registers", name := "has", desc := "(I)Z" } : Jvm.MethodName)) ∈ lw_all := lw_g (lw_at lw_m10 164 rfl) rfl
theorem q2684 : (Jvm.Cond.selects "ModuleEngine$Registers" ({ cls := "ModuleEngine$Registers", name := "has", desc := "(I)Z" } : Jvm.MethodName) ({ cls := "ModuleEngine$Registers", name := "has", desc := "(I)Z" } : Jvm.MethodName)) ∈ lw_all := lw_g (lw_at lw_m10 165 rfl) rfl
theorem q2685 : (Jvm.Cond.code ({ cls := "ModuleEngine$Registers", name := "has", desc := "(I)Z" } : Jvm.MethodName) prog_11_method_2_code (2 : Nat) (Option.some Jvm.ClassFile.FieldType.boolean)) ∈ lw_all := lw_g (lw_at lw_m10 166 rfl) rfl
theorem q2688 : (Jvm.Cond.instanceMethod ({ cls := "ModuleEngine$Registers", name := "startOf", desc := "(I)I" } : Jvm.MethodName)) ∈ lw_all := lw_g (lw_at lw_m10 169 rfl) rfl
theorem q2689 : (Jvm.Cond.selects "ModuleEngine$Registers" ({ cls := "ModuleEngine$Registers", name := "startOf", desc := "(I)I" } : Jvm.MethodName) ({ cls := "ModuleEngine$Registers", name := "startOf", desc := "(I)I" } : Jvm.MethodName)) ∈ lw_all := lw_g (lw_at lw_m10 170 rfl) rfl
theorem q2690 : (Jvm.Cond.code ({ cls := "ModuleEngine$Registers", name := "startOf", desc := "(I)I" } : Jvm.MethodName) prog_11_method_3_code (2 : Nat) (Option.some Jvm.ClassFile.FieldType.int)) ∈ lw_all := lw_g (lw_at lw_m10 171 rfl) rfl
theorem in_X7 : ∀ w ∈ wsX70, w ∈ lw_all := lw_in wsX70 [710, 712, 714, 716, 718, 720, 722, 724, 726, 728, 730, 732, 734, 736, 738, 740, 742] (by decide +kernel) (by decide +kernel)

/-! ModuleEngine$Loader -/
set_option maxRecDepth 100000
def RX8 : String := "ModuleEngine$Loader"
def TX8 : u_T := fun k => match k with
  | 0 => ("ModuleEngine$Loader", "flat", "LModuleEngine$Flat;", true)
  | 1 => ("ModuleEngine$Loader", "fault", "I", false)
  | 2 => ("ModuleEngine$Loader", "place", "I", false)
  | 3 => ("ModuleEngine$Loader", "types", "LModuleEngine$ModuleTypes;", true)
  | 4 => ("ModuleEngine$Loader", "spaces", "LModuleEngine$Spaces;", true)
  | 5 => ("ModuleEngine$Loader", "checker", "LModuleEngine$Checker;", true)
  | 6 => ("ModuleEngine$Loader", "walker", "LModuleEngine$Walker;", true)
  | 7 => ("ModuleEngine$Loader", "module", "LModuleEngine$Module;", false)
  | _ => ("ModuleEngine$Loader", "imported", "I", false)
def tyX8 : Nat → FieldType := fun k => match k with
  | 0 => .object "ModuleEngine$Flat"
  | 1 => .int
  | 2 => .int
  | 3 => .object "ModuleEngine$ModuleTypes"
  | 4 => .object "ModuleEngine$Spaces"
  | 5 => .object "ModuleEngine$Checker"
  | 6 => .object "ModuleEngine$Walker"
  | 7 => .object "ModuleEngine$Module"
  | _ => .int
abbrev wsX80 : List Cond := u_ws RX8 TX8 9
theorem nmX8 : ∀ a, a < 9 → ∀ b, b < 9 → a ≠ b → (TX8 a).2.1 ≠ (TX8 b).2.1 := by decide +kernel
theorem tyX8_ok : ∀ k, k < 9 → parseFieldDescriptor (TX8 k).2.2.1 = some (tyX8 k) := by decide +kernel
abbrev cX8_init : ByteArray := prog_5_method_1_code
def yX8_init : MethodName := ⟨RX8, "<init>", "(LModuleEngine$Flat;)V"⟩
abbrev cX8_load : ByteArray := prog_5_method_6_code
def yX8_load : MethodName := ⟨RX8, "load", "(LModuleEngine$Module;)Z"⟩
abbrev cX8_check : ByteArray := prog_5_method_7_code
def yX8_check : MethodName := ⟨RX8, "check", "()V"⟩
abbrev cX8_checkRoom : ByteArray := prog_5_method_10_code
def yX8_checkRoom : MethodName := ⟨RX8, "checkRoom", "()V"⟩
abbrev cX8_typesFit : ByteArray := prog_5_method_11_code
def yX8_typesFit : MethodName := ⟨RX8, "typesFit", "()Z"⟩
abbrev cX8_section : ByteArray := prog_5_method_8_code
def yX8_section : MethodName := ⟨RX8, "section", "(I)I"⟩
abbrev cX8_need : ByteArray := prog_5_method_5_code
def yX8_need : MethodName := ⟨RX8, "need", "(ZII)V"⟩
abbrev cX8_stop : ByteArray := prog_5_method_4_code
def yX8_stop : MethodName := ⟨RX8, "stop", "(II)V"⟩
abbrev cX8_count : ByteArray := prog_5_method_9_code
def yX8_count : MethodName := ⟨RX8, "count", "(LModuleEngine$Row;I)I"⟩
abbrev cX8_bodyFits : ByteArray := prog_5_method_12_code
def yX8_bodyFits : MethodName := ⟨RX8, "bodyFits", "(I)Z"⟩
abbrev cX8_checkTypes : ByteArray := prog_5_method_18_code
def yX8_checkTypes : MethodName := ⟨RX8, "checkTypes", "()V"⟩
abbrev cX8_importCount : ByteArray := prog_5_method_13_code
def yX8_importCount : MethodName := ⟨RX8, "importCount", "()I"⟩
abbrev cX8_kindOf : ByteArray := prog_5_method_14_code
def yX8_kindOf : MethodName := ⟨RX8, "kindOf", "(I)I"⟩
abbrev cX8_importCell : ByteArray := prog_5_method_15_code
def yX8_importCell : MethodName := ⟨RX8, "importCell", "(II)I"⟩
abbrev cX8_isType : ByteArray := prog_5_method_17_code
def yX8_isType : MethodName := ⟨RX8, "isType", "(I)Z"⟩
abbrev cX8_checkLimits : ByteArray := prog_5_method_20_code
def yX8_checkLimits : MethodName := ⟨RX8, "checkLimits", "()V"⟩
abbrev cX8_isRange : ByteArray := prog_5_method_19_code
def yX8_isRange : MethodName := ⟨RX8, "isRange", "(ZIII)Z"⟩
abbrev cX8_checkRows : ByteArray := prog_5_method_21_code
def yX8_checkRows : MethodName := ⟨RX8, "checkRows", "(LModuleEngine$Row;ZI)V"⟩
abbrev cX8_imports : ByteArray := prog_5_method_16_code
def yX8_imports : MethodName := ⟨RX8, "imports", "(I)I"⟩
abbrev cX8_checkExports : ByteArray := prog_5_method_25_code
def yX8_checkExports : MethodName := ⟨RX8, "checkExports", "()V"⟩
abbrev cX8_all : ByteArray := prog_5_method_22_code
def yX8_all : MethodName := ⟨RX8, "all", "(I)I"⟩
abbrev cX8_isLike : ByteArray := prog_5_method_23_code
def yX8_isLike : MethodName := ⟨RX8, "isLike", "(II)Z"⟩
abbrev cX8_typeOf : ByteArray := prog_5_method_24_code
def yX8_typeOf : MethodName := ⟨RX8, "typeOf", "(I)I"⟩
abbrev cX8_fillSpaces : ByteArray := prog_5_method_26_code
def yX8_fillSpaces : MethodName := ⟨RX8, "fillSpaces", "()V"⟩
abbrev cX8_declareAll : ByteArray := prog_5_method_29_code
def yX8_declareAll : MethodName := ⟨RX8, "declareAll", "()V"⟩
abbrev cX8_declareIn : ByteArray := prog_5_method_28_code
def yX8_declareIn : MethodName := ⟨RX8, "declareIn", "(II)V"⟩
abbrev cX8_declare : ByteArray := prog_5_method_27_code
def yX8_declare : MethodName := ⟨RX8, "declare", "(I)V"⟩
abbrev cX8_checkConstants : ByteArray := prog_5_method_33_code
def yX8_checkConstants : MethodName := ⟨RX8, "checkConstants", "()V"⟩
abbrev cX8_checkConstant : ByteArray := prog_5_method_32_code
def yX8_checkConstant : MethodName := ⟨RX8, "checkConstant", "(III)V"⟩
abbrev cX8_isConstant : ByteArray := prog_5_method_30_code
def yX8_isConstant : MethodName := ⟨RX8, "isConstant", "()Z"⟩
abbrev cX8_valueOf : ByteArray := prog_5_method_31_code
def yX8_valueOf : MethodName := ⟨RX8, "valueOf", "()I"⟩
abbrev cX8_checkElement : ByteArray := prog_5_method_34_code
def yX8_checkElement : MethodName := ⟨RX8, "checkElement", "(I)V"⟩
abbrev cX8_checkBody : ByteArray := prog_5_method_37_code
def yX8_checkBody : MethodName := ⟨RX8, "checkBody", "(I)V"⟩
abbrev cX8_beginBody : ByteArray := prog_5_method_35_code
def yX8_beginBody : MethodName := ⟨RX8, "beginBody", "(I)V"⟩
abbrev cX8_faultOf : ByteArray := prog_5_method_36_code
def yX8_faultOf : MethodName := ⟨RX8, "faultOf", "(I)I"⟩
abbrev cX8_write : ByteArray := prog_5_method_38_code
def yX8_write : MethodName := ⟨RX8, "write", "()V"⟩
abbrev cX8_writeOne : ByteArray := prog_5_method_41_code
def yX8_writeOne : MethodName := ⟨RX8, "writeOne", "()Z"⟩
abbrev cX8_open : ByteArray := prog_5_method_40_code
def yX8_open : MethodName := ⟨RX8, "open", "()V"⟩
abbrev cX8_writeCall : ByteArray := prog_5_method_42_code
def yX8_writeCall : MethodName := ⟨RX8, "writeCall", "(IIIII)V"⟩
abbrev cX8_shape : ByteArray := prog_5_method_39_code
def yX8_shape : MethodName := ⟨RX8, "shape", "(I)I"⟩
abbrev cX8_writePlain : ByteArray := prog_5_method_43_code
def yX8_writePlain : MethodName := ⟨RX8, "writePlain", "(I)V"⟩
abbrev cX8_fault : ByteArray := prog_5_method_2_code
def yX8_fault : MethodName := ⟨RX8, "fault", "()I"⟩
abbrev cX8_place : ByteArray := prog_5_method_3_code
def yX8_place : MethodName := ⟨RX8, "place", "()I"⟩
theorem q368 : (Jvm.Cond.initialized "ModuleEngine$Loader") ∈ lw_all := lw_g (lw_at lw_m1 9 rfl) rfl
theorem q426 : (Jvm.Cond.fieldLinkNest "ModuleEngine$Loader" (62 : Nat) "ModuleEngine$Module" "bytes" "[B" "ModuleEngine") ∈ lw_tbl := lw_at lw_m1 67 rfl
theorem q433 : (Jvm.Cond.fieldLinkNest "ModuleEngine$Loader" (136 : Nat) "ModuleEngine$Module" "imports" "LModuleEngine$Row;" "ModuleEngine") ∈ lw_tbl := lw_at lw_m1 74 rfl
theorem q437 : (Jvm.Cond.fieldLinkNest "ModuleEngine$Loader" (96 : Nat) "ModuleEngine$Module" "functions" "LModuleEngine$Row;" "ModuleEngine") ∈ lw_tbl := lw_at lw_m1 78 rfl
theorem q441 : (Jvm.Cond.fieldLinkNest "ModuleEngine$Loader" (143 : Nat) "ModuleEngine$Module" "tables" "LModuleEngine$Row;" "ModuleEngine") ∈ lw_tbl := lw_at lw_m1 82 rfl
theorem q445 : (Jvm.Cond.fieldLinkNest "ModuleEngine$Loader" (146 : Nat) "ModuleEngine$Module" "memories" "LModuleEngine$Row;" "ModuleEngine") ∈ lw_tbl := lw_at lw_m1 86 rfl
theorem q449 : (Jvm.Cond.fieldLinkNest "ModuleEngine$Loader" (149 : Nat) "ModuleEngine$Module" "globals" "LModuleEngine$Row;" "ModuleEngine") ∈ lw_tbl := lw_at lw_m1 90 rfl
theorem q453 : (Jvm.Cond.fieldLinkNest "ModuleEngine$Loader" (152 : Nat) "ModuleEngine$Module" "exports" "LModuleEngine$Row;" "ModuleEngine") ∈ lw_tbl := lw_at lw_m1 94 rfl
theorem q457 : (Jvm.Cond.fieldLinkNest "ModuleEngine$Loader" (155 : Nat) "ModuleEngine$Module" "elements" "LModuleEngine$Row;" "ModuleEngine") ∈ lw_tbl := lw_at lw_m1 98 rfl
theorem q461 : (Jvm.Cond.fieldLinkNest "ModuleEngine$Loader" (271 : Nat) "ModuleEngine$Module" "items" "LModuleEngine$Row;" "ModuleEngine") ∈ lw_tbl := lw_at lw_m1 102 rfl
theorem q466 : (Jvm.Cond.fieldLinkNest "ModuleEngine$Loader" (171 : Nat) "ModuleEngine$Module" "bodies" "LModuleEngine$Row;" "ModuleEngine") ∈ lw_tbl := lw_at lw_m1 107 rfl
theorem q470 : (Jvm.Cond.fieldLinkNest "ModuleEngine$Loader" (293 : Nat) "ModuleEngine$Module" "locals" "LModuleEngine$Row;" "ModuleEngine") ∈ lw_tbl := lw_at lw_m1 111 rfl
theorem q473 : (Jvm.Cond.fieldLinkNest "ModuleEngine$Loader" (162 : Nat) "ModuleEngine$Module" "data" "LModuleEngine$Row;" "ModuleEngine") ∈ lw_tbl := lw_at lw_m1 114 rfl
theorem q481 : (Jvm.Cond.fieldLinkNest "ModuleEngine$Loader" (227 : Nat) "ModuleEngine$Module" "start" "I" "ModuleEngine") ∈ lw_tbl := lw_at lw_m1 122 rfl
theorem q485 : (Jvm.Cond.fieldLinkNest "ModuleEngine$Loader" (110 : Nat) "ModuleEngine$Module" "size" "I" "ModuleEngine") ∈ lw_tbl := lw_at lw_m1 126 rfl
theorem q487 : (Jvm.Cond.fieldLinkNest "ModuleEngine$Loader" (223 : Nat) "ModuleEngine$Module" "hasStart" "Z" "ModuleEngine") ∈ lw_tbl := lw_at lw_m1 128 rfl
theorem q747 : (Jvm.Cond.instantiable "ModuleEngine$Loader" (9 : Nat)) ∈ lw_all := lw_g (lw_at lw_m2 148 rfl) rfl
theorem q749 : (Jvm.Cond.instanceMethod ({ cls := "ModuleEngine$Loader", name := "<init>", desc := "(LModuleEngine$Flat;)V" } : Jvm.MethodName)) ∈ lw_all := lw_g (lw_at lw_m2 150 rfl) rfl
theorem q750 : (Jvm.Cond.code ({ cls := "ModuleEngine$Loader", name := "<init>", desc := "(LModuleEngine$Flat;)V" } : Jvm.MethodName) prog_5_method_1_code (2 : Nat) (Option.none : Option Jvm.ClassFile.FieldType)) ∈ lw_all := lw_g (lw_at lw_m2 151 rfl) rfl
theorem q751 : (Jvm.Cond.methodLink "ModuleEngine$Loader" (1 : Nat) ({ cls := "java/lang/Object", name := "<init>", desc := "()V" } : Jvm.MethodName)) ∈ lw_all := lw_g (lw_at lw_m2 152 rfl) rfl
theorem q752 : (Jvm.Cond.classLink "ModuleEngine$Loader" (7 : Nat) "ModuleEngine$ModuleTypes") ∈ lw_all := lw_g (lw_at lw_m2 153 rfl) rfl
theorem q754 : (Jvm.Cond.methodLinkNest "ModuleEngine$Loader" (9 : Nat) ({ cls := "ModuleEngine$ModuleTypes", name := "<init>", desc := "()V" } : Jvm.MethodName) "ModuleEngine") ∈ lw_tbl := lw_at lw_m2 155 rfl
theorem q759 : (Jvm.Cond.fieldLinkNest "ModuleEngine$Loader" (61 : Nat) "ModuleEngine$ModuleTypes" "module" "LModuleEngine$Module;" "ModuleEngine") ∈ lw_tbl := lw_at lw_m2 160 rfl
theorem q763 : (Jvm.Cond.classLink "ModuleEngine$Loader" (16 : Nat) "ModuleEngine$Spaces") ∈ lw_all := lw_g (lw_at lw_m2 164 rfl) rfl
theorem q765 : (Jvm.Cond.methodLinkNest "ModuleEngine$Loader" (18 : Nat) ({ cls := "ModuleEngine$Spaces", name := "<init>", desc := "()V" } : Jvm.MethodName) "ModuleEngine") ∈ lw_tbl := lw_at lw_m2 166 rfl
theorem q772 : (Jvm.Cond.fieldLinkNest "ModuleEngine$Loader" (233 : Nat) "ModuleEngine$Spaces" "functions" "LModuleEngine$Row;" "ModuleEngine") ∈ lw_tbl := lw_at lw_m2 173 rfl
theorem q775 : (Jvm.Cond.fieldLinkNest "ModuleEngine$Loader" (237 : Nat) "ModuleEngine$Spaces" "declared" "LModuleEngine$Row;" "ModuleEngine") ∈ lw_tbl := lw_at lw_m2 176 rfl
theorem q778 : (Jvm.Cond.fieldLinkNest "ModuleEngine$Loader" (240 : Nat) "ModuleEngine$Spaces" "tables" "LModuleEngine$Row;" "ModuleEngine") ∈ lw_tbl := lw_at lw_m2 179 rfl
theorem q781 : (Jvm.Cond.fieldLinkNest "ModuleEngine$Loader" (241 : Nat) "ModuleEngine$Spaces" "globals" "LModuleEngine$Row;" "ModuleEngine") ∈ lw_tbl := lw_at lw_m2 182 rfl
theorem q784 : (Jvm.Cond.fieldLinkNest "ModuleEngine$Loader" (242 : Nat) "ModuleEngine$Spaces" "changes" "LModuleEngine$Row;" "ModuleEngine") ∈ lw_tbl := lw_at lw_m2 185 rfl
theorem q787 : (Jvm.Cond.fieldLinkNest "ModuleEngine$Loader" (245 : Nat) "ModuleEngine$Spaces" "elements" "LModuleEngine$Row;" "ModuleEngine") ∈ lw_tbl := lw_at lw_m2 188 rfl
theorem q789 : (Jvm.Cond.fieldLinkNest "ModuleEngine$Loader" (246 : Nat) "ModuleEngine$Spaces" "memories" "I" "ModuleEngine") ∈ lw_tbl := lw_at lw_m2 190 rfl
theorem q791 : (Jvm.Cond.fieldLinkNest "ModuleEngine$Loader" (254 : Nat) "ModuleEngine$Spaces" "data" "I" "ModuleEngine") ∈ lw_tbl := lw_at lw_m2 192 rfl
theorem q810 : (Jvm.Cond.classLink "ModuleEngine$Loader" (23 : Nat) "ModuleEngine$Checker") ∈ lw_all := lw_g (lw_at lw_m2 211 rfl) rfl
theorem q812 : (Jvm.Cond.methodLink "ModuleEngine$Loader" (25 : Nat) ({ cls := "ModuleEngine$Checker", name := "<init>", desc := "(LModuleEngine$Types;LModuleEngine$Spaces;II)V" } : Jvm.MethodName)) ∈ lw_all := lw_g (lw_at lw_m2 213 rfl) rfl
theorem q830 : (Jvm.Cond.fieldLinkNest "ModuleEngine$Loader" (300 : Nat) "ModuleEngine$Checker" "labels" "LModuleEngine$Row;" "ModuleEngine") ∈ lw_tbl := lw_at lw_m2 231 rfl
theorem q871 : (Jvm.Cond.classLink "ModuleEngine$Loader" (32 : Nat) "ModuleEngine$Walker") ∈ lw_all := lw_g (lw_at lw_m3 32 rfl) rfl
theorem q873 : (Jvm.Cond.methodLinkNest "ModuleEngine$Loader" (34 : Nat) ({ cls := "ModuleEngine$Walker", name := "<init>", desc := "()V" } : Jvm.MethodName) "ModuleEngine") ∈ lw_tbl := lw_at lw_m3 34 rfl
theorem q881 : (Jvm.Cond.fieldLinkNest "ModuleEngine$Loader" (118 : Nat) "ModuleEngine$Walker" "at" "I" "ModuleEngine") ∈ lw_tbl := lw_at lw_m3 42 rfl
theorem q883 : (Jvm.Cond.fieldLinkNest "ModuleEngine$Loader" (279 : Nat) "ModuleEngine$Walker" "place" "I" "ModuleEngine") ∈ lw_tbl := lw_at lw_m3 44 rfl
theorem q885 : (Jvm.Cond.fieldLinkNest "ModuleEngine$Loader" (185 : Nat) "ModuleEngine$Walker" "op" "I" "ModuleEngine") ∈ lw_tbl := lw_at lw_m3 46 rfl
theorem q888 : (Jvm.Cond.fieldLinkNest "ModuleEngine$Loader" (262 : Nat) "ModuleEngine$Walker" "x" "I" "ModuleEngine") ∈ lw_tbl := lw_at lw_m3 49 rfl
theorem q891 : (Jvm.Cond.fieldLinkNest "ModuleEngine$Loader" (303 : Nat) "ModuleEngine$Walker" "y" "I" "ModuleEngine") ∈ lw_tbl := lw_at lw_m3 52 rfl
theorem q894 : (Jvm.Cond.fieldLinkNest "ModuleEngine$Loader" (349 : Nat) "ModuleEngine$Walker" "value" "J" "ModuleEngine") ∈ lw_tbl := lw_at lw_m3 55 rfl
theorem q896 : (Jvm.Cond.fieldLinkNest "ModuleEngine$Loader" (188 : Nat) "ModuleEngine$Walker" "row" "LModuleEngine$Row;" "ModuleEngine") ∈ lw_tbl := lw_at lw_m3 57 rfl
theorem q914 : (Jvm.Cond.fieldLink "ModuleEngine$Loader" (39 : Nat) "ModuleEngine$Loader" "flat" "LModuleEngine$Flat;") ∈ lw_all := lw_g (lw_at lw_m3 75 rfl) rfl
theorem q915 : (Jvm.Cond.fieldLink "ModuleEngine$Loader" (43 : Nat) "ModuleEngine$Loader" "fault" "I") ∈ lw_all := lw_g (lw_at lw_m3 76 rfl) rfl
theorem q916 : (Jvm.Cond.fieldLink "ModuleEngine$Loader" (47 : Nat) "ModuleEngine$Loader" "place" "I") ∈ lw_all := lw_g (lw_at lw_m3 77 rfl) rfl
theorem q917 : (Jvm.Cond.fieldLink "ModuleEngine$Loader" (10 : Nat) "ModuleEngine$Loader" "types" "LModuleEngine$ModuleTypes;") ∈ lw_all := lw_g (lw_at lw_m3 78 rfl) rfl
theorem q918 : (Jvm.Cond.fieldLink "ModuleEngine$Loader" (19 : Nat) "ModuleEngine$Loader" "spaces" "LModuleEngine$Spaces;") ∈ lw_all := lw_g (lw_at lw_m3 79 rfl) rfl
theorem q919 : (Jvm.Cond.fieldLink "ModuleEngine$Loader" (28 : Nat) "ModuleEngine$Loader" "checker" "LModuleEngine$Checker;") ∈ lw_all := lw_g (lw_at lw_m3 80 rfl) rfl
theorem q920 : (Jvm.Cond.fieldLink "ModuleEngine$Loader" (35 : Nat) "ModuleEngine$Loader" "walker" "LModuleEngine$Walker;") ∈ lw_all := lw_g (lw_at lw_m3 81 rfl) rfl
theorem q921 : (Jvm.Cond.fieldLink "ModuleEngine$Loader" (57 : Nat) "ModuleEngine$Loader" "module" "LModuleEngine$Module;") ∈ lw_all := lw_g (lw_at lw_m3 82 rfl) rfl
theorem q922 : (Jvm.Cond.fieldLink "ModuleEngine$Loader" (251 : Nat) "ModuleEngine$Loader" "imported" "I") ∈ lw_all := lw_g (lw_at lw_m3 83 rfl) rfl
theorem q923 : (Jvm.Cond.laysFinal "ModuleEngine$Loader" "ModuleEngine$Loader" "flat" "LModuleEngine$Flat;") ∈ lw_all := lw_g (lw_at lw_m3 84 rfl) rfl
theorem q924 : (Jvm.Cond.soleField "ModuleEngine$Loader" "flat") ∈ lw_all := lw_g (lw_at lw_m3 85 rfl) rfl
theorem q925 : (Jvm.Cond.lays "ModuleEngine$Loader" "ModuleEngine$Loader" "fault" "I") ∈ lw_all := lw_g (lw_at lw_m3 86 rfl) rfl
theorem q926 : (Jvm.Cond.soleField "ModuleEngine$Loader" "fault") ∈ lw_all := lw_g (lw_at lw_m3 87 rfl) rfl
theorem q927 : (Jvm.Cond.lays "ModuleEngine$Loader" "ModuleEngine$Loader" "place" "I") ∈ lw_all := lw_g (lw_at lw_m3 88 rfl) rfl
theorem q928 : (Jvm.Cond.soleField "ModuleEngine$Loader" "place") ∈ lw_all := lw_g (lw_at lw_m3 89 rfl) rfl
theorem q929 : (Jvm.Cond.laysFinal "ModuleEngine$Loader" "ModuleEngine$Loader" "types" "LModuleEngine$ModuleTypes;") ∈ lw_all := lw_g (lw_at lw_m3 90 rfl) rfl
theorem q930 : (Jvm.Cond.soleField "ModuleEngine$Loader" "types") ∈ lw_all := lw_g (lw_at lw_m3 91 rfl) rfl
theorem q931 : (Jvm.Cond.laysFinal "ModuleEngine$Loader" "ModuleEngine$Loader" "spaces" "LModuleEngine$Spaces;") ∈ lw_all := lw_g (lw_at lw_m3 92 rfl) rfl
theorem q932 : (Jvm.Cond.soleField "ModuleEngine$Loader" "spaces") ∈ lw_all := lw_g (lw_at lw_m3 93 rfl) rfl
theorem q933 : (Jvm.Cond.laysFinal "ModuleEngine$Loader" "ModuleEngine$Loader" "checker" "LModuleEngine$Checker;") ∈ lw_all := lw_g (lw_at lw_m3 94 rfl) rfl
theorem q934 : (Jvm.Cond.soleField "ModuleEngine$Loader" "checker") ∈ lw_all := lw_g (lw_at lw_m3 95 rfl) rfl
theorem q935 : (Jvm.Cond.laysFinal "ModuleEngine$Loader" "ModuleEngine$Loader" "walker" "LModuleEngine$Walker;") ∈ lw_all := lw_g (lw_at lw_m3 96 rfl) rfl
theorem q936 : (Jvm.Cond.soleField "ModuleEngine$Loader" "walker") ∈ lw_all := lw_g (lw_at lw_m3 97 rfl) rfl
theorem q937 : (Jvm.Cond.lays "ModuleEngine$Loader" "ModuleEngine$Loader" "module" "LModuleEngine$Module;") ∈ lw_all := lw_g (lw_at lw_m3 98 rfl) rfl
theorem q938 : (Jvm.Cond.soleField "ModuleEngine$Loader" "module") ∈ lw_all := lw_g (lw_at lw_m3 99 rfl) rfl
theorem q939 : (Jvm.Cond.lays "ModuleEngine$Loader" "ModuleEngine$Loader" "imported" "I") ∈ lw_all := lw_g (lw_at lw_m3 100 rfl) rfl
theorem q940 : (Jvm.Cond.soleField "ModuleEngine$Loader" "imported") ∈ lw_all := lw_g (lw_at lw_m3 101 rfl) rfl
theorem q941 : (Jvm.Cond.superclass "ModuleEngine$Loader" "java/lang/Object") ∈ lw_all := lw_g (lw_at lw_m3 102 rfl) rfl
theorem q1532 : (Jvm.Cond.instanceMethod ({ cls := "ModuleEngine$Loader", name := "load", desc := "(LModuleEngine$Module;)Z" } : Jvm.MethodName)) ∈ lw_all := lw_g (lw_at lw_m5 213 rfl) rfl
theorem q1533 : (Jvm.Cond.selects "ModuleEngine$Loader" ({ cls := "ModuleEngine$Loader", name := "load", desc := "(LModuleEngine$Module;)Z" } : Jvm.MethodName) ({ cls := "ModuleEngine$Loader", name := "load", desc := "(LModuleEngine$Module;)Z" } : Jvm.MethodName)) ∈ lw_all := lw_g (lw_at lw_m5 214 rfl) rfl
theorem q1534 : (Jvm.Cond.codeWith ({ cls := "ModuleEngine$Loader", name := "load", desc := "(LModuleEngine$Module;)Z" } : Jvm.MethodName) prog_5_method_6_code (3 : Nat) (Option.some Jvm.ClassFile.FieldType.boolean) [((34 : Nat), (38 : Nat), (41 : Nat), (50 : Nat))]) ∈ lw_all := lw_g (lw_at lw_m5 215 rfl) rfl
theorem q1535 : (Jvm.Cond.classLink "ModuleEngine$Loader" (50 : Nat) "java/lang/IllegalArgumentException") ∈ lw_all := lw_g (lw_at lw_m5 216 rfl) rfl
theorem q1536 : (Jvm.Cond.methodLink "ModuleEngine$Loader" (68 : Nat) ({ cls := "ModuleEngine$Walker", name := "over", desc := "([B)V" } : Jvm.MethodName)) ∈ lw_all := lw_g (lw_at lw_m5 217 rfl) rfl
theorem q1540 : (Jvm.Cond.methodLink "ModuleEngine$Loader" (72 : Nat) ({ cls := "ModuleEngine$Loader", name := "check", desc := "()V" } : Jvm.MethodName)) ∈ lw_all := lw_g (lw_at lw_m5 221 rfl) rfl
theorem q1541 : (Jvm.Cond.privateMethod ({ cls := "ModuleEngine$Loader", name := "check", desc := "()V" } : Jvm.MethodName)) ∈ lw_tbl := lw_at lw_m5 222 rfl
theorem q1542 : (Jvm.Cond.instanceMethod ({ cls := "ModuleEngine$Loader", name := "check", desc := "()V" } : Jvm.MethodName)) ∈ lw_all := lw_g (lw_at lw_m5 223 rfl) rfl
theorem q1543 : (Jvm.Cond.code ({ cls := "ModuleEngine$Loader", name := "check", desc := "()V" } : Jvm.MethodName) prog_5_method_7_code (2 : Nat) (Option.none : Option Jvm.ClassFile.FieldType)) ∈ lw_all := lw_g (lw_at lw_m5 224 rfl) rfl
theorem q1544 : (Jvm.Cond.methodLink "ModuleEngine$Loader" (78 : Nat) ({ cls := "ModuleEngine$Loader", name := "checkRoom", desc := "()V" } : Jvm.MethodName)) ∈ lw_all := lw_g (lw_at lw_m5 225 rfl) rfl
theorem q1545 : (Jvm.Cond.privateMethod ({ cls := "ModuleEngine$Loader", name := "checkRoom", desc := "()V" } : Jvm.MethodName)) ∈ lw_tbl := lw_at lw_m5 226 rfl
theorem q1546 : (Jvm.Cond.instanceMethod ({ cls := "ModuleEngine$Loader", name := "checkRoom", desc := "()V" } : Jvm.MethodName)) ∈ lw_all := lw_g (lw_at lw_m5 227 rfl) rfl
theorem q1547 : (Jvm.Cond.code ({ cls := "ModuleEngine$Loader", name := "checkRoom", desc := "()V" } : Jvm.MethodName) prog_5_method_10_code (2 : Nat) (Option.none : Option Jvm.ClassFile.FieldType)) ∈ lw_all := lw_g (lw_at lw_m5 228 rfl) rfl
theorem q1548 : (Jvm.Cond.methodLink "ModuleEngine$Loader" (121 : Nat) ({ cls := "ModuleEngine$Module", name := "typeCount", desc := "()I" } : Jvm.MethodName)) ∈ lw_all := lw_g (lw_at lw_m5 229 rfl) rfl
theorem q1553 : (Jvm.Cond.methodLink "ModuleEngine$Loader" (124 : Nat) ({ cls := "ModuleEngine$Loader", name := "typesFit", desc := "()Z" } : Jvm.MethodName)) ∈ lw_all := lw_g (lw_at lw_m5 234 rfl) rfl
theorem q1554 : (Jvm.Cond.privateMethod ({ cls := "ModuleEngine$Loader", name := "typesFit", desc := "()Z" } : Jvm.MethodName)) ∈ lw_tbl := lw_at lw_m5 235 rfl
theorem q1555 : (Jvm.Cond.instanceMethod ({ cls := "ModuleEngine$Loader", name := "typesFit", desc := "()Z" } : Jvm.MethodName)) ∈ lw_all := lw_g (lw_at lw_m5 236 rfl) rfl
theorem q1556 : (Jvm.Cond.code ({ cls := "ModuleEngine$Loader", name := "typesFit", desc := "()Z" } : Jvm.MethodName) prog_5_method_11_code (2 : Nat) (Option.some Jvm.ClassFile.FieldType.boolean)) ∈ lw_all := lw_g (lw_at lw_m5 237 rfl) rfl
theorem q1557 : (Jvm.Cond.methodLink "ModuleEngine$Loader" (165 : Nat) ({ cls := "ModuleEngine$Module", name := "parameters", desc := "(I)I" } : Jvm.MethodName)) ∈ lw_all := lw_g (lw_at lw_m5 238 rfl) rfl
theorem q1562 : (Jvm.Cond.methodLink "ModuleEngine$Loader" (168 : Nat) ({ cls := "ModuleEngine$Module", name := "results", desc := "(I)I" } : Jvm.MethodName)) ∈ lw_all := lw_g (lw_at lw_m6 3 rfl) rfl
theorem q1567 : (Jvm.Cond.methodLink "ModuleEngine$Loader" (128 : Nat) ({ cls := "ModuleEngine$Loader", name := "section", desc := "(I)I" } : Jvm.MethodName)) ∈ lw_all := lw_g (lw_at lw_m6 8 rfl) rfl
theorem q1568 : (Jvm.Cond.privateMethod ({ cls := "ModuleEngine$Loader", name := "section", desc := "(I)I" } : Jvm.MethodName)) ∈ lw_tbl := lw_at lw_m6 9 rfl
theorem q1569 : (Jvm.Cond.instanceMethod ({ cls := "ModuleEngine$Loader", name := "section", desc := "(I)I" } : Jvm.MethodName)) ∈ lw_all := lw_g (lw_at lw_m6 10 rfl) rfl
theorem q1570 : (Jvm.Cond.code ({ cls := "ModuleEngine$Loader", name := "section", desc := "(I)I" } : Jvm.MethodName) prog_5_method_8_code (5 : Nat) (Option.some Jvm.ClassFile.FieldType.int)) ∈ lw_all := lw_g (lw_at lw_m6 11 rfl) rfl
theorem q1571 : (Jvm.Cond.methodLink "ModuleEngine$Loader" (112 : Nat) ({ cls := "ModuleEngine$Walker", name := "go", desc := "(I)V" } : Jvm.MethodName)) ∈ lw_all := lw_g (lw_at lw_m6 12 rfl) rfl
theorem q1575 : (Jvm.Cond.methodLinkNest "ModuleEngine$Loader" (115 : Nat) ({ cls := "ModuleEngine$Walker", name := "whole", desc := "()I" } : Jvm.MethodName) "ModuleEngine") ∈ lw_tbl := lw_at lw_m6 16 rfl
theorem q1588 : (Jvm.Cond.methodLink "ModuleEngine$Loader" (132 : Nat) ({ cls := "ModuleEngine$Loader", name := "need", desc := "(ZII)V" } : Jvm.MethodName)) ∈ lw_all := lw_g (lw_at lw_m6 29 rfl) rfl
theorem q1589 : (Jvm.Cond.privateMethod ({ cls := "ModuleEngine$Loader", name := "need", desc := "(ZII)V" } : Jvm.MethodName)) ∈ lw_tbl := lw_at lw_m6 30 rfl
theorem q1590 : (Jvm.Cond.instanceMethod ({ cls := "ModuleEngine$Loader", name := "need", desc := "(ZII)V" } : Jvm.MethodName)) ∈ lw_all := lw_g (lw_at lw_m6 31 rfl) rfl
theorem q1591 : (Jvm.Cond.code ({ cls := "ModuleEngine$Loader", name := "need", desc := "(ZII)V" } : Jvm.MethodName) prog_5_method_5_code (4 : Nat) (Option.none : Option Jvm.ClassFile.FieldType)) ∈ lw_all := lw_g (lw_at lw_m6 32 rfl) rfl
theorem q1592 : (Jvm.Cond.methodLink "ModuleEngine$Loader" (53 : Nat) ({ cls := "ModuleEngine$Loader", name := "stop", desc := "(II)V" } : Jvm.MethodName)) ∈ lw_all := lw_g (lw_at lw_m6 33 rfl) rfl
theorem q1593 : (Jvm.Cond.privateMethod ({ cls := "ModuleEngine$Loader", name := "stop", desc := "(II)V" } : Jvm.MethodName)) ∈ lw_tbl := lw_at lw_m6 34 rfl
theorem q1594 : (Jvm.Cond.instanceMethod ({ cls := "ModuleEngine$Loader", name := "stop", desc := "(II)V" } : Jvm.MethodName)) ∈ lw_all := lw_g (lw_at lw_m6 35 rfl) rfl
theorem q1595 : (Jvm.Cond.code ({ cls := "ModuleEngine$Loader", name := "stop", desc := "(II)V" } : Jvm.MethodName) prog_5_method_4_code (3 : Nat) (Option.none : Option Jvm.ClassFile.FieldType)) ∈ lw_all := lw_g (lw_at lw_m6 36 rfl) rfl
theorem q1596 : (Jvm.Cond.methodLink "ModuleEngine$Loader" (52 : Nat) ({ cls := "java/lang/IllegalArgumentException", name := "<init>", desc := "()V" } : Jvm.MethodName)) ∈ lw_all := lw_g (lw_at lw_m6 37 rfl) rfl
theorem q1597 : (Jvm.Cond.methodLink "ModuleEngine$Loader" (139 : Nat) ({ cls := "ModuleEngine$Loader", name := "count", desc := "(LModuleEngine$Row;I)I" } : Jvm.MethodName)) ∈ lw_all := lw_g (lw_at lw_m6 38 rfl) rfl
theorem q1598 : (Jvm.Cond.static ({ cls := "ModuleEngine$Loader", name := "count", desc := "(LModuleEngine$Row;I)I" } : Jvm.MethodName)) ∈ lw_all := lw_g (lw_at lw_m6 39 rfl) rfl
theorem q1599 : (Jvm.Cond.code ({ cls := "ModuleEngine$Loader", name := "count", desc := "(LModuleEngine$Row;I)I" } : Jvm.MethodName) prog_5_method_9_code (2 : Nat) (Option.some Jvm.ClassFile.FieldType.int)) ∈ lw_all := lw_g (lw_at lw_m6 40 rfl) rfl
theorem q1600 : (Jvm.Cond.methodLink "ModuleEngine$Loader" (100 : Nat) ({ cls := "ModuleEngine$Row", name := "size", desc := "()I" } : Jvm.MethodName)) ∈ lw_all := lw_g (lw_at lw_m6 41 rfl) rfl
theorem q1601 : (Jvm.Cond.methodLink "ModuleEngine$Loader" (158 : Nat) ({ cls := "ModuleEngine$Loader", name := "bodyFits", desc := "(I)Z" } : Jvm.MethodName)) ∈ lw_all := lw_g (lw_at lw_m6 42 rfl) rfl
theorem q1602 : (Jvm.Cond.privateMethod ({ cls := "ModuleEngine$Loader", name := "bodyFits", desc := "(I)Z" } : Jvm.MethodName)) ∈ lw_tbl := lw_at lw_m6 43 rfl
theorem q1603 : (Jvm.Cond.instanceMethod ({ cls := "ModuleEngine$Loader", name := "bodyFits", desc := "(I)Z" } : Jvm.MethodName)) ∈ lw_all := lw_g (lw_at lw_m6 44 rfl) rfl
theorem q1604 : (Jvm.Cond.code ({ cls := "ModuleEngine$Loader", name := "bodyFits", desc := "(I)Z" } : Jvm.MethodName) prog_5_method_12_code (3 : Nat) (Option.some Jvm.ClassFile.FieldType.boolean)) ∈ lw_all := lw_g (lw_at lw_m6 45 rfl) rfl
theorem q1605 : (Jvm.Cond.methodLink "ModuleEngine$Loader" (174 : Nat) ({ cls := "ModuleEngine$Row", name := "at", desc := "(I)I" } : Jvm.MethodName)) ∈ lw_all := lw_g (lw_at lw_m6 46 rfl) rfl
theorem q1606 : (Jvm.Cond.methodLink "ModuleEngine$Loader" (176 : Nat) ({ cls := "ModuleEngine$Module", name := "wide", desc := "(I)J" } : Jvm.MethodName)) ∈ lw_all := lw_g (lw_at lw_m6 47 rfl) rfl
theorem q1607 : (Jvm.Cond.constantLong "ModuleEngine$Loader" (180 : Nat) (1000 : Int64)) ∈ lw_all := lw_g (lw_at lw_m6 48 rfl) rfl
theorem q1608 : (Jvm.Cond.methodLink "ModuleEngine$Loader" (182 : Nat) ({ cls := "ModuleEngine$Walker", name := "next", desc := "()V" } : Jvm.MethodName)) ∈ lw_all := lw_g (lw_at lw_m6 49 rfl) rfl
theorem q1631 : (Jvm.Cond.methodLink "ModuleEngine$Loader" (81 : Nat) ({ cls := "ModuleEngine$Loader", name := "checkTypes", desc := "()V" } : Jvm.MethodName)) ∈ lw_all := lw_g (lw_at lw_m6 72 rfl) rfl
theorem q1632 : (Jvm.Cond.privateMethod ({ cls := "ModuleEngine$Loader", name := "checkTypes", desc := "()V" } : Jvm.MethodName)) ∈ lw_tbl := lw_at lw_m6 73 rfl
theorem q1633 : (Jvm.Cond.instanceMethod ({ cls := "ModuleEngine$Loader", name := "checkTypes", desc := "()V" } : Jvm.MethodName)) ∈ lw_all := lw_g (lw_at lw_m6 74 rfl) rfl
theorem q1634 : (Jvm.Cond.code ({ cls := "ModuleEngine$Loader", name := "checkTypes", desc := "()V" } : Jvm.MethodName) prog_5_method_18_code (2 : Nat) (Option.none : Option Jvm.ClassFile.FieldType)) ∈ lw_all := lw_g (lw_at lw_m6 75 rfl) rfl
theorem q1635 : (Jvm.Cond.methodLink "ModuleEngine$Loader" (191 : Nat) ({ cls := "ModuleEngine$Loader", name := "importCount", desc := "()I" } : Jvm.MethodName)) ∈ lw_all := lw_g (lw_at lw_m6 76 rfl) rfl
theorem q1636 : (Jvm.Cond.privateMethod ({ cls := "ModuleEngine$Loader", name := "importCount", desc := "()I" } : Jvm.MethodName)) ∈ lw_tbl := lw_at lw_m6 77 rfl
theorem q1637 : (Jvm.Cond.instanceMethod ({ cls := "ModuleEngine$Loader", name := "importCount", desc := "()I" } : Jvm.MethodName)) ∈ lw_all := lw_g (lw_at lw_m6 78 rfl) rfl
theorem q1638 : (Jvm.Cond.code ({ cls := "ModuleEngine$Loader", name := "importCount", desc := "()I" } : Jvm.MethodName) prog_5_method_13_code (1 : Nat) (Option.some Jvm.ClassFile.FieldType.int)) ∈ lw_all := lw_g (lw_at lw_m6 79 rfl) rfl
theorem q1639 : (Jvm.Cond.methodLink "ModuleEngine$Loader" (194 : Nat) ({ cls := "ModuleEngine$Loader", name := "kindOf", desc := "(I)I" } : Jvm.MethodName)) ∈ lw_all := lw_g (lw_at lw_m6 80 rfl) rfl
theorem q1640 : (Jvm.Cond.privateMethod ({ cls := "ModuleEngine$Loader", name := "kindOf", desc := "(I)I" } : Jvm.MethodName)) ∈ lw_tbl := lw_at lw_m6 81 rfl
theorem q1641 : (Jvm.Cond.instanceMethod ({ cls := "ModuleEngine$Loader", name := "kindOf", desc := "(I)I" } : Jvm.MethodName)) ∈ lw_all := lw_g (lw_at lw_m6 82 rfl) rfl
theorem q1642 : (Jvm.Cond.code ({ cls := "ModuleEngine$Loader", name := "kindOf", desc := "(I)I" } : Jvm.MethodName) prog_5_method_14_code (2 : Nat) (Option.some Jvm.ClassFile.FieldType.int)) ∈ lw_all := lw_g (lw_at lw_m6 83 rfl) rfl
theorem q1643 : (Jvm.Cond.methodLink "ModuleEngine$Loader" (197 : Nat) ({ cls := "ModuleEngine$Loader", name := "importCell", desc := "(II)I" } : Jvm.MethodName)) ∈ lw_all := lw_g (lw_at lw_m6 84 rfl) rfl
theorem q1644 : (Jvm.Cond.privateMethod ({ cls := "ModuleEngine$Loader", name := "importCell", desc := "(II)I" } : Jvm.MethodName)) ∈ lw_tbl := lw_at lw_m6 85 rfl
theorem q1645 : (Jvm.Cond.instanceMethod ({ cls := "ModuleEngine$Loader", name := "importCell", desc := "(II)I" } : Jvm.MethodName)) ∈ lw_all := lw_g (lw_at lw_m6 86 rfl) rfl
theorem q1646 : (Jvm.Cond.code ({ cls := "ModuleEngine$Loader", name := "importCell", desc := "(II)I" } : Jvm.MethodName) prog_5_method_15_code (3 : Nat) (Option.some Jvm.ClassFile.FieldType.int)) ∈ lw_all := lw_g (lw_at lw_m6 87 rfl) rfl
theorem q1647 : (Jvm.Cond.methodLink "ModuleEngine$Loader" (201 : Nat) ({ cls := "ModuleEngine$Loader", name := "isType", desc := "(I)Z" } : Jvm.MethodName)) ∈ lw_all := lw_g (lw_at lw_m6 88 rfl) rfl
theorem q1648 : (Jvm.Cond.privateMethod ({ cls := "ModuleEngine$Loader", name := "isType", desc := "(I)Z" } : Jvm.MethodName)) ∈ lw_tbl := lw_at lw_m6 89 rfl
theorem q1649 : (Jvm.Cond.instanceMethod ({ cls := "ModuleEngine$Loader", name := "isType", desc := "(I)Z" } : Jvm.MethodName)) ∈ lw_all := lw_g (lw_at lw_m6 90 rfl) rfl
theorem q1650 : (Jvm.Cond.code ({ cls := "ModuleEngine$Loader", name := "isType", desc := "(I)Z" } : Jvm.MethodName) prog_5_method_17_code (2 : Nat) (Option.some Jvm.ClassFile.FieldType.boolean)) ∈ lw_all := lw_g (lw_at lw_m6 91 rfl) rfl
theorem q1651 : (Jvm.Cond.methodLink "ModuleEngine$Loader" (84 : Nat) ({ cls := "ModuleEngine$Loader", name := "checkLimits", desc := "()V" } : Jvm.MethodName)) ∈ lw_all := lw_g (lw_at lw_m6 92 rfl) rfl
theorem q1652 : (Jvm.Cond.privateMethod ({ cls := "ModuleEngine$Loader", name := "checkLimits", desc := "()V" } : Jvm.MethodName)) ∈ lw_tbl := lw_at lw_m6 93 rfl
theorem q1653 : (Jvm.Cond.instanceMethod ({ cls := "ModuleEngine$Loader", name := "checkLimits", desc := "()V" } : Jvm.MethodName)) ∈ lw_all := lw_g (lw_at lw_m6 94 rfl) rfl
theorem q1654 : (Jvm.Cond.code ({ cls := "ModuleEngine$Loader", name := "checkLimits", desc := "()V" } : Jvm.MethodName) prog_5_method_20_code (3 : Nat) (Option.none : Option Jvm.ClassFile.FieldType)) ∈ lw_all := lw_g (lw_at lw_m6 95 rfl) rfl
theorem q1655 : (Jvm.Cond.methodLink "ModuleEngine$Loader" (206 : Nat) ({ cls := "ModuleEngine$Loader", name := "isRange", desc := "(ZIII)Z" } : Jvm.MethodName)) ∈ lw_all := lw_g (lw_at lw_m6 96 rfl) rfl
theorem q1656 : (Jvm.Cond.static ({ cls := "ModuleEngine$Loader", name := "isRange", desc := "(ZIII)Z" } : Jvm.MethodName)) ∈ lw_all := lw_g (lw_at lw_m6 97 rfl) rfl
theorem q1657 : (Jvm.Cond.code ({ cls := "ModuleEngine$Loader", name := "isRange", desc := "(ZIII)Z" } : Jvm.MethodName) prog_5_method_19_code (5 : Nat) (Option.some Jvm.ClassFile.FieldType.boolean)) ∈ lw_all := lw_g (lw_at lw_m6 98 rfl) rfl
theorem q1658 : (Jvm.Cond.constantLong "ModuleEngine$Loader" (204 : Nat) (65536 : Int64)) ∈ lw_all := lw_g (lw_at lw_m6 99 rfl) rfl
theorem q1659 : (Jvm.Cond.methodLink "ModuleEngine$Loader" (210 : Nat) ({ cls := "ModuleEngine$Loader", name := "checkRows", desc := "(LModuleEngine$Row;ZI)V" } : Jvm.MethodName)) ∈ lw_all := lw_g (lw_at lw_m6 100 rfl) rfl
theorem q1660 : (Jvm.Cond.privateMethod ({ cls := "ModuleEngine$Loader", name := "checkRows", desc := "(LModuleEngine$Row;ZI)V" } : Jvm.MethodName)) ∈ lw_tbl := lw_at lw_m6 101 rfl
theorem q1661 : (Jvm.Cond.instanceMethod ({ cls := "ModuleEngine$Loader", name := "checkRows", desc := "(LModuleEngine$Row;ZI)V" } : Jvm.MethodName)) ∈ lw_all := lw_g (lw_at lw_m6 102 rfl) rfl
theorem q1662 : (Jvm.Cond.code ({ cls := "ModuleEngine$Loader", name := "checkRows", desc := "(LModuleEngine$Row;ZI)V" } : Jvm.MethodName) prog_5_method_21_code (5 : Nat) (Option.none : Option Jvm.ClassFile.FieldType)) ∈ lw_all := lw_g (lw_at lw_m6 103 rfl) rfl
theorem q1663 : (Jvm.Cond.methodLink "ModuleEngine$Loader" (214 : Nat) ({ cls := "ModuleEngine$Loader", name := "imports", desc := "(I)I" } : Jvm.MethodName)) ∈ lw_all := lw_g (lw_at lw_m6 104 rfl) rfl
theorem q1664 : (Jvm.Cond.privateMethod ({ cls := "ModuleEngine$Loader", name := "imports", desc := "(I)I" } : Jvm.MethodName)) ∈ lw_tbl := lw_at lw_m6 105 rfl
theorem q1665 : (Jvm.Cond.instanceMethod ({ cls := "ModuleEngine$Loader", name := "imports", desc := "(I)I" } : Jvm.MethodName)) ∈ lw_all := lw_g (lw_at lw_m6 106 rfl) rfl
theorem q1666 : (Jvm.Cond.code ({ cls := "ModuleEngine$Loader", name := "imports", desc := "(I)I" } : Jvm.MethodName) prog_5_method_16_code (4 : Nat) (Option.some Jvm.ClassFile.FieldType.int)) ∈ lw_all := lw_g (lw_at lw_m6 107 rfl) rfl
theorem q1667 : (Jvm.Cond.methodLink "ModuleEngine$Loader" (87 : Nat) ({ cls := "ModuleEngine$Loader", name := "checkExports", desc := "()V" } : Jvm.MethodName)) ∈ lw_all := lw_g (lw_at lw_m6 108 rfl) rfl
theorem q1668 : (Jvm.Cond.privateMethod ({ cls := "ModuleEngine$Loader", name := "checkExports", desc := "()V" } : Jvm.MethodName)) ∈ lw_tbl := lw_at lw_m6 109 rfl
theorem q1669 : (Jvm.Cond.instanceMethod ({ cls := "ModuleEngine$Loader", name := "checkExports", desc := "()V" } : Jvm.MethodName)) ∈ lw_all := lw_g (lw_at lw_m6 110 rfl) rfl
theorem q1670 : (Jvm.Cond.code ({ cls := "ModuleEngine$Loader", name := "checkExports", desc := "()V" } : Jvm.MethodName) prog_5_method_25_code (4 : Nat) (Option.none : Option Jvm.ClassFile.FieldType)) ∈ lw_all := lw_g (lw_at lw_m6 111 rfl) rfl
theorem q1671 : (Jvm.Cond.methodLink "ModuleEngine$Loader" (216 : Nat) ({ cls := "ModuleEngine$Loader", name := "all", desc := "(I)I" } : Jvm.MethodName)) ∈ lw_all := lw_g (lw_at lw_m6 112 rfl) rfl
theorem q1672 : (Jvm.Cond.privateMethod ({ cls := "ModuleEngine$Loader", name := "all", desc := "(I)I" } : Jvm.MethodName)) ∈ lw_tbl := lw_at lw_m6 113 rfl
theorem q1673 : (Jvm.Cond.instanceMethod ({ cls := "ModuleEngine$Loader", name := "all", desc := "(I)I" } : Jvm.MethodName)) ∈ lw_all := lw_g (lw_at lw_m6 114 rfl) rfl
theorem q1674 : (Jvm.Cond.code ({ cls := "ModuleEngine$Loader", name := "all", desc := "(I)I" } : Jvm.MethodName) prog_5_method_22_code (3 : Nat) (Option.some Jvm.ClassFile.FieldType.int)) ∈ lw_all := lw_g (lw_at lw_m6 115 rfl) rfl
theorem q1675 : (Jvm.Cond.methodLink "ModuleEngine$Loader" (219 : Nat) ({ cls := "ModuleEngine$Loader", name := "isLike", desc := "(II)Z" } : Jvm.MethodName)) ∈ lw_all := lw_g (lw_at lw_m6 116 rfl) rfl
theorem q1676 : (Jvm.Cond.privateMethod ({ cls := "ModuleEngine$Loader", name := "isLike", desc := "(II)Z" } : Jvm.MethodName)) ∈ lw_tbl := lw_at lw_m6 117 rfl
theorem q1677 : (Jvm.Cond.instanceMethod ({ cls := "ModuleEngine$Loader", name := "isLike", desc := "(II)Z" } : Jvm.MethodName)) ∈ lw_all := lw_g (lw_at lw_m6 118 rfl) rfl
theorem q1678 : (Jvm.Cond.code ({ cls := "ModuleEngine$Loader", name := "isLike", desc := "(II)Z" } : Jvm.MethodName) prog_5_method_23_code (7 : Nat) (Option.some Jvm.ClassFile.FieldType.boolean)) ∈ lw_all := lw_g (lw_at lw_m6 119 rfl) rfl
theorem q1679 : (Jvm.Cond.methodLink "ModuleEngine$Loader" (230 : Nat) ({ cls := "ModuleEngine$Loader", name := "typeOf", desc := "(I)I" } : Jvm.MethodName)) ∈ lw_all := lw_g (lw_at lw_m6 120 rfl) rfl
theorem q1680 : (Jvm.Cond.privateMethod ({ cls := "ModuleEngine$Loader", name := "typeOf", desc := "(I)I" } : Jvm.MethodName)) ∈ lw_tbl := lw_at lw_m6 121 rfl
theorem q1681 : (Jvm.Cond.instanceMethod ({ cls := "ModuleEngine$Loader", name := "typeOf", desc := "(I)I" } : Jvm.MethodName)) ∈ lw_all := lw_g (lw_at lw_m6 122 rfl) rfl
theorem q1682 : (Jvm.Cond.code ({ cls := "ModuleEngine$Loader", name := "typeOf", desc := "(I)I" } : Jvm.MethodName) prog_5_method_24_code (4 : Nat) (Option.some Jvm.ClassFile.FieldType.int)) ∈ lw_all := lw_g (lw_at lw_m6 123 rfl) rfl
theorem q1683 : (Jvm.Cond.methodLink "ModuleEngine$Loader" (90 : Nat) ({ cls := "ModuleEngine$Loader", name := "fillSpaces", desc := "()V" } : Jvm.MethodName)) ∈ lw_all := lw_g (lw_at lw_m6 124 rfl) rfl
theorem q1684 : (Jvm.Cond.privateMethod ({ cls := "ModuleEngine$Loader", name := "fillSpaces", desc := "()V" } : Jvm.MethodName)) ∈ lw_tbl := lw_at lw_m6 125 rfl
theorem q1685 : (Jvm.Cond.instanceMethod ({ cls := "ModuleEngine$Loader", name := "fillSpaces", desc := "()V" } : Jvm.MethodName)) ∈ lw_all := lw_g (lw_at lw_m6 126 rfl) rfl
theorem q1686 : (Jvm.Cond.code ({ cls := "ModuleEngine$Loader", name := "fillSpaces", desc := "()V" } : Jvm.MethodName) prog_5_method_26_code (3 : Nat) (Option.none : Option Jvm.ClassFile.FieldType)) ∈ lw_all := lw_g (lw_at lw_m6 127 rfl) rfl
theorem q1687 : (Jvm.Cond.methodLink "ModuleEngine$Loader" (234 : Nat) ({ cls := "ModuleEngine$Row", name := "cut", desc := "(I)V" } : Jvm.MethodName)) ∈ lw_all := lw_g (lw_at lw_m6 128 rfl) rfl
theorem q1688 : (Jvm.Cond.methodLink "ModuleEngine$Loader" (248 : Nat) ({ cls := "ModuleEngine$Row", name := "add", desc := "(I)V" } : Jvm.MethodName)) ∈ lw_all := lw_g (lw_at lw_m6 129 rfl) rfl
theorem q1689 : (Jvm.Cond.methodLink "ModuleEngine$Loader" (256 : Nat) ({ cls := "ModuleEngine$Loader", name := "declareAll", desc := "()V" } : Jvm.MethodName)) ∈ lw_all := lw_g (lw_at lw_m6 130 rfl) rfl
theorem q1690 : (Jvm.Cond.privateMethod ({ cls := "ModuleEngine$Loader", name := "declareAll", desc := "()V" } : Jvm.MethodName)) ∈ lw_tbl := lw_at lw_m6 131 rfl
theorem q1691 : (Jvm.Cond.instanceMethod ({ cls := "ModuleEngine$Loader", name := "declareAll", desc := "()V" } : Jvm.MethodName)) ∈ lw_all := lw_g (lw_at lw_m6 132 rfl) rfl
theorem q1692 : (Jvm.Cond.code ({ cls := "ModuleEngine$Loader", name := "declareAll", desc := "()V" } : Jvm.MethodName) prog_5_method_29_code (6 : Nat) (Option.none : Option Jvm.ClassFile.FieldType)) ∈ lw_all := lw_g (lw_at lw_m6 133 rfl) rfl
theorem q1693 : (Jvm.Cond.methodLink "ModuleEngine$Loader" (268 : Nat) ({ cls := "ModuleEngine$Loader", name := "declareIn", desc := "(II)V" } : Jvm.MethodName)) ∈ lw_all := lw_g (lw_at lw_m6 134 rfl) rfl
theorem q1694 : (Jvm.Cond.privateMethod ({ cls := "ModuleEngine$Loader", name := "declareIn", desc := "(II)V" } : Jvm.MethodName)) ∈ lw_tbl := lw_at lw_m6 135 rfl
theorem q1695 : (Jvm.Cond.instanceMethod ({ cls := "ModuleEngine$Loader", name := "declareIn", desc := "(II)V" } : Jvm.MethodName)) ∈ lw_all := lw_g (lw_at lw_m6 136 rfl) rfl
theorem q1696 : (Jvm.Cond.code ({ cls := "ModuleEngine$Loader", name := "declareIn", desc := "(II)V" } : Jvm.MethodName) prog_5_method_28_code (3 : Nat) (Option.none : Option Jvm.ClassFile.FieldType)) ∈ lw_all := lw_g (lw_at lw_m6 137 rfl) rfl
theorem q1697 : (Jvm.Cond.methodLink "ModuleEngine$Loader" (265 : Nat) ({ cls := "ModuleEngine$Loader", name := "declare", desc := "(I)V" } : Jvm.MethodName)) ∈ lw_all := lw_g (lw_at lw_m6 138 rfl) rfl
theorem q1698 : (Jvm.Cond.privateMethod ({ cls := "ModuleEngine$Loader", name := "declare", desc := "(I)V" } : Jvm.MethodName)) ∈ lw_tbl := lw_at lw_m6 139 rfl
theorem q1699 : (Jvm.Cond.instanceMethod ({ cls := "ModuleEngine$Loader", name := "declare", desc := "(I)V" } : Jvm.MethodName)) ∈ lw_all := lw_g (lw_at lw_m6 140 rfl) rfl
theorem q1700 : (Jvm.Cond.code ({ cls := "ModuleEngine$Loader", name := "declare", desc := "(I)V" } : Jvm.MethodName) prog_5_method_27_code (2 : Nat) (Option.none : Option Jvm.ClassFile.FieldType)) ∈ lw_all := lw_g (lw_at lw_m6 141 rfl) rfl
theorem q1701 : (Jvm.Cond.methodLink "ModuleEngine$Loader" (259 : Nat) ({ cls := "ModuleEngine$Row", name := "set", desc := "(II)V" } : Jvm.MethodName)) ∈ lw_all := lw_g (lw_at lw_m6 142 rfl) rfl
theorem q1702 : (Jvm.Cond.methodLink "ModuleEngine$Loader" (93 : Nat) ({ cls := "ModuleEngine$Loader", name := "checkConstants", desc := "()V" } : Jvm.MethodName)) ∈ lw_all := lw_g (lw_at lw_m6 143 rfl) rfl
theorem q1703 : (Jvm.Cond.privateMethod ({ cls := "ModuleEngine$Loader", name := "checkConstants", desc := "()V" } : Jvm.MethodName)) ∈ lw_tbl := lw_at lw_m6 144 rfl
theorem q1704 : (Jvm.Cond.instanceMethod ({ cls := "ModuleEngine$Loader", name := "checkConstants", desc := "()V" } : Jvm.MethodName)) ∈ lw_all := lw_g (lw_at lw_m6 145 rfl) rfl
theorem q1705 : (Jvm.Cond.code ({ cls := "ModuleEngine$Loader", name := "checkConstants", desc := "()V" } : Jvm.MethodName) prog_5_method_33_code (5 : Nat) (Option.none : Option Jvm.ClassFile.FieldType)) ∈ lw_all := lw_g (lw_at lw_m6 146 rfl) rfl
theorem q1706 : (Jvm.Cond.methodLink "ModuleEngine$Loader" (283 : Nat) ({ cls := "ModuleEngine$Loader", name := "checkConstant", desc := "(III)V" } : Jvm.MethodName)) ∈ lw_all := lw_g (lw_at lw_m6 147 rfl) rfl
theorem q1707 : (Jvm.Cond.privateMethod ({ cls := "ModuleEngine$Loader", name := "checkConstant", desc := "(III)V" } : Jvm.MethodName)) ∈ lw_tbl := lw_at lw_m6 148 rfl
theorem q1708 : (Jvm.Cond.instanceMethod ({ cls := "ModuleEngine$Loader", name := "checkConstant", desc := "(III)V" } : Jvm.MethodName)) ∈ lw_all := lw_g (lw_at lw_m6 149 rfl) rfl
theorem q1709 : (Jvm.Cond.code ({ cls := "ModuleEngine$Loader", name := "checkConstant", desc := "(III)V" } : Jvm.MethodName) prog_5_method_32_code (6 : Nat) (Option.none : Option Jvm.ClassFile.FieldType)) ∈ lw_all := lw_g (lw_at lw_m6 150 rfl) rfl
theorem q1710 : (Jvm.Cond.methodLink "ModuleEngine$Loader" (276 : Nat) ({ cls := "ModuleEngine$Loader", name := "isConstant", desc := "()Z" } : Jvm.MethodName)) ∈ lw_all := lw_g (lw_at lw_m6 151 rfl) rfl
theorem q1711 : (Jvm.Cond.privateMethod ({ cls := "ModuleEngine$Loader", name := "isConstant", desc := "()Z" } : Jvm.MethodName)) ∈ lw_tbl := lw_at lw_m6 152 rfl
theorem q1712 : (Jvm.Cond.instanceMethod ({ cls := "ModuleEngine$Loader", name := "isConstant", desc := "()Z" } : Jvm.MethodName)) ∈ lw_all := lw_g (lw_at lw_m6 153 rfl) rfl
theorem q1713 : (Jvm.Cond.code ({ cls := "ModuleEngine$Loader", name := "isConstant", desc := "()Z" } : Jvm.MethodName) prog_5_method_30_code (2 : Nat) (Option.some Jvm.ClassFile.FieldType.boolean)) ∈ lw_all := lw_g (lw_at lw_m6 154 rfl) rfl
theorem q1714 : (Jvm.Cond.methodLink "ModuleEngine$Loader" (280 : Nat) ({ cls := "ModuleEngine$Loader", name := "valueOf", desc := "()I" } : Jvm.MethodName)) ∈ lw_all := lw_g (lw_at lw_m6 155 rfl) rfl
theorem q1715 : (Jvm.Cond.privateMethod ({ cls := "ModuleEngine$Loader", name := "valueOf", desc := "()I" } : Jvm.MethodName)) ∈ lw_tbl := lw_at lw_m6 156 rfl
theorem q1716 : (Jvm.Cond.instanceMethod ({ cls := "ModuleEngine$Loader", name := "valueOf", desc := "()I" } : Jvm.MethodName)) ∈ lw_all := lw_g (lw_at lw_m6 157 rfl) rfl
theorem q1717 : (Jvm.Cond.code ({ cls := "ModuleEngine$Loader", name := "valueOf", desc := "()I" } : Jvm.MethodName) prog_5_method_31_code (2 : Nat) (Option.some Jvm.ClassFile.FieldType.int)) ∈ lw_all := lw_g (lw_at lw_m6 158 rfl) rfl
theorem q1718 : (Jvm.Cond.methodLink "ModuleEngine$Loader" (287 : Nat) ({ cls := "ModuleEngine$Loader", name := "checkElement", desc := "(I)V" } : Jvm.MethodName)) ∈ lw_all := lw_g (lw_at lw_m6 159 rfl) rfl
theorem q1719 : (Jvm.Cond.privateMethod ({ cls := "ModuleEngine$Loader", name := "checkElement", desc := "(I)V" } : Jvm.MethodName)) ∈ lw_tbl := lw_at lw_m6 160 rfl
theorem q1720 : (Jvm.Cond.instanceMethod ({ cls := "ModuleEngine$Loader", name := "checkElement", desc := "(I)V" } : Jvm.MethodName)) ∈ lw_all := lw_g (lw_at lw_m6 161 rfl) rfl
theorem q1721 : (Jvm.Cond.code ({ cls := "ModuleEngine$Loader", name := "checkElement", desc := "(I)V" } : Jvm.MethodName) prog_5_method_34_code (5 : Nat) (Option.none : Option Jvm.ClassFile.FieldType)) ∈ lw_all := lw_g (lw_at lw_m6 162 rfl) rfl
theorem q1722 : (Jvm.Cond.methodLink "ModuleEngine$Loader" (106 : Nat) ({ cls := "ModuleEngine$Loader", name := "checkBody", desc := "(I)V" } : Jvm.MethodName)) ∈ lw_all := lw_g (lw_at lw_m6 163 rfl) rfl
theorem q1723 : (Jvm.Cond.privateMethod ({ cls := "ModuleEngine$Loader", name := "checkBody", desc := "(I)V" } : Jvm.MethodName)) ∈ lw_tbl := lw_at lw_m6 164 rfl
theorem q1724 : (Jvm.Cond.instanceMethod ({ cls := "ModuleEngine$Loader", name := "checkBody", desc := "(I)V" } : Jvm.MethodName)) ∈ lw_all := lw_g (lw_at lw_m6 165 rfl) rfl
theorem q1725 : (Jvm.Cond.code ({ cls := "ModuleEngine$Loader", name := "checkBody", desc := "(I)V" } : Jvm.MethodName) prog_5_method_37_code (4 : Nat) (Option.none : Option Jvm.ClassFile.FieldType)) ∈ lw_all := lw_g (lw_at lw_m6 166 rfl) rfl
theorem q1726 : (Jvm.Cond.methodLink "ModuleEngine$Loader" (299 : Nat) ({ cls := "ModuleEngine$Loader", name := "beginBody", desc := "(I)V" } : Jvm.MethodName)) ∈ lw_all := lw_g (lw_at lw_m6 167 rfl) rfl
theorem q1727 : (Jvm.Cond.privateMethod ({ cls := "ModuleEngine$Loader", name := "beginBody", desc := "(I)V" } : Jvm.MethodName)) ∈ lw_tbl := lw_at lw_m6 168 rfl
theorem q1728 : (Jvm.Cond.instanceMethod ({ cls := "ModuleEngine$Loader", name := "beginBody", desc := "(I)V" } : Jvm.MethodName)) ∈ lw_all := lw_g (lw_at lw_m6 169 rfl) rfl
theorem q1729 : (Jvm.Cond.code ({ cls := "ModuleEngine$Loader", name := "beginBody", desc := "(I)V" } : Jvm.MethodName) prog_5_method_35_code (5 : Nat) (Option.none : Option Jvm.ClassFile.FieldType)) ∈ lw_all := lw_g (lw_at lw_m6 170 rfl) rfl
theorem q1730 : (Jvm.Cond.methodLink "ModuleEngine$Loader" (290 : Nat) ({ cls := "ModuleEngine$Checker", name := "beginBody", desc := "(I)V" } : Jvm.MethodName)) ∈ lw_all := lw_g (lw_at lw_m6 171 rfl) rfl
theorem q1783 : (Jvm.Cond.methodLink "ModuleEngine$Loader" (296 : Nat) ({ cls := "ModuleEngine$Checker", name := "addLocals", desc := "(II)V" } : Jvm.MethodName)) ∈ lw_all := lw_g (lw_at lw_m6 224 rfl) rfl
theorem q1784 : (Jvm.Cond.methodLink "ModuleEngine$Loader" (306 : Nat) ({ cls := "ModuleEngine$Checker", name := "step", desc := "(III)I" } : Jvm.MethodName)) ∈ lw_all := lw_g (lw_at lw_m6 225 rfl) rfl
theorem q2019 : (Jvm.Cond.methodLink "ModuleEngine$Loader" (310 : Nat) ({ cls := "ModuleEngine$Loader", name := "faultOf", desc := "(I)I" } : Jvm.MethodName)) ∈ lw_all := lw_g (lw_at lw_m7 220 rfl) rfl
theorem q2020 : (Jvm.Cond.static ({ cls := "ModuleEngine$Loader", name := "faultOf", desc := "(I)I" } : Jvm.MethodName)) ∈ lw_all := lw_g (lw_at lw_m7 221 rfl) rfl
theorem q2021 : (Jvm.Cond.code ({ cls := "ModuleEngine$Loader", name := "faultOf", desc := "(I)I" } : Jvm.MethodName) prog_5_method_36_code (1 : Nat) (Option.some Jvm.ClassFile.FieldType.int)) ∈ lw_all := lw_g (lw_at lw_m7 222 rfl) rfl
theorem q2022 : (Jvm.Cond.methodLink "ModuleEngine$Loader" (75 : Nat) ({ cls := "ModuleEngine$Loader", name := "write", desc := "()V" } : Jvm.MethodName)) ∈ lw_all := lw_g (lw_at lw_m7 223 rfl) rfl
theorem q2023 : (Jvm.Cond.privateMethod ({ cls := "ModuleEngine$Loader", name := "write", desc := "()V" } : Jvm.MethodName)) ∈ lw_tbl := lw_at lw_m7 224 rfl
theorem q2024 : (Jvm.Cond.instanceMethod ({ cls := "ModuleEngine$Loader", name := "write", desc := "()V" } : Jvm.MethodName)) ∈ lw_all := lw_g (lw_at lw_m7 225 rfl) rfl
theorem q2025 : (Jvm.Cond.code ({ cls := "ModuleEngine$Loader", name := "write", desc := "()V" } : Jvm.MethodName) prog_5_method_38_code (4 : Nat) (Option.none : Option Jvm.ClassFile.FieldType)) ∈ lw_all := lw_g (lw_at lw_m7 226 rfl) rfl
theorem q2026 : (Jvm.Cond.methodLink "ModuleEngine$Loader" (313 : Nat) ({ cls := "ModuleEngine$Flat", name := "begin", desc := "(III)V" } : Jvm.MethodName)) ∈ lw_all := lw_g (lw_at lw_m7 227 rfl) rfl
theorem q2035 : (Jvm.Cond.methodLink "ModuleEngine$Loader" (316 : Nat) ({ cls := "ModuleEngine$Loader", name := "writeOne", desc := "()Z" } : Jvm.MethodName)) ∈ lw_all := lw_g (lw_at lw_m7 236 rfl) rfl
theorem q2036 : (Jvm.Cond.privateMethod ({ cls := "ModuleEngine$Loader", name := "writeOne", desc := "()Z" } : Jvm.MethodName)) ∈ lw_tbl := lw_at lw_m7 237 rfl
theorem q2037 : (Jvm.Cond.instanceMethod ({ cls := "ModuleEngine$Loader", name := "writeOne", desc := "()Z" } : Jvm.MethodName)) ∈ lw_all := lw_g (lw_at lw_m7 238 rfl) rfl
theorem q2038 : (Jvm.Cond.code ({ cls := "ModuleEngine$Loader", name := "writeOne", desc := "()Z" } : Jvm.MethodName) prog_5_method_41_code (2 : Nat) (Option.some Jvm.ClassFile.FieldType.boolean)) ∈ lw_all := lw_g (lw_at lw_m7 239 rfl) rfl
theorem q2039 : (Jvm.Cond.methodLink "ModuleEngine$Loader" (322 : Nat) ({ cls := "ModuleEngine$Flat", name := "stop", desc := "()V" } : Jvm.MethodName)) ∈ lw_all := lw_g (lw_at lw_m8 0 rfl) rfl
theorem q2051 : (Jvm.Cond.methodLink "ModuleEngine$Loader" (324 : Nat) ({ cls := "ModuleEngine$Loader", name := "open", desc := "()V" } : Jvm.MethodName)) ∈ lw_all := lw_g (lw_at lw_m8 12 rfl) rfl
theorem q2052 : (Jvm.Cond.privateMethod ({ cls := "ModuleEngine$Loader", name := "open", desc := "()V" } : Jvm.MethodName)) ∈ lw_tbl := lw_at lw_m8 13 rfl
theorem q2053 : (Jvm.Cond.instanceMethod ({ cls := "ModuleEngine$Loader", name := "open", desc := "()V" } : Jvm.MethodName)) ∈ lw_all := lw_g (lw_at lw_m8 14 rfl) rfl
theorem q2054 : (Jvm.Cond.code ({ cls := "ModuleEngine$Loader", name := "open", desc := "()V" } : Jvm.MethodName) prog_5_method_40_code (2 : Nat) (Option.none : Option Jvm.ClassFile.FieldType)) ∈ lw_all := lw_g (lw_at lw_m8 15 rfl) rfl
theorem q2055 : (Jvm.Cond.methodLink "ModuleEngine$Loader" (319 : Nat) ({ cls := "ModuleEngine$Flat", name := "open", desc := "(III)V" } : Jvm.MethodName)) ∈ lw_all := lw_g (lw_at lw_m8 16 rfl) rfl
theorem q2071 : (Jvm.Cond.methodLink "ModuleEngine$Loader" (326 : Nat) ({ cls := "ModuleEngine$Flat", name := "otherPart", desc := "()V" } : Jvm.MethodName)) ∈ lw_all := lw_g (lw_at lw_m8 32 rfl) rfl
theorem q2075 : (Jvm.Cond.methodLink "ModuleEngine$Loader" (329 : Nat) ({ cls := "ModuleEngine$Flat", name := "close", desc := "()Z" } : Jvm.MethodName)) ∈ lw_all := lw_g (lw_at lw_m8 36 rfl) rfl
theorem q2083 : (Jvm.Cond.methodLink "ModuleEngine$Loader" (332 : Nat) ({ cls := "ModuleEngine$Flat", name := "branch", desc := "(II)V" } : Jvm.MethodName)) ∈ lw_all := lw_g (lw_at lw_m8 44 rfl) rfl
theorem q2095 : (Jvm.Cond.methodLink "ModuleEngine$Loader" (335 : Nat) ({ cls := "ModuleEngine$Flat", name := "table", desc := "(LModuleEngine$Row;I)V" } : Jvm.MethodName)) ∈ lw_all := lw_g (lw_at lw_m8 56 rfl) rfl
theorem q2100 : (Jvm.Cond.methodLink "ModuleEngine$Loader" (339 : Nat) ({ cls := "ModuleEngine$Flat", name := "leave", desc := "()V" } : Jvm.MethodName)) ∈ lw_all := lw_g (lw_at lw_m8 61 rfl) rfl
theorem q2104 : (Jvm.Cond.methodLink "ModuleEngine$Loader" (342 : Nat) ({ cls := "ModuleEngine$Loader", name := "writeCall", desc := "(IIIII)V" } : Jvm.MethodName)) ∈ lw_all := lw_g (lw_at lw_m8 65 rfl) rfl
theorem q2105 : (Jvm.Cond.privateMethod ({ cls := "ModuleEngine$Loader", name := "writeCall", desc := "(IIIII)V" } : Jvm.MethodName)) ∈ lw_tbl := lw_at lw_m8 66 rfl
theorem q2106 : (Jvm.Cond.instanceMethod ({ cls := "ModuleEngine$Loader", name := "writeCall", desc := "(IIIII)V" } : Jvm.MethodName)) ∈ lw_all := lw_g (lw_at lw_m8 67 rfl) rfl
theorem q2107 : (Jvm.Cond.code ({ cls := "ModuleEngine$Loader", name := "writeCall", desc := "(IIIII)V" } : Jvm.MethodName) prog_5_method_42_code (6 : Nat) (Option.none : Option Jvm.ClassFile.FieldType)) ∈ lw_all := lw_g (lw_at lw_m8 68 rfl) rfl
theorem q2108 : (Jvm.Cond.methodLink "ModuleEngine$Loader" (356 : Nat) ({ cls := "ModuleEngine$Loader", name := "shape", desc := "(I)I" } : Jvm.MethodName)) ∈ lw_all := lw_g (lw_at lw_m8 69 rfl) rfl
theorem q2109 : (Jvm.Cond.privateMethod ({ cls := "ModuleEngine$Loader", name := "shape", desc := "(I)I" } : Jvm.MethodName)) ∈ lw_tbl := lw_at lw_m8 70 rfl
theorem q2110 : (Jvm.Cond.instanceMethod ({ cls := "ModuleEngine$Loader", name := "shape", desc := "(I)I" } : Jvm.MethodName)) ∈ lw_all := lw_g (lw_at lw_m8 71 rfl) rfl
theorem q2111 : (Jvm.Cond.code ({ cls := "ModuleEngine$Loader", name := "shape", desc := "(I)I" } : Jvm.MethodName) prog_5_method_39_code (2 : Nat) (Option.some Jvm.ClassFile.FieldType.int)) ∈ lw_all := lw_g (lw_at lw_m8 72 rfl) rfl
theorem q2112 : (Jvm.Cond.methodLink "ModuleEngine$Loader" (346 : Nat) ({ cls := "ModuleEngine$Flat", name := "write", desc := "(IIIIII)V" } : Jvm.MethodName)) ∈ lw_all := lw_g (lw_at lw_m8 73 rfl) rfl
theorem q2116 : (Jvm.Cond.methodLink "ModuleEngine$Loader" (353 : Nat) ({ cls := "ModuleEngine$Loader", name := "writePlain", desc := "(I)V" } : Jvm.MethodName)) ∈ lw_all := lw_g (lw_at lw_m8 77 rfl) rfl
theorem q2117 : (Jvm.Cond.privateMethod ({ cls := "ModuleEngine$Loader", name := "writePlain", desc := "(I)V" } : Jvm.MethodName)) ∈ lw_tbl := lw_at lw_m8 78 rfl
theorem q2118 : (Jvm.Cond.instanceMethod ({ cls := "ModuleEngine$Loader", name := "writePlain", desc := "(I)V" } : Jvm.MethodName)) ∈ lw_all := lw_g (lw_at lw_m8 79 rfl) rfl
theorem q2119 : (Jvm.Cond.code ({ cls := "ModuleEngine$Loader", name := "writePlain", desc := "(I)V" } : Jvm.MethodName) prog_5_method_43_code (4 : Nat) (Option.none : Option Jvm.ClassFile.FieldType)) ∈ lw_all := lw_g (lw_at lw_m8 80 rfl) rfl
theorem q2120 : (Jvm.Cond.methodLink "ModuleEngine$Loader" (359 : Nat) ({ cls := "ModuleEngine$Flat", name := "in", desc := "(I)I" } : Jvm.MethodName)) ∈ lw_all := lw_g (lw_at lw_m8 81 rfl) rfl
theorem q2128 : (Jvm.Cond.methodLink "ModuleEngine$Loader" (362 : Nat) ({ cls := "ModuleEngine$Flat", name := "out", desc := "(I)I" } : Jvm.MethodName)) ∈ lw_all := lw_g (lw_at lw_m8 89 rfl) rfl
theorem q2133 : (Jvm.Cond.instanceMethod ({ cls := "ModuleEngine$Loader", name := "fault", desc := "()I" } : Jvm.MethodName)) ∈ lw_all := lw_g (lw_at lw_m8 94 rfl) rfl
theorem q2134 : (Jvm.Cond.selects "ModuleEngine$Loader" ({ cls := "ModuleEngine$Loader", name := "fault", desc := "()I" } : Jvm.MethodName) ({ cls := "ModuleEngine$Loader", name := "fault", desc := "()I" } : Jvm.MethodName)) ∈ lw_all := lw_g (lw_at lw_m8 95 rfl) rfl
theorem q2135 : (Jvm.Cond.code ({ cls := "ModuleEngine$Loader", name := "fault", desc := "()I" } : Jvm.MethodName) prog_5_method_2_code (1 : Nat) (Option.some Jvm.ClassFile.FieldType.int)) ∈ lw_all := lw_g (lw_at lw_m8 96 rfl) rfl
theorem q2137 : (Jvm.Cond.instanceMethod ({ cls := "ModuleEngine$Loader", name := "place", desc := "()I" } : Jvm.MethodName)) ∈ lw_all := lw_g (lw_at lw_m8 98 rfl) rfl
theorem q2138 : (Jvm.Cond.selects "ModuleEngine$Loader" ({ cls := "ModuleEngine$Loader", name := "place", desc := "()I" } : Jvm.MethodName) ({ cls := "ModuleEngine$Loader", name := "place", desc := "()I" } : Jvm.MethodName)) ∈ lw_all := lw_g (lw_at lw_m8 99 rfl) rfl
theorem q2139 : (Jvm.Cond.code ({ cls := "ModuleEngine$Loader", name := "place", desc := "()I" } : Jvm.MethodName) prog_5_method_3_code (1 : Nat) (Option.some Jvm.ClassFile.FieldType.int)) ∈ lw_all := lw_g (lw_at lw_m8 100 rfl) rfl
theorem in_X8 : ∀ w ∈ wsX80, w ∈ lw_all := lw_in wsX80 [923, 925, 927, 929, 931, 933, 935, 937, 939] (by decide +kernel) (by decide +kernel)

/-! ModuleEngine$ModuleTypes -/
set_option maxRecDepth 100000
def RX9 : String := "ModuleEngine$ModuleTypes"
def TX9 : u_T := fun k => match k with
  | _ => ("ModuleEngine$ModuleTypes", "module", "LModuleEngine$Module;", false)
def tyX9 : Nat → FieldType := fun k => match k with
  | _ => .object "ModuleEngine$Module"
abbrev wsX90 : List Cond := u_ws RX9 TX9 1
theorem nmX9 : ∀ a, a < 1 → ∀ b, b < 1 → a ≠ b → (TX9 a).2.1 ≠ (TX9 b).2.1 := by decide +kernel
theorem tyX9_ok : ∀ k, k < 1 → parseFieldDescriptor (TX9 k).2.2.1 = some (tyX9 k) := by decide +kernel
abbrev cX9_init : ByteArray := prog_7_method_1_code
def yX9_init : MethodName := ⟨RX9, "<init>", "()V"⟩
abbrev cX9_parameters : ByteArray := prog_7_method_3_code
def yX9_parameters : MethodName := ⟨RX9, "parameters", "(I)I"⟩
abbrev cX9_parameter : ByteArray := prog_7_method_4_code
def yX9_parameter : MethodName := ⟨RX9, "parameter", "(II)I"⟩
abbrev cX9_count : ByteArray := prog_7_method_2_code
def yX9_count : MethodName := ⟨RX9, "count", "()I"⟩
abbrev cX9_results : ByteArray := prog_7_method_5_code
def yX9_results : MethodName := ⟨RX9, "results", "(I)I"⟩
abbrev cX9_result : ByteArray := prog_7_method_6_code
def yX9_result : MethodName := ⟨RX9, "result", "(II)I"⟩
theorem q369 : (Jvm.Cond.initialized "ModuleEngine$ModuleTypes") ∈ lw_all := lw_g (lw_at lw_m1 10 rfl) rfl
theorem q753 : (Jvm.Cond.instantiable "ModuleEngine$ModuleTypes" (1 : Nat)) ∈ lw_all := lw_g (lw_at lw_m2 154 rfl) rfl
theorem q755 : (Jvm.Cond.instanceMethod ({ cls := "ModuleEngine$ModuleTypes", name := "<init>", desc := "()V" } : Jvm.MethodName)) ∈ lw_all := lw_g (lw_at lw_m2 156 rfl) rfl
theorem q756 : (Jvm.Cond.code ({ cls := "ModuleEngine$ModuleTypes", name := "<init>", desc := "()V" } : Jvm.MethodName) prog_7_method_1_code (1 : Nat) (Option.none : Option Jvm.ClassFile.FieldType)) ∈ lw_all := lw_g (lw_at lw_m2 157 rfl) rfl
theorem q757 : (Jvm.Cond.methodLink "ModuleEngine$ModuleTypes" (1 : Nat) ({ cls := "java/lang/Object", name := "<init>", desc := "()V" } : Jvm.MethodName)) ∈ lw_all := lw_g (lw_at lw_m2 158 rfl) rfl
theorem q758 : (Jvm.Cond.fieldLink "ModuleEngine$ModuleTypes" (7 : Nat) "ModuleEngine$ModuleTypes" "module" "LModuleEngine$Module;") ∈ lw_all := lw_g (lw_at lw_m2 159 rfl) rfl
theorem q760 : (Jvm.Cond.lays "ModuleEngine$ModuleTypes" "ModuleEngine$ModuleTypes" "module" "LModuleEngine$Module;") ∈ lw_all := lw_g (lw_at lw_m2 161 rfl) rfl
theorem q761 : (Jvm.Cond.soleField "ModuleEngine$ModuleTypes" "module") ∈ lw_all := lw_g (lw_at lw_m2 162 rfl) rfl
theorem q762 : (Jvm.Cond.superclass "ModuleEngine$ModuleTypes" "java/lang/Object") ∈ lw_all := lw_g (lw_at lw_m2 163 rfl) rfl
theorem q1759 : (Jvm.Cond.castable "ModuleEngine$ModuleTypes" "ModuleEngine$Types") ∈ lw_tbl := lw_at lw_m6 200 rfl
theorem q1760 : (Jvm.Cond.selects "ModuleEngine$ModuleTypes" ({ cls := "ModuleEngine$Types", name := "parameters", desc := "(I)I" } : Jvm.MethodName) ({ cls := "ModuleEngine$ModuleTypes", name := "parameters", desc := "(I)I" } : Jvm.MethodName)) ∈ lw_all := lw_g (lw_at lw_m6 201 rfl) rfl
theorem q1761 : (Jvm.Cond.unhidden "ModuleEngine$ModuleTypes" "parameters" "(I)I") ∈ lw_tbl := lw_at lw_m6 202 rfl
theorem q1762 : (Jvm.Cond.instanceMethod ({ cls := "ModuleEngine$ModuleTypes", name := "parameters", desc := "(I)I" } : Jvm.MethodName)) ∈ lw_all := lw_g (lw_at lw_m6 203 rfl) rfl
theorem q1763 : (Jvm.Cond.publicMethod ({ cls := "ModuleEngine$ModuleTypes", name := "parameters", desc := "(I)I" } : Jvm.MethodName)) ∈ lw_tbl := lw_at lw_m6 204 rfl
theorem q1764 : (Jvm.Cond.code ({ cls := "ModuleEngine$ModuleTypes", name := "parameters", desc := "(I)I" } : Jvm.MethodName) prog_7_method_3_code (2 : Nat) (Option.some Jvm.ClassFile.FieldType.int)) ∈ lw_all := lw_g (lw_at lw_m6 205 rfl) rfl
theorem q1765 : (Jvm.Cond.methodLink "ModuleEngine$ModuleTypes" (19 : Nat) ({ cls := "ModuleEngine$Module", name := "parameters", desc := "(I)I" } : Jvm.MethodName)) ∈ lw_all := lw_g (lw_at lw_m6 206 rfl) rfl
theorem q1770 : (Jvm.Cond.selects "ModuleEngine$ModuleTypes" ({ cls := "ModuleEngine$Types", name := "parameter", desc := "(II)I" } : Jvm.MethodName) ({ cls := "ModuleEngine$ModuleTypes", name := "parameter", desc := "(II)I" } : Jvm.MethodName)) ∈ lw_all := lw_g (lw_at lw_m6 211 rfl) rfl
theorem q1771 : (Jvm.Cond.unhidden "ModuleEngine$ModuleTypes" "parameter" "(II)I") ∈ lw_tbl := lw_at lw_m6 212 rfl
theorem q1772 : (Jvm.Cond.instanceMethod ({ cls := "ModuleEngine$ModuleTypes", name := "parameter", desc := "(II)I" } : Jvm.MethodName)) ∈ lw_all := lw_g (lw_at lw_m6 213 rfl) rfl
theorem q1773 : (Jvm.Cond.publicMethod ({ cls := "ModuleEngine$ModuleTypes", name := "parameter", desc := "(II)I" } : Jvm.MethodName)) ∈ lw_tbl := lw_at lw_m6 214 rfl
theorem q1774 : (Jvm.Cond.code ({ cls := "ModuleEngine$ModuleTypes", name := "parameter", desc := "(II)I" } : Jvm.MethodName) prog_7_method_4_code (3 : Nat) (Option.some Jvm.ClassFile.FieldType.int)) ∈ lw_all := lw_g (lw_at lw_m6 215 rfl) rfl
theorem q1775 : (Jvm.Cond.methodLink "ModuleEngine$ModuleTypes" (23 : Nat) ({ cls := "ModuleEngine$Module", name := "parameter", desc := "(II)I" } : Jvm.MethodName)) ∈ lw_all := lw_g (lw_at lw_m6 216 rfl) rfl
theorem q1829 : (Jvm.Cond.selects "ModuleEngine$ModuleTypes" ({ cls := "ModuleEngine$Types", name := "count", desc := "()I" } : Jvm.MethodName) ({ cls := "ModuleEngine$ModuleTypes", name := "count", desc := "()I" } : Jvm.MethodName)) ∈ lw_all := lw_g (lw_at lw_m7 30 rfl) rfl
theorem q1830 : (Jvm.Cond.unhidden "ModuleEngine$ModuleTypes" "count" "()I") ∈ lw_tbl := lw_at lw_m7 31 rfl
theorem q1831 : (Jvm.Cond.instanceMethod ({ cls := "ModuleEngine$ModuleTypes", name := "count", desc := "()I" } : Jvm.MethodName)) ∈ lw_all := lw_g (lw_at lw_m7 32 rfl) rfl
theorem q1832 : (Jvm.Cond.publicMethod ({ cls := "ModuleEngine$ModuleTypes", name := "count", desc := "()I" } : Jvm.MethodName)) ∈ lw_tbl := lw_at lw_m7 33 rfl
theorem q1833 : (Jvm.Cond.code ({ cls := "ModuleEngine$ModuleTypes", name := "count", desc := "()I" } : Jvm.MethodName) prog_7_method_2_code (1 : Nat) (Option.some Jvm.ClassFile.FieldType.int)) ∈ lw_all := lw_g (lw_at lw_m7 34 rfl) rfl
theorem q1834 : (Jvm.Cond.methodLink "ModuleEngine$ModuleTypes" (13 : Nat) ({ cls := "ModuleEngine$Module", name := "typeCount", desc := "()I" } : Jvm.MethodName)) ∈ lw_all := lw_g (lw_at lw_m7 35 rfl) rfl
theorem q1879 : (Jvm.Cond.selects "ModuleEngine$ModuleTypes" ({ cls := "ModuleEngine$Types", name := "results", desc := "(I)I" } : Jvm.MethodName) ({ cls := "ModuleEngine$ModuleTypes", name := "results", desc := "(I)I" } : Jvm.MethodName)) ∈ lw_all := lw_g (lw_at lw_m7 80 rfl) rfl
theorem q1880 : (Jvm.Cond.unhidden "ModuleEngine$ModuleTypes" "results" "(I)I") ∈ lw_tbl := lw_at lw_m7 81 rfl
theorem q1881 : (Jvm.Cond.instanceMethod ({ cls := "ModuleEngine$ModuleTypes", name := "results", desc := "(I)I" } : Jvm.MethodName)) ∈ lw_all := lw_g (lw_at lw_m7 82 rfl) rfl
theorem q1882 : (Jvm.Cond.publicMethod ({ cls := "ModuleEngine$ModuleTypes", name := "results", desc := "(I)I" } : Jvm.MethodName)) ∈ lw_tbl := lw_at lw_m7 83 rfl
theorem q1883 : (Jvm.Cond.code ({ cls := "ModuleEngine$ModuleTypes", name := "results", desc := "(I)I" } : Jvm.MethodName) prog_7_method_5_code (2 : Nat) (Option.some Jvm.ClassFile.FieldType.int)) ∈ lw_all := lw_g (lw_at lw_m7 84 rfl) rfl
theorem q1884 : (Jvm.Cond.methodLink "ModuleEngine$ModuleTypes" (27 : Nat) ({ cls := "ModuleEngine$Module", name := "results", desc := "(I)I" } : Jvm.MethodName)) ∈ lw_all := lw_g (lw_at lw_m7 85 rfl) rfl
theorem q1893 : (Jvm.Cond.selects "ModuleEngine$ModuleTypes" ({ cls := "ModuleEngine$Types", name := "result", desc := "(II)I" } : Jvm.MethodName) ({ cls := "ModuleEngine$ModuleTypes", name := "result", desc := "(II)I" } : Jvm.MethodName)) ∈ lw_all := lw_g (lw_at lw_m7 94 rfl) rfl
theorem q1894 : (Jvm.Cond.unhidden "ModuleEngine$ModuleTypes" "result" "(II)I") ∈ lw_tbl := lw_at lw_m7 95 rfl
theorem q1895 : (Jvm.Cond.instanceMethod ({ cls := "ModuleEngine$ModuleTypes", name := "result", desc := "(II)I" } : Jvm.MethodName)) ∈ lw_all := lw_g (lw_at lw_m7 96 rfl) rfl
theorem q1896 : (Jvm.Cond.publicMethod ({ cls := "ModuleEngine$ModuleTypes", name := "result", desc := "(II)I" } : Jvm.MethodName)) ∈ lw_tbl := lw_at lw_m7 97 rfl
theorem q1897 : (Jvm.Cond.code ({ cls := "ModuleEngine$ModuleTypes", name := "result", desc := "(II)I" } : Jvm.MethodName) prog_7_method_6_code (3 : Nat) (Option.some Jvm.ClassFile.FieldType.int)) ∈ lw_all := lw_g (lw_at lw_m7 98 rfl) rfl
theorem q1898 : (Jvm.Cond.methodLink "ModuleEngine$ModuleTypes" (30 : Nat) ({ cls := "ModuleEngine$Module", name := "result", desc := "(II)I" } : Jvm.MethodName)) ∈ lw_all := lw_g (lw_at lw_m7 99 rfl) rfl
theorem in_X9 : ∀ w ∈ wsX90, w ∈ lw_all := lw_in wsX90 [760] (by decide +kernel) (by decide +kernel)

/-! ModuleEngine$Spaces -/
set_option maxRecDepth 100000
def RX10 : String := "ModuleEngine$Spaces"
def TX10 : u_T := fun k => match k with
  | 0 => ("ModuleEngine$Spaces", "functions", "LModuleEngine$Row;", true)
  | 1 => ("ModuleEngine$Spaces", "declared", "LModuleEngine$Row;", true)
  | 2 => ("ModuleEngine$Spaces", "tables", "LModuleEngine$Row;", true)
  | 3 => ("ModuleEngine$Spaces", "globals", "LModuleEngine$Row;", true)
  | 4 => ("ModuleEngine$Spaces", "changes", "LModuleEngine$Row;", true)
  | 5 => ("ModuleEngine$Spaces", "elements", "LModuleEngine$Row;", true)
  | 6 => ("ModuleEngine$Spaces", "memories", "I", false)
  | _ => ("ModuleEngine$Spaces", "data", "I", false)
def tyX10 : Nat → FieldType := fun k => match k with
  | 0 => .object "ModuleEngine$Row"
  | 1 => .object "ModuleEngine$Row"
  | 2 => .object "ModuleEngine$Row"
  | 3 => .object "ModuleEngine$Row"
  | 4 => .object "ModuleEngine$Row"
  | 5 => .object "ModuleEngine$Row"
  | 6 => .int
  | _ => .int
abbrev wsX100 : List Cond := u_ws RX10 TX10 8
theorem nmX10 : ∀ a, a < 8 → ∀ b, b < 8 → a ≠ b → (TX10 a).2.1 ≠ (TX10 b).2.1 := by decide +kernel
theorem tyX10_ok : ∀ k, k < 8 → parseFieldDescriptor (TX10 k).2.2.1 = some (tyX10 k) := by decide +kernel
abbrev cX10_init : ByteArray := prog_14_method_1_code
def yX10_init : MethodName := ⟨RX10, "<init>", "()V"⟩
theorem q370 : (Jvm.Cond.initialized "ModuleEngine$Spaces") ∈ lw_all := lw_g (lw_at lw_m1 11 rfl) rfl
theorem q764 : (Jvm.Cond.instantiable "ModuleEngine$Spaces" (8 : Nat)) ∈ lw_all := lw_g (lw_at lw_m2 165 rfl) rfl
theorem q766 : (Jvm.Cond.instanceMethod ({ cls := "ModuleEngine$Spaces", name := "<init>", desc := "()V" } : Jvm.MethodName)) ∈ lw_all := lw_g (lw_at lw_m2 167 rfl) rfl
theorem q767 : (Jvm.Cond.code ({ cls := "ModuleEngine$Spaces", name := "<init>", desc := "()V" } : Jvm.MethodName) prog_14_method_1_code (1 : Nat) (Option.none : Option Jvm.ClassFile.FieldType)) ∈ lw_all := lw_g (lw_at lw_m2 168 rfl) rfl
theorem q768 : (Jvm.Cond.methodLink "ModuleEngine$Spaces" (1 : Nat) ({ cls := "java/lang/Object", name := "<init>", desc := "()V" } : Jvm.MethodName)) ∈ lw_all := lw_g (lw_at lw_m2 169 rfl) rfl
theorem q769 : (Jvm.Cond.classLink "ModuleEngine$Spaces" (7 : Nat) "ModuleEngine$Row") ∈ lw_all := lw_g (lw_at lw_m2 170 rfl) rfl
theorem q770 : (Jvm.Cond.methodLinkNest "ModuleEngine$Spaces" (9 : Nat) ({ cls := "ModuleEngine$Row", name := "<init>", desc := "()V" } : Jvm.MethodName) "ModuleEngine") ∈ lw_tbl := lw_at lw_m2 171 rfl
theorem q771 : (Jvm.Cond.fieldLink "ModuleEngine$Spaces" (10 : Nat) "ModuleEngine$Spaces" "functions" "LModuleEngine$Row;") ∈ lw_all := lw_g (lw_at lw_m2 172 rfl) rfl
theorem q774 : (Jvm.Cond.fieldLink "ModuleEngine$Spaces" (16 : Nat) "ModuleEngine$Spaces" "declared" "LModuleEngine$Row;") ∈ lw_all := lw_g (lw_at lw_m2 175 rfl) rfl
theorem q777 : (Jvm.Cond.fieldLink "ModuleEngine$Spaces" (19 : Nat) "ModuleEngine$Spaces" "tables" "LModuleEngine$Row;") ∈ lw_all := lw_g (lw_at lw_m2 178 rfl) rfl
theorem q780 : (Jvm.Cond.fieldLink "ModuleEngine$Spaces" (22 : Nat) "ModuleEngine$Spaces" "globals" "LModuleEngine$Row;") ∈ lw_all := lw_g (lw_at lw_m2 181 rfl) rfl
theorem q783 : (Jvm.Cond.fieldLink "ModuleEngine$Spaces" (25 : Nat) "ModuleEngine$Spaces" "changes" "LModuleEngine$Row;") ∈ lw_all := lw_g (lw_at lw_m2 184 rfl) rfl
theorem q786 : (Jvm.Cond.fieldLink "ModuleEngine$Spaces" (28 : Nat) "ModuleEngine$Spaces" "elements" "LModuleEngine$Row;") ∈ lw_all := lw_g (lw_at lw_m2 187 rfl) rfl
theorem q793 : (Jvm.Cond.laysFinal "ModuleEngine$Spaces" "ModuleEngine$Spaces" "functions" "LModuleEngine$Row;") ∈ lw_all := lw_g (lw_at lw_m2 194 rfl) rfl
theorem q794 : (Jvm.Cond.soleField "ModuleEngine$Spaces" "functions") ∈ lw_all := lw_g (lw_at lw_m2 195 rfl) rfl
theorem q795 : (Jvm.Cond.laysFinal "ModuleEngine$Spaces" "ModuleEngine$Spaces" "declared" "LModuleEngine$Row;") ∈ lw_all := lw_g (lw_at lw_m2 196 rfl) rfl
theorem q796 : (Jvm.Cond.soleField "ModuleEngine$Spaces" "declared") ∈ lw_all := lw_g (lw_at lw_m2 197 rfl) rfl
theorem q797 : (Jvm.Cond.laysFinal "ModuleEngine$Spaces" "ModuleEngine$Spaces" "tables" "LModuleEngine$Row;") ∈ lw_all := lw_g (lw_at lw_m2 198 rfl) rfl
theorem q798 : (Jvm.Cond.soleField "ModuleEngine$Spaces" "tables") ∈ lw_all := lw_g (lw_at lw_m2 199 rfl) rfl
theorem q799 : (Jvm.Cond.laysFinal "ModuleEngine$Spaces" "ModuleEngine$Spaces" "globals" "LModuleEngine$Row;") ∈ lw_all := lw_g (lw_at lw_m2 200 rfl) rfl
theorem q800 : (Jvm.Cond.soleField "ModuleEngine$Spaces" "globals") ∈ lw_all := lw_g (lw_at lw_m2 201 rfl) rfl
theorem q801 : (Jvm.Cond.laysFinal "ModuleEngine$Spaces" "ModuleEngine$Spaces" "changes" "LModuleEngine$Row;") ∈ lw_all := lw_g (lw_at lw_m2 202 rfl) rfl
theorem q802 : (Jvm.Cond.soleField "ModuleEngine$Spaces" "changes") ∈ lw_all := lw_g (lw_at lw_m2 203 rfl) rfl
theorem q803 : (Jvm.Cond.laysFinal "ModuleEngine$Spaces" "ModuleEngine$Spaces" "elements" "LModuleEngine$Row;") ∈ lw_all := lw_g (lw_at lw_m2 204 rfl) rfl
theorem q804 : (Jvm.Cond.soleField "ModuleEngine$Spaces" "elements") ∈ lw_all := lw_g (lw_at lw_m2 205 rfl) rfl
theorem q805 : (Jvm.Cond.lays "ModuleEngine$Spaces" "ModuleEngine$Spaces" "memories" "I") ∈ lw_all := lw_g (lw_at lw_m2 206 rfl) rfl
theorem q806 : (Jvm.Cond.soleField "ModuleEngine$Spaces" "memories") ∈ lw_all := lw_g (lw_at lw_m2 207 rfl) rfl
theorem q807 : (Jvm.Cond.lays "ModuleEngine$Spaces" "ModuleEngine$Spaces" "data" "I") ∈ lw_all := lw_g (lw_at lw_m2 208 rfl) rfl
theorem q808 : (Jvm.Cond.soleField "ModuleEngine$Spaces" "data") ∈ lw_all := lw_g (lw_at lw_m2 209 rfl) rfl
theorem q809 : (Jvm.Cond.superclass "ModuleEngine$Spaces" "java/lang/Object") ∈ lw_all := lw_g (lw_at lw_m2 210 rfl) rfl
theorem in_X10 : ∀ w ∈ wsX100, w ∈ lw_all := lw_in wsX100 [793, 795, 797, 799, 801, 803, 805, 807] (by decide +kernel) (by decide +kernel)

/-! ModuleEngine$Checker -/
set_option maxRecDepth 100000
def RX11 : String := "ModuleEngine$Checker"
def TX11 : u_T := fun k => match k with
  | 0 => ("ModuleEngine$Checker", "types", "LModuleEngine$Types;", true)
  | 1 => ("ModuleEngine$Checker", "spaces", "LModuleEngine$Spaces;", true)
  | 2 => ("ModuleEngine$Checker", "mostBlocks", "I", true)
  | 3 => ("ModuleEngine$Checker", "mostOperands", "I", true)
  | 4 => ("ModuleEngine$Checker", "operands", "LModuleEngine$Row;", true)
  | 5 => ("ModuleEngine$Checker", "begun", "LModuleEngine$Row;", true)
  | 6 => ("ModuleEngine$Checker", "kinds", "LModuleEngine$Row;", true)
  | 7 => ("ModuleEngine$Checker", "heights", "LModuleEngine$Row;", true)
  | 8 => ("ModuleEngine$Checker", "live", "LModuleEngine$Row;", true)
  | 9 => ("ModuleEngine$Checker", "localTypes", "LModuleEngine$Row;", true)
  | 10 => ("ModuleEngine$Checker", "localCounts", "LModuleEngine$Row;", true)
  | 11 => ("ModuleEngine$Checker", "labels", "LModuleEngine$Row;", true)
  | 12 => ("ModuleEngine$Checker", "taken", "LModuleEngine$Row;", true)
  | 13 => ("ModuleEngine$Checker", "is", "Z", false)
  | 14 => ("ModuleEngine$Checker", "ended", "Z", false)
  | 15 => ("ModuleEngine$Checker", "started", "Z", false)
  | _ => ("ModuleEngine$Checker", "fault", "I", false)
def tyX11 : Nat → FieldType := fun k => match k with
  | 0 => .object "ModuleEngine$Types"
  | 1 => .object "ModuleEngine$Spaces"
  | 2 => .int
  | 3 => .int
  | 4 => .object "ModuleEngine$Row"
  | 5 => .object "ModuleEngine$Row"
  | 6 => .object "ModuleEngine$Row"
  | 7 => .object "ModuleEngine$Row"
  | 8 => .object "ModuleEngine$Row"
  | 9 => .object "ModuleEngine$Row"
  | 10 => .object "ModuleEngine$Row"
  | 11 => .object "ModuleEngine$Row"
  | 12 => .object "ModuleEngine$Row"
  | 13 => .boolean
  | 14 => .boolean
  | 15 => .boolean
  | _ => .int
abbrev wsX110 : List Cond := u_ws RX11 TX11 17
set_option maxRecDepth 100000 in
theorem nmX11 : ∀ a, a < 17 → ∀ b, b < 17 → a ≠ b → (TX11 a).2.1 ≠ (TX11 b).2.1 := by decide +kernel
set_option maxRecDepth 100000 in
theorem tyX11_ok : ∀ k, k < 17 → parseFieldDescriptor (TX11 k).2.2.1 = some (tyX11 k) := by decide +kernel
abbrev cX11_init : ByteArray := prog_3_method_1_code
def yX11_init : MethodName := ⟨RX11, "<init>", "(LModuleEngine$Types;LModuleEngine$Spaces;II)V"⟩
abbrev cX11_beginBody : ByteArray := prog_3_method_8_code
def yX11_beginBody : MethodName := ⟨RX11, "beginBody", "(I)V"⟩
abbrev cX11_beginCode : ByteArray := prog_3_method_7_code
def yX11_beginCode : MethodName := ⟨RX11, "beginCode", "(I)V"⟩
abbrev cX11_open : ByteArray := prog_3_method_12_code
def yX11_open : MethodName := ⟨RX11, "open", "(II)V"⟩
abbrev cX11_need : ByteArray := prog_3_method_6_code
def yX11_need : MethodName := ⟨RX11, "need", "(ZI)V"⟩
abbrev cX11_stop : ByteArray := prog_3_method_5_code
def yX11_stop : MethodName := ⟨RX11, "stop", "(I)V"⟩
abbrev cX11_addLocals : ByteArray := prog_3_method_9_code
def yX11_addLocals : MethodName := ⟨RX11, "addLocals", "(II)V"⟩
abbrev cX11_step : ByteArray := prog_3_method_59_code
def yX11_step : MethodName := ⟨RX11, "step", "(III)I"⟩
abbrev cX11_check : ByteArray := prog_3_method_58_code
def yX11_check : MethodName := ⟨RX11, "check", "(III)V"⟩
abbrev cX11_isKnown : ByteArray := prog_3_method_56_code
def yX11_isKnown : MethodName := ⟨RX11, "isKnown", "(I)Z"⟩
abbrev cX11_isForm : ByteArray := prog_3_method_57_code
def yX11_isForm : MethodName := ⟨RX11, "isForm", "(II)Z"⟩
abbrev cX11_isValue : ByteArray := prog_3_method_3_code
def yX11_isValue : MethodName := ⟨RX11, "isValue", "(I)Z"⟩
abbrev cX11_isReference : ByteArray := prog_3_method_2_code
def yX11_isReference : MethodName := ⟨RX11, "isReference", "(I)Z"⟩
abbrev cX11_control : ByteArray := prog_3_method_41_code
def yX11_control : MethodName := ⟨RX11, "control", "(III)Z"⟩
abbrev cX11_die : ByteArray := prog_3_method_20_code
def yX11_die : MethodName := ⟨RX11, "die", "()V"⟩
abbrev cX11_inner : ByteArray := prog_3_method_13_code
def yX11_inner : MethodName := ⟨RX11, "inner", "()I"⟩
abbrev cX11_blockBegins : ByteArray := prog_3_method_32_code
def yX11_blockBegins : MethodName := ⟨RX11, "blockBegins", "(II)V"⟩
abbrev cX11_take : ByteArray := prog_3_method_23_code
def yX11_take : MethodName := ⟨RX11, "take", "(I)I"⟩
abbrev cX11_takeAny : ByteArray := prog_3_method_22_code
def yX11_takeAny : MethodName := ⟨RX11, "takeAny", "()I"⟩
abbrev cX11_takeParameters : ByteArray := prog_3_method_24_code
def yX11_takeParameters : MethodName := ⟨RX11, "takeParameters", "(I)V"⟩
abbrev cX11_parametersOf : ByteArray := prog_3_method_14_code
def yX11_parametersOf : MethodName := ⟨RX11, "parametersOf", "(I)I"⟩
abbrev cX11_giveParameters : ByteArray := prog_3_method_25_code
def yX11_giveParameters : MethodName := ⟨RX11, "giveParameters", "(I)V"⟩
abbrev cX11_give : ByteArray := prog_3_method_21_code
def yX11_give : MethodName := ⟨RX11, "give", "(I)V"⟩
abbrev cX11_otherPart : ByteArray := prog_3_method_34_code
def yX11_otherPart : MethodName := ⟨RX11, "otherPart", "()V"⟩
abbrev cX11_blockIsDone : ByteArray := prog_3_method_33_code
def yX11_blockIsDone : MethodName := ⟨RX11, "blockIsDone", "()V"⟩
abbrev cX11_takeResults : ByteArray := prog_3_method_26_code
def yX11_takeResults : MethodName := ⟨RX11, "takeResults", "(I)V"⟩
abbrev cX11_resultsOf : ByteArray := prog_3_method_15_code
def yX11_resultsOf : MethodName := ⟨RX11, "resultsOf", "(I)I"⟩
abbrev cX11_resultOf : ByteArray := prog_3_method_16_code
def yX11_resultOf : MethodName := ⟨RX11, "resultOf", "(II)I"⟩
abbrev cX11_blockEnds : ByteArray := prog_3_method_36_code
def yX11_blockEnds : MethodName := ⟨RX11, "blockEnds", "()V"⟩
abbrev cX11_isAlike : ByteArray := prog_3_method_35_code
def yX11_isAlike : MethodName := ⟨RX11, "isAlike", "(I)Z"⟩
abbrev cX11_giveResults : ByteArray := prog_3_method_27_code
def yX11_giveResults : MethodName := ⟨RX11, "giveResults", "(I)V"⟩
abbrev cX11_blockOf : ByteArray := prog_3_method_19_code
def yX11_blockOf : MethodName := ⟨RX11, "blockOf", "(I)I"⟩
abbrev cX11_wide : ByteArray := prog_3_method_4_code
def yX11_wide : MethodName := ⟨RX11, "wide", "(I)J"⟩
abbrev cX11_takeLabel : ByteArray := prog_3_method_28_code
def yX11_takeLabel : MethodName := ⟨RX11, "takeLabel", "(I)V"⟩
abbrev cX11_labelSize : ByteArray := prog_3_method_17_code
def yX11_labelSize : MethodName := ⟨RX11, "labelSize", "(I)I"⟩
abbrev cX11_labelType : ByteArray := prog_3_method_18_code
def yX11_labelType : MethodName := ⟨RX11, "labelType", "(II)I"⟩
abbrev cX11_giveLabel : ByteArray := prog_3_method_29_code
def yX11_giveLabel : MethodName := ⟨RX11, "giveLabel", "(I)V"⟩
abbrev cX11_branches : ByteArray := prog_3_method_37_code
def yX11_branches : MethodName := ⟨RX11, "branches", "(I)V"⟩
abbrev cX11_named : ByteArray := prog_3_method_39_code
def yX11_named : MethodName := ⟨RX11, "named", "(LModuleEngine$Row;I)I"⟩
abbrev cX11_calls : ByteArray := prog_3_method_40_code
def yX11_calls : MethodName := ⟨RX11, "calls", "(I)V"⟩
abbrev cX11_typeOf : ByteArray := prog_3_method_38_code
def yX11_typeOf : MethodName := ⟨RX11, "typeOf", "(I)I"⟩
abbrev cX11_plain : ByteArray := prog_3_method_44_code
def yX11_plain : MethodName := ⟨RX11, "plain", "(II)Z"⟩
abbrev cX11_chosen : ByteArray := prog_3_method_42_code
def yX11_chosen : MethodName := ⟨RX11, "chosen", "()V"⟩
abbrev cX11_join : ByteArray := prog_3_method_31_code
def yX11_join : MethodName := ⟨RX11, "join", "(II)V"⟩
abbrev cX11_turn : ByteArray := prog_3_method_30_code
def yX11_turn : MethodName := ⟨RX11, "turn", "(II)V"⟩
abbrev cX11_variable : ByteArray := prog_3_method_43_code
def yX11_variable : MethodName := ⟨RX11, "variable", "(II)V"⟩
abbrev cX11_localType : ByteArray := prog_3_method_11_code
def yX11_localType : MethodName := ⟨RX11, "localType", "(I)I"⟩
abbrev cX11_rest : ByteArray := prog_3_method_55_code
def yX11_rest : MethodName := ⟨RX11, "rest", "(III)V"⟩
abbrev cX11_moves : ByteArray := prog_3_method_48_code
def yX11_moves : MethodName := ⟨RX11, "moves", "(II)V"⟩
abbrev cX11_needMemory : ByteArray := prog_3_method_45_code
def yX11_needMemory : MethodName := ⟨RX11, "needMemory", "()V"⟩
abbrev cX11_moved : ByteArray := prog_3_method_46_code
def yX11_moved : MethodName := ⟨RX11, "moved", "(I)I"⟩
abbrev cX11_movedType : ByteArray := prog_3_method_47_code
def yX11_movedType : MethodName := ⟨RX11, "movedType", "(I)I"⟩
abbrev cX11_numbers : ByteArray := prog_3_method_51_code
def yX11_numbers : MethodName := ⟨RX11, "numbers", "(I)V"⟩
abbrev cX11_from : ByteArray := prog_3_method_49_code
def yX11_from : MethodName := ⟨RX11, "from", "(I)I"⟩
abbrev cX11_to : ByteArray := prog_3_method_50_code
def yX11_to : MethodName := ⟨RX11, "to", "(I)I"⟩
abbrev cX11_references : ByteArray := prog_3_method_52_code
def yX11_references : MethodName := ⟨RX11, "references", "(II)V"⟩
abbrev cX11_stretches : ByteArray := prog_3_method_54_code
def yX11_stretches : MethodName := ⟨RX11, "stretches", "(III)V"⟩
abbrev cX11_three : ByteArray := prog_3_method_53_code
def yX11_three : MethodName := ⟨RX11, "three", "()V"⟩
theorem q371 : (Jvm.Cond.initialized "ModuleEngine$Checker") ∈ lw_all := lw_g (lw_at lw_m1 12 rfl) rfl
theorem q773 : (Jvm.Cond.fieldLinkNest "ModuleEngine$Checker" (209 : Nat) "ModuleEngine$Spaces" "functions" "LModuleEngine$Row;" "ModuleEngine") ∈ lw_tbl := lw_at lw_m2 174 rfl
theorem q776 : (Jvm.Cond.fieldLinkNest "ModuleEngine$Checker" (263 : Nat) "ModuleEngine$Spaces" "declared" "LModuleEngine$Row;" "ModuleEngine") ∈ lw_tbl := lw_at lw_m2 177 rfl
theorem q779 : (Jvm.Cond.fieldLinkNest "ModuleEngine$Checker" (224 : Nat) "ModuleEngine$Spaces" "tables" "LModuleEngine$Row;" "ModuleEngine") ∈ lw_tbl := lw_at lw_m2 180 rfl
theorem q782 : (Jvm.Cond.fieldLinkNest "ModuleEngine$Checker" (230 : Nat) "ModuleEngine$Spaces" "globals" "LModuleEngine$Row;" "ModuleEngine") ∈ lw_tbl := lw_at lw_m2 183 rfl
theorem q785 : (Jvm.Cond.fieldLinkNest "ModuleEngine$Checker" (233 : Nat) "ModuleEngine$Spaces" "changes" "LModuleEngine$Row;" "ModuleEngine") ∈ lw_tbl := lw_at lw_m2 186 rfl
theorem q788 : (Jvm.Cond.fieldLinkNest "ModuleEngine$Checker" (272 : Nat) "ModuleEngine$Spaces" "elements" "LModuleEngine$Row;" "ModuleEngine") ∈ lw_tbl := lw_at lw_m2 189 rfl
theorem q790 : (Jvm.Cond.fieldLinkNest "ModuleEngine$Checker" (245 : Nat) "ModuleEngine$Spaces" "memories" "I" "ModuleEngine") ∈ lw_tbl := lw_at lw_m2 191 rfl
theorem q792 : (Jvm.Cond.fieldLinkNest "ModuleEngine$Checker" (266 : Nat) "ModuleEngine$Spaces" "data" "I" "ModuleEngine") ∈ lw_tbl := lw_at lw_m2 193 rfl
theorem q811 : (Jvm.Cond.instantiable "ModuleEngine$Checker" (17 : Nat)) ∈ lw_all := lw_g (lw_at lw_m2 212 rfl) rfl
theorem q813 : (Jvm.Cond.instanceMethod ({ cls := "ModuleEngine$Checker", name := "<init>", desc := "(LModuleEngine$Types;LModuleEngine$Spaces;II)V" } : Jvm.MethodName)) ∈ lw_all := lw_g (lw_at lw_m2 214 rfl) rfl
theorem q814 : (Jvm.Cond.code ({ cls := "ModuleEngine$Checker", name := "<init>", desc := "(LModuleEngine$Types;LModuleEngine$Spaces;II)V" } : Jvm.MethodName) prog_3_method_1_code (5 : Nat) (Option.none : Option Jvm.ClassFile.FieldType)) ∈ lw_all := lw_g (lw_at lw_m2 215 rfl) rfl
theorem q815 : (Jvm.Cond.methodLink "ModuleEngine$Checker" (1 : Nat) ({ cls := "java/lang/Object", name := "<init>", desc := "()V" } : Jvm.MethodName)) ∈ lw_all := lw_g (lw_at lw_m2 216 rfl) rfl
theorem q816 : (Jvm.Cond.classLink "ModuleEngine$Checker" (7 : Nat) "ModuleEngine$Row") ∈ lw_all := lw_g (lw_at lw_m2 217 rfl) rfl
theorem q817 : (Jvm.Cond.methodLinkNest "ModuleEngine$Checker" (9 : Nat) ({ cls := "ModuleEngine$Row", name := "<init>", desc := "()V" } : Jvm.MethodName) "ModuleEngine") ∈ lw_tbl := lw_at lw_m2 218 rfl
theorem q818 : (Jvm.Cond.fieldLink "ModuleEngine$Checker" (40 : Nat) "ModuleEngine$Checker" "types" "LModuleEngine$Types;") ∈ lw_all := lw_g (lw_at lw_m2 219 rfl) rfl
theorem q819 : (Jvm.Cond.fieldLink "ModuleEngine$Checker" (44 : Nat) "ModuleEngine$Checker" "spaces" "LModuleEngine$Spaces;") ∈ lw_all := lw_g (lw_at lw_m2 220 rfl) rfl
theorem q820 : (Jvm.Cond.fieldLink "ModuleEngine$Checker" (48 : Nat) "ModuleEngine$Checker" "mostBlocks" "I") ∈ lw_all := lw_g (lw_at lw_m2 221 rfl) rfl
theorem q821 : (Jvm.Cond.fieldLink "ModuleEngine$Checker" (52 : Nat) "ModuleEngine$Checker" "mostOperands" "I") ∈ lw_all := lw_g (lw_at lw_m2 222 rfl) rfl
theorem q822 : (Jvm.Cond.fieldLink "ModuleEngine$Checker" (10 : Nat) "ModuleEngine$Checker" "operands" "LModuleEngine$Row;") ∈ lw_all := lw_g (lw_at lw_m2 223 rfl) rfl
theorem q823 : (Jvm.Cond.fieldLink "ModuleEngine$Checker" (16 : Nat) "ModuleEngine$Checker" "begun" "LModuleEngine$Row;") ∈ lw_all := lw_g (lw_at lw_m2 224 rfl) rfl
theorem q824 : (Jvm.Cond.fieldLink "ModuleEngine$Checker" (19 : Nat) "ModuleEngine$Checker" "kinds" "LModuleEngine$Row;") ∈ lw_all := lw_g (lw_at lw_m2 225 rfl) rfl
theorem q825 : (Jvm.Cond.fieldLink "ModuleEngine$Checker" (22 : Nat) "ModuleEngine$Checker" "heights" "LModuleEngine$Row;") ∈ lw_all := lw_g (lw_at lw_m2 226 rfl) rfl
theorem q826 : (Jvm.Cond.fieldLink "ModuleEngine$Checker" (25 : Nat) "ModuleEngine$Checker" "live" "LModuleEngine$Row;") ∈ lw_all := lw_g (lw_at lw_m2 227 rfl) rfl
theorem q827 : (Jvm.Cond.fieldLink "ModuleEngine$Checker" (28 : Nat) "ModuleEngine$Checker" "localTypes" "LModuleEngine$Row;") ∈ lw_all := lw_g (lw_at lw_m2 228 rfl) rfl
theorem q828 : (Jvm.Cond.fieldLink "ModuleEngine$Checker" (31 : Nat) "ModuleEngine$Checker" "localCounts" "LModuleEngine$Row;") ∈ lw_all := lw_g (lw_at lw_m2 229 rfl) rfl
theorem q829 : (Jvm.Cond.fieldLink "ModuleEngine$Checker" (34 : Nat) "ModuleEngine$Checker" "labels" "LModuleEngine$Row;") ∈ lw_all := lw_g (lw_at lw_m2 230 rfl) rfl
theorem q831 : (Jvm.Cond.fieldLink "ModuleEngine$Checker" (37 : Nat) "ModuleEngine$Checker" "taken" "LModuleEngine$Row;") ∈ lw_all := lw_g (lw_at lw_m2 232 rfl) rfl
theorem q832 : (Jvm.Cond.fieldLink "ModuleEngine$Checker" (71 : Nat) "ModuleEngine$Checker" "is" "Z") ∈ lw_all := lw_g (lw_at lw_m2 233 rfl) rfl
theorem q833 : (Jvm.Cond.fieldLink "ModuleEngine$Checker" (75 : Nat) "ModuleEngine$Checker" "ended" "Z") ∈ lw_all := lw_g (lw_at lw_m2 234 rfl) rfl
theorem q834 : (Jvm.Cond.fieldLink "ModuleEngine$Checker" (78 : Nat) "ModuleEngine$Checker" "started" "Z") ∈ lw_all := lw_g (lw_at lw_m2 235 rfl) rfl
theorem q835 : (Jvm.Cond.fieldLink "ModuleEngine$Checker" (61 : Nat) "ModuleEngine$Checker" "fault" "I") ∈ lw_all := lw_g (lw_at lw_m2 236 rfl) rfl
theorem q836 : (Jvm.Cond.laysFinal "ModuleEngine$Checker" "ModuleEngine$Checker" "types" "LModuleEngine$Types;") ∈ lw_all := lw_g (lw_at lw_m2 237 rfl) rfl
theorem q837 : (Jvm.Cond.soleField "ModuleEngine$Checker" "types") ∈ lw_all := lw_g (lw_at lw_m2 238 rfl) rfl
theorem q838 : (Jvm.Cond.laysFinal "ModuleEngine$Checker" "ModuleEngine$Checker" "spaces" "LModuleEngine$Spaces;") ∈ lw_all := lw_g (lw_at lw_m2 239 rfl) rfl
theorem q839 : (Jvm.Cond.soleField "ModuleEngine$Checker" "spaces") ∈ lw_all := lw_g (lw_at lw_m3 0 rfl) rfl
theorem q840 : (Jvm.Cond.laysFinal "ModuleEngine$Checker" "ModuleEngine$Checker" "mostBlocks" "I") ∈ lw_all := lw_g (lw_at lw_m3 1 rfl) rfl
theorem q841 : (Jvm.Cond.soleField "ModuleEngine$Checker" "mostBlocks") ∈ lw_all := lw_g (lw_at lw_m3 2 rfl) rfl
theorem q842 : (Jvm.Cond.laysFinal "ModuleEngine$Checker" "ModuleEngine$Checker" "mostOperands" "I") ∈ lw_all := lw_g (lw_at lw_m3 3 rfl) rfl
theorem q843 : (Jvm.Cond.soleField "ModuleEngine$Checker" "mostOperands") ∈ lw_all := lw_g (lw_at lw_m3 4 rfl) rfl
theorem q844 : (Jvm.Cond.laysFinal "ModuleEngine$Checker" "ModuleEngine$Checker" "operands" "LModuleEngine$Row;") ∈ lw_all := lw_g (lw_at lw_m3 5 rfl) rfl
theorem q845 : (Jvm.Cond.soleField "ModuleEngine$Checker" "operands") ∈ lw_all := lw_g (lw_at lw_m3 6 rfl) rfl
theorem q846 : (Jvm.Cond.laysFinal "ModuleEngine$Checker" "ModuleEngine$Checker" "begun" "LModuleEngine$Row;") ∈ lw_all := lw_g (lw_at lw_m3 7 rfl) rfl
theorem q847 : (Jvm.Cond.soleField "ModuleEngine$Checker" "begun") ∈ lw_all := lw_g (lw_at lw_m3 8 rfl) rfl
theorem q848 : (Jvm.Cond.laysFinal "ModuleEngine$Checker" "ModuleEngine$Checker" "kinds" "LModuleEngine$Row;") ∈ lw_all := lw_g (lw_at lw_m3 9 rfl) rfl
theorem q849 : (Jvm.Cond.soleField "ModuleEngine$Checker" "kinds") ∈ lw_all := lw_g (lw_at lw_m3 10 rfl) rfl
theorem q850 : (Jvm.Cond.laysFinal "ModuleEngine$Checker" "ModuleEngine$Checker" "heights" "LModuleEngine$Row;") ∈ lw_all := lw_g (lw_at lw_m3 11 rfl) rfl
theorem q851 : (Jvm.Cond.soleField "ModuleEngine$Checker" "heights") ∈ lw_all := lw_g (lw_at lw_m3 12 rfl) rfl
theorem q852 : (Jvm.Cond.laysFinal "ModuleEngine$Checker" "ModuleEngine$Checker" "live" "LModuleEngine$Row;") ∈ lw_all := lw_g (lw_at lw_m3 13 rfl) rfl
theorem q853 : (Jvm.Cond.soleField "ModuleEngine$Checker" "live") ∈ lw_all := lw_g (lw_at lw_m3 14 rfl) rfl
theorem q854 : (Jvm.Cond.laysFinal "ModuleEngine$Checker" "ModuleEngine$Checker" "localTypes" "LModuleEngine$Row;") ∈ lw_all := lw_g (lw_at lw_m3 15 rfl) rfl
theorem q855 : (Jvm.Cond.soleField "ModuleEngine$Checker" "localTypes") ∈ lw_all := lw_g (lw_at lw_m3 16 rfl) rfl
theorem q856 : (Jvm.Cond.laysFinal "ModuleEngine$Checker" "ModuleEngine$Checker" "localCounts" "LModuleEngine$Row;") ∈ lw_all := lw_g (lw_at lw_m3 17 rfl) rfl
theorem q857 : (Jvm.Cond.soleField "ModuleEngine$Checker" "localCounts") ∈ lw_all := lw_g (lw_at lw_m3 18 rfl) rfl
theorem q858 : (Jvm.Cond.laysFinal "ModuleEngine$Checker" "ModuleEngine$Checker" "labels" "LModuleEngine$Row;") ∈ lw_all := lw_g (lw_at lw_m3 19 rfl) rfl
theorem q859 : (Jvm.Cond.soleField "ModuleEngine$Checker" "labels") ∈ lw_all := lw_g (lw_at lw_m3 20 rfl) rfl
theorem q860 : (Jvm.Cond.laysFinal "ModuleEngine$Checker" "ModuleEngine$Checker" "taken" "LModuleEngine$Row;") ∈ lw_all := lw_g (lw_at lw_m3 21 rfl) rfl
theorem q861 : (Jvm.Cond.soleField "ModuleEngine$Checker" "taken") ∈ lw_all := lw_g (lw_at lw_m3 22 rfl) rfl
theorem q862 : (Jvm.Cond.lays "ModuleEngine$Checker" "ModuleEngine$Checker" "is" "Z") ∈ lw_all := lw_g (lw_at lw_m3 23 rfl) rfl
theorem q863 : (Jvm.Cond.soleField "ModuleEngine$Checker" "is") ∈ lw_all := lw_g (lw_at lw_m3 24 rfl) rfl
theorem q864 : (Jvm.Cond.lays "ModuleEngine$Checker" "ModuleEngine$Checker" "ended" "Z") ∈ lw_all := lw_g (lw_at lw_m3 25 rfl) rfl
theorem q865 : (Jvm.Cond.soleField "ModuleEngine$Checker" "ended") ∈ lw_all := lw_g (lw_at lw_m3 26 rfl) rfl
theorem q866 : (Jvm.Cond.lays "ModuleEngine$Checker" "ModuleEngine$Checker" "started" "Z") ∈ lw_all := lw_g (lw_at lw_m3 27 rfl) rfl
theorem q867 : (Jvm.Cond.soleField "ModuleEngine$Checker" "started") ∈ lw_all := lw_g (lw_at lw_m3 28 rfl) rfl
theorem q868 : (Jvm.Cond.lays "ModuleEngine$Checker" "ModuleEngine$Checker" "fault" "I") ∈ lw_all := lw_g (lw_at lw_m3 29 rfl) rfl
theorem q869 : (Jvm.Cond.soleField "ModuleEngine$Checker" "fault") ∈ lw_all := lw_g (lw_at lw_m3 30 rfl) rfl
theorem q870 : (Jvm.Cond.superclass "ModuleEngine$Checker" "java/lang/Object") ∈ lw_all := lw_g (lw_at lw_m3 31 rfl) rfl
theorem q1731 : (Jvm.Cond.instanceMethod ({ cls := "ModuleEngine$Checker", name := "beginBody", desc := "(I)V" } : Jvm.MethodName)) ∈ lw_all := lw_g (lw_at lw_m6 172 rfl) rfl
theorem q1732 : (Jvm.Cond.selects "ModuleEngine$Checker" ({ cls := "ModuleEngine$Checker", name := "beginBody", desc := "(I)V" } : Jvm.MethodName) ({ cls := "ModuleEngine$Checker", name := "beginBody", desc := "(I)V" } : Jvm.MethodName)) ∈ lw_all := lw_g (lw_at lw_m6 173 rfl) rfl
theorem q1733 : (Jvm.Cond.code ({ cls := "ModuleEngine$Checker", name := "beginBody", desc := "(I)V" } : Jvm.MethodName) prog_3_method_8_code (3 : Nat) (Option.none : Option Jvm.ClassFile.FieldType)) ∈ lw_all := lw_g (lw_at lw_m6 174 rfl) rfl
theorem q1734 : (Jvm.Cond.methodLink "ModuleEngine$Checker" (88 : Nat) ({ cls := "ModuleEngine$Checker", name := "beginCode", desc := "(I)V" } : Jvm.MethodName)) ∈ lw_all := lw_g (lw_at lw_m6 175 rfl) rfl
theorem q1735 : (Jvm.Cond.privateMethod ({ cls := "ModuleEngine$Checker", name := "beginCode", desc := "(I)V" } : Jvm.MethodName)) ∈ lw_tbl := lw_at lw_m6 176 rfl
theorem q1736 : (Jvm.Cond.instanceMethod ({ cls := "ModuleEngine$Checker", name := "beginCode", desc := "(I)V" } : Jvm.MethodName)) ∈ lw_all := lw_g (lw_at lw_m6 177 rfl) rfl
theorem q1737 : (Jvm.Cond.code ({ cls := "ModuleEngine$Checker", name := "beginCode", desc := "(I)V" } : Jvm.MethodName) prog_3_method_7_code (2 : Nat) (Option.none : Option Jvm.ClassFile.FieldType)) ∈ lw_all := lw_g (lw_at lw_m6 178 rfl) rfl
theorem q1738 : (Jvm.Cond.methodLink "ModuleEngine$Checker" (81 : Nat) ({ cls := "ModuleEngine$Row", name := "cut", desc := "(I)V" } : Jvm.MethodName)) ∈ lw_all := lw_g (lw_at lw_m6 179 rfl) rfl
theorem q1739 : (Jvm.Cond.methodLink "ModuleEngine$Checker" (84 : Nat) ({ cls := "ModuleEngine$Checker", name := "open", desc := "(II)V" } : Jvm.MethodName)) ∈ lw_all := lw_g (lw_at lw_m6 180 rfl) rfl
theorem q1740 : (Jvm.Cond.privateMethod ({ cls := "ModuleEngine$Checker", name := "open", desc := "(II)V" } : Jvm.MethodName)) ∈ lw_tbl := lw_at lw_m6 181 rfl
theorem q1741 : (Jvm.Cond.instanceMethod ({ cls := "ModuleEngine$Checker", name := "open", desc := "(II)V" } : Jvm.MethodName)) ∈ lw_all := lw_g (lw_at lw_m6 182 rfl) rfl
theorem q1742 : (Jvm.Cond.code ({ cls := "ModuleEngine$Checker", name := "open", desc := "(II)V" } : Jvm.MethodName) prog_3_method_12_code (3 : Nat) (Option.none : Option Jvm.ClassFile.FieldType)) ∈ lw_all := lw_g (lw_at lw_m6 183 rfl) rfl
theorem q1743 : (Jvm.Cond.methodLink "ModuleEngine$Checker" (107 : Nat) ({ cls := "ModuleEngine$Row", name := "size", desc := "()I" } : Jvm.MethodName)) ∈ lw_all := lw_g (lw_at lw_m6 184 rfl) rfl
theorem q1744 : (Jvm.Cond.methodLink "ModuleEngine$Checker" (118 : Nat) ({ cls := "ModuleEngine$Checker", name := "need", desc := "(ZI)V" } : Jvm.MethodName)) ∈ lw_all := lw_g (lw_at lw_m6 185 rfl) rfl
theorem q1745 : (Jvm.Cond.privateMethod ({ cls := "ModuleEngine$Checker", name := "need", desc := "(ZI)V" } : Jvm.MethodName)) ∈ lw_tbl := lw_at lw_m6 186 rfl
theorem q1746 : (Jvm.Cond.instanceMethod ({ cls := "ModuleEngine$Checker", name := "need", desc := "(ZI)V" } : Jvm.MethodName)) ∈ lw_all := lw_g (lw_at lw_m6 187 rfl) rfl
theorem q1747 : (Jvm.Cond.code ({ cls := "ModuleEngine$Checker", name := "need", desc := "(ZI)V" } : Jvm.MethodName) prog_3_method_6_code (3 : Nat) (Option.none : Option Jvm.ClassFile.FieldType)) ∈ lw_all := lw_g (lw_at lw_m6 188 rfl) rfl
theorem q1748 : (Jvm.Cond.methodLink "ModuleEngine$Checker" (67 : Nat) ({ cls := "ModuleEngine$Checker", name := "stop", desc := "(I)V" } : Jvm.MethodName)) ∈ lw_all := lw_g (lw_at lw_m6 189 rfl) rfl
theorem q1749 : (Jvm.Cond.privateMethod ({ cls := "ModuleEngine$Checker", name := "stop", desc := "(I)V" } : Jvm.MethodName)) ∈ lw_tbl := lw_at lw_m6 190 rfl
theorem q1750 : (Jvm.Cond.instanceMethod ({ cls := "ModuleEngine$Checker", name := "stop", desc := "(I)V" } : Jvm.MethodName)) ∈ lw_all := lw_g (lw_at lw_m6 191 rfl) rfl
theorem q1751 : (Jvm.Cond.code ({ cls := "ModuleEngine$Checker", name := "stop", desc := "(I)V" } : Jvm.MethodName) prog_3_method_5_code (2 : Nat) (Option.none : Option Jvm.ClassFile.FieldType)) ∈ lw_all := lw_g (lw_at lw_m6 192 rfl) rfl
theorem q1752 : (Jvm.Cond.classLink "ModuleEngine$Checker" (64 : Nat) "java/lang/IllegalArgumentException") ∈ lw_all := lw_g (lw_at lw_m6 193 rfl) rfl
theorem q1753 : (Jvm.Cond.methodLink "ModuleEngine$Checker" (66 : Nat) ({ cls := "java/lang/IllegalArgumentException", name := "<init>", desc := "()V" } : Jvm.MethodName)) ∈ lw_all := lw_g (lw_at lw_m6 194 rfl) rfl
theorem q1754 : (Jvm.Cond.methodLink "ModuleEngine$Checker" (104 : Nat) ({ cls := "ModuleEngine$Row", name := "add", desc := "(I)V" } : Jvm.MethodName)) ∈ lw_all := lw_g (lw_at lw_m6 195 rfl) rfl
theorem q1755 : (Jvm.Cond.interfaceEntry "ModuleEngine$Checker" (91 : Nat)) ∈ lw_tbl := lw_at lw_m6 196 rfl
theorem q1756 : (Jvm.Cond.methodLink "ModuleEngine$Checker" (91 : Nat) ({ cls := "ModuleEngine$Types", name := "parameters", desc := "(I)I" } : Jvm.MethodName)) ∈ lw_all := lw_g (lw_at lw_m6 197 rfl) rfl
theorem q1766 : (Jvm.Cond.interfaceEntry "ModuleEngine$Checker" (97 : Nat)) ∈ lw_tbl := lw_at lw_m6 207 rfl
theorem q1767 : (Jvm.Cond.methodLink "ModuleEngine$Checker" (97 : Nat) ({ cls := "ModuleEngine$Types", name := "parameter", desc := "(II)I" } : Jvm.MethodName)) ∈ lw_all := lw_g (lw_at lw_m6 208 rfl) rfl
theorem q1779 : (Jvm.Cond.methodLink "ModuleEngine$Checker" (101 : Nat) ({ cls := "ModuleEngine$Checker", name := "addLocals", desc := "(II)V" } : Jvm.MethodName)) ∈ lw_all := lw_g (lw_at lw_m6 220 rfl) rfl
theorem q1780 : (Jvm.Cond.instanceMethod ({ cls := "ModuleEngine$Checker", name := "addLocals", desc := "(II)V" } : Jvm.MethodName)) ∈ lw_all := lw_g (lw_at lw_m6 221 rfl) rfl
theorem q1781 : (Jvm.Cond.selects "ModuleEngine$Checker" ({ cls := "ModuleEngine$Checker", name := "addLocals", desc := "(II)V" } : Jvm.MethodName) ({ cls := "ModuleEngine$Checker", name := "addLocals", desc := "(II)V" } : Jvm.MethodName)) ∈ lw_all := lw_g (lw_at lw_m6 222 rfl) rfl
theorem q1782 : (Jvm.Cond.code ({ cls := "ModuleEngine$Checker", name := "addLocals", desc := "(II)V" } : Jvm.MethodName) prog_3_method_9_code (3 : Nat) (Option.none : Option Jvm.ClassFile.FieldType)) ∈ lw_all := lw_g (lw_at lw_m6 223 rfl) rfl
theorem q1785 : (Jvm.Cond.instanceMethod ({ cls := "ModuleEngine$Checker", name := "step", desc := "(III)I" } : Jvm.MethodName)) ∈ lw_all := lw_g (lw_at lw_m6 226 rfl) rfl
theorem q1786 : (Jvm.Cond.selects "ModuleEngine$Checker" ({ cls := "ModuleEngine$Checker", name := "step", desc := "(III)I" } : Jvm.MethodName) ({ cls := "ModuleEngine$Checker", name := "step", desc := "(III)I" } : Jvm.MethodName)) ∈ lw_all := lw_g (lw_at lw_m6 227 rfl) rfl
theorem q1787 : (Jvm.Cond.codeWith ({ cls := "ModuleEngine$Checker", name := "step", desc := "(III)I" } : Jvm.MethodName) prog_3_method_59_code (5 : Nat) (Option.some Jvm.ClassFile.FieldType.int) [((10 : Nat), (17 : Nat), (20 : Nat), (64 : Nat))]) ∈ lw_all := lw_g (lw_at lw_m6 228 rfl) rfl
theorem q1788 : (Jvm.Cond.methodLink "ModuleEngine$Checker" (308 : Nat) ({ cls := "ModuleEngine$Checker", name := "check", desc := "(III)V" } : Jvm.MethodName)) ∈ lw_all := lw_g (lw_at lw_m6 229 rfl) rfl
theorem q1789 : (Jvm.Cond.privateMethod ({ cls := "ModuleEngine$Checker", name := "check", desc := "(III)V" } : Jvm.MethodName)) ∈ lw_tbl := lw_at lw_m6 230 rfl
theorem q1790 : (Jvm.Cond.instanceMethod ({ cls := "ModuleEngine$Checker", name := "check", desc := "(III)V" } : Jvm.MethodName)) ∈ lw_all := lw_g (lw_at lw_m6 231 rfl) rfl
theorem q1791 : (Jvm.Cond.code ({ cls := "ModuleEngine$Checker", name := "check", desc := "(III)V" } : Jvm.MethodName) prog_3_method_58_code (4 : Nat) (Option.none : Option Jvm.ClassFile.FieldType)) ∈ lw_all := lw_g (lw_at lw_m6 232 rfl) rfl
theorem q1792 : (Jvm.Cond.methodLink "ModuleEngine$Checker" (291 : Nat) ({ cls := "ModuleEngine$Checker", name := "isKnown", desc := "(I)Z" } : Jvm.MethodName)) ∈ lw_all := lw_g (lw_at lw_m6 233 rfl) rfl
theorem q1793 : (Jvm.Cond.static ({ cls := "ModuleEngine$Checker", name := "isKnown", desc := "(I)Z" } : Jvm.MethodName)) ∈ lw_all := lw_g (lw_at lw_m6 234 rfl) rfl
theorem q1794 : (Jvm.Cond.code ({ cls := "ModuleEngine$Checker", name := "isKnown", desc := "(I)Z" } : Jvm.MethodName) prog_3_method_56_code (1 : Nat) (Option.some Jvm.ClassFile.FieldType.boolean)) ∈ lw_all := lw_g (lw_at lw_m6 235 rfl) rfl
theorem q1795 : (Jvm.Cond.methodLink "ModuleEngine$Checker" (294 : Nat) ({ cls := "ModuleEngine$Checker", name := "isForm", desc := "(II)Z" } : Jvm.MethodName)) ∈ lw_all := lw_g (lw_at lw_m6 236 rfl) rfl
theorem q1796 : (Jvm.Cond.static ({ cls := "ModuleEngine$Checker", name := "isForm", desc := "(II)Z" } : Jvm.MethodName)) ∈ lw_all := lw_g (lw_at lw_m6 237 rfl) rfl
theorem q1797 : (Jvm.Cond.code ({ cls := "ModuleEngine$Checker", name := "isForm", desc := "(II)Z" } : Jvm.MethodName) prog_3_method_57_code (2 : Nat) (Option.some Jvm.ClassFile.FieldType.boolean)) ∈ lw_all := lw_g (lw_at lw_m6 238 rfl) rfl
theorem q1798 : (Jvm.Cond.methodLink "ModuleEngine$Checker" (288 : Nat) ({ cls := "ModuleEngine$Checker", name := "isValue", desc := "(I)Z" } : Jvm.MethodName)) ∈ lw_all := lw_g (lw_at lw_m6 239 rfl) rfl
theorem q1799 : (Jvm.Cond.static ({ cls := "ModuleEngine$Checker", name := "isValue", desc := "(I)Z" } : Jvm.MethodName)) ∈ lw_all := lw_g (lw_at lw_m7 0 rfl) rfl
theorem q1800 : (Jvm.Cond.code ({ cls := "ModuleEngine$Checker", name := "isValue", desc := "(I)Z" } : Jvm.MethodName) prog_3_method_3_code (1 : Nat) (Option.some Jvm.ClassFile.FieldType.boolean)) ∈ lw_all := lw_g (lw_at lw_m7 1 rfl) rfl
theorem q1801 : (Jvm.Cond.methodLink "ModuleEngine$Checker" (55 : Nat) ({ cls := "ModuleEngine$Checker", name := "isReference", desc := "(I)Z" } : Jvm.MethodName)) ∈ lw_all := lw_g (lw_at lw_m7 2 rfl) rfl
theorem q1802 : (Jvm.Cond.static ({ cls := "ModuleEngine$Checker", name := "isReference", desc := "(I)Z" } : Jvm.MethodName)) ∈ lw_all := lw_g (lw_at lw_m7 3 rfl) rfl
theorem q1803 : (Jvm.Cond.code ({ cls := "ModuleEngine$Checker", name := "isReference", desc := "(I)Z" } : Jvm.MethodName) prog_3_method_2_code (1 : Nat) (Option.some Jvm.ClassFile.FieldType.boolean)) ∈ lw_all := lw_g (lw_at lw_m7 4 rfl) rfl
theorem q1804 : (Jvm.Cond.methodLink "ModuleEngine$Checker" (298 : Nat) ({ cls := "ModuleEngine$Checker", name := "control", desc := "(III)Z" } : Jvm.MethodName)) ∈ lw_all := lw_g (lw_at lw_m7 5 rfl) rfl
theorem q1805 : (Jvm.Cond.privateMethod ({ cls := "ModuleEngine$Checker", name := "control", desc := "(III)Z" } : Jvm.MethodName)) ∈ lw_tbl := lw_at lw_m7 6 rfl
theorem q1806 : (Jvm.Cond.instanceMethod ({ cls := "ModuleEngine$Checker", name := "control", desc := "(III)Z" } : Jvm.MethodName)) ∈ lw_all := lw_g (lw_at lw_m7 7 rfl) rfl
theorem q1807 : (Jvm.Cond.code ({ cls := "ModuleEngine$Checker", name := "control", desc := "(III)Z" } : Jvm.MethodName) prog_3_method_41_code (6 : Nat) (Option.some Jvm.ClassFile.FieldType.boolean)) ∈ lw_all := lw_g (lw_at lw_m7 8 rfl) rfl
theorem q1808 : (Jvm.Cond.methodLink "ModuleEngine$Checker" (191 : Nat) ({ cls := "ModuleEngine$Checker", name := "die", desc := "()V" } : Jvm.MethodName)) ∈ lw_all := lw_g (lw_at lw_m7 9 rfl) rfl
theorem q1809 : (Jvm.Cond.privateMethod ({ cls := "ModuleEngine$Checker", name := "die", desc := "()V" } : Jvm.MethodName)) ∈ lw_tbl := lw_at lw_m7 10 rfl
theorem q1810 : (Jvm.Cond.instanceMethod ({ cls := "ModuleEngine$Checker", name := "die", desc := "()V" } : Jvm.MethodName)) ∈ lw_all := lw_g (lw_at lw_m7 11 rfl) rfl
theorem q1811 : (Jvm.Cond.code ({ cls := "ModuleEngine$Checker", name := "die", desc := "()V" } : Jvm.MethodName) prog_3_method_20_code (1 : Nat) (Option.none : Option Jvm.ClassFile.FieldType)) ∈ lw_all := lw_g (lw_at lw_m7 12 rfl) rfl
theorem q1812 : (Jvm.Cond.methodLink "ModuleEngine$Checker" (140 : Nat) ({ cls := "ModuleEngine$Row", name := "last", desc := "()I" } : Jvm.MethodName)) ∈ lw_all := lw_g (lw_at lw_m7 13 rfl) rfl
theorem q1816 : (Jvm.Cond.methodLink "ModuleEngine$Checker" (137 : Nat) ({ cls := "ModuleEngine$Checker", name := "inner", desc := "()I" } : Jvm.MethodName)) ∈ lw_all := lw_g (lw_at lw_m7 17 rfl) rfl
theorem q1817 : (Jvm.Cond.privateMethod ({ cls := "ModuleEngine$Checker", name := "inner", desc := "()I" } : Jvm.MethodName)) ∈ lw_tbl := lw_at lw_m7 18 rfl
theorem q1818 : (Jvm.Cond.instanceMethod ({ cls := "ModuleEngine$Checker", name := "inner", desc := "()I" } : Jvm.MethodName)) ∈ lw_all := lw_g (lw_at lw_m7 19 rfl) rfl
theorem q1819 : (Jvm.Cond.code ({ cls := "ModuleEngine$Checker", name := "inner", desc := "()I" } : Jvm.MethodName) prog_3_method_13_code (1 : Nat) (Option.some Jvm.ClassFile.FieldType.int)) ∈ lw_all := lw_g (lw_at lw_m7 20 rfl) rfl
theorem q1820 : (Jvm.Cond.methodLink "ModuleEngine$Checker" (143 : Nat) ({ cls := "ModuleEngine$Row", name := "set", desc := "(II)V" } : Jvm.MethodName)) ∈ lw_all := lw_g (lw_at lw_m7 21 rfl) rfl
theorem q1821 : (Jvm.Cond.methodLink "ModuleEngine$Checker" (194 : Nat) ({ cls := "ModuleEngine$Checker", name := "blockBegins", desc := "(II)V" } : Jvm.MethodName)) ∈ lw_all := lw_g (lw_at lw_m7 22 rfl) rfl
theorem q1822 : (Jvm.Cond.privateMethod ({ cls := "ModuleEngine$Checker", name := "blockBegins", desc := "(II)V" } : Jvm.MethodName)) ∈ lw_tbl := lw_at lw_m7 23 rfl
theorem q1823 : (Jvm.Cond.instanceMethod ({ cls := "ModuleEngine$Checker", name := "blockBegins", desc := "(II)V" } : Jvm.MethodName)) ∈ lw_all := lw_g (lw_at lw_m7 24 rfl) rfl
theorem q1824 : (Jvm.Cond.code ({ cls := "ModuleEngine$Checker", name := "blockBegins", desc := "(II)V" } : Jvm.MethodName) prog_3_method_32_code (3 : Nat) (Option.none : Option Jvm.ClassFile.FieldType)) ∈ lw_all := lw_g (lw_at lw_m7 25 rfl) rfl
theorem q1825 : (Jvm.Cond.interfaceEntry "ModuleEngine$Checker" (164 : Nat)) ∈ lw_tbl := lw_at lw_m7 26 rfl
theorem q1826 : (Jvm.Cond.methodLink "ModuleEngine$Checker" (164 : Nat) ({ cls := "ModuleEngine$Types", name := "count", desc := "()I" } : Jvm.MethodName)) ∈ lw_all := lw_g (lw_at lw_m7 27 rfl) rfl
theorem q1835 : (Jvm.Cond.methodLink "ModuleEngine$Checker" (149 : Nat) ({ cls := "ModuleEngine$Checker", name := "take", desc := "(I)I" } : Jvm.MethodName)) ∈ lw_all := lw_g (lw_at lw_m7 36 rfl) rfl
theorem q1836 : (Jvm.Cond.privateMethod ({ cls := "ModuleEngine$Checker", name := "take", desc := "(I)I" } : Jvm.MethodName)) ∈ lw_tbl := lw_at lw_m7 37 rfl
theorem q1837 : (Jvm.Cond.instanceMethod ({ cls := "ModuleEngine$Checker", name := "take", desc := "(I)I" } : Jvm.MethodName)) ∈ lw_all := lw_g (lw_at lw_m7 38 rfl) rfl
theorem q1838 : (Jvm.Cond.code ({ cls := "ModuleEngine$Checker", name := "take", desc := "(I)I" } : Jvm.MethodName) prog_3_method_23_code (3 : Nat) (Option.some Jvm.ClassFile.FieldType.int)) ∈ lw_all := lw_g (lw_at lw_m7 39 rfl) rfl
theorem q1839 : (Jvm.Cond.methodLink "ModuleEngine$Checker" (146 : Nat) ({ cls := "ModuleEngine$Checker", name := "takeAny", desc := "()I" } : Jvm.MethodName)) ∈ lw_all := lw_g (lw_at lw_m7 40 rfl) rfl
theorem q1840 : (Jvm.Cond.privateMethod ({ cls := "ModuleEngine$Checker", name := "takeAny", desc := "()I" } : Jvm.MethodName)) ∈ lw_tbl := lw_at lw_m7 41 rfl
theorem q1841 : (Jvm.Cond.instanceMethod ({ cls := "ModuleEngine$Checker", name := "takeAny", desc := "()I" } : Jvm.MethodName)) ∈ lw_all := lw_g (lw_at lw_m7 42 rfl) rfl
theorem q1842 : (Jvm.Cond.code ({ cls := "ModuleEngine$Checker", name := "takeAny", desc := "()I" } : Jvm.MethodName) prog_3_method_22_code (2 : Nat) (Option.some Jvm.ClassFile.FieldType.int)) ∈ lw_all := lw_g (lw_at lw_m7 43 rfl) rfl
theorem q1843 : (Jvm.Cond.methodLink "ModuleEngine$Checker" (167 : Nat) ({ cls := "ModuleEngine$Checker", name := "takeParameters", desc := "(I)V" } : Jvm.MethodName)) ∈ lw_all := lw_g (lw_at lw_m7 44 rfl) rfl
theorem q1844 : (Jvm.Cond.privateMethod ({ cls := "ModuleEngine$Checker", name := "takeParameters", desc := "(I)V" } : Jvm.MethodName)) ∈ lw_tbl := lw_at lw_m7 45 rfl
theorem q1845 : (Jvm.Cond.instanceMethod ({ cls := "ModuleEngine$Checker", name := "takeParameters", desc := "(I)V" } : Jvm.MethodName)) ∈ lw_all := lw_g (lw_at lw_m7 46 rfl) rfl
theorem q1846 : (Jvm.Cond.code ({ cls := "ModuleEngine$Checker", name := "takeParameters", desc := "(I)V" } : Jvm.MethodName) prog_3_method_24_code (3 : Nat) (Option.none : Option Jvm.ClassFile.FieldType)) ∈ lw_all := lw_g (lw_at lw_m7 47 rfl) rfl
theorem q1847 : (Jvm.Cond.methodLink "ModuleEngine$Checker" (128 : Nat) ({ cls := "ModuleEngine$Checker", name := "parametersOf", desc := "(I)I" } : Jvm.MethodName)) ∈ lw_all := lw_g (lw_at lw_m7 48 rfl) rfl
theorem q1848 : (Jvm.Cond.privateMethod ({ cls := "ModuleEngine$Checker", name := "parametersOf", desc := "(I)I" } : Jvm.MethodName)) ∈ lw_tbl := lw_at lw_m7 49 rfl
theorem q1849 : (Jvm.Cond.instanceMethod ({ cls := "ModuleEngine$Checker", name := "parametersOf", desc := "(I)I" } : Jvm.MethodName)) ∈ lw_all := lw_g (lw_at lw_m7 50 rfl) rfl
theorem q1850 : (Jvm.Cond.code ({ cls := "ModuleEngine$Checker", name := "parametersOf", desc := "(I)I" } : Jvm.MethodName) prog_3_method_14_code (2 : Nat) (Option.some Jvm.ClassFile.FieldType.int)) ∈ lw_all := lw_g (lw_at lw_m7 51 rfl) rfl
theorem q1851 : (Jvm.Cond.methodLink "ModuleEngine$Checker" (170 : Nat) ({ cls := "ModuleEngine$Checker", name := "giveParameters", desc := "(I)V" } : Jvm.MethodName)) ∈ lw_all := lw_g (lw_at lw_m7 52 rfl) rfl
theorem q1852 : (Jvm.Cond.privateMethod ({ cls := "ModuleEngine$Checker", name := "giveParameters", desc := "(I)V" } : Jvm.MethodName)) ∈ lw_tbl := lw_at lw_m7 53 rfl
theorem q1853 : (Jvm.Cond.instanceMethod ({ cls := "ModuleEngine$Checker", name := "giveParameters", desc := "(I)V" } : Jvm.MethodName)) ∈ lw_all := lw_g (lw_at lw_m7 54 rfl) rfl
theorem q1854 : (Jvm.Cond.code ({ cls := "ModuleEngine$Checker", name := "giveParameters", desc := "(I)V" } : Jvm.MethodName) prog_3_method_25_code (3 : Nat) (Option.none : Option Jvm.ClassFile.FieldType)) ∈ lw_all := lw_g (lw_at lw_m7 55 rfl) rfl
theorem q1855 : (Jvm.Cond.methodLink "ModuleEngine$Checker" (152 : Nat) ({ cls := "ModuleEngine$Checker", name := "give", desc := "(I)V" } : Jvm.MethodName)) ∈ lw_all := lw_g (lw_at lw_m7 56 rfl) rfl
theorem q1856 : (Jvm.Cond.privateMethod ({ cls := "ModuleEngine$Checker", name := "give", desc := "(I)V" } : Jvm.MethodName)) ∈ lw_tbl := lw_at lw_m7 57 rfl
theorem q1857 : (Jvm.Cond.instanceMethod ({ cls := "ModuleEngine$Checker", name := "give", desc := "(I)V" } : Jvm.MethodName)) ∈ lw_all := lw_g (lw_at lw_m7 58 rfl) rfl
theorem q1858 : (Jvm.Cond.code ({ cls := "ModuleEngine$Checker", name := "give", desc := "(I)V" } : Jvm.MethodName) prog_3_method_21_code (2 : Nat) (Option.none : Option Jvm.ClassFile.FieldType)) ∈ lw_all := lw_g (lw_at lw_m7 59 rfl) rfl
theorem q1859 : (Jvm.Cond.methodLink "ModuleEngine$Checker" (197 : Nat) ({ cls := "ModuleEngine$Checker", name := "otherPart", desc := "()V" } : Jvm.MethodName)) ∈ lw_all := lw_g (lw_at lw_m7 60 rfl) rfl
theorem q1860 : (Jvm.Cond.privateMethod ({ cls := "ModuleEngine$Checker", name := "otherPart", desc := "()V" } : Jvm.MethodName)) ∈ lw_tbl := lw_at lw_m7 61 rfl
theorem q1861 : (Jvm.Cond.instanceMethod ({ cls := "ModuleEngine$Checker", name := "otherPart", desc := "()V" } : Jvm.MethodName)) ∈ lw_all := lw_g (lw_at lw_m7 62 rfl) rfl
theorem q1862 : (Jvm.Cond.code ({ cls := "ModuleEngine$Checker", name := "otherPart", desc := "()V" } : Jvm.MethodName) prog_3_method_34_code (1 : Nat) (Option.none : Option Jvm.ClassFile.FieldType)) ∈ lw_all := lw_g (lw_at lw_m7 63 rfl) rfl
theorem q1863 : (Jvm.Cond.methodLink "ModuleEngine$Checker" (176 : Nat) ({ cls := "ModuleEngine$Checker", name := "blockIsDone", desc := "()V" } : Jvm.MethodName)) ∈ lw_all := lw_g (lw_at lw_m7 64 rfl) rfl
theorem q1864 : (Jvm.Cond.privateMethod ({ cls := "ModuleEngine$Checker", name := "blockIsDone", desc := "()V" } : Jvm.MethodName)) ∈ lw_tbl := lw_at lw_m7 65 rfl
theorem q1865 : (Jvm.Cond.instanceMethod ({ cls := "ModuleEngine$Checker", name := "blockIsDone", desc := "()V" } : Jvm.MethodName)) ∈ lw_all := lw_g (lw_at lw_m7 66 rfl) rfl
theorem q1866 : (Jvm.Cond.code ({ cls := "ModuleEngine$Checker", name := "blockIsDone", desc := "()V" } : Jvm.MethodName) prog_3_method_33_code (1 : Nat) (Option.none : Option Jvm.ClassFile.FieldType)) ∈ lw_all := lw_g (lw_at lw_m7 67 rfl) rfl
theorem q1867 : (Jvm.Cond.methodLink "ModuleEngine$Checker" (173 : Nat) ({ cls := "ModuleEngine$Checker", name := "takeResults", desc := "(I)V" } : Jvm.MethodName)) ∈ lw_all := lw_g (lw_at lw_m7 68 rfl) rfl
theorem q1868 : (Jvm.Cond.privateMethod ({ cls := "ModuleEngine$Checker", name := "takeResults", desc := "(I)V" } : Jvm.MethodName)) ∈ lw_tbl := lw_at lw_m7 69 rfl
theorem q1869 : (Jvm.Cond.instanceMethod ({ cls := "ModuleEngine$Checker", name := "takeResults", desc := "(I)V" } : Jvm.MethodName)) ∈ lw_all := lw_g (lw_at lw_m7 70 rfl) rfl
theorem q1870 : (Jvm.Cond.code ({ cls := "ModuleEngine$Checker", name := "takeResults", desc := "(I)V" } : Jvm.MethodName) prog_3_method_26_code (3 : Nat) (Option.none : Option Jvm.ClassFile.FieldType)) ∈ lw_all := lw_g (lw_at lw_m7 71 rfl) rfl
theorem q1871 : (Jvm.Cond.methodLink "ModuleEngine$Checker" (131 : Nat) ({ cls := "ModuleEngine$Checker", name := "resultsOf", desc := "(I)I" } : Jvm.MethodName)) ∈ lw_all := lw_g (lw_at lw_m7 72 rfl) rfl
theorem q1872 : (Jvm.Cond.privateMethod ({ cls := "ModuleEngine$Checker", name := "resultsOf", desc := "(I)I" } : Jvm.MethodName)) ∈ lw_tbl := lw_at lw_m7 73 rfl
theorem q1873 : (Jvm.Cond.instanceMethod ({ cls := "ModuleEngine$Checker", name := "resultsOf", desc := "(I)I" } : Jvm.MethodName)) ∈ lw_all := lw_g (lw_at lw_m7 74 rfl) rfl
theorem q1874 : (Jvm.Cond.code ({ cls := "ModuleEngine$Checker", name := "resultsOf", desc := "(I)I" } : Jvm.MethodName) prog_3_method_15_code (2 : Nat) (Option.some Jvm.ClassFile.FieldType.int)) ∈ lw_all := lw_g (lw_at lw_m7 75 rfl) rfl
theorem q1875 : (Jvm.Cond.interfaceEntry "ModuleEngine$Checker" (122 : Nat)) ∈ lw_tbl := lw_at lw_m7 76 rfl
theorem q1876 : (Jvm.Cond.methodLink "ModuleEngine$Checker" (122 : Nat) ({ cls := "ModuleEngine$Types", name := "results", desc := "(I)I" } : Jvm.MethodName)) ∈ lw_all := lw_g (lw_at lw_m7 77 rfl) rfl
theorem q1885 : (Jvm.Cond.methodLink "ModuleEngine$Checker" (134 : Nat) ({ cls := "ModuleEngine$Checker", name := "resultOf", desc := "(II)I" } : Jvm.MethodName)) ∈ lw_all := lw_g (lw_at lw_m7 86 rfl) rfl
theorem q1886 : (Jvm.Cond.privateMethod ({ cls := "ModuleEngine$Checker", name := "resultOf", desc := "(II)I" } : Jvm.MethodName)) ∈ lw_tbl := lw_at lw_m7 87 rfl
theorem q1887 : (Jvm.Cond.instanceMethod ({ cls := "ModuleEngine$Checker", name := "resultOf", desc := "(II)I" } : Jvm.MethodName)) ∈ lw_all := lw_g (lw_at lw_m7 88 rfl) rfl
theorem q1888 : (Jvm.Cond.code ({ cls := "ModuleEngine$Checker", name := "resultOf", desc := "(II)I" } : Jvm.MethodName) prog_3_method_16_code (3 : Nat) (Option.some Jvm.ClassFile.FieldType.int)) ∈ lw_all := lw_g (lw_at lw_m7 89 rfl) rfl
theorem q1889 : (Jvm.Cond.interfaceEntry "ModuleEngine$Checker" (125 : Nat)) ∈ lw_tbl := lw_at lw_m7 90 rfl
theorem q1890 : (Jvm.Cond.methodLink "ModuleEngine$Checker" (125 : Nat) ({ cls := "ModuleEngine$Types", name := "result", desc := "(II)I" } : Jvm.MethodName)) ∈ lw_all := lw_g (lw_at lw_m7 91 rfl) rfl
theorem q1902 : (Jvm.Cond.methodLink "ModuleEngine$Checker" (200 : Nat) ({ cls := "ModuleEngine$Checker", name := "blockEnds", desc := "()V" } : Jvm.MethodName)) ∈ lw_all := lw_g (lw_at lw_m7 103 rfl) rfl
theorem q1903 : (Jvm.Cond.privateMethod ({ cls := "ModuleEngine$Checker", name := "blockEnds", desc := "()V" } : Jvm.MethodName)) ∈ lw_tbl := lw_at lw_m7 104 rfl
theorem q1904 : (Jvm.Cond.instanceMethod ({ cls := "ModuleEngine$Checker", name := "blockEnds", desc := "()V" } : Jvm.MethodName)) ∈ lw_all := lw_g (lw_at lw_m7 105 rfl) rfl
theorem q1905 : (Jvm.Cond.code ({ cls := "ModuleEngine$Checker", name := "blockEnds", desc := "()V" } : Jvm.MethodName) prog_3_method_36_code (3 : Nat) (Option.none : Option Jvm.ClassFile.FieldType)) ∈ lw_all := lw_g (lw_at lw_m7 106 rfl) rfl
theorem q1906 : (Jvm.Cond.methodLink "ModuleEngine$Checker" (179 : Nat) ({ cls := "ModuleEngine$Checker", name := "isAlike", desc := "(I)Z" } : Jvm.MethodName)) ∈ lw_all := lw_g (lw_at lw_m7 107 rfl) rfl
theorem q1907 : (Jvm.Cond.privateMethod ({ cls := "ModuleEngine$Checker", name := "isAlike", desc := "(I)Z" } : Jvm.MethodName)) ∈ lw_tbl := lw_at lw_m7 108 rfl
theorem q1908 : (Jvm.Cond.instanceMethod ({ cls := "ModuleEngine$Checker", name := "isAlike", desc := "(I)Z" } : Jvm.MethodName)) ∈ lw_all := lw_g (lw_at lw_m7 109 rfl) rfl
theorem q1909 : (Jvm.Cond.code ({ cls := "ModuleEngine$Checker", name := "isAlike", desc := "(I)Z" } : Jvm.MethodName) prog_3_method_35_code (4 : Nat) (Option.some Jvm.ClassFile.FieldType.boolean)) ∈ lw_all := lw_g (lw_at lw_m7 110 rfl) rfl
theorem q1910 : (Jvm.Cond.methodLink "ModuleEngine$Checker" (182 : Nat) ({ cls := "ModuleEngine$Checker", name := "giveResults", desc := "(I)V" } : Jvm.MethodName)) ∈ lw_all := lw_g (lw_at lw_m7 111 rfl) rfl
theorem q1911 : (Jvm.Cond.privateMethod ({ cls := "ModuleEngine$Checker", name := "giveResults", desc := "(I)V" } : Jvm.MethodName)) ∈ lw_tbl := lw_at lw_m7 112 rfl
theorem q1912 : (Jvm.Cond.instanceMethod ({ cls := "ModuleEngine$Checker", name := "giveResults", desc := "(I)V" } : Jvm.MethodName)) ∈ lw_all := lw_g (lw_at lw_m7 113 rfl) rfl
theorem q1913 : (Jvm.Cond.code ({ cls := "ModuleEngine$Checker", name := "giveResults", desc := "(I)V" } : Jvm.MethodName) prog_3_method_27_code (3 : Nat) (Option.none : Option Jvm.ClassFile.FieldType)) ∈ lw_all := lw_g (lw_at lw_m7 114 rfl) rfl
theorem q1914 : (Jvm.Cond.methodLink "ModuleEngine$Checker" (185 : Nat) ({ cls := "ModuleEngine$Checker", name := "blockOf", desc := "(I)I" } : Jvm.MethodName)) ∈ lw_all := lw_g (lw_at lw_m7 115 rfl) rfl
theorem q1915 : (Jvm.Cond.privateMethod ({ cls := "ModuleEngine$Checker", name := "blockOf", desc := "(I)I" } : Jvm.MethodName)) ∈ lw_tbl := lw_at lw_m7 116 rfl
theorem q1916 : (Jvm.Cond.instanceMethod ({ cls := "ModuleEngine$Checker", name := "blockOf", desc := "(I)I" } : Jvm.MethodName)) ∈ lw_all := lw_g (lw_at lw_m7 117 rfl) rfl
theorem q1917 : (Jvm.Cond.code ({ cls := "ModuleEngine$Checker", name := "blockOf", desc := "(I)I" } : Jvm.MethodName) prog_3_method_19_code (2 : Nat) (Option.some Jvm.ClassFile.FieldType.int)) ∈ lw_all := lw_g (lw_at lw_m7 118 rfl) rfl
theorem q1918 : (Jvm.Cond.methodLink "ModuleEngine$Checker" (114 : Nat) ({ cls := "ModuleEngine$Checker", name := "wide", desc := "(I)J" } : Jvm.MethodName)) ∈ lw_all := lw_g (lw_at lw_m7 119 rfl) rfl
theorem q1919 : (Jvm.Cond.static ({ cls := "ModuleEngine$Checker", name := "wide", desc := "(I)J" } : Jvm.MethodName)) ∈ lw_all := lw_g (lw_at lw_m7 120 rfl) rfl
theorem q1920 : (Jvm.Cond.code ({ cls := "ModuleEngine$Checker", name := "wide", desc := "(I)J" } : Jvm.MethodName) prog_3_method_4_code (1 : Nat) (Option.some Jvm.ClassFile.FieldType.long)) ∈ lw_all := lw_g (lw_at lw_m7 121 rfl) rfl
theorem q1921 : (Jvm.Cond.constantLong "ModuleEngine$Checker" (59 : Nat) (4294967295 : Int64)) ∈ lw_all := lw_g (lw_at lw_m7 122 rfl) rfl
theorem q1922 : (Jvm.Cond.methodLink "ModuleEngine$Checker" (188 : Nat) ({ cls := "ModuleEngine$Checker", name := "takeLabel", desc := "(I)V" } : Jvm.MethodName)) ∈ lw_all := lw_g (lw_at lw_m7 123 rfl) rfl
theorem q1923 : (Jvm.Cond.privateMethod ({ cls := "ModuleEngine$Checker", name := "takeLabel", desc := "(I)V" } : Jvm.MethodName)) ∈ lw_tbl := lw_at lw_m7 124 rfl
theorem q1924 : (Jvm.Cond.instanceMethod ({ cls := "ModuleEngine$Checker", name := "takeLabel", desc := "(I)V" } : Jvm.MethodName)) ∈ lw_all := lw_g (lw_at lw_m7 125 rfl) rfl
theorem q1925 : (Jvm.Cond.code ({ cls := "ModuleEngine$Checker", name := "takeLabel", desc := "(I)V" } : Jvm.MethodName) prog_3_method_28_code (3 : Nat) (Option.none : Option Jvm.ClassFile.FieldType)) ∈ lw_all := lw_g (lw_at lw_m7 126 rfl) rfl
theorem q1926 : (Jvm.Cond.methodLink "ModuleEngine$Checker" (155 : Nat) ({ cls := "ModuleEngine$Checker", name := "labelSize", desc := "(I)I" } : Jvm.MethodName)) ∈ lw_all := lw_g (lw_at lw_m7 127 rfl) rfl
theorem q1927 : (Jvm.Cond.privateMethod ({ cls := "ModuleEngine$Checker", name := "labelSize", desc := "(I)I" } : Jvm.MethodName)) ∈ lw_tbl := lw_at lw_m7 128 rfl
theorem q1928 : (Jvm.Cond.instanceMethod ({ cls := "ModuleEngine$Checker", name := "labelSize", desc := "(I)I" } : Jvm.MethodName)) ∈ lw_all := lw_g (lw_at lw_m7 129 rfl) rfl
theorem q1929 : (Jvm.Cond.code ({ cls := "ModuleEngine$Checker", name := "labelSize", desc := "(I)I" } : Jvm.MethodName) prog_3_method_17_code (2 : Nat) (Option.some Jvm.ClassFile.FieldType.int)) ∈ lw_all := lw_g (lw_at lw_m7 130 rfl) rfl
theorem q1930 : (Jvm.Cond.methodLink "ModuleEngine$Checker" (111 : Nat) ({ cls := "ModuleEngine$Row", name := "at", desc := "(I)I" } : Jvm.MethodName)) ∈ lw_all := lw_g (lw_at lw_m7 131 rfl) rfl
theorem q1931 : (Jvm.Cond.methodLink "ModuleEngine$Checker" (158 : Nat) ({ cls := "ModuleEngine$Checker", name := "labelType", desc := "(II)I" } : Jvm.MethodName)) ∈ lw_all := lw_g (lw_at lw_m7 132 rfl) rfl
theorem q1932 : (Jvm.Cond.privateMethod ({ cls := "ModuleEngine$Checker", name := "labelType", desc := "(II)I" } : Jvm.MethodName)) ∈ lw_tbl := lw_at lw_m7 133 rfl
theorem q1933 : (Jvm.Cond.instanceMethod ({ cls := "ModuleEngine$Checker", name := "labelType", desc := "(II)I" } : Jvm.MethodName)) ∈ lw_all := lw_g (lw_at lw_m7 134 rfl) rfl
theorem q1934 : (Jvm.Cond.code ({ cls := "ModuleEngine$Checker", name := "labelType", desc := "(II)I" } : Jvm.MethodName) prog_3_method_18_code (3 : Nat) (Option.some Jvm.ClassFile.FieldType.int)) ∈ lw_all := lw_g (lw_at lw_m7 135 rfl) rfl
theorem q1935 : (Jvm.Cond.methodLink "ModuleEngine$Checker" (203 : Nat) ({ cls := "ModuleEngine$Checker", name := "giveLabel", desc := "(I)V" } : Jvm.MethodName)) ∈ lw_all := lw_g (lw_at lw_m7 136 rfl) rfl
theorem q1936 : (Jvm.Cond.privateMethod ({ cls := "ModuleEngine$Checker", name := "giveLabel", desc := "(I)V" } : Jvm.MethodName)) ∈ lw_tbl := lw_at lw_m7 137 rfl
theorem q1937 : (Jvm.Cond.instanceMethod ({ cls := "ModuleEngine$Checker", name := "giveLabel", desc := "(I)V" } : Jvm.MethodName)) ∈ lw_all := lw_g (lw_at lw_m7 138 rfl) rfl
theorem q1938 : (Jvm.Cond.code ({ cls := "ModuleEngine$Checker", name := "giveLabel", desc := "(I)V" } : Jvm.MethodName) prog_3_method_29_code (3 : Nat) (Option.none : Option Jvm.ClassFile.FieldType)) ∈ lw_all := lw_g (lw_at lw_m7 139 rfl) rfl
theorem q1939 : (Jvm.Cond.methodLink "ModuleEngine$Checker" (206 : Nat) ({ cls := "ModuleEngine$Checker", name := "branches", desc := "(I)V" } : Jvm.MethodName)) ∈ lw_all := lw_g (lw_at lw_m7 140 rfl) rfl
theorem q1940 : (Jvm.Cond.privateMethod ({ cls := "ModuleEngine$Checker", name := "branches", desc := "(I)V" } : Jvm.MethodName)) ∈ lw_tbl := lw_at lw_m7 141 rfl
theorem q1941 : (Jvm.Cond.instanceMethod ({ cls := "ModuleEngine$Checker", name := "branches", desc := "(I)V" } : Jvm.MethodName)) ∈ lw_all := lw_g (lw_at lw_m7 142 rfl) rfl
theorem q1942 : (Jvm.Cond.code ({ cls := "ModuleEngine$Checker", name := "branches", desc := "(I)V" } : Jvm.MethodName) prog_3_method_37_code (6 : Nat) (Option.none : Option Jvm.ClassFile.FieldType)) ∈ lw_all := lw_g (lw_at lw_m7 143 rfl) rfl
theorem q1943 : (Jvm.Cond.methodLink "ModuleEngine$Checker" (214 : Nat) ({ cls := "ModuleEngine$Checker", name := "named", desc := "(LModuleEngine$Row;I)I" } : Jvm.MethodName)) ∈ lw_all := lw_g (lw_at lw_m7 144 rfl) rfl
theorem q1944 : (Jvm.Cond.privateMethod ({ cls := "ModuleEngine$Checker", name := "named", desc := "(LModuleEngine$Row;I)I" } : Jvm.MethodName)) ∈ lw_tbl := lw_at lw_m7 145 rfl
theorem q1945 : (Jvm.Cond.instanceMethod ({ cls := "ModuleEngine$Checker", name := "named", desc := "(LModuleEngine$Row;I)I" } : Jvm.MethodName)) ∈ lw_all := lw_g (lw_at lw_m7 146 rfl) rfl
theorem q1946 : (Jvm.Cond.code ({ cls := "ModuleEngine$Checker", name := "named", desc := "(LModuleEngine$Row;I)I" } : Jvm.MethodName) prog_3_method_39_code (3 : Nat) (Option.some Jvm.ClassFile.FieldType.int)) ∈ lw_all := lw_g (lw_at lw_m7 147 rfl) rfl
theorem q1947 : (Jvm.Cond.methodLink "ModuleEngine$Checker" (218 : Nat) ({ cls := "ModuleEngine$Checker", name := "calls", desc := "(I)V" } : Jvm.MethodName)) ∈ lw_all := lw_g (lw_at lw_m7 148 rfl) rfl
theorem q1948 : (Jvm.Cond.privateMethod ({ cls := "ModuleEngine$Checker", name := "calls", desc := "(I)V" } : Jvm.MethodName)) ∈ lw_tbl := lw_at lw_m7 149 rfl
theorem q1949 : (Jvm.Cond.instanceMethod ({ cls := "ModuleEngine$Checker", name := "calls", desc := "(I)V" } : Jvm.MethodName)) ∈ lw_all := lw_g (lw_at lw_m7 150 rfl) rfl
theorem q1950 : (Jvm.Cond.code ({ cls := "ModuleEngine$Checker", name := "calls", desc := "(I)V" } : Jvm.MethodName) prog_3_method_40_code (2 : Nat) (Option.none : Option Jvm.ClassFile.FieldType)) ∈ lw_all := lw_g (lw_at lw_m7 151 rfl) rfl
theorem q1951 : (Jvm.Cond.methodLink "ModuleEngine$Checker" (221 : Nat) ({ cls := "ModuleEngine$Checker", name := "typeOf", desc := "(I)I" } : Jvm.MethodName)) ∈ lw_all := lw_g (lw_at lw_m7 152 rfl) rfl
theorem q1952 : (Jvm.Cond.privateMethod ({ cls := "ModuleEngine$Checker", name := "typeOf", desc := "(I)I" } : Jvm.MethodName)) ∈ lw_tbl := lw_at lw_m7 153 rfl
theorem q1953 : (Jvm.Cond.instanceMethod ({ cls := "ModuleEngine$Checker", name := "typeOf", desc := "(I)I" } : Jvm.MethodName)) ∈ lw_all := lw_g (lw_at lw_m7 154 rfl) rfl
theorem q1954 : (Jvm.Cond.code ({ cls := "ModuleEngine$Checker", name := "typeOf", desc := "(I)I" } : Jvm.MethodName) prog_3_method_38_code (2 : Nat) (Option.some Jvm.ClassFile.FieldType.int)) ∈ lw_all := lw_g (lw_at lw_m7 155 rfl) rfl
theorem q1955 : (Jvm.Cond.methodLink "ModuleEngine$Checker" (302 : Nat) ({ cls := "ModuleEngine$Checker", name := "plain", desc := "(II)Z" } : Jvm.MethodName)) ∈ lw_all := lw_g (lw_at lw_m7 156 rfl) rfl
theorem q1956 : (Jvm.Cond.privateMethod ({ cls := "ModuleEngine$Checker", name := "plain", desc := "(II)Z" } : Jvm.MethodName)) ∈ lw_tbl := lw_at lw_m7 157 rfl
theorem q1957 : (Jvm.Cond.instanceMethod ({ cls := "ModuleEngine$Checker", name := "plain", desc := "(II)Z" } : Jvm.MethodName)) ∈ lw_all := lw_g (lw_at lw_m7 158 rfl) rfl
theorem q1958 : (Jvm.Cond.code ({ cls := "ModuleEngine$Checker", name := "plain", desc := "(II)Z" } : Jvm.MethodName) prog_3_method_44_code (4 : Nat) (Option.some Jvm.ClassFile.FieldType.boolean)) ∈ lw_all := lw_g (lw_at lw_m7 159 rfl) rfl
theorem q1959 : (Jvm.Cond.methodLink "ModuleEngine$Checker" (236 : Nat) ({ cls := "ModuleEngine$Checker", name := "chosen", desc := "()V" } : Jvm.MethodName)) ∈ lw_all := lw_g (lw_at lw_m7 160 rfl) rfl
theorem q1960 : (Jvm.Cond.privateMethod ({ cls := "ModuleEngine$Checker", name := "chosen", desc := "()V" } : Jvm.MethodName)) ∈ lw_tbl := lw_at lw_m7 161 rfl
theorem q1961 : (Jvm.Cond.instanceMethod ({ cls := "ModuleEngine$Checker", name := "chosen", desc := "()V" } : Jvm.MethodName)) ∈ lw_all := lw_g (lw_at lw_m7 162 rfl) rfl
theorem q1962 : (Jvm.Cond.code ({ cls := "ModuleEngine$Checker", name := "chosen", desc := "()V" } : Jvm.MethodName) prog_3_method_42_code (3 : Nat) (Option.none : Option Jvm.ClassFile.FieldType)) ∈ lw_all := lw_g (lw_at lw_m7 163 rfl) rfl
theorem q1963 : (Jvm.Cond.methodLink "ModuleEngine$Checker" (239 : Nat) ({ cls := "ModuleEngine$Checker", name := "join", desc := "(II)V" } : Jvm.MethodName)) ∈ lw_all := lw_g (lw_at lw_m7 164 rfl) rfl
theorem q1964 : (Jvm.Cond.privateMethod ({ cls := "ModuleEngine$Checker", name := "join", desc := "(II)V" } : Jvm.MethodName)) ∈ lw_tbl := lw_at lw_m7 165 rfl
theorem q1965 : (Jvm.Cond.instanceMethod ({ cls := "ModuleEngine$Checker", name := "join", desc := "(II)V" } : Jvm.MethodName)) ∈ lw_all := lw_g (lw_at lw_m7 166 rfl) rfl
theorem q1966 : (Jvm.Cond.code ({ cls := "ModuleEngine$Checker", name := "join", desc := "(II)V" } : Jvm.MethodName) prog_3_method_31_code (3 : Nat) (Option.none : Option Jvm.ClassFile.FieldType)) ∈ lw_all := lw_g (lw_at lw_m7 167 rfl) rfl
theorem q1967 : (Jvm.Cond.methodLink "ModuleEngine$Checker" (161 : Nat) ({ cls := "ModuleEngine$Checker", name := "turn", desc := "(II)V" } : Jvm.MethodName)) ∈ lw_all := lw_g (lw_at lw_m7 168 rfl) rfl
theorem q1968 : (Jvm.Cond.privateMethod ({ cls := "ModuleEngine$Checker", name := "turn", desc := "(II)V" } : Jvm.MethodName)) ∈ lw_tbl := lw_at lw_m7 169 rfl
theorem q1969 : (Jvm.Cond.instanceMethod ({ cls := "ModuleEngine$Checker", name := "turn", desc := "(II)V" } : Jvm.MethodName)) ∈ lw_all := lw_g (lw_at lw_m7 170 rfl) rfl
theorem q1970 : (Jvm.Cond.code ({ cls := "ModuleEngine$Checker", name := "turn", desc := "(II)V" } : Jvm.MethodName) prog_3_method_30_code (3 : Nat) (Option.none : Option Jvm.ClassFile.FieldType)) ∈ lw_all := lw_g (lw_at lw_m7 171 rfl) rfl
theorem q1971 : (Jvm.Cond.methodLink "ModuleEngine$Checker" (242 : Nat) ({ cls := "ModuleEngine$Checker", name := "variable", desc := "(II)V" } : Jvm.MethodName)) ∈ lw_all := lw_g (lw_at lw_m7 172 rfl) rfl
theorem q1972 : (Jvm.Cond.privateMethod ({ cls := "ModuleEngine$Checker", name := "variable", desc := "(II)V" } : Jvm.MethodName)) ∈ lw_tbl := lw_at lw_m7 173 rfl
theorem q1973 : (Jvm.Cond.instanceMethod ({ cls := "ModuleEngine$Checker", name := "variable", desc := "(II)V" } : Jvm.MethodName)) ∈ lw_all := lw_g (lw_at lw_m7 174 rfl) rfl
theorem q1974 : (Jvm.Cond.code ({ cls := "ModuleEngine$Checker", name := "variable", desc := "(II)V" } : Jvm.MethodName) prog_3_method_43_code (4 : Nat) (Option.none : Option Jvm.ClassFile.FieldType)) ∈ lw_all := lw_g (lw_at lw_m7 175 rfl) rfl
theorem q1975 : (Jvm.Cond.methodLink "ModuleEngine$Checker" (227 : Nat) ({ cls := "ModuleEngine$Checker", name := "localType", desc := "(I)I" } : Jvm.MethodName)) ∈ lw_all := lw_g (lw_at lw_m7 176 rfl) rfl
theorem q1976 : (Jvm.Cond.privateMethod ({ cls := "ModuleEngine$Checker", name := "localType", desc := "(I)I" } : Jvm.MethodName)) ∈ lw_tbl := lw_at lw_m7 177 rfl
theorem q1977 : (Jvm.Cond.instanceMethod ({ cls := "ModuleEngine$Checker", name := "localType", desc := "(I)I" } : Jvm.MethodName)) ∈ lw_all := lw_g (lw_at lw_m7 178 rfl) rfl
theorem q1978 : (Jvm.Cond.code ({ cls := "ModuleEngine$Checker", name := "localType", desc := "(I)I" } : Jvm.MethodName) prog_3_method_11_code (5 : Nat) (Option.some Jvm.ClassFile.FieldType.int)) ∈ lw_all := lw_g (lw_at lw_m7 179 rfl) rfl
theorem q1979 : (Jvm.Cond.methodLink "ModuleEngine$Checker" (305 : Nat) ({ cls := "ModuleEngine$Checker", name := "rest", desc := "(III)V" } : Jvm.MethodName)) ∈ lw_all := lw_g (lw_at lw_m7 180 rfl) rfl
theorem q1980 : (Jvm.Cond.privateMethod ({ cls := "ModuleEngine$Checker", name := "rest", desc := "(III)V" } : Jvm.MethodName)) ∈ lw_tbl := lw_at lw_m7 181 rfl
theorem q1981 : (Jvm.Cond.instanceMethod ({ cls := "ModuleEngine$Checker", name := "rest", desc := "(III)V" } : Jvm.MethodName)) ∈ lw_all := lw_g (lw_at lw_m7 182 rfl) rfl
theorem q1982 : (Jvm.Cond.code ({ cls := "ModuleEngine$Checker", name := "rest", desc := "(III)V" } : Jvm.MethodName) prog_3_method_55_code (5 : Nat) (Option.none : Option Jvm.ClassFile.FieldType)) ∈ lw_all := lw_g (lw_at lw_m7 183 rfl) rfl
theorem q1983 : (Jvm.Cond.methodLink "ModuleEngine$Checker" (275 : Nat) ({ cls := "ModuleEngine$Checker", name := "moves", desc := "(II)V" } : Jvm.MethodName)) ∈ lw_all := lw_g (lw_at lw_m7 184 rfl) rfl
theorem q1984 : (Jvm.Cond.privateMethod ({ cls := "ModuleEngine$Checker", name := "moves", desc := "(II)V" } : Jvm.MethodName)) ∈ lw_tbl := lw_at lw_m7 185 rfl
theorem q1985 : (Jvm.Cond.instanceMethod ({ cls := "ModuleEngine$Checker", name := "moves", desc := "(II)V" } : Jvm.MethodName)) ∈ lw_all := lw_g (lw_at lw_m7 186 rfl) rfl
theorem q1986 : (Jvm.Cond.code ({ cls := "ModuleEngine$Checker", name := "moves", desc := "(II)V" } : Jvm.MethodName) prog_3_method_48_code (3 : Nat) (Option.none : Option Jvm.ClassFile.FieldType)) ∈ lw_all := lw_g (lw_at lw_m7 187 rfl) rfl
theorem q1987 : (Jvm.Cond.methodLink "ModuleEngine$Checker" (248 : Nat) ({ cls := "ModuleEngine$Checker", name := "needMemory", desc := "()V" } : Jvm.MethodName)) ∈ lw_all := lw_g (lw_at lw_m7 188 rfl) rfl
theorem q1988 : (Jvm.Cond.privateMethod ({ cls := "ModuleEngine$Checker", name := "needMemory", desc := "()V" } : Jvm.MethodName)) ∈ lw_tbl := lw_at lw_m7 189 rfl
theorem q1989 : (Jvm.Cond.instanceMethod ({ cls := "ModuleEngine$Checker", name := "needMemory", desc := "()V" } : Jvm.MethodName)) ∈ lw_all := lw_g (lw_at lw_m7 190 rfl) rfl
theorem q1990 : (Jvm.Cond.code ({ cls := "ModuleEngine$Checker", name := "needMemory", desc := "()V" } : Jvm.MethodName) prog_3_method_45_code (1 : Nat) (Option.none : Option Jvm.ClassFile.FieldType)) ∈ lw_all := lw_g (lw_at lw_m7 191 rfl) rfl
theorem q1991 : (Jvm.Cond.methodLink "ModuleEngine$Checker" (251 : Nat) ({ cls := "ModuleEngine$Checker", name := "moved", desc := "(I)I" } : Jvm.MethodName)) ∈ lw_all := lw_g (lw_at lw_m7 192 rfl) rfl
theorem q1992 : (Jvm.Cond.static ({ cls := "ModuleEngine$Checker", name := "moved", desc := "(I)I" } : Jvm.MethodName)) ∈ lw_all := lw_g (lw_at lw_m7 193 rfl) rfl
theorem q1993 : (Jvm.Cond.code ({ cls := "ModuleEngine$Checker", name := "moved", desc := "(I)I" } : Jvm.MethodName) prog_3_method_46_code (1 : Nat) (Option.some Jvm.ClassFile.FieldType.int)) ∈ lw_all := lw_g (lw_at lw_m7 194 rfl) rfl
theorem q1994 : (Jvm.Cond.methodLink "ModuleEngine$Checker" (254 : Nat) ({ cls := "ModuleEngine$Checker", name := "movedType", desc := "(I)I" } : Jvm.MethodName)) ∈ lw_all := lw_g (lw_at lw_m7 195 rfl) rfl
theorem q1995 : (Jvm.Cond.static ({ cls := "ModuleEngine$Checker", name := "movedType", desc := "(I)I" } : Jvm.MethodName)) ∈ lw_all := lw_g (lw_at lw_m7 196 rfl) rfl
theorem q1996 : (Jvm.Cond.code ({ cls := "ModuleEngine$Checker", name := "movedType", desc := "(I)I" } : Jvm.MethodName) prog_3_method_47_code (1 : Nat) (Option.some Jvm.ClassFile.FieldType.int)) ∈ lw_all := lw_g (lw_at lw_m7 197 rfl) rfl
theorem q1997 : (Jvm.Cond.methodLink "ModuleEngine$Checker" (278 : Nat) ({ cls := "ModuleEngine$Checker", name := "numbers", desc := "(I)V" } : Jvm.MethodName)) ∈ lw_all := lw_g (lw_at lw_m7 198 rfl) rfl
theorem q1998 : (Jvm.Cond.privateMethod ({ cls := "ModuleEngine$Checker", name := "numbers", desc := "(I)V" } : Jvm.MethodName)) ∈ lw_tbl := lw_at lw_m7 199 rfl
theorem q1999 : (Jvm.Cond.instanceMethod ({ cls := "ModuleEngine$Checker", name := "numbers", desc := "(I)V" } : Jvm.MethodName)) ∈ lw_all := lw_g (lw_at lw_m7 200 rfl) rfl
theorem q2000 : (Jvm.Cond.code ({ cls := "ModuleEngine$Checker", name := "numbers", desc := "(I)V" } : Jvm.MethodName) prog_3_method_51_code (3 : Nat) (Option.none : Option Jvm.ClassFile.FieldType)) ∈ lw_all := lw_g (lw_at lw_m7 201 rfl) rfl
theorem q2001 : (Jvm.Cond.methodLink "ModuleEngine$Checker" (257 : Nat) ({ cls := "ModuleEngine$Checker", name := "from", desc := "(I)I" } : Jvm.MethodName)) ∈ lw_all := lw_g (lw_at lw_m7 202 rfl) rfl
theorem q2002 : (Jvm.Cond.static ({ cls := "ModuleEngine$Checker", name := "from", desc := "(I)I" } : Jvm.MethodName)) ∈ lw_all := lw_g (lw_at lw_m7 203 rfl) rfl
theorem q2003 : (Jvm.Cond.code ({ cls := "ModuleEngine$Checker", name := "from", desc := "(I)I" } : Jvm.MethodName) prog_3_method_49_code (1 : Nat) (Option.some Jvm.ClassFile.FieldType.int)) ∈ lw_all := lw_g (lw_at lw_m7 204 rfl) rfl
theorem q2004 : (Jvm.Cond.methodLink "ModuleEngine$Checker" (260 : Nat) ({ cls := "ModuleEngine$Checker", name := "to", desc := "(I)I" } : Jvm.MethodName)) ∈ lw_all := lw_g (lw_at lw_m7 205 rfl) rfl
theorem q2005 : (Jvm.Cond.static ({ cls := "ModuleEngine$Checker", name := "to", desc := "(I)I" } : Jvm.MethodName)) ∈ lw_all := lw_g (lw_at lw_m7 206 rfl) rfl
theorem q2006 : (Jvm.Cond.code ({ cls := "ModuleEngine$Checker", name := "to", desc := "(I)I" } : Jvm.MethodName) prog_3_method_50_code (1 : Nat) (Option.some Jvm.ClassFile.FieldType.int)) ∈ lw_all := lw_g (lw_at lw_m7 207 rfl) rfl
theorem q2007 : (Jvm.Cond.methodLink "ModuleEngine$Checker" (281 : Nat) ({ cls := "ModuleEngine$Checker", name := "references", desc := "(II)V" } : Jvm.MethodName)) ∈ lw_all := lw_g (lw_at lw_m7 208 rfl) rfl
theorem q2008 : (Jvm.Cond.privateMethod ({ cls := "ModuleEngine$Checker", name := "references", desc := "(II)V" } : Jvm.MethodName)) ∈ lw_tbl := lw_at lw_m7 209 rfl
theorem q2009 : (Jvm.Cond.instanceMethod ({ cls := "ModuleEngine$Checker", name := "references", desc := "(II)V" } : Jvm.MethodName)) ∈ lw_all := lw_g (lw_at lw_m7 210 rfl) rfl
theorem q2010 : (Jvm.Cond.code ({ cls := "ModuleEngine$Checker", name := "references", desc := "(II)V" } : Jvm.MethodName) prog_3_method_52_code (4 : Nat) (Option.none : Option Jvm.ClassFile.FieldType)) ∈ lw_all := lw_g (lw_at lw_m7 211 rfl) rfl
theorem q2011 : (Jvm.Cond.methodLink "ModuleEngine$Checker" (284 : Nat) ({ cls := "ModuleEngine$Checker", name := "stretches", desc := "(III)V" } : Jvm.MethodName)) ∈ lw_all := lw_g (lw_at lw_m7 212 rfl) rfl
theorem q2012 : (Jvm.Cond.privateMethod ({ cls := "ModuleEngine$Checker", name := "stretches", desc := "(III)V" } : Jvm.MethodName)) ∈ lw_tbl := lw_at lw_m7 213 rfl
theorem q2013 : (Jvm.Cond.instanceMethod ({ cls := "ModuleEngine$Checker", name := "stretches", desc := "(III)V" } : Jvm.MethodName)) ∈ lw_all := lw_g (lw_at lw_m7 214 rfl) rfl
theorem q2014 : (Jvm.Cond.code ({ cls := "ModuleEngine$Checker", name := "stretches", desc := "(III)V" } : Jvm.MethodName) prog_3_method_54_code (7 : Nat) (Option.none : Option Jvm.ClassFile.FieldType)) ∈ lw_all := lw_g (lw_at lw_m7 215 rfl) rfl
theorem q2015 : (Jvm.Cond.methodLink "ModuleEngine$Checker" (269 : Nat) ({ cls := "ModuleEngine$Checker", name := "three", desc := "()V" } : Jvm.MethodName)) ∈ lw_all := lw_g (lw_at lw_m7 216 rfl) rfl
theorem q2016 : (Jvm.Cond.privateMethod ({ cls := "ModuleEngine$Checker", name := "three", desc := "()V" } : Jvm.MethodName)) ∈ lw_tbl := lw_at lw_m7 217 rfl
theorem q2017 : (Jvm.Cond.instanceMethod ({ cls := "ModuleEngine$Checker", name := "three", desc := "()V" } : Jvm.MethodName)) ∈ lw_all := lw_g (lw_at lw_m7 218 rfl) rfl
theorem q2018 : (Jvm.Cond.code ({ cls := "ModuleEngine$Checker", name := "three", desc := "()V" } : Jvm.MethodName) prog_3_method_53_code (1 : Nat) (Option.none : Option Jvm.ClassFile.FieldType)) ∈ lw_all := lw_g (lw_at lw_m7 219 rfl) rfl
theorem in_X11 : ∀ w ∈ wsX110, w ∈ lw_all := lw_in wsX110 [836, 838, 840, 842, 844, 846, 848, 850, 852, 854, 856, 858, 860, 862, 864, 866, 868] (by decide +kernel) (by decide +kernel)

/-! ModuleEngine$Walker -/
set_option maxRecDepth 100000
def RX12 : String := "ModuleEngine$Walker"
def TX12 : u_T := fun k => match k with
  | 0 => ("ModuleEngine$Walker", "bytes", "[B", false)
  | 1 => ("ModuleEngine$Walker", "at", "I", false)
  | 2 => ("ModuleEngine$Walker", "place", "I", false)
  | 3 => ("ModuleEngine$Walker", "op", "I", false)
  | 4 => ("ModuleEngine$Walker", "x", "I", false)
  | 5 => ("ModuleEngine$Walker", "y", "I", false)
  | 6 => ("ModuleEngine$Walker", "value", "J", false)
  | _ => ("ModuleEngine$Walker", "row", "LModuleEngine$Row;", true)
def tyX12 : Nat → FieldType := fun k => match k with
  | 0 => .array .byte
  | 1 => .int
  | 2 => .int
  | 3 => .int
  | 4 => .int
  | 5 => .int
  | 6 => .long
  | _ => .object "ModuleEngine$Row"
abbrev wsX120 : List Cond := u_ws RX12 TX12 8
theorem nmX12 : ∀ a, a < 8 → ∀ b, b < 8 → a ≠ b → (TX12 a).2.1 ≠ (TX12 b).2.1 := by decide +kernel
theorem tyX12_ok : ∀ k, k < 8 → parseFieldDescriptor (TX12 k).2.2.1 = some (tyX12 k) := by decide +kernel
abbrev cX12_init : ByteArray := prog_18_method_1_code
def yX12_init : MethodName := ⟨RX12, "<init>", "()V"⟩
abbrev cX12_over : ByteArray := prog_18_method_2_code
def yX12_over : MethodName := ⟨RX12, "over", "([B)V"⟩
abbrev cX12_go : ByteArray := prog_18_method_3_code
def yX12_go : MethodName := ⟨RX12, "go", "(I)V"⟩
abbrev cX12_whole : ByteArray := prog_18_method_6_code
def yX12_whole : MethodName := ⟨RX12, "whole", "()I"⟩
abbrev cX12_number : ByteArray := prog_18_method_5_code
def yX12_number : MethodName := ⟨RX12, "number", "(Z)J"⟩
abbrev cX12_take : ByteArray := prog_18_method_4_code
def yX12_take : MethodName := ⟨RX12, "take", "()I"⟩
abbrev cX12_next : ByteArray := prog_18_method_8_code
def yX12_next : MethodName := ⟨RX12, "next", "()V"⟩
abbrev cX12_wholes : ByteArray := prog_18_method_9_code
def yX12_wholes : MethodName := ⟨RX12, "wholes", "()V"⟩
abbrev cX12_bits : ByteArray := prog_18_method_7_code
def yX12_bits : MethodName := ⟨RX12, "bits", "(I)J"⟩
abbrev cX12_prefixed : ByteArray := prog_18_method_10_code
def yX12_prefixed : MethodName := ⟨RX12, "prefixed", "()V"⟩
theorem q372 : (Jvm.Cond.initialized "ModuleEngine$Walker") ∈ lw_all := lw_g (lw_at lw_m1 13 rfl) rfl
theorem q872 : (Jvm.Cond.instantiable "ModuleEngine$Walker" (8 : Nat)) ∈ lw_all := lw_g (lw_at lw_m3 33 rfl) rfl
theorem q874 : (Jvm.Cond.instanceMethod ({ cls := "ModuleEngine$Walker", name := "<init>", desc := "()V" } : Jvm.MethodName)) ∈ lw_all := lw_g (lw_at lw_m3 35 rfl) rfl
theorem q875 : (Jvm.Cond.code ({ cls := "ModuleEngine$Walker", name := "<init>", desc := "()V" } : Jvm.MethodName) prog_18_method_1_code (1 : Nat) (Option.none : Option Jvm.ClassFile.FieldType)) ∈ lw_all := lw_g (lw_at lw_m3 36 rfl) rfl
theorem q876 : (Jvm.Cond.methodLink "ModuleEngine$Walker" (1 : Nat) ({ cls := "java/lang/Object", name := "<init>", desc := "()V" } : Jvm.MethodName)) ∈ lw_all := lw_g (lw_at lw_m3 37 rfl) rfl
theorem q877 : (Jvm.Cond.classLink "ModuleEngine$Walker" (7 : Nat) "ModuleEngine$Row") ∈ lw_all := lw_g (lw_at lw_m3 38 rfl) rfl
theorem q878 : (Jvm.Cond.methodLinkNest "ModuleEngine$Walker" (9 : Nat) ({ cls := "ModuleEngine$Row", name := "<init>", desc := "()V" } : Jvm.MethodName) "ModuleEngine") ∈ lw_tbl := lw_at lw_m3 39 rfl
theorem q879 : (Jvm.Cond.fieldLink "ModuleEngine$Walker" (16 : Nat) "ModuleEngine$Walker" "bytes" "[B") ∈ lw_all := lw_g (lw_at lw_m3 40 rfl) rfl
theorem q880 : (Jvm.Cond.fieldLink "ModuleEngine$Walker" (20 : Nat) "ModuleEngine$Walker" "at" "I") ∈ lw_all := lw_g (lw_at lw_m3 41 rfl) rfl
theorem q882 : (Jvm.Cond.fieldLink "ModuleEngine$Walker" (34 : Nat) "ModuleEngine$Walker" "place" "I") ∈ lw_all := lw_g (lw_at lw_m3 43 rfl) rfl
theorem q884 : (Jvm.Cond.fieldLink "ModuleEngine$Walker" (37 : Nat) "ModuleEngine$Walker" "op" "I") ∈ lw_all := lw_g (lw_at lw_m3 45 rfl) rfl
theorem q887 : (Jvm.Cond.fieldLink "ModuleEngine$Walker" (40 : Nat) "ModuleEngine$Walker" "x" "I") ∈ lw_all := lw_g (lw_at lw_m3 48 rfl) rfl
theorem q890 : (Jvm.Cond.fieldLink "ModuleEngine$Walker" (43 : Nat) "ModuleEngine$Walker" "y" "I") ∈ lw_all := lw_g (lw_at lw_m3 51 rfl) rfl
theorem q892 : (Jvm.Cond.fieldLink "ModuleEngine$Walker" (68 : Nat) "ModuleEngine$Walker" "value" "J") ∈ lw_all := lw_g (lw_at lw_m3 53 rfl) rfl
theorem q895 : (Jvm.Cond.fieldLink "ModuleEngine$Walker" (10 : Nat) "ModuleEngine$Walker" "row" "LModuleEngine$Row;") ∈ lw_all := lw_g (lw_at lw_m3 56 rfl) rfl
theorem q897 : (Jvm.Cond.lays "ModuleEngine$Walker" "ModuleEngine$Walker" "bytes" "[B") ∈ lw_all := lw_g (lw_at lw_m3 58 rfl) rfl
theorem q898 : (Jvm.Cond.soleField "ModuleEngine$Walker" "bytes") ∈ lw_all := lw_g (lw_at lw_m3 59 rfl) rfl
theorem q899 : (Jvm.Cond.lays "ModuleEngine$Walker" "ModuleEngine$Walker" "at" "I") ∈ lw_all := lw_g (lw_at lw_m3 60 rfl) rfl
theorem q900 : (Jvm.Cond.soleField "ModuleEngine$Walker" "at") ∈ lw_all := lw_g (lw_at lw_m3 61 rfl) rfl
theorem q901 : (Jvm.Cond.lays "ModuleEngine$Walker" "ModuleEngine$Walker" "place" "I") ∈ lw_all := lw_g (lw_at lw_m3 62 rfl) rfl
theorem q902 : (Jvm.Cond.soleField "ModuleEngine$Walker" "place") ∈ lw_all := lw_g (lw_at lw_m3 63 rfl) rfl
theorem q903 : (Jvm.Cond.lays "ModuleEngine$Walker" "ModuleEngine$Walker" "op" "I") ∈ lw_all := lw_g (lw_at lw_m3 64 rfl) rfl
theorem q904 : (Jvm.Cond.soleField "ModuleEngine$Walker" "op") ∈ lw_all := lw_g (lw_at lw_m3 65 rfl) rfl
theorem q905 : (Jvm.Cond.lays "ModuleEngine$Walker" "ModuleEngine$Walker" "x" "I") ∈ lw_all := lw_g (lw_at lw_m3 66 rfl) rfl
theorem q906 : (Jvm.Cond.soleField "ModuleEngine$Walker" "x") ∈ lw_all := lw_g (lw_at lw_m3 67 rfl) rfl
theorem q907 : (Jvm.Cond.lays "ModuleEngine$Walker" "ModuleEngine$Walker" "y" "I") ∈ lw_all := lw_g (lw_at lw_m3 68 rfl) rfl
theorem q908 : (Jvm.Cond.soleField "ModuleEngine$Walker" "y") ∈ lw_all := lw_g (lw_at lw_m3 69 rfl) rfl
theorem q909 : (Jvm.Cond.lays "ModuleEngine$Walker" "ModuleEngine$Walker" "value" "J") ∈ lw_all := lw_g (lw_at lw_m3 70 rfl) rfl
theorem q910 : (Jvm.Cond.soleField "ModuleEngine$Walker" "value") ∈ lw_all := lw_g (lw_at lw_m3 71 rfl) rfl
theorem q911 : (Jvm.Cond.laysFinal "ModuleEngine$Walker" "ModuleEngine$Walker" "row" "LModuleEngine$Row;") ∈ lw_all := lw_g (lw_at lw_m3 72 rfl) rfl
theorem q912 : (Jvm.Cond.soleField "ModuleEngine$Walker" "row") ∈ lw_all := lw_g (lw_at lw_m3 73 rfl) rfl
theorem q913 : (Jvm.Cond.superclass "ModuleEngine$Walker" "java/lang/Object") ∈ lw_all := lw_g (lw_at lw_m3 74 rfl) rfl
theorem q1537 : (Jvm.Cond.instanceMethod ({ cls := "ModuleEngine$Walker", name := "over", desc := "([B)V" } : Jvm.MethodName)) ∈ lw_all := lw_g (lw_at lw_m5 218 rfl) rfl
theorem q1538 : (Jvm.Cond.selects "ModuleEngine$Walker" ({ cls := "ModuleEngine$Walker", name := "over", desc := "([B)V" } : Jvm.MethodName) ({ cls := "ModuleEngine$Walker", name := "over", desc := "([B)V" } : Jvm.MethodName)) ∈ lw_all := lw_g (lw_at lw_m5 219 rfl) rfl
theorem q1539 : (Jvm.Cond.code ({ cls := "ModuleEngine$Walker", name := "over", desc := "([B)V" } : Jvm.MethodName) prog_18_method_2_code (2 : Nat) (Option.none : Option Jvm.ClassFile.FieldType)) ∈ lw_all := lw_g (lw_at lw_m5 220 rfl) rfl
theorem q1572 : (Jvm.Cond.instanceMethod ({ cls := "ModuleEngine$Walker", name := "go", desc := "(I)V" } : Jvm.MethodName)) ∈ lw_all := lw_g (lw_at lw_m6 13 rfl) rfl
theorem q1573 : (Jvm.Cond.selects "ModuleEngine$Walker" ({ cls := "ModuleEngine$Walker", name := "go", desc := "(I)V" } : Jvm.MethodName) ({ cls := "ModuleEngine$Walker", name := "go", desc := "(I)V" } : Jvm.MethodName)) ∈ lw_all := lw_g (lw_at lw_m6 14 rfl) rfl
theorem q1574 : (Jvm.Cond.code ({ cls := "ModuleEngine$Walker", name := "go", desc := "(I)V" } : Jvm.MethodName) prog_18_method_3_code (2 : Nat) (Option.none : Option Jvm.ClassFile.FieldType)) ∈ lw_all := lw_g (lw_at lw_m6 15 rfl) rfl
theorem q1576 : (Jvm.Cond.privateMethod ({ cls := "ModuleEngine$Walker", name := "whole", desc := "()I" } : Jvm.MethodName)) ∈ lw_tbl := lw_at lw_m6 17 rfl
theorem q1577 : (Jvm.Cond.instanceMethod ({ cls := "ModuleEngine$Walker", name := "whole", desc := "()I" } : Jvm.MethodName)) ∈ lw_all := lw_g (lw_at lw_m6 18 rfl) rfl
theorem q1578 : (Jvm.Cond.code ({ cls := "ModuleEngine$Walker", name := "whole", desc := "()I" } : Jvm.MethodName) prog_18_method_6_code (1 : Nat) (Option.some Jvm.ClassFile.FieldType.int)) ∈ lw_all := lw_g (lw_at lw_m6 19 rfl) rfl
theorem q1579 : (Jvm.Cond.methodLink "ModuleEngine$Walker" (30 : Nat) ({ cls := "ModuleEngine$Walker", name := "number", desc := "(Z)J" } : Jvm.MethodName)) ∈ lw_all := lw_g (lw_at lw_m6 20 rfl) rfl
theorem q1580 : (Jvm.Cond.privateMethod ({ cls := "ModuleEngine$Walker", name := "number", desc := "(Z)J" } : Jvm.MethodName)) ∈ lw_tbl := lw_at lw_m6 21 rfl
theorem q1581 : (Jvm.Cond.instanceMethod ({ cls := "ModuleEngine$Walker", name := "number", desc := "(Z)J" } : Jvm.MethodName)) ∈ lw_all := lw_g (lw_at lw_m6 22 rfl) rfl
theorem q1582 : (Jvm.Cond.code ({ cls := "ModuleEngine$Walker", name := "number", desc := "(Z)J" } : Jvm.MethodName) prog_18_method_5_code (6 : Nat) (Option.some Jvm.ClassFile.FieldType.long)) ∈ lw_all := lw_g (lw_at lw_m6 23 rfl) rfl
theorem q1583 : (Jvm.Cond.methodLink "ModuleEngine$Walker" (24 : Nat) ({ cls := "ModuleEngine$Walker", name := "take", desc := "()I" } : Jvm.MethodName)) ∈ lw_all := lw_g (lw_at lw_m6 24 rfl) rfl
theorem q1584 : (Jvm.Cond.privateMethod ({ cls := "ModuleEngine$Walker", name := "take", desc := "()I" } : Jvm.MethodName)) ∈ lw_tbl := lw_at lw_m6 25 rfl
theorem q1585 : (Jvm.Cond.instanceMethod ({ cls := "ModuleEngine$Walker", name := "take", desc := "()I" } : Jvm.MethodName)) ∈ lw_all := lw_g (lw_at lw_m6 26 rfl) rfl
theorem q1586 : (Jvm.Cond.code ({ cls := "ModuleEngine$Walker", name := "take", desc := "()I" } : Jvm.MethodName) prog_18_method_4_code (1 : Nat) (Option.some Jvm.ClassFile.FieldType.int)) ∈ lw_all := lw_g (lw_at lw_m6 27 rfl) rfl
theorem q1587 : (Jvm.Cond.constantLong "ModuleEngine$Walker" (28 : Nat) (-1 : Int64)) ∈ lw_all := lw_g (lw_at lw_m6 28 rfl) rfl
theorem q1609 : (Jvm.Cond.instanceMethod ({ cls := "ModuleEngine$Walker", name := "next", desc := "()V" } : Jvm.MethodName)) ∈ lw_all := lw_g (lw_at lw_m6 50 rfl) rfl
theorem q1610 : (Jvm.Cond.selects "ModuleEngine$Walker" ({ cls := "ModuleEngine$Walker", name := "next", desc := "()V" } : Jvm.MethodName) ({ cls := "ModuleEngine$Walker", name := "next", desc := "()V" } : Jvm.MethodName)) ∈ lw_all := lw_g (lw_at lw_m6 51 rfl) rfl
theorem q1611 : (Jvm.Cond.code ({ cls := "ModuleEngine$Walker", name := "next", desc := "()V" } : Jvm.MethodName) prog_18_method_8_code (4 : Nat) (Option.none : Option Jvm.ClassFile.FieldType)) ∈ lw_all := lw_g (lw_at lw_m6 52 rfl) rfl
theorem q1612 : (Jvm.Cond.constantLong "ModuleEngine$Walker" (46 : Nat) (2147483647 : Int64)) ∈ lw_all := lw_g (lw_at lw_m6 53 rfl) rfl
theorem q1613 : (Jvm.Cond.constant "ModuleEngine$Walker" (48 : Nat) (2147483647 : Int32)) ∈ lw_all := lw_g (lw_at lw_m6 54 rfl) rfl
theorem q1614 : (Jvm.Cond.methodLink "ModuleEngine$Walker" (49 : Nat) ({ cls := "ModuleEngine$Walker", name := "whole", desc := "()I" } : Jvm.MethodName)) ∈ lw_all := lw_g (lw_at lw_m6 55 rfl) rfl
theorem q1615 : (Jvm.Cond.methodLink "ModuleEngine$Walker" (52 : Nat) ({ cls := "ModuleEngine$Walker", name := "wholes", desc := "()V" } : Jvm.MethodName)) ∈ lw_all := lw_g (lw_at lw_m6 56 rfl) rfl
theorem q1616 : (Jvm.Cond.privateMethod ({ cls := "ModuleEngine$Walker", name := "wholes", desc := "()V" } : Jvm.MethodName)) ∈ lw_tbl := lw_at lw_m6 57 rfl
theorem q1617 : (Jvm.Cond.instanceMethod ({ cls := "ModuleEngine$Walker", name := "wholes", desc := "()V" } : Jvm.MethodName)) ∈ lw_all := lw_g (lw_at lw_m6 58 rfl) rfl
theorem q1618 : (Jvm.Cond.code ({ cls := "ModuleEngine$Walker", name := "wholes", desc := "()V" } : Jvm.MethodName) prog_18_method_9_code (2 : Nat) (Option.none : Option Jvm.ClassFile.FieldType)) ∈ lw_all := lw_g (lw_at lw_m6 59 rfl) rfl
theorem q1619 : (Jvm.Cond.methodLink "ModuleEngine$Walker" (55 : Nat) ({ cls := "ModuleEngine$Row", name := "cut", desc := "(I)V" } : Jvm.MethodName)) ∈ lw_all := lw_g (lw_at lw_m6 60 rfl) rfl
theorem q1620 : (Jvm.Cond.methodLink "ModuleEngine$Walker" (59 : Nat) ({ cls := "ModuleEngine$Row", name := "add", desc := "(I)V" } : Jvm.MethodName)) ∈ lw_all := lw_g (lw_at lw_m6 61 rfl) rfl
theorem q1621 : (Jvm.Cond.methodLink "ModuleEngine$Walker" (62 : Nat) ({ cls := "ModuleEngine$Row", name := "size", desc := "()I" } : Jvm.MethodName)) ∈ lw_all := lw_g (lw_at lw_m6 62 rfl) rfl
theorem q1622 : (Jvm.Cond.methodLink "ModuleEngine$Walker" (65 : Nat) ({ cls := "ModuleEngine$Row", name := "at", desc := "(I)I" } : Jvm.MethodName)) ∈ lw_all := lw_g (lw_at lw_m6 63 rfl) rfl
theorem q1623 : (Jvm.Cond.methodLink "ModuleEngine$Walker" (72 : Nat) ({ cls := "ModuleEngine$Walker", name := "bits", desc := "(I)J" } : Jvm.MethodName)) ∈ lw_all := lw_g (lw_at lw_m6 64 rfl) rfl
theorem q1624 : (Jvm.Cond.privateMethod ({ cls := "ModuleEngine$Walker", name := "bits", desc := "(I)J" } : Jvm.MethodName)) ∈ lw_tbl := lw_at lw_m6 65 rfl
theorem q1625 : (Jvm.Cond.instanceMethod ({ cls := "ModuleEngine$Walker", name := "bits", desc := "(I)J" } : Jvm.MethodName)) ∈ lw_all := lw_g (lw_at lw_m6 66 rfl) rfl
theorem q1626 : (Jvm.Cond.code ({ cls := "ModuleEngine$Walker", name := "bits", desc := "(I)J" } : Jvm.MethodName) prog_18_method_7_code (5 : Nat) (Option.some Jvm.ClassFile.FieldType.long)) ∈ lw_all := lw_g (lw_at lw_m6 67 rfl) rfl
theorem q1627 : (Jvm.Cond.methodLink "ModuleEngine$Walker" (76 : Nat) ({ cls := "ModuleEngine$Walker", name := "prefixed", desc := "()V" } : Jvm.MethodName)) ∈ lw_all := lw_g (lw_at lw_m6 68 rfl) rfl
theorem q1628 : (Jvm.Cond.privateMethod ({ cls := "ModuleEngine$Walker", name := "prefixed", desc := "()V" } : Jvm.MethodName)) ∈ lw_tbl := lw_at lw_m6 69 rfl
theorem q1629 : (Jvm.Cond.instanceMethod ({ cls := "ModuleEngine$Walker", name := "prefixed", desc := "()V" } : Jvm.MethodName)) ∈ lw_all := lw_g (lw_at lw_m6 70 rfl) rfl
theorem q1630 : (Jvm.Cond.code ({ cls := "ModuleEngine$Walker", name := "prefixed", desc := "()V" } : Jvm.MethodName) prog_18_method_10_code (2 : Nat) (Option.none : Option Jvm.ClassFile.FieldType)) ∈ lw_all := lw_g (lw_at lw_m6 71 rfl) rfl
theorem in_X12 : ∀ w ∈ wsX120, w ∈ lw_all := lw_in wsX120 [897, 899, 901, 903, 905, 907, 909, 911] (by decide +kernel) (by decide +kernel)

/-! ModuleEngine$Store -/
set_option maxRecDepth 100000
def RX13 : String := "ModuleEngine$Store"
def TX13 : u_T := fun k => match k with
  | 0 => ("ModuleEngine$Store", "modules", "[LModuleEngine$Module;", true)
  | 1 => ("ModuleEngine$Store", "bodies", "[I", true)
  | 2 => ("ModuleEngine$Store", "moduleCount", "I", false)
  | 3 => ("ModuleEngine$Store", "owners", "LModuleEngine$Row;", true)
  | 4 => ("ModuleEngine$Store", "types", "LModuleEngine$Row;", true)
  | 5 => ("ModuleEngine$Store", "homes", "LModuleEngine$Row;", true)
  | 6 => ("ModuleEngine$Store", "codes", "LModuleEngine$Row;", true)
  | 7 => ("ModuleEngine$Store", "tables", "LModuleEngine$Tables;", true)
  | 8 => ("ModuleEngine$Store", "pages", "LModuleEngine$Pages;", true)
  | 9 => ("ModuleEngine$Store", "tableBounds", "LModuleEngine$Row;", true)
  | 10 => ("ModuleEngine$Store", "memoryBounds", "LModuleEngine$Row;", true)
  | 11 => ("ModuleEngine$Store", "globalTypes", "LModuleEngine$Row;", true)
  | 12 => ("ModuleEngine$Store", "globalChanges", "LModuleEngine$Row;", true)
  | 13 => ("ModuleEngine$Store", "globals", "[J", true)
  | 14 => ("ModuleEngine$Store", "instanceModules", "[I", true)
  | 15 => ("ModuleEngine$Store", "functions", "[LModuleEngine$Row;", true)
  | 16 => ("ModuleEngine$Store", "tableRows", "[LModuleEngine$Row;", true)
  | 17 => ("ModuleEngine$Store", "memories", "[LModuleEngine$Row;", true)
  | 18 => ("ModuleEngine$Store", "globalRows", "[LModuleEngine$Row;", true)
  | 19 => ("ModuleEngine$Store", "elementStarts", "[LModuleEngine$Row;", true)
  | 20 => ("ModuleEngine$Store", "elementSizes", "[LModuleEngine$Row;", true)
  | 21 => ("ModuleEngine$Store", "dropped", "[LModuleEngine$Row;", true)
  | 22 => ("ModuleEngine$Store", "instanceCount", "I", false)
  | 23 => ("ModuleEngine$Store", "references", "[I", true)
  | 24 => ("ModuleEngine$Store", "referenceCount", "I", false)
  | 25 => ("ModuleEngine$Store", "walkers", "[LModuleEngine$Walker;", true)
  | _ => ("ModuleEngine$Store", "offers", "LModuleEngine$Row;", true)
def tyX13 : Nat → FieldType := fun k => match k with
  | 0 => .array (.object "ModuleEngine$Module")
  | 1 => .array .int
  | 2 => .int
  | 3 => .object "ModuleEngine$Row"
  | 4 => .object "ModuleEngine$Row"
  | 5 => .object "ModuleEngine$Row"
  | 6 => .object "ModuleEngine$Row"
  | 7 => .object "ModuleEngine$Tables"
  | 8 => .object "ModuleEngine$Pages"
  | 9 => .object "ModuleEngine$Row"
  | 10 => .object "ModuleEngine$Row"
  | 11 => .object "ModuleEngine$Row"
  | 12 => .object "ModuleEngine$Row"
  | 13 => .array .long
  | 14 => .array .int
  | 15 => .array (.object "ModuleEngine$Row")
  | 16 => .array (.object "ModuleEngine$Row")
  | 17 => .array (.object "ModuleEngine$Row")
  | 18 => .array (.object "ModuleEngine$Row")
  | 19 => .array (.object "ModuleEngine$Row")
  | 20 => .array (.object "ModuleEngine$Row")
  | 21 => .array (.object "ModuleEngine$Row")
  | 22 => .int
  | 23 => .array .int
  | 24 => .int
  | 25 => .array (.object "ModuleEngine$Walker")
  | _ => .object "ModuleEngine$Row"
abbrev wsX130 : List Cond := u_ws RX13 TX13 27
set_option maxRecDepth 100000 in
theorem nmX13 : ∀ a, a < 27 → ∀ b, b < 27 → a ≠ b → (TX13 a).2.1 ≠ (TX13 b).2.1 := by decide +kernel
set_option maxRecDepth 100000 in
theorem tyX13_ok : ∀ k, k < 27 → parseFieldDescriptor (TX13 k).2.2.1 = some (tyX13 k) := by decide +kernel
abbrev cX13_init : ByteArray := prog_15_method_1_code
def yX13_init : MethodName := ⟨RX13, "<init>", "()V"⟩
abbrev cX13_add : ByteArray := prog_15_method_10_code
def yX13_add : MethodName := ⟨RX13, "add", "(LModuleEngine$Module;I)V"⟩
abbrev cX13_offer : ByteArray := prog_15_method_18_code
def yX13_offer : MethodName := ⟨RX13, "offer", "(II)I"⟩
abbrev cX13_isExport : ByteArray := prog_15_method_14_code
def yX13_isExport : MethodName := ⟨RX13, "isExport", "(II)Z"⟩
abbrev cX13_isInstance : ByteArray := prog_15_method_4_code
def yX13_isInstance : MethodName := ⟨RX13, "isInstance", "(I)Z"⟩
abbrev cX13_exports : ByteArray := prog_15_method_13_code
def yX13_exports : MethodName := ⟨RX13, "exports", "(I)I"⟩
abbrev cX13_exportKind : ByteArray := prog_15_method_15_code
def yX13_exportKind : MethodName := ⟨RX13, "exportKind", "(II)I"⟩
abbrev cX13_exported : ByteArray := prog_15_method_16_code
def yX13_exported : MethodName := ⟨RX13, "exported", "(II)I"⟩
abbrev cX13_make : ByteArray := prog_15_method_25_code
def yX13_make : MethodName := ⟨RX13, "make", "(I)I"⟩
abbrev cX13_fits : ByteArray := prog_15_method_21_code
def yX13_fits : MethodName := ⟨RX13, "fits", "(LModuleEngine$Module;I)Z"⟩
abbrev cX13_cell : ByteArray := prog_15_method_19_code
def yX13_cell : MethodName := ⟨RX13, "cell", "(LModuleEngine$Module;II)I"⟩
abbrev cX13_moduleOf : ByteArray := prog_15_method_5_code
def yX13_moduleOf : MethodName := ⟨RX13, "moduleOf", "(I)LModuleEngine$Module;"⟩
abbrev cX13_isLike : ByteArray := prog_15_method_11_code
def yX13_isLike : MethodName := ⟨RX13, "isLike", "(LModuleEngine$Module;ILModuleEngine$Module;I)Z"⟩
abbrev cX13_isBounded : ByteArray := prog_15_method_22_code
def yX13_isBounded : MethodName := ⟨RX13, "isBounded", "(LModuleEngine$Row;I)Z"⟩
abbrev cX13_isAtLeast : ByteArray := prog_15_method_20_code
def yX13_isAtLeast : MethodName := ⟨RX13, "isAtLeast", "(JIJZII)Z"⟩
abbrev cX13_hasRoom : ByteArray := prog_15_method_24_code
def yX13_hasRoom : MethodName := ⟨RX13, "hasRoom", "(LModuleEngine$Module;I)Z"⟩
abbrev cX13_functionCount : ByteArray := prog_15_method_2_code
def yX13_functionCount : MethodName := ⟨RX13, "functionCount", "()I"⟩
abbrev cX13_sum : ByteArray := prog_15_method_23_code
def yX13_sum : MethodName := ⟨RX13, "sum", "(LModuleEngine$Row;)I"⟩
abbrev cX13_build : ByteArray := prog_15_method_26_code
def yX13_build : MethodName := ⟨RX13, "build", "(LModuleEngine$Module;II)I"⟩
abbrev cX13_addFunction : ByteArray := prog_15_method_12_code
def yX13_addFunction : MethodName := ⟨RX13, "addFunction", "(IIII)I"⟩
abbrev cX13_addTable : ByteArray := prog_15_method_27_code
def yX13_addTable : MethodName := ⟨RX13, "addTable", "(ILModuleEngine$Row;I)V"⟩
abbrev cX13_addMemory : ByteArray := prog_15_method_28_code
def yX13_addMemory : MethodName := ⟨RX13, "addMemory", "(ILModuleEngine$Row;I)V"⟩
abbrev cX13_constant : ByteArray := prog_15_method_29_code
def yX13_constant : MethodName := ⟨RX13, "constant", "(II)J"⟩
abbrev cX13_addElement : ByteArray := prog_15_method_30_code
def yX13_addElement : MethodName := ⟨RX13, "addElement", "(ILModuleEngine$Module;I)V"⟩
abbrev cX13_begin : ByteArray := prog_15_method_35_code
def yX13_begin : MethodName := ⟨RX13, "begin", "(I)I"⟩
abbrev cX13_initTable : ByteArray := prog_15_method_31_code
def yX13_initTable : MethodName := ⟨RX13, "initTable", "(IIIJJJ)Z"⟩
abbrev cX13_dropElement : ByteArray := prog_15_method_32_code
def yX13_dropElement : MethodName := ⟨RX13, "dropElement", "(II)V"⟩
abbrev cX13_initMemory : ByteArray := prog_15_method_33_code
def yX13_initMemory : MethodName := ⟨RX13, "initMemory", "(IIJJJ)Z"⟩
abbrev cX13_dropData : ByteArray := prog_15_method_34_code
def yX13_dropData : MethodName := ⟨RX13, "dropData", "(II)V"⟩
abbrev cX13_startOf : ByteArray := prog_15_method_36_code
def yX13_startOf : MethodName := ⟨RX13, "startOf", "(I)I"⟩
abbrev cX13_parametersOf : ByteArray := prog_15_method_6_code
def yX13_parametersOf : MethodName := ⟨RX13, "parametersOf", "(I)I"⟩
abbrev cX13_isHost : ByteArray := prog_15_method_3_code
def yX13_isHost : MethodName := ⟨RX13, "isHost", "(I)Z"⟩
abbrev cX13_is : ByteArray := prog_15_method_17_code
def yX13_is : MethodName := ⟨RX13, "is", "(III)Z"⟩
abbrev cX13_resultsOf : ByteArray := prog_15_method_7_code
def yX13_resultsOf : MethodName := ⟨RX13, "resultsOf", "(I)I"⟩
abbrev cX13_resultOf : ByteArray := prog_15_method_9_code
def yX13_resultOf : MethodName := ⟨RX13, "resultOf", "(II)I"⟩
abbrev cX13_parameterOf : ByteArray := prog_15_method_8_code
def yX13_parameterOf : MethodName := ⟨RX13, "parameterOf", "(II)I"⟩
theorem q373 : (Jvm.Cond.initialized "ModuleEngine$Store") ∈ lw_all := lw_g (lw_at lw_m1 14 rfl) rfl
theorem q427 : (Jvm.Cond.fieldLinkNest "ModuleEngine$Store" (140 : Nat) "ModuleEngine$Module" "bytes" "[B" "ModuleEngine") ∈ lw_tbl := lw_at lw_m1 68 rfl
theorem q434 : (Jvm.Cond.fieldLinkNest "ModuleEngine$Store" (171 : Nat) "ModuleEngine$Module" "imports" "LModuleEngine$Row;" "ModuleEngine") ∈ lw_tbl := lw_at lw_m1 75 rfl
theorem q438 : (Jvm.Cond.fieldLinkNest "ModuleEngine$Store" (219 : Nat) "ModuleEngine$Module" "functions" "LModuleEngine$Row;" "ModuleEngine") ∈ lw_tbl := lw_at lw_m1 79 rfl
theorem q442 : (Jvm.Cond.fieldLinkNest "ModuleEngine$Store" (224 : Nat) "ModuleEngine$Module" "tables" "LModuleEngine$Row;" "ModuleEngine") ∈ lw_tbl := lw_at lw_m1 83 rfl
theorem q446 : (Jvm.Cond.fieldLinkNest "ModuleEngine$Store" (227 : Nat) "ModuleEngine$Module" "memories" "LModuleEngine$Row;" "ModuleEngine") ∈ lw_tbl := lw_at lw_m1 87 rfl
theorem q450 : (Jvm.Cond.fieldLinkNest "ModuleEngine$Store" (229 : Nat) "ModuleEngine$Module" "globals" "LModuleEngine$Row;" "ModuleEngine") ∈ lw_tbl := lw_at lw_m1 91 rfl
theorem q454 : (Jvm.Cond.fieldLinkNest "ModuleEngine$Store" (152 : Nat) "ModuleEngine$Module" "exports" "LModuleEngine$Row;" "ModuleEngine") ∈ lw_tbl := lw_at lw_m1 95 rfl
theorem q458 : (Jvm.Cond.fieldLinkNest "ModuleEngine$Store" (213 : Nat) "ModuleEngine$Module" "elements" "LModuleEngine$Row;" "ModuleEngine") ∈ lw_tbl := lw_at lw_m1 99 rfl
theorem q462 : (Jvm.Cond.fieldLinkNest "ModuleEngine$Store" (304 : Nat) "ModuleEngine$Module" "items" "LModuleEngine$Row;" "ModuleEngine") ∈ lw_tbl := lw_at lw_m1 103 rfl
theorem q474 : (Jvm.Cond.fieldLinkNest "ModuleEngine$Store" (274 : Nat) "ModuleEngine$Module" "data" "LModuleEngine$Row;" "ModuleEngine") ∈ lw_tbl := lw_at lw_m1 115 rfl
theorem q482 : (Jvm.Cond.fieldLinkNest "ModuleEngine$Store" (337 : Nat) "ModuleEngine$Module" "start" "I" "ModuleEngine") ∈ lw_tbl := lw_at lw_m1 123 rfl
theorem q488 : (Jvm.Cond.fieldLinkNest "ModuleEngine$Store" (333 : Nat) "ModuleEngine$Module" "hasStart" "Z" "ModuleEngine") ∈ lw_tbl := lw_at lw_m1 129 rfl
theorem q886 : (Jvm.Cond.fieldLinkNest "ModuleEngine$Store" (292 : Nat) "ModuleEngine$Walker" "op" "I" "ModuleEngine") ∈ lw_tbl := lw_at lw_m3 47 rfl
theorem q889 : (Jvm.Cond.fieldLinkNest "ModuleEngine$Store" (295 : Nat) "ModuleEngine$Walker" "x" "I" "ModuleEngine") ∈ lw_tbl := lw_at lw_m3 50 rfl
theorem q893 : (Jvm.Cond.fieldLinkNest "ModuleEngine$Store" (300 : Nat) "ModuleEngine$Walker" "value" "J" "ModuleEngine") ∈ lw_tbl := lw_at lw_m3 54 rfl
theorem q943 : (Jvm.Cond.instantiable "ModuleEngine$Store" (27 : Nat)) ∈ lw_all := lw_g (lw_at lw_m3 104 rfl) rfl
theorem q945 : (Jvm.Cond.instanceMethod ({ cls := "ModuleEngine$Store", name := "<init>", desc := "()V" } : Jvm.MethodName)) ∈ lw_all := lw_g (lw_at lw_m3 106 rfl) rfl
theorem q946 : (Jvm.Cond.code ({ cls := "ModuleEngine$Store", name := "<init>", desc := "()V" } : Jvm.MethodName) prog_15_method_1_code (1 : Nat) (Option.none : Option Jvm.ClassFile.FieldType)) ∈ lw_all := lw_g (lw_at lw_m3 107 rfl) rfl
theorem q947 : (Jvm.Cond.methodLink "ModuleEngine$Store" (1 : Nat) ({ cls := "java/lang/Object", name := "<init>", desc := "()V" } : Jvm.MethodName)) ∈ lw_all := lw_g (lw_at lw_m3 108 rfl) rfl
theorem q948 : (Jvm.Cond.classLink "ModuleEngine$Store" (9 : Nat) "ModuleEngine$Module") ∈ lw_all := lw_g (lw_at lw_m3 109 rfl) rfl
theorem q950 : (Jvm.Cond.classLink "ModuleEngine$Store" (19 : Nat) "ModuleEngine$Row") ∈ lw_all := lw_g (lw_at lw_m3 111 rfl) rfl
theorem q951 : (Jvm.Cond.methodLinkNest "ModuleEngine$Store" (21 : Nat) ({ cls := "ModuleEngine$Row", name := "<init>", desc := "()V" } : Jvm.MethodName) "ModuleEngine") ∈ lw_tbl := lw_at lw_m3 112 rfl
theorem q952 : (Jvm.Cond.classLink "ModuleEngine$Store" (35 : Nat) "ModuleEngine$Tables") ∈ lw_all := lw_g (lw_at lw_m3 113 rfl) rfl
theorem q954 : (Jvm.Cond.methodLink "ModuleEngine$Store" (37 : Nat) ({ cls := "ModuleEngine$Tables", name := "<init>", desc := "([I[I[I[I[J)V" } : Jvm.MethodName)) ∈ lw_all := lw_g (lw_at lw_m3 115 rfl) rfl
theorem q980 : (Jvm.Cond.classLink "ModuleEngine$Store" (44 : Nat) "ModuleEngine$Pages") ∈ lw_all := lw_g (lw_at lw_m3 141 rfl) rfl
theorem q982 : (Jvm.Cond.constant "ModuleEngine$Store" (46 : Nat) (524288 : Int32)) ∈ lw_all := lw_g (lw_at lw_m3 143 rfl) rfl
theorem q983 : (Jvm.Cond.methodLink "ModuleEngine$Store" (47 : Nat) ({ cls := "ModuleEngine$Pages", name := "<init>", desc := "(I[B[I[I[I)V" } : Jvm.MethodName)) ∈ lw_all := lw_g (lw_at lw_m3 144 rfl) rfl
theorem q1012 : (Jvm.Cond.classLink "ModuleEngine$Store" (98 : Nat) "ModuleEngine$Walker") ∈ lw_all := lw_g (lw_at lw_m3 173 rfl) rfl
theorem q1014 : (Jvm.Cond.fieldLink "ModuleEngine$Store" (11 : Nat) "ModuleEngine$Store" "modules" "[LModuleEngine$Module;") ∈ lw_all := lw_g (lw_at lw_m3 175 rfl) rfl
theorem q1015 : (Jvm.Cond.fieldLink "ModuleEngine$Store" (15 : Nat) "ModuleEngine$Store" "bodies" "[I") ∈ lw_all := lw_g (lw_at lw_m3 176 rfl) rfl
theorem q1018 : (Jvm.Cond.fieldLink "ModuleEngine$Store" (136 : Nat) "ModuleEngine$Store" "moduleCount" "I") ∈ lw_all := lw_g (lw_at lw_m3 179 rfl) rfl
theorem q1019 : (Jvm.Cond.fieldLink "ModuleEngine$Store" (22 : Nat) "ModuleEngine$Store" "owners" "LModuleEngine$Row;") ∈ lw_all := lw_g (lw_at lw_m3 180 rfl) rfl
theorem q1021 : (Jvm.Cond.fieldLink "ModuleEngine$Store" (26 : Nat) "ModuleEngine$Store" "types" "LModuleEngine$Row;") ∈ lw_all := lw_g (lw_at lw_m3 182 rfl) rfl
theorem q1023 : (Jvm.Cond.fieldLink "ModuleEngine$Store" (29 : Nat) "ModuleEngine$Store" "homes" "LModuleEngine$Row;") ∈ lw_all := lw_g (lw_at lw_m3 184 rfl) rfl
theorem q1025 : (Jvm.Cond.fieldLink "ModuleEngine$Store" (32 : Nat) "ModuleEngine$Store" "codes" "LModuleEngine$Row;") ∈ lw_all := lw_g (lw_at lw_m3 186 rfl) rfl
theorem q1027 : (Jvm.Cond.fieldLink "ModuleEngine$Store" (40 : Nat) "ModuleEngine$Store" "tables" "LModuleEngine$Tables;") ∈ lw_all := lw_g (lw_at lw_m3 188 rfl) rfl
theorem q1030 : (Jvm.Cond.fieldLink "ModuleEngine$Store" (50 : Nat) "ModuleEngine$Store" "pages" "LModuleEngine$Pages;") ∈ lw_all := lw_g (lw_at lw_m3 191 rfl) rfl
theorem q1033 : (Jvm.Cond.fieldLink "ModuleEngine$Store" (54 : Nat) "ModuleEngine$Store" "tableBounds" "LModuleEngine$Row;") ∈ lw_all := lw_g (lw_at lw_m3 194 rfl) rfl
theorem q1034 : (Jvm.Cond.fieldLink "ModuleEngine$Store" (57 : Nat) "ModuleEngine$Store" "memoryBounds" "LModuleEngine$Row;") ∈ lw_all := lw_g (lw_at lw_m3 195 rfl) rfl
theorem q1035 : (Jvm.Cond.fieldLink "ModuleEngine$Store" (60 : Nat) "ModuleEngine$Store" "globalTypes" "LModuleEngine$Row;") ∈ lw_all := lw_g (lw_at lw_m3 196 rfl) rfl
theorem q1037 : (Jvm.Cond.fieldLink "ModuleEngine$Store" (63 : Nat) "ModuleEngine$Store" "globalChanges" "LModuleEngine$Row;") ∈ lw_all := lw_g (lw_at lw_m3 198 rfl) rfl
theorem q1038 : (Jvm.Cond.fieldLink "ModuleEngine$Store" (66 : Nat) "ModuleEngine$Store" "globals" "[J") ∈ lw_all := lw_g (lw_at lw_m3 199 rfl) rfl
theorem q1041 : (Jvm.Cond.fieldLink "ModuleEngine$Store" (70 : Nat) "ModuleEngine$Store" "instanceModules" "[I") ∈ lw_all := lw_g (lw_at lw_m3 202 rfl) rfl
theorem q1042 : (Jvm.Cond.fieldLink "ModuleEngine$Store" (73 : Nat) "ModuleEngine$Store" "functions" "[LModuleEngine$Row;") ∈ lw_all := lw_g (lw_at lw_m3 203 rfl) rfl
theorem q1044 : (Jvm.Cond.fieldLink "ModuleEngine$Store" (77 : Nat) "ModuleEngine$Store" "tableRows" "[LModuleEngine$Row;") ∈ lw_all := lw_g (lw_at lw_m3 205 rfl) rfl
theorem q1046 : (Jvm.Cond.fieldLink "ModuleEngine$Store" (80 : Nat) "ModuleEngine$Store" "memories" "[LModuleEngine$Row;") ∈ lw_all := lw_g (lw_at lw_m3 207 rfl) rfl
theorem q1048 : (Jvm.Cond.fieldLink "ModuleEngine$Store" (83 : Nat) "ModuleEngine$Store" "globalRows" "[LModuleEngine$Row;") ∈ lw_all := lw_g (lw_at lw_m3 209 rfl) rfl
theorem q1050 : (Jvm.Cond.fieldLink "ModuleEngine$Store" (86 : Nat) "ModuleEngine$Store" "elementStarts" "[LModuleEngine$Row;") ∈ lw_all := lw_g (lw_at lw_m3 211 rfl) rfl
theorem q1051 : (Jvm.Cond.fieldLink "ModuleEngine$Store" (89 : Nat) "ModuleEngine$Store" "elementSizes" "[LModuleEngine$Row;") ∈ lw_all := lw_g (lw_at lw_m3 212 rfl) rfl
theorem q1052 : (Jvm.Cond.fieldLink "ModuleEngine$Store" (92 : Nat) "ModuleEngine$Store" "dropped" "[LModuleEngine$Row;") ∈ lw_all := lw_g (lw_at lw_m3 213 rfl) rfl
theorem q1053 : (Jvm.Cond.fieldLink "ModuleEngine$Store" (115 : Nat) "ModuleEngine$Store" "instanceCount" "I") ∈ lw_all := lw_g (lw_at lw_m3 214 rfl) rfl
theorem q1055 : (Jvm.Cond.fieldLink "ModuleEngine$Store" (95 : Nat) "ModuleEngine$Store" "references" "[I") ∈ lw_all := lw_g (lw_at lw_m3 216 rfl) rfl
theorem q1056 : (Jvm.Cond.fieldLink "ModuleEngine$Store" (239 : Nat) "ModuleEngine$Store" "referenceCount" "I") ∈ lw_all := lw_g (lw_at lw_m3 217 rfl) rfl
theorem q1057 : (Jvm.Cond.fieldLink "ModuleEngine$Store" (100 : Nat) "ModuleEngine$Store" "walkers" "[LModuleEngine$Walker;") ∈ lw_all := lw_g (lw_at lw_m3 218 rfl) rfl
theorem q1058 : (Jvm.Cond.fieldLink "ModuleEngine$Store" (104 : Nat) "ModuleEngine$Store" "offers" "LModuleEngine$Row;") ∈ lw_all := lw_g (lw_at lw_m3 219 rfl) rfl
theorem q1059 : (Jvm.Cond.laysFinal "ModuleEngine$Store" "ModuleEngine$Store" "modules" "[LModuleEngine$Module;") ∈ lw_all := lw_g (lw_at lw_m3 220 rfl) rfl
theorem q1060 : (Jvm.Cond.soleField "ModuleEngine$Store" "modules") ∈ lw_all := lw_g (lw_at lw_m3 221 rfl) rfl
theorem q1061 : (Jvm.Cond.laysFinal "ModuleEngine$Store" "ModuleEngine$Store" "bodies" "[I") ∈ lw_all := lw_g (lw_at lw_m3 222 rfl) rfl
theorem q1062 : (Jvm.Cond.soleField "ModuleEngine$Store" "bodies") ∈ lw_all := lw_g (lw_at lw_m3 223 rfl) rfl
theorem q1063 : (Jvm.Cond.lays "ModuleEngine$Store" "ModuleEngine$Store" "moduleCount" "I") ∈ lw_all := lw_g (lw_at lw_m3 224 rfl) rfl
theorem q1064 : (Jvm.Cond.soleField "ModuleEngine$Store" "moduleCount") ∈ lw_all := lw_g (lw_at lw_m3 225 rfl) rfl
theorem q1065 : (Jvm.Cond.laysFinal "ModuleEngine$Store" "ModuleEngine$Store" "owners" "LModuleEngine$Row;") ∈ lw_all := lw_g (lw_at lw_m3 226 rfl) rfl
theorem q1066 : (Jvm.Cond.soleField "ModuleEngine$Store" "owners") ∈ lw_all := lw_g (lw_at lw_m3 227 rfl) rfl
theorem q1067 : (Jvm.Cond.laysFinal "ModuleEngine$Store" "ModuleEngine$Store" "types" "LModuleEngine$Row;") ∈ lw_all := lw_g (lw_at lw_m3 228 rfl) rfl
theorem q1068 : (Jvm.Cond.soleField "ModuleEngine$Store" "types") ∈ lw_all := lw_g (lw_at lw_m3 229 rfl) rfl
theorem q1069 : (Jvm.Cond.laysFinal "ModuleEngine$Store" "ModuleEngine$Store" "homes" "LModuleEngine$Row;") ∈ lw_all := lw_g (lw_at lw_m3 230 rfl) rfl
theorem q1070 : (Jvm.Cond.soleField "ModuleEngine$Store" "homes") ∈ lw_all := lw_g (lw_at lw_m3 231 rfl) rfl
theorem q1071 : (Jvm.Cond.laysFinal "ModuleEngine$Store" "ModuleEngine$Store" "codes" "LModuleEngine$Row;") ∈ lw_all := lw_g (lw_at lw_m3 232 rfl) rfl
theorem q1072 : (Jvm.Cond.soleField "ModuleEngine$Store" "codes") ∈ lw_all := lw_g (lw_at lw_m3 233 rfl) rfl
theorem q1073 : (Jvm.Cond.laysFinal "ModuleEngine$Store" "ModuleEngine$Store" "tables" "LModuleEngine$Tables;") ∈ lw_all := lw_g (lw_at lw_m3 234 rfl) rfl
theorem q1074 : (Jvm.Cond.soleField "ModuleEngine$Store" "tables") ∈ lw_all := lw_g (lw_at lw_m3 235 rfl) rfl
theorem q1075 : (Jvm.Cond.laysFinal "ModuleEngine$Store" "ModuleEngine$Store" "pages" "LModuleEngine$Pages;") ∈ lw_all := lw_g (lw_at lw_m3 236 rfl) rfl
theorem q1076 : (Jvm.Cond.soleField "ModuleEngine$Store" "pages") ∈ lw_all := lw_g (lw_at lw_m3 237 rfl) rfl
theorem q1077 : (Jvm.Cond.laysFinal "ModuleEngine$Store" "ModuleEngine$Store" "tableBounds" "LModuleEngine$Row;") ∈ lw_all := lw_g (lw_at lw_m3 238 rfl) rfl
theorem q1078 : (Jvm.Cond.soleField "ModuleEngine$Store" "tableBounds") ∈ lw_all := lw_g (lw_at lw_m3 239 rfl) rfl
theorem q1079 : (Jvm.Cond.laysFinal "ModuleEngine$Store" "ModuleEngine$Store" "memoryBounds" "LModuleEngine$Row;") ∈ lw_all := lw_g (lw_at lw_m4 0 rfl) rfl
theorem q1080 : (Jvm.Cond.soleField "ModuleEngine$Store" "memoryBounds") ∈ lw_all := lw_g (lw_at lw_m4 1 rfl) rfl
theorem q1081 : (Jvm.Cond.laysFinal "ModuleEngine$Store" "ModuleEngine$Store" "globalTypes" "LModuleEngine$Row;") ∈ lw_all := lw_g (lw_at lw_m4 2 rfl) rfl
theorem q1082 : (Jvm.Cond.soleField "ModuleEngine$Store" "globalTypes") ∈ lw_all := lw_g (lw_at lw_m4 3 rfl) rfl
theorem q1083 : (Jvm.Cond.laysFinal "ModuleEngine$Store" "ModuleEngine$Store" "globalChanges" "LModuleEngine$Row;") ∈ lw_all := lw_g (lw_at lw_m4 4 rfl) rfl
theorem q1084 : (Jvm.Cond.soleField "ModuleEngine$Store" "globalChanges") ∈ lw_all := lw_g (lw_at lw_m4 5 rfl) rfl
theorem q1085 : (Jvm.Cond.laysFinal "ModuleEngine$Store" "ModuleEngine$Store" "globals" "[J") ∈ lw_all := lw_g (lw_at lw_m4 6 rfl) rfl
theorem q1086 : (Jvm.Cond.soleField "ModuleEngine$Store" "globals") ∈ lw_all := lw_g (lw_at lw_m4 7 rfl) rfl
theorem q1087 : (Jvm.Cond.laysFinal "ModuleEngine$Store" "ModuleEngine$Store" "instanceModules" "[I") ∈ lw_all := lw_g (lw_at lw_m4 8 rfl) rfl
theorem q1088 : (Jvm.Cond.soleField "ModuleEngine$Store" "instanceModules") ∈ lw_all := lw_g (lw_at lw_m4 9 rfl) rfl
theorem q1089 : (Jvm.Cond.laysFinal "ModuleEngine$Store" "ModuleEngine$Store" "functions" "[LModuleEngine$Row;") ∈ lw_all := lw_g (lw_at lw_m4 10 rfl) rfl
theorem q1090 : (Jvm.Cond.soleField "ModuleEngine$Store" "functions") ∈ lw_all := lw_g (lw_at lw_m4 11 rfl) rfl
theorem q1091 : (Jvm.Cond.laysFinal "ModuleEngine$Store" "ModuleEngine$Store" "tableRows" "[LModuleEngine$Row;") ∈ lw_all := lw_g (lw_at lw_m4 12 rfl) rfl
theorem q1092 : (Jvm.Cond.soleField "ModuleEngine$Store" "tableRows") ∈ lw_all := lw_g (lw_at lw_m4 13 rfl) rfl
theorem q1093 : (Jvm.Cond.laysFinal "ModuleEngine$Store" "ModuleEngine$Store" "memories" "[LModuleEngine$Row;") ∈ lw_all := lw_g (lw_at lw_m4 14 rfl) rfl
theorem q1094 : (Jvm.Cond.soleField "ModuleEngine$Store" "memories") ∈ lw_all := lw_g (lw_at lw_m4 15 rfl) rfl
theorem q1095 : (Jvm.Cond.laysFinal "ModuleEngine$Store" "ModuleEngine$Store" "globalRows" "[LModuleEngine$Row;") ∈ lw_all := lw_g (lw_at lw_m4 16 rfl) rfl
theorem q1096 : (Jvm.Cond.soleField "ModuleEngine$Store" "globalRows") ∈ lw_all := lw_g (lw_at lw_m4 17 rfl) rfl
theorem q1097 : (Jvm.Cond.laysFinal "ModuleEngine$Store" "ModuleEngine$Store" "elementStarts" "[LModuleEngine$Row;") ∈ lw_all := lw_g (lw_at lw_m4 18 rfl) rfl
theorem q1098 : (Jvm.Cond.soleField "ModuleEngine$Store" "elementStarts") ∈ lw_all := lw_g (lw_at lw_m4 19 rfl) rfl
theorem q1099 : (Jvm.Cond.laysFinal "ModuleEngine$Store" "ModuleEngine$Store" "elementSizes" "[LModuleEngine$Row;") ∈ lw_all := lw_g (lw_at lw_m4 20 rfl) rfl
theorem q1100 : (Jvm.Cond.soleField "ModuleEngine$Store" "elementSizes") ∈ lw_all := lw_g (lw_at lw_m4 21 rfl) rfl
theorem q1101 : (Jvm.Cond.laysFinal "ModuleEngine$Store" "ModuleEngine$Store" "dropped" "[LModuleEngine$Row;") ∈ lw_all := lw_g (lw_at lw_m4 22 rfl) rfl
theorem q1102 : (Jvm.Cond.soleField "ModuleEngine$Store" "dropped") ∈ lw_all := lw_g (lw_at lw_m4 23 rfl) rfl
theorem q1103 : (Jvm.Cond.lays "ModuleEngine$Store" "ModuleEngine$Store" "instanceCount" "I") ∈ lw_all := lw_g (lw_at lw_m4 24 rfl) rfl
theorem q1104 : (Jvm.Cond.soleField "ModuleEngine$Store" "instanceCount") ∈ lw_all := lw_g (lw_at lw_m4 25 rfl) rfl
theorem q1105 : (Jvm.Cond.laysFinal "ModuleEngine$Store" "ModuleEngine$Store" "references" "[I") ∈ lw_all := lw_g (lw_at lw_m4 26 rfl) rfl
theorem q1106 : (Jvm.Cond.soleField "ModuleEngine$Store" "references") ∈ lw_all := lw_g (lw_at lw_m4 27 rfl) rfl
theorem q1107 : (Jvm.Cond.lays "ModuleEngine$Store" "ModuleEngine$Store" "referenceCount" "I") ∈ lw_all := lw_g (lw_at lw_m4 28 rfl) rfl
theorem q1108 : (Jvm.Cond.soleField "ModuleEngine$Store" "referenceCount") ∈ lw_all := lw_g (lw_at lw_m4 29 rfl) rfl
theorem q1109 : (Jvm.Cond.laysFinal "ModuleEngine$Store" "ModuleEngine$Store" "walkers" "[LModuleEngine$Walker;") ∈ lw_all := lw_g (lw_at lw_m4 30 rfl) rfl
theorem q1110 : (Jvm.Cond.soleField "ModuleEngine$Store" "walkers") ∈ lw_all := lw_g (lw_at lw_m4 31 rfl) rfl
theorem q1111 : (Jvm.Cond.laysFinal "ModuleEngine$Store" "ModuleEngine$Store" "offers" "LModuleEngine$Row;") ∈ lw_all := lw_g (lw_at lw_m4 32 rfl) rfl
theorem q1112 : (Jvm.Cond.soleField "ModuleEngine$Store" "offers") ∈ lw_all := lw_g (lw_at lw_m4 33 rfl) rfl
theorem q1113 : (Jvm.Cond.superclass "ModuleEngine$Store" "java/lang/Object") ∈ lw_all := lw_g (lw_at lw_m4 34 rfl) rfl
theorem q2141 : (Jvm.Cond.instanceMethod ({ cls := "ModuleEngine$Store", name := "add", desc := "(LModuleEngine$Module;I)V" } : Jvm.MethodName)) ∈ lw_all := lw_g (lw_at lw_m8 102 rfl) rfl
theorem q2142 : (Jvm.Cond.selects "ModuleEngine$Store" ({ cls := "ModuleEngine$Store", name := "add", desc := "(LModuleEngine$Module;I)V" } : Jvm.MethodName) ({ cls := "ModuleEngine$Store", name := "add", desc := "(LModuleEngine$Module;I)V" } : Jvm.MethodName)) ∈ lw_all := lw_g (lw_at lw_m8 103 rfl) rfl
theorem q2143 : (Jvm.Cond.code ({ cls := "ModuleEngine$Store", name := "add", desc := "(LModuleEngine$Module;I)V" } : Jvm.MethodName) prog_15_method_10_code (3 : Nat) (Option.none : Option Jvm.ClassFile.FieldType)) ∈ lw_all := lw_g (lw_at lw_m8 104 rfl) rfl
theorem q2144 : (Jvm.Cond.methodLinkNest "ModuleEngine$Store" (139 : Nat) ({ cls := "ModuleEngine$Walker", name := "<init>", desc := "()V" } : Jvm.MethodName) "ModuleEngine") ∈ lw_tbl := lw_at lw_m8 105 rfl
theorem q2145 : (Jvm.Cond.methodLink "ModuleEngine$Store" (144 : Nat) ({ cls := "ModuleEngine$Walker", name := "over", desc := "([B)V" } : Jvm.MethodName)) ∈ lw_all := lw_g (lw_at lw_m8 106 rfl) rfl
theorem q2155 : (Jvm.Cond.instanceMethod ({ cls := "ModuleEngine$Store", name := "offer", desc := "(II)I" } : Jvm.MethodName)) ∈ lw_all := lw_g (lw_at lw_m8 116 rfl) rfl
theorem q2156 : (Jvm.Cond.selects "ModuleEngine$Store" ({ cls := "ModuleEngine$Store", name := "offer", desc := "(II)I" } : Jvm.MethodName) ({ cls := "ModuleEngine$Store", name := "offer", desc := "(II)I" } : Jvm.MethodName)) ∈ lw_all := lw_g (lw_at lw_m8 117 rfl) rfl
theorem q2157 : (Jvm.Cond.code ({ cls := "ModuleEngine$Store", name := "offer", desc := "(II)I" } : Jvm.MethodName) prog_15_method_18_code (4 : Nat) (Option.some Jvm.ClassFile.FieldType.int)) ∈ lw_all := lw_g (lw_at lw_m8 118 rfl) rfl
theorem q2158 : (Jvm.Cond.methodLink "ModuleEngine$Store" (164 : Nat) ({ cls := "ModuleEngine$Store", name := "isExport", desc := "(II)Z" } : Jvm.MethodName)) ∈ lw_all := lw_g (lw_at lw_m8 119 rfl) rfl
theorem q2159 : (Jvm.Cond.instanceMethod ({ cls := "ModuleEngine$Store", name := "isExport", desc := "(II)Z" } : Jvm.MethodName)) ∈ lw_all := lw_g (lw_at lw_m8 120 rfl) rfl
theorem q2160 : (Jvm.Cond.selects "ModuleEngine$Store" ({ cls := "ModuleEngine$Store", name := "isExport", desc := "(II)Z" } : Jvm.MethodName) ({ cls := "ModuleEngine$Store", name := "isExport", desc := "(II)Z" } : Jvm.MethodName)) ∈ lw_all := lw_g (lw_at lw_m8 121 rfl) rfl
theorem q2161 : (Jvm.Cond.code ({ cls := "ModuleEngine$Store", name := "isExport", desc := "(II)Z" } : Jvm.MethodName) prog_15_method_14_code (3 : Nat) (Option.some Jvm.ClassFile.FieldType.boolean)) ∈ lw_all := lw_g (lw_at lw_m8 122 rfl) rfl
theorem q2162 : (Jvm.Cond.methodLink "ModuleEngine$Store" (155 : Nat) ({ cls := "ModuleEngine$Store", name := "isInstance", desc := "(I)Z" } : Jvm.MethodName)) ∈ lw_all := lw_g (lw_at lw_m8 123 rfl) rfl
theorem q2163 : (Jvm.Cond.instanceMethod ({ cls := "ModuleEngine$Store", name := "isInstance", desc := "(I)Z" } : Jvm.MethodName)) ∈ lw_all := lw_g (lw_at lw_m8 124 rfl) rfl
theorem q2164 : (Jvm.Cond.selects "ModuleEngine$Store" ({ cls := "ModuleEngine$Store", name := "isInstance", desc := "(I)Z" } : Jvm.MethodName) ({ cls := "ModuleEngine$Store", name := "isInstance", desc := "(I)Z" } : Jvm.MethodName)) ∈ lw_all := lw_g (lw_at lw_m8 125 rfl) rfl
theorem q2165 : (Jvm.Cond.code ({ cls := "ModuleEngine$Store", name := "isInstance", desc := "(I)Z" } : Jvm.MethodName) prog_15_method_4_code (2 : Nat) (Option.some Jvm.ClassFile.FieldType.boolean)) ∈ lw_all := lw_g (lw_at lw_m8 126 rfl) rfl
theorem q2166 : (Jvm.Cond.methodLink "ModuleEngine$Store" (159 : Nat) ({ cls := "ModuleEngine$Store", name := "exports", desc := "(I)I" } : Jvm.MethodName)) ∈ lw_all := lw_g (lw_at lw_m8 127 rfl) rfl
theorem q2167 : (Jvm.Cond.instanceMethod ({ cls := "ModuleEngine$Store", name := "exports", desc := "(I)I" } : Jvm.MethodName)) ∈ lw_all := lw_g (lw_at lw_m8 128 rfl) rfl
theorem q2168 : (Jvm.Cond.selects "ModuleEngine$Store" ({ cls := "ModuleEngine$Store", name := "exports", desc := "(I)I" } : Jvm.MethodName) ({ cls := "ModuleEngine$Store", name := "exports", desc := "(I)I" } : Jvm.MethodName)) ∈ lw_all := lw_g (lw_at lw_m8 129 rfl) rfl
theorem q2169 : (Jvm.Cond.code ({ cls := "ModuleEngine$Store", name := "exports", desc := "(I)I" } : Jvm.MethodName) prog_15_method_13_code (2 : Nat) (Option.some Jvm.ClassFile.FieldType.int)) ∈ lw_all := lw_g (lw_at lw_m8 130 rfl) rfl
theorem q2170 : (Jvm.Cond.methodLink "ModuleEngine$Store" (107 : Nat) ({ cls := "ModuleEngine$Row", name := "size", desc := "()I" } : Jvm.MethodName)) ∈ lw_all := lw_g (lw_at lw_m8 131 rfl) rfl
theorem q2171 : (Jvm.Cond.methodLink "ModuleEngine$Store" (161 : Nat) ({ cls := "ModuleEngine$Store", name := "exportKind", desc := "(II)I" } : Jvm.MethodName)) ∈ lw_all := lw_g (lw_at lw_m8 132 rfl) rfl
theorem q2172 : (Jvm.Cond.instanceMethod ({ cls := "ModuleEngine$Store", name := "exportKind", desc := "(II)I" } : Jvm.MethodName)) ∈ lw_all := lw_g (lw_at lw_m8 133 rfl) rfl
theorem q2173 : (Jvm.Cond.selects "ModuleEngine$Store" ({ cls := "ModuleEngine$Store", name := "exportKind", desc := "(II)I" } : Jvm.MethodName) ({ cls := "ModuleEngine$Store", name := "exportKind", desc := "(II)I" } : Jvm.MethodName)) ∈ lw_all := lw_g (lw_at lw_m8 134 rfl) rfl
theorem q2174 : (Jvm.Cond.code ({ cls := "ModuleEngine$Store", name := "exportKind", desc := "(II)I" } : Jvm.MethodName) prog_15_method_15_code (3 : Nat) (Option.some Jvm.ClassFile.FieldType.int)) ∈ lw_all := lw_g (lw_at lw_m8 135 rfl) rfl
theorem q2175 : (Jvm.Cond.methodLink "ModuleEngine$Store" (111 : Nat) ({ cls := "ModuleEngine$Row", name := "at", desc := "(I)I" } : Jvm.MethodName)) ∈ lw_all := lw_g (lw_at lw_m8 136 rfl) rfl
theorem q2176 : (Jvm.Cond.methodLink "ModuleEngine$Store" (148 : Nat) ({ cls := "ModuleEngine$Row", name := "add", desc := "(I)V" } : Jvm.MethodName)) ∈ lw_all := lw_g (lw_at lw_m8 137 rfl) rfl
theorem q2177 : (Jvm.Cond.methodLink "ModuleEngine$Store" (168 : Nat) ({ cls := "ModuleEngine$Store", name := "exported", desc := "(II)I" } : Jvm.MethodName)) ∈ lw_all := lw_g (lw_at lw_m8 138 rfl) rfl
theorem q2178 : (Jvm.Cond.instanceMethod ({ cls := "ModuleEngine$Store", name := "exported", desc := "(II)I" } : Jvm.MethodName)) ∈ lw_all := lw_g (lw_at lw_m8 139 rfl) rfl
theorem q2179 : (Jvm.Cond.selects "ModuleEngine$Store" ({ cls := "ModuleEngine$Store", name := "exported", desc := "(II)I" } : Jvm.MethodName) ({ cls := "ModuleEngine$Store", name := "exported", desc := "(II)I" } : Jvm.MethodName)) ∈ lw_all := lw_g (lw_at lw_m8 140 rfl) rfl
theorem q2180 : (Jvm.Cond.code ({ cls := "ModuleEngine$Store", name := "exported", desc := "(II)I" } : Jvm.MethodName) prog_15_method_16_code (5 : Nat) (Option.some Jvm.ClassFile.FieldType.int)) ∈ lw_all := lw_g (lw_at lw_m8 141 rfl) rfl
theorem q2190 : (Jvm.Cond.instanceMethod ({ cls := "ModuleEngine$Store", name := "make", desc := "(I)I" } : Jvm.MethodName)) ∈ lw_all := lw_g (lw_at lw_m8 151 rfl) rfl
theorem q2191 : (Jvm.Cond.selects "ModuleEngine$Store" ({ cls := "ModuleEngine$Store", name := "make", desc := "(I)I" } : Jvm.MethodName) ({ cls := "ModuleEngine$Store", name := "make", desc := "(I)I" } : Jvm.MethodName)) ∈ lw_all := lw_g (lw_at lw_m8 152 rfl) rfl
theorem q2192 : (Jvm.Cond.code ({ cls := "ModuleEngine$Store", name := "make", desc := "(I)I" } : Jvm.MethodName) prog_15_method_25_code (7 : Nat) (Option.some Jvm.ClassFile.FieldType.int)) ∈ lw_all := lw_g (lw_at lw_m8 153 rfl) rfl
theorem q2193 : (Jvm.Cond.methodLink "ModuleEngine$Store" (242 : Nat) ({ cls := "ModuleEngine$Store", name := "fits", desc := "(LModuleEngine$Module;I)Z" } : Jvm.MethodName)) ∈ lw_all := lw_g (lw_at lw_m8 154 rfl) rfl
theorem q2194 : (Jvm.Cond.privateMethod ({ cls := "ModuleEngine$Store", name := "fits", desc := "(LModuleEngine$Module;I)Z" } : Jvm.MethodName)) ∈ lw_tbl := lw_at lw_m8 155 rfl
theorem q2195 : (Jvm.Cond.instanceMethod ({ cls := "ModuleEngine$Store", name := "fits", desc := "(LModuleEngine$Module;I)Z" } : Jvm.MethodName)) ∈ lw_all := lw_g (lw_at lw_m8 156 rfl) rfl
theorem q2196 : (Jvm.Cond.code ({ cls := "ModuleEngine$Store", name := "fits", desc := "(LModuleEngine$Module;I)Z" } : Jvm.MethodName) prog_15_method_21_code (10 : Nat) (Option.some Jvm.ClassFile.FieldType.boolean)) ∈ lw_all := lw_g (lw_at lw_m8 157 rfl) rfl
theorem q2197 : (Jvm.Cond.methodLink "ModuleEngine$Store" (178 : Nat) ({ cls := "ModuleEngine$Store", name := "cell", desc := "(LModuleEngine$Module;II)I" } : Jvm.MethodName)) ∈ lw_all := lw_g (lw_at lw_m8 158 rfl) rfl
theorem q2198 : (Jvm.Cond.static ({ cls := "ModuleEngine$Store", name := "cell", desc := "(LModuleEngine$Module;II)I" } : Jvm.MethodName)) ∈ lw_all := lw_g (lw_at lw_m8 159 rfl) rfl
theorem q2199 : (Jvm.Cond.code ({ cls := "ModuleEngine$Store", name := "cell", desc := "(LModuleEngine$Module;II)I" } : Jvm.MethodName) prog_15_method_19_code (3 : Nat) (Option.some Jvm.ClassFile.FieldType.int)) ∈ lw_all := lw_g (lw_at lw_m8 160 rfl) rfl
theorem q2200 : (Jvm.Cond.methodLink "ModuleEngine$Store" (119 : Nat) ({ cls := "ModuleEngine$Store", name := "moduleOf", desc := "(I)LModuleEngine$Module;" } : Jvm.MethodName)) ∈ lw_all := lw_g (lw_at lw_m8 161 rfl) rfl
theorem q2201 : (Jvm.Cond.instanceMethod ({ cls := "ModuleEngine$Store", name := "moduleOf", desc := "(I)LModuleEngine$Module;" } : Jvm.MethodName)) ∈ lw_all := lw_g (lw_at lw_m8 162 rfl) rfl
theorem q2202 : (Jvm.Cond.selects "ModuleEngine$Store" ({ cls := "ModuleEngine$Store", name := "moduleOf", desc := "(I)LModuleEngine$Module;" } : Jvm.MethodName) ({ cls := "ModuleEngine$Store", name := "moduleOf", desc := "(I)LModuleEngine$Module;" } : Jvm.MethodName)) ∈ lw_all := lw_g (lw_at lw_m8 163 rfl) rfl
theorem q2203 : (Jvm.Cond.code ({ cls := "ModuleEngine$Store", name := "moduleOf", desc := "(I)LModuleEngine$Module;" } : Jvm.MethodName) prog_15_method_5_code (2 : Nat) (Option.some (Jvm.ClassFile.FieldType.object "ModuleEngine$Module"))) ∈ lw_all := lw_g (lw_at lw_m8 164 rfl) rfl
theorem q2204 : (Jvm.Cond.methodLink "ModuleEngine$Store" (182 : Nat) ({ cls := "ModuleEngine$Store", name := "isLike", desc := "(LModuleEngine$Module;ILModuleEngine$Module;I)Z" } : Jvm.MethodName)) ∈ lw_all := lw_g (lw_at lw_m8 165 rfl) rfl
theorem q2205 : (Jvm.Cond.static ({ cls := "ModuleEngine$Store", name := "isLike", desc := "(LModuleEngine$Module;ILModuleEngine$Module;I)Z" } : Jvm.MethodName)) ∈ lw_all := lw_g (lw_at lw_m8 166 rfl) rfl
theorem q2206 : (Jvm.Cond.code ({ cls := "ModuleEngine$Store", name := "isLike", desc := "(LModuleEngine$Module;ILModuleEngine$Module;I)Z" } : Jvm.MethodName) prog_15_method_11_code (5 : Nat) (Option.some Jvm.ClassFile.FieldType.boolean)) ∈ lw_all := lw_g (lw_at lw_m8 167 rfl) rfl
theorem q2207 : (Jvm.Cond.methodLink "ModuleEngine$Store" (123 : Nat) ({ cls := "ModuleEngine$Module", name := "parameters", desc := "(I)I" } : Jvm.MethodName)) ∈ lw_all := lw_g (lw_at lw_m8 168 rfl) rfl
theorem q2208 : (Jvm.Cond.methodLink "ModuleEngine$Store" (126 : Nat) ({ cls := "ModuleEngine$Module", name := "results", desc := "(I)I" } : Jvm.MethodName)) ∈ lw_all := lw_g (lw_at lw_m8 169 rfl) rfl
theorem q2209 : (Jvm.Cond.methodLink "ModuleEngine$Store" (129 : Nat) ({ cls := "ModuleEngine$Module", name := "parameter", desc := "(II)I" } : Jvm.MethodName)) ∈ lw_all := lw_g (lw_at lw_m8 170 rfl) rfl
theorem q2210 : (Jvm.Cond.methodLink "ModuleEngine$Store" (133 : Nat) ({ cls := "ModuleEngine$Module", name := "result", desc := "(II)I" } : Jvm.MethodName)) ∈ lw_all := lw_g (lw_at lw_m8 171 rfl) rfl
theorem q2211 : (Jvm.Cond.methodLink "ModuleEngine$Store" (186 : Nat) ({ cls := "ModuleEngine$Tables", name := "type", desc := "(I)I" } : Jvm.MethodName)) ∈ lw_all := lw_g (lw_at lw_m8 172 rfl) rfl
theorem q2215 : (Jvm.Cond.methodLink "ModuleEngine$Store" (189 : Nat) ({ cls := "ModuleEngine$Tables", name := "size", desc := "(I)I" } : Jvm.MethodName)) ∈ lw_all := lw_g (lw_at lw_m8 176 rfl) rfl
theorem q2219 : (Jvm.Cond.methodLink "ModuleEngine$Store" (191 : Nat) ({ cls := "ModuleEngine$Tables", name := "limit", desc := "(I)J" } : Jvm.MethodName)) ∈ lw_all := lw_g (lw_at lw_m8 180 rfl) rfl
theorem q2223 : (Jvm.Cond.methodLink "ModuleEngine$Store" (194 : Nat) ({ cls := "ModuleEngine$Store", name := "isBounded", desc := "(LModuleEngine$Row;I)Z" } : Jvm.MethodName)) ∈ lw_all := lw_g (lw_at lw_m8 184 rfl) rfl
theorem q2224 : (Jvm.Cond.static ({ cls := "ModuleEngine$Store", name := "isBounded", desc := "(LModuleEngine$Row;I)Z" } : Jvm.MethodName)) ∈ lw_all := lw_g (lw_at lw_m8 185 rfl) rfl
theorem q2225 : (Jvm.Cond.code ({ cls := "ModuleEngine$Store", name := "isBounded", desc := "(LModuleEngine$Row;I)Z" } : Jvm.MethodName) prog_15_method_22_code (2 : Nat) (Option.some Jvm.ClassFile.FieldType.boolean)) ∈ lw_all := lw_g (lw_at lw_m8 186 rfl) rfl
theorem q2226 : (Jvm.Cond.methodLink "ModuleEngine$Store" (198 : Nat) ({ cls := "ModuleEngine$Store", name := "isAtLeast", desc := "(JIJZII)Z" } : Jvm.MethodName)) ∈ lw_all := lw_g (lw_at lw_m8 187 rfl) rfl
theorem q2227 : (Jvm.Cond.static ({ cls := "ModuleEngine$Store", name := "isAtLeast", desc := "(JIJZII)Z" } : Jvm.MethodName)) ∈ lw_all := lw_g (lw_at lw_m8 188 rfl) rfl
theorem q2228 : (Jvm.Cond.code ({ cls := "ModuleEngine$Store", name := "isAtLeast", desc := "(JIJZII)Z" } : Jvm.MethodName) prog_15_method_20_code (8 : Nat) (Option.some Jvm.ClassFile.FieldType.boolean)) ∈ lw_all := lw_g (lw_at lw_m8 189 rfl) rfl
theorem q2229 : (Jvm.Cond.methodLink "ModuleEngine$Store" (174 : Nat) ({ cls := "ModuleEngine$Module", name := "wide", desc := "(I)J" } : Jvm.MethodName)) ∈ lw_all := lw_g (lw_at lw_m8 190 rfl) rfl
theorem q2230 : (Jvm.Cond.methodLink "ModuleEngine$Store" (202 : Nat) ({ cls := "ModuleEngine$Pages", name := "size", desc := "(I)I" } : Jvm.MethodName)) ∈ lw_all := lw_g (lw_at lw_m8 191 rfl) rfl
theorem q2234 : (Jvm.Cond.methodLink "ModuleEngine$Store" (203 : Nat) ({ cls := "ModuleEngine$Pages", name := "limit", desc := "(I)I" } : Jvm.MethodName)) ∈ lw_all := lw_g (lw_at lw_m8 195 rfl) rfl
theorem q2238 : (Jvm.Cond.methodLink "ModuleEngine$Store" (246 : Nat) ({ cls := "ModuleEngine$Store", name := "hasRoom", desc := "(LModuleEngine$Module;I)Z" } : Jvm.MethodName)) ∈ lw_all := lw_g (lw_at lw_m8 199 rfl) rfl
theorem q2239 : (Jvm.Cond.privateMethod ({ cls := "ModuleEngine$Store", name := "hasRoom", desc := "(LModuleEngine$Module;I)Z" } : Jvm.MethodName)) ∈ lw_tbl := lw_at lw_m8 200 rfl
theorem q2240 : (Jvm.Cond.instanceMethod ({ cls := "ModuleEngine$Store", name := "hasRoom", desc := "(LModuleEngine$Module;I)Z" } : Jvm.MethodName)) ∈ lw_all := lw_g (lw_at lw_m8 201 rfl) rfl
theorem q2241 : (Jvm.Cond.code ({ cls := "ModuleEngine$Store", name := "hasRoom", desc := "(LModuleEngine$Module;I)Z" } : Jvm.MethodName) prog_15_method_24_code (5 : Nat) (Option.some Jvm.ClassFile.FieldType.boolean)) ∈ lw_all := lw_g (lw_at lw_m8 202 rfl) rfl
theorem q2242 : (Jvm.Cond.methodLink "ModuleEngine$Store" (216 : Nat) ({ cls := "ModuleEngine$Store", name := "functionCount", desc := "()I" } : Jvm.MethodName)) ∈ lw_all := lw_g (lw_at lw_m8 203 rfl) rfl
theorem q2243 : (Jvm.Cond.instanceMethod ({ cls := "ModuleEngine$Store", name := "functionCount", desc := "()I" } : Jvm.MethodName)) ∈ lw_all := lw_g (lw_at lw_m8 204 rfl) rfl
theorem q2244 : (Jvm.Cond.selects "ModuleEngine$Store" ({ cls := "ModuleEngine$Store", name := "functionCount", desc := "()I" } : Jvm.MethodName) ({ cls := "ModuleEngine$Store", name := "functionCount", desc := "()I" } : Jvm.MethodName)) ∈ lw_all := lw_g (lw_at lw_m8 205 rfl) rfl
theorem q2245 : (Jvm.Cond.code ({ cls := "ModuleEngine$Store", name := "functionCount", desc := "()I" } : Jvm.MethodName) prog_15_method_2_code (1 : Nat) (Option.some Jvm.ClassFile.FieldType.int)) ∈ lw_all := lw_g (lw_at lw_m8 206 rfl) rfl
theorem q2246 : (Jvm.Cond.methodLink "ModuleEngine$Store" (221 : Nat) ({ cls := "ModuleEngine$Tables", name := "many", desc := "()I" } : Jvm.MethodName)) ∈ lw_all := lw_g (lw_at lw_m8 207 rfl) rfl
theorem q2250 : (Jvm.Cond.methodLink "ModuleEngine$Store" (226 : Nat) ({ cls := "ModuleEngine$Pages", name := "many", desc := "()I" } : Jvm.MethodName)) ∈ lw_all := lw_g (lw_at lw_m8 211 rfl) rfl
theorem q2254 : (Jvm.Cond.methodLink "ModuleEngine$Store" (231 : Nat) ({ cls := "ModuleEngine$Store", name := "sum", desc := "(LModuleEngine$Row;)I" } : Jvm.MethodName)) ∈ lw_all := lw_g (lw_at lw_m8 215 rfl) rfl
theorem q2255 : (Jvm.Cond.static ({ cls := "ModuleEngine$Store", name := "sum", desc := "(LModuleEngine$Row;)I" } : Jvm.MethodName)) ∈ lw_all := lw_g (lw_at lw_m8 216 rfl) rfl
theorem q2256 : (Jvm.Cond.code ({ cls := "ModuleEngine$Store", name := "sum", desc := "(LModuleEngine$Row;)I" } : Jvm.MethodName) prog_15_method_23_code (4 : Nat) (Option.some Jvm.ClassFile.FieldType.int)) ∈ lw_all := lw_g (lw_at lw_m8 217 rfl) rfl
theorem q2257 : (Jvm.Cond.constantLong "ModuleEngine$Store" (205 : Nat) (1073741824 : Int64)) ∈ lw_all := lw_g (lw_at lw_m8 218 rfl) rfl
theorem q2258 : (Jvm.Cond.methodLink "ModuleEngine$Store" (207 : Nat) ({ cls := "java/lang/Math", name := "min", desc := "(JJ)J" } : Jvm.MethodName)) ∈ lw_all := lw_g (lw_at lw_m8 219 rfl) rfl
theorem q2261 : (Jvm.Cond.methodLink "ModuleEngine$Store" (235 : Nat) ({ cls := "ModuleEngine$Tables", name := "left", desc := "()I" } : Jvm.MethodName)) ∈ lw_all := lw_g (lw_at lw_m8 222 rfl) rfl
theorem q2265 : (Jvm.Cond.methodLink "ModuleEngine$Store" (238 : Nat) ({ cls := "ModuleEngine$Pages", name := "left", desc := "()I" } : Jvm.MethodName)) ∈ lw_all := lw_g (lw_at lw_m8 226 rfl) rfl
theorem q2269 : (Jvm.Cond.methodLink "ModuleEngine$Store" (249 : Nat) ({ cls := "ModuleEngine$Store", name := "build", desc := "(LModuleEngine$Module;II)I" } : Jvm.MethodName)) ∈ lw_all := lw_g (lw_at lw_m8 230 rfl) rfl
theorem q2270 : (Jvm.Cond.privateMethod ({ cls := "ModuleEngine$Store", name := "build", desc := "(LModuleEngine$Module;II)I" } : Jvm.MethodName)) ∈ lw_tbl := lw_at lw_m8 231 rfl
theorem q2271 : (Jvm.Cond.instanceMethod ({ cls := "ModuleEngine$Store", name := "build", desc := "(LModuleEngine$Module;II)I" } : Jvm.MethodName)) ∈ lw_all := lw_g (lw_at lw_m8 232 rfl) rfl
theorem q2272 : (Jvm.Cond.code ({ cls := "ModuleEngine$Store", name := "build", desc := "(LModuleEngine$Module;II)I" } : Jvm.MethodName) prog_15_method_26_code (8 : Nat) (Option.some Jvm.ClassFile.FieldType.int)) ∈ lw_all := lw_g (lw_at lw_m8 233 rfl) rfl
theorem q2273 : (Jvm.Cond.methodLink "ModuleEngine$Store" (255 : Nat) ({ cls := "ModuleEngine$Store", name := "addFunction", desc := "(IIII)I" } : Jvm.MethodName)) ∈ lw_all := lw_g (lw_at lw_m8 234 rfl) rfl
theorem q2274 : (Jvm.Cond.privateMethod ({ cls := "ModuleEngine$Store", name := "addFunction", desc := "(IIII)I" } : Jvm.MethodName)) ∈ lw_tbl := lw_at lw_m8 235 rfl
theorem q2275 : (Jvm.Cond.instanceMethod ({ cls := "ModuleEngine$Store", name := "addFunction", desc := "(IIII)I" } : Jvm.MethodName)) ∈ lw_all := lw_g (lw_at lw_m8 236 rfl) rfl
theorem q2276 : (Jvm.Cond.code ({ cls := "ModuleEngine$Store", name := "addFunction", desc := "(IIII)I" } : Jvm.MethodName) prog_15_method_12_code (5 : Nat) (Option.some Jvm.ClassFile.FieldType.int)) ∈ lw_all := lw_g (lw_at lw_m8 237 rfl) rfl
theorem q2277 : (Jvm.Cond.methodLink "ModuleEngine$Store" (259 : Nat) ({ cls := "ModuleEngine$Store", name := "addTable", desc := "(ILModuleEngine$Row;I)V" } : Jvm.MethodName)) ∈ lw_all := lw_g (lw_at lw_m8 238 rfl) rfl
theorem q2278 : (Jvm.Cond.privateMethod ({ cls := "ModuleEngine$Store", name := "addTable", desc := "(ILModuleEngine$Row;I)V" } : Jvm.MethodName)) ∈ lw_tbl := lw_at lw_m8 239 rfl
theorem q2279 : (Jvm.Cond.instanceMethod ({ cls := "ModuleEngine$Store", name := "addTable", desc := "(ILModuleEngine$Row;I)V" } : Jvm.MethodName)) ∈ lw_all := lw_g (lw_at lw_m9 0 rfl) rfl
theorem q2280 : (Jvm.Cond.code ({ cls := "ModuleEngine$Store", name := "addTable", desc := "(ILModuleEngine$Row;I)V" } : Jvm.MethodName) prog_15_method_27_code (5 : Nat) (Option.none : Option Jvm.ClassFile.FieldType)) ∈ lw_all := lw_g (lw_at lw_m9 1 rfl) rfl
theorem q2281 : (Jvm.Cond.constantLong "ModuleEngine$Store" (277 : Nat) (4294967295 : Int64)) ∈ lw_all := lw_g (lw_at lw_m9 2 rfl) rfl
theorem q2282 : (Jvm.Cond.methodLink "ModuleEngine$Store" (279 : Nat) ({ cls := "ModuleEngine$Tables", name := "make", desc := "(IIJ)I" } : Jvm.MethodName)) ∈ lw_all := lw_g (lw_at lw_m9 3 rfl) rfl
theorem q2291 : (Jvm.Cond.methodLink "ModuleEngine$Store" (263 : Nat) ({ cls := "ModuleEngine$Store", name := "addMemory", desc := "(ILModuleEngine$Row;I)V" } : Jvm.MethodName)) ∈ lw_all := lw_g (lw_at lw_m9 12 rfl) rfl
theorem q2292 : (Jvm.Cond.privateMethod ({ cls := "ModuleEngine$Store", name := "addMemory", desc := "(ILModuleEngine$Row;I)V" } : Jvm.MethodName)) ∈ lw_tbl := lw_at lw_m9 13 rfl
theorem q2293 : (Jvm.Cond.instanceMethod ({ cls := "ModuleEngine$Store", name := "addMemory", desc := "(ILModuleEngine$Row;I)V" } : Jvm.MethodName)) ∈ lw_all := lw_g (lw_at lw_m9 14 rfl) rfl
theorem q2294 : (Jvm.Cond.code ({ cls := "ModuleEngine$Store", name := "addMemory", desc := "(ILModuleEngine$Row;I)V" } : Jvm.MethodName) prog_15_method_28_code (5 : Nat) (Option.none : Option Jvm.ClassFile.FieldType)) ∈ lw_all := lw_g (lw_at lw_m9 15 rfl) rfl
theorem q2295 : (Jvm.Cond.constant "ModuleEngine$Store" (283 : Nat) (65536 : Int32)) ∈ lw_all := lw_g (lw_at lw_m9 16 rfl) rfl
theorem q2296 : (Jvm.Cond.methodLink "ModuleEngine$Store" (284 : Nat) ({ cls := "ModuleEngine$Pages", name := "make", desc := "(II)I" } : Jvm.MethodName)) ∈ lw_all := lw_g (lw_at lw_m9 17 rfl) rfl
theorem q2306 : (Jvm.Cond.methodLink "ModuleEngine$Store" (266 : Nat) ({ cls := "ModuleEngine$Store", name := "constant", desc := "(II)J" } : Jvm.MethodName)) ∈ lw_all := lw_g (lw_at lw_m9 27 rfl) rfl
theorem q2307 : (Jvm.Cond.privateMethod ({ cls := "ModuleEngine$Store", name := "constant", desc := "(II)J" } : Jvm.MethodName)) ∈ lw_tbl := lw_at lw_m9 28 rfl
theorem q2308 : (Jvm.Cond.instanceMethod ({ cls := "ModuleEngine$Store", name := "constant", desc := "(II)J" } : Jvm.MethodName)) ∈ lw_all := lw_g (lw_at lw_m9 29 rfl) rfl
theorem q2309 : (Jvm.Cond.code ({ cls := "ModuleEngine$Store", name := "constant", desc := "(II)J" } : Jvm.MethodName) prog_15_method_29_code (4 : Nat) (Option.some Jvm.ClassFile.FieldType.long)) ∈ lw_all := lw_g (lw_at lw_m9 30 rfl) rfl
theorem q2310 : (Jvm.Cond.methodLink "ModuleEngine$Store" (286 : Nat) ({ cls := "ModuleEngine$Walker", name := "go", desc := "(I)V" } : Jvm.MethodName)) ∈ lw_all := lw_g (lw_at lw_m9 31 rfl) rfl
theorem q2311 : (Jvm.Cond.methodLink "ModuleEngine$Store" (289 : Nat) ({ cls := "ModuleEngine$Walker", name := "next", desc := "()V" } : Jvm.MethodName)) ∈ lw_all := lw_g (lw_at lw_m9 32 rfl) rfl
theorem q2312 : (Jvm.Cond.constantLong "ModuleEngine$Store" (298 : Nat) (-1 : Int64)) ∈ lw_all := lw_g (lw_at lw_m9 33 rfl) rfl
theorem q2313 : (Jvm.Cond.methodLink "ModuleEngine$Store" (270 : Nat) ({ cls := "ModuleEngine$Store", name := "addElement", desc := "(ILModuleEngine$Module;I)V" } : Jvm.MethodName)) ∈ lw_all := lw_g (lw_at lw_m9 34 rfl) rfl
theorem q2314 : (Jvm.Cond.privateMethod ({ cls := "ModuleEngine$Store", name := "addElement", desc := "(ILModuleEngine$Module;I)V" } : Jvm.MethodName)) ∈ lw_tbl := lw_at lw_m9 35 rfl
theorem q2315 : (Jvm.Cond.instanceMethod ({ cls := "ModuleEngine$Store", name := "addElement", desc := "(ILModuleEngine$Module;I)V" } : Jvm.MethodName)) ∈ lw_all := lw_g (lw_at lw_m9 36 rfl) rfl
theorem q2316 : (Jvm.Cond.code ({ cls := "ModuleEngine$Store", name := "addElement", desc := "(ILModuleEngine$Module;I)V" } : Jvm.MethodName) prog_15_method_30_code (7 : Nat) (Option.none : Option Jvm.ClassFile.FieldType)) ∈ lw_all := lw_g (lw_at lw_m9 37 rfl) rfl
theorem q2317 : (Jvm.Cond.methodLink "ModuleEngine$Store" (252 : Nat) ({ cls := "ModuleEngine$Row", name := "cut", desc := "(I)V" } : Jvm.MethodName)) ∈ lw_all := lw_g (lw_at lw_m9 38 rfl) rfl
theorem q2319 : (Jvm.Cond.instanceMethod ({ cls := "ModuleEngine$Store", name := "begin", desc := "(I)I" } : Jvm.MethodName)) ∈ lw_all := lw_g (lw_at lw_m9 40 rfl) rfl
theorem q2320 : (Jvm.Cond.selects "ModuleEngine$Store" ({ cls := "ModuleEngine$Store", name := "begin", desc := "(I)I" } : Jvm.MethodName) ({ cls := "ModuleEngine$Store", name := "begin", desc := "(I)I" } : Jvm.MethodName)) ∈ lw_all := lw_g (lw_at lw_m9 41 rfl) rfl
theorem q2321 : (Jvm.Cond.code ({ cls := "ModuleEngine$Store", name := "begin", desc := "(I)I" } : Jvm.MethodName) prog_15_method_35_code (6 : Nat) (Option.some Jvm.ClassFile.FieldType.int)) ∈ lw_all := lw_g (lw_at lw_m9 42 rfl) rfl
theorem q2322 : (Jvm.Cond.methodLink "ModuleEngine$Store" (319 : Nat) ({ cls := "ModuleEngine$Store", name := "initTable", desc := "(IIIJJJ)Z" } : Jvm.MethodName)) ∈ lw_all := lw_g (lw_at lw_m9 43 rfl) rfl
theorem q2323 : (Jvm.Cond.instanceMethod ({ cls := "ModuleEngine$Store", name := "initTable", desc := "(IIIJJJ)Z" } : Jvm.MethodName)) ∈ lw_all := lw_g (lw_at lw_m9 44 rfl) rfl
theorem q2324 : (Jvm.Cond.selects "ModuleEngine$Store" ({ cls := "ModuleEngine$Store", name := "initTable", desc := "(IIIJJJ)Z" } : Jvm.MethodName) ({ cls := "ModuleEngine$Store", name := "initTable", desc := "(IIIJJJ)Z" } : Jvm.MethodName)) ∈ lw_all := lw_g (lw_at lw_m9 45 rfl) rfl
theorem q2325 : (Jvm.Cond.code ({ cls := "ModuleEngine$Store", name := "initTable", desc := "(IIIJJJ)Z" } : Jvm.MethodName) prog_15_method_31_code (13 : Nat) (Option.some Jvm.ClassFile.FieldType.boolean)) ∈ lw_all := lw_g (lw_at lw_m9 46 rfl) rfl
theorem q2326 : (Jvm.Cond.methodLink "ModuleEngine$Store" (307 : Nat) ({ cls := "ModuleEngine$Tables", name := "put", desc := "(IJI)V" } : Jvm.MethodName)) ∈ lw_all := lw_g (lw_at lw_m9 47 rfl) rfl
theorem q2330 : (Jvm.Cond.methodLink "ModuleEngine$Store" (323 : Nat) ({ cls := "ModuleEngine$Store", name := "dropElement", desc := "(II)V" } : Jvm.MethodName)) ∈ lw_all := lw_g (lw_at lw_m9 51 rfl) rfl
theorem q2331 : (Jvm.Cond.instanceMethod ({ cls := "ModuleEngine$Store", name := "dropElement", desc := "(II)V" } : Jvm.MethodName)) ∈ lw_all := lw_g (lw_at lw_m9 52 rfl) rfl
theorem q2332 : (Jvm.Cond.selects "ModuleEngine$Store" ({ cls := "ModuleEngine$Store", name := "dropElement", desc := "(II)V" } : Jvm.MethodName) ({ cls := "ModuleEngine$Store", name := "dropElement", desc := "(II)V" } : Jvm.MethodName)) ∈ lw_all := lw_g (lw_at lw_m9 53 rfl) rfl
theorem q2333 : (Jvm.Cond.code ({ cls := "ModuleEngine$Store", name := "dropElement", desc := "(II)V" } : Jvm.MethodName) prog_15_method_32_code (3 : Nat) (Option.none : Option Jvm.ClassFile.FieldType)) ∈ lw_all := lw_g (lw_at lw_m9 54 rfl) rfl
theorem q2334 : (Jvm.Cond.methodLink "ModuleEngine$Store" (311 : Nat) ({ cls := "ModuleEngine$Row", name := "set", desc := "(II)V" } : Jvm.MethodName)) ∈ lw_all := lw_g (lw_at lw_m9 55 rfl) rfl
theorem q2335 : (Jvm.Cond.methodLink "ModuleEngine$Store" (326 : Nat) ({ cls := "ModuleEngine$Store", name := "initMemory", desc := "(IIJJJ)Z" } : Jvm.MethodName)) ∈ lw_all := lw_g (lw_at lw_m9 56 rfl) rfl
theorem q2336 : (Jvm.Cond.instanceMethod ({ cls := "ModuleEngine$Store", name := "initMemory", desc := "(IIJJJ)Z" } : Jvm.MethodName)) ∈ lw_all := lw_g (lw_at lw_m9 57 rfl) rfl
theorem q2337 : (Jvm.Cond.selects "ModuleEngine$Store" ({ cls := "ModuleEngine$Store", name := "initMemory", desc := "(IIJJJ)Z" } : Jvm.MethodName) ({ cls := "ModuleEngine$Store", name := "initMemory", desc := "(IIJJJ)Z" } : Jvm.MethodName)) ∈ lw_all := lw_g (lw_at lw_m9 58 rfl) rfl
theorem q2338 : (Jvm.Cond.code ({ cls := "ModuleEngine$Store", name := "initMemory", desc := "(IIJJJ)Z" } : Jvm.MethodName) prog_15_method_33_code (16 : Nat) (Option.some Jvm.ClassFile.FieldType.boolean)) ∈ lw_all := lw_g (lw_at lw_m9 59 rfl) rfl
theorem q2339 : (Jvm.Cond.methodLink "ModuleEngine$Store" (315 : Nat) ({ cls := "ModuleEngine$Pages", name := "end", desc := "(I)J" } : Jvm.MethodName)) ∈ lw_all := lw_g (lw_at lw_m9 60 rfl) rfl
theorem q2343 : (Jvm.Cond.methodLink "ModuleEngine$Store" (318 : Nat) ({ cls := "ModuleEngine$Pages", name := "put", desc := "(IJI)V" } : Jvm.MethodName)) ∈ lw_all := lw_g (lw_at lw_m9 64 rfl) rfl
theorem q2351 : (Jvm.Cond.methodLink "ModuleEngine$Store" (330 : Nat) ({ cls := "ModuleEngine$Store", name := "dropData", desc := "(II)V" } : Jvm.MethodName)) ∈ lw_all := lw_g (lw_at lw_m9 72 rfl) rfl
theorem q2352 : (Jvm.Cond.instanceMethod ({ cls := "ModuleEngine$Store", name := "dropData", desc := "(II)V" } : Jvm.MethodName)) ∈ lw_all := lw_g (lw_at lw_m9 73 rfl) rfl
theorem q2353 : (Jvm.Cond.selects "ModuleEngine$Store" ({ cls := "ModuleEngine$Store", name := "dropData", desc := "(II)V" } : Jvm.MethodName) ({ cls := "ModuleEngine$Store", name := "dropData", desc := "(II)V" } : Jvm.MethodName)) ∈ lw_all := lw_g (lw_at lw_m9 74 rfl) rfl
theorem q2354 : (Jvm.Cond.code ({ cls := "ModuleEngine$Store", name := "dropData", desc := "(II)V" } : Jvm.MethodName) prog_15_method_34_code (3 : Nat) (Option.none : Option Jvm.ClassFile.FieldType)) ∈ lw_all := lw_g (lw_at lw_m9 75 rfl) rfl
theorem q2356 : (Jvm.Cond.instanceMethod ({ cls := "ModuleEngine$Store", name := "startOf", desc := "(I)I" } : Jvm.MethodName)) ∈ lw_all := lw_g (lw_at lw_m9 77 rfl) rfl
theorem q2357 : (Jvm.Cond.selects "ModuleEngine$Store" ({ cls := "ModuleEngine$Store", name := "startOf", desc := "(I)I" } : Jvm.MethodName) ({ cls := "ModuleEngine$Store", name := "startOf", desc := "(I)I" } : Jvm.MethodName)) ∈ lw_all := lw_g (lw_at lw_m9 78 rfl) rfl
theorem q2358 : (Jvm.Cond.code ({ cls := "ModuleEngine$Store", name := "startOf", desc := "(I)I" } : Jvm.MethodName) prog_15_method_36_code (3 : Nat) (Option.some Jvm.ClassFile.FieldType.int)) ∈ lw_all := lw_g (lw_at lw_m9 79 rfl) rfl
theorem q2373 : (Jvm.Cond.instanceMethod ({ cls := "ModuleEngine$Store", name := "parametersOf", desc := "(I)I" } : Jvm.MethodName)) ∈ lw_all := lw_g (lw_at lw_m9 94 rfl) rfl
theorem q2374 : (Jvm.Cond.selects "ModuleEngine$Store" ({ cls := "ModuleEngine$Store", name := "parametersOf", desc := "(I)I" } : Jvm.MethodName) ({ cls := "ModuleEngine$Store", name := "parametersOf", desc := "(I)I" } : Jvm.MethodName)) ∈ lw_all := lw_g (lw_at lw_m9 95 rfl) rfl
theorem q2375 : (Jvm.Cond.code ({ cls := "ModuleEngine$Store", name := "parametersOf", desc := "(I)I" } : Jvm.MethodName) prog_15_method_6_code (2 : Nat) (Option.some Jvm.ClassFile.FieldType.int)) ∈ lw_all := lw_g (lw_at lw_m9 96 rfl) rfl
theorem q2381 : (Jvm.Cond.instanceMethod ({ cls := "ModuleEngine$Store", name := "isHost", desc := "(I)Z" } : Jvm.MethodName)) ∈ lw_all := lw_g (lw_at lw_m9 102 rfl) rfl
theorem q2382 : (Jvm.Cond.selects "ModuleEngine$Store" ({ cls := "ModuleEngine$Store", name := "isHost", desc := "(I)Z" } : Jvm.MethodName) ({ cls := "ModuleEngine$Store", name := "isHost", desc := "(I)Z" } : Jvm.MethodName)) ∈ lw_all := lw_g (lw_at lw_m9 103 rfl) rfl
theorem q2383 : (Jvm.Cond.code ({ cls := "ModuleEngine$Store", name := "isHost", desc := "(I)Z" } : Jvm.MethodName) prog_15_method_3_code (2 : Nat) (Option.some Jvm.ClassFile.FieldType.boolean)) ∈ lw_all := lw_g (lw_at lw_m9 104 rfl) rfl
theorem q2883 : (Jvm.Cond.instanceMethod ({ cls := "ModuleEngine$Store", name := "is", desc := "(III)Z" } : Jvm.MethodName)) ∈ lw_all := lw_g (lw_at lw_m11 124 rfl) rfl
theorem q2884 : (Jvm.Cond.selects "ModuleEngine$Store" ({ cls := "ModuleEngine$Store", name := "is", desc := "(III)Z" } : Jvm.MethodName) ({ cls := "ModuleEngine$Store", name := "is", desc := "(III)Z" } : Jvm.MethodName)) ∈ lw_all := lw_g (lw_at lw_m11 125 rfl) rfl
theorem q2885 : (Jvm.Cond.code ({ cls := "ModuleEngine$Store", name := "is", desc := "(III)Z" } : Jvm.MethodName) prog_15_method_17_code (4 : Nat) (Option.some Jvm.ClassFile.FieldType.boolean)) ∈ lw_all := lw_g (lw_at lw_m11 126 rfl) rfl
theorem q2892 : (Jvm.Cond.instanceMethod ({ cls := "ModuleEngine$Store", name := "resultsOf", desc := "(I)I" } : Jvm.MethodName)) ∈ lw_all := lw_g (lw_at lw_m11 133 rfl) rfl
theorem q2893 : (Jvm.Cond.selects "ModuleEngine$Store" ({ cls := "ModuleEngine$Store", name := "resultsOf", desc := "(I)I" } : Jvm.MethodName) ({ cls := "ModuleEngine$Store", name := "resultsOf", desc := "(I)I" } : Jvm.MethodName)) ∈ lw_all := lw_g (lw_at lw_m11 134 rfl) rfl
theorem q2894 : (Jvm.Cond.code ({ cls := "ModuleEngine$Store", name := "resultsOf", desc := "(I)I" } : Jvm.MethodName) prog_15_method_7_code (2 : Nat) (Option.some Jvm.ClassFile.FieldType.int)) ∈ lw_all := lw_g (lw_at lw_m11 135 rfl) rfl
theorem q2897 : (Jvm.Cond.instanceMethod ({ cls := "ModuleEngine$Store", name := "resultOf", desc := "(II)I" } : Jvm.MethodName)) ∈ lw_all := lw_g (lw_at lw_m11 138 rfl) rfl
theorem q2898 : (Jvm.Cond.selects "ModuleEngine$Store" ({ cls := "ModuleEngine$Store", name := "resultOf", desc := "(II)I" } : Jvm.MethodName) ({ cls := "ModuleEngine$Store", name := "resultOf", desc := "(II)I" } : Jvm.MethodName)) ∈ lw_all := lw_g (lw_at lw_m11 139 rfl) rfl
theorem q2899 : (Jvm.Cond.code ({ cls := "ModuleEngine$Store", name := "resultOf", desc := "(II)I" } : Jvm.MethodName) prog_15_method_9_code (3 : Nat) (Option.some Jvm.ClassFile.FieldType.int)) ∈ lw_all := lw_g (lw_at lw_m11 140 rfl) rfl
theorem q2901 : (Jvm.Cond.instanceMethod ({ cls := "ModuleEngine$Store", name := "parameterOf", desc := "(II)I" } : Jvm.MethodName)) ∈ lw_all := lw_g (lw_at lw_m11 142 rfl) rfl
theorem q2902 : (Jvm.Cond.selects "ModuleEngine$Store" ({ cls := "ModuleEngine$Store", name := "parameterOf", desc := "(II)I" } : Jvm.MethodName) ({ cls := "ModuleEngine$Store", name := "parameterOf", desc := "(II)I" } : Jvm.MethodName)) ∈ lw_all := lw_g (lw_at lw_m11 143 rfl) rfl
theorem q2903 : (Jvm.Cond.code ({ cls := "ModuleEngine$Store", name := "parameterOf", desc := "(II)I" } : Jvm.MethodName) prog_15_method_8_code (3 : Nat) (Option.some Jvm.ClassFile.FieldType.int)) ∈ lw_all := lw_g (lw_at lw_m11 144 rfl) rfl
theorem in_X13 : ∀ w ∈ wsX130, w ∈ lw_all := lw_in wsX130 [1059, 1061, 1063, 1065, 1067, 1069, 1071, 1073, 1075, 1077, 1079, 1081, 1083, 1085, 1087, 1089, 1091, 1093, 1095, 1097, 1099, 1101, 1103, 1105, 1107, 1109, 1111] (by decide +kernel) (by decide +kernel)

/-! ModuleEngine$Tables -/
set_option maxRecDepth 100000
def RX14 : String := "ModuleEngine$Tables"
def TX14 : u_T := fun k => match k with
  | 0 => ("ModuleEngine$Tables", "entries", "[I", true)
  | 1 => ("ModuleEngine$Tables", "used", "I", false)
  | 2 => ("ModuleEngine$Tables", "types", "[I", true)
  | 3 => ("ModuleEngine$Tables", "starts", "[I", true)
  | 4 => ("ModuleEngine$Tables", "sizes", "[I", true)
  | 5 => ("ModuleEngine$Tables", "limits", "[J", true)
  | _ => ("ModuleEngine$Tables", "many", "I", false)
def tyX14 : Nat → FieldType := fun k => match k with
  | 0 => .array .int
  | 1 => .int
  | 2 => .array .int
  | 3 => .array .int
  | 4 => .array .int
  | 5 => .array .long
  | _ => .int
abbrev wsX140 : List Cond := u_ws RX14 TX14 7
theorem nmX14 : ∀ a, a < 7 → ∀ b, b < 7 → a ≠ b → (TX14 a).2.1 ≠ (TX14 b).2.1 := by decide +kernel
theorem tyX14_ok : ∀ k, k < 7 → parseFieldDescriptor (TX14 k).2.2.1 = some (tyX14 k) := by decide +kernel
abbrev cX14_init : ByteArray := prog_16_method_1_code
def yX14_init : MethodName := ⟨RX14, "<init>", "([I[I[I[I[J)V"⟩
abbrev cX14_type : ByteArray := prog_16_method_5_code
def yX14_type : MethodName := ⟨RX14, "type", "(I)I"⟩
abbrev cX14_size : ByteArray := prog_16_method_3_code
def yX14_size : MethodName := ⟨RX14, "size", "(I)I"⟩
abbrev cX14_limit : ByteArray := prog_16_method_4_code
def yX14_limit : MethodName := ⟨RX14, "limit", "(I)J"⟩
abbrev cX14_many : ByteArray := prog_16_method_2_code
def yX14_many : MethodName := ⟨RX14, "many", "()I"⟩
abbrev cX14_left : ByteArray := prog_16_method_6_code
def yX14_left : MethodName := ⟨RX14, "left", "()I"⟩
abbrev cX14_make : ByteArray := prog_16_method_8_code
def yX14_make : MethodName := ⟨RX14, "make", "(IIJ)I"⟩
abbrev cX14_grow : ByteArray := prog_16_method_9_code
def yX14_grow : MethodName := ⟨RX14, "grow", "(IJI)I"⟩
abbrev cX14_put : ByteArray := prog_16_method_11_code
def yX14_put : MethodName := ⟨RX14, "put", "(IJI)V"⟩
abbrev cX14_get : ByteArray := prog_16_method_10_code
def yX14_get : MethodName := ⟨RX14, "get", "(IJ)I"⟩
abbrev cX14_move : ByteArray := prog_16_method_12_code
def yX14_move : MethodName := ⟨RX14, "move", "(IIJJJ)V"⟩
theorem q374 : (Jvm.Cond.initialized "ModuleEngine$Tables") ∈ lw_all := lw_g (lw_at lw_m1 15 rfl) rfl
theorem q953 : (Jvm.Cond.instantiable "ModuleEngine$Tables" (7 : Nat)) ∈ lw_all := lw_g (lw_at lw_m3 114 rfl) rfl
theorem q955 : (Jvm.Cond.instanceMethod ({ cls := "ModuleEngine$Tables", name := "<init>", desc := "([I[I[I[I[J)V" } : Jvm.MethodName)) ∈ lw_all := lw_g (lw_at lw_m3 116 rfl) rfl
theorem q956 : (Jvm.Cond.code ({ cls := "ModuleEngine$Tables", name := "<init>", desc := "([I[I[I[I[J)V" } : Jvm.MethodName) prog_16_method_1_code (6 : Nat) (Option.none : Option Jvm.ClassFile.FieldType)) ∈ lw_all := lw_g (lw_at lw_m3 117 rfl) rfl
theorem q957 : (Jvm.Cond.methodLink "ModuleEngine$Tables" (1 : Nat) ({ cls := "java/lang/Object", name := "<init>", desc := "()V" } : Jvm.MethodName)) ∈ lw_all := lw_g (lw_at lw_m3 118 rfl) rfl
theorem q958 : (Jvm.Cond.fieldLink "ModuleEngine$Tables" (7 : Nat) "ModuleEngine$Tables" "entries" "[I") ∈ lw_all := lw_g (lw_at lw_m3 119 rfl) rfl
theorem q959 : (Jvm.Cond.fieldLink "ModuleEngine$Tables" (30 : Nat) "ModuleEngine$Tables" "used" "I") ∈ lw_all := lw_g (lw_at lw_m3 120 rfl) rfl
theorem q960 : (Jvm.Cond.fieldLink "ModuleEngine$Tables" (13 : Nat) "ModuleEngine$Tables" "types" "[I") ∈ lw_all := lw_g (lw_at lw_m3 121 rfl) rfl
theorem q961 : (Jvm.Cond.fieldLink "ModuleEngine$Tables" (16 : Nat) "ModuleEngine$Tables" "starts" "[I") ∈ lw_all := lw_g (lw_at lw_m3 122 rfl) rfl
theorem q962 : (Jvm.Cond.fieldLink "ModuleEngine$Tables" (19 : Nat) "ModuleEngine$Tables" "sizes" "[I") ∈ lw_all := lw_g (lw_at lw_m3 123 rfl) rfl
theorem q963 : (Jvm.Cond.fieldLink "ModuleEngine$Tables" (22 : Nat) "ModuleEngine$Tables" "limits" "[J") ∈ lw_all := lw_g (lw_at lw_m3 124 rfl) rfl
theorem q964 : (Jvm.Cond.fieldLink "ModuleEngine$Tables" (26 : Nat) "ModuleEngine$Tables" "many" "I") ∈ lw_all := lw_g (lw_at lw_m3 125 rfl) rfl
theorem q965 : (Jvm.Cond.laysFinal "ModuleEngine$Tables" "ModuleEngine$Tables" "entries" "[I") ∈ lw_all := lw_g (lw_at lw_m3 126 rfl) rfl
theorem q966 : (Jvm.Cond.soleField "ModuleEngine$Tables" "entries") ∈ lw_all := lw_g (lw_at lw_m3 127 rfl) rfl
theorem q967 : (Jvm.Cond.lays "ModuleEngine$Tables" "ModuleEngine$Tables" "used" "I") ∈ lw_all := lw_g (lw_at lw_m3 128 rfl) rfl
theorem q968 : (Jvm.Cond.soleField "ModuleEngine$Tables" "used") ∈ lw_all := lw_g (lw_at lw_m3 129 rfl) rfl
theorem q969 : (Jvm.Cond.laysFinal "ModuleEngine$Tables" "ModuleEngine$Tables" "types" "[I") ∈ lw_all := lw_g (lw_at lw_m3 130 rfl) rfl
theorem q970 : (Jvm.Cond.soleField "ModuleEngine$Tables" "types") ∈ lw_all := lw_g (lw_at lw_m3 131 rfl) rfl
theorem q971 : (Jvm.Cond.laysFinal "ModuleEngine$Tables" "ModuleEngine$Tables" "starts" "[I") ∈ lw_all := lw_g (lw_at lw_m3 132 rfl) rfl
theorem q972 : (Jvm.Cond.soleField "ModuleEngine$Tables" "starts") ∈ lw_all := lw_g (lw_at lw_m3 133 rfl) rfl
theorem q973 : (Jvm.Cond.laysFinal "ModuleEngine$Tables" "ModuleEngine$Tables" "sizes" "[I") ∈ lw_all := lw_g (lw_at lw_m3 134 rfl) rfl
theorem q974 : (Jvm.Cond.soleField "ModuleEngine$Tables" "sizes") ∈ lw_all := lw_g (lw_at lw_m3 135 rfl) rfl
theorem q975 : (Jvm.Cond.laysFinal "ModuleEngine$Tables" "ModuleEngine$Tables" "limits" "[J") ∈ lw_all := lw_g (lw_at lw_m3 136 rfl) rfl
theorem q976 : (Jvm.Cond.soleField "ModuleEngine$Tables" "limits") ∈ lw_all := lw_g (lw_at lw_m3 137 rfl) rfl
theorem q977 : (Jvm.Cond.lays "ModuleEngine$Tables" "ModuleEngine$Tables" "many" "I") ∈ lw_all := lw_g (lw_at lw_m3 138 rfl) rfl
theorem q978 : (Jvm.Cond.soleField "ModuleEngine$Tables" "many") ∈ lw_all := lw_g (lw_at lw_m3 139 rfl) rfl
theorem q979 : (Jvm.Cond.superclass "ModuleEngine$Tables" "java/lang/Object") ∈ lw_all := lw_g (lw_at lw_m3 140 rfl) rfl
theorem q2212 : (Jvm.Cond.instanceMethod ({ cls := "ModuleEngine$Tables", name := "type", desc := "(I)I" } : Jvm.MethodName)) ∈ lw_all := lw_g (lw_at lw_m8 173 rfl) rfl
theorem q2213 : (Jvm.Cond.selects "ModuleEngine$Tables" ({ cls := "ModuleEngine$Tables", name := "type", desc := "(I)I" } : Jvm.MethodName) ({ cls := "ModuleEngine$Tables", name := "type", desc := "(I)I" } : Jvm.MethodName)) ∈ lw_all := lw_g (lw_at lw_m8 174 rfl) rfl
theorem q2214 : (Jvm.Cond.code ({ cls := "ModuleEngine$Tables", name := "type", desc := "(I)I" } : Jvm.MethodName) prog_16_method_5_code (2 : Nat) (Option.some Jvm.ClassFile.FieldType.int)) ∈ lw_all := lw_g (lw_at lw_m8 175 rfl) rfl
theorem q2216 : (Jvm.Cond.instanceMethod ({ cls := "ModuleEngine$Tables", name := "size", desc := "(I)I" } : Jvm.MethodName)) ∈ lw_all := lw_g (lw_at lw_m8 177 rfl) rfl
theorem q2217 : (Jvm.Cond.selects "ModuleEngine$Tables" ({ cls := "ModuleEngine$Tables", name := "size", desc := "(I)I" } : Jvm.MethodName) ({ cls := "ModuleEngine$Tables", name := "size", desc := "(I)I" } : Jvm.MethodName)) ∈ lw_all := lw_g (lw_at lw_m8 178 rfl) rfl
theorem q2218 : (Jvm.Cond.code ({ cls := "ModuleEngine$Tables", name := "size", desc := "(I)I" } : Jvm.MethodName) prog_16_method_3_code (2 : Nat) (Option.some Jvm.ClassFile.FieldType.int)) ∈ lw_all := lw_g (lw_at lw_m8 179 rfl) rfl
theorem q2220 : (Jvm.Cond.instanceMethod ({ cls := "ModuleEngine$Tables", name := "limit", desc := "(I)J" } : Jvm.MethodName)) ∈ lw_all := lw_g (lw_at lw_m8 181 rfl) rfl
theorem q2221 : (Jvm.Cond.selects "ModuleEngine$Tables" ({ cls := "ModuleEngine$Tables", name := "limit", desc := "(I)J" } : Jvm.MethodName) ({ cls := "ModuleEngine$Tables", name := "limit", desc := "(I)J" } : Jvm.MethodName)) ∈ lw_all := lw_g (lw_at lw_m8 182 rfl) rfl
theorem q2222 : (Jvm.Cond.code ({ cls := "ModuleEngine$Tables", name := "limit", desc := "(I)J" } : Jvm.MethodName) prog_16_method_4_code (2 : Nat) (Option.some Jvm.ClassFile.FieldType.long)) ∈ lw_all := lw_g (lw_at lw_m8 183 rfl) rfl
theorem q2247 : (Jvm.Cond.instanceMethod ({ cls := "ModuleEngine$Tables", name := "many", desc := "()I" } : Jvm.MethodName)) ∈ lw_all := lw_g (lw_at lw_m8 208 rfl) rfl
theorem q2248 : (Jvm.Cond.selects "ModuleEngine$Tables" ({ cls := "ModuleEngine$Tables", name := "many", desc := "()I" } : Jvm.MethodName) ({ cls := "ModuleEngine$Tables", name := "many", desc := "()I" } : Jvm.MethodName)) ∈ lw_all := lw_g (lw_at lw_m8 209 rfl) rfl
theorem q2249 : (Jvm.Cond.code ({ cls := "ModuleEngine$Tables", name := "many", desc := "()I" } : Jvm.MethodName) prog_16_method_2_code (1 : Nat) (Option.some Jvm.ClassFile.FieldType.int)) ∈ lw_all := lw_g (lw_at lw_m8 210 rfl) rfl
theorem q2262 : (Jvm.Cond.instanceMethod ({ cls := "ModuleEngine$Tables", name := "left", desc := "()I" } : Jvm.MethodName)) ∈ lw_all := lw_g (lw_at lw_m8 223 rfl) rfl
theorem q2263 : (Jvm.Cond.selects "ModuleEngine$Tables" ({ cls := "ModuleEngine$Tables", name := "left", desc := "()I" } : Jvm.MethodName) ({ cls := "ModuleEngine$Tables", name := "left", desc := "()I" } : Jvm.MethodName)) ∈ lw_all := lw_g (lw_at lw_m8 224 rfl) rfl
theorem q2264 : (Jvm.Cond.code ({ cls := "ModuleEngine$Tables", name := "left", desc := "()I" } : Jvm.MethodName) prog_16_method_6_code (1 : Nat) (Option.some Jvm.ClassFile.FieldType.int)) ∈ lw_all := lw_g (lw_at lw_m8 225 rfl) rfl
theorem q2283 : (Jvm.Cond.instanceMethod ({ cls := "ModuleEngine$Tables", name := "make", desc := "(IIJ)I" } : Jvm.MethodName)) ∈ lw_all := lw_g (lw_at lw_m9 4 rfl) rfl
theorem q2284 : (Jvm.Cond.selects "ModuleEngine$Tables" ({ cls := "ModuleEngine$Tables", name := "make", desc := "(IIJ)I" } : Jvm.MethodName) ({ cls := "ModuleEngine$Tables", name := "make", desc := "(IIJ)I" } : Jvm.MethodName)) ∈ lw_all := lw_g (lw_at lw_m9 5 rfl) rfl
theorem q2285 : (Jvm.Cond.code ({ cls := "ModuleEngine$Tables", name := "make", desc := "(IIJ)I" } : Jvm.MethodName) prog_16_method_8_code (5 : Nat) (Option.some Jvm.ClassFile.FieldType.int)) ∈ lw_all := lw_g (lw_at lw_m9 6 rfl) rfl
theorem q2286 : (Jvm.Cond.methodLink "ModuleEngine$Tables" (33 : Nat) ({ cls := "ModuleEngine$Tables", name := "left", desc := "()I" } : Jvm.MethodName)) ∈ lw_all := lw_g (lw_at lw_m9 7 rfl) rfl
theorem q2287 : (Jvm.Cond.methodLink "ModuleEngine$Tables" (37 : Nat) ({ cls := "ModuleEngine$Tables", name := "grow", desc := "(IJI)I" } : Jvm.MethodName)) ∈ lw_all := lw_g (lw_at lw_m9 8 rfl) rfl
theorem q2288 : (Jvm.Cond.instanceMethod ({ cls := "ModuleEngine$Tables", name := "grow", desc := "(IJI)I" } : Jvm.MethodName)) ∈ lw_all := lw_g (lw_at lw_m9 9 rfl) rfl
theorem q2289 : (Jvm.Cond.selects "ModuleEngine$Tables" ({ cls := "ModuleEngine$Tables", name := "grow", desc := "(IJI)I" } : Jvm.MethodName) ({ cls := "ModuleEngine$Tables", name := "grow", desc := "(IJI)I" } : Jvm.MethodName)) ∈ lw_all := lw_g (lw_at lw_m9 10 rfl) rfl
theorem q2290 : (Jvm.Cond.code ({ cls := "ModuleEngine$Tables", name := "grow", desc := "(IJI)I" } : Jvm.MethodName) prog_16_method_9_code (9 : Nat) (Option.some Jvm.ClassFile.FieldType.int)) ∈ lw_all := lw_g (lw_at lw_m9 11 rfl) rfl
theorem q2327 : (Jvm.Cond.instanceMethod ({ cls := "ModuleEngine$Tables", name := "put", desc := "(IJI)V" } : Jvm.MethodName)) ∈ lw_all := lw_g (lw_at lw_m9 48 rfl) rfl
theorem q2328 : (Jvm.Cond.selects "ModuleEngine$Tables" ({ cls := "ModuleEngine$Tables", name := "put", desc := "(IJI)V" } : Jvm.MethodName) ({ cls := "ModuleEngine$Tables", name := "put", desc := "(IJI)V" } : Jvm.MethodName)) ∈ lw_all := lw_g (lw_at lw_m9 49 rfl) rfl
theorem q2329 : (Jvm.Cond.code ({ cls := "ModuleEngine$Tables", name := "put", desc := "(IJI)V" } : Jvm.MethodName) prog_16_method_11_code (5 : Nat) (Option.none : Option Jvm.ClassFile.FieldType)) ∈ lw_all := lw_g (lw_at lw_m9 50 rfl) rfl
theorem q2740 : (Jvm.Cond.instanceMethod ({ cls := "ModuleEngine$Tables", name := "get", desc := "(IJ)I" } : Jvm.MethodName)) ∈ lw_all := lw_g (lw_at lw_m10 221 rfl) rfl
theorem q2741 : (Jvm.Cond.selects "ModuleEngine$Tables" ({ cls := "ModuleEngine$Tables", name := "get", desc := "(IJ)I" } : Jvm.MethodName) ({ cls := "ModuleEngine$Tables", name := "get", desc := "(IJ)I" } : Jvm.MethodName)) ∈ lw_all := lw_g (lw_at lw_m10 222 rfl) rfl
theorem q2742 : (Jvm.Cond.code ({ cls := "ModuleEngine$Tables", name := "get", desc := "(IJ)I" } : Jvm.MethodName) prog_16_method_10_code (4 : Nat) (Option.some Jvm.ClassFile.FieldType.int)) ∈ lw_all := lw_g (lw_at lw_m10 223 rfl) rfl
theorem q2799 : (Jvm.Cond.instanceMethod ({ cls := "ModuleEngine$Tables", name := "move", desc := "(IIJJJ)V" } : Jvm.MethodName)) ∈ lw_all := lw_g (lw_at lw_m11 40 rfl) rfl
theorem q2800 : (Jvm.Cond.selects "ModuleEngine$Tables" ({ cls := "ModuleEngine$Tables", name := "move", desc := "(IIJJJ)V" } : Jvm.MethodName) ({ cls := "ModuleEngine$Tables", name := "move", desc := "(IIJJJ)V" } : Jvm.MethodName)) ∈ lw_all := lw_g (lw_at lw_m11 41 rfl) rfl
theorem q2801 : (Jvm.Cond.code ({ cls := "ModuleEngine$Tables", name := "move", desc := "(IIJJJ)V" } : Jvm.MethodName) prog_16_method_12_code (14 : Nat) (Option.none : Option Jvm.ClassFile.FieldType)) ∈ lw_all := lw_g (lw_at lw_m11 42 rfl) rfl
theorem q2802 : (Jvm.Cond.methodLink "ModuleEngine$Tables" (41 : Nat) ({ cls := "ModuleEngine$Tables", name := "get", desc := "(IJ)I" } : Jvm.MethodName)) ∈ lw_all := lw_g (lw_at lw_m11 43 rfl) rfl
theorem q2803 : (Jvm.Cond.methodLink "ModuleEngine$Tables" (45 : Nat) ({ cls := "ModuleEngine$Tables", name := "put", desc := "(IJI)V" } : Jvm.MethodName)) ∈ lw_all := lw_g (lw_at lw_m11 44 rfl) rfl
theorem in_X14 : ∀ w ∈ wsX140, w ∈ lw_all := lw_in wsX140 [965, 967, 969, 971, 973, 975, 977] (by decide +kernel) (by decide +kernel)

/-! ModuleEngine$Pages -/
set_option maxRecDepth 100000
def RX15 : String := "ModuleEngine$Pages"
def TX15 : u_T := fun k => match k with
  | 0 => ("ModuleEngine$Pages", "bits", "I", true)
  | 1 => ("ModuleEngine$Pages", "bytes", "[B", true)
  | 2 => ("ModuleEngine$Pages", "frame", "[I", true)
  | 3 => ("ModuleEngine$Pages", "stride", "I", true)
  | 4 => ("ModuleEngine$Pages", "used", "I", false)
  | 5 => ("ModuleEngine$Pages", "sizes", "[I", true)
  | 6 => ("ModuleEngine$Pages", "limits", "[I", true)
  | _ => ("ModuleEngine$Pages", "many", "I", false)
def tyX15 : Nat → FieldType := fun k => match k with
  | 0 => .int
  | 1 => .array .byte
  | 2 => .array .int
  | 3 => .int
  | 4 => .int
  | 5 => .array .int
  | 6 => .array .int
  | _ => .int
abbrev wsX150 : List Cond := u_ws RX15 TX15 8
theorem nmX15 : ∀ a, a < 8 → ∀ b, b < 8 → a ≠ b → (TX15 a).2.1 ≠ (TX15 b).2.1 := by decide +kernel
theorem tyX15_ok : ∀ k, k < 8 → parseFieldDescriptor (TX15 k).2.2.1 = some (tyX15 k) := by decide +kernel
abbrev cX15_init : ByteArray := prog_10_method_1_code
def yX15_init : MethodName := ⟨RX15, "<init>", "(I[B[I[I[I)V"⟩
abbrev cX15_size : ByteArray := prog_10_method_3_code
def yX15_size : MethodName := ⟨RX15, "size", "(I)I"⟩
abbrev cX15_limit : ByteArray := prog_10_method_4_code
def yX15_limit : MethodName := ⟨RX15, "limit", "(I)I"⟩
abbrev cX15_many : ByteArray := prog_10_method_2_code
def yX15_many : MethodName := ⟨RX15, "many", "()I"⟩
abbrev cX15_left : ByteArray := prog_10_method_5_code
def yX15_left : MethodName := ⟨RX15, "left", "()I"⟩
abbrev cX15_make : ByteArray := prog_10_method_7_code
def yX15_make : MethodName := ⟨RX15, "make", "(II)I"⟩
abbrev cX15_add : ByteArray := prog_10_method_8_code
def yX15_add : MethodName := ⟨RX15, "add", "(II)V"⟩
abbrev cX15_end : ByteArray := prog_10_method_10_code
def yX15_end : MethodName := ⟨RX15, "end", "(I)J"⟩
abbrev cX15_put : ByteArray := prog_10_method_13_code
def yX15_put : MethodName := ⟨RX15, "put", "(IJI)V"⟩
abbrev cX15_at : ByteArray := prog_10_method_11_code
def yX15_at : MethodName := ⟨RX15, "at", "(IJ)I"⟩
abbrev cX15_grow : ByteArray := prog_10_method_9_code
def yX15_grow : MethodName := ⟨RX15, "grow", "(IJ)I"⟩
abbrev cX15_move : ByteArray := prog_10_method_16_code
def yX15_move : MethodName := ⟨RX15, "move", "(IJJJ)V"⟩
abbrev cX15_get : ByteArray := prog_10_method_12_code
def yX15_get : MethodName := ⟨RX15, "get", "(IJ)I"⟩
abbrev cX15_write : ByteArray := prog_10_method_15_code
def yX15_write : MethodName := ⟨RX15, "write", "(IJIJ)V"⟩
abbrev cX15_read : ByteArray := prog_10_method_14_code
def yX15_read : MethodName := ⟨RX15, "read", "(IJI)J"⟩
theorem q375 : (Jvm.Cond.initialized "ModuleEngine$Pages") ∈ lw_all := lw_g (lw_at lw_m1 16 rfl) rfl
theorem q981 : (Jvm.Cond.instantiable "ModuleEngine$Pages" (8 : Nat)) ∈ lw_all := lw_g (lw_at lw_m3 142 rfl) rfl
theorem q984 : (Jvm.Cond.instanceMethod ({ cls := "ModuleEngine$Pages", name := "<init>", desc := "(I[B[I[I[I)V" } : Jvm.MethodName)) ∈ lw_all := lw_g (lw_at lw_m3 145 rfl) rfl
theorem q985 : (Jvm.Cond.code ({ cls := "ModuleEngine$Pages", name := "<init>", desc := "(I[B[I[I[I)V" } : Jvm.MethodName) prog_10_method_1_code (6 : Nat) (Option.none : Option Jvm.ClassFile.FieldType)) ∈ lw_all := lw_g (lw_at lw_m3 146 rfl) rfl
theorem q986 : (Jvm.Cond.methodLink "ModuleEngine$Pages" (1 : Nat) ({ cls := "java/lang/Object", name := "<init>", desc := "()V" } : Jvm.MethodName)) ∈ lw_all := lw_g (lw_at lw_m3 147 rfl) rfl
theorem q987 : (Jvm.Cond.fieldLink "ModuleEngine$Pages" (7 : Nat) "ModuleEngine$Pages" "bits" "I") ∈ lw_all := lw_g (lw_at lw_m3 148 rfl) rfl
theorem q988 : (Jvm.Cond.fieldLink "ModuleEngine$Pages" (13 : Nat) "ModuleEngine$Pages" "bytes" "[B") ∈ lw_all := lw_g (lw_at lw_m3 149 rfl) rfl
theorem q989 : (Jvm.Cond.fieldLink "ModuleEngine$Pages" (17 : Nat) "ModuleEngine$Pages" "frame" "[I") ∈ lw_all := lw_g (lw_at lw_m3 150 rfl) rfl
theorem q990 : (Jvm.Cond.fieldLink "ModuleEngine$Pages" (21 : Nat) "ModuleEngine$Pages" "stride" "I") ∈ lw_all := lw_g (lw_at lw_m3 151 rfl) rfl
theorem q991 : (Jvm.Cond.fieldLink "ModuleEngine$Pages" (33 : Nat) "ModuleEngine$Pages" "used" "I") ∈ lw_all := lw_g (lw_at lw_m3 152 rfl) rfl
theorem q992 : (Jvm.Cond.fieldLink "ModuleEngine$Pages" (24 : Nat) "ModuleEngine$Pages" "sizes" "[I") ∈ lw_all := lw_g (lw_at lw_m3 153 rfl) rfl
theorem q993 : (Jvm.Cond.fieldLink "ModuleEngine$Pages" (27 : Nat) "ModuleEngine$Pages" "limits" "[I") ∈ lw_all := lw_g (lw_at lw_m3 154 rfl) rfl
theorem q994 : (Jvm.Cond.fieldLink "ModuleEngine$Pages" (30 : Nat) "ModuleEngine$Pages" "many" "I") ∈ lw_all := lw_g (lw_at lw_m3 155 rfl) rfl
theorem q995 : (Jvm.Cond.laysFinal "ModuleEngine$Pages" "ModuleEngine$Pages" "bits" "I") ∈ lw_all := lw_g (lw_at lw_m3 156 rfl) rfl
theorem q996 : (Jvm.Cond.soleField "ModuleEngine$Pages" "bits") ∈ lw_all := lw_g (lw_at lw_m3 157 rfl) rfl
theorem q997 : (Jvm.Cond.laysFinal "ModuleEngine$Pages" "ModuleEngine$Pages" "bytes" "[B") ∈ lw_all := lw_g (lw_at lw_m3 158 rfl) rfl
theorem q998 : (Jvm.Cond.soleField "ModuleEngine$Pages" "bytes") ∈ lw_all := lw_g (lw_at lw_m3 159 rfl) rfl
theorem q999 : (Jvm.Cond.laysFinal "ModuleEngine$Pages" "ModuleEngine$Pages" "frame" "[I") ∈ lw_all := lw_g (lw_at lw_m3 160 rfl) rfl
theorem q1000 : (Jvm.Cond.soleField "ModuleEngine$Pages" "frame") ∈ lw_all := lw_g (lw_at lw_m3 161 rfl) rfl
theorem q1001 : (Jvm.Cond.laysFinal "ModuleEngine$Pages" "ModuleEngine$Pages" "stride" "I") ∈ lw_all := lw_g (lw_at lw_m3 162 rfl) rfl
theorem q1002 : (Jvm.Cond.soleField "ModuleEngine$Pages" "stride") ∈ lw_all := lw_g (lw_at lw_m3 163 rfl) rfl
theorem q1003 : (Jvm.Cond.lays "ModuleEngine$Pages" "ModuleEngine$Pages" "used" "I") ∈ lw_all := lw_g (lw_at lw_m3 164 rfl) rfl
theorem q1004 : (Jvm.Cond.soleField "ModuleEngine$Pages" "used") ∈ lw_all := lw_g (lw_at lw_m3 165 rfl) rfl
theorem q1005 : (Jvm.Cond.laysFinal "ModuleEngine$Pages" "ModuleEngine$Pages" "sizes" "[I") ∈ lw_all := lw_g (lw_at lw_m3 166 rfl) rfl
theorem q1006 : (Jvm.Cond.soleField "ModuleEngine$Pages" "sizes") ∈ lw_all := lw_g (lw_at lw_m3 167 rfl) rfl
theorem q1007 : (Jvm.Cond.laysFinal "ModuleEngine$Pages" "ModuleEngine$Pages" "limits" "[I") ∈ lw_all := lw_g (lw_at lw_m3 168 rfl) rfl
theorem q1008 : (Jvm.Cond.soleField "ModuleEngine$Pages" "limits") ∈ lw_all := lw_g (lw_at lw_m3 169 rfl) rfl
theorem q1009 : (Jvm.Cond.lays "ModuleEngine$Pages" "ModuleEngine$Pages" "many" "I") ∈ lw_all := lw_g (lw_at lw_m3 170 rfl) rfl
theorem q1010 : (Jvm.Cond.soleField "ModuleEngine$Pages" "many") ∈ lw_all := lw_g (lw_at lw_m3 171 rfl) rfl
theorem q1011 : (Jvm.Cond.superclass "ModuleEngine$Pages" "java/lang/Object") ∈ lw_all := lw_g (lw_at lw_m3 172 rfl) rfl
theorem q2231 : (Jvm.Cond.instanceMethod ({ cls := "ModuleEngine$Pages", name := "size", desc := "(I)I" } : Jvm.MethodName)) ∈ lw_all := lw_g (lw_at lw_m8 192 rfl) rfl
theorem q2232 : (Jvm.Cond.selects "ModuleEngine$Pages" ({ cls := "ModuleEngine$Pages", name := "size", desc := "(I)I" } : Jvm.MethodName) ({ cls := "ModuleEngine$Pages", name := "size", desc := "(I)I" } : Jvm.MethodName)) ∈ lw_all := lw_g (lw_at lw_m8 193 rfl) rfl
theorem q2233 : (Jvm.Cond.code ({ cls := "ModuleEngine$Pages", name := "size", desc := "(I)I" } : Jvm.MethodName) prog_10_method_3_code (2 : Nat) (Option.some Jvm.ClassFile.FieldType.int)) ∈ lw_all := lw_g (lw_at lw_m8 194 rfl) rfl
theorem q2235 : (Jvm.Cond.instanceMethod ({ cls := "ModuleEngine$Pages", name := "limit", desc := "(I)I" } : Jvm.MethodName)) ∈ lw_all := lw_g (lw_at lw_m8 196 rfl) rfl
theorem q2236 : (Jvm.Cond.selects "ModuleEngine$Pages" ({ cls := "ModuleEngine$Pages", name := "limit", desc := "(I)I" } : Jvm.MethodName) ({ cls := "ModuleEngine$Pages", name := "limit", desc := "(I)I" } : Jvm.MethodName)) ∈ lw_all := lw_g (lw_at lw_m8 197 rfl) rfl
theorem q2237 : (Jvm.Cond.code ({ cls := "ModuleEngine$Pages", name := "limit", desc := "(I)I" } : Jvm.MethodName) prog_10_method_4_code (2 : Nat) (Option.some Jvm.ClassFile.FieldType.int)) ∈ lw_all := lw_g (lw_at lw_m8 198 rfl) rfl
theorem q2251 : (Jvm.Cond.instanceMethod ({ cls := "ModuleEngine$Pages", name := "many", desc := "()I" } : Jvm.MethodName)) ∈ lw_all := lw_g (lw_at lw_m8 212 rfl) rfl
theorem q2252 : (Jvm.Cond.selects "ModuleEngine$Pages" ({ cls := "ModuleEngine$Pages", name := "many", desc := "()I" } : Jvm.MethodName) ({ cls := "ModuleEngine$Pages", name := "many", desc := "()I" } : Jvm.MethodName)) ∈ lw_all := lw_g (lw_at lw_m8 213 rfl) rfl
theorem q2253 : (Jvm.Cond.code ({ cls := "ModuleEngine$Pages", name := "many", desc := "()I" } : Jvm.MethodName) prog_10_method_2_code (1 : Nat) (Option.some Jvm.ClassFile.FieldType.int)) ∈ lw_all := lw_g (lw_at lw_m8 214 rfl) rfl
theorem q2266 : (Jvm.Cond.instanceMethod ({ cls := "ModuleEngine$Pages", name := "left", desc := "()I" } : Jvm.MethodName)) ∈ lw_all := lw_g (lw_at lw_m8 227 rfl) rfl
theorem q2267 : (Jvm.Cond.selects "ModuleEngine$Pages" ({ cls := "ModuleEngine$Pages", name := "left", desc := "()I" } : Jvm.MethodName) ({ cls := "ModuleEngine$Pages", name := "left", desc := "()I" } : Jvm.MethodName)) ∈ lw_all := lw_g (lw_at lw_m8 228 rfl) rfl
theorem q2268 : (Jvm.Cond.code ({ cls := "ModuleEngine$Pages", name := "left", desc := "()I" } : Jvm.MethodName) prog_10_method_5_code (1 : Nat) (Option.some Jvm.ClassFile.FieldType.int)) ∈ lw_all := lw_g (lw_at lw_m8 229 rfl) rfl
theorem q2297 : (Jvm.Cond.instanceMethod ({ cls := "ModuleEngine$Pages", name := "make", desc := "(II)I" } : Jvm.MethodName)) ∈ lw_all := lw_g (lw_at lw_m9 18 rfl) rfl
theorem q2298 : (Jvm.Cond.selects "ModuleEngine$Pages" ({ cls := "ModuleEngine$Pages", name := "make", desc := "(II)I" } : Jvm.MethodName) ({ cls := "ModuleEngine$Pages", name := "make", desc := "(II)I" } : Jvm.MethodName)) ∈ lw_all := lw_g (lw_at lw_m9 19 rfl) rfl
theorem q2299 : (Jvm.Cond.code ({ cls := "ModuleEngine$Pages", name := "make", desc := "(II)I" } : Jvm.MethodName) prog_10_method_7_code (3 : Nat) (Option.some Jvm.ClassFile.FieldType.int)) ∈ lw_all := lw_g (lw_at lw_m9 20 rfl) rfl
theorem q2300 : (Jvm.Cond.constant "ModuleEngine$Pages" (36 : Nat) (65536 : Int32)) ∈ lw_all := lw_g (lw_at lw_m9 21 rfl) rfl
theorem q2301 : (Jvm.Cond.methodLink "ModuleEngine$Pages" (37 : Nat) ({ cls := "ModuleEngine$Pages", name := "left", desc := "()I" } : Jvm.MethodName)) ∈ lw_all := lw_g (lw_at lw_m9 22 rfl) rfl
theorem q2302 : (Jvm.Cond.methodLink "ModuleEngine$Pages" (41 : Nat) ({ cls := "ModuleEngine$Pages", name := "add", desc := "(II)V" } : Jvm.MethodName)) ∈ lw_all := lw_g (lw_at lw_m9 23 rfl) rfl
theorem q2303 : (Jvm.Cond.privateMethod ({ cls := "ModuleEngine$Pages", name := "add", desc := "(II)V" } : Jvm.MethodName)) ∈ lw_tbl := lw_at lw_m9 24 rfl
theorem q2304 : (Jvm.Cond.instanceMethod ({ cls := "ModuleEngine$Pages", name := "add", desc := "(II)V" } : Jvm.MethodName)) ∈ lw_all := lw_g (lw_at lw_m9 25 rfl) rfl
theorem q2305 : (Jvm.Cond.code ({ cls := "ModuleEngine$Pages", name := "add", desc := "(II)V" } : Jvm.MethodName) prog_10_method_8_code (4 : Nat) (Option.none : Option Jvm.ClassFile.FieldType)) ∈ lw_all := lw_g (lw_at lw_m9 26 rfl) rfl
theorem q2340 : (Jvm.Cond.instanceMethod ({ cls := "ModuleEngine$Pages", name := "end", desc := "(I)J" } : Jvm.MethodName)) ∈ lw_all := lw_g (lw_at lw_m9 61 rfl) rfl
theorem q2341 : (Jvm.Cond.selects "ModuleEngine$Pages" ({ cls := "ModuleEngine$Pages", name := "end", desc := "(I)J" } : Jvm.MethodName) ({ cls := "ModuleEngine$Pages", name := "end", desc := "(I)J" } : Jvm.MethodName)) ∈ lw_all := lw_g (lw_at lw_m9 62 rfl) rfl
theorem q2342 : (Jvm.Cond.code ({ cls := "ModuleEngine$Pages", name := "end", desc := "(I)J" } : Jvm.MethodName) prog_10_method_10_code (2 : Nat) (Option.some Jvm.ClassFile.FieldType.long)) ∈ lw_all := lw_g (lw_at lw_m9 63 rfl) rfl
theorem q2344 : (Jvm.Cond.instanceMethod ({ cls := "ModuleEngine$Pages", name := "put", desc := "(IJI)V" } : Jvm.MethodName)) ∈ lw_all := lw_g (lw_at lw_m9 65 rfl) rfl
theorem q2345 : (Jvm.Cond.selects "ModuleEngine$Pages" ({ cls := "ModuleEngine$Pages", name := "put", desc := "(IJI)V" } : Jvm.MethodName) ({ cls := "ModuleEngine$Pages", name := "put", desc := "(IJI)V" } : Jvm.MethodName)) ∈ lw_all := lw_g (lw_at lw_m9 66 rfl) rfl
theorem q2346 : (Jvm.Cond.code ({ cls := "ModuleEngine$Pages", name := "put", desc := "(IJI)V" } : Jvm.MethodName) prog_10_method_13_code (5 : Nat) (Option.none : Option Jvm.ClassFile.FieldType)) ∈ lw_all := lw_g (lw_at lw_m9 67 rfl) rfl
theorem q2347 : (Jvm.Cond.methodLink "ModuleEngine$Pages" (45 : Nat) ({ cls := "ModuleEngine$Pages", name := "at", desc := "(IJ)I" } : Jvm.MethodName)) ∈ lw_all := lw_g (lw_at lw_m9 68 rfl) rfl
theorem q2348 : (Jvm.Cond.privateMethod ({ cls := "ModuleEngine$Pages", name := "at", desc := "(IJ)I" } : Jvm.MethodName)) ∈ lw_tbl := lw_at lw_m9 69 rfl
theorem q2349 : (Jvm.Cond.instanceMethod ({ cls := "ModuleEngine$Pages", name := "at", desc := "(IJ)I" } : Jvm.MethodName)) ∈ lw_all := lw_g (lw_at lw_m9 70 rfl) rfl
theorem q2350 : (Jvm.Cond.code ({ cls := "ModuleEngine$Pages", name := "at", desc := "(IJ)I" } : Jvm.MethodName) prog_10_method_11_code (4 : Nat) (Option.some Jvm.ClassFile.FieldType.int)) ∈ lw_all := lw_g (lw_at lw_m9 71 rfl) rfl
theorem q2762 : (Jvm.Cond.instanceMethod ({ cls := "ModuleEngine$Pages", name := "grow", desc := "(IJ)I" } : Jvm.MethodName)) ∈ lw_all := lw_g (lw_at lw_m11 3 rfl) rfl
theorem q2763 : (Jvm.Cond.selects "ModuleEngine$Pages" ({ cls := "ModuleEngine$Pages", name := "grow", desc := "(IJ)I" } : Jvm.MethodName) ({ cls := "ModuleEngine$Pages", name := "grow", desc := "(IJ)I" } : Jvm.MethodName)) ∈ lw_all := lw_g (lw_at lw_m11 4 rfl) rfl
theorem q2764 : (Jvm.Cond.code ({ cls := "ModuleEngine$Pages", name := "grow", desc := "(IJ)I" } : Jvm.MethodName) prog_10_method_9_code (5 : Nat) (Option.some Jvm.ClassFile.FieldType.int)) ∈ lw_all := lw_g (lw_at lw_m11 5 rfl) rfl
theorem q2784 : (Jvm.Cond.instanceMethod ({ cls := "ModuleEngine$Pages", name := "move", desc := "(IJJJ)V" } : Jvm.MethodName)) ∈ lw_all := lw_g (lw_at lw_m11 25 rfl) rfl
theorem q2785 : (Jvm.Cond.selects "ModuleEngine$Pages" ({ cls := "ModuleEngine$Pages", name := "move", desc := "(IJJJ)V" } : Jvm.MethodName) ({ cls := "ModuleEngine$Pages", name := "move", desc := "(IJJJ)V" } : Jvm.MethodName)) ∈ lw_all := lw_g (lw_at lw_m11 26 rfl) rfl
theorem q2786 : (Jvm.Cond.code ({ cls := "ModuleEngine$Pages", name := "move", desc := "(IJJJ)V" } : Jvm.MethodName) prog_10_method_16_code (10 : Nat) (Option.none : Option Jvm.ClassFile.FieldType)) ∈ lw_all := lw_g (lw_at lw_m11 27 rfl) rfl
theorem q2787 : (Jvm.Cond.methodLink "ModuleEngine$Pages" (49 : Nat) ({ cls := "ModuleEngine$Pages", name := "get", desc := "(IJ)I" } : Jvm.MethodName)) ∈ lw_all := lw_g (lw_at lw_m11 28 rfl) rfl
theorem q2788 : (Jvm.Cond.instanceMethod ({ cls := "ModuleEngine$Pages", name := "get", desc := "(IJ)I" } : Jvm.MethodName)) ∈ lw_all := lw_g (lw_at lw_m11 29 rfl) rfl
theorem q2789 : (Jvm.Cond.selects "ModuleEngine$Pages" ({ cls := "ModuleEngine$Pages", name := "get", desc := "(IJ)I" } : Jvm.MethodName) ({ cls := "ModuleEngine$Pages", name := "get", desc := "(IJ)I" } : Jvm.MethodName)) ∈ lw_all := lw_g (lw_at lw_m11 30 rfl) rfl
theorem q2790 : (Jvm.Cond.code ({ cls := "ModuleEngine$Pages", name := "get", desc := "(IJ)I" } : Jvm.MethodName) prog_10_method_12_code (4 : Nat) (Option.some Jvm.ClassFile.FieldType.int)) ∈ lw_all := lw_g (lw_at lw_m11 31 rfl) rfl
theorem q2791 : (Jvm.Cond.methodLink "ModuleEngine$Pages" (54 : Nat) ({ cls := "ModuleEngine$Pages", name := "put", desc := "(IJI)V" } : Jvm.MethodName)) ∈ lw_all := lw_g (lw_at lw_m11 32 rfl) rfl
theorem q2821 : (Jvm.Cond.instanceMethod ({ cls := "ModuleEngine$Pages", name := "write", desc := "(IJIJ)V" } : Jvm.MethodName)) ∈ lw_all := lw_g (lw_at lw_m11 62 rfl) rfl
theorem q2822 : (Jvm.Cond.selects "ModuleEngine$Pages" ({ cls := "ModuleEngine$Pages", name := "write", desc := "(IJIJ)V" } : Jvm.MethodName) ({ cls := "ModuleEngine$Pages", name := "write", desc := "(IJIJ)V" } : Jvm.MethodName)) ∈ lw_all := lw_g (lw_at lw_m11 63 rfl) rfl
theorem q2823 : (Jvm.Cond.code ({ cls := "ModuleEngine$Pages", name := "write", desc := "(IJIJ)V" } : Jvm.MethodName) prog_10_method_15_code (8 : Nat) (Option.none : Option Jvm.ClassFile.FieldType)) ∈ lw_all := lw_g (lw_at lw_m11 64 rfl) rfl
theorem q2824 : (Jvm.Cond.constantLong "ModuleEngine$Pages" (52 : Nat) (255 : Int64)) ∈ lw_all := lw_g (lw_at lw_m11 65 rfl) rfl
theorem q2830 : (Jvm.Cond.instanceMethod ({ cls := "ModuleEngine$Pages", name := "read", desc := "(IJI)J" } : Jvm.MethodName)) ∈ lw_all := lw_g (lw_at lw_m11 71 rfl) rfl
theorem q2831 : (Jvm.Cond.selects "ModuleEngine$Pages" ({ cls := "ModuleEngine$Pages", name := "read", desc := "(IJI)J" } : Jvm.MethodName) ({ cls := "ModuleEngine$Pages", name := "read", desc := "(IJI)J" } : Jvm.MethodName)) ∈ lw_all := lw_g (lw_at lw_m11 72 rfl) rfl
theorem q2832 : (Jvm.Cond.code ({ cls := "ModuleEngine$Pages", name := "read", desc := "(IJI)J" } : Jvm.MethodName) prog_10_method_14_code (8 : Nat) (Option.some Jvm.ClassFile.FieldType.long)) ∈ lw_all := lw_g (lw_at lw_m11 73 rfl) rfl
theorem in_X15 : ∀ w ∈ wsX150, w ∈ lw_all := lw_in wsX150 [995, 997, 999, 1001, 1003, 1005, 1007, 1009] (by decide +kernel) (by decide +kernel)

/-! ModuleEngine$Runner -/
set_option maxRecDepth 100000
def RX16 : String := "ModuleEngine$Runner"
def TX16 : u_T := fun k => match k with
  | 0 => ("ModuleEngine$Runner", "flat", "LModuleEngine$Flat;", true)
  | 1 => ("ModuleEngine$Runner", "registers", "LModuleEngine$Registers;", true)
  | 2 => ("ModuleEngine$Runner", "numbers", "LModuleEngine$Numbers;", true)
  | 3 => ("ModuleEngine$Runner", "store", "LModuleEngine$Store;", true)
  | 4 => ("ModuleEngine$Runner", "values", "[J", true)
  | 5 => ("ModuleEngine$Runner", "function", "[I", true)
  | 6 => ("ModuleEngine$Runner", "base", "[I", true)
  | 7 => ("ModuleEngine$Runner", "back", "[I", true)
  | 8 => ("ModuleEngine$Runner", "compiled", "[Z", true)
  | 9 => ("ModuleEngine$Runner", "counted", "[I", true)
  | 10 => ("ModuleEngine$Runner", "changed", "[Z", true)
  | 11 => ("ModuleEngine$Runner", "changes", "I", false)
  | 12 => ("ModuleEngine$Runner", "tier", "I", false)
  | 13 => ("ModuleEngine$Runner", "frames", "I", false)
  | 14 => ("ModuleEngine$Runner", "asked", "I", false)
  | 15 => ("ModuleEngine$Runner", "top", "I", false)
  | 16 => ("ModuleEngine$Runner", "pc", "I", false)
  | 17 => ("ModuleEngine$Runner", "paid", "I", false)
  | 18 => ("ModuleEngine$Runner", "state", "I", false)
  | 19 => ("ModuleEngine$Runner", "trap", "I", false)
  | 20 => ("ModuleEngine$Runner", "steps", "I", false)
  | 21 => ("ModuleEngine$Runner", "host", "I", false)
  | 22 => ("ModuleEngine$Runner", "hostFunction", "I", false)
  | 23 => ("ModuleEngine$Runner", "hostFirst", "I", false)
  | 24 => ("ModuleEngine$Runner", "results", "[J", true)
  | _ => ("ModuleEngine$Runner", "many", "I", false)
def tyX16 : Nat → FieldType := fun k => match k with
  | 0 => .object "ModuleEngine$Flat"
  | 1 => .object "ModuleEngine$Registers"
  | 2 => .object "ModuleEngine$Numbers"
  | 3 => .object "ModuleEngine$Store"
  | 4 => .array .long
  | 5 => .array .int
  | 6 => .array .int
  | 7 => .array .int
  | 8 => .array .boolean
  | 9 => .array .int
  | 10 => .array .boolean
  | 11 => .int
  | 12 => .int
  | 13 => .int
  | 14 => .int
  | 15 => .int
  | 16 => .int
  | 17 => .int
  | 18 => .int
  | 19 => .int
  | 20 => .int
  | 21 => .int
  | 22 => .int
  | 23 => .int
  | 24 => .array .long
  | _ => .int
abbrev wsX160 : List Cond := u_ws RX16 TX16 26
set_option maxRecDepth 100000 in
theorem nmX16 : ∀ a, a < 26 → ∀ b, b < 26 → a ≠ b → (TX16 a).2.1 ≠ (TX16 b).2.1 := by decide +kernel
set_option maxRecDepth 100000 in
theorem tyX16_ok : ∀ k, k < 26 → parseFieldDescriptor (TX16 k).2.2.1 = some (tyX16 k) := by decide +kernel
abbrev cX16_init : ByteArray := prog_13_method_1_code
def yX16_init : MethodName := ⟨RX16, "<init>", "(LModuleEngine$Flat;LModuleEngine$Registers;LModuleEngine$Numbers;LModuleEngine$Store;)V"⟩
abbrev cX16_isBusy : ByteArray := prog_13_method_2_code
def yX16_isBusy : MethodName := ⟨RX16, "isBusy", "()Z"⟩
abbrev cX16_clear : ByteArray := prog_13_method_4_code
def yX16_clear : MethodName := ⟨RX16, "clear", "()V"⟩
abbrev cX16_stop : ByteArray := prog_13_method_3_code
def yX16_stop : MethodName := ⟨RX16, "stop", "(I)V"⟩
abbrev cX16_begin : ByteArray := prog_13_method_5_code
def yX16_begin : MethodName := ⟨RX16, "begin", "(I[J)V"⟩
abbrev cX16_enter : ByteArray := prog_13_method_6_code
def yX16_enter : MethodName := ⟨RX16, "enter", "(III)V"⟩
abbrev cX16_changeOver : ByteArray := prog_13_method_7_code
def yX16_changeOver : MethodName := ⟨RX16, "changeOver", "(II)V"⟩
abbrev cX16_setLocals : ByteArray := prog_13_method_8_code
def yX16_setLocals : MethodName := ⟨RX16, "setLocals", "(III)V"⟩
abbrev cX16_idle : ByteArray := prog_13_method_14_code
def yX16_idle : MethodName := ⟨RX16, "idle", "()V"⟩
abbrev cX16_price : ByteArray := prog_13_method_12_code
def yX16_price : MethodName := ⟨RX16, "price", "()I"⟩
abbrev cX16_next : ByteArray := prog_13_method_13_code
def yX16_next : MethodName := ⟨RX16, "next", "()V"⟩
abbrev cX16_stepRegisters : ByteArray := prog_13_method_40_code
def yX16_stepRegisters : MethodName := ⟨RX16, "stepRegisters", "()V"⟩
abbrev cX16_get : ByteArray := prog_13_method_38_code
def yX16_get : MethodName := ⟨RX16, "get", "(I)J"⟩
abbrev cX16_set : ByteArray := prog_13_method_39_code
def yX16_set : MethodName := ⟨RX16, "set", "(IJ)V"⟩
abbrev cX16_leave : ByteArray := prog_13_method_9_code
def yX16_leave : MethodName := ⟨RX16, "leave", "(II)V"⟩
abbrev cX16_end : ByteArray := prog_13_method_10_code
def yX16_end : MethodName := ⟨RX16, "end", "(I)V"⟩
abbrev cX16_called : ByteArray := prog_13_method_17_code
def yX16_called : MethodName := ⟨RX16, "called", "(I)I"⟩
abbrev cX16_instance : ByteArray := prog_13_method_16_code
def yX16_instance : MethodName := ⟨RX16, "instance", "()I"⟩
abbrev cX16_callEntry : ByteArray := prog_13_method_18_code
def yX16_callEntry : MethodName := ⟨RX16, "callEntry", "(JIII)V"⟩
abbrev cX16_plainRegisters : ByteArray := prog_13_method_41_code
def yX16_plainRegisters : MethodName := ⟨RX16, "plainRegisters", "(IIIII)V"⟩
abbrev cX16_global : ByteArray := prog_13_method_24_code
def yX16_global : MethodName := ⟨RX16, "global", "(I)I"⟩
abbrev cX16_memory : ByteArray := prog_13_method_20_code
def yX16_memory : MethodName := ⟨RX16, "memory", "()I"⟩
abbrev cX16_grow : ByteArray := prog_13_method_23_code
def yX16_grow : MethodName := ⟨RX16, "grow", "(J)J"⟩
abbrev cX16_place : ByteArray := prog_13_method_25_code
def yX16_place : MethodName := ⟨RX16, "place", "(IIII)V"⟩
abbrev cX16_entry : ByteArray := prog_13_method_26_code
def yX16_entry : MethodName := ⟨RX16, "entry", "(IIJI)V"⟩
abbrev cX16_stretch : ByteArray := prog_13_method_27_code
def yX16_stretch : MethodName := ⟨RX16, "stretch", "(IJJJ)V"⟩
abbrev cX16_copyTable : ByteArray := prog_13_method_28_code
def yX16_copyTable : MethodName := ⟨RX16, "copyTable", "(IIJJJ)V"⟩
abbrev cX16_fillTable : ByteArray := prog_13_method_29_code
def yX16_fillTable : MethodName := ⟨RX16, "fillTable", "(IJIJ)V"⟩
abbrev cX16_moveRegisters : ByteArray := prog_13_method_42_code
def yX16_moveRegisters : MethodName := ⟨RX16, "moveRegisters", "(IIJ)V"⟩
abbrev cX16_isIn : ByteArray := prog_13_method_21_code
def yX16_isIn : MethodName := ⟨RX16, "isIn", "(IJ)Z"⟩
abbrev cX16_bytesOf : ByteArray := prog_13_method_19_code
def yX16_bytesOf : MethodName := ⟨RX16, "bytesOf", "(I)I"⟩
abbrev cX16_load : ByteArray := prog_13_method_22_code
def yX16_load : MethodName := ⟨RX16, "load", "(IJ)J"⟩
abbrev cX16_calculateRegisters : ByteArray := prog_13_method_43_code
def yX16_calculateRegisters : MethodName := ⟨RX16, "calculateRegisters", "(IIII)V"⟩
abbrev cX16_stepFlat : ByteArray := prog_13_method_33_code
def yX16_stepFlat : MethodName := ⟨RX16, "stepFlat", "()V"⟩
abbrev cX16_pop : ByteArray := prog_13_method_30_code
def yX16_pop : MethodName := ⟨RX16, "pop", "()J"⟩
abbrev cX16_branch : ByteArray := prog_13_method_32_code
def yX16_branch : MethodName := ⟨RX16, "branch", "(I)V"⟩
abbrev cX16_plainFlat : ByteArray := prog_13_method_35_code
def yX16_plainFlat : MethodName := ⟨RX16, "plainFlat", "(III)V"⟩
abbrev cX16_push : ByteArray := prog_13_method_31_code
def yX16_push : MethodName := ⟨RX16, "push", "(J)V"⟩
abbrev cX16_local : ByteArray := prog_13_method_34_code
def yX16_local : MethodName := ⟨RX16, "local", "(I)I"⟩
abbrev cX16_otherFlat : ByteArray := prog_13_method_36_code
def yX16_otherFlat : MethodName := ⟨RX16, "otherFlat", "(III)V"⟩
abbrev cX16_moveFlat : ByteArray := prog_13_method_37_code
def yX16_moveFlat : MethodName := ⟨RX16, "moveFlat", "(IJ)V"⟩
abbrev cX16_run : ByteArray := prog_13_method_15_code
def yX16_run : MethodName := ⟨RX16, "run", "(I)I"⟩
abbrev cX16_answer : ByteArray := prog_13_method_11_code
def yX16_answer : MethodName := ⟨RX16, "answer", "([J)V"⟩
theorem q376 : (Jvm.Cond.initialized "ModuleEngine$Runner") ∈ lw_all := lw_g (lw_at lw_m1 17 rfl) rfl
theorem q465 : (Jvm.Cond.fieldLinkNest "ModuleEngine$Runner" (167 : Nat) "ModuleEngine$Module" "bodies" "LModuleEngine$Row;" "ModuleEngine") ∈ lw_tbl := lw_at lw_m1 106 rfl
theorem q469 : (Jvm.Cond.fieldLinkNest "ModuleEngine$Runner" (169 : Nat) "ModuleEngine$Module" "locals" "LModuleEngine$Row;" "ModuleEngine") ∈ lw_tbl := lw_at lw_m1 110 rfl
theorem q630 : (Jvm.Cond.fieldLinkNest "ModuleEngine$Runner" (141 : Nat) "ModuleEngine$Flat" "starts" "LModuleEngine$Row;" "ModuleEngine") ∈ lw_tbl := lw_at lw_m2 31 rfl
theorem q694 : (Jvm.Cond.fieldLinkNest "ModuleEngine$Runner" (185 : Nat) "ModuleEngine$Registers" "code" "[I" "ModuleEngine") ∈ lw_tbl := lw_at lw_m2 95 rfl
theorem q697 : (Jvm.Cond.fieldLinkNest "ModuleEngine$Runner" (393 : Nat) "ModuleEngine$Registers" "constants" "[J" "ModuleEngine") ∈ lw_tbl := lw_at lw_m2 98 rfl
theorem q1016 : (Jvm.Cond.fieldLinkNest "ModuleEngine$Runner" (160 : Nat) "ModuleEngine$Store" "bodies" "[I" "ModuleEngine") ∈ lw_tbl := lw_at lw_m3 177 rfl
theorem q1020 : (Jvm.Cond.fieldLinkNest "ModuleEngine$Runner" (163 : Nat) "ModuleEngine$Store" "owners" "LModuleEngine$Row;" "ModuleEngine") ∈ lw_tbl := lw_at lw_m3 181 rfl
theorem q1022 : (Jvm.Cond.fieldLinkNest "ModuleEngine$Runner" (233 : Nat) "ModuleEngine$Store" "types" "LModuleEngine$Row;" "ModuleEngine") ∈ lw_tbl := lw_at lw_m3 183 rfl
theorem q1024 : (Jvm.Cond.fieldLinkNest "ModuleEngine$Runner" (204 : Nat) "ModuleEngine$Store" "homes" "LModuleEngine$Row;" "ModuleEngine") ∈ lw_tbl := lw_at lw_m3 185 rfl
theorem q1026 : (Jvm.Cond.fieldLinkNest "ModuleEngine$Runner" (97 : Nat) "ModuleEngine$Store" "codes" "LModuleEngine$Row;" "ModuleEngine") ∈ lw_tbl := lw_at lw_m3 187 rfl
theorem q1029 : (Jvm.Cond.fieldLinkNest "ModuleEngine$Runner" (217 : Nat) "ModuleEngine$Store" "tables" "LModuleEngine$Tables;" "ModuleEngine") ∈ lw_tbl := lw_at lw_m3 190 rfl
theorem q1032 : (Jvm.Cond.fieldLinkNest "ModuleEngine$Runner" (246 : Nat) "ModuleEngine$Store" "pages" "LModuleEngine$Pages;" "ModuleEngine") ∈ lw_tbl := lw_at lw_m3 193 rfl
theorem q1040 : (Jvm.Cond.fieldLinkNest "ModuleEngine$Runner" (347 : Nat) "ModuleEngine$Store" "globals" "[J" "ModuleEngine") ∈ lw_tbl := lw_at lw_m3 201 rfl
theorem q1043 : (Jvm.Cond.fieldLinkNest "ModuleEngine$Runner" (207 : Nat) "ModuleEngine$Store" "functions" "[LModuleEngine$Row;" "ModuleEngine") ∈ lw_tbl := lw_at lw_m3 204 rfl
theorem q1045 : (Jvm.Cond.fieldLinkNest "ModuleEngine$Runner" (214 : Nat) "ModuleEngine$Store" "tableRows" "[LModuleEngine$Row;" "ModuleEngine") ∈ lw_tbl := lw_at lw_m3 206 rfl
theorem q1047 : (Jvm.Cond.fieldLinkNest "ModuleEngine$Runner" (240 : Nat) "ModuleEngine$Store" "memories" "[LModuleEngine$Row;" "ModuleEngine") ∈ lw_tbl := lw_at lw_m3 208 rfl
theorem q1049 : (Jvm.Cond.fieldLinkNest "ModuleEngine$Runner" (267 : Nat) "ModuleEngine$Store" "globalRows" "[LModuleEngine$Row;" "ModuleEngine") ∈ lw_tbl := lw_at lw_m3 210 rfl
theorem q1115 : (Jvm.Cond.instantiable "ModuleEngine$Runner" (26 : Nat)) ∈ lw_all := lw_g (lw_at lw_m4 36 rfl) rfl
theorem q1117 : (Jvm.Cond.instanceMethod ({ cls := "ModuleEngine$Runner", name := "<init>", desc := "(LModuleEngine$Flat;LModuleEngine$Registers;LModuleEngine$Numbers;LModuleEngine$Store;)V" } : Jvm.MethodName)) ∈ lw_all := lw_g (lw_at lw_m4 38 rfl) rfl
theorem q1118 : (Jvm.Cond.code ({ cls := "ModuleEngine$Runner", name := "<init>", desc := "(LModuleEngine$Flat;LModuleEngine$Registers;LModuleEngine$Numbers;LModuleEngine$Store;)V" } : Jvm.MethodName) prog_13_method_1_code (5 : Nat) (Option.none : Option Jvm.ClassFile.FieldType)) ∈ lw_all := lw_g (lw_at lw_m4 39 rfl) rfl
theorem q1119 : (Jvm.Cond.methodLink "ModuleEngine$Runner" (1 : Nat) ({ cls := "java/lang/Object", name := "<init>", desc := "()V" } : Jvm.MethodName)) ∈ lw_all := lw_g (lw_at lw_m4 40 rfl) rfl
theorem q1120 : (Jvm.Cond.fieldLink "ModuleEngine$Runner" (42 : Nat) "ModuleEngine$Runner" "flat" "LModuleEngine$Flat;") ∈ lw_all := lw_g (lw_at lw_m4 41 rfl) rfl
theorem q1121 : (Jvm.Cond.fieldLink "ModuleEngine$Runner" (46 : Nat) "ModuleEngine$Runner" "registers" "LModuleEngine$Registers;") ∈ lw_all := lw_g (lw_at lw_m4 42 rfl) rfl
theorem q1122 : (Jvm.Cond.fieldLink "ModuleEngine$Runner" (50 : Nat) "ModuleEngine$Runner" "numbers" "LModuleEngine$Numbers;") ∈ lw_all := lw_g (lw_at lw_m4 43 rfl) rfl
theorem q1123 : (Jvm.Cond.fieldLink "ModuleEngine$Runner" (54 : Nat) "ModuleEngine$Runner" "store" "LModuleEngine$Store;") ∈ lw_all := lw_g (lw_at lw_m4 44 rfl) rfl
theorem q1124 : (Jvm.Cond.fieldLink "ModuleEngine$Runner" (9 : Nat) "ModuleEngine$Runner" "values" "[J") ∈ lw_all := lw_g (lw_at lw_m4 45 rfl) rfl
theorem q1126 : (Jvm.Cond.fieldLink "ModuleEngine$Runner" (13 : Nat) "ModuleEngine$Runner" "function" "[I") ∈ lw_all := lw_g (lw_at lw_m4 47 rfl) rfl
theorem q1127 : (Jvm.Cond.fieldLink "ModuleEngine$Runner" (17 : Nat) "ModuleEngine$Runner" "base" "[I") ∈ lw_all := lw_g (lw_at lw_m4 48 rfl) rfl
theorem q1128 : (Jvm.Cond.fieldLink "ModuleEngine$Runner" (20 : Nat) "ModuleEngine$Runner" "back" "[I") ∈ lw_all := lw_g (lw_at lw_m4 49 rfl) rfl
theorem q1129 : (Jvm.Cond.fieldLink "ModuleEngine$Runner" (23 : Nat) "ModuleEngine$Runner" "compiled" "[Z") ∈ lw_all := lw_g (lw_at lw_m4 50 rfl) rfl
theorem q1130 : (Jvm.Cond.fieldLink "ModuleEngine$Runner" (29 : Nat) "ModuleEngine$Runner" "counted" "[I") ∈ lw_all := lw_g (lw_at lw_m4 51 rfl) rfl
theorem q1131 : (Jvm.Cond.fieldLink "ModuleEngine$Runner" (32 : Nat) "ModuleEngine$Runner" "changed" "[Z") ∈ lw_all := lw_g (lw_at lw_m4 52 rfl) rfl
theorem q1132 : (Jvm.Cond.fieldLink "ModuleEngine$Runner" (147 : Nat) "ModuleEngine$Runner" "changes" "I") ∈ lw_all := lw_g (lw_at lw_m4 53 rfl) rfl
theorem q1134 : (Jvm.Cond.fieldLink "ModuleEngine$Runner" (117 : Nat) "ModuleEngine$Runner" "tier" "I") ∈ lw_all := lw_g (lw_at lw_m4 55 rfl) rfl
theorem q1136 : (Jvm.Cond.fieldLink "ModuleEngine$Runner" (67 : Nat) "ModuleEngine$Runner" "frames" "I") ∈ lw_all := lw_g (lw_at lw_m4 57 rfl) rfl
theorem q1138 : (Jvm.Cond.fieldLink "ModuleEngine$Runner" (70 : Nat) "ModuleEngine$Runner" "asked" "I") ∈ lw_all := lw_g (lw_at lw_m4 59 rfl) rfl
theorem q1139 : (Jvm.Cond.fieldLink "ModuleEngine$Runner" (135 : Nat) "ModuleEngine$Runner" "top" "I") ∈ lw_all := lw_g (lw_at lw_m4 60 rfl) rfl
theorem q1140 : (Jvm.Cond.fieldLink "ModuleEngine$Runner" (144 : Nat) "ModuleEngine$Runner" "pc" "I") ∈ lw_all := lw_g (lw_at lw_m4 61 rfl) rfl
theorem q1141 : (Jvm.Cond.fieldLink "ModuleEngine$Runner" (76 : Nat) "ModuleEngine$Runner" "paid" "I") ∈ lw_all := lw_g (lw_at lw_m4 62 rfl) rfl
theorem q1142 : (Jvm.Cond.fieldLink "ModuleEngine$Runner" (58 : Nat) "ModuleEngine$Runner" "state" "I") ∈ lw_all := lw_g (lw_at lw_m4 63 rfl) rfl
theorem q1144 : (Jvm.Cond.fieldLink "ModuleEngine$Runner" (61 : Nat) "ModuleEngine$Runner" "trap" "I") ∈ lw_all := lw_g (lw_at lw_m4 65 rfl) rfl
theorem q1146 : (Jvm.Cond.fieldLink "ModuleEngine$Runner" (64 : Nat) "ModuleEngine$Runner" "steps" "I") ∈ lw_all := lw_g (lw_at lw_m4 67 rfl) rfl
theorem q1148 : (Jvm.Cond.fieldLink "ModuleEngine$Runner" (35 : Nat) "ModuleEngine$Runner" "host" "I") ∈ lw_all := lw_g (lw_at lw_m4 69 rfl) rfl
theorem q1150 : (Jvm.Cond.fieldLink "ModuleEngine$Runner" (106 : Nat) "ModuleEngine$Runner" "hostFunction" "I") ∈ lw_all := lw_g (lw_at lw_m4 71 rfl) rfl
theorem q1152 : (Jvm.Cond.fieldLink "ModuleEngine$Runner" (109 : Nat) "ModuleEngine$Runner" "hostFirst" "I") ∈ lw_all := lw_g (lw_at lw_m4 73 rfl) rfl
theorem q1154 : (Jvm.Cond.fieldLink "ModuleEngine$Runner" (39 : Nat) "ModuleEngine$Runner" "results" "[J") ∈ lw_all := lw_g (lw_at lw_m4 75 rfl) rfl
theorem q1156 : (Jvm.Cond.fieldLink "ModuleEngine$Runner" (73 : Nat) "ModuleEngine$Runner" "many" "I") ∈ lw_all := lw_g (lw_at lw_m4 77 rfl) rfl
theorem q1158 : (Jvm.Cond.laysFinal "ModuleEngine$Runner" "ModuleEngine$Runner" "flat" "LModuleEngine$Flat;") ∈ lw_all := lw_g (lw_at lw_m4 79 rfl) rfl
theorem q1159 : (Jvm.Cond.soleField "ModuleEngine$Runner" "flat") ∈ lw_all := lw_g (lw_at lw_m4 80 rfl) rfl
theorem q1160 : (Jvm.Cond.laysFinal "ModuleEngine$Runner" "ModuleEngine$Runner" "registers" "LModuleEngine$Registers;") ∈ lw_all := lw_g (lw_at lw_m4 81 rfl) rfl
theorem q1161 : (Jvm.Cond.soleField "ModuleEngine$Runner" "registers") ∈ lw_all := lw_g (lw_at lw_m4 82 rfl) rfl
theorem q1162 : (Jvm.Cond.laysFinal "ModuleEngine$Runner" "ModuleEngine$Runner" "numbers" "LModuleEngine$Numbers;") ∈ lw_all := lw_g (lw_at lw_m4 83 rfl) rfl
theorem q1163 : (Jvm.Cond.soleField "ModuleEngine$Runner" "numbers") ∈ lw_all := lw_g (lw_at lw_m4 84 rfl) rfl
theorem q1164 : (Jvm.Cond.laysFinal "ModuleEngine$Runner" "ModuleEngine$Runner" "store" "LModuleEngine$Store;") ∈ lw_all := lw_g (lw_at lw_m4 85 rfl) rfl
theorem q1165 : (Jvm.Cond.soleField "ModuleEngine$Runner" "store") ∈ lw_all := lw_g (lw_at lw_m4 86 rfl) rfl
theorem q1166 : (Jvm.Cond.laysFinal "ModuleEngine$Runner" "ModuleEngine$Runner" "values" "[J") ∈ lw_all := lw_g (lw_at lw_m4 87 rfl) rfl
theorem q1167 : (Jvm.Cond.soleField "ModuleEngine$Runner" "values") ∈ lw_all := lw_g (lw_at lw_m4 88 rfl) rfl
theorem q1168 : (Jvm.Cond.laysFinal "ModuleEngine$Runner" "ModuleEngine$Runner" "function" "[I") ∈ lw_all := lw_g (lw_at lw_m4 89 rfl) rfl
theorem q1169 : (Jvm.Cond.soleField "ModuleEngine$Runner" "function") ∈ lw_all := lw_g (lw_at lw_m4 90 rfl) rfl
theorem q1170 : (Jvm.Cond.laysFinal "ModuleEngine$Runner" "ModuleEngine$Runner" "base" "[I") ∈ lw_all := lw_g (lw_at lw_m4 91 rfl) rfl
theorem q1171 : (Jvm.Cond.soleField "ModuleEngine$Runner" "base") ∈ lw_all := lw_g (lw_at lw_m4 92 rfl) rfl
theorem q1172 : (Jvm.Cond.laysFinal "ModuleEngine$Runner" "ModuleEngine$Runner" "back" "[I") ∈ lw_all := lw_g (lw_at lw_m4 93 rfl) rfl
theorem q1173 : (Jvm.Cond.soleField "ModuleEngine$Runner" "back") ∈ lw_all := lw_g (lw_at lw_m4 94 rfl) rfl
theorem q1174 : (Jvm.Cond.laysFinal "ModuleEngine$Runner" "ModuleEngine$Runner" "compiled" "[Z") ∈ lw_all := lw_g (lw_at lw_m4 95 rfl) rfl
theorem q1175 : (Jvm.Cond.soleField "ModuleEngine$Runner" "compiled") ∈ lw_all := lw_g (lw_at lw_m4 96 rfl) rfl
theorem q1176 : (Jvm.Cond.laysFinal "ModuleEngine$Runner" "ModuleEngine$Runner" "counted" "[I") ∈ lw_all := lw_g (lw_at lw_m4 97 rfl) rfl
theorem q1177 : (Jvm.Cond.soleField "ModuleEngine$Runner" "counted") ∈ lw_all := lw_g (lw_at lw_m4 98 rfl) rfl
theorem q1178 : (Jvm.Cond.laysFinal "ModuleEngine$Runner" "ModuleEngine$Runner" "changed" "[Z") ∈ lw_all := lw_g (lw_at lw_m4 99 rfl) rfl
theorem q1179 : (Jvm.Cond.soleField "ModuleEngine$Runner" "changed") ∈ lw_all := lw_g (lw_at lw_m4 100 rfl) rfl
theorem q1180 : (Jvm.Cond.lays "ModuleEngine$Runner" "ModuleEngine$Runner" "changes" "I") ∈ lw_all := lw_g (lw_at lw_m4 101 rfl) rfl
theorem q1181 : (Jvm.Cond.soleField "ModuleEngine$Runner" "changes") ∈ lw_all := lw_g (lw_at lw_m4 102 rfl) rfl
theorem q1182 : (Jvm.Cond.lays "ModuleEngine$Runner" "ModuleEngine$Runner" "tier" "I") ∈ lw_all := lw_g (lw_at lw_m4 103 rfl) rfl
theorem q1183 : (Jvm.Cond.soleField "ModuleEngine$Runner" "tier") ∈ lw_all := lw_g (lw_at lw_m4 104 rfl) rfl
theorem q1184 : (Jvm.Cond.lays "ModuleEngine$Runner" "ModuleEngine$Runner" "frames" "I") ∈ lw_all := lw_g (lw_at lw_m4 105 rfl) rfl
theorem q1185 : (Jvm.Cond.soleField "ModuleEngine$Runner" "frames") ∈ lw_all := lw_g (lw_at lw_m4 106 rfl) rfl
theorem q1186 : (Jvm.Cond.lays "ModuleEngine$Runner" "ModuleEngine$Runner" "asked" "I") ∈ lw_all := lw_g (lw_at lw_m4 107 rfl) rfl
theorem q1187 : (Jvm.Cond.soleField "ModuleEngine$Runner" "asked") ∈ lw_all := lw_g (lw_at lw_m4 108 rfl) rfl
theorem q1188 : (Jvm.Cond.lays "ModuleEngine$Runner" "ModuleEngine$Runner" "top" "I") ∈ lw_all := lw_g (lw_at lw_m4 109 rfl) rfl
theorem q1189 : (Jvm.Cond.soleField "ModuleEngine$Runner" "top") ∈ lw_all := lw_g (lw_at lw_m4 110 rfl) rfl
theorem q1190 : (Jvm.Cond.lays "ModuleEngine$Runner" "ModuleEngine$Runner" "pc" "I") ∈ lw_all := lw_g (lw_at lw_m4 111 rfl) rfl
theorem q1191 : (Jvm.Cond.soleField "ModuleEngine$Runner" "pc") ∈ lw_all := lw_g (lw_at lw_m4 112 rfl) rfl
theorem q1192 : (Jvm.Cond.lays "ModuleEngine$Runner" "ModuleEngine$Runner" "paid" "I") ∈ lw_all := lw_g (lw_at lw_m4 113 rfl) rfl
theorem q1193 : (Jvm.Cond.soleField "ModuleEngine$Runner" "paid") ∈ lw_all := lw_g (lw_at lw_m4 114 rfl) rfl
theorem q1194 : (Jvm.Cond.lays "ModuleEngine$Runner" "ModuleEngine$Runner" "state" "I") ∈ lw_all := lw_g (lw_at lw_m4 115 rfl) rfl
theorem q1195 : (Jvm.Cond.soleField "ModuleEngine$Runner" "state") ∈ lw_all := lw_g (lw_at lw_m4 116 rfl) rfl
theorem q1196 : (Jvm.Cond.lays "ModuleEngine$Runner" "ModuleEngine$Runner" "trap" "I") ∈ lw_all := lw_g (lw_at lw_m4 117 rfl) rfl
theorem q1197 : (Jvm.Cond.soleField "ModuleEngine$Runner" "trap") ∈ lw_all := lw_g (lw_at lw_m4 118 rfl) rfl
theorem q1198 : (Jvm.Cond.lays "ModuleEngine$Runner" "ModuleEngine$Runner" "steps" "I") ∈ lw_all := lw_g (lw_at lw_m4 119 rfl) rfl
theorem q1199 : (Jvm.Cond.soleField "ModuleEngine$Runner" "steps") ∈ lw_all := lw_g (lw_at lw_m4 120 rfl) rfl
theorem q1200 : (Jvm.Cond.lays "ModuleEngine$Runner" "ModuleEngine$Runner" "host" "I") ∈ lw_all := lw_g (lw_at lw_m4 121 rfl) rfl
theorem q1201 : (Jvm.Cond.soleField "ModuleEngine$Runner" "host") ∈ lw_all := lw_g (lw_at lw_m4 122 rfl) rfl
theorem q1202 : (Jvm.Cond.lays "ModuleEngine$Runner" "ModuleEngine$Runner" "hostFunction" "I") ∈ lw_all := lw_g (lw_at lw_m4 123 rfl) rfl
theorem q1203 : (Jvm.Cond.soleField "ModuleEngine$Runner" "hostFunction") ∈ lw_all := lw_g (lw_at lw_m4 124 rfl) rfl
theorem q1204 : (Jvm.Cond.lays "ModuleEngine$Runner" "ModuleEngine$Runner" "hostFirst" "I") ∈ lw_all := lw_g (lw_at lw_m4 125 rfl) rfl
theorem q1205 : (Jvm.Cond.soleField "ModuleEngine$Runner" "hostFirst") ∈ lw_all := lw_g (lw_at lw_m4 126 rfl) rfl
theorem q1206 : (Jvm.Cond.laysFinal "ModuleEngine$Runner" "ModuleEngine$Runner" "results" "[J") ∈ lw_all := lw_g (lw_at lw_m4 127 rfl) rfl
theorem q1207 : (Jvm.Cond.soleField "ModuleEngine$Runner" "results") ∈ lw_all := lw_g (lw_at lw_m4 128 rfl) rfl
theorem q1208 : (Jvm.Cond.lays "ModuleEngine$Runner" "ModuleEngine$Runner" "many" "I") ∈ lw_all := lw_g (lw_at lw_m4 129 rfl) rfl
theorem q1209 : (Jvm.Cond.soleField "ModuleEngine$Runner" "many") ∈ lw_all := lw_g (lw_at lw_m4 130 rfl) rfl
theorem q1210 : (Jvm.Cond.superclass "ModuleEngine$Runner" "java/lang/Object") ∈ lw_all := lw_g (lw_at lw_m4 131 rfl) rfl
theorem q2186 : (Jvm.Cond.instanceMethod ({ cls := "ModuleEngine$Runner", name := "isBusy", desc := "()Z" } : Jvm.MethodName)) ∈ lw_all := lw_g (lw_at lw_m8 147 rfl) rfl
theorem q2187 : (Jvm.Cond.selects "ModuleEngine$Runner" ({ cls := "ModuleEngine$Runner", name := "isBusy", desc := "()Z" } : Jvm.MethodName) ({ cls := "ModuleEngine$Runner", name := "isBusy", desc := "()Z" } : Jvm.MethodName)) ∈ lw_all := lw_g (lw_at lw_m8 148 rfl) rfl
theorem q2188 : (Jvm.Cond.code ({ cls := "ModuleEngine$Runner", name := "isBusy", desc := "()Z" } : Jvm.MethodName) prog_13_method_2_code (1 : Nat) (Option.some Jvm.ClassFile.FieldType.boolean)) ∈ lw_all := lw_g (lw_at lw_m8 149 rfl) rfl
theorem q2360 : (Jvm.Cond.instanceMethod ({ cls := "ModuleEngine$Runner", name := "clear", desc := "()V" } : Jvm.MethodName)) ∈ lw_all := lw_g (lw_at lw_m9 81 rfl) rfl
theorem q2361 : (Jvm.Cond.selects "ModuleEngine$Runner" ({ cls := "ModuleEngine$Runner", name := "clear", desc := "()V" } : Jvm.MethodName) ({ cls := "ModuleEngine$Runner", name := "clear", desc := "()V" } : Jvm.MethodName)) ∈ lw_all := lw_g (lw_at lw_m9 82 rfl) rfl
theorem q2362 : (Jvm.Cond.code ({ cls := "ModuleEngine$Runner", name := "clear", desc := "()V" } : Jvm.MethodName) prog_13_method_4_code (1 : Nat) (Option.none : Option Jvm.ClassFile.FieldType)) ∈ lw_all := lw_g (lw_at lw_m9 83 rfl) rfl
theorem q2364 : (Jvm.Cond.instanceMethod ({ cls := "ModuleEngine$Runner", name := "stop", desc := "(I)V" } : Jvm.MethodName)) ∈ lw_all := lw_g (lw_at lw_m9 85 rfl) rfl
theorem q2365 : (Jvm.Cond.selects "ModuleEngine$Runner" ({ cls := "ModuleEngine$Runner", name := "stop", desc := "(I)V" } : Jvm.MethodName) ({ cls := "ModuleEngine$Runner", name := "stop", desc := "(I)V" } : Jvm.MethodName)) ∈ lw_all := lw_g (lw_at lw_m9 86 rfl) rfl
theorem q2366 : (Jvm.Cond.code ({ cls := "ModuleEngine$Runner", name := "stop", desc := "(I)V" } : Jvm.MethodName) prog_13_method_3_code (2 : Nat) (Option.none : Option Jvm.ClassFile.FieldType)) ∈ lw_all := lw_g (lw_at lw_m9 87 rfl) rfl
theorem q2368 : (Jvm.Cond.instanceMethod ({ cls := "ModuleEngine$Runner", name := "begin", desc := "(I[J)V" } : Jvm.MethodName)) ∈ lw_all := lw_g (lw_at lw_m9 89 rfl) rfl
theorem q2369 : (Jvm.Cond.selects "ModuleEngine$Runner" ({ cls := "ModuleEngine$Runner", name := "begin", desc := "(I[J)V" } : Jvm.MethodName) ({ cls := "ModuleEngine$Runner", name := "begin", desc := "(I[J)V" } : Jvm.MethodName)) ∈ lw_all := lw_g (lw_at lw_m9 90 rfl) rfl
theorem q2370 : (Jvm.Cond.code ({ cls := "ModuleEngine$Runner", name := "begin", desc := "(I[J)V" } : Jvm.MethodName) prog_13_method_5_code (4 : Nat) (Option.none : Option Jvm.ClassFile.FieldType)) ∈ lw_all := lw_g (lw_at lw_m9 91 rfl) rfl
theorem q2371 : (Jvm.Cond.methodLink "ModuleEngine$Runner" (79 : Nat) ({ cls := "ModuleEngine$Runner", name := "clear", desc := "()V" } : Jvm.MethodName)) ∈ lw_all := lw_g (lw_at lw_m9 92 rfl) rfl
theorem q2372 : (Jvm.Cond.methodLink "ModuleEngine$Runner" (82 : Nat) ({ cls := "ModuleEngine$Store", name := "parametersOf", desc := "(I)I" } : Jvm.MethodName)) ∈ lw_all := lw_g (lw_at lw_m9 93 rfl) rfl
theorem q2376 : (Jvm.Cond.methodLink "ModuleEngine$Runner" (86 : Nat) ({ cls := "ModuleEngine$Runner", name := "enter", desc := "(III)V" } : Jvm.MethodName)) ∈ lw_all := lw_g (lw_at lw_m9 97 rfl) rfl
theorem q2377 : (Jvm.Cond.privateMethod ({ cls := "ModuleEngine$Runner", name := "enter", desc := "(III)V" } : Jvm.MethodName)) ∈ lw_tbl := lw_at lw_m9 98 rfl
theorem q2378 : (Jvm.Cond.instanceMethod ({ cls := "ModuleEngine$Runner", name := "enter", desc := "(III)V" } : Jvm.MethodName)) ∈ lw_all := lw_g (lw_at lw_m9 99 rfl) rfl
theorem q2379 : (Jvm.Cond.code ({ cls := "ModuleEngine$Runner", name := "enter", desc := "(III)V" } : Jvm.MethodName) prog_13_method_6_code (5 : Nat) (Option.none : Option Jvm.ClassFile.FieldType)) ∈ lw_all := lw_g (lw_at lw_m9 100 rfl) rfl
theorem q2380 : (Jvm.Cond.methodLink "ModuleEngine$Runner" (93 : Nat) ({ cls := "ModuleEngine$Store", name := "isHost", desc := "(I)Z" } : Jvm.MethodName)) ∈ lw_all := lw_g (lw_at lw_m9 101 rfl) rfl
theorem q2384 : (Jvm.Cond.methodLink "ModuleEngine$Runner" (101 : Nat) ({ cls := "ModuleEngine$Row", name := "at", desc := "(I)I" } : Jvm.MethodName)) ∈ lw_all := lw_g (lw_at lw_m9 105 rfl) rfl
theorem q2385 : (Jvm.Cond.methodLink "ModuleEngine$Runner" (112 : Nat) ({ cls := "ModuleEngine$Flat", name := "asks", desc := "(I)I" } : Jvm.MethodName)) ∈ lw_all := lw_g (lw_at lw_m9 106 rfl) rfl
theorem q2393 : (Jvm.Cond.methodLink "ModuleEngine$Runner" (120 : Nat) ({ cls := "ModuleEngine$Runner", name := "changeOver", desc := "(II)V" } : Jvm.MethodName)) ∈ lw_all := lw_g (lw_at lw_m9 114 rfl) rfl
theorem q2394 : (Jvm.Cond.privateMethod ({ cls := "ModuleEngine$Runner", name := "changeOver", desc := "(II)V" } : Jvm.MethodName)) ∈ lw_tbl := lw_at lw_m9 115 rfl
theorem q2395 : (Jvm.Cond.instanceMethod ({ cls := "ModuleEngine$Runner", name := "changeOver", desc := "(II)V" } : Jvm.MethodName)) ∈ lw_all := lw_g (lw_at lw_m9 116 rfl) rfl
theorem q2396 : (Jvm.Cond.code ({ cls := "ModuleEngine$Runner", name := "changeOver", desc := "(II)V" } : Jvm.MethodName) prog_13_method_7_code (3 : Nat) (Option.none : Option Jvm.ClassFile.FieldType)) ∈ lw_all := lw_g (lw_at lw_m9 117 rfl) rfl
theorem q2397 : (Jvm.Cond.methodLink "ModuleEngine$Runner" (150 : Nat) ({ cls := "ModuleEngine$Registers", name := "need", desc := "(I)V" } : Jvm.MethodName)) ∈ lw_all := lw_g (lw_at lw_m9 118 rfl) rfl
theorem q2671 : (Jvm.Cond.methodLink "ModuleEngine$Runner" (124 : Nat) ({ cls := "ModuleEngine$Runner", name := "setLocals", desc := "(III)V" } : Jvm.MethodName)) ∈ lw_all := lw_g (lw_at lw_m10 152 rfl) rfl
theorem q2672 : (Jvm.Cond.privateMethod ({ cls := "ModuleEngine$Runner", name := "setLocals", desc := "(III)V" } : Jvm.MethodName)) ∈ lw_tbl := lw_at lw_m10 153 rfl
theorem q2673 : (Jvm.Cond.instanceMethod ({ cls := "ModuleEngine$Runner", name := "setLocals", desc := "(III)V" } : Jvm.MethodName)) ∈ lw_all := lw_g (lw_at lw_m10 154 rfl) rfl
theorem q2674 : (Jvm.Cond.code ({ cls := "ModuleEngine$Runner", name := "setLocals", desc := "(III)V" } : Jvm.MethodName) prog_13_method_8_code (12 : Nat) (Option.none : Option Jvm.ClassFile.FieldType)) ∈ lw_all := lw_g (lw_at lw_m10 155 rfl) rfl
theorem q2675 : (Jvm.Cond.methodLink "ModuleEngine$Runner" (154 : Nat) ({ cls := "ModuleEngine$Store", name := "moduleOf", desc := "(I)LModuleEngine$Module;" } : Jvm.MethodName)) ∈ lw_all := lw_g (lw_at lw_m10 156 rfl) rfl
theorem q2676 : (Jvm.Cond.methodLink "ModuleEngine$Runner" (166 : Nat) ({ cls := "ModuleEngine$Flat", name := "parametersOf", desc := "(I)I" } : Jvm.MethodName)) ∈ lw_all := lw_g (lw_at lw_m10 157 rfl) rfl
theorem q2680 : (Jvm.Cond.methodLink "ModuleEngine$Runner" (172 : Nat) ({ cls := "ModuleEngine$Checker", name := "isReference", desc := "(I)Z" } : Jvm.MethodName)) ∈ lw_all := lw_g (lw_at lw_m10 161 rfl) rfl
theorem q2681 : (Jvm.Cond.constantLong "ModuleEngine$Runner" (177 : Nat) (-1 : Int64)) ∈ lw_all := lw_g (lw_at lw_m10 162 rfl) rfl
theorem q2682 : (Jvm.Cond.methodLink "ModuleEngine$Runner" (127 : Nat) ({ cls := "ModuleEngine$Registers", name := "has", desc := "(I)Z" } : Jvm.MethodName)) ∈ lw_all := lw_g (lw_at lw_m10 163 rfl) rfl
theorem q2686 : (Jvm.Cond.methodLink "ModuleEngine$Runner" (132 : Nat) ({ cls := "ModuleEngine$Flat", name := "localsOf", desc := "(I)I" } : Jvm.MethodName)) ∈ lw_all := lw_g (lw_at lw_m10 167 rfl) rfl
theorem q2687 : (Jvm.Cond.methodLink "ModuleEngine$Runner" (138 : Nat) ({ cls := "ModuleEngine$Registers", name := "startOf", desc := "(I)I" } : Jvm.MethodName)) ∈ lw_all := lw_g (lw_at lw_m10 168 rfl) rfl
theorem q2691 : (Jvm.Cond.methodLink "ModuleEngine$Runner" (90 : Nat) ({ cls := "ModuleEngine$Runner", name := "idle", desc := "()V" } : Jvm.MethodName)) ∈ lw_all := lw_g (lw_at lw_m10 172 rfl) rfl
theorem q2692 : (Jvm.Cond.privateMethod ({ cls := "ModuleEngine$Runner", name := "idle", desc := "()V" } : Jvm.MethodName)) ∈ lw_tbl := lw_at lw_m10 173 rfl
theorem q2693 : (Jvm.Cond.instanceMethod ({ cls := "ModuleEngine$Runner", name := "idle", desc := "()V" } : Jvm.MethodName)) ∈ lw_all := lw_g (lw_at lw_m10 174 rfl) rfl
theorem q2694 : (Jvm.Cond.code ({ cls := "ModuleEngine$Runner", name := "idle", desc := "()V" } : Jvm.MethodName) prog_13_method_14_code (1 : Nat) (Option.none : Option Jvm.ClassFile.FieldType)) ∈ lw_all := lw_g (lw_at lw_m10 175 rfl) rfl
theorem q2695 : (Jvm.Cond.methodLink "ModuleEngine$Runner" (197 : Nat) ({ cls := "ModuleEngine$Runner", name := "price", desc := "()I" } : Jvm.MethodName)) ∈ lw_all := lw_g (lw_at lw_m10 176 rfl) rfl
theorem q2696 : (Jvm.Cond.privateMethod ({ cls := "ModuleEngine$Runner", name := "price", desc := "()I" } : Jvm.MethodName)) ∈ lw_tbl := lw_at lw_m10 177 rfl
theorem q2697 : (Jvm.Cond.instanceMethod ({ cls := "ModuleEngine$Runner", name := "price", desc := "()I" } : Jvm.MethodName)) ∈ lw_all := lw_g (lw_at lw_m10 178 rfl) rfl
theorem q2698 : (Jvm.Cond.code ({ cls := "ModuleEngine$Runner", name := "price", desc := "()I" } : Jvm.MethodName) prog_13_method_12_code (2 : Nat) (Option.some Jvm.ClassFile.FieldType.int)) ∈ lw_all := lw_g (lw_at lw_m10 179 rfl) rfl
theorem q2699 : (Jvm.Cond.methodLink "ModuleEngine$Runner" (188 : Nat) ({ cls := "ModuleEngine$Flat", name := "opAt", desc := "(I)I" } : Jvm.MethodName)) ∈ lw_all := lw_g (lw_at lw_m10 180 rfl) rfl
theorem q2700 : (Jvm.Cond.methodLink "ModuleEngine$Runner" (201 : Nat) ({ cls := "ModuleEngine$Runner", name := "next", desc := "()V" } : Jvm.MethodName)) ∈ lw_all := lw_g (lw_at lw_m10 181 rfl) rfl
theorem q2701 : (Jvm.Cond.privateMethod ({ cls := "ModuleEngine$Runner", name := "next", desc := "()V" } : Jvm.MethodName)) ∈ lw_tbl := lw_at lw_m10 182 rfl
theorem q2702 : (Jvm.Cond.instanceMethod ({ cls := "ModuleEngine$Runner", name := "next", desc := "()V" } : Jvm.MethodName)) ∈ lw_all := lw_g (lw_at lw_m10 183 rfl) rfl
theorem q2703 : (Jvm.Cond.code ({ cls := "ModuleEngine$Runner", name := "next", desc := "()V" } : Jvm.MethodName) prog_13_method_13_code (1 : Nat) (Option.none : Option Jvm.ClassFile.FieldType)) ∈ lw_all := lw_g (lw_at lw_m10 184 rfl) rfl
theorem q2704 : (Jvm.Cond.methodLink "ModuleEngine$Runner" (191 : Nat) ({ cls := "ModuleEngine$Runner", name := "stepRegisters", desc := "()V" } : Jvm.MethodName)) ∈ lw_all := lw_g (lw_at lw_m10 185 rfl) rfl
theorem q2705 : (Jvm.Cond.privateMethod ({ cls := "ModuleEngine$Runner", name := "stepRegisters", desc := "()V" } : Jvm.MethodName)) ∈ lw_tbl := lw_at lw_m10 186 rfl
theorem q2706 : (Jvm.Cond.instanceMethod ({ cls := "ModuleEngine$Runner", name := "stepRegisters", desc := "()V" } : Jvm.MethodName)) ∈ lw_all := lw_g (lw_at lw_m10 187 rfl) rfl
theorem q2707 : (Jvm.Cond.code ({ cls := "ModuleEngine$Runner", name := "stepRegisters", desc := "()V" } : Jvm.MethodName) prog_13_method_40_code (9 : Nat) (Option.none : Option Jvm.ClassFile.FieldType)) ∈ lw_all := lw_g (lw_at lw_m10 188 rfl) rfl
theorem q2708 : (Jvm.Cond.methodLink "ModuleEngine$Runner" (226 : Nat) ({ cls := "ModuleEngine$Runner", name := "stop", desc := "(I)V" } : Jvm.MethodName)) ∈ lw_all := lw_g (lw_at lw_m10 189 rfl) rfl
theorem q2709 : (Jvm.Cond.methodLink "ModuleEngine$Runner" (396 : Nat) ({ cls := "ModuleEngine$Runner", name := "get", desc := "(I)J" } : Jvm.MethodName)) ∈ lw_all := lw_g (lw_at lw_m10 190 rfl) rfl
theorem q2710 : (Jvm.Cond.privateMethod ({ cls := "ModuleEngine$Runner", name := "get", desc := "(I)J" } : Jvm.MethodName)) ∈ lw_tbl := lw_at lw_m10 191 rfl
theorem q2711 : (Jvm.Cond.instanceMethod ({ cls := "ModuleEngine$Runner", name := "get", desc := "(I)J" } : Jvm.MethodName)) ∈ lw_all := lw_g (lw_at lw_m10 192 rfl) rfl
theorem q2712 : (Jvm.Cond.code ({ cls := "ModuleEngine$Runner", name := "get", desc := "(I)J" } : Jvm.MethodName) prog_13_method_38_code (2 : Nat) (Option.some Jvm.ClassFile.FieldType.long)) ∈ lw_all := lw_g (lw_at lw_m10 193 rfl) rfl
theorem q2713 : (Jvm.Cond.methodLink "ModuleEngine$Runner" (398 : Nat) ({ cls := "ModuleEngine$Runner", name := "set", desc := "(IJ)V" } : Jvm.MethodName)) ∈ lw_all := lw_g (lw_at lw_m10 194 rfl) rfl
theorem q2714 : (Jvm.Cond.privateMethod ({ cls := "ModuleEngine$Runner", name := "set", desc := "(IJ)V" } : Jvm.MethodName)) ∈ lw_tbl := lw_at lw_m10 195 rfl
theorem q2715 : (Jvm.Cond.instanceMethod ({ cls := "ModuleEngine$Runner", name := "set", desc := "(IJ)V" } : Jvm.MethodName)) ∈ lw_all := lw_g (lw_at lw_m10 196 rfl) rfl
theorem q2716 : (Jvm.Cond.code ({ cls := "ModuleEngine$Runner", name := "set", desc := "(IJ)V" } : Jvm.MethodName) prog_13_method_39_code (4 : Nat) (Option.none : Option Jvm.ClassFile.FieldType)) ∈ lw_all := lw_g (lw_at lw_m10 197 rfl) rfl
theorem q2717 : (Jvm.Cond.constantLong "ModuleEngine$Runner" (262 : Nat) (4294967295 : Int64)) ∈ lw_all := lw_g (lw_at lw_m10 198 rfl) rfl
theorem q2718 : (Jvm.Cond.methodLink "ModuleEngine$Runner" (327 : Nat) ({ cls := "ModuleEngine$Runner", name := "leave", desc := "(II)V" } : Jvm.MethodName)) ∈ lw_all := lw_g (lw_at lw_m10 199 rfl) rfl
theorem q2719 : (Jvm.Cond.privateMethod ({ cls := "ModuleEngine$Runner", name := "leave", desc := "(II)V" } : Jvm.MethodName)) ∈ lw_tbl := lw_at lw_m10 200 rfl
theorem q2720 : (Jvm.Cond.instanceMethod ({ cls := "ModuleEngine$Runner", name := "leave", desc := "(II)V" } : Jvm.MethodName)) ∈ lw_all := lw_g (lw_at lw_m10 201 rfl) rfl
theorem q2721 : (Jvm.Cond.code ({ cls := "ModuleEngine$Runner", name := "leave", desc := "(II)V" } : Jvm.MethodName) prog_13_method_9_code (5 : Nat) (Option.none : Option Jvm.ClassFile.FieldType)) ∈ lw_all := lw_g (lw_at lw_m10 202 rfl) rfl
theorem q2722 : (Jvm.Cond.methodLink "ModuleEngine$Runner" (179 : Nat) ({ cls := "ModuleEngine$Runner", name := "end", desc := "(I)V" } : Jvm.MethodName)) ∈ lw_all := lw_g (lw_at lw_m10 203 rfl) rfl
theorem q2723 : (Jvm.Cond.privateMethod ({ cls := "ModuleEngine$Runner", name := "end", desc := "(I)V" } : Jvm.MethodName)) ∈ lw_tbl := lw_at lw_m10 204 rfl
theorem q2724 : (Jvm.Cond.instanceMethod ({ cls := "ModuleEngine$Runner", name := "end", desc := "(I)V" } : Jvm.MethodName)) ∈ lw_all := lw_g (lw_at lw_m10 205 rfl) rfl
theorem q2725 : (Jvm.Cond.code ({ cls := "ModuleEngine$Runner", name := "end", desc := "(I)V" } : Jvm.MethodName) prog_13_method_10_code (3 : Nat) (Option.none : Option Jvm.ClassFile.FieldType)) ∈ lw_all := lw_g (lw_at lw_m10 206 rfl) rfl
theorem q2726 : (Jvm.Cond.methodLink "ModuleEngine$Runner" (330 : Nat) ({ cls := "ModuleEngine$Runner", name := "called", desc := "(I)I" } : Jvm.MethodName)) ∈ lw_all := lw_g (lw_at lw_m10 207 rfl) rfl
theorem q2727 : (Jvm.Cond.privateMethod ({ cls := "ModuleEngine$Runner", name := "called", desc := "(I)I" } : Jvm.MethodName)) ∈ lw_tbl := lw_at lw_m10 208 rfl
theorem q2728 : (Jvm.Cond.instanceMethod ({ cls := "ModuleEngine$Runner", name := "called", desc := "(I)I" } : Jvm.MethodName)) ∈ lw_all := lw_g (lw_at lw_m10 209 rfl) rfl
theorem q2729 : (Jvm.Cond.code ({ cls := "ModuleEngine$Runner", name := "called", desc := "(I)I" } : Jvm.MethodName) prog_13_method_17_code (2 : Nat) (Option.some Jvm.ClassFile.FieldType.int)) ∈ lw_all := lw_g (lw_at lw_m10 210 rfl) rfl
theorem q2730 : (Jvm.Cond.methodLink "ModuleEngine$Runner" (211 : Nat) ({ cls := "ModuleEngine$Runner", name := "instance", desc := "()I" } : Jvm.MethodName)) ∈ lw_all := lw_g (lw_at lw_m10 211 rfl) rfl
theorem q2731 : (Jvm.Cond.privateMethod ({ cls := "ModuleEngine$Runner", name := "instance", desc := "()I" } : Jvm.MethodName)) ∈ lw_tbl := lw_at lw_m10 212 rfl
theorem q2732 : (Jvm.Cond.instanceMethod ({ cls := "ModuleEngine$Runner", name := "instance", desc := "()I" } : Jvm.MethodName)) ∈ lw_all := lw_g (lw_at lw_m10 213 rfl) rfl
theorem q2733 : (Jvm.Cond.code ({ cls := "ModuleEngine$Runner", name := "instance", desc := "()I" } : Jvm.MethodName) prog_13_method_16_code (1 : Nat) (Option.some Jvm.ClassFile.FieldType.int)) ∈ lw_all := lw_g (lw_at lw_m10 214 rfl) rfl
theorem q2734 : (Jvm.Cond.methodLink "ModuleEngine$Runner" (333 : Nat) ({ cls := "ModuleEngine$Runner", name := "callEntry", desc := "(JIII)V" } : Jvm.MethodName)) ∈ lw_all := lw_g (lw_at lw_m10 215 rfl) rfl
theorem q2735 : (Jvm.Cond.privateMethod ({ cls := "ModuleEngine$Runner", name := "callEntry", desc := "(JIII)V" } : Jvm.MethodName)) ∈ lw_tbl := lw_at lw_m10 216 rfl
theorem q2736 : (Jvm.Cond.instanceMethod ({ cls := "ModuleEngine$Runner", name := "callEntry", desc := "(JIII)V" } : Jvm.MethodName)) ∈ lw_all := lw_g (lw_at lw_m10 217 rfl) rfl
theorem q2737 : (Jvm.Cond.code ({ cls := "ModuleEngine$Runner", name := "callEntry", desc := "(JIII)V" } : Jvm.MethodName) prog_13_method_18_code (9 : Nat) (Option.none : Option Jvm.ClassFile.FieldType)) ∈ lw_all := lw_g (lw_at lw_m10 218 rfl) rfl
theorem q2738 : (Jvm.Cond.methodLink "ModuleEngine$Runner" (221 : Nat) ({ cls := "ModuleEngine$Tables", name := "size", desc := "(I)I" } : Jvm.MethodName)) ∈ lw_all := lw_g (lw_at lw_m10 219 rfl) rfl
theorem q2739 : (Jvm.Cond.methodLink "ModuleEngine$Runner" (229 : Nat) ({ cls := "ModuleEngine$Tables", name := "get", desc := "(IJ)I" } : Jvm.MethodName)) ∈ lw_all := lw_g (lw_at lw_m10 220 rfl) rfl
theorem q2743 : (Jvm.Cond.methodLink "ModuleEngine$Runner" (236 : Nat) ({ cls := "ModuleEngine$Store", name := "isLike", desc := "(LModuleEngine$Module;ILModuleEngine$Module;I)Z" } : Jvm.MethodName)) ∈ lw_all := lw_g (lw_at lw_m10 224 rfl) rfl
theorem q2744 : (Jvm.Cond.methodLink "ModuleEngine$Runner" (401 : Nat) ({ cls := "ModuleEngine$Runner", name := "plainRegisters", desc := "(IIIII)V" } : Jvm.MethodName)) ∈ lw_all := lw_g (lw_at lw_m10 225 rfl) rfl
theorem q2745 : (Jvm.Cond.privateMethod ({ cls := "ModuleEngine$Runner", name := "plainRegisters", desc := "(IIIII)V" } : Jvm.MethodName)) ∈ lw_tbl := lw_at lw_m10 226 rfl
theorem q2746 : (Jvm.Cond.instanceMethod ({ cls := "ModuleEngine$Runner", name := "plainRegisters", desc := "(IIIII)V" } : Jvm.MethodName)) ∈ lw_all := lw_g (lw_at lw_m10 227 rfl) rfl
theorem q2747 : (Jvm.Cond.code ({ cls := "ModuleEngine$Runner", name := "plainRegisters", desc := "(IIIII)V" } : Jvm.MethodName) prog_13_method_41_code (6 : Nat) (Option.none : Option Jvm.ClassFile.FieldType)) ∈ lw_all := lw_g (lw_at lw_m10 228 rfl) rfl
theorem q2748 : (Jvm.Cond.methodLink "ModuleEngine$Runner" (350 : Nat) ({ cls := "ModuleEngine$Runner", name := "global", desc := "(I)I" } : Jvm.MethodName)) ∈ lw_all := lw_g (lw_at lw_m10 229 rfl) rfl
theorem q2749 : (Jvm.Cond.privateMethod ({ cls := "ModuleEngine$Runner", name := "global", desc := "(I)I" } : Jvm.MethodName)) ∈ lw_tbl := lw_at lw_m10 230 rfl
theorem q2750 : (Jvm.Cond.instanceMethod ({ cls := "ModuleEngine$Runner", name := "global", desc := "(I)I" } : Jvm.MethodName)) ∈ lw_all := lw_g (lw_at lw_m10 231 rfl) rfl
theorem q2751 : (Jvm.Cond.code ({ cls := "ModuleEngine$Runner", name := "global", desc := "(I)I" } : Jvm.MethodName) prog_13_method_24_code (2 : Nat) (Option.some Jvm.ClassFile.FieldType.int)) ∈ lw_all := lw_g (lw_at lw_m10 232 rfl) rfl
theorem q2752 : (Jvm.Cond.methodLink "ModuleEngine$Runner" (250 : Nat) ({ cls := "ModuleEngine$Runner", name := "memory", desc := "()I" } : Jvm.MethodName)) ∈ lw_all := lw_g (lw_at lw_m10 233 rfl) rfl
theorem q2753 : (Jvm.Cond.privateMethod ({ cls := "ModuleEngine$Runner", name := "memory", desc := "()I" } : Jvm.MethodName)) ∈ lw_tbl := lw_at lw_m10 234 rfl
theorem q2754 : (Jvm.Cond.instanceMethod ({ cls := "ModuleEngine$Runner", name := "memory", desc := "()I" } : Jvm.MethodName)) ∈ lw_all := lw_g (lw_at lw_m10 235 rfl) rfl
theorem q2755 : (Jvm.Cond.code ({ cls := "ModuleEngine$Runner", name := "memory", desc := "()I" } : Jvm.MethodName) prog_13_method_20_code (1 : Nat) (Option.some Jvm.ClassFile.FieldType.int)) ∈ lw_all := lw_g (lw_at lw_m10 236 rfl) rfl
theorem q2756 : (Jvm.Cond.methodLink "ModuleEngine$Runner" (353 : Nat) ({ cls := "ModuleEngine$Pages", name := "size", desc := "(I)I" } : Jvm.MethodName)) ∈ lw_all := lw_g (lw_at lw_m10 237 rfl) rfl
theorem q2757 : (Jvm.Cond.methodLink "ModuleEngine$Runner" (354 : Nat) ({ cls := "ModuleEngine$Runner", name := "grow", desc := "(J)J" } : Jvm.MethodName)) ∈ lw_all := lw_g (lw_at lw_m10 238 rfl) rfl
theorem q2758 : (Jvm.Cond.privateMethod ({ cls := "ModuleEngine$Runner", name := "grow", desc := "(J)J" } : Jvm.MethodName)) ∈ lw_tbl := lw_at lw_m10 239 rfl
theorem q2759 : (Jvm.Cond.instanceMethod ({ cls := "ModuleEngine$Runner", name := "grow", desc := "(J)J" } : Jvm.MethodName)) ∈ lw_all := lw_g (lw_at lw_m11 0 rfl) rfl
theorem q2760 : (Jvm.Cond.code ({ cls := "ModuleEngine$Runner", name := "grow", desc := "(J)J" } : Jvm.MethodName) prog_13_method_23_code (3 : Nat) (Option.some Jvm.ClassFile.FieldType.long)) ∈ lw_all := lw_g (lw_at lw_m11 1 rfl) rfl
theorem q2761 : (Jvm.Cond.methodLink "ModuleEngine$Runner" (264 : Nat) ({ cls := "ModuleEngine$Pages", name := "grow", desc := "(IJ)I" } : Jvm.MethodName)) ∈ lw_all := lw_g (lw_at lw_m11 2 rfl) rfl
theorem q2765 : (Jvm.Cond.methodLink "ModuleEngine$Runner" (360 : Nat) ({ cls := "ModuleEngine$Runner", name := "place", desc := "(IIII)V" } : Jvm.MethodName)) ∈ lw_all := lw_g (lw_at lw_m11 6 rfl) rfl
theorem q2766 : (Jvm.Cond.privateMethod ({ cls := "ModuleEngine$Runner", name := "place", desc := "(IIII)V" } : Jvm.MethodName)) ∈ lw_tbl := lw_at lw_m11 7 rfl
theorem q2767 : (Jvm.Cond.instanceMethod ({ cls := "ModuleEngine$Runner", name := "place", desc := "(IIII)V" } : Jvm.MethodName)) ∈ lw_all := lw_g (lw_at lw_m11 8 rfl) rfl
theorem q2768 : (Jvm.Cond.code ({ cls := "ModuleEngine$Runner", name := "place", desc := "(IIII)V" } : Jvm.MethodName) prog_13_method_25_code (8 : Nat) (Option.none : Option Jvm.ClassFile.FieldType)) ∈ lw_all := lw_g (lw_at lw_m11 9 rfl) rfl
theorem q2769 : (Jvm.Cond.methodLink "ModuleEngine$Runner" (270 : Nat) ({ cls := "ModuleEngine$Flat", name := "in", desc := "(I)I" } : Jvm.MethodName)) ∈ lw_all := lw_g (lw_at lw_m11 10 rfl) rfl
theorem q2770 : (Jvm.Cond.methodLink "ModuleEngine$Runner" (273 : Nat) ({ cls := "ModuleEngine$Runner", name := "entry", desc := "(IIJI)V" } : Jvm.MethodName)) ∈ lw_all := lw_g (lw_at lw_m11 11 rfl) rfl
theorem q2771 : (Jvm.Cond.privateMethod ({ cls := "ModuleEngine$Runner", name := "entry", desc := "(IIJI)V" } : Jvm.MethodName)) ∈ lw_tbl := lw_at lw_m11 12 rfl
theorem q2772 : (Jvm.Cond.instanceMethod ({ cls := "ModuleEngine$Runner", name := "entry", desc := "(IIJI)V" } : Jvm.MethodName)) ∈ lw_all := lw_g (lw_at lw_m11 13 rfl) rfl
theorem q2773 : (Jvm.Cond.code ({ cls := "ModuleEngine$Runner", name := "entry", desc := "(IIJI)V" } : Jvm.MethodName) prog_13_method_26_code (6 : Nat) (Option.none : Option Jvm.ClassFile.FieldType)) ∈ lw_all := lw_g (lw_at lw_m11 14 rfl) rfl
theorem q2774 : (Jvm.Cond.methodLink "ModuleEngine$Runner" (306 : Nat) ({ cls := "ModuleEngine$Tables", name := "put", desc := "(IJI)V" } : Jvm.MethodName)) ∈ lw_all := lw_g (lw_at lw_m11 15 rfl) rfl
theorem q2775 : (Jvm.Cond.methodLink "ModuleEngine$Runner" (277 : Nat) ({ cls := "ModuleEngine$Store", name := "initMemory", desc := "(IIJJJ)Z" } : Jvm.MethodName)) ∈ lw_all := lw_g (lw_at lw_m11 16 rfl) rfl
theorem q2776 : (Jvm.Cond.methodLink "ModuleEngine$Runner" (281 : Nat) ({ cls := "ModuleEngine$Store", name := "dropData", desc := "(II)V" } : Jvm.MethodName)) ∈ lw_all := lw_g (lw_at lw_m11 17 rfl) rfl
theorem q2777 : (Jvm.Cond.methodLink "ModuleEngine$Runner" (284 : Nat) ({ cls := "ModuleEngine$Runner", name := "stretch", desc := "(IJJJ)V" } : Jvm.MethodName)) ∈ lw_all := lw_g (lw_at lw_m11 18 rfl) rfl
theorem q2778 : (Jvm.Cond.privateMethod ({ cls := "ModuleEngine$Runner", name := "stretch", desc := "(IJJJ)V" } : Jvm.MethodName)) ∈ lw_tbl := lw_at lw_m11 19 rfl
theorem q2779 : (Jvm.Cond.instanceMethod ({ cls := "ModuleEngine$Runner", name := "stretch", desc := "(IJJJ)V" } : Jvm.MethodName)) ∈ lw_all := lw_g (lw_at lw_m11 20 rfl) rfl
theorem q2780 : (Jvm.Cond.code ({ cls := "ModuleEngine$Runner", name := "stretch", desc := "(IJJJ)V" } : Jvm.MethodName) prog_13_method_27_code (14 : Nat) (Option.none : Option Jvm.ClassFile.FieldType)) ∈ lw_all := lw_g (lw_at lw_m11 21 rfl) rfl
theorem q2781 : (Jvm.Cond.methodLink "ModuleEngine$Runner" (253 : Nat) ({ cls := "ModuleEngine$Pages", name := "end", desc := "(I)J" } : Jvm.MethodName)) ∈ lw_all := lw_g (lw_at lw_m11 22 rfl) rfl
theorem q2782 : (Jvm.Cond.methodLink "ModuleEngine$Runner" (310 : Nat) ({ cls := "ModuleEngine$Pages", name := "put", desc := "(IJI)V" } : Jvm.MethodName)) ∈ lw_all := lw_g (lw_at lw_m11 23 rfl) rfl
theorem q2783 : (Jvm.Cond.methodLink "ModuleEngine$Runner" (311 : Nat) ({ cls := "ModuleEngine$Pages", name := "move", desc := "(IJJJ)V" } : Jvm.MethodName)) ∈ lw_all := lw_g (lw_at lw_m11 24 rfl) rfl
theorem q2792 : (Jvm.Cond.methodLink "ModuleEngine$Runner" (288 : Nat) ({ cls := "ModuleEngine$Store", name := "initTable", desc := "(IIIJJJ)Z" } : Jvm.MethodName)) ∈ lw_all := lw_g (lw_at lw_m11 33 rfl) rfl
theorem q2793 : (Jvm.Cond.methodLink "ModuleEngine$Runner" (292 : Nat) ({ cls := "ModuleEngine$Store", name := "dropElement", desc := "(II)V" } : Jvm.MethodName)) ∈ lw_all := lw_g (lw_at lw_m11 34 rfl) rfl
theorem q2794 : (Jvm.Cond.methodLink "ModuleEngine$Runner" (295 : Nat) ({ cls := "ModuleEngine$Runner", name := "copyTable", desc := "(IIJJJ)V" } : Jvm.MethodName)) ∈ lw_all := lw_g (lw_at lw_m11 35 rfl) rfl
theorem q2795 : (Jvm.Cond.privateMethod ({ cls := "ModuleEngine$Runner", name := "copyTable", desc := "(IIJJJ)V" } : Jvm.MethodName)) ∈ lw_tbl := lw_at lw_m11 36 rfl
theorem q2796 : (Jvm.Cond.instanceMethod ({ cls := "ModuleEngine$Runner", name := "copyTable", desc := "(IIJJJ)V" } : Jvm.MethodName)) ∈ lw_all := lw_g (lw_at lw_m11 37 rfl) rfl
theorem q2797 : (Jvm.Cond.code ({ cls := "ModuleEngine$Runner", name := "copyTable", desc := "(IIJJJ)V" } : Jvm.MethodName) prog_13_method_28_code (9 : Nat) (Option.none : Option Jvm.ClassFile.FieldType)) ∈ lw_all := lw_g (lw_at lw_m11 38 rfl) rfl
theorem q2798 : (Jvm.Cond.methodLink "ModuleEngine$Runner" (314 : Nat) ({ cls := "ModuleEngine$Tables", name := "move", desc := "(IIJJJ)V" } : Jvm.MethodName)) ∈ lw_all := lw_g (lw_at lw_m11 39 rfl) rfl
theorem q2804 : (Jvm.Cond.methodLink "ModuleEngine$Runner" (299 : Nat) ({ cls := "ModuleEngine$Tables", name := "grow", desc := "(IJI)I" } : Jvm.MethodName)) ∈ lw_all := lw_g (lw_at lw_m11 45 rfl) rfl
theorem q2805 : (Jvm.Cond.methodLink "ModuleEngine$Runner" (302 : Nat) ({ cls := "ModuleEngine$Runner", name := "fillTable", desc := "(IJIJ)V" } : Jvm.MethodName)) ∈ lw_all := lw_g (lw_at lw_m11 46 rfl) rfl
theorem q2806 : (Jvm.Cond.privateMethod ({ cls := "ModuleEngine$Runner", name := "fillTable", desc := "(IJIJ)V" } : Jvm.MethodName)) ∈ lw_tbl := lw_at lw_m11 47 rfl
theorem q2807 : (Jvm.Cond.instanceMethod ({ cls := "ModuleEngine$Runner", name := "fillTable", desc := "(IJIJ)V" } : Jvm.MethodName)) ∈ lw_all := lw_g (lw_at lw_m11 48 rfl) rfl
theorem q2808 : (Jvm.Cond.code ({ cls := "ModuleEngine$Runner", name := "fillTable", desc := "(IJIJ)V" } : Jvm.MethodName) prog_13_method_29_code (9 : Nat) (Option.none : Option Jvm.ClassFile.FieldType)) ∈ lw_all := lw_g (lw_at lw_m11 49 rfl) rfl
theorem q2809 : (Jvm.Cond.methodLink "ModuleEngine$Runner" (405 : Nat) ({ cls := "ModuleEngine$Runner", name := "moveRegisters", desc := "(IIJ)V" } : Jvm.MethodName)) ∈ lw_all := lw_g (lw_at lw_m11 50 rfl) rfl
theorem q2810 : (Jvm.Cond.privateMethod ({ cls := "ModuleEngine$Runner", name := "moveRegisters", desc := "(IIJ)V" } : Jvm.MethodName)) ∈ lw_tbl := lw_at lw_m11 51 rfl
theorem q2811 : (Jvm.Cond.instanceMethod ({ cls := "ModuleEngine$Runner", name := "moveRegisters", desc := "(IIJ)V" } : Jvm.MethodName)) ∈ lw_all := lw_g (lw_at lw_m11 52 rfl) rfl
theorem q2812 : (Jvm.Cond.code ({ cls := "ModuleEngine$Runner", name := "moveRegisters", desc := "(IIJ)V" } : Jvm.MethodName) prog_13_method_42_code (5 : Nat) (Option.none : Option Jvm.ClassFile.FieldType)) ∈ lw_all := lw_g (lw_at lw_m11 53 rfl) rfl
theorem q2813 : (Jvm.Cond.methodLink "ModuleEngine$Runner" (382 : Nat) ({ cls := "ModuleEngine$Runner", name := "isIn", desc := "(IJ)Z" } : Jvm.MethodName)) ∈ lw_all := lw_g (lw_at lw_m11 54 rfl) rfl
theorem q2814 : (Jvm.Cond.privateMethod ({ cls := "ModuleEngine$Runner", name := "isIn", desc := "(IJ)Z" } : Jvm.MethodName)) ∈ lw_tbl := lw_at lw_m11 55 rfl
theorem q2815 : (Jvm.Cond.instanceMethod ({ cls := "ModuleEngine$Runner", name := "isIn", desc := "(IJ)Z" } : Jvm.MethodName)) ∈ lw_all := lw_g (lw_at lw_m11 56 rfl) rfl
theorem q2816 : (Jvm.Cond.code ({ cls := "ModuleEngine$Runner", name := "isIn", desc := "(IJ)Z" } : Jvm.MethodName) prog_13_method_21_code (4 : Nat) (Option.some Jvm.ClassFile.FieldType.boolean)) ∈ lw_all := lw_g (lw_at lw_m11 57 rfl) rfl
theorem q2817 : (Jvm.Cond.methodLink "ModuleEngine$Runner" (243 : Nat) ({ cls := "ModuleEngine$Runner", name := "bytesOf", desc := "(I)I" } : Jvm.MethodName)) ∈ lw_all := lw_g (lw_at lw_m11 58 rfl) rfl
theorem q2818 : (Jvm.Cond.static ({ cls := "ModuleEngine$Runner", name := "bytesOf", desc := "(I)I" } : Jvm.MethodName)) ∈ lw_all := lw_g (lw_at lw_m11 59 rfl) rfl
theorem q2819 : (Jvm.Cond.code ({ cls := "ModuleEngine$Runner", name := "bytesOf", desc := "(I)I" } : Jvm.MethodName) prog_13_method_19_code (1 : Nat) (Option.some Jvm.ClassFile.FieldType.int)) ∈ lw_all := lw_g (lw_at lw_m11 60 rfl) rfl
theorem q2820 : (Jvm.Cond.methodLink "ModuleEngine$Runner" (386 : Nat) ({ cls := "ModuleEngine$Pages", name := "write", desc := "(IJIJ)V" } : Jvm.MethodName)) ∈ lw_all := lw_g (lw_at lw_m11 61 rfl) rfl
theorem q2825 : (Jvm.Cond.methodLink "ModuleEngine$Runner" (389 : Nat) ({ cls := "ModuleEngine$Runner", name := "load", desc := "(IJ)J" } : Jvm.MethodName)) ∈ lw_all := lw_g (lw_at lw_m11 66 rfl) rfl
theorem q2826 : (Jvm.Cond.privateMethod ({ cls := "ModuleEngine$Runner", name := "load", desc := "(IJ)J" } : Jvm.MethodName)) ∈ lw_tbl := lw_at lw_m11 67 rfl
theorem q2827 : (Jvm.Cond.instanceMethod ({ cls := "ModuleEngine$Runner", name := "load", desc := "(IJ)J" } : Jvm.MethodName)) ∈ lw_all := lw_g (lw_at lw_m11 68 rfl) rfl
theorem q2828 : (Jvm.Cond.code ({ cls := "ModuleEngine$Runner", name := "load", desc := "(IJ)J" } : Jvm.MethodName) prog_13_method_22_code (9 : Nat) (Option.some Jvm.ClassFile.FieldType.long)) ∈ lw_all := lw_g (lw_at lw_m11 69 rfl) rfl
theorem q2829 : (Jvm.Cond.methodLink "ModuleEngine$Runner" (258 : Nat) ({ cls := "ModuleEngine$Pages", name := "read", desc := "(IJI)J" } : Jvm.MethodName)) ∈ lw_all := lw_g (lw_at lw_m11 70 rfl) rfl
theorem q2833 : (Jvm.Cond.methodLink "ModuleEngine$Runner" (409 : Nat) ({ cls := "ModuleEngine$Runner", name := "calculateRegisters", desc := "(IIII)V" } : Jvm.MethodName)) ∈ lw_all := lw_g (lw_at lw_m11 74 rfl) rfl
theorem q2834 : (Jvm.Cond.privateMethod ({ cls := "ModuleEngine$Runner", name := "calculateRegisters", desc := "(IIII)V" } : Jvm.MethodName)) ∈ lw_tbl := lw_at lw_m11 75 rfl
theorem q2835 : (Jvm.Cond.instanceMethod ({ cls := "ModuleEngine$Runner", name := "calculateRegisters", desc := "(IIII)V" } : Jvm.MethodName)) ∈ lw_all := lw_g (lw_at lw_m11 76 rfl) rfl
theorem q2836 : (Jvm.Cond.code ({ cls := "ModuleEngine$Runner", name := "calculateRegisters", desc := "(IIII)V" } : Jvm.MethodName) prog_13_method_43_code (7 : Nat) (Option.none : Option Jvm.ClassFile.FieldType)) ∈ lw_all := lw_g (lw_at lw_m11 77 rfl) rfl
theorem q2837 : (Jvm.Cond.methodLink "ModuleEngine$Runner" (376 : Nat) ({ cls := "ModuleEngine$Numbers", name := "apply", desc := "(IJJ)J" } : Jvm.MethodName)) ∈ lw_all := lw_g (lw_at lw_m11 78 rfl) rfl
theorem q2838 : (Jvm.Cond.methodLink "ModuleEngine$Runner" (380 : Nat) ({ cls := "ModuleEngine$Numbers", name := "trap", desc := "()I" } : Jvm.MethodName)) ∈ lw_all := lw_g (lw_at lw_m11 79 rfl) rfl
theorem q2839 : (Jvm.Cond.methodLink "ModuleEngine$Runner" (194 : Nat) ({ cls := "ModuleEngine$Runner", name := "stepFlat", desc := "()V" } : Jvm.MethodName)) ∈ lw_all := lw_g (lw_at lw_m11 80 rfl) rfl
theorem q2840 : (Jvm.Cond.privateMethod ({ cls := "ModuleEngine$Runner", name := "stepFlat", desc := "()V" } : Jvm.MethodName)) ∈ lw_tbl := lw_at lw_m11 81 rfl
theorem q2841 : (Jvm.Cond.instanceMethod ({ cls := "ModuleEngine$Runner", name := "stepFlat", desc := "()V" } : Jvm.MethodName)) ∈ lw_all := lw_g (lw_at lw_m11 82 rfl) rfl
theorem q2842 : (Jvm.Cond.code ({ cls := "ModuleEngine$Runner", name := "stepFlat", desc := "()V" } : Jvm.MethodName) prog_13_method_33_code (10 : Nat) (Option.none : Option Jvm.ClassFile.FieldType)) ∈ lw_all := lw_g (lw_at lw_m11 83 rfl) rfl
theorem q2843 : (Jvm.Cond.methodLink "ModuleEngine$Runner" (316 : Nat) ({ cls := "ModuleEngine$Flat", name := "fieldAt", desc := "(II)I" } : Jvm.MethodName)) ∈ lw_all := lw_g (lw_at lw_m11 84 rfl) rfl
theorem q2844 : (Jvm.Cond.methodLink "ModuleEngine$Runner" (320 : Nat) ({ cls := "ModuleEngine$Runner", name := "pop", desc := "()J" } : Jvm.MethodName)) ∈ lw_all := lw_g (lw_at lw_m11 85 rfl) rfl
theorem q2845 : (Jvm.Cond.privateMethod ({ cls := "ModuleEngine$Runner", name := "pop", desc := "()J" } : Jvm.MethodName)) ∈ lw_tbl := lw_at lw_m11 86 rfl
theorem q2846 : (Jvm.Cond.instanceMethod ({ cls := "ModuleEngine$Runner", name := "pop", desc := "()J" } : Jvm.MethodName)) ∈ lw_all := lw_g (lw_at lw_m11 87 rfl) rfl
theorem q2847 : (Jvm.Cond.code ({ cls := "ModuleEngine$Runner", name := "pop", desc := "()J" } : Jvm.MethodName) prog_13_method_30_code (1 : Nat) (Option.some Jvm.ClassFile.FieldType.long)) ∈ lw_all := lw_g (lw_at lw_m11 88 rfl) rfl
theorem q2848 : (Jvm.Cond.methodLink "ModuleEngine$Runner" (324 : Nat) ({ cls := "ModuleEngine$Runner", name := "branch", desc := "(I)V" } : Jvm.MethodName)) ∈ lw_all := lw_g (lw_at lw_m11 89 rfl) rfl
theorem q2849 : (Jvm.Cond.privateMethod ({ cls := "ModuleEngine$Runner", name := "branch", desc := "(I)V" } : Jvm.MethodName)) ∈ lw_tbl := lw_at lw_m11 90 rfl
theorem q2850 : (Jvm.Cond.instanceMethod ({ cls := "ModuleEngine$Runner", name := "branch", desc := "(I)V" } : Jvm.MethodName)) ∈ lw_all := lw_g (lw_at lw_m11 91 rfl) rfl
theorem q2851 : (Jvm.Cond.code ({ cls := "ModuleEngine$Runner", name := "branch", desc := "(I)V" } : Jvm.MethodName) prog_13_method_32_code (5 : Nat) (Option.none : Option Jvm.ClassFile.FieldType)) ∈ lw_all := lw_g (lw_at lw_m11 92 rfl) rfl
theorem q2852 : (Jvm.Cond.methodLink "ModuleEngine$Runner" (337 : Nat) ({ cls := "ModuleEngine$Runner", name := "plainFlat", desc := "(III)V" } : Jvm.MethodName)) ∈ lw_all := lw_g (lw_at lw_m11 93 rfl) rfl
theorem q2853 : (Jvm.Cond.privateMethod ({ cls := "ModuleEngine$Runner", name := "plainFlat", desc := "(III)V" } : Jvm.MethodName)) ∈ lw_tbl := lw_at lw_m11 94 rfl
theorem q2854 : (Jvm.Cond.instanceMethod ({ cls := "ModuleEngine$Runner", name := "plainFlat", desc := "(III)V" } : Jvm.MethodName)) ∈ lw_all := lw_g (lw_at lw_m11 95 rfl) rfl
theorem q2855 : (Jvm.Cond.code ({ cls := "ModuleEngine$Runner", name := "plainFlat", desc := "(III)V" } : Jvm.MethodName) prog_13_method_35_code (10 : Nat) (Option.none : Option Jvm.ClassFile.FieldType)) ∈ lw_all := lw_g (lw_at lw_m11 96 rfl) rfl
theorem q2856 : (Jvm.Cond.methodLink "ModuleEngine$Runner" (340 : Nat) ({ cls := "ModuleEngine$Runner", name := "push", desc := "(J)V" } : Jvm.MethodName)) ∈ lw_all := lw_g (lw_at lw_m11 97 rfl) rfl
theorem q2857 : (Jvm.Cond.privateMethod ({ cls := "ModuleEngine$Runner", name := "push", desc := "(J)V" } : Jvm.MethodName)) ∈ lw_tbl := lw_at lw_m11 98 rfl
theorem q2858 : (Jvm.Cond.instanceMethod ({ cls := "ModuleEngine$Runner", name := "push", desc := "(J)V" } : Jvm.MethodName)) ∈ lw_all := lw_g (lw_at lw_m11 99 rfl) rfl
theorem q2859 : (Jvm.Cond.code ({ cls := "ModuleEngine$Runner", name := "push", desc := "(J)V" } : Jvm.MethodName) prog_13_method_31_code (3 : Nat) (Option.none : Option Jvm.ClassFile.FieldType)) ∈ lw_all := lw_g (lw_at lw_m11 100 rfl) rfl
theorem q2860 : (Jvm.Cond.methodLink "ModuleEngine$Runner" (344 : Nat) ({ cls := "ModuleEngine$Runner", name := "local", desc := "(I)I" } : Jvm.MethodName)) ∈ lw_all := lw_g (lw_at lw_m11 101 rfl) rfl
theorem q2861 : (Jvm.Cond.privateMethod ({ cls := "ModuleEngine$Runner", name := "local", desc := "(I)I" } : Jvm.MethodName)) ∈ lw_tbl := lw_at lw_m11 102 rfl
theorem q2862 : (Jvm.Cond.instanceMethod ({ cls := "ModuleEngine$Runner", name := "local", desc := "(I)I" } : Jvm.MethodName)) ∈ lw_all := lw_g (lw_at lw_m11 103 rfl) rfl
theorem q2863 : (Jvm.Cond.code ({ cls := "ModuleEngine$Runner", name := "local", desc := "(I)I" } : Jvm.MethodName) prog_13_method_34_code (2 : Nat) (Option.some Jvm.ClassFile.FieldType.int)) ∈ lw_all := lw_g (lw_at lw_m11 104 rfl) rfl
theorem q2864 : (Jvm.Cond.methodLink "ModuleEngine$Runner" (357 : Nat) ({ cls := "ModuleEngine$Runner", name := "otherFlat", desc := "(III)V" } : Jvm.MethodName)) ∈ lw_all := lw_g (lw_at lw_m11 105 rfl) rfl
theorem q2865 : (Jvm.Cond.privateMethod ({ cls := "ModuleEngine$Runner", name := "otherFlat", desc := "(III)V" } : Jvm.MethodName)) ∈ lw_tbl := lw_at lw_m11 106 rfl
theorem q2866 : (Jvm.Cond.instanceMethod ({ cls := "ModuleEngine$Runner", name := "otherFlat", desc := "(III)V" } : Jvm.MethodName)) ∈ lw_all := lw_g (lw_at lw_m11 107 rfl) rfl
theorem q2867 : (Jvm.Cond.code ({ cls := "ModuleEngine$Runner", name := "otherFlat", desc := "(III)V" } : Jvm.MethodName) prog_13_method_36_code (10 : Nat) (Option.none : Option Jvm.ClassFile.FieldType)) ∈ lw_all := lw_g (lw_at lw_m11 108 rfl) rfl
theorem q2868 : (Jvm.Cond.methodLink "ModuleEngine$Runner" (364 : Nat) ({ cls := "ModuleEngine$Flat", name := "out", desc := "(I)I" } : Jvm.MethodName)) ∈ lw_all := lw_g (lw_at lw_m11 109 rfl) rfl
theorem q2869 : (Jvm.Cond.methodLink "ModuleEngine$Runner" (367 : Nat) ({ cls := "ModuleEngine$Runner", name := "moveFlat", desc := "(IJ)V" } : Jvm.MethodName)) ∈ lw_all := lw_g (lw_at lw_m11 110 rfl) rfl
theorem q2870 : (Jvm.Cond.privateMethod ({ cls := "ModuleEngine$Runner", name := "moveFlat", desc := "(IJ)V" } : Jvm.MethodName)) ∈ lw_tbl := lw_at lw_m11 111 rfl
theorem q2871 : (Jvm.Cond.instanceMethod ({ cls := "ModuleEngine$Runner", name := "moveFlat", desc := "(IJ)V" } : Jvm.MethodName)) ∈ lw_all := lw_g (lw_at lw_m11 112 rfl) rfl
theorem q2872 : (Jvm.Cond.code ({ cls := "ModuleEngine$Runner", name := "moveFlat", desc := "(IJ)V" } : Jvm.MethodName) prog_13_method_37_code (8 : Nat) (Option.none : Option Jvm.ClassFile.FieldType)) ∈ lw_all := lw_g (lw_at lw_m11 113 rfl) rfl
theorem q2873 : (Jvm.Cond.methodLink "ModuleEngine$Runner" (371 : Nat) ({ cls := "ModuleEngine$Numbers", name := "operands", desc := "(I)I" } : Jvm.MethodName)) ∈ lw_all := lw_g (lw_at lw_m11 114 rfl) rfl
theorem q2919 : (Jvm.Cond.instanceMethod ({ cls := "ModuleEngine$Runner", name := "run", desc := "(I)I" } : Jvm.MethodName)) ∈ lw_all := lw_g (lw_at lw_m11 160 rfl) rfl
theorem q2920 : (Jvm.Cond.selects "ModuleEngine$Runner" ({ cls := "ModuleEngine$Runner", name := "run", desc := "(I)I" } : Jvm.MethodName) ({ cls := "ModuleEngine$Runner", name := "run", desc := "(I)I" } : Jvm.MethodName)) ∈ lw_all := lw_g (lw_at lw_m11 161 rfl) rfl
theorem q2921 : (Jvm.Cond.code ({ cls := "ModuleEngine$Runner", name := "run", desc := "(I)I" } : Jvm.MethodName) prog_13_method_15_code (4 : Nat) (Option.some Jvm.ClassFile.FieldType.int)) ∈ lw_all := lw_g (lw_at lw_m11 162 rfl) rfl
theorem q2931 : (Jvm.Cond.instanceMethod ({ cls := "ModuleEngine$Runner", name := "answer", desc := "([J)V" } : Jvm.MethodName)) ∈ lw_all := lw_g (lw_at lw_m11 172 rfl) rfl
theorem q2932 : (Jvm.Cond.selects "ModuleEngine$Runner" ({ cls := "ModuleEngine$Runner", name := "answer", desc := "([J)V" } : Jvm.MethodName) ({ cls := "ModuleEngine$Runner", name := "answer", desc := "([J)V" } : Jvm.MethodName)) ∈ lw_all := lw_g (lw_at lw_m11 173 rfl) rfl
theorem q2933 : (Jvm.Cond.code ({ cls := "ModuleEngine$Runner", name := "answer", desc := "([J)V" } : Jvm.MethodName) prog_13_method_11_code (4 : Nat) (Option.none : Option Jvm.ClassFile.FieldType)) ∈ lw_all := lw_g (lw_at lw_m11 174 rfl) rfl
theorem q2934 : (Jvm.Cond.methodLink "ModuleEngine$Runner" (182 : Nat) ({ cls := "ModuleEngine$Store", name := "resultsOf", desc := "(I)I" } : Jvm.MethodName)) ∈ lw_all := lw_g (lw_at lw_m11 175 rfl) rfl
theorem in_X16 : ∀ w ∈ wsX160, w ∈ lw_all := lw_in wsX160 [1158, 1160, 1162, 1164, 1166, 1168, 1170, 1172, 1174, 1176, 1178, 1180, 1182, 1184, 1186, 1188, 1190, 1192, 1194, 1196, 1198, 1200, 1202, 1204, 1206, 1208] (by decide +kernel) (by decide +kernel)

/-! ModuleEngineModel -/
set_option maxRecDepth 100000
def RX17 : String := "ModuleEngineModel"
def TX17 : u_T := fun k => match k with
  | 0 => ("ModuleEngineModel", "tape", "[B", true)
  | 1 => ("ModuleEngineModel", "taped", "I", false)
  | 2 => ("ModuleEngineModel", "fed", "I", false)
  | 3 => ("ModuleEngineModel", "modules", "I", false)
  | 4 => ("ModuleEngineModel", "plans", "[LModuleEngineModel$Plan;", true)
  | 5 => ("ModuleEngineModel", "spare", "LModuleEngineModel$Plan;", false)
  | 6 => ("ModuleEngineModel", "looked", "Z", false)
  | 7 => ("ModuleEngineModel", "faultNumber", "I", false)
  | 8 => ("ModuleEngineModel", "faultPlace", "I", false)
  | 9 => ("ModuleEngineModel", "stopper", "LModuleEngineModel$Fault;", true)
  | 10 => ("ModuleEngineModel", "plan", "LModuleEngineModel$Plan;", false)
  | 11 => ("ModuleEngineModel", "at", "I", false)
  | 12 => ("ModuleEngineModel", "partEnd", "I", false)
  | 13 => ("ModuleEngineModel", "idPlace", "I", false)
  | 14 => ("ModuleEngineModel", "nestOp", "[I", true)
  | 15 => ("ModuleEngineModel", "nestAt", "[I", true)
  | 16 => ("ModuleEngineModel", "nameFrom", "I", false)
  | 17 => ("ModuleEngineModel", "least", "J", false)
  | 18 => ("ModuleEngineModel", "greatest", "J", false)
  | 19 => ("ModuleEngineModel", "look", "I", false)
  | 20 => ("ModuleEngineModel", "declared", "[Z", true)
  | 21 => ("ModuleEngineModel", "deepAt", "I", false)
  | 22 => ("ModuleEngineModel", "row", "[I", true)
  | 23 => ("ModuleEngineModel", "size", "I", false)
  | 24 => ("ModuleEngineModel", "labels", "I", false)
  | 25 => ("ModuleEngineModel", "labelOp", "[I", true)
  | 26 => ("ModuleEngineModel", "labelType", "[J", true)
  | 27 => ("ModuleEngineModel", "labelLow", "[I", true)
  | 28 => ("ModuleEngineModel", "labelDead", "[Z", true)
  | 29 => ("ModuleEngineModel", "body", "I", false)
  | 30 => ("ModuleEngineModel", "bodyType", "I", false)
  | 31 => ("ModuleEngineModel", "place", "I", false)
  | 32 => ("ModuleEngineModel", "took", "[I", true)
  | 33 => ("ModuleEngineModel", "trapped", "I", false)
  | 34 => ("ModuleEngineModel", "one", "LModuleEngineModel$Real;", true)
  | 35 => ("ModuleEngineModel", "two", "LModuleEngineModel$Real;", true)
  | 36 => ("ModuleEngineModel", "functions", "I", false)
  | 37 => ("ModuleEngineModel", "moduleOf", "[I", true)
  | 38 => ("ModuleEngineModel", "typeOf", "[I", true)
  | 39 => ("ModuleEngineModel", "homeOf", "[I", true)
  | 40 => ("ModuleEngineModel", "bodyOf", "[I", true)
  | 41 => ("ModuleEngineModel", "hostOf", "[I", true)
  | 42 => ("ModuleEngineModel", "framesOf", "[I", true)
  | 43 => ("ModuleEngineModel", "isOver", "[Z", true)
  | 44 => ("ModuleEngineModel", "tier", "I", false)
  | 45 => ("ModuleEngineModel", "over", "I", false)
  | 46 => ("ModuleEngineModel", "tables", "I", false)
  | 47 => ("ModuleEngineModel", "entriesLeft", "I", false)
  | 48 => ("ModuleEngineModel", "tableKind", "[I", true)
  | 49 => ("ModuleEngineModel", "tableSize", "[I", true)
  | 50 => ("ModuleEngineModel", "tableMost", "[J", true)
  | 51 => ("ModuleEngineModel", "entries", "[I", true)
  | 52 => ("ModuleEngineModel", "memories", "I", false)
  | 53 => ("ModuleEngineModel", "pagesLeft", "I", false)
  | 54 => ("ModuleEngineModel", "pages", "[I", true)
  | 55 => ("ModuleEngineModel", "memoryMost", "[J", true)
  | 56 => ("ModuleEngineModel", "pageOf", "[I", true)
  | 57 => ("ModuleEngineModel", "content", "[B", true)
  | 58 => ("ModuleEngineModel", "globals", "I", false)
  | 59 => ("ModuleEngineModel", "globalKind", "[I", true)
  | 60 => ("ModuleEngineModel", "globalChanges", "[Z", true)
  | 61 => ("ModuleEngineModel", "globalValue", "[J", true)
  | 62 => ("ModuleEngineModel", "instances", "I", false)
  | 63 => ("ModuleEngineModel", "madeOf", "[I", true)
  | 64 => ("ModuleEngineModel", "itsFunctions", "[I", true)
  | 65 => ("ModuleEngineModel", "itsTables", "[I", true)
  | 66 => ("ModuleEngineModel", "itsMemories", "[I", true)
  | 67 => ("ModuleEngineModel", "itsGlobals", "[I", true)
  | 68 => ("ModuleEngineModel", "elementFrom", "[I", true)
  | 69 => ("ModuleEngineModel", "elementSize", "[I", true)
  | 70 => ("ModuleEngineModel", "dataLeft", "[Z", true)
  | 71 => ("ModuleEngineModel", "references", "I", false)
  | 72 => ("ModuleEngineModel", "reference", "[I", true)
  | 73 => ("ModuleEngineModel", "offers", "I", false)
  | 74 => ("ModuleEngineModel", "offerKind", "[I", true)
  | 75 => ("ModuleEngineModel", "offerOf", "[I", true)
  | 76 => ("ModuleEngineModel", "state", "I", false)
  | 77 => ("ModuleEngineModel", "latestTrap", "I", false)
  | 78 => ("ModuleEngineModel", "steps", "I", false)
  | 79 => ("ModuleEngineModel", "asked", "I", false)
  | 80 => ("ModuleEngineModel", "askedFunction", "I", false)
  | 81 => ("ModuleEngineModel", "arguments", "I", false)
  | 82 => ("ModuleEngineModel", "argument", "[J", true)
  | 83 => ("ModuleEngineModel", "tellings", "I", false)
  | 84 => ("ModuleEngineModel", "telling", "[J", true)
  | 85 => ("ModuleEngineModel", "frames", "I", false)
  | 86 => ("ModuleEngineModel", "frameOf", "[I", true)
  | 87 => ("ModuleEngineModel", "frameBack", "[I", true)
  | 88 => ("ModuleEngineModel", "frameFrom", "[I", true)
  | 89 => ("ModuleEngineModel", "frameAsks", "[I", true)
  | 90 => ("ModuleEngineModel", "frameTop", "[I", true)
  | 91 => ("ModuleEngineModel", "frameMarks", "[I", true)
  | 92 => ("ModuleEngineModel", "values", "[J", true)
  | 93 => ("ModuleEngineModel", "top", "I", false)
  | 94 => ("ModuleEngineModel", "pc", "I", false)
  | 95 => ("ModuleEngineModel", "instance", "I", false)
  | 96 => ("ModuleEngineModel", "marks", "I", false)
  | 97 => ("ModuleEngineModel", "markTo", "[I", true)
  | 98 => ("ModuleEngineModel", "markLow", "[I", true)
  | 99 => ("ModuleEngineModel", "markKeeps", "[I", true)
  | _ => ("ModuleEngineModel", "markStays", "[Z", true)
def tyX17 : Nat → FieldType := fun k => match k with
  | 0 => .array .byte
  | 1 => .int
  | 2 => .int
  | 3 => .int
  | 4 => .array (.object "ModuleEngineModel$Plan")
  | 5 => .object "ModuleEngineModel$Plan"
  | 6 => .boolean
  | 7 => .int
  | 8 => .int
  | 9 => .object "ModuleEngineModel$Fault"
  | 10 => .object "ModuleEngineModel$Plan"
  | 11 => .int
  | 12 => .int
  | 13 => .int
  | 14 => .array .int
  | 15 => .array .int
  | 16 => .int
  | 17 => .long
  | 18 => .long
  | 19 => .int
  | 20 => .array .boolean
  | 21 => .int
  | 22 => .array .int
  | 23 => .int
  | 24 => .int
  | 25 => .array .int
  | 26 => .array .long
  | 27 => .array .int
  | 28 => .array .boolean
  | 29 => .int
  | 30 => .int
  | 31 => .int
  | 32 => .array .int
  | 33 => .int
  | 34 => .object "ModuleEngineModel$Real"
  | 35 => .object "ModuleEngineModel$Real"
  | 36 => .int
  | 37 => .array .int
  | 38 => .array .int
  | 39 => .array .int
  | 40 => .array .int
  | 41 => .array .int
  | 42 => .array .int
  | 43 => .array .boolean
  | 44 => .int
  | 45 => .int
  | 46 => .int
  | 47 => .int
  | 48 => .array .int
  | 49 => .array .int
  | 50 => .array .long
  | 51 => .array .int
  | 52 => .int
  | 53 => .int
  | 54 => .array .int
  | 55 => .array .long
  | 56 => .array .int
  | 57 => .array .byte
  | 58 => .int
  | 59 => .array .int
  | 60 => .array .boolean
  | 61 => .array .long
  | 62 => .int
  | 63 => .array .int
  | 64 => .array .int
  | 65 => .array .int
  | 66 => .array .int
  | 67 => .array .int
  | 68 => .array .int
  | 69 => .array .int
  | 70 => .array .boolean
  | 71 => .int
  | 72 => .array .int
  | 73 => .int
  | 74 => .array .int
  | 75 => .array .int
  | 76 => .int
  | 77 => .int
  | 78 => .int
  | 79 => .int
  | 80 => .int
  | 81 => .int
  | 82 => .array .long
  | 83 => .int
  | 84 => .array .long
  | 85 => .int
  | 86 => .array .int
  | 87 => .array .int
  | 88 => .array .int
  | 89 => .array .int
  | 90 => .array .int
  | 91 => .array .int
  | 92 => .array .long
  | 93 => .int
  | 94 => .int
  | 95 => .int
  | 96 => .int
  | 97 => .array .int
  | 98 => .array .int
  | 99 => .array .int
  | _ => .array .boolean
abbrev wsX170 : List Cond := u_ws RX17 TX17 101
set_option maxRecDepth 100000 in
theorem nmX17 : ∀ a, a < 101 → ∀ b, b < 101 → a ≠ b → (TX17 a).2.1 ≠ (TX17 b).2.1 := by decide +kernel
set_option maxRecDepth 100000 in
theorem tyX17_ok : ∀ k, k < 101 → parseFieldDescriptor (TX17 k).2.2.1 = some (tyX17 k) := by decide +kernel
abbrev cX17_init : ByteArray := prog_20_method_1_code
def yX17_init : MethodName := ⟨RX17, "<init>", "()V"⟩
abbrev cX17_feed : ByteArray := prog_20_method_2_code
def yX17_feed : MethodName := ⟨RX17, "feed", "(IIIII)I"⟩
abbrev cX17_puts : ByteArray := prog_20_method_3_code
def yX17_puts : MethodName := ⟨RX17, "puts", "(I)V"⟩
abbrev cX17_module : ByteArray := prog_20_method_4_code
def yX17_module : MethodName := ⟨RX17, "module", "(I)I"⟩
abbrev cX17_readsAll : ByteArray := prog_20_method_18_code
def yX17_readsAll : MethodName := ⟨RX17, "readsAll", "()V"⟩
abbrev cX17_next : ByteArray := prog_20_method_7_code
def yX17_next : MethodName := ⟨RX17, "next", "()I"⟩
abbrev cX17_stops : ByteArray := prog_20_method_6_code
def yX17_stops : MethodName := ⟨RX17, "stops", "(II)V"⟩
abbrev cX17_rank : ByteArray := prog_20_method_17_code
def yX17_rank : MethodName := ⟨RX17, "rank", "(I)I"⟩
abbrev cX17_number : ByteArray := prog_20_method_8_code
def yX17_number : MethodName := ⟨RX17, "number", "()J"⟩
abbrev cX17_readsSection : ByteArray := prog_20_method_19_code
def yX17_readsSection : MethodName := ⟨RX17, "readsSection", "(I)V"⟩
abbrev cX17_name : ByteArray := prog_20_method_15_code
def yX17_name : MethodName := ⟨RX17, "name", "()V"⟩
abbrev cX17_character : ByteArray := prog_20_method_16_code
def yX17_character : MethodName := ⟨RX17, "character", "(II)I"⟩
abbrev cX17_readsTypes : ByteArray := prog_20_method_23_code
def yX17_readsTypes : MethodName := ⟨RX17, "readsTypes", "()V"⟩
abbrev cX17_kept : ByteArray := prog_20_method_21_code
def yX17_kept : MethodName := ⟨RX17, "kept", "(J)I"⟩
abbrev cX17_exceeds : ByteArray := prog_20_method_20_code
def yX17_exceeds : MethodName := ⟨RX17, "exceeds", "(Z)V"⟩
abbrev cX17_typeRow : ByteArray := prog_20_method_22_code
def yX17_typeRow : MethodName := ⟨RX17, "typeRow", "(I)I"⟩
abbrev cX17_type : ByteArray := prog_20_method_12_code
def yX17_type : MethodName := ⟨RX17, "type", "()I"⟩
abbrev cX17_isType : ByteArray := prog_20_method_11_code
def yX17_isType : MethodName := ⟨RX17, "isType", "(I)Z"⟩
abbrev cX17_isReference : ByteArray := prog_20_method_10_code
def yX17_isReference : MethodName := ⟨RX17, "isReference", "(I)Z"⟩
abbrev cX17_readsImports : ByteArray := prog_20_method_25_code
def yX17_readsImports : MethodName := ⟨RX17, "readsImports", "()V"⟩
abbrev cX17_small : ByteArray := prog_20_method_14_code
def yX17_small : MethodName := ⟨RX17, "small", "(I)I"⟩
abbrev cX17_referenceType : ByteArray := prog_20_method_13_code
def yX17_referenceType : MethodName := ⟨RX17, "referenceType", "()I"⟩
abbrev cX17_limits : ByteArray := prog_20_method_24_code
def yX17_limits : MethodName := ⟨RX17, "limits", "()V"⟩
abbrev cX17_readsFunctions : ByteArray := prog_20_method_26_code
def yX17_readsFunctions : MethodName := ⟨RX17, "readsFunctions", "()V"⟩
abbrev cX17_readsTables : ByteArray := prog_20_method_27_code
def yX17_readsTables : MethodName := ⟨RX17, "readsTables", "()V"⟩
abbrev cX17_readsMemories : ByteArray := prog_20_method_28_code
def yX17_readsMemories : MethodName := ⟨RX17, "readsMemories", "()V"⟩
abbrev cX17_readsGlobals : ByteArray := prog_20_method_29_code
def yX17_readsGlobals : MethodName := ⟨RX17, "readsGlobals", "()V"⟩
abbrev cX17_expression : ByteArray := prog_20_method_36_code
def yX17_expression : MethodName := ⟨RX17, "expression", "(Z)V"⟩
abbrev cX17_blockType : ByteArray := prog_20_method_37_code
def yX17_blockType : MethodName := ⟨RX17, "blockType", "()V"⟩
abbrev cX17_signed : ByteArray := prog_20_method_9_code
def yX17_signed : MethodName := ⟨RX17, "signed", "(I)J"⟩
abbrev cX17_operands : ByteArray := prog_20_method_41_code
def yX17_operands : MethodName := ⟨RX17, "operands", "(IIZ)V"⟩
abbrev cX17_isAlone : ByteArray := prog_20_method_38_code
def yX17_isAlone : MethodName := ⟨RX17, "isAlone", "(I)Z"⟩
abbrev cX17_hasNumber : ByteArray := prog_20_method_39_code
def yX17_hasNumber : MethodName := ⟨RX17, "hasNumber", "(I)Z"⟩
abbrev cX17_isAccess : ByteArray := prog_20_method_40_code
def yX17_isAccess : MethodName := ⟨RX17, "isAccess", "(I)Z"⟩
abbrev cX17_further : ByteArray := prog_20_method_42_code
def yX17_further : MethodName := ⟨RX17, "further", "(I)V"⟩
abbrev cX17_readsExports : ByteArray := prog_20_method_30_code
def yX17_readsExports : MethodName := ⟨RX17, "readsExports", "()V"⟩
abbrev cX17_readsElements : ByteArray := prog_20_method_31_code
def yX17_readsElements : MethodName := ⟨RX17, "readsElements", "()V"⟩
abbrev cX17_readsElement : ByteArray := prog_20_method_32_code
def yX17_readsElement : MethodName := ⟨RX17, "readsElement", "(II)V"⟩
abbrev cX17_readsBodies : ByteArray := prog_20_method_33_code
def yX17_readsBodies : MethodName := ⟨RX17, "readsBodies", "()V"⟩
abbrev cX17_readsBody : ByteArray := prog_20_method_34_code
def yX17_readsBody : MethodName := ⟨RX17, "readsBody", "(I)V"⟩
abbrev cX17_readsDatas : ByteArray := prog_20_method_35_code
def yX17_readsDatas : MethodName := ⟨RX17, "readsDatas", "()V"⟩
abbrev cX17_checksAll : ByteArray := prog_20_method_49_code
def yX17_checksAll : MethodName := ⟨RX17, "checksAll", "()V"⟩
abbrev cX17_checksTypes : ByteArray := prog_20_method_50_code
def yX17_checksTypes : MethodName := ⟨RX17, "checksTypes", "()V"⟩
abbrev cX17_checksLimits : ByteArray := prog_20_method_52_code
def yX17_checksLimits : MethodName := ⟨RX17, "checksLimits", "()V"⟩
abbrev cX17_areLimits : ByteArray := prog_20_method_51_code
def yX17_areLimits : MethodName := ⟨RX17, "areLimits", "(JJZ)Z"⟩
abbrev cX17_checksExports : ByteArray := prog_20_method_54_code
def yX17_checksExports : MethodName := ⟨RX17, "checksExports", "()V"⟩
abbrev cX17_isSameName : ByteArray := prog_20_method_53_code
def yX17_isSameName : MethodName := ⟨RX17, "isSameName", "(II)Z"⟩
abbrev cX17_declares : ByteArray := prog_20_method_57_code
def yX17_declares : MethodName := ⟨RX17, "declares", "()V"⟩
abbrev cX17_declaresIn : ByteArray := prog_20_method_56_code
def yX17_declaresIn : MethodName := ⟨RX17, "declaresIn", "(I)V"⟩
abbrev cX17_word : ByteArray := prog_20_method_43_code
def yX17_word : MethodName := ⟨RX17, "word", "()J"⟩
abbrev cX17_declare : ByteArray := prog_20_method_55_code
def yX17_declare : MethodName := ⟨RX17, "declare", "(J)V"⟩
abbrev cX17_behind : ByteArray := prog_20_method_47_code
def yX17_behind : MethodName := ⟨RX17, "behind", "(I)I"⟩
abbrev cX17_blockWord : ByteArray := prog_20_method_46_code
def yX17_blockWord : MethodName := ⟨RX17, "blockWord", "()J"⟩
abbrev cX17_signedWord : ByteArray := prog_20_method_44_code
def yX17_signedWord : MethodName := ⟨RX17, "signedWord", "()J"⟩
abbrev cX17_passesFurther : ByteArray := prog_20_method_48_code
def yX17_passesFurther : MethodName := ⟨RX17, "passesFurther", "()V"⟩
abbrev cX17_constantly : ByteArray := prog_20_method_60_code
def yX17_constantly : MethodName := ⟨RX17, "constantly", "(II)V"⟩
abbrev cX17_constantType : ByteArray := prog_20_method_59_code
def yX17_constantType : MethodName := ⟨RX17, "constantType", "(I)I"⟩
abbrev cX17_checksElement : ByteArray := prog_20_method_58_code
def yX17_checksElement : MethodName := ⟨RX17, "checksElement", "(I)V"⟩
abbrev cX17_checksBody : ByteArray := prog_20_method_78_code
def yX17_checksBody : MethodName := ⟨RX17, "checksBody", "(I)V"⟩
abbrev cX17_begins : ByteArray := prog_20_method_73_code
def yX17_begins : MethodName := ⟨RX17, "begins", "(IJ)V"⟩
abbrev cX17_isNamed : ByteArray := prog_20_method_80_code
def yX17_isNamed : MethodName := ⟨RX17, "isNamed", "(II)Z"⟩
abbrev cX17_widthOf : ByteArray := prog_20_method_79_code
def yX17_widthOf : MethodName := ⟨RX17, "widthOf", "(I)I"⟩
abbrev cX17_isNamedFurther : ByteArray := prog_20_method_81_code
def yX17_isNamedFurther : MethodName := ⟨RX17, "isNamedFurther", "()Z"⟩
abbrev cX17_goesTogether : ByteArray := prog_20_method_82_code
def yX17_goesTogether : MethodName := ⟨RX17, "goesTogether", "(I)V"⟩
abbrev cX17_operates : ByteArray := prog_20_method_83_code
def yX17_operates : MethodName := ⟨RX17, "operates", "(I)V"⟩
abbrev cX17_operandOf : ByteArray := prog_20_method_92_code
def yX17_operandOf : MethodName := ⟨RX17, "operandOf", "(I)I"⟩
abbrev cX17_hasTwo : ByteArray := prog_20_method_94_code
def yX17_hasTwo : MethodName := ⟨RX17, "hasTwo", "(I)Z"⟩
abbrev cX17_takes : ByteArray := prog_20_method_72_code
def yX17_takes : MethodName := ⟨RX17, "takes", "(II)V"⟩
abbrev cX17_take : ByteArray := prog_20_method_66_code
def yX17_take : MethodName := ⟨RX17, "take", "(I)I"⟩
abbrev cX17_resultOf : ByteArray := prog_20_method_93_code
def yX17_resultOf : MethodName := ⟨RX17, "resultOf", "(I)I"⟩
abbrev cX17_put : ByteArray := prog_20_method_67_code
def yX17_put : MethodName := ⟨RX17, "put", "(I)V"⟩
abbrev cX17_controls : ByteArray := prog_20_method_84_code
def yX17_controls : MethodName := ⟨RX17, "controls", "(I)V"⟩
abbrev cX17_dies : ByteArray := prog_20_method_74_code
def yX17_dies : MethodName := ⟨RX17, "dies", "()V"⟩
abbrev cX17_takeParameters : ByteArray := prog_20_method_68_code
def yX17_takeParameters : MethodName := ⟨RX17, "takeParameters", "(J)V"⟩
abbrev cX17_parametersOf : ByteArray := prog_20_method_61_code
def yX17_parametersOf : MethodName := ⟨RX17, "parametersOf", "(J)I"⟩
abbrev cX17_parameterAt : ByteArray := prog_20_method_63_code
def yX17_parameterAt : MethodName := ⟨RX17, "parameterAt", "(JI)I"⟩
abbrev cX17_putParameters : ByteArray := prog_20_method_69_code
def yX17_putParameters : MethodName := ⟨RX17, "putParameters", "(J)V"⟩
abbrev cX17_ends : ByteArray := prog_20_method_85_code
def yX17_ends : MethodName := ⟨RX17, "ends", "(I)V"⟩
abbrev cX17_takeResults : ByteArray := prog_20_method_70_code
def yX17_takeResults : MethodName := ⟨RX17, "takeResults", "(J)V"⟩
abbrev cX17_resultsOf : ByteArray := prog_20_method_62_code
def yX17_resultsOf : MethodName := ⟨RX17, "resultsOf", "(J)I"⟩
abbrev cX17_resultAt : ByteArray := prog_20_method_64_code
def yX17_resultAt : MethodName := ⟨RX17, "resultAt", "(JI)I"⟩
abbrev cX17_putResults : ByteArray := prog_20_method_71_code
def yX17_putResults : MethodName := ⟨RX17, "putResults", "(J)V"⟩
abbrev cX17_takeWanted : ByteArray := prog_20_method_77_code
def yX17_takeWanted : MethodName := ⟨RX17, "takeWanted", "(I)V"⟩
abbrev cX17_wantedBy : ByteArray := prog_20_method_75_code
def yX17_wantedBy : MethodName := ⟨RX17, "wantedBy", "(I)I"⟩
abbrev cX17_wantedAt : ByteArray := prog_20_method_76_code
def yX17_wantedAt : MethodName := ⟨RX17, "wantedAt", "(II)I"⟩
abbrev cX17_chooses : ByteArray := prog_20_method_86_code
def yX17_chooses : MethodName := ⟨RX17, "chooses", "()V"⟩
abbrev cX17_selects : ByteArray := prog_20_method_87_code
def yX17_selects : MethodName := ⟨RX17, "selects", "()V"⟩
abbrev cX17_names : ByteArray := prog_20_method_88_code
def yX17_names : MethodName := ⟨RX17, "names", "(I)V"⟩
abbrev cX17_localType : ByteArray := prog_20_method_65_code
def yX17_localType : MethodName := ⟨RX17, "localType", "(IIJ)I"⟩
abbrev cX17_accesses : ByteArray := prog_20_method_90_code
def yX17_accesses : MethodName := ⟨RX17, "accesses", "(I)V"⟩
abbrev cX17_accessType : ByteArray := prog_20_method_89_code
def yX17_accessType : MethodName := ⟨RX17, "accessType", "(I)I"⟩
abbrev cX17_furthers : ByteArray := prog_20_method_91_code
def yX17_furthers : MethodName := ⟨RX17, "furthers", "()V"⟩
abbrev cX17_fault : ByteArray := prog_20_method_5_code
def yX17_fault : MethodName := ⟨RX17, "fault", "(I)I"⟩
abbrev cX17_offer : ByteArray := prog_20_method_131_code
def yX17_offer : MethodName := ⟨RX17, "offer", "(II)I"⟩
abbrev cX17_isExport : ByteArray := prog_20_method_126_code
def yX17_isExport : MethodName := ⟨RX17, "isExport", "(II)Z"⟩
abbrev cX17_isInstance : ByteArray := prog_20_method_125_code
def yX17_isInstance : MethodName := ⟨RX17, "isInstance", "(I)Z"⟩
abbrev cX17_exportKind : ByteArray := prog_20_method_127_code
def yX17_exportKind : MethodName := ⟨RX17, "exportKind", "(II)I"⟩
abbrev cX17_exported : ByteArray := prog_20_method_128_code
def yX17_exported : MethodName := ⟨RX17, "exported", "(II)I"⟩
abbrev cX17_thing : ByteArray := prog_20_method_129_code
def yX17_thing : MethodName := ⟨RX17, "thing", "(III)I"⟩
abbrev cX17_make : ByteArray := prog_20_method_136_code
def yX17_make : MethodName := ⟨RX17, "make", "(I)I"⟩
abbrev cX17_runs : ByteArray := prog_20_method_132_code
def yX17_runs : MethodName := ⟨RX17, "runs", "()Z"⟩
abbrev cX17_fits : ByteArray := prog_20_method_134_code
def yX17_fits : MethodName := ⟨RX17, "fits", "(II)Z"⟩
abbrev cX17_haveSameRows : ByteArray := prog_20_method_133_code
def yX17_haveSameRows : MethodName := ⟨RX17, "haveSameRows", "(IIII)Z"⟩
abbrev cX17_hasRoom : ByteArray := prog_20_method_135_code
def yX17_hasRoom : MethodName := ⟨RX17, "hasRoom", "(LModuleEngineModel$Plan;I)Z"⟩
abbrev cX17_takesImports : ByteArray := prog_20_method_138_code
def yX17_takesImports : MethodName := ⟨RX17, "takesImports", "(II)V"⟩
abbrev cX17_newFunction : ByteArray := prog_20_method_137_code
def yX17_newFunction : MethodName := ⟨RX17, "newFunction", "(IIIII)I"⟩
abbrev cX17_has : ByteArray := prog_20_method_139_code
def yX17_has : MethodName := ⟨RX17, "has", "(IIII)V"⟩
abbrev cX17_takesOwn : ByteArray := prog_20_method_140_code
def yX17_takesOwn : MethodName := ⟨RX17, "takesOwn", "(II)V"⟩
abbrev cX17_grows : ByteArray := prog_20_method_142_code
def yX17_grows : MethodName := ⟨RX17, "grows", "(III)V"⟩
abbrev cX17_growsPages : ByteArray := prog_20_method_143_code
def yX17_growsPages : MethodName := ⟨RX17, "growsPages", "(II)V"⟩
abbrev cX17_constant : ByteArray := prog_20_method_144_code
def yX17_constant : MethodName := ⟨RX17, "constant", "(II)J"⟩
abbrev cX17_bytesAt : ByteArray := prog_20_method_45_code
def yX17_bytesAt : MethodName := ⟨RX17, "bytesAt", "(I)J"⟩
abbrev cX17_takesElement : ByteArray := prog_20_method_141_code
def yX17_takesElement : MethodName := ⟨RX17, "takesElement", "(II)V"⟩
abbrev cX17_startsUp : ByteArray := prog_20_method_146_code
def yX17_startsUp : MethodName := ⟨RX17, "startsUp", "(I)V"⟩
abbrev cX17_copiesElement : ByteArray := prog_20_method_148_code
def yX17_copiesElement : MethodName := ⟨RX17, "copiesElement", "(IIIJJJ)Z"⟩
abbrev cX17_failsAtOnce : ByteArray := prog_20_method_147_code
def yX17_failsAtOnce : MethodName := ⟨RX17, "failsAtOnce", "(I)V"⟩
abbrev cX17_dropped : ByteArray := prog_20_method_145_code
def yX17_dropped : MethodName := ⟨RX17, "dropped", "(II)V"⟩
abbrev cX17_copiesData : ByteArray := prog_20_method_149_code
def yX17_copiesData : MethodName := ⟨RX17, "copiesData", "(IIIJJJ)Z"⟩
abbrev cX17_sets : ByteArray := prog_20_method_151_code
def yX17_sets : MethodName := ⟨RX17, "sets", "(IJB)V"⟩
abbrev cX17_placeOf : ByteArray := prog_20_method_150_code
def yX17_placeOf : MethodName := ⟨RX17, "placeOf", "(IJ)I"⟩
abbrev cX17_calls : ByteArray := prog_20_method_160_code
def yX17_calls : MethodName := ⟨RX17, "calls", "(I)V"⟩
abbrev cX17_enters : ByteArray := prog_20_method_161_code
def yX17_enters : MethodName := ⟨RX17, "enters", "(I)V"⟩
abbrev cX17_parametersIn : ByteArray := prog_20_method_154_code
def yX17_parametersIn : MethodName := ⟨RX17, "parametersIn", "(I)I"⟩
abbrev cX17_planOf : ByteArray := prog_20_method_153_code
def yX17_planOf : MethodName := ⟨RX17, "planOf", "(I)LModuleEngineModel$Plan;"⟩
abbrev cX17_counts : ByteArray := prog_20_method_162_code
def yX17_counts : MethodName := ⟨RX17, "counts", "(I)V"⟩
abbrev cX17_opens : ByteArray := prog_20_method_163_code
def yX17_opens : MethodName := ⟨RX17, "opens", "(IIIZ)V"⟩
abbrev cX17_goesOn : ByteArray := prog_20_method_164_code
def yX17_goesOn : MethodName := ⟨RX17, "goesOn", "()V"⟩
abbrev cX17_opensBlock : ByteArray := prog_20_method_165_code
def yX17_opensBlock : MethodName := ⟨RX17, "opensBlock", "(I)V"⟩
abbrev cX17_closes : ByteArray := prog_20_method_166_code
def yX17_closes : MethodName := ⟨RX17, "closes", "()V"⟩
abbrev cX17_resultsIn : ByteArray := prog_20_method_155_code
def yX17_resultsIn : MethodName := ⟨RX17, "resultsIn", "(I)I"⟩
abbrev cX17_argument : ByteArray := prog_20_method_158_code
def yX17_argument : MethodName := ⟨RX17, "argument", "(J)I"⟩
abbrev cX17_call : ByteArray := prog_20_method_159_code
def yX17_call : MethodName := ⟨RX17, "call", "(II)Z"⟩
abbrev cX17_exportedAs : ByteArray := prog_20_method_130_code
def yX17_exportedAs : MethodName := ⟨RX17, "exportedAs", "(III)I"⟩
abbrev cX17_areSuch : ByteArray := prog_20_method_156_code
def yX17_areSuch : MethodName := ⟨RX17, "areSuch", "(II)Z"⟩
abbrev cX17_held : ByteArray := prog_20_method_157_code
def yX17_held : MethodName := ⟨RX17, "held", "(IJ)J"⟩
abbrev cX17_run : ByteArray := prog_20_method_167_code
def yX17_run : MethodName := ⟨RX17, "run", "(I)I"⟩
abbrev cX17_step : ByteArray := prog_20_method_173_code
def yX17_step : MethodName := ⟨RX17, "step", "()V"⟩
abbrev cX17_operator : ByteArray := prog_20_method_174_code
def yX17_operator : MethodName := ⟨RX17, "operator", "(I)V"⟩
abbrev cX17_pop : ByteArray := prog_20_method_171_code
def yX17_pop : MethodName := ⟨RX17, "pop", "()J"⟩
abbrev cX17_reckons : ByteArray := prog_20_method_97_code
def yX17_reckons : MethodName := ⟨RX17, "reckons", "(IJJ)J"⟩
abbrev cX17_isWhole : ByteArray := prog_20_method_98_code
def yX17_isWhole : MethodName := ⟨RX17, "isWhole", "(IJJJJ)Z"⟩
abbrev cX17_isBelow : ByteArray := prog_20_method_95_code
def yX17_isBelow : MethodName := ⟨RX17, "isBelow", "(JJ)Z"⟩
abbrev cX17_isReal : ByteArray := prog_20_method_110_code
def yX17_isReal : MethodName := ⟨RX17, "isReal", "(IIJJ)Z"⟩
abbrev cX17_order : ByteArray := prog_20_method_109_code
def yX17_order : MethodName := ⟨RX17, "order", "(IJ)J"⟩
abbrev cX17_signOf : ByteArray := prog_20_method_105_code
def yX17_signOf : MethodName := ⟨RX17, "signOf", "(I)J"⟩
abbrev cX17_short32 : ByteArray := prog_20_method_101_code
def yX17_short32 : MethodName := ⟨RX17, "short32", "(IJJJJ)J"⟩
abbrev cX17_zeros : ByteArray := prog_20_method_99_code
def yX17_zeros : MethodName := ⟨RX17, "zeros", "(JIZ)I"⟩
abbrev cX17_ones : ByteArray := prog_20_method_100_code
def yX17_ones : MethodName := ⟨RX17, "ones", "(J)I"⟩
abbrev cX17_divided : ByteArray := prog_20_method_104_code
def yX17_divided : MethodName := ⟨RX17, "divided", "(IJJJ)J"⟩
abbrev cX17_traps : ByteArray := prog_20_method_96_code
def yX17_traps : MethodName := ⟨RX17, "traps", "(I)V"⟩
abbrev cX17_plain : ByteArray := prog_20_method_103_code
def yX17_plain : MethodName := ⟨RX17, "plain", "(IJJ)J"⟩
abbrev cX17_long64 : ByteArray := prog_20_method_102_code
def yX17_long64 : MethodName := ⟨RX17, "long64", "(IJJ)J"⟩
abbrev cX17_real : ByteArray := prog_20_method_113_code
def yX17_real : MethodName := ⟨RX17, "real", "(IIJJ)J"⟩
abbrev cX17_wholeOf : ByteArray := prog_20_method_114_code
def yX17_wholeOf : MethodName := ⟨RX17, "wholeOf", "(IIJ)J"⟩
abbrev cX17_noneOf : ByteArray := prog_20_method_107_code
def yX17_noneOf : MethodName := ⟨RX17, "noneOf", "(I)J"⟩
abbrev cX17_withSign : ByteArray := prog_20_method_108_code
def yX17_withSign : MethodName := ⟨RX17, "withSign", "(IZJ)J"⟩
abbrev cX17_rounded : ByteArray := prog_20_method_112_code
def yX17_rounded : MethodName := ⟨RX17, "rounded", "(IZJJIZ)J"⟩
abbrev cX17_length : ByteArray := prog_20_method_111_code
def yX17_length : MethodName := ⟨RX17, "length", "(JJ)I"⟩
abbrev cX17_infinite : ByteArray := prog_20_method_106_code
def yX17_infinite : MethodName := ⟨RX17, "infinite", "(I)J"⟩
abbrev cX17_root : ByteArray := prog_20_method_115_code
def yX17_root : MethodName := ⟨RX17, "root", "(IJ)J"⟩
abbrev cX17_sum : ByteArray := prog_20_method_116_code
def yX17_sum : MethodName := ⟨RX17, "sum", "(IJJZ)J"⟩
abbrev cX17_sumOf : ByteArray := prog_20_method_117_code
def yX17_sumOf : MethodName := ⟨RX17, "sumOf", "(ILModuleEngineModel$Real;LModuleEngineModel$Real;)J"⟩
abbrev cX17_product : ByteArray := prog_20_method_118_code
def yX17_product : MethodName := ⟨RX17, "product", "(IJJ)J"⟩
abbrev cX17_quotient : ByteArray := prog_20_method_119_code
def yX17_quotient : MethodName := ⟨RX17, "quotient", "(IJJ)J"⟩
abbrev cX17_extreme : ByteArray := prog_20_method_120_code
def yX17_extreme : MethodName := ⟨RX17, "extreme", "(IJJZ)J"⟩
abbrev cX17_turned : ByteArray := prog_20_method_124_code
def yX17_turned : MethodName := ⟨RX17, "turned", "(IIJ)J"⟩
abbrev cX17_towards : ByteArray := prog_20_method_121_code
def yX17_towards : MethodName := ⟨RX17, "towards", "(IJIZZ)J"⟩
abbrev cX17_ofWhole : ByteArray := prog_20_method_122_code
def yX17_ofWhole : MethodName := ⟨RX17, "ofWhole", "(IJZ)J"⟩
abbrev cX17_moved : ByteArray := prog_20_method_123_code
def yX17_moved : MethodName := ⟨RX17, "moved", "(IIJ)J"⟩
abbrev cX17_endsBy : ByteArray := prog_20_method_172_code
def yX17_endsBy : MethodName := ⟨RX17, "endsBy", "(IZ)V"⟩
abbrev cX17_push : ByteArray := prog_20_method_170_code
def yX17_push : MethodName := ⟨RX17, "push", "(J)V"⟩
abbrev cX17_turns : ByteArray := prog_20_method_177_code
def yX17_turns : MethodName := ⟨RX17, "turns", "(II)V"⟩
abbrev cX17_opensIf : ByteArray := prog_20_method_178_code
def yX17_opensIf : MethodName := ⟨RX17, "opensIf", "(I)V"⟩
abbrev cX17_branches : ByteArray := prog_20_method_176_code
def yX17_branches : MethodName := ⟨RX17, "branches", "(I)V"⟩
abbrev cX17_invokes : ByteArray := prog_20_method_179_code
def yX17_invokes : MethodName := ⟨RX17, "invokes", "(I)V"⟩
abbrev cX17_invokesEntry : ByteArray := prog_20_method_180_code
def yX17_invokesEntry : MethodName := ⟨RX17, "invokesEntry", "()V"⟩
abbrev cX17_moves : ByteArray := prog_20_method_181_code
def yX17_moves : MethodName := ⟨RX17, "moves", "(I)V"⟩
abbrev cX17_entry : ByteArray := prog_20_method_182_code
def yX17_entry : MethodName := ⟨RX17, "entry", "(II)V"⟩
abbrev cX17_accesses1 : ByteArray := prog_20_method_183_code
def yX17_accesses1 : MethodName := ⟨RX17, "accesses1", "(I)V"⟩
abbrev cX17_gets : ByteArray := prog_20_method_152_code
def yX17_gets : MethodName := ⟨RX17, "gets", "(IJ)J"⟩
abbrev cX17_furtherStep : ByteArray := prog_20_method_184_code
def yX17_furtherStep : MethodName := ⟨RX17, "furtherStep", "()V"⟩
abbrev cX17_stretches : ByteArray := prog_20_method_185_code
def yX17_stretches : MethodName := ⟨RX17, "stretches", "(II)V"⟩
abbrev cX17_tablesStep : ByteArray := prog_20_method_186_code
def yX17_tablesStep : MethodName := ⟨RX17, "tablesStep", "(III)V"⟩
abbrev cX17_others : ByteArray := prog_20_method_175_code
def yX17_others : MethodName := ⟨RX17, "others", "(I)V"⟩
abbrev cX17_give : ByteArray := prog_20_method_168_code
def yX17_give : MethodName := ⟨RX17, "give", "()Z"⟩
abbrev cX17_answer : ByteArray := prog_20_method_169_code
def yX17_answer : MethodName := ⟨RX17, "answer", "()Z"⟩
abbrev cX17_state : ByteArray := prog_20_method_187_code
def yX17_state : MethodName := ⟨RX17, "state", "(I)I"⟩
abbrev cX17_value : ByteArray := prog_20_method_188_code
def yX17_value : MethodName := ⟨RX17, "value", "(I)J"⟩
abbrev cX17_tier : ByteArray := prog_20_method_189_code
def yX17_tier : MethodName := ⟨RX17, "tier", "(I)I"⟩
abbrev cX17_export : ByteArray := prog_20_method_190_code
def yX17_export : MethodName := ⟨RX17, "export", "(III)I"⟩
abbrev cX17_memory : ByteArray := prog_20_method_191_code
def yX17_memory : MethodName := ⟨RX17, "memory", "(III)I"⟩
abbrev cX17_poke : ByteArray := prog_20_method_192_code
def yX17_poke : MethodName := ⟨RX17, "poke", "(IIII)Z"⟩
abbrev cX17_table : ByteArray := prog_20_method_193_code
def yX17_table : MethodName := ⟨RX17, "table", "(III)I"⟩
abbrev cX17_global : ByteArray := prog_20_method_194_code
def yX17_global : MethodName := ⟨RX17, "global", "(II)J"⟩
theorem q377 : (Jvm.Cond.initialized "ModuleEngineModel") ∈ lw_all := lw_g (lw_at lw_m1 18 rfl) rfl
theorem q2986 : (Jvm.Cond.instantiable "ModuleEngineModel" (101 : Nat)) ∈ lw_all := lw_g (lw_at lw_m11 227 rfl) rfl
theorem q2988 : (Jvm.Cond.instanceMethod ({ cls := "ModuleEngineModel", name := "<init>", desc := "()V" } : Jvm.MethodName)) ∈ lw_all := lw_g (lw_at lw_m11 229 rfl) rfl
theorem q2989 : (Jvm.Cond.code ({ cls := "ModuleEngineModel", name := "<init>", desc := "()V" } : Jvm.MethodName) prog_20_method_1_code (2 : Nat) (Option.none : Option Jvm.ClassFile.FieldType)) ∈ lw_all := lw_g (lw_at lw_m11 230 rfl) rfl
theorem q2990 : (Jvm.Cond.methodLink "ModuleEngineModel" (1 : Nat) ({ cls := "java/lang/Object", name := "<init>", desc := "()V" } : Jvm.MethodName)) ∈ lw_all := lw_g (lw_at lw_m11 231 rfl) rfl
theorem q2991 : (Jvm.Cond.constant "ModuleEngineModel" (9 : Nat) (40980 : Int32)) ∈ lw_all := lw_g (lw_at lw_m11 232 rfl) rfl
theorem q2992 : (Jvm.Cond.classLink "ModuleEngineModel" (14 : Nat) "ModuleEngineModel$Plan") ∈ lw_all := lw_g (lw_at lw_m11 233 rfl) rfl
theorem q2994 : (Jvm.Cond.classLink "ModuleEngineModel" (20 : Nat) "ModuleEngineModel$Fault") ∈ lw_all := lw_g (lw_at lw_m11 235 rfl) rfl
theorem q3003 : (Jvm.Cond.methodLinkNest "ModuleEngineModel" (22 : Nat) ({ cls := "ModuleEngineModel$Fault", name := "<init>", desc := "()V" } : Jvm.MethodName) "ModuleEngineModel") ∈ lw_tbl := lw_at lw_m12 4 rfl
theorem q3009 : (Jvm.Cond.constant "ModuleEngineModel" (27 : Nat) (40962 : Int32)) ∈ lw_all := lw_g (lw_at lw_m12 10 rfl) rfl
theorem q3010 : (Jvm.Cond.classLink "ModuleEngineModel" (58 : Nat) "ModuleEngineModel$Real") ∈ lw_all := lw_g (lw_at lw_m12 11 rfl) rfl
theorem q3012 : (Jvm.Cond.methodLinkNest "ModuleEngineModel" (60 : Nat) ({ cls := "ModuleEngineModel$Real", name := "<init>", desc := "()V" } : Jvm.MethodName) "ModuleEngineModel") ∈ lw_tbl := lw_at lw_m12 13 rfl
theorem q3017 : (Jvm.Cond.fieldLinkNest "ModuleEngineModel" (921 : Nat) "ModuleEngineModel$Real" "negative" "Z" "ModuleEngineModel") ∈ lw_tbl := lw_at lw_m12 18 rfl
theorem q3019 : (Jvm.Cond.fieldLinkNest "ModuleEngineModel" (871 : Nat) "ModuleEngineModel$Real" "sort" "I" "ModuleEngineModel") ∈ lw_tbl := lw_at lw_m12 20 rfl
theorem q3021 : (Jvm.Cond.fieldLinkNest "ModuleEngineModel" (916 : Nat) "ModuleEngineModel$Real" "whole" "J" "ModuleEngineModel") ∈ lw_tbl := lw_at lw_m12 22 rfl
theorem q3023 : (Jvm.Cond.fieldLinkNest "ModuleEngineModel" (913 : Nat) "ModuleEngineModel$Real" "power" "I" "ModuleEngineModel") ∈ lw_tbl := lw_at lw_m12 24 rfl
theorem q3033 : (Jvm.Cond.constant "ModuleEngineModel" (102 : Nat) (32768 : Int32)) ∈ lw_all := lw_g (lw_at lw_m12 34 rfl) rfl
theorem q3034 : (Jvm.Cond.constant "ModuleEngineModel" (118 : Nat) (524288 : Int32)) ∈ lw_all := lw_g (lw_at lw_m12 35 rfl) rfl
theorem q3035 : (Jvm.Cond.constant "ModuleEngineModel" (194 : Nat) (40000 : Int32)) ∈ lw_all := lw_g (lw_at lw_m12 36 rfl) rfl
theorem q3036 : (Jvm.Cond.fieldLink "ModuleEngineModel" (10 : Nat) "ModuleEngineModel" "tape" "[B") ∈ lw_all := lw_g (lw_at lw_m12 37 rfl) rfl
theorem q3037 : (Jvm.Cond.fieldLink "ModuleEngineModel" (215 : Nat) "ModuleEngineModel" "taped" "I") ∈ lw_all := lw_g (lw_at lw_m12 38 rfl) rfl
theorem q3038 : (Jvm.Cond.fieldLink "ModuleEngineModel" (207 : Nat) "ModuleEngineModel" "fed" "I") ∈ lw_all := lw_g (lw_at lw_m12 39 rfl) rfl
theorem q3039 : (Jvm.Cond.fieldLink "ModuleEngineModel" (218 : Nat) "ModuleEngineModel" "modules" "I") ∈ lw_all := lw_g (lw_at lw_m12 40 rfl) rfl
theorem q3040 : (Jvm.Cond.fieldLink "ModuleEngineModel" (16 : Nat) "ModuleEngineModel" "plans" "[LModuleEngineModel$Plan;") ∈ lw_all := lw_g (lw_at lw_m12 41 rfl) rfl
theorem q3041 : (Jvm.Cond.fieldLink "ModuleEngineModel" (225 : Nat) "ModuleEngineModel" "spare" "LModuleEngineModel$Plan;") ∈ lw_all := lw_g (lw_at lw_m12 42 rfl) rfl
theorem q3042 : (Jvm.Cond.fieldLink "ModuleEngineModel" (235 : Nat) "ModuleEngineModel" "looked" "Z") ∈ lw_all := lw_g (lw_at lw_m12 43 rfl) rfl
theorem q3043 : (Jvm.Cond.fieldLink "ModuleEngineModel" (239 : Nat) "ModuleEngineModel" "faultNumber" "I") ∈ lw_all := lw_g (lw_at lw_m12 44 rfl) rfl
theorem q3044 : (Jvm.Cond.fieldLink "ModuleEngineModel" (242 : Nat) "ModuleEngineModel" "faultPlace" "I") ∈ lw_all := lw_g (lw_at lw_m12 45 rfl) rfl
theorem q3045 : (Jvm.Cond.fieldLink "ModuleEngineModel" (23 : Nat) "ModuleEngineModel" "stopper" "LModuleEngineModel$Fault;") ∈ lw_all := lw_g (lw_at lw_m12 46 rfl) rfl
theorem q3046 : (Jvm.Cond.fieldLink "ModuleEngineModel" (221 : Nat) "ModuleEngineModel" "plan" "LModuleEngineModel$Plan;") ∈ lw_all := lw_g (lw_at lw_m12 47 rfl) rfl
theorem q3047 : (Jvm.Cond.fieldLink "ModuleEngineModel" (251 : Nat) "ModuleEngineModel" "at" "I") ∈ lw_all := lw_g (lw_at lw_m12 48 rfl) rfl
theorem q3048 : (Jvm.Cond.fieldLink "ModuleEngineModel" (254 : Nat) "ModuleEngineModel" "partEnd" "I") ∈ lw_all := lw_g (lw_at lw_m12 49 rfl) rfl
theorem q3049 : (Jvm.Cond.fieldLink "ModuleEngineModel" (305 : Nat) "ModuleEngineModel" "idPlace" "I") ∈ lw_all := lw_g (lw_at lw_m12 50 rfl) rfl
theorem q3050 : (Jvm.Cond.fieldLink "ModuleEngineModel" (28 : Nat) "ModuleEngineModel" "nestOp" "[I") ∈ lw_all := lw_g (lw_at lw_m12 51 rfl) rfl
theorem q3051 : (Jvm.Cond.fieldLink "ModuleEngineModel" (32 : Nat) "ModuleEngineModel" "nestAt" "[I") ∈ lw_all := lw_g (lw_at lw_m12 52 rfl) rfl
theorem q3052 : (Jvm.Cond.fieldLink "ModuleEngineModel" (281 : Nat) "ModuleEngineModel" "nameFrom" "I") ∈ lw_all := lw_g (lw_at lw_m12 53 rfl) rfl
theorem q3053 : (Jvm.Cond.fieldLink "ModuleEngineModel" (396 : Nat) "ModuleEngineModel" "least" "J") ∈ lw_all := lw_g (lw_at lw_m12 54 rfl) rfl
theorem q3054 : (Jvm.Cond.fieldLink "ModuleEngineModel" (399 : Nat) "ModuleEngineModel" "greatest" "J") ∈ lw_all := lw_g (lw_at lw_m12 55 rfl) rfl
theorem q3055 : (Jvm.Cond.fieldLink "ModuleEngineModel" (594 : Nat) "ModuleEngineModel" "look" "I") ∈ lw_all := lw_g (lw_at lw_m12 56 rfl) rfl
theorem q3056 : (Jvm.Cond.fieldLink "ModuleEngineModel" (35 : Nat) "ModuleEngineModel" "declared" "[Z") ∈ lw_all := lw_g (lw_at lw_m12 57 rfl) rfl
theorem q3057 : (Jvm.Cond.fieldLink "ModuleEngineModel" (648 : Nat) "ModuleEngineModel" "deepAt" "I") ∈ lw_all := lw_g (lw_at lw_m12 58 rfl) rfl
theorem q3058 : (Jvm.Cond.fieldLink "ModuleEngineModel" (39 : Nat) "ModuleEngineModel" "row" "[I") ∈ lw_all := lw_g (lw_at lw_m12 59 rfl) rfl
theorem q3059 : (Jvm.Cond.fieldLink "ModuleEngineModel" (685 : Nat) "ModuleEngineModel" "size" "I") ∈ lw_all := lw_g (lw_at lw_m12 60 rfl) rfl
theorem q3060 : (Jvm.Cond.fieldLink "ModuleEngineModel" (682 : Nat) "ModuleEngineModel" "labels" "I") ∈ lw_all := lw_g (lw_at lw_m12 61 rfl) rfl
theorem q3061 : (Jvm.Cond.fieldLink "ModuleEngineModel" (42 : Nat) "ModuleEngineModel" "labelOp" "[I") ∈ lw_all := lw_g (lw_at lw_m12 62 rfl) rfl
theorem q3062 : (Jvm.Cond.fieldLink "ModuleEngineModel" (45 : Nat) "ModuleEngineModel" "labelType" "[J") ∈ lw_all := lw_g (lw_at lw_m12 63 rfl) rfl
theorem q3063 : (Jvm.Cond.fieldLink "ModuleEngineModel" (49 : Nat) "ModuleEngineModel" "labelLow" "[I") ∈ lw_all := lw_g (lw_at lw_m12 64 rfl) rfl
theorem q3064 : (Jvm.Cond.fieldLink "ModuleEngineModel" (52 : Nat) "ModuleEngineModel" "labelDead" "[Z") ∈ lw_all := lw_g (lw_at lw_m12 65 rfl) rfl
theorem q3065 : (Jvm.Cond.fieldLink "ModuleEngineModel" (710 : Nat) "ModuleEngineModel" "body" "I") ∈ lw_all := lw_g (lw_at lw_m12 66 rfl) rfl
theorem q3066 : (Jvm.Cond.fieldLink "ModuleEngineModel" (713 : Nat) "ModuleEngineModel" "bodyType" "I") ∈ lw_all := lw_g (lw_at lw_m12 67 rfl) rfl
theorem q3067 : (Jvm.Cond.fieldLink "ModuleEngineModel" (686 : Nat) "ModuleEngineModel" "place" "I") ∈ lw_all := lw_g (lw_at lw_m12 68 rfl) rfl
theorem q3068 : (Jvm.Cond.fieldLink "ModuleEngineModel" (55 : Nat) "ModuleEngineModel" "took" "[I") ∈ lw_all := lw_g (lw_at lw_m12 69 rfl) rfl
theorem q3069 : (Jvm.Cond.fieldLink "ModuleEngineModel" (800 : Nat) "ModuleEngineModel" "trapped" "I") ∈ lw_all := lw_g (lw_at lw_m12 70 rfl) rfl
theorem q3070 : (Jvm.Cond.fieldLink "ModuleEngineModel" (61 : Nat) "ModuleEngineModel" "one" "LModuleEngineModel$Real;") ∈ lw_all := lw_g (lw_at lw_m12 71 rfl) rfl
theorem q3071 : (Jvm.Cond.fieldLink "ModuleEngineModel" (65 : Nat) "ModuleEngineModel" "two" "LModuleEngineModel$Real;") ∈ lw_all := lw_g (lw_at lw_m12 72 rfl) rfl
theorem q3072 : (Jvm.Cond.fieldLink "ModuleEngineModel" (977 : Nat) "ModuleEngineModel" "functions" "I") ∈ lw_all := lw_g (lw_at lw_m12 73 rfl) rfl
theorem q3073 : (Jvm.Cond.fieldLink "ModuleEngineModel" (68 : Nat) "ModuleEngineModel" "moduleOf" "[I") ∈ lw_all := lw_g (lw_at lw_m12 74 rfl) rfl
theorem q3074 : (Jvm.Cond.fieldLink "ModuleEngineModel" (71 : Nat) "ModuleEngineModel" "typeOf" "[I") ∈ lw_all := lw_g (lw_at lw_m12 75 rfl) rfl
theorem q3075 : (Jvm.Cond.fieldLink "ModuleEngineModel" (74 : Nat) "ModuleEngineModel" "homeOf" "[I") ∈ lw_all := lw_g (lw_at lw_m12 76 rfl) rfl
theorem q3076 : (Jvm.Cond.fieldLink "ModuleEngineModel" (77 : Nat) "ModuleEngineModel" "bodyOf" "[I") ∈ lw_all := lw_g (lw_at lw_m12 77 rfl) rfl
theorem q3077 : (Jvm.Cond.fieldLink "ModuleEngineModel" (80 : Nat) "ModuleEngineModel" "hostOf" "[I") ∈ lw_all := lw_g (lw_at lw_m12 78 rfl) rfl
theorem q3078 : (Jvm.Cond.fieldLink "ModuleEngineModel" (83 : Nat) "ModuleEngineModel" "framesOf" "[I") ∈ lw_all := lw_g (lw_at lw_m12 79 rfl) rfl
theorem q3079 : (Jvm.Cond.fieldLink "ModuleEngineModel" (86 : Nat) "ModuleEngineModel" "isOver" "[Z") ∈ lw_all := lw_g (lw_at lw_m12 80 rfl) rfl
theorem q3080 : (Jvm.Cond.fieldLink "ModuleEngineModel" (1117 : Nat) "ModuleEngineModel" "tier" "I") ∈ lw_all := lw_g (lw_at lw_m12 81 rfl) rfl
theorem q3081 : (Jvm.Cond.fieldLink "ModuleEngineModel" (1120 : Nat) "ModuleEngineModel" "over" "I") ∈ lw_all := lw_g (lw_at lw_m12 82 rfl) rfl
theorem q3082 : (Jvm.Cond.fieldLink "ModuleEngineModel" (978 : Nat) "ModuleEngineModel" "tables" "I") ∈ lw_all := lw_g (lw_at lw_m12 83 rfl) rfl
theorem q3083 : (Jvm.Cond.fieldLink "ModuleEngineModel" (89 : Nat) "ModuleEngineModel" "entriesLeft" "I") ∈ lw_all := lw_g (lw_at lw_m12 84 rfl) rfl
theorem q3084 : (Jvm.Cond.fieldLink "ModuleEngineModel" (93 : Nat) "ModuleEngineModel" "tableKind" "[I") ∈ lw_all := lw_g (lw_at lw_m12 85 rfl) rfl
theorem q3085 : (Jvm.Cond.fieldLink "ModuleEngineModel" (96 : Nat) "ModuleEngineModel" "tableSize" "[I") ∈ lw_all := lw_g (lw_at lw_m12 86 rfl) rfl
theorem q3086 : (Jvm.Cond.fieldLink "ModuleEngineModel" (99 : Nat) "ModuleEngineModel" "tableMost" "[J") ∈ lw_all := lw_g (lw_at lw_m12 87 rfl) rfl
theorem q3087 : (Jvm.Cond.fieldLink "ModuleEngineModel" (103 : Nat) "ModuleEngineModel" "entries" "[I") ∈ lw_all := lw_g (lw_at lw_m12 88 rfl) rfl
theorem q3088 : (Jvm.Cond.fieldLink "ModuleEngineModel" (979 : Nat) "ModuleEngineModel" "memories" "I") ∈ lw_all := lw_g (lw_at lw_m12 89 rfl) rfl
theorem q3089 : (Jvm.Cond.fieldLink "ModuleEngineModel" (106 : Nat) "ModuleEngineModel" "pagesLeft" "I") ∈ lw_all := lw_g (lw_at lw_m12 90 rfl) rfl
theorem q3090 : (Jvm.Cond.fieldLink "ModuleEngineModel" (109 : Nat) "ModuleEngineModel" "pages" "[I") ∈ lw_all := lw_g (lw_at lw_m12 91 rfl) rfl
theorem q3091 : (Jvm.Cond.fieldLink "ModuleEngineModel" (112 : Nat) "ModuleEngineModel" "memoryMost" "[J") ∈ lw_all := lw_g (lw_at lw_m12 92 rfl) rfl
theorem q3092 : (Jvm.Cond.fieldLink "ModuleEngineModel" (115 : Nat) "ModuleEngineModel" "pageOf" "[I") ∈ lw_all := lw_g (lw_at lw_m12 93 rfl) rfl
theorem q3093 : (Jvm.Cond.fieldLink "ModuleEngineModel" (119 : Nat) "ModuleEngineModel" "content" "[B") ∈ lw_all := lw_g (lw_at lw_m12 94 rfl) rfl
theorem q3094 : (Jvm.Cond.fieldLink "ModuleEngineModel" (980 : Nat) "ModuleEngineModel" "globals" "I") ∈ lw_all := lw_g (lw_at lw_m12 95 rfl) rfl
theorem q3095 : (Jvm.Cond.fieldLink "ModuleEngineModel" (122 : Nat) "ModuleEngineModel" "globalKind" "[I") ∈ lw_all := lw_g (lw_at lw_m12 96 rfl) rfl
theorem q3096 : (Jvm.Cond.fieldLink "ModuleEngineModel" (125 : Nat) "ModuleEngineModel" "globalChanges" "[Z") ∈ lw_all := lw_g (lw_at lw_m12 97 rfl) rfl
theorem q3097 : (Jvm.Cond.fieldLink "ModuleEngineModel" (128 : Nat) "ModuleEngineModel" "globalValue" "[J") ∈ lw_all := lw_g (lw_at lw_m12 98 rfl) rfl
theorem q3098 : (Jvm.Cond.fieldLink "ModuleEngineModel" (949 : Nat) "ModuleEngineModel" "instances" "I") ∈ lw_all := lw_g (lw_at lw_m12 99 rfl) rfl
theorem q3099 : (Jvm.Cond.fieldLink "ModuleEngineModel" (131 : Nat) "ModuleEngineModel" "madeOf" "[I") ∈ lw_all := lw_g (lw_at lw_m12 100 rfl) rfl
theorem q3100 : (Jvm.Cond.fieldLink "ModuleEngineModel" (134 : Nat) "ModuleEngineModel" "itsFunctions" "[I") ∈ lw_all := lw_g (lw_at lw_m12 101 rfl) rfl
theorem q3101 : (Jvm.Cond.fieldLink "ModuleEngineModel" (137 : Nat) "ModuleEngineModel" "itsTables" "[I") ∈ lw_all := lw_g (lw_at lw_m12 102 rfl) rfl
theorem q3102 : (Jvm.Cond.fieldLink "ModuleEngineModel" (140 : Nat) "ModuleEngineModel" "itsMemories" "[I") ∈ lw_all := lw_g (lw_at lw_m12 103 rfl) rfl
theorem q3103 : (Jvm.Cond.fieldLink "ModuleEngineModel" (143 : Nat) "ModuleEngineModel" "itsGlobals" "[I") ∈ lw_all := lw_g (lw_at lw_m12 104 rfl) rfl
theorem q3104 : (Jvm.Cond.fieldLink "ModuleEngineModel" (146 : Nat) "ModuleEngineModel" "elementFrom" "[I") ∈ lw_all := lw_g (lw_at lw_m12 105 rfl) rfl
theorem q3105 : (Jvm.Cond.fieldLink "ModuleEngineModel" (149 : Nat) "ModuleEngineModel" "elementSize" "[I") ∈ lw_all := lw_g (lw_at lw_m12 106 rfl) rfl
theorem q3106 : (Jvm.Cond.fieldLink "ModuleEngineModel" (152 : Nat) "ModuleEngineModel" "dataLeft" "[Z") ∈ lw_all := lw_g (lw_at lw_m12 107 rfl) rfl
theorem q3107 : (Jvm.Cond.fieldLink "ModuleEngineModel" (981 : Nat) "ModuleEngineModel" "references" "I") ∈ lw_all := lw_g (lw_at lw_m12 108 rfl) rfl
theorem q3108 : (Jvm.Cond.fieldLink "ModuleEngineModel" (155 : Nat) "ModuleEngineModel" "reference" "[I") ∈ lw_all := lw_g (lw_at lw_m12 109 rfl) rfl
theorem q3109 : (Jvm.Cond.fieldLink "ModuleEngineModel" (967 : Nat) "ModuleEngineModel" "offers" "I") ∈ lw_all := lw_g (lw_at lw_m12 110 rfl) rfl
theorem q3110 : (Jvm.Cond.fieldLink "ModuleEngineModel" (158 : Nat) "ModuleEngineModel" "offerKind" "[I") ∈ lw_all := lw_g (lw_at lw_m12 111 rfl) rfl
theorem q3111 : (Jvm.Cond.fieldLink "ModuleEngineModel" (161 : Nat) "ModuleEngineModel" "offerOf" "[I") ∈ lw_all := lw_g (lw_at lw_m12 112 rfl) rfl
theorem q3112 : (Jvm.Cond.fieldLink "ModuleEngineModel" (970 : Nat) "ModuleEngineModel" "state" "I") ∈ lw_all := lw_g (lw_at lw_m12 113 rfl) rfl
theorem q3113 : (Jvm.Cond.fieldLink "ModuleEngineModel" (1046 : Nat) "ModuleEngineModel" "latestTrap" "I") ∈ lw_all := lw_g (lw_at lw_m12 114 rfl) rfl
theorem q3114 : (Jvm.Cond.fieldLink "ModuleEngineModel" (1049 : Nat) "ModuleEngineModel" "steps" "I") ∈ lw_all := lw_g (lw_at lw_m12 115 rfl) rfl
theorem q3115 : (Jvm.Cond.fieldLink "ModuleEngineModel" (164 : Nat) "ModuleEngineModel" "asked" "I") ∈ lw_all := lw_g (lw_at lw_m12 116 rfl) rfl
theorem q3116 : (Jvm.Cond.fieldLink "ModuleEngineModel" (1095 : Nat) "ModuleEngineModel" "askedFunction" "I") ∈ lw_all := lw_g (lw_at lw_m12 117 rfl) rfl
theorem q3117 : (Jvm.Cond.fieldLink "ModuleEngineModel" (1069 : Nat) "ModuleEngineModel" "arguments" "I") ∈ lw_all := lw_g (lw_at lw_m12 118 rfl) rfl
theorem q3118 : (Jvm.Cond.fieldLink "ModuleEngineModel" (167 : Nat) "ModuleEngineModel" "argument" "[J") ∈ lw_all := lw_g (lw_at lw_m12 119 rfl) rfl
theorem q3119 : (Jvm.Cond.fieldLink "ModuleEngineModel" (1098 : Nat) "ModuleEngineModel" "tellings" "I") ∈ lw_all := lw_g (lw_at lw_m12 120 rfl) rfl
theorem q3120 : (Jvm.Cond.fieldLink "ModuleEngineModel" (170 : Nat) "ModuleEngineModel" "telling" "[J") ∈ lw_all := lw_g (lw_at lw_m12 121 rfl) rfl
theorem q3121 : (Jvm.Cond.fieldLink "ModuleEngineModel" (1052 : Nat) "ModuleEngineModel" "frames" "I") ∈ lw_all := lw_g (lw_at lw_m12 122 rfl) rfl
theorem q3122 : (Jvm.Cond.fieldLink "ModuleEngineModel" (173 : Nat) "ModuleEngineModel" "frameOf" "[I") ∈ lw_all := lw_g (lw_at lw_m12 123 rfl) rfl
theorem q3123 : (Jvm.Cond.fieldLink "ModuleEngineModel" (176 : Nat) "ModuleEngineModel" "frameBack" "[I") ∈ lw_all := lw_g (lw_at lw_m12 124 rfl) rfl
theorem q3124 : (Jvm.Cond.fieldLink "ModuleEngineModel" (179 : Nat) "ModuleEngineModel" "frameFrom" "[I") ∈ lw_all := lw_g (lw_at lw_m12 125 rfl) rfl
theorem q3125 : (Jvm.Cond.fieldLink "ModuleEngineModel" (182 : Nat) "ModuleEngineModel" "frameAsks" "[I") ∈ lw_all := lw_g (lw_at lw_m12 126 rfl) rfl
theorem q3126 : (Jvm.Cond.fieldLink "ModuleEngineModel" (185 : Nat) "ModuleEngineModel" "frameTop" "[I") ∈ lw_all := lw_g (lw_at lw_m12 127 rfl) rfl
theorem q3127 : (Jvm.Cond.fieldLink "ModuleEngineModel" (188 : Nat) "ModuleEngineModel" "frameMarks" "[I") ∈ lw_all := lw_g (lw_at lw_m12 128 rfl) rfl
theorem q3128 : (Jvm.Cond.fieldLink "ModuleEngineModel" (191 : Nat) "ModuleEngineModel" "values" "[J") ∈ lw_all := lw_g (lw_at lw_m12 129 rfl) rfl
theorem q3129 : (Jvm.Cond.fieldLink "ModuleEngineModel" (1104 : Nat) "ModuleEngineModel" "top" "I") ∈ lw_all := lw_g (lw_at lw_m12 130 rfl) rfl
theorem q3130 : (Jvm.Cond.fieldLink "ModuleEngineModel" (1107 : Nat) "ModuleEngineModel" "pc" "I") ∈ lw_all := lw_g (lw_at lw_m12 131 rfl) rfl
theorem q3131 : (Jvm.Cond.fieldLink "ModuleEngineModel" (1110 : Nat) "ModuleEngineModel" "instance" "I") ∈ lw_all := lw_g (lw_at lw_m12 132 rfl) rfl
theorem q3132 : (Jvm.Cond.fieldLink "ModuleEngineModel" (1086 : Nat) "ModuleEngineModel" "marks" "I") ∈ lw_all := lw_g (lw_at lw_m12 133 rfl) rfl
theorem q3133 : (Jvm.Cond.fieldLink "ModuleEngineModel" (195 : Nat) "ModuleEngineModel" "markTo" "[I") ∈ lw_all := lw_g (lw_at lw_m12 134 rfl) rfl
theorem q3134 : (Jvm.Cond.fieldLink "ModuleEngineModel" (198 : Nat) "ModuleEngineModel" "markLow" "[I") ∈ lw_all := lw_g (lw_at lw_m12 135 rfl) rfl
theorem q3135 : (Jvm.Cond.fieldLink "ModuleEngineModel" (201 : Nat) "ModuleEngineModel" "markKeeps" "[I") ∈ lw_all := lw_g (lw_at lw_m12 136 rfl) rfl
theorem q3136 : (Jvm.Cond.fieldLink "ModuleEngineModel" (204 : Nat) "ModuleEngineModel" "markStays" "[Z") ∈ lw_all := lw_g (lw_at lw_m12 137 rfl) rfl
theorem q3137 : (Jvm.Cond.laysFinal "ModuleEngineModel" "ModuleEngineModel" "tape" "[B") ∈ lw_all := lw_g (lw_at lw_m12 138 rfl) rfl
theorem q3138 : (Jvm.Cond.soleField "ModuleEngineModel" "tape") ∈ lw_all := lw_g (lw_at lw_m12 139 rfl) rfl
theorem q3139 : (Jvm.Cond.lays "ModuleEngineModel" "ModuleEngineModel" "taped" "I") ∈ lw_all := lw_g (lw_at lw_m12 140 rfl) rfl
theorem q3140 : (Jvm.Cond.soleField "ModuleEngineModel" "taped") ∈ lw_all := lw_g (lw_at lw_m12 141 rfl) rfl
theorem q3141 : (Jvm.Cond.lays "ModuleEngineModel" "ModuleEngineModel" "fed" "I") ∈ lw_all := lw_g (lw_at lw_m12 142 rfl) rfl
theorem q3142 : (Jvm.Cond.soleField "ModuleEngineModel" "fed") ∈ lw_all := lw_g (lw_at lw_m12 143 rfl) rfl
theorem q3143 : (Jvm.Cond.lays "ModuleEngineModel" "ModuleEngineModel" "modules" "I") ∈ lw_all := lw_g (lw_at lw_m12 144 rfl) rfl
theorem q3144 : (Jvm.Cond.soleField "ModuleEngineModel" "modules") ∈ lw_all := lw_g (lw_at lw_m12 145 rfl) rfl
theorem q3145 : (Jvm.Cond.laysFinal "ModuleEngineModel" "ModuleEngineModel" "plans" "[LModuleEngineModel$Plan;") ∈ lw_all := lw_g (lw_at lw_m12 146 rfl) rfl
theorem q3146 : (Jvm.Cond.soleField "ModuleEngineModel" "plans") ∈ lw_all := lw_g (lw_at lw_m12 147 rfl) rfl
theorem q3147 : (Jvm.Cond.lays "ModuleEngineModel" "ModuleEngineModel" "spare" "LModuleEngineModel$Plan;") ∈ lw_all := lw_g (lw_at lw_m12 148 rfl) rfl
theorem q3148 : (Jvm.Cond.soleField "ModuleEngineModel" "spare") ∈ lw_all := lw_g (lw_at lw_m12 149 rfl) rfl
theorem q3149 : (Jvm.Cond.lays "ModuleEngineModel" "ModuleEngineModel" "looked" "Z") ∈ lw_all := lw_g (lw_at lw_m12 150 rfl) rfl
theorem q3150 : (Jvm.Cond.soleField "ModuleEngineModel" "looked") ∈ lw_all := lw_g (lw_at lw_m12 151 rfl) rfl
theorem q3151 : (Jvm.Cond.lays "ModuleEngineModel" "ModuleEngineModel" "faultNumber" "I") ∈ lw_all := lw_g (lw_at lw_m12 152 rfl) rfl
theorem q3152 : (Jvm.Cond.soleField "ModuleEngineModel" "faultNumber") ∈ lw_all := lw_g (lw_at lw_m12 153 rfl) rfl
theorem q3153 : (Jvm.Cond.lays "ModuleEngineModel" "ModuleEngineModel" "faultPlace" "I") ∈ lw_all := lw_g (lw_at lw_m12 154 rfl) rfl
theorem q3154 : (Jvm.Cond.soleField "ModuleEngineModel" "faultPlace") ∈ lw_all := lw_g (lw_at lw_m12 155 rfl) rfl
theorem q3155 : (Jvm.Cond.laysFinal "ModuleEngineModel" "ModuleEngineModel" "stopper" "LModuleEngineModel$Fault;") ∈ lw_all := lw_g (lw_at lw_m12 156 rfl) rfl
theorem q3156 : (Jvm.Cond.soleField "ModuleEngineModel" "stopper") ∈ lw_all := lw_g (lw_at lw_m12 157 rfl) rfl
theorem q3157 : (Jvm.Cond.lays "ModuleEngineModel" "ModuleEngineModel" "plan" "LModuleEngineModel$Plan;") ∈ lw_all := lw_g (lw_at lw_m12 158 rfl) rfl
theorem q3158 : (Jvm.Cond.soleField "ModuleEngineModel" "plan") ∈ lw_all := lw_g (lw_at lw_m12 159 rfl) rfl
theorem q3159 : (Jvm.Cond.lays "ModuleEngineModel" "ModuleEngineModel" "at" "I") ∈ lw_all := lw_g (lw_at lw_m12 160 rfl) rfl
theorem q3160 : (Jvm.Cond.soleField "ModuleEngineModel" "at") ∈ lw_all := lw_g (lw_at lw_m12 161 rfl) rfl
theorem q3161 : (Jvm.Cond.lays "ModuleEngineModel" "ModuleEngineModel" "partEnd" "I") ∈ lw_all := lw_g (lw_at lw_m12 162 rfl) rfl
theorem q3162 : (Jvm.Cond.soleField "ModuleEngineModel" "partEnd") ∈ lw_all := lw_g (lw_at lw_m12 163 rfl) rfl
theorem q3163 : (Jvm.Cond.lays "ModuleEngineModel" "ModuleEngineModel" "idPlace" "I") ∈ lw_all := lw_g (lw_at lw_m12 164 rfl) rfl
theorem q3164 : (Jvm.Cond.soleField "ModuleEngineModel" "idPlace") ∈ lw_all := lw_g (lw_at lw_m12 165 rfl) rfl
theorem q3165 : (Jvm.Cond.laysFinal "ModuleEngineModel" "ModuleEngineModel" "nestOp" "[I") ∈ lw_all := lw_g (lw_at lw_m12 166 rfl) rfl
theorem q3166 : (Jvm.Cond.soleField "ModuleEngineModel" "nestOp") ∈ lw_all := lw_g (lw_at lw_m12 167 rfl) rfl
theorem q3167 : (Jvm.Cond.laysFinal "ModuleEngineModel" "ModuleEngineModel" "nestAt" "[I") ∈ lw_all := lw_g (lw_at lw_m12 168 rfl) rfl
theorem q3168 : (Jvm.Cond.soleField "ModuleEngineModel" "nestAt") ∈ lw_all := lw_g (lw_at lw_m12 169 rfl) rfl
theorem q3169 : (Jvm.Cond.lays "ModuleEngineModel" "ModuleEngineModel" "nameFrom" "I") ∈ lw_all := lw_g (lw_at lw_m12 170 rfl) rfl
theorem q3170 : (Jvm.Cond.soleField "ModuleEngineModel" "nameFrom") ∈ lw_all := lw_g (lw_at lw_m12 171 rfl) rfl
theorem q3171 : (Jvm.Cond.lays "ModuleEngineModel" "ModuleEngineModel" "least" "J") ∈ lw_all := lw_g (lw_at lw_m12 172 rfl) rfl
theorem q3172 : (Jvm.Cond.soleField "ModuleEngineModel" "least") ∈ lw_all := lw_g (lw_at lw_m12 173 rfl) rfl
theorem q3173 : (Jvm.Cond.lays "ModuleEngineModel" "ModuleEngineModel" "greatest" "J") ∈ lw_all := lw_g (lw_at lw_m12 174 rfl) rfl
theorem q3174 : (Jvm.Cond.soleField "ModuleEngineModel" "greatest") ∈ lw_all := lw_g (lw_at lw_m12 175 rfl) rfl
theorem q3175 : (Jvm.Cond.lays "ModuleEngineModel" "ModuleEngineModel" "look" "I") ∈ lw_all := lw_g (lw_at lw_m12 176 rfl) rfl
theorem q3176 : (Jvm.Cond.soleField "ModuleEngineModel" "look") ∈ lw_all := lw_g (lw_at lw_m12 177 rfl) rfl
theorem q3177 : (Jvm.Cond.laysFinal "ModuleEngineModel" "ModuleEngineModel" "declared" "[Z") ∈ lw_all := lw_g (lw_at lw_m12 178 rfl) rfl
theorem q3178 : (Jvm.Cond.soleField "ModuleEngineModel" "declared") ∈ lw_all := lw_g (lw_at lw_m12 179 rfl) rfl
theorem q3179 : (Jvm.Cond.lays "ModuleEngineModel" "ModuleEngineModel" "deepAt" "I") ∈ lw_all := lw_g (lw_at lw_m12 180 rfl) rfl
theorem q3180 : (Jvm.Cond.soleField "ModuleEngineModel" "deepAt") ∈ lw_all := lw_g (lw_at lw_m12 181 rfl) rfl
theorem q3181 : (Jvm.Cond.laysFinal "ModuleEngineModel" "ModuleEngineModel" "row" "[I") ∈ lw_all := lw_g (lw_at lw_m12 182 rfl) rfl
theorem q3182 : (Jvm.Cond.soleField "ModuleEngineModel" "row") ∈ lw_all := lw_g (lw_at lw_m12 183 rfl) rfl
theorem q3183 : (Jvm.Cond.lays "ModuleEngineModel" "ModuleEngineModel" "size" "I") ∈ lw_all := lw_g (lw_at lw_m12 184 rfl) rfl
theorem q3184 : (Jvm.Cond.soleField "ModuleEngineModel" "size") ∈ lw_all := lw_g (lw_at lw_m12 185 rfl) rfl
theorem q3185 : (Jvm.Cond.lays "ModuleEngineModel" "ModuleEngineModel" "labels" "I") ∈ lw_all := lw_g (lw_at lw_m12 186 rfl) rfl
theorem q3186 : (Jvm.Cond.soleField "ModuleEngineModel" "labels") ∈ lw_all := lw_g (lw_at lw_m12 187 rfl) rfl
theorem q3187 : (Jvm.Cond.laysFinal "ModuleEngineModel" "ModuleEngineModel" "labelOp" "[I") ∈ lw_all := lw_g (lw_at lw_m12 188 rfl) rfl
theorem q3188 : (Jvm.Cond.soleField "ModuleEngineModel" "labelOp") ∈ lw_all := lw_g (lw_at lw_m12 189 rfl) rfl
theorem q3189 : (Jvm.Cond.laysFinal "ModuleEngineModel" "ModuleEngineModel" "labelType" "[J") ∈ lw_all := lw_g (lw_at lw_m12 190 rfl) rfl
theorem q3190 : (Jvm.Cond.soleField "ModuleEngineModel" "labelType") ∈ lw_all := lw_g (lw_at lw_m12 191 rfl) rfl
theorem q3191 : (Jvm.Cond.laysFinal "ModuleEngineModel" "ModuleEngineModel" "labelLow" "[I") ∈ lw_all := lw_g (lw_at lw_m12 192 rfl) rfl
theorem q3192 : (Jvm.Cond.soleField "ModuleEngineModel" "labelLow") ∈ lw_all := lw_g (lw_at lw_m12 193 rfl) rfl
theorem q3193 : (Jvm.Cond.laysFinal "ModuleEngineModel" "ModuleEngineModel" "labelDead" "[Z") ∈ lw_all := lw_g (lw_at lw_m12 194 rfl) rfl
theorem q3194 : (Jvm.Cond.soleField "ModuleEngineModel" "labelDead") ∈ lw_all := lw_g (lw_at lw_m12 195 rfl) rfl
theorem q3195 : (Jvm.Cond.lays "ModuleEngineModel" "ModuleEngineModel" "body" "I") ∈ lw_all := lw_g (lw_at lw_m12 196 rfl) rfl
theorem q3196 : (Jvm.Cond.soleField "ModuleEngineModel" "body") ∈ lw_all := lw_g (lw_at lw_m12 197 rfl) rfl
theorem q3197 : (Jvm.Cond.lays "ModuleEngineModel" "ModuleEngineModel" "bodyType" "I") ∈ lw_all := lw_g (lw_at lw_m12 198 rfl) rfl
theorem q3198 : (Jvm.Cond.soleField "ModuleEngineModel" "bodyType") ∈ lw_all := lw_g (lw_at lw_m12 199 rfl) rfl
theorem q3199 : (Jvm.Cond.lays "ModuleEngineModel" "ModuleEngineModel" "place" "I") ∈ lw_all := lw_g (lw_at lw_m12 200 rfl) rfl
theorem q3200 : (Jvm.Cond.soleField "ModuleEngineModel" "place") ∈ lw_all := lw_g (lw_at lw_m12 201 rfl) rfl
theorem q3201 : (Jvm.Cond.laysFinal "ModuleEngineModel" "ModuleEngineModel" "took" "[I") ∈ lw_all := lw_g (lw_at lw_m12 202 rfl) rfl
theorem q3202 : (Jvm.Cond.soleField "ModuleEngineModel" "took") ∈ lw_all := lw_g (lw_at lw_m12 203 rfl) rfl
theorem q3203 : (Jvm.Cond.lays "ModuleEngineModel" "ModuleEngineModel" "trapped" "I") ∈ lw_all := lw_g (lw_at lw_m12 204 rfl) rfl
theorem q3204 : (Jvm.Cond.soleField "ModuleEngineModel" "trapped") ∈ lw_all := lw_g (lw_at lw_m12 205 rfl) rfl
theorem q3205 : (Jvm.Cond.laysFinal "ModuleEngineModel" "ModuleEngineModel" "one" "LModuleEngineModel$Real;") ∈ lw_all := lw_g (lw_at lw_m12 206 rfl) rfl
theorem q3206 : (Jvm.Cond.soleField "ModuleEngineModel" "one") ∈ lw_all := lw_g (lw_at lw_m12 207 rfl) rfl
theorem q3207 : (Jvm.Cond.laysFinal "ModuleEngineModel" "ModuleEngineModel" "two" "LModuleEngineModel$Real;") ∈ lw_all := lw_g (lw_at lw_m12 208 rfl) rfl
theorem q3208 : (Jvm.Cond.soleField "ModuleEngineModel" "two") ∈ lw_all := lw_g (lw_at lw_m12 209 rfl) rfl
theorem q3209 : (Jvm.Cond.lays "ModuleEngineModel" "ModuleEngineModel" "functions" "I") ∈ lw_all := lw_g (lw_at lw_m12 210 rfl) rfl
theorem q3210 : (Jvm.Cond.soleField "ModuleEngineModel" "functions") ∈ lw_all := lw_g (lw_at lw_m12 211 rfl) rfl
theorem q3211 : (Jvm.Cond.laysFinal "ModuleEngineModel" "ModuleEngineModel" "moduleOf" "[I") ∈ lw_all := lw_g (lw_at lw_m12 212 rfl) rfl
theorem q3212 : (Jvm.Cond.soleField "ModuleEngineModel" "moduleOf") ∈ lw_all := lw_g (lw_at lw_m12 213 rfl) rfl
theorem q3213 : (Jvm.Cond.laysFinal "ModuleEngineModel" "ModuleEngineModel" "typeOf" "[I") ∈ lw_all := lw_g (lw_at lw_m12 214 rfl) rfl
theorem q3214 : (Jvm.Cond.soleField "ModuleEngineModel" "typeOf") ∈ lw_all := lw_g (lw_at lw_m12 215 rfl) rfl
theorem q3215 : (Jvm.Cond.laysFinal "ModuleEngineModel" "ModuleEngineModel" "homeOf" "[I") ∈ lw_all := lw_g (lw_at lw_m12 216 rfl) rfl
theorem q3216 : (Jvm.Cond.soleField "ModuleEngineModel" "homeOf") ∈ lw_all := lw_g (lw_at lw_m12 217 rfl) rfl
theorem q3217 : (Jvm.Cond.laysFinal "ModuleEngineModel" "ModuleEngineModel" "bodyOf" "[I") ∈ lw_all := lw_g (lw_at lw_m12 218 rfl) rfl
theorem q3218 : (Jvm.Cond.soleField "ModuleEngineModel" "bodyOf") ∈ lw_all := lw_g (lw_at lw_m12 219 rfl) rfl
theorem q3219 : (Jvm.Cond.laysFinal "ModuleEngineModel" "ModuleEngineModel" "hostOf" "[I") ∈ lw_all := lw_g (lw_at lw_m12 220 rfl) rfl
theorem q3220 : (Jvm.Cond.soleField "ModuleEngineModel" "hostOf") ∈ lw_all := lw_g (lw_at lw_m12 221 rfl) rfl
theorem q3221 : (Jvm.Cond.laysFinal "ModuleEngineModel" "ModuleEngineModel" "framesOf" "[I") ∈ lw_all := lw_g (lw_at lw_m12 222 rfl) rfl
theorem q3222 : (Jvm.Cond.soleField "ModuleEngineModel" "framesOf") ∈ lw_all := lw_g (lw_at lw_m12 223 rfl) rfl
theorem q3223 : (Jvm.Cond.laysFinal "ModuleEngineModel" "ModuleEngineModel" "isOver" "[Z") ∈ lw_all := lw_g (lw_at lw_m12 224 rfl) rfl
theorem q3224 : (Jvm.Cond.soleField "ModuleEngineModel" "isOver") ∈ lw_all := lw_g (lw_at lw_m12 225 rfl) rfl
theorem q3225 : (Jvm.Cond.lays "ModuleEngineModel" "ModuleEngineModel" "tier" "I") ∈ lw_all := lw_g (lw_at lw_m12 226 rfl) rfl
theorem q3226 : (Jvm.Cond.soleField "ModuleEngineModel" "tier") ∈ lw_all := lw_g (lw_at lw_m12 227 rfl) rfl
theorem q3227 : (Jvm.Cond.lays "ModuleEngineModel" "ModuleEngineModel" "over" "I") ∈ lw_all := lw_g (lw_at lw_m12 228 rfl) rfl
theorem q3228 : (Jvm.Cond.soleField "ModuleEngineModel" "over") ∈ lw_all := lw_g (lw_at lw_m12 229 rfl) rfl
theorem q3229 : (Jvm.Cond.lays "ModuleEngineModel" "ModuleEngineModel" "tables" "I") ∈ lw_all := lw_g (lw_at lw_m12 230 rfl) rfl
theorem q3230 : (Jvm.Cond.soleField "ModuleEngineModel" "tables") ∈ lw_all := lw_g (lw_at lw_m12 231 rfl) rfl
theorem q3231 : (Jvm.Cond.lays "ModuleEngineModel" "ModuleEngineModel" "entriesLeft" "I") ∈ lw_all := lw_g (lw_at lw_m12 232 rfl) rfl
theorem q3232 : (Jvm.Cond.soleField "ModuleEngineModel" "entriesLeft") ∈ lw_all := lw_g (lw_at lw_m12 233 rfl) rfl
theorem q3233 : (Jvm.Cond.laysFinal "ModuleEngineModel" "ModuleEngineModel" "tableKind" "[I") ∈ lw_all := lw_g (lw_at lw_m12 234 rfl) rfl
theorem q3234 : (Jvm.Cond.soleField "ModuleEngineModel" "tableKind") ∈ lw_all := lw_g (lw_at lw_m12 235 rfl) rfl
theorem q3235 : (Jvm.Cond.laysFinal "ModuleEngineModel" "ModuleEngineModel" "tableSize" "[I") ∈ lw_all := lw_g (lw_at lw_m12 236 rfl) rfl
theorem q3236 : (Jvm.Cond.soleField "ModuleEngineModel" "tableSize") ∈ lw_all := lw_g (lw_at lw_m12 237 rfl) rfl
theorem q3237 : (Jvm.Cond.laysFinal "ModuleEngineModel" "ModuleEngineModel" "tableMost" "[J") ∈ lw_all := lw_g (lw_at lw_m12 238 rfl) rfl
theorem q3238 : (Jvm.Cond.soleField "ModuleEngineModel" "tableMost") ∈ lw_all := lw_g (lw_at lw_m12 239 rfl) rfl
theorem q3239 : (Jvm.Cond.laysFinal "ModuleEngineModel" "ModuleEngineModel" "entries" "[I") ∈ lw_all := lw_g (lw_at lw_m13 0 rfl) rfl
theorem q3240 : (Jvm.Cond.soleField "ModuleEngineModel" "entries") ∈ lw_all := lw_g (lw_at lw_m13 1 rfl) rfl
theorem q3241 : (Jvm.Cond.lays "ModuleEngineModel" "ModuleEngineModel" "memories" "I") ∈ lw_all := lw_g (lw_at lw_m13 2 rfl) rfl
theorem q3242 : (Jvm.Cond.soleField "ModuleEngineModel" "memories") ∈ lw_all := lw_g (lw_at lw_m13 3 rfl) rfl
theorem q3243 : (Jvm.Cond.lays "ModuleEngineModel" "ModuleEngineModel" "pagesLeft" "I") ∈ lw_all := lw_g (lw_at lw_m13 4 rfl) rfl
theorem q3244 : (Jvm.Cond.soleField "ModuleEngineModel" "pagesLeft") ∈ lw_all := lw_g (lw_at lw_m13 5 rfl) rfl
theorem q3245 : (Jvm.Cond.laysFinal "ModuleEngineModel" "ModuleEngineModel" "pages" "[I") ∈ lw_all := lw_g (lw_at lw_m13 6 rfl) rfl
theorem q3246 : (Jvm.Cond.soleField "ModuleEngineModel" "pages") ∈ lw_all := lw_g (lw_at lw_m13 7 rfl) rfl
theorem q3247 : (Jvm.Cond.laysFinal "ModuleEngineModel" "ModuleEngineModel" "memoryMost" "[J") ∈ lw_all := lw_g (lw_at lw_m13 8 rfl) rfl
theorem q3248 : (Jvm.Cond.soleField "ModuleEngineModel" "memoryMost") ∈ lw_all := lw_g (lw_at lw_m13 9 rfl) rfl
theorem q3249 : (Jvm.Cond.laysFinal "ModuleEngineModel" "ModuleEngineModel" "pageOf" "[I") ∈ lw_all := lw_g (lw_at lw_m13 10 rfl) rfl
theorem q3250 : (Jvm.Cond.soleField "ModuleEngineModel" "pageOf") ∈ lw_all := lw_g (lw_at lw_m13 11 rfl) rfl
theorem q3251 : (Jvm.Cond.laysFinal "ModuleEngineModel" "ModuleEngineModel" "content" "[B") ∈ lw_all := lw_g (lw_at lw_m13 12 rfl) rfl
theorem q3252 : (Jvm.Cond.soleField "ModuleEngineModel" "content") ∈ lw_all := lw_g (lw_at lw_m13 13 rfl) rfl
theorem q3253 : (Jvm.Cond.lays "ModuleEngineModel" "ModuleEngineModel" "globals" "I") ∈ lw_all := lw_g (lw_at lw_m13 14 rfl) rfl
theorem q3254 : (Jvm.Cond.soleField "ModuleEngineModel" "globals") ∈ lw_all := lw_g (lw_at lw_m13 15 rfl) rfl
theorem q3255 : (Jvm.Cond.laysFinal "ModuleEngineModel" "ModuleEngineModel" "globalKind" "[I") ∈ lw_all := lw_g (lw_at lw_m13 16 rfl) rfl
theorem q3256 : (Jvm.Cond.soleField "ModuleEngineModel" "globalKind") ∈ lw_all := lw_g (lw_at lw_m13 17 rfl) rfl
theorem q3257 : (Jvm.Cond.laysFinal "ModuleEngineModel" "ModuleEngineModel" "globalChanges" "[Z") ∈ lw_all := lw_g (lw_at lw_m13 18 rfl) rfl
theorem q3258 : (Jvm.Cond.soleField "ModuleEngineModel" "globalChanges") ∈ lw_all := lw_g (lw_at lw_m13 19 rfl) rfl
theorem q3259 : (Jvm.Cond.laysFinal "ModuleEngineModel" "ModuleEngineModel" "globalValue" "[J") ∈ lw_all := lw_g (lw_at lw_m13 20 rfl) rfl
theorem q3260 : (Jvm.Cond.soleField "ModuleEngineModel" "globalValue") ∈ lw_all := lw_g (lw_at lw_m13 21 rfl) rfl
theorem q3261 : (Jvm.Cond.lays "ModuleEngineModel" "ModuleEngineModel" "instances" "I") ∈ lw_all := lw_g (lw_at lw_m13 22 rfl) rfl
theorem q3262 : (Jvm.Cond.soleField "ModuleEngineModel" "instances") ∈ lw_all := lw_g (lw_at lw_m13 23 rfl) rfl
theorem q3263 : (Jvm.Cond.laysFinal "ModuleEngineModel" "ModuleEngineModel" "madeOf" "[I") ∈ lw_all := lw_g (lw_at lw_m13 24 rfl) rfl
theorem q3264 : (Jvm.Cond.soleField "ModuleEngineModel" "madeOf") ∈ lw_all := lw_g (lw_at lw_m13 25 rfl) rfl
theorem q3265 : (Jvm.Cond.laysFinal "ModuleEngineModel" "ModuleEngineModel" "itsFunctions" "[I") ∈ lw_all := lw_g (lw_at lw_m13 26 rfl) rfl
theorem q3266 : (Jvm.Cond.soleField "ModuleEngineModel" "itsFunctions") ∈ lw_all := lw_g (lw_at lw_m13 27 rfl) rfl
theorem q3267 : (Jvm.Cond.laysFinal "ModuleEngineModel" "ModuleEngineModel" "itsTables" "[I") ∈ lw_all := lw_g (lw_at lw_m13 28 rfl) rfl
theorem q3268 : (Jvm.Cond.soleField "ModuleEngineModel" "itsTables") ∈ lw_all := lw_g (lw_at lw_m13 29 rfl) rfl
theorem q3269 : (Jvm.Cond.laysFinal "ModuleEngineModel" "ModuleEngineModel" "itsMemories" "[I") ∈ lw_all := lw_g (lw_at lw_m13 30 rfl) rfl
theorem q3270 : (Jvm.Cond.soleField "ModuleEngineModel" "itsMemories") ∈ lw_all := lw_g (lw_at lw_m13 31 rfl) rfl
theorem q3271 : (Jvm.Cond.laysFinal "ModuleEngineModel" "ModuleEngineModel" "itsGlobals" "[I") ∈ lw_all := lw_g (lw_at lw_m13 32 rfl) rfl
theorem q3272 : (Jvm.Cond.soleField "ModuleEngineModel" "itsGlobals") ∈ lw_all := lw_g (lw_at lw_m13 33 rfl) rfl
theorem q3273 : (Jvm.Cond.laysFinal "ModuleEngineModel" "ModuleEngineModel" "elementFrom" "[I") ∈ lw_all := lw_g (lw_at lw_m13 34 rfl) rfl
theorem q3274 : (Jvm.Cond.soleField "ModuleEngineModel" "elementFrom") ∈ lw_all := lw_g (lw_at lw_m13 35 rfl) rfl
theorem q3275 : (Jvm.Cond.laysFinal "ModuleEngineModel" "ModuleEngineModel" "elementSize" "[I") ∈ lw_all := lw_g (lw_at lw_m13 36 rfl) rfl
theorem q3276 : (Jvm.Cond.soleField "ModuleEngineModel" "elementSize") ∈ lw_all := lw_g (lw_at lw_m13 37 rfl) rfl
theorem q3277 : (Jvm.Cond.laysFinal "ModuleEngineModel" "ModuleEngineModel" "dataLeft" "[Z") ∈ lw_all := lw_g (lw_at lw_m13 38 rfl) rfl
theorem q3278 : (Jvm.Cond.soleField "ModuleEngineModel" "dataLeft") ∈ lw_all := lw_g (lw_at lw_m13 39 rfl) rfl
theorem q3279 : (Jvm.Cond.lays "ModuleEngineModel" "ModuleEngineModel" "references" "I") ∈ lw_all := lw_g (lw_at lw_m13 40 rfl) rfl
theorem q3280 : (Jvm.Cond.soleField "ModuleEngineModel" "references") ∈ lw_all := lw_g (lw_at lw_m13 41 rfl) rfl
theorem q3281 : (Jvm.Cond.laysFinal "ModuleEngineModel" "ModuleEngineModel" "reference" "[I") ∈ lw_all := lw_g (lw_at lw_m13 42 rfl) rfl
theorem q3282 : (Jvm.Cond.soleField "ModuleEngineModel" "reference") ∈ lw_all := lw_g (lw_at lw_m13 43 rfl) rfl
theorem q3283 : (Jvm.Cond.lays "ModuleEngineModel" "ModuleEngineModel" "offers" "I") ∈ lw_all := lw_g (lw_at lw_m13 44 rfl) rfl
theorem q3284 : (Jvm.Cond.soleField "ModuleEngineModel" "offers") ∈ lw_all := lw_g (lw_at lw_m13 45 rfl) rfl
theorem q3285 : (Jvm.Cond.laysFinal "ModuleEngineModel" "ModuleEngineModel" "offerKind" "[I") ∈ lw_all := lw_g (lw_at lw_m13 46 rfl) rfl
theorem q3286 : (Jvm.Cond.soleField "ModuleEngineModel" "offerKind") ∈ lw_all := lw_g (lw_at lw_m13 47 rfl) rfl
theorem q3287 : (Jvm.Cond.laysFinal "ModuleEngineModel" "ModuleEngineModel" "offerOf" "[I") ∈ lw_all := lw_g (lw_at lw_m13 48 rfl) rfl
theorem q3288 : (Jvm.Cond.soleField "ModuleEngineModel" "offerOf") ∈ lw_all := lw_g (lw_at lw_m13 49 rfl) rfl
theorem q3289 : (Jvm.Cond.lays "ModuleEngineModel" "ModuleEngineModel" "state" "I") ∈ lw_all := lw_g (lw_at lw_m13 50 rfl) rfl
theorem q3290 : (Jvm.Cond.soleField "ModuleEngineModel" "state") ∈ lw_all := lw_g (lw_at lw_m13 51 rfl) rfl
theorem q3291 : (Jvm.Cond.lays "ModuleEngineModel" "ModuleEngineModel" "latestTrap" "I") ∈ lw_all := lw_g (lw_at lw_m13 52 rfl) rfl
theorem q3292 : (Jvm.Cond.soleField "ModuleEngineModel" "latestTrap") ∈ lw_all := lw_g (lw_at lw_m13 53 rfl) rfl
theorem q3293 : (Jvm.Cond.lays "ModuleEngineModel" "ModuleEngineModel" "steps" "I") ∈ lw_all := lw_g (lw_at lw_m13 54 rfl) rfl
theorem q3294 : (Jvm.Cond.soleField "ModuleEngineModel" "steps") ∈ lw_all := lw_g (lw_at lw_m13 55 rfl) rfl
theorem q3295 : (Jvm.Cond.lays "ModuleEngineModel" "ModuleEngineModel" "asked" "I") ∈ lw_all := lw_g (lw_at lw_m13 56 rfl) rfl
theorem q3296 : (Jvm.Cond.soleField "ModuleEngineModel" "asked") ∈ lw_all := lw_g (lw_at lw_m13 57 rfl) rfl
theorem q3297 : (Jvm.Cond.lays "ModuleEngineModel" "ModuleEngineModel" "askedFunction" "I") ∈ lw_all := lw_g (lw_at lw_m13 58 rfl) rfl
theorem q3298 : (Jvm.Cond.soleField "ModuleEngineModel" "askedFunction") ∈ lw_all := lw_g (lw_at lw_m13 59 rfl) rfl
theorem q3299 : (Jvm.Cond.lays "ModuleEngineModel" "ModuleEngineModel" "arguments" "I") ∈ lw_all := lw_g (lw_at lw_m13 60 rfl) rfl
theorem q3300 : (Jvm.Cond.soleField "ModuleEngineModel" "arguments") ∈ lw_all := lw_g (lw_at lw_m13 61 rfl) rfl
theorem q3301 : (Jvm.Cond.laysFinal "ModuleEngineModel" "ModuleEngineModel" "argument" "[J") ∈ lw_all := lw_g (lw_at lw_m13 62 rfl) rfl
theorem q3302 : (Jvm.Cond.soleField "ModuleEngineModel" "argument") ∈ lw_all := lw_g (lw_at lw_m13 63 rfl) rfl
theorem q3303 : (Jvm.Cond.lays "ModuleEngineModel" "ModuleEngineModel" "tellings" "I") ∈ lw_all := lw_g (lw_at lw_m13 64 rfl) rfl
theorem q3304 : (Jvm.Cond.soleField "ModuleEngineModel" "tellings") ∈ lw_all := lw_g (lw_at lw_m13 65 rfl) rfl
theorem q3305 : (Jvm.Cond.laysFinal "ModuleEngineModel" "ModuleEngineModel" "telling" "[J") ∈ lw_all := lw_g (lw_at lw_m13 66 rfl) rfl
theorem q3306 : (Jvm.Cond.soleField "ModuleEngineModel" "telling") ∈ lw_all := lw_g (lw_at lw_m13 67 rfl) rfl
theorem q3307 : (Jvm.Cond.lays "ModuleEngineModel" "ModuleEngineModel" "frames" "I") ∈ lw_all := lw_g (lw_at lw_m13 68 rfl) rfl
theorem q3308 : (Jvm.Cond.soleField "ModuleEngineModel" "frames") ∈ lw_all := lw_g (lw_at lw_m13 69 rfl) rfl
theorem q3309 : (Jvm.Cond.laysFinal "ModuleEngineModel" "ModuleEngineModel" "frameOf" "[I") ∈ lw_all := lw_g (lw_at lw_m13 70 rfl) rfl
theorem q3310 : (Jvm.Cond.soleField "ModuleEngineModel" "frameOf") ∈ lw_all := lw_g (lw_at lw_m13 71 rfl) rfl
theorem q3311 : (Jvm.Cond.laysFinal "ModuleEngineModel" "ModuleEngineModel" "frameBack" "[I") ∈ lw_all := lw_g (lw_at lw_m13 72 rfl) rfl
theorem q3312 : (Jvm.Cond.soleField "ModuleEngineModel" "frameBack") ∈ lw_all := lw_g (lw_at lw_m13 73 rfl) rfl
theorem q3313 : (Jvm.Cond.laysFinal "ModuleEngineModel" "ModuleEngineModel" "frameFrom" "[I") ∈ lw_all := lw_g (lw_at lw_m13 74 rfl) rfl
theorem q3314 : (Jvm.Cond.soleField "ModuleEngineModel" "frameFrom") ∈ lw_all := lw_g (lw_at lw_m13 75 rfl) rfl
theorem q3315 : (Jvm.Cond.laysFinal "ModuleEngineModel" "ModuleEngineModel" "frameAsks" "[I") ∈ lw_all := lw_g (lw_at lw_m13 76 rfl) rfl
theorem q3316 : (Jvm.Cond.soleField "ModuleEngineModel" "frameAsks") ∈ lw_all := lw_g (lw_at lw_m13 77 rfl) rfl
theorem q3317 : (Jvm.Cond.laysFinal "ModuleEngineModel" "ModuleEngineModel" "frameTop" "[I") ∈ lw_all := lw_g (lw_at lw_m13 78 rfl) rfl
theorem q3318 : (Jvm.Cond.soleField "ModuleEngineModel" "frameTop") ∈ lw_all := lw_g (lw_at lw_m13 79 rfl) rfl
theorem q3319 : (Jvm.Cond.laysFinal "ModuleEngineModel" "ModuleEngineModel" "frameMarks" "[I") ∈ lw_all := lw_g (lw_at lw_m13 80 rfl) rfl
theorem q3320 : (Jvm.Cond.soleField "ModuleEngineModel" "frameMarks") ∈ lw_all := lw_g (lw_at lw_m13 81 rfl) rfl
theorem q3321 : (Jvm.Cond.laysFinal "ModuleEngineModel" "ModuleEngineModel" "values" "[J") ∈ lw_all := lw_g (lw_at lw_m13 82 rfl) rfl
theorem q3322 : (Jvm.Cond.soleField "ModuleEngineModel" "values") ∈ lw_all := lw_g (lw_at lw_m13 83 rfl) rfl
theorem q3323 : (Jvm.Cond.lays "ModuleEngineModel" "ModuleEngineModel" "top" "I") ∈ lw_all := lw_g (lw_at lw_m13 84 rfl) rfl
theorem q3324 : (Jvm.Cond.soleField "ModuleEngineModel" "top") ∈ lw_all := lw_g (lw_at lw_m13 85 rfl) rfl
theorem q3325 : (Jvm.Cond.lays "ModuleEngineModel" "ModuleEngineModel" "pc" "I") ∈ lw_all := lw_g (lw_at lw_m13 86 rfl) rfl
theorem q3326 : (Jvm.Cond.soleField "ModuleEngineModel" "pc") ∈ lw_all := lw_g (lw_at lw_m13 87 rfl) rfl
theorem q3327 : (Jvm.Cond.lays "ModuleEngineModel" "ModuleEngineModel" "instance" "I") ∈ lw_all := lw_g (lw_at lw_m13 88 rfl) rfl
theorem q3328 : (Jvm.Cond.soleField "ModuleEngineModel" "instance") ∈ lw_all := lw_g (lw_at lw_m13 89 rfl) rfl
theorem q3329 : (Jvm.Cond.lays "ModuleEngineModel" "ModuleEngineModel" "marks" "I") ∈ lw_all := lw_g (lw_at lw_m13 90 rfl) rfl
theorem q3330 : (Jvm.Cond.soleField "ModuleEngineModel" "marks") ∈ lw_all := lw_g (lw_at lw_m13 91 rfl) rfl
theorem q3331 : (Jvm.Cond.laysFinal "ModuleEngineModel" "ModuleEngineModel" "markTo" "[I") ∈ lw_all := lw_g (lw_at lw_m13 92 rfl) rfl
theorem q3332 : (Jvm.Cond.soleField "ModuleEngineModel" "markTo") ∈ lw_all := lw_g (lw_at lw_m13 93 rfl) rfl
theorem q3333 : (Jvm.Cond.laysFinal "ModuleEngineModel" "ModuleEngineModel" "markLow" "[I") ∈ lw_all := lw_g (lw_at lw_m13 94 rfl) rfl
theorem q3334 : (Jvm.Cond.soleField "ModuleEngineModel" "markLow") ∈ lw_all := lw_g (lw_at lw_m13 95 rfl) rfl
theorem q3335 : (Jvm.Cond.laysFinal "ModuleEngineModel" "ModuleEngineModel" "markKeeps" "[I") ∈ lw_all := lw_g (lw_at lw_m13 96 rfl) rfl
theorem q3336 : (Jvm.Cond.soleField "ModuleEngineModel" "markKeeps") ∈ lw_all := lw_g (lw_at lw_m13 97 rfl) rfl
theorem q3337 : (Jvm.Cond.laysFinal "ModuleEngineModel" "ModuleEngineModel" "markStays" "[Z") ∈ lw_all := lw_g (lw_at lw_m13 98 rfl) rfl
theorem q3338 : (Jvm.Cond.soleField "ModuleEngineModel" "markStays") ∈ lw_all := lw_g (lw_at lw_m13 99 rfl) rfl
theorem q3339 : (Jvm.Cond.superclass "ModuleEngineModel" "java/lang/Object") ∈ lw_all := lw_g (lw_at lw_m13 100 rfl) rfl
theorem q3341 : (Jvm.Cond.instanceMethod ({ cls := "ModuleEngineModel", name := "feed", desc := "(IIIII)I" } : Jvm.MethodName)) ∈ lw_all := lw_g (lw_at lw_m13 102 rfl) rfl
theorem q3342 : (Jvm.Cond.selects "ModuleEngineModel" ({ cls := "ModuleEngineModel", name := "feed", desc := "(IIIII)I" } : Jvm.MethodName) ({ cls := "ModuleEngineModel", name := "feed", desc := "(IIIII)I" } : Jvm.MethodName)) ∈ lw_all := lw_g (lw_at lw_m13 103 rfl) rfl
theorem q3343 : (Jvm.Cond.code ({ cls := "ModuleEngineModel", name := "feed", desc := "(IIIII)I" } : Jvm.MethodName) prog_20_method_2_code (6 : Nat) (Option.some Jvm.ClassFile.FieldType.int)) ∈ lw_all := lw_g (lw_at lw_m13 104 rfl) rfl
theorem q3344 : (Jvm.Cond.constant "ModuleEngineModel" (210 : Nat) (40960 : Int32)) ∈ lw_all := lw_g (lw_at lw_m13 105 rfl) rfl
theorem q3345 : (Jvm.Cond.methodLink "ModuleEngineModel" (211 : Nat) ({ cls := "ModuleEngineModel", name := "puts", desc := "(I)V" } : Jvm.MethodName)) ∈ lw_all := lw_g (lw_at lw_m13 106 rfl) rfl
theorem q3346 : (Jvm.Cond.privateMethod ({ cls := "ModuleEngineModel", name := "puts", desc := "(I)V" } : Jvm.MethodName)) ∈ lw_tbl := lw_at lw_m13 107 rfl
theorem q3347 : (Jvm.Cond.instanceMethod ({ cls := "ModuleEngineModel", name := "puts", desc := "(I)V" } : Jvm.MethodName)) ∈ lw_all := lw_g (lw_at lw_m13 108 rfl) rfl
theorem q3348 : (Jvm.Cond.code ({ cls := "ModuleEngineModel", name := "puts", desc := "(I)V" } : Jvm.MethodName) prog_20_method_3_code (3 : Nat) (Option.none : Option Jvm.ClassFile.FieldType)) ∈ lw_all := lw_g (lw_at lw_m13 109 rfl) rfl
theorem q3350 : (Jvm.Cond.instanceMethod ({ cls := "ModuleEngineModel", name := "module", desc := "(I)I" } : Jvm.MethodName)) ∈ lw_all := lw_g (lw_at lw_m13 111 rfl) rfl
theorem q3351 : (Jvm.Cond.selects "ModuleEngineModel" ({ cls := "ModuleEngineModel", name := "module", desc := "(I)I" } : Jvm.MethodName) ({ cls := "ModuleEngineModel", name := "module", desc := "(I)I" } : Jvm.MethodName)) ∈ lw_all := lw_g (lw_at lw_m13 112 rfl) rfl
theorem q3352 : (Jvm.Cond.codeWith ({ cls := "ModuleEngineModel", name := "module", desc := "(I)I" } : Jvm.MethodName) prog_20_method_4_code (4 : Nat) (Option.some Jvm.ClassFile.FieldType.int) [((111 : Nat), (147 : Nat), (150 : Nat), (20 : Nat))]) ∈ lw_all := lw_g (lw_at lw_m13 113 rfl) rfl
theorem q3354 : (Jvm.Cond.methodLinkNest "ModuleEngineModel" (228 : Nat) ({ cls := "ModuleEngineModel$Plan", name := "<init>", desc := "()V" } : Jvm.MethodName) "ModuleEngineModel") ∈ lw_tbl := lw_at lw_m13 115 rfl
theorem q3360 : (Jvm.Cond.fieldLinkNest "ModuleEngineModel" (232 : Nat) "ModuleEngineModel$Plan" "bytes" "[B" "ModuleEngineModel") ∈ lw_tbl := lw_at lw_m13 121 rfl
theorem q3362 : (Jvm.Cond.fieldLinkNest "ModuleEngineModel" (292 : Nat) "ModuleEngineModel$Plan" "size" "I" "ModuleEngineModel") ∈ lw_tbl := lw_at lw_m13 123 rfl
theorem q3364 : (Jvm.Cond.fieldLinkNest "ModuleEngineModel" (302 : Nat) "ModuleEngineModel$Plan" "section" "[I" "ModuleEngineModel") ∈ lw_tbl := lw_at lw_m13 125 rfl
theorem q3366 : (Jvm.Cond.fieldLinkNest "ModuleEngineModel" (360 : Nat) "ModuleEngineModel$Plan" "limit" "I" "ModuleEngineModel") ∈ lw_tbl := lw_at lw_m13 127 rfl
theorem q3368 : (Jvm.Cond.fieldLinkNest "ModuleEngineModel" (381 : Nat) "ModuleEngineModel$Plan" "types" "I" "ModuleEngineModel") ∈ lw_tbl := lw_at lw_m13 129 rfl
theorem q3370 : (Jvm.Cond.fieldLinkNest "ModuleEngineModel" (387 : Nat) "ModuleEngineModel$Plan" "parameters" "[I" "ModuleEngineModel") ∈ lw_tbl := lw_at lw_m13 131 rfl
theorem q3372 : (Jvm.Cond.fieldLinkNest "ModuleEngineModel" (390 : Nat) "ModuleEngineModel$Plan" "results" "[I" "ModuleEngineModel") ∈ lw_tbl := lw_at lw_m13 133 rfl
theorem q3374 : (Jvm.Cond.fieldLinkNest "ModuleEngineModel" (374 : Nat) "ModuleEngineModel$Plan" "rows" "[I" "ModuleEngineModel") ∈ lw_tbl := lw_at lw_m13 135 rfl
theorem q3376 : (Jvm.Cond.fieldLinkNest "ModuleEngineModel" (402 : Nat) "ModuleEngineModel$Plan" "imports" "I" "ModuleEngineModel") ∈ lw_tbl := lw_at lw_m13 137 rfl
theorem q3378 : (Jvm.Cond.fieldLinkNest "ModuleEngineModel" (411 : Nat) "ModuleEngineModel$Plan" "importKind" "[I" "ModuleEngineModel") ∈ lw_tbl := lw_at lw_m13 139 rfl
theorem q3380 : (Jvm.Cond.fieldLinkNest "ModuleEngineModel" (414 : Nat) "ModuleEngineModel$Plan" "importType" "[J" "ModuleEngineModel") ∈ lw_tbl := lw_at lw_m13 141 rfl
theorem q3382 : (Jvm.Cond.fieldLinkNest "ModuleEngineModel" (417 : Nat) "ModuleEngineModel$Plan" "importLeast" "[J" "ModuleEngineModel") ∈ lw_tbl := lw_at lw_m13 143 rfl
theorem q3384 : (Jvm.Cond.fieldLinkNest "ModuleEngineModel" (420 : Nat) "ModuleEngineModel$Plan" "importGreatest" "[J" "ModuleEngineModel") ∈ lw_tbl := lw_at lw_m13 145 rfl
theorem q3386 : (Jvm.Cond.fieldLinkNest "ModuleEngineModel" (423 : Nat) "ModuleEngineModel$Plan" "importChanges" "[Z" "ModuleEngineModel") ∈ lw_tbl := lw_at lw_m13 147 rfl
theorem q3388 : (Jvm.Cond.fieldLinkNest "ModuleEngineModel" (311 : Nat) "ModuleEngineModel$Plan" "functionRow" "J" "ModuleEngineModel") ∈ lw_tbl := lw_at lw_m13 149 rfl
theorem q3390 : (Jvm.Cond.fieldLinkNest "ModuleEngineModel" (426 : Nat) "ModuleEngineModel$Plan" "functions" "I" "ModuleEngineModel") ∈ lw_tbl := lw_at lw_m13 151 rfl
theorem q3392 : (Jvm.Cond.fieldLinkNest "ModuleEngineModel" (429 : Nat) "ModuleEngineModel$Plan" "functionType" "[J" "ModuleEngineModel") ∈ lw_tbl := lw_at lw_m13 153 rfl
theorem q3394 : (Jvm.Cond.fieldLinkNest "ModuleEngineModel" (432 : Nat) "ModuleEngineModel$Plan" "tables" "I" "ModuleEngineModel") ∈ lw_tbl := lw_at lw_m13 155 rfl
theorem q3396 : (Jvm.Cond.fieldLinkNest "ModuleEngineModel" (435 : Nat) "ModuleEngineModel$Plan" "tableType" "[I" "ModuleEngineModel") ∈ lw_tbl := lw_at lw_m13 157 rfl
theorem q3398 : (Jvm.Cond.fieldLinkNest "ModuleEngineModel" (438 : Nat) "ModuleEngineModel$Plan" "tableLeast" "[J" "ModuleEngineModel") ∈ lw_tbl := lw_at lw_m13 159 rfl
theorem q3400 : (Jvm.Cond.fieldLinkNest "ModuleEngineModel" (441 : Nat) "ModuleEngineModel$Plan" "tableGreatest" "[J" "ModuleEngineModel") ∈ lw_tbl := lw_at lw_m13 161 rfl
theorem q3402 : (Jvm.Cond.fieldLinkNest "ModuleEngineModel" (444 : Nat) "ModuleEngineModel$Plan" "memories" "I" "ModuleEngineModel") ∈ lw_tbl := lw_at lw_m13 163 rfl
theorem q3404 : (Jvm.Cond.fieldLinkNest "ModuleEngineModel" (447 : Nat) "ModuleEngineModel$Plan" "memoryLeast" "[J" "ModuleEngineModel") ∈ lw_tbl := lw_at lw_m13 165 rfl
theorem q3406 : (Jvm.Cond.fieldLinkNest "ModuleEngineModel" (450 : Nat) "ModuleEngineModel$Plan" "memoryGreatest" "[J" "ModuleEngineModel") ∈ lw_tbl := lw_at lw_m13 167 rfl
theorem q3408 : (Jvm.Cond.fieldLinkNest "ModuleEngineModel" (453 : Nat) "ModuleEngineModel$Plan" "globals" "I" "ModuleEngineModel") ∈ lw_tbl := lw_at lw_m13 169 rfl
theorem q3410 : (Jvm.Cond.fieldLinkNest "ModuleEngineModel" (459 : Nat) "ModuleEngineModel$Plan" "globalType" "[I" "ModuleEngineModel") ∈ lw_tbl := lw_at lw_m13 171 rfl
theorem q3412 : (Jvm.Cond.fieldLinkNest "ModuleEngineModel" (462 : Nat) "ModuleEngineModel$Plan" "globalChanges" "[Z" "ModuleEngineModel") ∈ lw_tbl := lw_at lw_m13 173 rfl
theorem q3414 : (Jvm.Cond.fieldLinkNest "ModuleEngineModel" (463 : Nat) "ModuleEngineModel$Plan" "globalAt" "[I" "ModuleEngineModel") ∈ lw_tbl := lw_at lw_m13 175 rfl
theorem q3416 : (Jvm.Cond.fieldLinkNest "ModuleEngineModel" (466 : Nat) "ModuleEngineModel$Plan" "exports" "I" "ModuleEngineModel") ∈ lw_tbl := lw_at lw_m13 177 rfl
theorem q3418 : (Jvm.Cond.fieldLinkNest "ModuleEngineModel" (469 : Nat) "ModuleEngineModel$Plan" "exportName" "[I" "ModuleEngineModel") ∈ lw_tbl := lw_at lw_m13 179 rfl
theorem q3420 : (Jvm.Cond.fieldLinkNest "ModuleEngineModel" (472 : Nat) "ModuleEngineModel$Plan" "exportNameSize" "[I" "ModuleEngineModel") ∈ lw_tbl := lw_at lw_m13 181 rfl
theorem q3422 : (Jvm.Cond.fieldLinkNest "ModuleEngineModel" (475 : Nat) "ModuleEngineModel$Plan" "exportKind" "[I" "ModuleEngineModel") ∈ lw_tbl := lw_at lw_m13 183 rfl
theorem q3424 : (Jvm.Cond.fieldLinkNest "ModuleEngineModel" (478 : Nat) "ModuleEngineModel$Plan" "exportOf" "[J" "ModuleEngineModel") ∈ lw_tbl := lw_at lw_m13 185 rfl
theorem q3426 : (Jvm.Cond.fieldLinkNest "ModuleEngineModel" (348 : Nat) "ModuleEngineModel$Plan" "start" "J" "ModuleEngineModel") ∈ lw_tbl := lw_at lw_m13 187 rfl
theorem q3428 : (Jvm.Cond.fieldLinkNest "ModuleEngineModel" (481 : Nat) "ModuleEngineModel$Plan" "elements" "I" "ModuleEngineModel") ∈ lw_tbl := lw_at lw_m13 189 rfl
theorem q3430 : (Jvm.Cond.fieldLinkNest "ModuleEngineModel" (489 : Nat) "ModuleEngineModel$Plan" "elementMode" "[I" "ModuleEngineModel") ∈ lw_tbl := lw_at lw_m13 191 rfl
theorem q3432 : (Jvm.Cond.fieldLinkNest "ModuleEngineModel" (492 : Nat) "ModuleEngineModel$Plan" "elementTable" "[J" "ModuleEngineModel") ∈ lw_tbl := lw_at lw_m13 193 rfl
theorem q3434 : (Jvm.Cond.fieldLinkNest "ModuleEngineModel" (495 : Nat) "ModuleEngineModel$Plan" "elementPlace" "[I" "ModuleEngineModel") ∈ lw_tbl := lw_at lw_m13 195 rfl
theorem q3436 : (Jvm.Cond.fieldLinkNest "ModuleEngineModel" (501 : Nat) "ModuleEngineModel$Plan" "elementType" "[I" "ModuleEngineModel") ∈ lw_tbl := lw_at lw_m13 197 rfl
theorem q3438 : (Jvm.Cond.fieldLinkNest "ModuleEngineModel" (498 : Nat) "ModuleEngineModel$Plan" "elementOfExpressions" "[Z" "ModuleEngineModel") ∈ lw_tbl := lw_at lw_m13 199 rfl
theorem q3440 : (Jvm.Cond.fieldLinkNest "ModuleEngineModel" (507 : Nat) "ModuleEngineModel$Plan" "elementItems" "[I" "ModuleEngineModel") ∈ lw_tbl := lw_at lw_m13 201 rfl
theorem q3442 : (Jvm.Cond.fieldLinkNest "ModuleEngineModel" (504 : Nat) "ModuleEngineModel$Plan" "elementAt" "[I" "ModuleEngineModel") ∈ lw_tbl := lw_at lw_m13 203 rfl
theorem q3444 : (Jvm.Cond.fieldLinkNest "ModuleEngineModel" (318 : Nat) "ModuleEngineModel$Plan" "dataTold" "J" "ModuleEngineModel") ∈ lw_tbl := lw_at lw_m13 205 rfl
theorem q3446 : (Jvm.Cond.fieldLinkNest "ModuleEngineModel" (321 : Nat) "ModuleEngineModel$Plan" "dataRow" "J" "ModuleEngineModel") ∈ lw_tbl := lw_at lw_m13 207 rfl
theorem q3448 : (Jvm.Cond.fieldLinkNest "ModuleEngineModel" (529 : Nat) "ModuleEngineModel$Plan" "datas" "I" "ModuleEngineModel") ∈ lw_tbl := lw_at lw_m13 209 rfl
theorem q3450 : (Jvm.Cond.fieldLinkNest "ModuleEngineModel" (534 : Nat) "ModuleEngineModel$Plan" "dataActive" "[Z" "ModuleEngineModel") ∈ lw_tbl := lw_at lw_m13 211 rfl
theorem q3452 : (Jvm.Cond.fieldLinkNest "ModuleEngineModel" (537 : Nat) "ModuleEngineModel$Plan" "dataMemory" "[J" "ModuleEngineModel") ∈ lw_tbl := lw_at lw_m13 213 rfl
theorem q3454 : (Jvm.Cond.fieldLinkNest "ModuleEngineModel" (540 : Nat) "ModuleEngineModel$Plan" "dataPlace" "[I" "ModuleEngineModel") ∈ lw_tbl := lw_at lw_m13 215 rfl
theorem q3456 : (Jvm.Cond.fieldLinkNest "ModuleEngineModel" (543 : Nat) "ModuleEngineModel$Plan" "dataAt" "[I" "ModuleEngineModel") ∈ lw_tbl := lw_at lw_m13 217 rfl
theorem q3458 : (Jvm.Cond.fieldLinkNest "ModuleEngineModel" (546 : Nat) "ModuleEngineModel$Plan" "dataSize" "[I" "ModuleEngineModel") ∈ lw_tbl := lw_at lw_m13 219 rfl
theorem q3460 : (Jvm.Cond.fieldLinkNest "ModuleEngineModel" (315 : Nat) "ModuleEngineModel$Plan" "bodyRow" "J" "ModuleEngineModel") ∈ lw_tbl := lw_at lw_m13 221 rfl
theorem q3462 : (Jvm.Cond.fieldLinkNest "ModuleEngineModel" (517 : Nat) "ModuleEngineModel$Plan" "localsAt" "[I" "ModuleEngineModel") ∈ lw_tbl := lw_at lw_m13 223 rfl
theorem q3464 : (Jvm.Cond.fieldLinkNest "ModuleEngineModel" (520 : Nat) "ModuleEngineModel$Plan" "locals" "[J" "ModuleEngineModel") ∈ lw_tbl := lw_at lw_m13 225 rfl
theorem q3466 : (Jvm.Cond.fieldLinkNest "ModuleEngineModel" (523 : Nat) "ModuleEngineModel$Plan" "bodyAt" "[I" "ModuleEngineModel") ∈ lw_tbl := lw_at lw_m13 227 rfl
theorem q3468 : (Jvm.Cond.fieldLinkNest "ModuleEngineModel" (526 : Nat) "ModuleEngineModel$Plan" "bodyEnd" "[I" "ModuleEngineModel") ∈ lw_tbl := lw_at lw_m13 229 rfl
theorem q3470 : (Jvm.Cond.fieldLinkNest "ModuleEngineModel" (726 : Nat) "ModuleEngineModel$Plan" "operands" "[I" "ModuleEngineModel") ∈ lw_tbl := lw_at lw_m13 231 rfl
theorem q3472 : (Jvm.Cond.fieldLinkNest "ModuleEngineModel" (549 : Nat) "ModuleEngineModel$Plan" "endOf" "[I" "ModuleEngineModel") ∈ lw_tbl := lw_at lw_m13 233 rfl
theorem q3474 : (Jvm.Cond.fieldLinkNest "ModuleEngineModel" (552 : Nat) "ModuleEngineModel$Plan" "elseOf" "[I" "ModuleEngineModel") ∈ lw_tbl := lw_at lw_m13 235 rfl
theorem q3592 : (Jvm.Cond.methodLink "ModuleEngineModel" (229 : Nat) ({ cls := "ModuleEngineModel$Plan", name := "begin", desc := "(I)V" } : Jvm.MethodName)) ∈ lw_all := lw_g (lw_at lw_m14 113 rfl) rfl
theorem q3596 : (Jvm.Cond.methodLink "ModuleEngineModel" (245 : Nat) ({ cls := "ModuleEngineModel", name := "readsAll", desc := "()V" } : Jvm.MethodName)) ∈ lw_all := lw_g (lw_at lw_m14 117 rfl) rfl
theorem q3597 : (Jvm.Cond.privateMethod ({ cls := "ModuleEngineModel", name := "readsAll", desc := "()V" } : Jvm.MethodName)) ∈ lw_tbl := lw_at lw_m14 118 rfl
theorem q3598 : (Jvm.Cond.instanceMethod ({ cls := "ModuleEngineModel", name := "readsAll", desc := "()V" } : Jvm.MethodName)) ∈ lw_all := lw_g (lw_at lw_m14 119 rfl) rfl
theorem q3599 : (Jvm.Cond.code ({ cls := "ModuleEngineModel", name := "readsAll", desc := "()V" } : Jvm.MethodName) prog_20_method_18_code (7 : Nat) (Option.none : Option Jvm.ClassFile.FieldType)) ∈ lw_all := lw_g (lw_at lw_m14 120 rfl) rfl
theorem q3600 : (Jvm.Cond.methodLink "ModuleEngineModel" (264 : Nat) ({ cls := "ModuleEngineModel", name := "next", desc := "()I" } : Jvm.MethodName)) ∈ lw_all := lw_g (lw_at lw_m14 121 rfl) rfl
theorem q3601 : (Jvm.Cond.privateMethod ({ cls := "ModuleEngineModel", name := "next", desc := "()I" } : Jvm.MethodName)) ∈ lw_tbl := lw_at lw_m14 122 rfl
theorem q3602 : (Jvm.Cond.instanceMethod ({ cls := "ModuleEngineModel", name := "next", desc := "()I" } : Jvm.MethodName)) ∈ lw_all := lw_g (lw_at lw_m14 123 rfl) rfl
theorem q3603 : (Jvm.Cond.code ({ cls := "ModuleEngineModel", name := "next", desc := "()I" } : Jvm.MethodName) prog_20_method_7_code (1 : Nat) (Option.some Jvm.ClassFile.FieldType.int)) ∈ lw_all := lw_g (lw_at lw_m14 124 rfl) rfl
theorem q3604 : (Jvm.Cond.methodLink "ModuleEngineModel" (257 : Nat) ({ cls := "ModuleEngineModel", name := "stops", desc := "(II)V" } : Jvm.MethodName)) ∈ lw_all := lw_g (lw_at lw_m14 125 rfl) rfl
theorem q3605 : (Jvm.Cond.privateMethod ({ cls := "ModuleEngineModel", name := "stops", desc := "(II)V" } : Jvm.MethodName)) ∈ lw_tbl := lw_at lw_m14 126 rfl
theorem q3606 : (Jvm.Cond.instanceMethod ({ cls := "ModuleEngineModel", name := "stops", desc := "(II)V" } : Jvm.MethodName)) ∈ lw_all := lw_g (lw_at lw_m14 127 rfl) rfl
theorem q3607 : (Jvm.Cond.code ({ cls := "ModuleEngineModel", name := "stops", desc := "(II)V" } : Jvm.MethodName) prog_20_method_6_code (3 : Nat) (Option.none : Option Jvm.ClassFile.FieldType)) ∈ lw_all := lw_g (lw_at lw_m14 128 rfl) rfl
theorem q3608 : (Jvm.Cond.methodLink "ModuleEngineModel" (261 : Nat) ({ cls := "ModuleEngineModel$Plan", name := "at", desc := "(I)I" } : Jvm.MethodName)) ∈ lw_all := lw_g (lw_at lw_m14 129 rfl) rfl
theorem q3612 : (Jvm.Cond.constantLong "ModuleEngineModel" (295 : Nat) (27429984746340352 : Int64)) ∈ lw_all := lw_g (lw_at lw_m14 133 rfl) rfl
theorem q3613 : (Jvm.Cond.constantLong "ModuleEngineModel" (297 : Nat) (255 : Int64)) ∈ lw_all := lw_g (lw_at lw_m14 134 rfl) rfl
theorem q3614 : (Jvm.Cond.methodLink "ModuleEngineModel" (299 : Nat) ({ cls := "ModuleEngineModel", name := "rank", desc := "(I)I" } : Jvm.MethodName)) ∈ lw_all := lw_g (lw_at lw_m14 135 rfl) rfl
theorem q3615 : (Jvm.Cond.static ({ cls := "ModuleEngineModel", name := "rank", desc := "(I)I" } : Jvm.MethodName)) ∈ lw_all := lw_g (lw_at lw_m14 136 rfl) rfl
theorem q3616 : (Jvm.Cond.code ({ cls := "ModuleEngineModel", name := "rank", desc := "(I)I" } : Jvm.MethodName) prog_20_method_17_code (1 : Nat) (Option.some Jvm.ClassFile.FieldType.int)) ∈ lw_all := lw_g (lw_at lw_m14 137 rfl) rfl
theorem q3617 : (Jvm.Cond.methodLink "ModuleEngineModel" (277 : Nat) ({ cls := "ModuleEngineModel", name := "number", desc := "()J" } : Jvm.MethodName)) ∈ lw_all := lw_g (lw_at lw_m14 138 rfl) rfl
theorem q3618 : (Jvm.Cond.privateMethod ({ cls := "ModuleEngineModel", name := "number", desc := "()J" } : Jvm.MethodName)) ∈ lw_tbl := lw_at lw_m14 139 rfl
theorem q3619 : (Jvm.Cond.instanceMethod ({ cls := "ModuleEngineModel", name := "number", desc := "()J" } : Jvm.MethodName)) ∈ lw_all := lw_g (lw_at lw_m14 140 rfl) rfl
theorem q3620 : (Jvm.Cond.code ({ cls := "ModuleEngineModel", name := "number", desc := "()J" } : Jvm.MethodName) prog_20_method_8_code (5 : Nat) (Option.some Jvm.ClassFile.FieldType.long)) ∈ lw_all := lw_g (lw_at lw_m14 141 rfl) rfl
theorem q3621 : (Jvm.Cond.methodLink "ModuleEngineModel" (308 : Nat) ({ cls := "ModuleEngineModel", name := "readsSection", desc := "(I)V" } : Jvm.MethodName)) ∈ lw_all := lw_g (lw_at lw_m14 142 rfl) rfl
theorem q3622 : (Jvm.Cond.privateMethod ({ cls := "ModuleEngineModel", name := "readsSection", desc := "(I)V" } : Jvm.MethodName)) ∈ lw_tbl := lw_at lw_m14 143 rfl
theorem q3623 : (Jvm.Cond.instanceMethod ({ cls := "ModuleEngineModel", name := "readsSection", desc := "(I)V" } : Jvm.MethodName)) ∈ lw_all := lw_g (lw_at lw_m14 144 rfl) rfl
theorem q3624 : (Jvm.Cond.code ({ cls := "ModuleEngineModel", name := "readsSection", desc := "(I)V" } : Jvm.MethodName) prog_20_method_19_code (2 : Nat) (Option.none : Option Jvm.ClassFile.FieldType)) ∈ lw_all := lw_g (lw_at lw_m14 145 rfl) rfl
theorem q3625 : (Jvm.Cond.methodLink "ModuleEngineModel" (324 : Nat) ({ cls := "ModuleEngineModel", name := "name", desc := "()V" } : Jvm.MethodName)) ∈ lw_all := lw_g (lw_at lw_m14 146 rfl) rfl
theorem q3626 : (Jvm.Cond.privateMethod ({ cls := "ModuleEngineModel", name := "name", desc := "()V" } : Jvm.MethodName)) ∈ lw_tbl := lw_at lw_m14 147 rfl
theorem q3627 : (Jvm.Cond.instanceMethod ({ cls := "ModuleEngineModel", name := "name", desc := "()V" } : Jvm.MethodName)) ∈ lw_all := lw_g (lw_at lw_m14 148 rfl) rfl
theorem q3628 : (Jvm.Cond.code ({ cls := "ModuleEngineModel", name := "name", desc := "()V" } : Jvm.MethodName) prog_20_method_15_code (6 : Nat) (Option.none : Option Jvm.ClassFile.FieldType)) ∈ lw_all := lw_g (lw_at lw_m14 149 rfl) rfl
theorem q3629 : (Jvm.Cond.methodLink "ModuleEngineModel" (284 : Nat) ({ cls := "ModuleEngineModel", name := "character", desc := "(II)I" } : Jvm.MethodName)) ∈ lw_all := lw_g (lw_at lw_m14 150 rfl) rfl
theorem q3630 : (Jvm.Cond.privateMethod ({ cls := "ModuleEngineModel", name := "character", desc := "(II)I" } : Jvm.MethodName)) ∈ lw_tbl := lw_at lw_m14 151 rfl
theorem q3631 : (Jvm.Cond.instanceMethod ({ cls := "ModuleEngineModel", name := "character", desc := "(II)I" } : Jvm.MethodName)) ∈ lw_all := lw_g (lw_at lw_m14 152 rfl) rfl
theorem q3632 : (Jvm.Cond.code ({ cls := "ModuleEngineModel", name := "character", desc := "(II)I" } : Jvm.MethodName) prog_20_method_16_code (8 : Nat) (Option.some Jvm.ClassFile.FieldType.int)) ∈ lw_all := lw_g (lw_at lw_m14 153 rfl) rfl
theorem q3633 : (Jvm.Cond.constant "ModuleEngineModel" (288 : Nat) (55296 : Int32)) ∈ lw_all := lw_g (lw_at lw_m14 154 rfl) rfl
theorem q3634 : (Jvm.Cond.constant "ModuleEngineModel" (289 : Nat) (57343 : Int32)) ∈ lw_all := lw_g (lw_at lw_m14 155 rfl) rfl
theorem q3635 : (Jvm.Cond.constant "ModuleEngineModel" (290 : Nat) (65536 : Int32)) ∈ lw_all := lw_g (lw_at lw_m14 156 rfl) rfl
theorem q3636 : (Jvm.Cond.constant "ModuleEngineModel" (291 : Nat) (1114111 : Int32)) ∈ lw_all := lw_g (lw_at lw_m14 157 rfl) rfl
theorem q3637 : (Jvm.Cond.methodLink "ModuleEngineModel" (327 : Nat) ({ cls := "ModuleEngineModel", name := "readsTypes", desc := "()V" } : Jvm.MethodName)) ∈ lw_all := lw_g (lw_at lw_m14 158 rfl) rfl
theorem q3638 : (Jvm.Cond.privateMethod ({ cls := "ModuleEngineModel", name := "readsTypes", desc := "()V" } : Jvm.MethodName)) ∈ lw_tbl := lw_at lw_m14 159 rfl
theorem q3639 : (Jvm.Cond.instanceMethod ({ cls := "ModuleEngineModel", name := "readsTypes", desc := "()V" } : Jvm.MethodName)) ∈ lw_all := lw_g (lw_at lw_m14 160 rfl) rfl
theorem q3640 : (Jvm.Cond.code ({ cls := "ModuleEngineModel", name := "readsTypes", desc := "()V" } : Jvm.MethodName) prog_20_method_23_code (9 : Nat) (Option.none : Option Jvm.ClassFile.FieldType)) ∈ lw_all := lw_g (lw_at lw_m14 161 rfl) rfl
theorem q3641 : (Jvm.Cond.methodLink "ModuleEngineModel" (377 : Nat) ({ cls := "ModuleEngineModel", name := "kept", desc := "(J)I" } : Jvm.MethodName)) ∈ lw_all := lw_g (lw_at lw_m14 162 rfl) rfl
theorem q3642 : (Jvm.Cond.privateMethod ({ cls := "ModuleEngineModel", name := "kept", desc := "(J)I" } : Jvm.MethodName)) ∈ lw_tbl := lw_at lw_m14 163 rfl
theorem q3643 : (Jvm.Cond.instanceMethod ({ cls := "ModuleEngineModel", name := "kept", desc := "(J)I" } : Jvm.MethodName)) ∈ lw_all := lw_g (lw_at lw_m14 164 rfl) rfl
theorem q3644 : (Jvm.Cond.code ({ cls := "ModuleEngineModel", name := "kept", desc := "(J)I" } : Jvm.MethodName) prog_20_method_21_code (3 : Nat) (Option.some Jvm.ClassFile.FieldType.int)) ∈ lw_all := lw_g (lw_at lw_m14 165 rfl) rfl
theorem q3645 : (Jvm.Cond.constantLong "ModuleEngineModel" (363 : Nat) (64 : Int64)) ∈ lw_all := lw_g (lw_at lw_m14 166 rfl) rfl
theorem q3646 : (Jvm.Cond.methodLink "ModuleEngineModel" (365 : Nat) ({ cls := "ModuleEngineModel", name := "exceeds", desc := "(Z)V" } : Jvm.MethodName)) ∈ lw_all := lw_g (lw_at lw_m14 167 rfl) rfl
theorem q3647 : (Jvm.Cond.privateMethod ({ cls := "ModuleEngineModel", name := "exceeds", desc := "(Z)V" } : Jvm.MethodName)) ∈ lw_tbl := lw_at lw_m14 168 rfl
theorem q3648 : (Jvm.Cond.instanceMethod ({ cls := "ModuleEngineModel", name := "exceeds", desc := "(Z)V" } : Jvm.MethodName)) ∈ lw_all := lw_g (lw_at lw_m14 169 rfl) rfl
theorem q3649 : (Jvm.Cond.code ({ cls := "ModuleEngineModel", name := "exceeds", desc := "(Z)V" } : Jvm.MethodName) prog_20_method_20_code (2 : Nat) (Option.none : Option Jvm.ClassFile.FieldType)) ∈ lw_all := lw_g (lw_at lw_m14 170 rfl) rfl
theorem q3650 : (Jvm.Cond.methodLink "ModuleEngineModel" (384 : Nat) ({ cls := "ModuleEngineModel", name := "typeRow", desc := "(I)I" } : Jvm.MethodName)) ∈ lw_all := lw_g (lw_at lw_m14 171 rfl) rfl
theorem q3651 : (Jvm.Cond.privateMethod ({ cls := "ModuleEngineModel", name := "typeRow", desc := "(I)I" } : Jvm.MethodName)) ∈ lw_tbl := lw_at lw_m14 172 rfl
theorem q3652 : (Jvm.Cond.instanceMethod ({ cls := "ModuleEngineModel", name := "typeRow", desc := "(I)I" } : Jvm.MethodName)) ∈ lw_all := lw_g (lw_at lw_m14 173 rfl) rfl
theorem q3653 : (Jvm.Cond.code ({ cls := "ModuleEngineModel", name := "typeRow", desc := "(I)I" } : Jvm.MethodName) prog_20_method_22_code (7 : Nat) (Option.some Jvm.ClassFile.FieldType.int)) ∈ lw_all := lw_g (lw_at lw_m14 174 rfl) rfl
theorem q3654 : (Jvm.Cond.constantLong "ModuleEngineModel" (369 : Nat) (16 : Int64)) ∈ lw_all := lw_g (lw_at lw_m14 175 rfl) rfl
theorem q3655 : (Jvm.Cond.methodLink "ModuleEngineModel" (371 : Nat) ({ cls := "ModuleEngineModel", name := "type", desc := "()I" } : Jvm.MethodName)) ∈ lw_all := lw_g (lw_at lw_m14 176 rfl) rfl
theorem q3656 : (Jvm.Cond.privateMethod ({ cls := "ModuleEngineModel", name := "type", desc := "()I" } : Jvm.MethodName)) ∈ lw_tbl := lw_at lw_m14 177 rfl
theorem q3657 : (Jvm.Cond.instanceMethod ({ cls := "ModuleEngineModel", name := "type", desc := "()I" } : Jvm.MethodName)) ∈ lw_all := lw_g (lw_at lw_m14 178 rfl) rfl
theorem q3658 : (Jvm.Cond.code ({ cls := "ModuleEngineModel", name := "type", desc := "()I" } : Jvm.MethodName) prog_20_method_12_code (2 : Nat) (Option.some Jvm.ClassFile.FieldType.int)) ∈ lw_all := lw_g (lw_at lw_m14 179 rfl) rfl
theorem q3659 : (Jvm.Cond.methodLink "ModuleEngineModel" (274 : Nat) ({ cls := "ModuleEngineModel", name := "isType", desc := "(I)Z" } : Jvm.MethodName)) ∈ lw_all := lw_g (lw_at lw_m14 180 rfl) rfl
theorem q3660 : (Jvm.Cond.static ({ cls := "ModuleEngineModel", name := "isType", desc := "(I)Z" } : Jvm.MethodName)) ∈ lw_all := lw_g (lw_at lw_m14 181 rfl) rfl
theorem q3661 : (Jvm.Cond.code ({ cls := "ModuleEngineModel", name := "isType", desc := "(I)Z" } : Jvm.MethodName) prog_20_method_11_code (1 : Nat) (Option.some Jvm.ClassFile.FieldType.boolean)) ∈ lw_all := lw_g (lw_at lw_m14 182 rfl) rfl
theorem q3662 : (Jvm.Cond.methodLink "ModuleEngineModel" (270 : Nat) ({ cls := "ModuleEngineModel", name := "isReference", desc := "(I)Z" } : Jvm.MethodName)) ∈ lw_all := lw_g (lw_at lw_m14 183 rfl) rfl
theorem q3663 : (Jvm.Cond.static ({ cls := "ModuleEngineModel", name := "isReference", desc := "(I)Z" } : Jvm.MethodName)) ∈ lw_all := lw_g (lw_at lw_m14 184 rfl) rfl
theorem q3664 : (Jvm.Cond.code ({ cls := "ModuleEngineModel", name := "isReference", desc := "(I)Z" } : Jvm.MethodName) prog_20_method_10_code (1 : Nat) (Option.some Jvm.ClassFile.FieldType.boolean)) ∈ lw_all := lw_g (lw_at lw_m14 185 rfl) rfl
theorem q3665 : (Jvm.Cond.methodLink "ModuleEngineModel" (330 : Nat) ({ cls := "ModuleEngineModel", name := "readsImports", desc := "()V" } : Jvm.MethodName)) ∈ lw_all := lw_g (lw_at lw_m14 186 rfl) rfl
theorem q3666 : (Jvm.Cond.privateMethod ({ cls := "ModuleEngineModel", name := "readsImports", desc := "()V" } : Jvm.MethodName)) ∈ lw_tbl := lw_at lw_m14 187 rfl
theorem q3667 : (Jvm.Cond.instanceMethod ({ cls := "ModuleEngineModel", name := "readsImports", desc := "()V" } : Jvm.MethodName)) ∈ lw_all := lw_g (lw_at lw_m14 188 rfl) rfl
theorem q3668 : (Jvm.Cond.code ({ cls := "ModuleEngineModel", name := "readsImports", desc := "()V" } : Jvm.MethodName) prog_20_method_25_code (10 : Nat) (Option.none : Option Jvm.ClassFile.FieldType)) ∈ lw_all := lw_g (lw_at lw_m14 189 rfl) rfl
theorem q3669 : (Jvm.Cond.methodLink "ModuleEngineModel" (393 : Nat) ({ cls := "ModuleEngineModel", name := "small", desc := "(I)I" } : Jvm.MethodName)) ∈ lw_all := lw_g (lw_at lw_m14 190 rfl) rfl
theorem q3670 : (Jvm.Cond.privateMethod ({ cls := "ModuleEngineModel", name := "small", desc := "(I)I" } : Jvm.MethodName)) ∈ lw_tbl := lw_at lw_m14 191 rfl
theorem q3671 : (Jvm.Cond.instanceMethod ({ cls := "ModuleEngineModel", name := "small", desc := "(I)I" } : Jvm.MethodName)) ∈ lw_all := lw_g (lw_at lw_m14 192 rfl) rfl
theorem q3672 : (Jvm.Cond.code ({ cls := "ModuleEngineModel", name := "small", desc := "(I)I" } : Jvm.MethodName) prog_20_method_14_code (3 : Nat) (Option.some Jvm.ClassFile.FieldType.int)) ∈ lw_all := lw_g (lw_at lw_m14 193 rfl) rfl
theorem q3673 : (Jvm.Cond.constantLong "ModuleEngineModel" (268 : Nat) (-1 : Int64)) ∈ lw_all := lw_g (lw_at lw_m14 194 rfl) rfl
theorem q3674 : (Jvm.Cond.methodLink "ModuleEngineModel" (405 : Nat) ({ cls := "ModuleEngineModel", name := "referenceType", desc := "()I" } : Jvm.MethodName)) ∈ lw_all := lw_g (lw_at lw_m14 195 rfl) rfl
theorem q3675 : (Jvm.Cond.privateMethod ({ cls := "ModuleEngineModel", name := "referenceType", desc := "()I" } : Jvm.MethodName)) ∈ lw_tbl := lw_at lw_m14 196 rfl
theorem q3676 : (Jvm.Cond.instanceMethod ({ cls := "ModuleEngineModel", name := "referenceType", desc := "()I" } : Jvm.MethodName)) ∈ lw_all := lw_g (lw_at lw_m14 197 rfl) rfl
theorem q3677 : (Jvm.Cond.code ({ cls := "ModuleEngineModel", name := "referenceType", desc := "()I" } : Jvm.MethodName) prog_20_method_13_code (2 : Nat) (Option.some Jvm.ClassFile.FieldType.int)) ∈ lw_all := lw_g (lw_at lw_m14 198 rfl) rfl
theorem q3678 : (Jvm.Cond.methodLink "ModuleEngineModel" (408 : Nat) ({ cls := "ModuleEngineModel", name := "limits", desc := "()V" } : Jvm.MethodName)) ∈ lw_all := lw_g (lw_at lw_m14 199 rfl) rfl
theorem q3679 : (Jvm.Cond.privateMethod ({ cls := "ModuleEngineModel", name := "limits", desc := "()V" } : Jvm.MethodName)) ∈ lw_tbl := lw_at lw_m14 200 rfl
theorem q3680 : (Jvm.Cond.instanceMethod ({ cls := "ModuleEngineModel", name := "limits", desc := "()V" } : Jvm.MethodName)) ∈ lw_all := lw_g (lw_at lw_m14 201 rfl) rfl
theorem q3681 : (Jvm.Cond.code ({ cls := "ModuleEngineModel", name := "limits", desc := "()V" } : Jvm.MethodName) prog_20_method_24_code (2 : Nat) (Option.none : Option Jvm.ClassFile.FieldType)) ∈ lw_all := lw_g (lw_at lw_m14 202 rfl) rfl
theorem q3682 : (Jvm.Cond.methodLink "ModuleEngineModel" (333 : Nat) ({ cls := "ModuleEngineModel", name := "readsFunctions", desc := "()V" } : Jvm.MethodName)) ∈ lw_all := lw_g (lw_at lw_m14 203 rfl) rfl
theorem q3683 : (Jvm.Cond.privateMethod ({ cls := "ModuleEngineModel", name := "readsFunctions", desc := "()V" } : Jvm.MethodName)) ∈ lw_tbl := lw_at lw_m14 204 rfl
theorem q3684 : (Jvm.Cond.instanceMethod ({ cls := "ModuleEngineModel", name := "readsFunctions", desc := "()V" } : Jvm.MethodName)) ∈ lw_all := lw_g (lw_at lw_m14 205 rfl) rfl
theorem q3685 : (Jvm.Cond.code ({ cls := "ModuleEngineModel", name := "readsFunctions", desc := "()V" } : Jvm.MethodName) prog_20_method_26_code (7 : Nat) (Option.none : Option Jvm.ClassFile.FieldType)) ∈ lw_all := lw_g (lw_at lw_m14 206 rfl) rfl
theorem q3686 : (Jvm.Cond.methodLink "ModuleEngineModel" (336 : Nat) ({ cls := "ModuleEngineModel", name := "readsTables", desc := "()V" } : Jvm.MethodName)) ∈ lw_all := lw_g (lw_at lw_m14 207 rfl) rfl
theorem q3687 : (Jvm.Cond.privateMethod ({ cls := "ModuleEngineModel", name := "readsTables", desc := "()V" } : Jvm.MethodName)) ∈ lw_tbl := lw_at lw_m14 208 rfl
theorem q3688 : (Jvm.Cond.instanceMethod ({ cls := "ModuleEngineModel", name := "readsTables", desc := "()V" } : Jvm.MethodName)) ∈ lw_all := lw_g (lw_at lw_m14 209 rfl) rfl
theorem q3689 : (Jvm.Cond.code ({ cls := "ModuleEngineModel", name := "readsTables", desc := "()V" } : Jvm.MethodName) prog_20_method_27_code (6 : Nat) (Option.none : Option Jvm.ClassFile.FieldType)) ∈ lw_all := lw_g (lw_at lw_m14 210 rfl) rfl
theorem q3690 : (Jvm.Cond.methodLink "ModuleEngineModel" (339 : Nat) ({ cls := "ModuleEngineModel", name := "readsMemories", desc := "()V" } : Jvm.MethodName)) ∈ lw_all := lw_g (lw_at lw_m14 211 rfl) rfl
theorem q3691 : (Jvm.Cond.privateMethod ({ cls := "ModuleEngineModel", name := "readsMemories", desc := "()V" } : Jvm.MethodName)) ∈ lw_tbl := lw_at lw_m14 212 rfl
theorem q3692 : (Jvm.Cond.instanceMethod ({ cls := "ModuleEngineModel", name := "readsMemories", desc := "()V" } : Jvm.MethodName)) ∈ lw_all := lw_g (lw_at lw_m14 213 rfl) rfl
theorem q3693 : (Jvm.Cond.code ({ cls := "ModuleEngineModel", name := "readsMemories", desc := "()V" } : Jvm.MethodName) prog_20_method_28_code (5 : Nat) (Option.none : Option Jvm.ClassFile.FieldType)) ∈ lw_all := lw_g (lw_at lw_m14 214 rfl) rfl
theorem q3694 : (Jvm.Cond.methodLink "ModuleEngineModel" (342 : Nat) ({ cls := "ModuleEngineModel", name := "readsGlobals", desc := "()V" } : Jvm.MethodName)) ∈ lw_all := lw_g (lw_at lw_m14 215 rfl) rfl
theorem q3695 : (Jvm.Cond.privateMethod ({ cls := "ModuleEngineModel", name := "readsGlobals", desc := "()V" } : Jvm.MethodName)) ∈ lw_tbl := lw_at lw_m14 216 rfl
theorem q3696 : (Jvm.Cond.instanceMethod ({ cls := "ModuleEngineModel", name := "readsGlobals", desc := "()V" } : Jvm.MethodName)) ∈ lw_all := lw_g (lw_at lw_m14 217 rfl) rfl
theorem q3697 : (Jvm.Cond.code ({ cls := "ModuleEngineModel", name := "readsGlobals", desc := "()V" } : Jvm.MethodName) prog_20_method_29_code (8 : Nat) (Option.none : Option Jvm.ClassFile.FieldType)) ∈ lw_all := lw_g (lw_at lw_m14 218 rfl) rfl
theorem q3698 : (Jvm.Cond.methodLink "ModuleEngineModel" (456 : Nat) ({ cls := "ModuleEngineModel", name := "expression", desc := "(Z)V" } : Jvm.MethodName)) ∈ lw_all := lw_g (lw_at lw_m14 219 rfl) rfl
theorem q3699 : (Jvm.Cond.privateMethod ({ cls := "ModuleEngineModel", name := "expression", desc := "(Z)V" } : Jvm.MethodName)) ∈ lw_tbl := lw_at lw_m14 220 rfl
theorem q3700 : (Jvm.Cond.instanceMethod ({ cls := "ModuleEngineModel", name := "expression", desc := "(Z)V" } : Jvm.MethodName)) ∈ lw_all := lw_g (lw_at lw_m14 221 rfl) rfl
theorem q3701 : (Jvm.Cond.code ({ cls := "ModuleEngineModel", name := "expression", desc := "(Z)V" } : Jvm.MethodName) prog_20_method_36_code (5 : Nat) (Option.none : Option Jvm.ClassFile.FieldType)) ∈ lw_all := lw_g (lw_at lw_m14 222 rfl) rfl
theorem q3702 : (Jvm.Cond.methodLink "ModuleEngineModel" (555 : Nat) ({ cls := "ModuleEngineModel", name := "blockType", desc := "()V" } : Jvm.MethodName)) ∈ lw_all := lw_g (lw_at lw_m14 223 rfl) rfl
theorem q3703 : (Jvm.Cond.privateMethod ({ cls := "ModuleEngineModel", name := "blockType", desc := "()V" } : Jvm.MethodName)) ∈ lw_tbl := lw_at lw_m14 224 rfl
theorem q3704 : (Jvm.Cond.instanceMethod ({ cls := "ModuleEngineModel", name := "blockType", desc := "()V" } : Jvm.MethodName)) ∈ lw_all := lw_g (lw_at lw_m14 225 rfl) rfl
theorem q3705 : (Jvm.Cond.code ({ cls := "ModuleEngineModel", name := "blockType", desc := "()V" } : Jvm.MethodName) prog_20_method_37_code (3 : Nat) (Option.none : Option Jvm.ClassFile.FieldType)) ∈ lw_all := lw_g (lw_at lw_m14 226 rfl) rfl
theorem q3706 : (Jvm.Cond.methodLink "ModuleEngineModel" (562 : Nat) ({ cls := "ModuleEngineModel", name := "signed", desc := "(I)J" } : Jvm.MethodName)) ∈ lw_all := lw_g (lw_at lw_m14 227 rfl) rfl
theorem q3707 : (Jvm.Cond.privateMethod ({ cls := "ModuleEngineModel", name := "signed", desc := "(I)J" } : Jvm.MethodName)) ∈ lw_tbl := lw_at lw_m14 228 rfl
theorem q3708 : (Jvm.Cond.instanceMethod ({ cls := "ModuleEngineModel", name := "signed", desc := "(I)J" } : Jvm.MethodName)) ∈ lw_all := lw_g (lw_at lw_m14 229 rfl) rfl
theorem q3709 : (Jvm.Cond.code ({ cls := "ModuleEngineModel", name := "signed", desc := "(I)J" } : Jvm.MethodName) prog_20_method_9_code (10 : Nat) (Option.some Jvm.ClassFile.FieldType.long)) ∈ lw_all := lw_g (lw_at lw_m14 230 rfl) rfl
theorem q3710 : (Jvm.Cond.methodLink "ModuleEngineModel" (558 : Nat) ({ cls := "ModuleEngineModel", name := "operands", desc := "(IIZ)V" } : Jvm.MethodName)) ∈ lw_all := lw_g (lw_at lw_m14 231 rfl) rfl
theorem q3711 : (Jvm.Cond.privateMethod ({ cls := "ModuleEngineModel", name := "operands", desc := "(IIZ)V" } : Jvm.MethodName)) ∈ lw_tbl := lw_at lw_m14 232 rfl
theorem q3712 : (Jvm.Cond.instanceMethod ({ cls := "ModuleEngineModel", name := "operands", desc := "(IIZ)V" } : Jvm.MethodName)) ∈ lw_all := lw_g (lw_at lw_m14 233 rfl) rfl
theorem q3713 : (Jvm.Cond.code ({ cls := "ModuleEngineModel", name := "operands", desc := "(IIZ)V" } : Jvm.MethodName) prog_20_method_41_code (10 : Nat) (Option.none : Option Jvm.ClassFile.FieldType)) ∈ lw_all := lw_g (lw_at lw_m14 234 rfl) rfl
theorem q3714 : (Jvm.Cond.methodLink "ModuleEngineModel" (566 : Nat) ({ cls := "ModuleEngineModel", name := "isAlone", desc := "(I)Z" } : Jvm.MethodName)) ∈ lw_all := lw_g (lw_at lw_m14 235 rfl) rfl
theorem q3715 : (Jvm.Cond.static ({ cls := "ModuleEngineModel", name := "isAlone", desc := "(I)Z" } : Jvm.MethodName)) ∈ lw_all := lw_g (lw_at lw_m14 236 rfl) rfl
theorem q3716 : (Jvm.Cond.code ({ cls := "ModuleEngineModel", name := "isAlone", desc := "(I)Z" } : Jvm.MethodName) prog_20_method_38_code (1 : Nat) (Option.some Jvm.ClassFile.FieldType.boolean)) ∈ lw_all := lw_g (lw_at lw_m14 237 rfl) rfl
theorem q3717 : (Jvm.Cond.methodLink "ModuleEngineModel" (569 : Nat) ({ cls := "ModuleEngineModel", name := "hasNumber", desc := "(I)Z" } : Jvm.MethodName)) ∈ lw_all := lw_g (lw_at lw_m14 238 rfl) rfl
theorem q3718 : (Jvm.Cond.static ({ cls := "ModuleEngineModel", name := "hasNumber", desc := "(I)Z" } : Jvm.MethodName)) ∈ lw_all := lw_g (lw_at lw_m14 239 rfl) rfl
theorem q3719 : (Jvm.Cond.code ({ cls := "ModuleEngineModel", name := "hasNumber", desc := "(I)Z" } : Jvm.MethodName) prog_20_method_39_code (1 : Nat) (Option.some Jvm.ClassFile.FieldType.boolean)) ∈ lw_all := lw_g (lw_at lw_m15 0 rfl) rfl
theorem q3720 : (Jvm.Cond.methodLink "ModuleEngineModel" (572 : Nat) ({ cls := "ModuleEngineModel", name := "isAccess", desc := "(I)Z" } : Jvm.MethodName)) ∈ lw_all := lw_g (lw_at lw_m15 1 rfl) rfl
theorem q3721 : (Jvm.Cond.static ({ cls := "ModuleEngineModel", name := "isAccess", desc := "(I)Z" } : Jvm.MethodName)) ∈ lw_all := lw_g (lw_at lw_m15 2 rfl) rfl
theorem q3722 : (Jvm.Cond.code ({ cls := "ModuleEngineModel", name := "isAccess", desc := "(I)Z" } : Jvm.MethodName) prog_20_method_40_code (1 : Nat) (Option.some Jvm.ClassFile.FieldType.boolean)) ∈ lw_all := lw_g (lw_at lw_m15 3 rfl) rfl
theorem q3723 : (Jvm.Cond.constantLong "ModuleEngineModel" (575 : Nat) (200 : Int64)) ∈ lw_all := lw_g (lw_at lw_m15 4 rfl) rfl
theorem q3724 : (Jvm.Cond.methodLink "ModuleEngineModel" (577 : Nat) ({ cls := "ModuleEngineModel", name := "further", desc := "(I)V" } : Jvm.MethodName)) ∈ lw_all := lw_g (lw_at lw_m15 5 rfl) rfl
theorem q3725 : (Jvm.Cond.privateMethod ({ cls := "ModuleEngineModel", name := "further", desc := "(I)V" } : Jvm.MethodName)) ∈ lw_tbl := lw_at lw_m15 6 rfl
theorem q3726 : (Jvm.Cond.instanceMethod ({ cls := "ModuleEngineModel", name := "further", desc := "(I)V" } : Jvm.MethodName)) ∈ lw_all := lw_g (lw_at lw_m15 7 rfl) rfl
theorem q3727 : (Jvm.Cond.code ({ cls := "ModuleEngineModel", name := "further", desc := "(I)V" } : Jvm.MethodName) prog_20_method_42_code (6 : Nat) (Option.none : Option Jvm.ClassFile.FieldType)) ∈ lw_all := lw_g (lw_at lw_m15 8 rfl) rfl
theorem q3728 : (Jvm.Cond.constantLong "ModuleEngineModel" (580 : Nat) (17 : Int64)) ∈ lw_all := lw_g (lw_at lw_m15 9 rfl) rfl
theorem q3729 : (Jvm.Cond.constantLong "ModuleEngineModel" (582 : Nat) (8 : Int64)) ∈ lw_all := lw_g (lw_at lw_m15 10 rfl) rfl
theorem q3730 : (Jvm.Cond.constantLong "ModuleEngineModel" (584 : Nat) (9 : Int64)) ∈ lw_all := lw_g (lw_at lw_m15 11 rfl) rfl
theorem q3731 : (Jvm.Cond.constantLong "ModuleEngineModel" (586 : Nat) (10 : Int64)) ∈ lw_all := lw_g (lw_at lw_m15 12 rfl) rfl
theorem q3732 : (Jvm.Cond.constantLong "ModuleEngineModel" (588 : Nat) (12 : Int64)) ∈ lw_all := lw_g (lw_at lw_m15 13 rfl) rfl
theorem q3733 : (Jvm.Cond.constantLong "ModuleEngineModel" (590 : Nat) (14 : Int64)) ∈ lw_all := lw_g (lw_at lw_m15 14 rfl) rfl
theorem q3734 : (Jvm.Cond.constantLong "ModuleEngineModel" (592 : Nat) (11 : Int64)) ∈ lw_all := lw_g (lw_at lw_m15 15 rfl) rfl
theorem q3735 : (Jvm.Cond.methodLink "ModuleEngineModel" (345 : Nat) ({ cls := "ModuleEngineModel", name := "readsExports", desc := "()V" } : Jvm.MethodName)) ∈ lw_all := lw_g (lw_at lw_m15 16 rfl) rfl
theorem q3736 : (Jvm.Cond.privateMethod ({ cls := "ModuleEngineModel", name := "readsExports", desc := "()V" } : Jvm.MethodName)) ∈ lw_tbl := lw_at lw_m15 17 rfl
theorem q3737 : (Jvm.Cond.instanceMethod ({ cls := "ModuleEngineModel", name := "readsExports", desc := "()V" } : Jvm.MethodName)) ∈ lw_all := lw_g (lw_at lw_m15 18 rfl) rfl
theorem q3738 : (Jvm.Cond.code ({ cls := "ModuleEngineModel", name := "readsExports", desc := "()V" } : Jvm.MethodName) prog_20_method_30_code (10 : Nat) (Option.none : Option Jvm.ClassFile.FieldType)) ∈ lw_all := lw_g (lw_at lw_m15 19 rfl) rfl
theorem q3739 : (Jvm.Cond.methodLink "ModuleEngineModel" (351 : Nat) ({ cls := "ModuleEngineModel", name := "readsElements", desc := "()V" } : Jvm.MethodName)) ∈ lw_all := lw_g (lw_at lw_m15 20 rfl) rfl
theorem q3740 : (Jvm.Cond.privateMethod ({ cls := "ModuleEngineModel", name := "readsElements", desc := "()V" } : Jvm.MethodName)) ∈ lw_tbl := lw_at lw_m15 21 rfl
theorem q3741 : (Jvm.Cond.instanceMethod ({ cls := "ModuleEngineModel", name := "readsElements", desc := "()V" } : Jvm.MethodName)) ∈ lw_all := lw_g (lw_at lw_m15 22 rfl) rfl
theorem q3742 : (Jvm.Cond.code ({ cls := "ModuleEngineModel", name := "readsElements", desc := "()V" } : Jvm.MethodName) prog_20_method_31_code (8 : Nat) (Option.none : Option Jvm.ClassFile.FieldType)) ∈ lw_all := lw_g (lw_at lw_m15 23 rfl) rfl
theorem q3743 : (Jvm.Cond.constantLong "ModuleEngineModel" (484 : Nat) (7 : Int64)) ∈ lw_all := lw_g (lw_at lw_m15 24 rfl) rfl
theorem q3744 : (Jvm.Cond.methodLink "ModuleEngineModel" (486 : Nat) ({ cls := "ModuleEngineModel", name := "readsElement", desc := "(II)V" } : Jvm.MethodName)) ∈ lw_all := lw_g (lw_at lw_m15 25 rfl) rfl
theorem q3745 : (Jvm.Cond.privateMethod ({ cls := "ModuleEngineModel", name := "readsElement", desc := "(II)V" } : Jvm.MethodName)) ∈ lw_tbl := lw_at lw_m15 26 rfl
theorem q3746 : (Jvm.Cond.instanceMethod ({ cls := "ModuleEngineModel", name := "readsElement", desc := "(II)V" } : Jvm.MethodName)) ∈ lw_all := lw_g (lw_at lw_m15 27 rfl) rfl
theorem q3747 : (Jvm.Cond.code ({ cls := "ModuleEngineModel", name := "readsElement", desc := "(II)V" } : Jvm.MethodName) prog_20_method_32_code (10 : Nat) (Option.none : Option Jvm.ClassFile.FieldType)) ∈ lw_all := lw_g (lw_at lw_m15 28 rfl) rfl
theorem q3748 : (Jvm.Cond.methodLink "ModuleEngineModel" (354 : Nat) ({ cls := "ModuleEngineModel", name := "readsBodies", desc := "()V" } : Jvm.MethodName)) ∈ lw_all := lw_g (lw_at lw_m15 29 rfl) rfl
theorem q3749 : (Jvm.Cond.privateMethod ({ cls := "ModuleEngineModel", name := "readsBodies", desc := "()V" } : Jvm.MethodName)) ∈ lw_tbl := lw_at lw_m15 30 rfl
theorem q3750 : (Jvm.Cond.instanceMethod ({ cls := "ModuleEngineModel", name := "readsBodies", desc := "()V" } : Jvm.MethodName)) ∈ lw_all := lw_g (lw_at lw_m15 31 rfl) rfl
theorem q3751 : (Jvm.Cond.code ({ cls := "ModuleEngineModel", name := "readsBodies", desc := "()V" } : Jvm.MethodName) prog_20_method_33_code (9 : Nat) (Option.none : Option Jvm.ClassFile.FieldType)) ∈ lw_all := lw_g (lw_at lw_m15 32 rfl) rfl
theorem q3752 : (Jvm.Cond.methodLink "ModuleEngineModel" (510 : Nat) ({ cls := "ModuleEngineModel", name := "readsBody", desc := "(I)V" } : Jvm.MethodName)) ∈ lw_all := lw_g (lw_at lw_m15 33 rfl) rfl
theorem q3753 : (Jvm.Cond.privateMethod ({ cls := "ModuleEngineModel", name := "readsBody", desc := "(I)V" } : Jvm.MethodName)) ∈ lw_tbl := lw_at lw_m15 34 rfl
theorem q3754 : (Jvm.Cond.instanceMethod ({ cls := "ModuleEngineModel", name := "readsBody", desc := "(I)V" } : Jvm.MethodName)) ∈ lw_all := lw_g (lw_at lw_m15 35 rfl) rfl
theorem q3755 : (Jvm.Cond.code ({ cls := "ModuleEngineModel", name := "readsBody", desc := "(I)V" } : Jvm.MethodName) prog_20_method_34_code (10 : Nat) (Option.none : Option Jvm.ClassFile.FieldType)) ∈ lw_all := lw_g (lw_at lw_m15 36 rfl) rfl
theorem q3756 : (Jvm.Cond.constantLong "ModuleEngineModel" (513 : Nat) (4294967295 : Int64)) ∈ lw_all := lw_g (lw_at lw_m15 37 rfl) rfl
theorem q3757 : (Jvm.Cond.constantLong "ModuleEngineModel" (515 : Nat) (1000 : Int64)) ∈ lw_all := lw_g (lw_at lw_m15 38 rfl) rfl
theorem q3758 : (Jvm.Cond.methodLink "ModuleEngineModel" (357 : Nat) ({ cls := "ModuleEngineModel", name := "readsDatas", desc := "()V" } : Jvm.MethodName)) ∈ lw_all := lw_g (lw_at lw_m15 39 rfl) rfl
theorem q3759 : (Jvm.Cond.privateMethod ({ cls := "ModuleEngineModel", name := "readsDatas", desc := "()V" } : Jvm.MethodName)) ∈ lw_tbl := lw_at lw_m15 40 rfl
theorem q3760 : (Jvm.Cond.instanceMethod ({ cls := "ModuleEngineModel", name := "readsDatas", desc := "()V" } : Jvm.MethodName)) ∈ lw_all := lw_g (lw_at lw_m15 41 rfl) rfl
theorem q3761 : (Jvm.Cond.code ({ cls := "ModuleEngineModel", name := "readsDatas", desc := "()V" } : Jvm.MethodName) prog_20_method_35_code (14 : Nat) (Option.none : Option Jvm.ClassFile.FieldType)) ∈ lw_all := lw_g (lw_at lw_m15 42 rfl) rfl
theorem q3762 : (Jvm.Cond.constantLong "ModuleEngineModel" (532 : Nat) (2 : Int64)) ∈ lw_all := lw_g (lw_at lw_m15 43 rfl) rfl
theorem q3763 : (Jvm.Cond.methodLink "ModuleEngineModel" (248 : Nat) ({ cls := "ModuleEngineModel", name := "checksAll", desc := "()V" } : Jvm.MethodName)) ∈ lw_all := lw_g (lw_at lw_m15 44 rfl) rfl
theorem q3764 : (Jvm.Cond.privateMethod ({ cls := "ModuleEngineModel", name := "checksAll", desc := "()V" } : Jvm.MethodName)) ∈ lw_tbl := lw_at lw_m15 45 rfl
theorem q3765 : (Jvm.Cond.instanceMethod ({ cls := "ModuleEngineModel", name := "checksAll", desc := "()V" } : Jvm.MethodName)) ∈ lw_all := lw_g (lw_at lw_m15 46 rfl) rfl
theorem q3766 : (Jvm.Cond.code ({ cls := "ModuleEngineModel", name := "checksAll", desc := "()V" } : Jvm.MethodName) prog_20_method_49_code (3 : Nat) (Option.none : Option Jvm.ClassFile.FieldType)) ∈ lw_all := lw_g (lw_at lw_m15 47 rfl) rfl
theorem q3767 : (Jvm.Cond.methodLink "ModuleEngineModel" (609 : Nat) ({ cls := "ModuleEngineModel", name := "checksTypes", desc := "()V" } : Jvm.MethodName)) ∈ lw_all := lw_g (lw_at lw_m15 48 rfl) rfl
theorem q3768 : (Jvm.Cond.privateMethod ({ cls := "ModuleEngineModel", name := "checksTypes", desc := "()V" } : Jvm.MethodName)) ∈ lw_tbl := lw_at lw_m15 49 rfl
theorem q3769 : (Jvm.Cond.instanceMethod ({ cls := "ModuleEngineModel", name := "checksTypes", desc := "()V" } : Jvm.MethodName)) ∈ lw_all := lw_g (lw_at lw_m15 50 rfl) rfl
theorem q3770 : (Jvm.Cond.code ({ cls := "ModuleEngineModel", name := "checksTypes", desc := "()V" } : Jvm.MethodName) prog_20_method_50_code (2 : Nat) (Option.none : Option Jvm.ClassFile.FieldType)) ∈ lw_all := lw_g (lw_at lw_m15 51 rfl) rfl
theorem q3771 : (Jvm.Cond.methodLink "ModuleEngineModel" (612 : Nat) ({ cls := "ModuleEngineModel", name := "checksLimits", desc := "()V" } : Jvm.MethodName)) ∈ lw_all := lw_g (lw_at lw_m15 52 rfl) rfl
theorem q3772 : (Jvm.Cond.privateMethod ({ cls := "ModuleEngineModel", name := "checksLimits", desc := "()V" } : Jvm.MethodName)) ∈ lw_tbl := lw_at lw_m15 53 rfl
theorem q3773 : (Jvm.Cond.instanceMethod ({ cls := "ModuleEngineModel", name := "checksLimits", desc := "()V" } : Jvm.MethodName)) ∈ lw_all := lw_g (lw_at lw_m15 54 rfl) rfl
theorem q3774 : (Jvm.Cond.code ({ cls := "ModuleEngineModel", name := "checksLimits", desc := "()V" } : Jvm.MethodName) prog_20_method_52_code (3 : Nat) (Option.none : Option Jvm.ClassFile.FieldType)) ∈ lw_all := lw_g (lw_at lw_m15 55 rfl) rfl
theorem q3775 : (Jvm.Cond.methodLink "ModuleEngineModel" (638 : Nat) ({ cls := "ModuleEngineModel", name := "areLimits", desc := "(JJZ)Z" } : Jvm.MethodName)) ∈ lw_all := lw_g (lw_at lw_m15 56 rfl) rfl
theorem q3776 : (Jvm.Cond.static ({ cls := "ModuleEngineModel", name := "areLimits", desc := "(JJZ)Z" } : Jvm.MethodName)) ∈ lw_all := lw_g (lw_at lw_m15 57 rfl) rfl
theorem q3777 : (Jvm.Cond.code ({ cls := "ModuleEngineModel", name := "areLimits", desc := "(JJZ)Z" } : Jvm.MethodName) prog_20_method_51_code (5 : Nat) (Option.some Jvm.ClassFile.FieldType.boolean)) ∈ lw_all := lw_g (lw_at lw_m15 58 rfl) rfl
theorem q3778 : (Jvm.Cond.constantLong "ModuleEngineModel" (636 : Nat) (65536 : Int64)) ∈ lw_all := lw_g (lw_at lw_m15 59 rfl) rfl
theorem q3779 : (Jvm.Cond.methodLink "ModuleEngineModel" (615 : Nat) ({ cls := "ModuleEngineModel$Plan", name := "all", desc := "(I)I" } : Jvm.MethodName)) ∈ lw_all := lw_g (lw_at lw_m15 60 rfl) rfl
theorem q3787 : (Jvm.Cond.methodLink "ModuleEngineModel" (618 : Nat) ({ cls := "ModuleEngineModel", name := "checksExports", desc := "()V" } : Jvm.MethodName)) ∈ lw_all := lw_g (lw_at lw_m15 68 rfl) rfl
theorem q3788 : (Jvm.Cond.privateMethod ({ cls := "ModuleEngineModel", name := "checksExports", desc := "()V" } : Jvm.MethodName)) ∈ lw_tbl := lw_at lw_m15 69 rfl
theorem q3789 : (Jvm.Cond.instanceMethod ({ cls := "ModuleEngineModel", name := "checksExports", desc := "()V" } : Jvm.MethodName)) ∈ lw_all := lw_g (lw_at lw_m15 70 rfl) rfl
theorem q3790 : (Jvm.Cond.code ({ cls := "ModuleEngineModel", name := "checksExports", desc := "()V" } : Jvm.MethodName) prog_20_method_54_code (3 : Nat) (Option.none : Option Jvm.ClassFile.FieldType)) ∈ lw_all := lw_g (lw_at lw_m15 71 rfl) rfl
theorem q3791 : (Jvm.Cond.methodLink "ModuleEngineModel" (642 : Nat) ({ cls := "ModuleEngineModel", name := "isSameName", desc := "(II)Z" } : Jvm.MethodName)) ∈ lw_all := lw_g (lw_at lw_m15 72 rfl) rfl
theorem q3792 : (Jvm.Cond.privateMethod ({ cls := "ModuleEngineModel", name := "isSameName", desc := "(II)Z" } : Jvm.MethodName)) ∈ lw_tbl := lw_at lw_m15 73 rfl
theorem q3793 : (Jvm.Cond.instanceMethod ({ cls := "ModuleEngineModel", name := "isSameName", desc := "(II)Z" } : Jvm.MethodName)) ∈ lw_all := lw_g (lw_at lw_m15 74 rfl) rfl
theorem q3794 : (Jvm.Cond.code ({ cls := "ModuleEngineModel", name := "isSameName", desc := "(II)Z" } : Jvm.MethodName) prog_20_method_53_code (6 : Nat) (Option.some Jvm.ClassFile.FieldType.boolean)) ∈ lw_all := lw_g (lw_at lw_m15 75 rfl) rfl
theorem q3795 : (Jvm.Cond.methodLink "ModuleEngineModel" (621 : Nat) ({ cls := "ModuleEngineModel$Plan", name := "typeOfFunction", desc := "(I)I" } : Jvm.MethodName)) ∈ lw_all := lw_g (lw_at lw_m15 76 rfl) rfl
theorem q3803 : (Jvm.Cond.methodLink "ModuleEngineModel" (624 : Nat) ({ cls := "ModuleEngineModel", name := "declares", desc := "()V" } : Jvm.MethodName)) ∈ lw_all := lw_g (lw_at lw_m15 84 rfl) rfl
theorem q3804 : (Jvm.Cond.privateMethod ({ cls := "ModuleEngineModel", name := "declares", desc := "()V" } : Jvm.MethodName)) ∈ lw_tbl := lw_at lw_m15 85 rfl
theorem q3805 : (Jvm.Cond.instanceMethod ({ cls := "ModuleEngineModel", name := "declares", desc := "()V" } : Jvm.MethodName)) ∈ lw_all := lw_g (lw_at lw_m15 86 rfl) rfl
theorem q3806 : (Jvm.Cond.code ({ cls := "ModuleEngineModel", name := "declares", desc := "()V" } : Jvm.MethodName) prog_20_method_57_code (3 : Nat) (Option.none : Option Jvm.ClassFile.FieldType)) ∈ lw_all := lw_g (lw_at lw_m15 87 rfl) rfl
theorem q3807 : (Jvm.Cond.methodLink "ModuleEngineModel" (658 : Nat) ({ cls := "ModuleEngineModel", name := "declaresIn", desc := "(I)V" } : Jvm.MethodName)) ∈ lw_all := lw_g (lw_at lw_m15 88 rfl) rfl
theorem q3808 : (Jvm.Cond.privateMethod ({ cls := "ModuleEngineModel", name := "declaresIn", desc := "(I)V" } : Jvm.MethodName)) ∈ lw_tbl := lw_at lw_m15 89 rfl
theorem q3809 : (Jvm.Cond.instanceMethod ({ cls := "ModuleEngineModel", name := "declaresIn", desc := "(I)V" } : Jvm.MethodName)) ∈ lw_all := lw_g (lw_at lw_m15 90 rfl) rfl
theorem q3810 : (Jvm.Cond.code ({ cls := "ModuleEngineModel", name := "declaresIn", desc := "(I)V" } : Jvm.MethodName) prog_20_method_56_code (4 : Nat) (Option.none : Option Jvm.ClassFile.FieldType)) ∈ lw_all := lw_g (lw_at lw_m15 91 rfl) rfl
theorem q3811 : (Jvm.Cond.methodLink "ModuleEngineModel" (603 : Nat) ({ cls := "ModuleEngineModel", name := "word", desc := "()J" } : Jvm.MethodName)) ∈ lw_all := lw_g (lw_at lw_m15 92 rfl) rfl
theorem q3812 : (Jvm.Cond.privateMethod ({ cls := "ModuleEngineModel", name := "word", desc := "()J" } : Jvm.MethodName)) ∈ lw_tbl := lw_at lw_m15 93 rfl
theorem q3813 : (Jvm.Cond.instanceMethod ({ cls := "ModuleEngineModel", name := "word", desc := "()J" } : Jvm.MethodName)) ∈ lw_all := lw_g (lw_at lw_m15 94 rfl) rfl
theorem q3814 : (Jvm.Cond.code ({ cls := "ModuleEngineModel", name := "word", desc := "()J" } : Jvm.MethodName) prog_20_method_43_code (5 : Nat) (Option.some Jvm.ClassFile.FieldType.long)) ∈ lw_all := lw_g (lw_at lw_m15 95 rfl) rfl
theorem q3815 : (Jvm.Cond.methodLink "ModuleEngineModel" (651 : Nat) ({ cls := "ModuleEngineModel", name := "declare", desc := "(J)V" } : Jvm.MethodName)) ∈ lw_all := lw_g (lw_at lw_m15 96 rfl) rfl
theorem q3816 : (Jvm.Cond.privateMethod ({ cls := "ModuleEngineModel", name := "declare", desc := "(J)V" } : Jvm.MethodName)) ∈ lw_tbl := lw_at lw_m15 97 rfl
theorem q3817 : (Jvm.Cond.instanceMethod ({ cls := "ModuleEngineModel", name := "declare", desc := "(J)V" } : Jvm.MethodName)) ∈ lw_all := lw_g (lw_at lw_m15 98 rfl) rfl
theorem q3818 : (Jvm.Cond.code ({ cls := "ModuleEngineModel", name := "declare", desc := "(J)V" } : Jvm.MethodName) prog_20_method_55_code (3 : Nat) (Option.none : Option Jvm.ClassFile.FieldType)) ∈ lw_all := lw_g (lw_at lw_m15 99 rfl) rfl
theorem q3819 : (Jvm.Cond.constantLong "ModuleEngineModel" (646 : Nat) (128 : Int64)) ∈ lw_all := lw_g (lw_at lw_m15 100 rfl) rfl
theorem q3820 : (Jvm.Cond.methodLink "ModuleEngineModel" (655 : Nat) ({ cls := "ModuleEngineModel", name := "behind", desc := "(I)I" } : Jvm.MethodName)) ∈ lw_all := lw_g (lw_at lw_m15 101 rfl) rfl
theorem q3821 : (Jvm.Cond.privateMethod ({ cls := "ModuleEngineModel", name := "behind", desc := "(I)I" } : Jvm.MethodName)) ∈ lw_tbl := lw_at lw_m15 102 rfl
theorem q3822 : (Jvm.Cond.instanceMethod ({ cls := "ModuleEngineModel", name := "behind", desc := "(I)I" } : Jvm.MethodName)) ∈ lw_all := lw_g (lw_at lw_m15 103 rfl) rfl
theorem q3823 : (Jvm.Cond.code ({ cls := "ModuleEngineModel", name := "behind", desc := "(I)I" } : Jvm.MethodName) prog_20_method_47_code (9 : Nat) (Option.some Jvm.ClassFile.FieldType.int)) ∈ lw_all := lw_g (lw_at lw_m15 104 rfl) rfl
theorem q3824 : (Jvm.Cond.methodLink "ModuleEngineModel" (600 : Nat) ({ cls := "ModuleEngineModel", name := "blockWord", desc := "()J" } : Jvm.MethodName)) ∈ lw_all := lw_g (lw_at lw_m15 105 rfl) rfl
theorem q3825 : (Jvm.Cond.privateMethod ({ cls := "ModuleEngineModel", name := "blockWord", desc := "()J" } : Jvm.MethodName)) ∈ lw_tbl := lw_at lw_m15 106 rfl
theorem q3826 : (Jvm.Cond.instanceMethod ({ cls := "ModuleEngineModel", name := "blockWord", desc := "()J" } : Jvm.MethodName)) ∈ lw_all := lw_g (lw_at lw_m15 107 rfl) rfl
theorem q3827 : (Jvm.Cond.code ({ cls := "ModuleEngineModel", name := "blockWord", desc := "()J" } : Jvm.MethodName) prog_20_method_46_code (2 : Nat) (Option.some Jvm.ClassFile.FieldType.long)) ∈ lw_all := lw_g (lw_at lw_m15 108 rfl) rfl
theorem q3828 : (Jvm.Cond.methodLink "ModuleEngineModel" (597 : Nat) ({ cls := "ModuleEngineModel", name := "signedWord", desc := "()J" } : Jvm.MethodName)) ∈ lw_all := lw_g (lw_at lw_m15 109 rfl) rfl
theorem q3829 : (Jvm.Cond.privateMethod ({ cls := "ModuleEngineModel", name := "signedWord", desc := "()J" } : Jvm.MethodName)) ∈ lw_tbl := lw_at lw_m15 110 rfl
theorem q3830 : (Jvm.Cond.instanceMethod ({ cls := "ModuleEngineModel", name := "signedWord", desc := "()J" } : Jvm.MethodName)) ∈ lw_all := lw_g (lw_at lw_m15 111 rfl) rfl
theorem q3831 : (Jvm.Cond.code ({ cls := "ModuleEngineModel", name := "signedWord", desc := "()J" } : Jvm.MethodName) prog_20_method_44_code (5 : Nat) (Option.some Jvm.ClassFile.FieldType.long)) ∈ lw_all := lw_g (lw_at lw_m15 112 rfl) rfl
theorem q3832 : (Jvm.Cond.methodLink "ModuleEngineModel" (606 : Nat) ({ cls := "ModuleEngineModel", name := "passesFurther", desc := "()V" } : Jvm.MethodName)) ∈ lw_all := lw_g (lw_at lw_m15 113 rfl) rfl
theorem q3833 : (Jvm.Cond.privateMethod ({ cls := "ModuleEngineModel", name := "passesFurther", desc := "()V" } : Jvm.MethodName)) ∈ lw_tbl := lw_at lw_m15 114 rfl
theorem q3834 : (Jvm.Cond.instanceMethod ({ cls := "ModuleEngineModel", name := "passesFurther", desc := "()V" } : Jvm.MethodName)) ∈ lw_all := lw_g (lw_at lw_m15 115 rfl) rfl
theorem q3835 : (Jvm.Cond.code ({ cls := "ModuleEngineModel", name := "passesFurther", desc := "()V" } : Jvm.MethodName) prog_20_method_48_code (5 : Nat) (Option.none : Option Jvm.ClassFile.FieldType)) ∈ lw_all := lw_g (lw_at lw_m15 116 rfl) rfl
theorem q3836 : (Jvm.Cond.methodLink "ModuleEngineModel" (627 : Nat) ({ cls := "ModuleEngineModel", name := "constantly", desc := "(II)V" } : Jvm.MethodName)) ∈ lw_all := lw_g (lw_at lw_m15 117 rfl) rfl
theorem q3837 : (Jvm.Cond.privateMethod ({ cls := "ModuleEngineModel", name := "constantly", desc := "(II)V" } : Jvm.MethodName)) ∈ lw_tbl := lw_at lw_m15 118 rfl
theorem q3838 : (Jvm.Cond.instanceMethod ({ cls := "ModuleEngineModel", name := "constantly", desc := "(II)V" } : Jvm.MethodName)) ∈ lw_all := lw_g (lw_at lw_m15 119 rfl) rfl
theorem q3839 : (Jvm.Cond.code ({ cls := "ModuleEngineModel", name := "constantly", desc := "(II)V" } : Jvm.MethodName) prog_20_method_60_code (7 : Nat) (Option.none : Option Jvm.ClassFile.FieldType)) ∈ lw_all := lw_g (lw_at lw_m15 120 rfl) rfl
theorem q3840 : (Jvm.Cond.methodLink "ModuleEngineModel" (673 : Nat) ({ cls := "ModuleEngineModel", name := "constantType", desc := "(I)I" } : Jvm.MethodName)) ∈ lw_all := lw_g (lw_at lw_m15 121 rfl) rfl
theorem q3841 : (Jvm.Cond.privateMethod ({ cls := "ModuleEngineModel", name := "constantType", desc := "(I)I" } : Jvm.MethodName)) ∈ lw_tbl := lw_at lw_m15 122 rfl
theorem q3842 : (Jvm.Cond.instanceMethod ({ cls := "ModuleEngineModel", name := "constantType", desc := "(I)I" } : Jvm.MethodName)) ∈ lw_all := lw_g (lw_at lw_m15 123 rfl) rfl
theorem q3843 : (Jvm.Cond.code ({ cls := "ModuleEngineModel", name := "constantType", desc := "(I)I" } : Jvm.MethodName) prog_20_method_59_code (5 : Nat) (Option.some Jvm.ClassFile.FieldType.int)) ∈ lw_all := lw_g (lw_at lw_m15 124 rfl) rfl
theorem q3844 : (Jvm.Cond.methodLink "ModuleEngineModel" (664 : Nat) ({ cls := "ModuleEngineModel$Plan", name := "imported", desc := "(I)I" } : Jvm.MethodName)) ∈ lw_all := lw_g (lw_at lw_m15 125 rfl) rfl
theorem q3845 : (Jvm.Cond.methodLink "ModuleEngineModel" (667 : Nat) ({ cls := "ModuleEngineModel$Plan", name := "globalMoves", desc := "(I)Z" } : Jvm.MethodName)) ∈ lw_all := lw_g (lw_at lw_m15 126 rfl) rfl
theorem q3849 : (Jvm.Cond.methodLink "ModuleEngineModel" (670 : Nat) ({ cls := "ModuleEngineModel$Plan", name := "typeOfGlobal", desc := "(I)I" } : Jvm.MethodName)) ∈ lw_all := lw_g (lw_at lw_m15 130 rfl) rfl
theorem q3853 : (Jvm.Cond.methodLink "ModuleEngineModel" (630 : Nat) ({ cls := "ModuleEngineModel", name := "checksElement", desc := "(I)V" } : Jvm.MethodName)) ∈ lw_all := lw_g (lw_at lw_m15 134 rfl) rfl
theorem q3854 : (Jvm.Cond.privateMethod ({ cls := "ModuleEngineModel", name := "checksElement", desc := "(I)V" } : Jvm.MethodName)) ∈ lw_tbl := lw_at lw_m15 135 rfl
theorem q3855 : (Jvm.Cond.instanceMethod ({ cls := "ModuleEngineModel", name := "checksElement", desc := "(I)V" } : Jvm.MethodName)) ∈ lw_all := lw_g (lw_at lw_m15 136 rfl) rfl
theorem q3856 : (Jvm.Cond.code ({ cls := "ModuleEngineModel", name := "checksElement", desc := "(I)V" } : Jvm.MethodName) prog_20_method_58_code (5 : Nat) (Option.none : Option Jvm.ClassFile.FieldType)) ∈ lw_all := lw_g (lw_at lw_m15 137 rfl) rfl
theorem q3857 : (Jvm.Cond.methodLink "ModuleEngineModel" (661 : Nat) ({ cls := "ModuleEngineModel$Plan", name := "typeOfTable", desc := "(I)I" } : Jvm.MethodName)) ∈ lw_all := lw_g (lw_at lw_m15 138 rfl) rfl
theorem q3861 : (Jvm.Cond.methodLink "ModuleEngineModel" (633 : Nat) ({ cls := "ModuleEngineModel", name := "checksBody", desc := "(I)V" } : Jvm.MethodName)) ∈ lw_all := lw_g (lw_at lw_m15 142 rfl) rfl
theorem q3862 : (Jvm.Cond.privateMethod ({ cls := "ModuleEngineModel", name := "checksBody", desc := "(I)V" } : Jvm.MethodName)) ∈ lw_tbl := lw_at lw_m15 143 rfl
theorem q3863 : (Jvm.Cond.instanceMethod ({ cls := "ModuleEngineModel", name := "checksBody", desc := "(I)V" } : Jvm.MethodName)) ∈ lw_all := lw_g (lw_at lw_m15 144 rfl) rfl
theorem q3864 : (Jvm.Cond.code ({ cls := "ModuleEngineModel", name := "checksBody", desc := "(I)V" } : Jvm.MethodName) prog_20_method_78_code (5 : Nat) (Option.none : Option Jvm.ClassFile.FieldType)) ∈ lw_all := lw_g (lw_at lw_m15 145 rfl) rfl
theorem q3865 : (Jvm.Cond.methodLink "ModuleEngineModel" (716 : Nat) ({ cls := "ModuleEngineModel", name := "begins", desc := "(IJ)V" } : Jvm.MethodName)) ∈ lw_all := lw_g (lw_at lw_m15 146 rfl) rfl
theorem q3866 : (Jvm.Cond.privateMethod ({ cls := "ModuleEngineModel", name := "begins", desc := "(IJ)V" } : Jvm.MethodName)) ∈ lw_tbl := lw_at lw_m15 147 rfl
theorem q3867 : (Jvm.Cond.instanceMethod ({ cls := "ModuleEngineModel", name := "begins", desc := "(IJ)V" } : Jvm.MethodName)) ∈ lw_all := lw_g (lw_at lw_m15 148 rfl) rfl
theorem q3868 : (Jvm.Cond.code ({ cls := "ModuleEngineModel", name := "begins", desc := "(IJ)V" } : Jvm.MethodName) prog_20_method_73_code (4 : Nat) (Option.none : Option Jvm.ClassFile.FieldType)) ∈ lw_all := lw_g (lw_at lw_m15 149 rfl) rfl
theorem q3869 : (Jvm.Cond.methodLink "ModuleEngineModel" (720 : Nat) ({ cls := "ModuleEngineModel", name := "isNamed", desc := "(II)Z" } : Jvm.MethodName)) ∈ lw_all := lw_g (lw_at lw_m15 150 rfl) rfl
theorem q3870 : (Jvm.Cond.privateMethod ({ cls := "ModuleEngineModel", name := "isNamed", desc := "(II)Z" } : Jvm.MethodName)) ∈ lw_tbl := lw_at lw_m15 151 rfl
theorem q3871 : (Jvm.Cond.instanceMethod ({ cls := "ModuleEngineModel", name := "isNamed", desc := "(II)Z" } : Jvm.MethodName)) ∈ lw_all := lw_g (lw_at lw_m15 152 rfl) rfl
theorem q3872 : (Jvm.Cond.code ({ cls := "ModuleEngineModel", name := "isNamed", desc := "(II)Z" } : Jvm.MethodName) prog_20_method_80_code (9 : Nat) (Option.some Jvm.ClassFile.FieldType.boolean)) ∈ lw_all := lw_g (lw_at lw_m15 153 rfl) rfl
theorem q3873 : (Jvm.Cond.methodLink "ModuleEngineModel" (728 : Nat) ({ cls := "ModuleEngineModel", name := "widthOf", desc := "(I)I" } : Jvm.MethodName)) ∈ lw_all := lw_g (lw_at lw_m15 154 rfl) rfl
theorem q3874 : (Jvm.Cond.static ({ cls := "ModuleEngineModel", name := "widthOf", desc := "(I)I" } : Jvm.MethodName)) ∈ lw_all := lw_g (lw_at lw_m15 155 rfl) rfl
theorem q3875 : (Jvm.Cond.code ({ cls := "ModuleEngineModel", name := "widthOf", desc := "(I)I" } : Jvm.MethodName) prog_20_method_79_code (1 : Nat) (Option.some Jvm.ClassFile.FieldType.int)) ∈ lw_all := lw_g (lw_at lw_m15 156 rfl) rfl
theorem q3876 : (Jvm.Cond.methodLink "ModuleEngineModel" (731 : Nat) ({ cls := "ModuleEngineModel", name := "isNamedFurther", desc := "()Z" } : Jvm.MethodName)) ∈ lw_all := lw_g (lw_at lw_m15 157 rfl) rfl
theorem q3877 : (Jvm.Cond.privateMethod ({ cls := "ModuleEngineModel", name := "isNamedFurther", desc := "()Z" } : Jvm.MethodName)) ∈ lw_tbl := lw_at lw_m15 158 rfl
theorem q3878 : (Jvm.Cond.instanceMethod ({ cls := "ModuleEngineModel", name := "isNamedFurther", desc := "()Z" } : Jvm.MethodName)) ∈ lw_all := lw_g (lw_at lw_m15 159 rfl) rfl
theorem q3879 : (Jvm.Cond.code ({ cls := "ModuleEngineModel", name := "isNamedFurther", desc := "()Z" } : Jvm.MethodName) prog_20_method_81_code (6 : Nat) (Option.some Jvm.ClassFile.FieldType.boolean)) ∈ lw_all := lw_g (lw_at lw_m15 160 rfl) rfl
theorem q3880 : (Jvm.Cond.methodLink "ModuleEngineModel" (723 : Nat) ({ cls := "ModuleEngineModel", name := "goesTogether", desc := "(I)V" } : Jvm.MethodName)) ∈ lw_all := lw_g (lw_at lw_m15 161 rfl) rfl
theorem q3881 : (Jvm.Cond.privateMethod ({ cls := "ModuleEngineModel", name := "goesTogether", desc := "(I)V" } : Jvm.MethodName)) ∈ lw_tbl := lw_at lw_m15 162 rfl
theorem q3882 : (Jvm.Cond.instanceMethod ({ cls := "ModuleEngineModel", name := "goesTogether", desc := "(I)V" } : Jvm.MethodName)) ∈ lw_all := lw_g (lw_at lw_m15 163 rfl) rfl
theorem q3883 : (Jvm.Cond.code ({ cls := "ModuleEngineModel", name := "goesTogether", desc := "(I)V" } : Jvm.MethodName) prog_20_method_82_code (3 : Nat) (Option.none : Option Jvm.ClassFile.FieldType)) ∈ lw_all := lw_g (lw_at lw_m15 164 rfl) rfl
theorem q3884 : (Jvm.Cond.methodLink "ModuleEngineModel" (735 : Nat) ({ cls := "ModuleEngineModel", name := "operates", desc := "(I)V" } : Jvm.MethodName)) ∈ lw_all := lw_g (lw_at lw_m15 165 rfl) rfl
theorem q3885 : (Jvm.Cond.privateMethod ({ cls := "ModuleEngineModel", name := "operates", desc := "(I)V" } : Jvm.MethodName)) ∈ lw_tbl := lw_at lw_m15 166 rfl
theorem q3886 : (Jvm.Cond.instanceMethod ({ cls := "ModuleEngineModel", name := "operates", desc := "(I)V" } : Jvm.MethodName)) ∈ lw_all := lw_g (lw_at lw_m15 167 rfl) rfl
theorem q3887 : (Jvm.Cond.code ({ cls := "ModuleEngineModel", name := "operates", desc := "(I)V" } : Jvm.MethodName) prog_20_method_83_code (2 : Nat) (Option.none : Option Jvm.ClassFile.FieldType)) ∈ lw_all := lw_g (lw_at lw_m15 168 rfl) rfl
theorem q3888 : (Jvm.Cond.methodLink "ModuleEngineModel" (753 : Nat) ({ cls := "ModuleEngineModel", name := "operandOf", desc := "(I)I" } : Jvm.MethodName)) ∈ lw_all := lw_g (lw_at lw_m15 169 rfl) rfl
theorem q3889 : (Jvm.Cond.static ({ cls := "ModuleEngineModel", name := "operandOf", desc := "(I)I" } : Jvm.MethodName)) ∈ lw_all := lw_g (lw_at lw_m15 170 rfl) rfl
theorem q3890 : (Jvm.Cond.code ({ cls := "ModuleEngineModel", name := "operandOf", desc := "(I)I" } : Jvm.MethodName) prog_20_method_92_code (1 : Nat) (Option.some Jvm.ClassFile.FieldType.int)) ∈ lw_all := lw_g (lw_at lw_m15 171 rfl) rfl
theorem q3891 : (Jvm.Cond.methodLink "ModuleEngineModel" (756 : Nat) ({ cls := "ModuleEngineModel", name := "hasTwo", desc := "(I)Z" } : Jvm.MethodName)) ∈ lw_all := lw_g (lw_at lw_m15 172 rfl) rfl
theorem q3892 : (Jvm.Cond.static ({ cls := "ModuleEngineModel", name := "hasTwo", desc := "(I)Z" } : Jvm.MethodName)) ∈ lw_all := lw_g (lw_at lw_m15 173 rfl) rfl
theorem q3893 : (Jvm.Cond.code ({ cls := "ModuleEngineModel", name := "hasTwo", desc := "(I)Z" } : Jvm.MethodName) prog_20_method_94_code (1 : Nat) (Option.some Jvm.ClassFile.FieldType.boolean)) ∈ lw_all := lw_g (lw_at lw_m15 174 rfl) rfl
theorem q3894 : (Jvm.Cond.methodLink "ModuleEngineModel" (750 : Nat) ({ cls := "ModuleEngineModel", name := "takes", desc := "(II)V" } : Jvm.MethodName)) ∈ lw_all := lw_g (lw_at lw_m15 175 rfl) rfl
theorem q3895 : (Jvm.Cond.privateMethod ({ cls := "ModuleEngineModel", name := "takes", desc := "(II)V" } : Jvm.MethodName)) ∈ lw_tbl := lw_at lw_m15 176 rfl
theorem q3896 : (Jvm.Cond.instanceMethod ({ cls := "ModuleEngineModel", name := "takes", desc := "(II)V" } : Jvm.MethodName)) ∈ lw_all := lw_g (lw_at lw_m15 177 rfl) rfl
theorem q3897 : (Jvm.Cond.code ({ cls := "ModuleEngineModel", name := "takes", desc := "(II)V" } : Jvm.MethodName) prog_20_method_72_code (5 : Nat) (Option.none : Option Jvm.ClassFile.FieldType)) ∈ lw_all := lw_g (lw_at lw_m15 178 rfl) rfl
theorem q3898 : (Jvm.Cond.methodLink "ModuleEngineModel" (692 : Nat) ({ cls := "ModuleEngineModel", name := "take", desc := "(I)I" } : Jvm.MethodName)) ∈ lw_all := lw_g (lw_at lw_m15 179 rfl) rfl
theorem q3899 : (Jvm.Cond.privateMethod ({ cls := "ModuleEngineModel", name := "take", desc := "(I)I" } : Jvm.MethodName)) ∈ lw_tbl := lw_at lw_m15 180 rfl
theorem q3900 : (Jvm.Cond.instanceMethod ({ cls := "ModuleEngineModel", name := "take", desc := "(I)I" } : Jvm.MethodName)) ∈ lw_all := lw_g (lw_at lw_m15 181 rfl) rfl
theorem q3901 : (Jvm.Cond.code ({ cls := "ModuleEngineModel", name := "take", desc := "(I)I" } : Jvm.MethodName) prog_20_method_66_code (4 : Nat) (Option.some Jvm.ClassFile.FieldType.int)) ∈ lw_all := lw_g (lw_at lw_m15 182 rfl) rfl
theorem q3902 : (Jvm.Cond.methodLink "ModuleEngineModel" (759 : Nat) ({ cls := "ModuleEngineModel", name := "resultOf", desc := "(I)I" } : Jvm.MethodName)) ∈ lw_all := lw_g (lw_at lw_m15 183 rfl) rfl
theorem q3903 : (Jvm.Cond.static ({ cls := "ModuleEngineModel", name := "resultOf", desc := "(I)I" } : Jvm.MethodName)) ∈ lw_all := lw_g (lw_at lw_m15 184 rfl) rfl
theorem q3904 : (Jvm.Cond.code ({ cls := "ModuleEngineModel", name := "resultOf", desc := "(I)I" } : Jvm.MethodName) prog_20_method_93_code (1 : Nat) (Option.some Jvm.ClassFile.FieldType.int)) ∈ lw_all := lw_g (lw_at lw_m15 185 rfl) rfl
theorem q3905 : (Jvm.Cond.methodLink "ModuleEngineModel" (695 : Nat) ({ cls := "ModuleEngineModel", name := "put", desc := "(I)V" } : Jvm.MethodName)) ∈ lw_all := lw_g (lw_at lw_m15 186 rfl) rfl
theorem q3906 : (Jvm.Cond.privateMethod ({ cls := "ModuleEngineModel", name := "put", desc := "(I)V" } : Jvm.MethodName)) ∈ lw_tbl := lw_at lw_m15 187 rfl
theorem q3907 : (Jvm.Cond.instanceMethod ({ cls := "ModuleEngineModel", name := "put", desc := "(I)V" } : Jvm.MethodName)) ∈ lw_all := lw_g (lw_at lw_m15 188 rfl) rfl
theorem q3908 : (Jvm.Cond.code ({ cls := "ModuleEngineModel", name := "put", desc := "(I)V" } : Jvm.MethodName) prog_20_method_67_code (2 : Nat) (Option.none : Option Jvm.ClassFile.FieldType)) ∈ lw_all := lw_g (lw_at lw_m15 189 rfl) rfl
theorem q3909 : (Jvm.Cond.methodLink "ModuleEngineModel" (738 : Nat) ({ cls := "ModuleEngineModel", name := "controls", desc := "(I)V" } : Jvm.MethodName)) ∈ lw_all := lw_g (lw_at lw_m15 190 rfl) rfl
theorem q3910 : (Jvm.Cond.privateMethod ({ cls := "ModuleEngineModel", name := "controls", desc := "(I)V" } : Jvm.MethodName)) ∈ lw_tbl := lw_at lw_m15 191 rfl
theorem q3911 : (Jvm.Cond.instanceMethod ({ cls := "ModuleEngineModel", name := "controls", desc := "(I)V" } : Jvm.MethodName)) ∈ lw_all := lw_g (lw_at lw_m15 192 rfl) rfl
theorem q3912 : (Jvm.Cond.code ({ cls := "ModuleEngineModel", name := "controls", desc := "(I)V" } : Jvm.MethodName) prog_20_method_84_code (12 : Nat) (Option.none : Option Jvm.ClassFile.FieldType)) ∈ lw_all := lw_g (lw_at lw_m15 193 rfl) rfl
theorem q3913 : (Jvm.Cond.methodLink "ModuleEngineModel" (762 : Nat) ({ cls := "ModuleEngineModel", name := "dies", desc := "()V" } : Jvm.MethodName)) ∈ lw_all := lw_g (lw_at lw_m15 194 rfl) rfl
theorem q3914 : (Jvm.Cond.privateMethod ({ cls := "ModuleEngineModel", name := "dies", desc := "()V" } : Jvm.MethodName)) ∈ lw_tbl := lw_at lw_m15 195 rfl
theorem q3915 : (Jvm.Cond.instanceMethod ({ cls := "ModuleEngineModel", name := "dies", desc := "()V" } : Jvm.MethodName)) ∈ lw_all := lw_g (lw_at lw_m15 196 rfl) rfl
theorem q3916 : (Jvm.Cond.code ({ cls := "ModuleEngineModel", name := "dies", desc := "()V" } : Jvm.MethodName) prog_20_method_74_code (1 : Nat) (Option.none : Option Jvm.ClassFile.FieldType)) ∈ lw_all := lw_g (lw_at lw_m15 197 rfl) rfl
theorem q3917 : (Jvm.Cond.methodLink "ModuleEngineModel" (765 : Nat) ({ cls := "ModuleEngineModel", name := "takeParameters", desc := "(J)V" } : Jvm.MethodName)) ∈ lw_all := lw_g (lw_at lw_m15 198 rfl) rfl
theorem q3918 : (Jvm.Cond.privateMethod ({ cls := "ModuleEngineModel", name := "takeParameters", desc := "(J)V" } : Jvm.MethodName)) ∈ lw_tbl := lw_at lw_m15 199 rfl
theorem q3919 : (Jvm.Cond.instanceMethod ({ cls := "ModuleEngineModel", name := "takeParameters", desc := "(J)V" } : Jvm.MethodName)) ∈ lw_all := lw_g (lw_at lw_m15 200 rfl) rfl
theorem q3920 : (Jvm.Cond.code ({ cls := "ModuleEngineModel", name := "takeParameters", desc := "(J)V" } : Jvm.MethodName) prog_20_method_68_code (5 : Nat) (Option.none : Option Jvm.ClassFile.FieldType)) ∈ lw_all := lw_g (lw_at lw_m15 201 rfl) rfl
theorem q3921 : (Jvm.Cond.methodLink "ModuleEngineModel" (689 : Nat) ({ cls := "ModuleEngineModel", name := "parametersOf", desc := "(J)I" } : Jvm.MethodName)) ∈ lw_all := lw_g (lw_at lw_m15 202 rfl) rfl
theorem q3922 : (Jvm.Cond.privateMethod ({ cls := "ModuleEngineModel", name := "parametersOf", desc := "(J)I" } : Jvm.MethodName)) ∈ lw_tbl := lw_at lw_m15 203 rfl
theorem q3923 : (Jvm.Cond.instanceMethod ({ cls := "ModuleEngineModel", name := "parametersOf", desc := "(J)I" } : Jvm.MethodName)) ∈ lw_all := lw_g (lw_at lw_m15 204 rfl) rfl
theorem q3924 : (Jvm.Cond.code ({ cls := "ModuleEngineModel", name := "parametersOf", desc := "(J)I" } : Jvm.MethodName) prog_20_method_61_code (3 : Nat) (Option.some Jvm.ClassFile.FieldType.int)) ∈ lw_all := lw_g (lw_at lw_m15 205 rfl) rfl
theorem q3925 : (Jvm.Cond.methodLink "ModuleEngineModel" (678 : Nat) ({ cls := "ModuleEngineModel", name := "parameterAt", desc := "(JI)I" } : Jvm.MethodName)) ∈ lw_all := lw_g (lw_at lw_m15 206 rfl) rfl
theorem q3926 : (Jvm.Cond.privateMethod ({ cls := "ModuleEngineModel", name := "parameterAt", desc := "(JI)I" } : Jvm.MethodName)) ∈ lw_tbl := lw_at lw_m15 207 rfl
theorem q3927 : (Jvm.Cond.instanceMethod ({ cls := "ModuleEngineModel", name := "parameterAt", desc := "(JI)I" } : Jvm.MethodName)) ∈ lw_all := lw_g (lw_at lw_m15 208 rfl) rfl
theorem q3928 : (Jvm.Cond.code ({ cls := "ModuleEngineModel", name := "parameterAt", desc := "(JI)I" } : Jvm.MethodName) prog_20_method_63_code (4 : Nat) (Option.some Jvm.ClassFile.FieldType.int)) ∈ lw_all := lw_g (lw_at lw_m15 209 rfl) rfl
theorem q3929 : (Jvm.Cond.methodLink "ModuleEngineModel" (768 : Nat) ({ cls := "ModuleEngineModel", name := "putParameters", desc := "(J)V" } : Jvm.MethodName)) ∈ lw_all := lw_g (lw_at lw_m15 210 rfl) rfl
theorem q3930 : (Jvm.Cond.privateMethod ({ cls := "ModuleEngineModel", name := "putParameters", desc := "(J)V" } : Jvm.MethodName)) ∈ lw_tbl := lw_at lw_m15 211 rfl
theorem q3931 : (Jvm.Cond.instanceMethod ({ cls := "ModuleEngineModel", name := "putParameters", desc := "(J)V" } : Jvm.MethodName)) ∈ lw_all := lw_g (lw_at lw_m15 212 rfl) rfl
theorem q3932 : (Jvm.Cond.code ({ cls := "ModuleEngineModel", name := "putParameters", desc := "(J)V" } : Jvm.MethodName) prog_20_method_69_code (4 : Nat) (Option.none : Option Jvm.ClassFile.FieldType)) ∈ lw_all := lw_g (lw_at lw_m15 213 rfl) rfl
theorem q3933 : (Jvm.Cond.methodLink "ModuleEngineModel" (771 : Nat) ({ cls := "ModuleEngineModel", name := "ends", desc := "(I)V" } : Jvm.MethodName)) ∈ lw_all := lw_g (lw_at lw_m15 214 rfl) rfl
theorem q3934 : (Jvm.Cond.privateMethod ({ cls := "ModuleEngineModel", name := "ends", desc := "(I)V" } : Jvm.MethodName)) ∈ lw_tbl := lw_at lw_m15 215 rfl
theorem q3935 : (Jvm.Cond.instanceMethod ({ cls := "ModuleEngineModel", name := "ends", desc := "(I)V" } : Jvm.MethodName)) ∈ lw_all := lw_g (lw_at lw_m15 216 rfl) rfl
theorem q3936 : (Jvm.Cond.code ({ cls := "ModuleEngineModel", name := "ends", desc := "(I)V" } : Jvm.MethodName) prog_20_method_85_code (7 : Nat) (Option.none : Option Jvm.ClassFile.FieldType)) ∈ lw_all := lw_g (lw_at lw_m15 217 rfl) rfl
theorem q3937 : (Jvm.Cond.methodLink "ModuleEngineModel" (780 : Nat) ({ cls := "ModuleEngineModel", name := "takeResults", desc := "(J)V" } : Jvm.MethodName)) ∈ lw_all := lw_g (lw_at lw_m15 218 rfl) rfl
theorem q3938 : (Jvm.Cond.privateMethod ({ cls := "ModuleEngineModel", name := "takeResults", desc := "(J)V" } : Jvm.MethodName)) ∈ lw_tbl := lw_at lw_m15 219 rfl
theorem q3939 : (Jvm.Cond.instanceMethod ({ cls := "ModuleEngineModel", name := "takeResults", desc := "(J)V" } : Jvm.MethodName)) ∈ lw_all := lw_g (lw_at lw_m15 220 rfl) rfl
theorem q3940 : (Jvm.Cond.code ({ cls := "ModuleEngineModel", name := "takeResults", desc := "(J)V" } : Jvm.MethodName) prog_20_method_70_code (5 : Nat) (Option.none : Option Jvm.ClassFile.FieldType)) ∈ lw_all := lw_g (lw_at lw_m15 221 rfl) rfl
theorem q3941 : (Jvm.Cond.methodLink "ModuleEngineModel" (698 : Nat) ({ cls := "ModuleEngineModel", name := "resultsOf", desc := "(J)I" } : Jvm.MethodName)) ∈ lw_all := lw_g (lw_at lw_m15 222 rfl) rfl
theorem q3942 : (Jvm.Cond.privateMethod ({ cls := "ModuleEngineModel", name := "resultsOf", desc := "(J)I" } : Jvm.MethodName)) ∈ lw_tbl := lw_at lw_m15 223 rfl
theorem q3943 : (Jvm.Cond.instanceMethod ({ cls := "ModuleEngineModel", name := "resultsOf", desc := "(J)I" } : Jvm.MethodName)) ∈ lw_all := lw_g (lw_at lw_m15 224 rfl) rfl
theorem q3944 : (Jvm.Cond.code ({ cls := "ModuleEngineModel", name := "resultsOf", desc := "(J)I" } : Jvm.MethodName) prog_20_method_62_code (3 : Nat) (Option.some Jvm.ClassFile.FieldType.int)) ∈ lw_all := lw_g (lw_at lw_m15 225 rfl) rfl
theorem q3945 : (Jvm.Cond.constantLong "ModuleEngineModel" (676 : Nat) (-64 : Int64)) ∈ lw_all := lw_g (lw_at lw_m15 226 rfl) rfl
theorem q3946 : (Jvm.Cond.methodLink "ModuleEngineModel" (701 : Nat) ({ cls := "ModuleEngineModel", name := "resultAt", desc := "(JI)I" } : Jvm.MethodName)) ∈ lw_all := lw_g (lw_at lw_m15 227 rfl) rfl
theorem q3947 : (Jvm.Cond.privateMethod ({ cls := "ModuleEngineModel", name := "resultAt", desc := "(JI)I" } : Jvm.MethodName)) ∈ lw_tbl := lw_at lw_m15 228 rfl
theorem q3948 : (Jvm.Cond.instanceMethod ({ cls := "ModuleEngineModel", name := "resultAt", desc := "(JI)I" } : Jvm.MethodName)) ∈ lw_all := lw_g (lw_at lw_m15 229 rfl) rfl
theorem q3949 : (Jvm.Cond.code ({ cls := "ModuleEngineModel", name := "resultAt", desc := "(JI)I" } : Jvm.MethodName) prog_20_method_64_code (4 : Nat) (Option.some Jvm.ClassFile.FieldType.int)) ∈ lw_all := lw_g (lw_at lw_m15 230 rfl) rfl
theorem q3950 : (Jvm.Cond.methodLink "ModuleEngineModel" (783 : Nat) ({ cls := "ModuleEngineModel", name := "putResults", desc := "(J)V" } : Jvm.MethodName)) ∈ lw_all := lw_g (lw_at lw_m15 231 rfl) rfl
theorem q3951 : (Jvm.Cond.privateMethod ({ cls := "ModuleEngineModel", name := "putResults", desc := "(J)V" } : Jvm.MethodName)) ∈ lw_tbl := lw_at lw_m15 232 rfl
theorem q3952 : (Jvm.Cond.instanceMethod ({ cls := "ModuleEngineModel", name := "putResults", desc := "(J)V" } : Jvm.MethodName)) ∈ lw_all := lw_g (lw_at lw_m15 233 rfl) rfl
theorem q3953 : (Jvm.Cond.code ({ cls := "ModuleEngineModel", name := "putResults", desc := "(J)V" } : Jvm.MethodName) prog_20_method_71_code (4 : Nat) (Option.none : Option Jvm.ClassFile.FieldType)) ∈ lw_all := lw_g (lw_at lw_m15 234 rfl) rfl
theorem q3954 : (Jvm.Cond.methodLink "ModuleEngineModel" (774 : Nat) ({ cls := "ModuleEngineModel", name := "takeWanted", desc := "(I)V" } : Jvm.MethodName)) ∈ lw_all := lw_g (lw_at lw_m15 235 rfl) rfl
theorem q3955 : (Jvm.Cond.privateMethod ({ cls := "ModuleEngineModel", name := "takeWanted", desc := "(I)V" } : Jvm.MethodName)) ∈ lw_tbl := lw_at lw_m15 236 rfl
theorem q3956 : (Jvm.Cond.instanceMethod ({ cls := "ModuleEngineModel", name := "takeWanted", desc := "(I)V" } : Jvm.MethodName)) ∈ lw_all := lw_g (lw_at lw_m15 237 rfl) rfl
theorem q3957 : (Jvm.Cond.code ({ cls := "ModuleEngineModel", name := "takeWanted", desc := "(I)V" } : Jvm.MethodName) prog_20_method_77_code (4 : Nat) (Option.none : Option Jvm.ClassFile.FieldType)) ∈ lw_all := lw_g (lw_at lw_m15 238 rfl) rfl
theorem q3958 : (Jvm.Cond.methodLink "ModuleEngineModel" (704 : Nat) ({ cls := "ModuleEngineModel", name := "wantedBy", desc := "(I)I" } : Jvm.MethodName)) ∈ lw_all := lw_g (lw_at lw_m15 239 rfl) rfl
theorem q3959 : (Jvm.Cond.privateMethod ({ cls := "ModuleEngineModel", name := "wantedBy", desc := "(I)I" } : Jvm.MethodName)) ∈ lw_tbl := lw_at lw_m16 0 rfl
theorem q3960 : (Jvm.Cond.instanceMethod ({ cls := "ModuleEngineModel", name := "wantedBy", desc := "(I)I" } : Jvm.MethodName)) ∈ lw_all := lw_g (lw_at lw_m16 1 rfl) rfl
theorem q3961 : (Jvm.Cond.code ({ cls := "ModuleEngineModel", name := "wantedBy", desc := "(I)I" } : Jvm.MethodName) prog_20_method_75_code (3 : Nat) (Option.some Jvm.ClassFile.FieldType.int)) ∈ lw_all := lw_g (lw_at lw_m16 2 rfl) rfl
theorem q3962 : (Jvm.Cond.methodLink "ModuleEngineModel" (707 : Nat) ({ cls := "ModuleEngineModel", name := "wantedAt", desc := "(II)I" } : Jvm.MethodName)) ∈ lw_all := lw_g (lw_at lw_m16 3 rfl) rfl
theorem q3963 : (Jvm.Cond.privateMethod ({ cls := "ModuleEngineModel", name := "wantedAt", desc := "(II)I" } : Jvm.MethodName)) ∈ lw_tbl := lw_at lw_m16 4 rfl
theorem q3964 : (Jvm.Cond.instanceMethod ({ cls := "ModuleEngineModel", name := "wantedAt", desc := "(II)I" } : Jvm.MethodName)) ∈ lw_all := lw_g (lw_at lw_m16 5 rfl) rfl
theorem q3965 : (Jvm.Cond.code ({ cls := "ModuleEngineModel", name := "wantedAt", desc := "(II)I" } : Jvm.MethodName) prog_20_method_76_code (4 : Nat) (Option.some Jvm.ClassFile.FieldType.int)) ∈ lw_all := lw_g (lw_at lw_m16 6 rfl) rfl
theorem q3966 : (Jvm.Cond.methodLink "ModuleEngineModel" (777 : Nat) ({ cls := "ModuleEngineModel", name := "chooses", desc := "()V" } : Jvm.MethodName)) ∈ lw_all := lw_g (lw_at lw_m16 7 rfl) rfl
theorem q3967 : (Jvm.Cond.privateMethod ({ cls := "ModuleEngineModel", name := "chooses", desc := "()V" } : Jvm.MethodName)) ∈ lw_tbl := lw_at lw_m16 8 rfl
theorem q3968 : (Jvm.Cond.instanceMethod ({ cls := "ModuleEngineModel", name := "chooses", desc := "()V" } : Jvm.MethodName)) ∈ lw_all := lw_g (lw_at lw_m16 9 rfl) rfl
theorem q3969 : (Jvm.Cond.code ({ cls := "ModuleEngineModel", name := "chooses", desc := "()V" } : Jvm.MethodName) prog_20_method_86_code (8 : Nat) (Option.none : Option Jvm.ClassFile.FieldType)) ∈ lw_all := lw_g (lw_at lw_m16 10 rfl) rfl
theorem q3970 : (Jvm.Cond.methodLink "ModuleEngineModel" (786 : Nat) ({ cls := "ModuleEngineModel", name := "selects", desc := "()V" } : Jvm.MethodName)) ∈ lw_all := lw_g (lw_at lw_m16 11 rfl) rfl
theorem q3971 : (Jvm.Cond.privateMethod ({ cls := "ModuleEngineModel", name := "selects", desc := "()V" } : Jvm.MethodName)) ∈ lw_tbl := lw_at lw_m16 12 rfl
theorem q3972 : (Jvm.Cond.instanceMethod ({ cls := "ModuleEngineModel", name := "selects", desc := "()V" } : Jvm.MethodName)) ∈ lw_all := lw_g (lw_at lw_m16 13 rfl) rfl
theorem q3973 : (Jvm.Cond.code ({ cls := "ModuleEngineModel", name := "selects", desc := "()V" } : Jvm.MethodName) prog_20_method_87_code (4 : Nat) (Option.none : Option Jvm.ClassFile.FieldType)) ∈ lw_all := lw_g (lw_at lw_m16 14 rfl) rfl
theorem q3974 : (Jvm.Cond.methodLink "ModuleEngineModel" (741 : Nat) ({ cls := "ModuleEngineModel", name := "names", desc := "(I)V" } : Jvm.MethodName)) ∈ lw_all := lw_g (lw_at lw_m16 15 rfl) rfl
theorem q3975 : (Jvm.Cond.privateMethod ({ cls := "ModuleEngineModel", name := "names", desc := "(I)V" } : Jvm.MethodName)) ∈ lw_tbl := lw_at lw_m16 16 rfl
theorem q3976 : (Jvm.Cond.instanceMethod ({ cls := "ModuleEngineModel", name := "names", desc := "(I)V" } : Jvm.MethodName)) ∈ lw_all := lw_g (lw_at lw_m16 17 rfl) rfl
theorem q3977 : (Jvm.Cond.code ({ cls := "ModuleEngineModel", name := "names", desc := "(I)V" } : Jvm.MethodName) prog_20_method_88_code (5 : Nat) (Option.none : Option Jvm.ClassFile.FieldType)) ∈ lw_all := lw_g (lw_at lw_m16 18 rfl) rfl
theorem q3978 : (Jvm.Cond.methodLink "ModuleEngineModel" (789 : Nat) ({ cls := "ModuleEngineModel", name := "localType", desc := "(IIJ)I" } : Jvm.MethodName)) ∈ lw_all := lw_g (lw_at lw_m16 19 rfl) rfl
theorem q3979 : (Jvm.Cond.privateMethod ({ cls := "ModuleEngineModel", name := "localType", desc := "(IIJ)I" } : Jvm.MethodName)) ∈ lw_tbl := lw_at lw_m16 20 rfl
theorem q3980 : (Jvm.Cond.instanceMethod ({ cls := "ModuleEngineModel", name := "localType", desc := "(IIJ)I" } : Jvm.MethodName)) ∈ lw_all := lw_g (lw_at lw_m16 21 rfl) rfl
theorem q3981 : (Jvm.Cond.code ({ cls := "ModuleEngineModel", name := "localType", desc := "(IIJ)I" } : Jvm.MethodName) prog_20_method_65_code (15 : Nat) (Option.some Jvm.ClassFile.FieldType.int)) ∈ lw_all := lw_g (lw_at lw_m16 22 rfl) rfl
theorem q3982 : (Jvm.Cond.methodLink "ModuleEngineModel" (744 : Nat) ({ cls := "ModuleEngineModel", name := "accesses", desc := "(I)V" } : Jvm.MethodName)) ∈ lw_all := lw_g (lw_at lw_m16 23 rfl) rfl
theorem q3983 : (Jvm.Cond.privateMethod ({ cls := "ModuleEngineModel", name := "accesses", desc := "(I)V" } : Jvm.MethodName)) ∈ lw_tbl := lw_at lw_m16 24 rfl
theorem q3984 : (Jvm.Cond.instanceMethod ({ cls := "ModuleEngineModel", name := "accesses", desc := "(I)V" } : Jvm.MethodName)) ∈ lw_all := lw_g (lw_at lw_m16 25 rfl) rfl
theorem q3985 : (Jvm.Cond.code ({ cls := "ModuleEngineModel", name := "accesses", desc := "(I)V" } : Jvm.MethodName) prog_20_method_90_code (3 : Nat) (Option.none : Option Jvm.ClassFile.FieldType)) ∈ lw_all := lw_g (lw_at lw_m16 26 rfl) rfl
theorem q3986 : (Jvm.Cond.methodLink "ModuleEngineModel" (793 : Nat) ({ cls := "ModuleEngineModel", name := "accessType", desc := "(I)I" } : Jvm.MethodName)) ∈ lw_all := lw_g (lw_at lw_m16 27 rfl) rfl
theorem q3987 : (Jvm.Cond.static ({ cls := "ModuleEngineModel", name := "accessType", desc := "(I)I" } : Jvm.MethodName)) ∈ lw_all := lw_g (lw_at lw_m16 28 rfl) rfl
theorem q3988 : (Jvm.Cond.code ({ cls := "ModuleEngineModel", name := "accessType", desc := "(I)I" } : Jvm.MethodName) prog_20_method_89_code (1 : Nat) (Option.some Jvm.ClassFile.FieldType.int)) ∈ lw_all := lw_g (lw_at lw_m16 29 rfl) rfl
theorem q3989 : (Jvm.Cond.methodLink "ModuleEngineModel" (747 : Nat) ({ cls := "ModuleEngineModel", name := "furthers", desc := "()V" } : Jvm.MethodName)) ∈ lw_all := lw_g (lw_at lw_m16 30 rfl) rfl
theorem q3990 : (Jvm.Cond.privateMethod ({ cls := "ModuleEngineModel", name := "furthers", desc := "()V" } : Jvm.MethodName)) ∈ lw_tbl := lw_at lw_m16 31 rfl
theorem q3991 : (Jvm.Cond.instanceMethod ({ cls := "ModuleEngineModel", name := "furthers", desc := "()V" } : Jvm.MethodName)) ∈ lw_all := lw_g (lw_at lw_m16 32 rfl) rfl
theorem q3992 : (Jvm.Cond.code ({ cls := "ModuleEngineModel", name := "furthers", desc := "()V" } : Jvm.MethodName) prog_20_method_91_code (3 : Nat) (Option.none : Option Jvm.ClassFile.FieldType)) ∈ lw_all := lw_g (lw_at lw_m16 33 rfl) rfl
theorem q3994 : (Jvm.Cond.instanceMethod ({ cls := "ModuleEngineModel", name := "fault", desc := "(I)I" } : Jvm.MethodName)) ∈ lw_all := lw_g (lw_at lw_m16 35 rfl) rfl
theorem q3995 : (Jvm.Cond.selects "ModuleEngineModel" ({ cls := "ModuleEngineModel", name := "fault", desc := "(I)I" } : Jvm.MethodName) ({ cls := "ModuleEngineModel", name := "fault", desc := "(I)I" } : Jvm.MethodName)) ∈ lw_all := lw_g (lw_at lw_m16 36 rfl) rfl
theorem q3996 : (Jvm.Cond.code ({ cls := "ModuleEngineModel", name := "fault", desc := "(I)I" } : Jvm.MethodName) prog_20_method_5_code (2 : Nat) (Option.some Jvm.ClassFile.FieldType.int)) ∈ lw_all := lw_g (lw_at lw_m16 37 rfl) rfl
theorem q3998 : (Jvm.Cond.instanceMethod ({ cls := "ModuleEngineModel", name := "offer", desc := "(II)I" } : Jvm.MethodName)) ∈ lw_all := lw_g (lw_at lw_m16 39 rfl) rfl
theorem q3999 : (Jvm.Cond.selects "ModuleEngineModel" ({ cls := "ModuleEngineModel", name := "offer", desc := "(II)I" } : Jvm.MethodName) ({ cls := "ModuleEngineModel", name := "offer", desc := "(II)I" } : Jvm.MethodName)) ∈ lw_all := lw_g (lw_at lw_m16 40 rfl) rfl
theorem q4000 : (Jvm.Cond.code ({ cls := "ModuleEngineModel", name := "offer", desc := "(II)I" } : Jvm.MethodName) prog_20_method_131_code (4 : Nat) (Option.some Jvm.ClassFile.FieldType.int)) ∈ lw_all := lw_g (lw_at lw_m16 41 rfl) rfl
theorem q4001 : (Jvm.Cond.methodLink "ModuleEngineModel" (961 : Nat) ({ cls := "ModuleEngineModel", name := "isExport", desc := "(II)Z" } : Jvm.MethodName)) ∈ lw_all := lw_g (lw_at lw_m16 42 rfl) rfl
theorem q4002 : (Jvm.Cond.privateMethod ({ cls := "ModuleEngineModel", name := "isExport", desc := "(II)Z" } : Jvm.MethodName)) ∈ lw_tbl := lw_at lw_m16 43 rfl
theorem q4003 : (Jvm.Cond.instanceMethod ({ cls := "ModuleEngineModel", name := "isExport", desc := "(II)Z" } : Jvm.MethodName)) ∈ lw_all := lw_g (lw_at lw_m16 44 rfl) rfl
theorem q4004 : (Jvm.Cond.code ({ cls := "ModuleEngineModel", name := "isExport", desc := "(II)Z" } : Jvm.MethodName) prog_20_method_126_code (3 : Nat) (Option.some Jvm.ClassFile.FieldType.boolean)) ∈ lw_all := lw_g (lw_at lw_m16 45 rfl) rfl
theorem q4005 : (Jvm.Cond.methodLink "ModuleEngineModel" (952 : Nat) ({ cls := "ModuleEngineModel", name := "isInstance", desc := "(I)Z" } : Jvm.MethodName)) ∈ lw_all := lw_g (lw_at lw_m16 46 rfl) rfl
theorem q4006 : (Jvm.Cond.privateMethod ({ cls := "ModuleEngineModel", name := "isInstance", desc := "(I)Z" } : Jvm.MethodName)) ∈ lw_tbl := lw_at lw_m16 47 rfl
theorem q4007 : (Jvm.Cond.instanceMethod ({ cls := "ModuleEngineModel", name := "isInstance", desc := "(I)Z" } : Jvm.MethodName)) ∈ lw_all := lw_g (lw_at lw_m16 48 rfl) rfl
theorem q4008 : (Jvm.Cond.code ({ cls := "ModuleEngineModel", name := "isInstance", desc := "(I)Z" } : Jvm.MethodName) prog_20_method_125_code (2 : Nat) (Option.some Jvm.ClassFile.FieldType.boolean)) ∈ lw_all := lw_g (lw_at lw_m16 49 rfl) rfl
theorem q4009 : (Jvm.Cond.methodLink "ModuleEngineModel" (955 : Nat) ({ cls := "ModuleEngineModel", name := "exportKind", desc := "(II)I" } : Jvm.MethodName)) ∈ lw_all := lw_g (lw_at lw_m16 50 rfl) rfl
theorem q4010 : (Jvm.Cond.privateMethod ({ cls := "ModuleEngineModel", name := "exportKind", desc := "(II)I" } : Jvm.MethodName)) ∈ lw_tbl := lw_at lw_m16 51 rfl
theorem q4011 : (Jvm.Cond.instanceMethod ({ cls := "ModuleEngineModel", name := "exportKind", desc := "(II)I" } : Jvm.MethodName)) ∈ lw_all := lw_g (lw_at lw_m16 52 rfl) rfl
theorem q4012 : (Jvm.Cond.code ({ cls := "ModuleEngineModel", name := "exportKind", desc := "(II)I" } : Jvm.MethodName) prog_20_method_127_code (3 : Nat) (Option.some Jvm.ClassFile.FieldType.int)) ∈ lw_all := lw_g (lw_at lw_m16 53 rfl) rfl
theorem q4013 : (Jvm.Cond.methodLink "ModuleEngineModel" (964 : Nat) ({ cls := "ModuleEngineModel", name := "exported", desc := "(II)I" } : Jvm.MethodName)) ∈ lw_all := lw_g (lw_at lw_m16 54 rfl) rfl
theorem q4014 : (Jvm.Cond.privateMethod ({ cls := "ModuleEngineModel", name := "exported", desc := "(II)I" } : Jvm.MethodName)) ∈ lw_tbl := lw_at lw_m16 55 rfl
theorem q4015 : (Jvm.Cond.instanceMethod ({ cls := "ModuleEngineModel", name := "exported", desc := "(II)I" } : Jvm.MethodName)) ∈ lw_all := lw_g (lw_at lw_m16 56 rfl) rfl
theorem q4016 : (Jvm.Cond.code ({ cls := "ModuleEngineModel", name := "exported", desc := "(II)I" } : Jvm.MethodName) prog_20_method_128_code (3 : Nat) (Option.some Jvm.ClassFile.FieldType.int)) ∈ lw_all := lw_g (lw_at lw_m16 57 rfl) rfl
theorem q4017 : (Jvm.Cond.methodLink "ModuleEngineModel" (957 : Nat) ({ cls := "ModuleEngineModel", name := "thing", desc := "(III)I" } : Jvm.MethodName)) ∈ lw_all := lw_g (lw_at lw_m16 58 rfl) rfl
theorem q4018 : (Jvm.Cond.privateMethod ({ cls := "ModuleEngineModel", name := "thing", desc := "(III)I" } : Jvm.MethodName)) ∈ lw_tbl := lw_at lw_m16 59 rfl
theorem q4019 : (Jvm.Cond.instanceMethod ({ cls := "ModuleEngineModel", name := "thing", desc := "(III)I" } : Jvm.MethodName)) ∈ lw_all := lw_g (lw_at lw_m16 60 rfl) rfl
theorem q4020 : (Jvm.Cond.code ({ cls := "ModuleEngineModel", name := "thing", desc := "(III)I" } : Jvm.MethodName) prog_20_method_129_code (5 : Nat) (Option.some Jvm.ClassFile.FieldType.int)) ∈ lw_all := lw_g (lw_at lw_m16 61 rfl) rfl
theorem q4022 : (Jvm.Cond.instanceMethod ({ cls := "ModuleEngineModel", name := "make", desc := "(I)I" } : Jvm.MethodName)) ∈ lw_all := lw_g (lw_at lw_m16 63 rfl) rfl
theorem q4023 : (Jvm.Cond.selects "ModuleEngineModel" ({ cls := "ModuleEngineModel", name := "make", desc := "(I)I" } : Jvm.MethodName) ({ cls := "ModuleEngineModel", name := "make", desc := "(I)I" } : Jvm.MethodName)) ∈ lw_all := lw_g (lw_at lw_m16 64 rfl) rfl
theorem q4024 : (Jvm.Cond.code ({ cls := "ModuleEngineModel", name := "make", desc := "(I)I" } : Jvm.MethodName) prog_20_method_136_code (6 : Nat) (Option.some Jvm.ClassFile.FieldType.int)) ∈ lw_all := lw_g (lw_at lw_m16 65 rfl) rfl
theorem q4025 : (Jvm.Cond.methodLink "ModuleEngineModel" (986 : Nat) ({ cls := "ModuleEngineModel", name := "runs", desc := "()Z" } : Jvm.MethodName)) ∈ lw_all := lw_g (lw_at lw_m16 66 rfl) rfl
theorem q4026 : (Jvm.Cond.privateMethod ({ cls := "ModuleEngineModel", name := "runs", desc := "()Z" } : Jvm.MethodName)) ∈ lw_tbl := lw_at lw_m16 67 rfl
theorem q4027 : (Jvm.Cond.instanceMethod ({ cls := "ModuleEngineModel", name := "runs", desc := "()Z" } : Jvm.MethodName)) ∈ lw_all := lw_g (lw_at lw_m16 68 rfl) rfl
theorem q4028 : (Jvm.Cond.code ({ cls := "ModuleEngineModel", name := "runs", desc := "()Z" } : Jvm.MethodName) prog_20_method_132_code (1 : Nat) (Option.some Jvm.ClassFile.FieldType.boolean)) ∈ lw_all := lw_g (lw_at lw_m16 69 rfl) rfl
theorem q4029 : (Jvm.Cond.methodLink "ModuleEngineModel" (989 : Nat) ({ cls := "ModuleEngineModel", name := "fits", desc := "(II)Z" } : Jvm.MethodName)) ∈ lw_all := lw_g (lw_at lw_m16 70 rfl) rfl
theorem q4030 : (Jvm.Cond.privateMethod ({ cls := "ModuleEngineModel", name := "fits", desc := "(II)Z" } : Jvm.MethodName)) ∈ lw_tbl := lw_at lw_m16 71 rfl
theorem q4031 : (Jvm.Cond.instanceMethod ({ cls := "ModuleEngineModel", name := "fits", desc := "(II)Z" } : Jvm.MethodName)) ∈ lw_all := lw_g (lw_at lw_m16 72 rfl) rfl
theorem q4032 : (Jvm.Cond.code ({ cls := "ModuleEngineModel", name := "fits", desc := "(II)Z" } : Jvm.MethodName) prog_20_method_134_code (10 : Nat) (Option.some Jvm.ClassFile.FieldType.boolean)) ∈ lw_all := lw_g (lw_at lw_m16 73 rfl) rfl
theorem q4033 : (Jvm.Cond.methodLink "ModuleEngineModel" (973 : Nat) ({ cls := "ModuleEngineModel", name := "haveSameRows", desc := "(IIII)Z" } : Jvm.MethodName)) ∈ lw_all := lw_g (lw_at lw_m16 74 rfl) rfl
theorem q4034 : (Jvm.Cond.privateMethod ({ cls := "ModuleEngineModel", name := "haveSameRows", desc := "(IIII)Z" } : Jvm.MethodName)) ∈ lw_tbl := lw_at lw_m16 75 rfl
theorem q4035 : (Jvm.Cond.instanceMethod ({ cls := "ModuleEngineModel", name := "haveSameRows", desc := "(IIII)Z" } : Jvm.MethodName)) ∈ lw_all := lw_g (lw_at lw_m16 76 rfl) rfl
theorem q4036 : (Jvm.Cond.code ({ cls := "ModuleEngineModel", name := "haveSameRows", desc := "(IIII)Z" } : Jvm.MethodName) prog_20_method_133_code (9 : Nat) (Option.some Jvm.ClassFile.FieldType.boolean)) ∈ lw_all := lw_g (lw_at lw_m16 77 rfl) rfl
theorem q4037 : (Jvm.Cond.methodLink "ModuleEngineModel" (992 : Nat) ({ cls := "ModuleEngineModel", name := "hasRoom", desc := "(LModuleEngineModel$Plan;I)Z" } : Jvm.MethodName)) ∈ lw_all := lw_g (lw_at lw_m16 78 rfl) rfl
theorem q4038 : (Jvm.Cond.privateMethod ({ cls := "ModuleEngineModel", name := "hasRoom", desc := "(LModuleEngineModel$Plan;I)Z" } : Jvm.MethodName)) ∈ lw_tbl := lw_at lw_m16 79 rfl
theorem q4039 : (Jvm.Cond.instanceMethod ({ cls := "ModuleEngineModel", name := "hasRoom", desc := "(LModuleEngineModel$Plan;I)Z" } : Jvm.MethodName)) ∈ lw_all := lw_g (lw_at lw_m16 80 rfl) rfl
theorem q4040 : (Jvm.Cond.code ({ cls := "ModuleEngineModel", name := "hasRoom", desc := "(LModuleEngineModel$Plan;I)Z" } : Jvm.MethodName) prog_20_method_135_code (10 : Nat) (Option.some Jvm.ClassFile.FieldType.boolean)) ∈ lw_all := lw_g (lw_at lw_m16 81 rfl) rfl
theorem q4041 : (Jvm.Cond.constantLong "ModuleEngineModel" (984 : Nat) (2048 : Int64)) ∈ lw_all := lw_g (lw_at lw_m16 82 rfl) rfl
theorem q4042 : (Jvm.Cond.methodLink "ModuleEngineModel" (996 : Nat) ({ cls := "ModuleEngineModel", name := "takesImports", desc := "(II)V" } : Jvm.MethodName)) ∈ lw_all := lw_g (lw_at lw_m16 83 rfl) rfl
theorem q4043 : (Jvm.Cond.privateMethod ({ cls := "ModuleEngineModel", name := "takesImports", desc := "(II)V" } : Jvm.MethodName)) ∈ lw_tbl := lw_at lw_m16 84 rfl
theorem q4044 : (Jvm.Cond.instanceMethod ({ cls := "ModuleEngineModel", name := "takesImports", desc := "(II)V" } : Jvm.MethodName)) ∈ lw_all := lw_g (lw_at lw_m16 85 rfl) rfl
theorem q4045 : (Jvm.Cond.code ({ cls := "ModuleEngineModel", name := "takesImports", desc := "(II)V" } : Jvm.MethodName) prog_20_method_138_code (7 : Nat) (Option.none : Option Jvm.ClassFile.FieldType)) ∈ lw_all := lw_g (lw_at lw_m16 86 rfl) rfl
theorem q4046 : (Jvm.Cond.methodLink "ModuleEngineModel" (1005 : Nat) ({ cls := "ModuleEngineModel", name := "newFunction", desc := "(IIIII)I" } : Jvm.MethodName)) ∈ lw_all := lw_g (lw_at lw_m16 87 rfl) rfl
theorem q4047 : (Jvm.Cond.privateMethod ({ cls := "ModuleEngineModel", name := "newFunction", desc := "(IIIII)I" } : Jvm.MethodName)) ∈ lw_tbl := lw_at lw_m16 88 rfl
theorem q4048 : (Jvm.Cond.instanceMethod ({ cls := "ModuleEngineModel", name := "newFunction", desc := "(IIIII)I" } : Jvm.MethodName)) ∈ lw_all := lw_g (lw_at lw_m16 89 rfl) rfl
theorem q4049 : (Jvm.Cond.code ({ cls := "ModuleEngineModel", name := "newFunction", desc := "(IIIII)I" } : Jvm.MethodName) prog_20_method_137_code (6 : Nat) (Option.some Jvm.ClassFile.FieldType.int)) ∈ lw_all := lw_g (lw_at lw_m16 90 rfl) rfl
theorem q4050 : (Jvm.Cond.methodLink "ModuleEngineModel" (1009 : Nat) ({ cls := "ModuleEngineModel", name := "has", desc := "(IIII)V" } : Jvm.MethodName)) ∈ lw_all := lw_g (lw_at lw_m16 91 rfl) rfl
theorem q4051 : (Jvm.Cond.privateMethod ({ cls := "ModuleEngineModel", name := "has", desc := "(IIII)V" } : Jvm.MethodName)) ∈ lw_tbl := lw_at lw_m16 92 rfl
theorem q4052 : (Jvm.Cond.instanceMethod ({ cls := "ModuleEngineModel", name := "has", desc := "(IIII)V" } : Jvm.MethodName)) ∈ lw_all := lw_g (lw_at lw_m16 93 rfl) rfl
theorem q4053 : (Jvm.Cond.code ({ cls := "ModuleEngineModel", name := "has", desc := "(IIII)V" } : Jvm.MethodName) prog_20_method_139_code (6 : Nat) (Option.none : Option Jvm.ClassFile.FieldType)) ∈ lw_all := lw_g (lw_at lw_m16 94 rfl) rfl
theorem q4054 : (Jvm.Cond.methodLink "ModuleEngineModel" (999 : Nat) ({ cls := "ModuleEngineModel", name := "takesOwn", desc := "(II)V" } : Jvm.MethodName)) ∈ lw_all := lw_g (lw_at lw_m16 95 rfl) rfl
theorem q4055 : (Jvm.Cond.privateMethod ({ cls := "ModuleEngineModel", name := "takesOwn", desc := "(II)V" } : Jvm.MethodName)) ∈ lw_tbl := lw_at lw_m16 96 rfl
theorem q4056 : (Jvm.Cond.instanceMethod ({ cls := "ModuleEngineModel", name := "takesOwn", desc := "(II)V" } : Jvm.MethodName)) ∈ lw_all := lw_g (lw_at lw_m16 97 rfl) rfl
theorem q4057 : (Jvm.Cond.code ({ cls := "ModuleEngineModel", name := "takesOwn", desc := "(II)V" } : Jvm.MethodName) prog_20_method_140_code (4 : Nat) (Option.none : Option Jvm.ClassFile.FieldType)) ∈ lw_all := lw_g (lw_at lw_m16 98 rfl) rfl
theorem q4058 : (Jvm.Cond.methodLink "ModuleEngineModel" (1013 : Nat) ({ cls := "ModuleEngineModel", name := "grows", desc := "(III)V" } : Jvm.MethodName)) ∈ lw_all := lw_g (lw_at lw_m16 99 rfl) rfl
theorem q4059 : (Jvm.Cond.privateMethod ({ cls := "ModuleEngineModel", name := "grows", desc := "(III)V" } : Jvm.MethodName)) ∈ lw_tbl := lw_at lw_m16 100 rfl
theorem q4060 : (Jvm.Cond.instanceMethod ({ cls := "ModuleEngineModel", name := "grows", desc := "(III)V" } : Jvm.MethodName)) ∈ lw_all := lw_g (lw_at lw_m16 101 rfl) rfl
theorem q4061 : (Jvm.Cond.code ({ cls := "ModuleEngineModel", name := "grows", desc := "(III)V" } : Jvm.MethodName) prog_20_method_142_code (5 : Nat) (Option.none : Option Jvm.ClassFile.FieldType)) ∈ lw_all := lw_g (lw_at lw_m16 102 rfl) rfl
theorem q4062 : (Jvm.Cond.methodLink "ModuleEngineModel" (1017 : Nat) ({ cls := "ModuleEngineModel", name := "growsPages", desc := "(II)V" } : Jvm.MethodName)) ∈ lw_all := lw_g (lw_at lw_m16 103 rfl) rfl
theorem q4063 : (Jvm.Cond.privateMethod ({ cls := "ModuleEngineModel", name := "growsPages", desc := "(II)V" } : Jvm.MethodName)) ∈ lw_tbl := lw_at lw_m16 104 rfl
theorem q4064 : (Jvm.Cond.instanceMethod ({ cls := "ModuleEngineModel", name := "growsPages", desc := "(II)V" } : Jvm.MethodName)) ∈ lw_all := lw_g (lw_at lw_m16 105 rfl) rfl
theorem q4065 : (Jvm.Cond.code ({ cls := "ModuleEngineModel", name := "growsPages", desc := "(II)V" } : Jvm.MethodName) prog_20_method_143_code (4 : Nat) (Option.none : Option Jvm.ClassFile.FieldType)) ∈ lw_all := lw_g (lw_at lw_m16 106 rfl) rfl
theorem q4066 : (Jvm.Cond.methodLink "ModuleEngineModel" (1020 : Nat) ({ cls := "ModuleEngineModel", name := "constant", desc := "(II)J" } : Jvm.MethodName)) ∈ lw_all := lw_g (lw_at lw_m16 107 rfl) rfl
theorem q4067 : (Jvm.Cond.privateMethod ({ cls := "ModuleEngineModel", name := "constant", desc := "(II)J" } : Jvm.MethodName)) ∈ lw_tbl := lw_at lw_m16 108 rfl
theorem q4068 : (Jvm.Cond.instanceMethod ({ cls := "ModuleEngineModel", name := "constant", desc := "(II)J" } : Jvm.MethodName)) ∈ lw_all := lw_g (lw_at lw_m16 109 rfl) rfl
theorem q4069 : (Jvm.Cond.code ({ cls := "ModuleEngineModel", name := "constant", desc := "(II)J" } : Jvm.MethodName) prog_20_method_144_code (7 : Nat) (Option.some Jvm.ClassFile.FieldType.long)) ∈ lw_all := lw_g (lw_at lw_m16 110 rfl) rfl
theorem q4070 : (Jvm.Cond.methodLink "ModuleEngineModel" (1027 : Nat) ({ cls := "ModuleEngineModel", name := "bytesAt", desc := "(I)J" } : Jvm.MethodName)) ∈ lw_all := lw_g (lw_at lw_m16 111 rfl) rfl
theorem q4071 : (Jvm.Cond.privateMethod ({ cls := "ModuleEngineModel", name := "bytesAt", desc := "(I)J" } : Jvm.MethodName)) ∈ lw_tbl := lw_at lw_m16 112 rfl
theorem q4072 : (Jvm.Cond.instanceMethod ({ cls := "ModuleEngineModel", name := "bytesAt", desc := "(I)J" } : Jvm.MethodName)) ∈ lw_all := lw_g (lw_at lw_m16 113 rfl) rfl
theorem q4073 : (Jvm.Cond.code ({ cls := "ModuleEngineModel", name := "bytesAt", desc := "(I)J" } : Jvm.MethodName) prog_20_method_45_code (5 : Nat) (Option.some Jvm.ClassFile.FieldType.long)) ∈ lw_all := lw_g (lw_at lw_m16 114 rfl) rfl
theorem q4074 : (Jvm.Cond.methodLink "ModuleEngineModel" (1024 : Nat) ({ cls := "ModuleEngineModel", name := "takesElement", desc := "(II)V" } : Jvm.MethodName)) ∈ lw_all := lw_g (lw_at lw_m16 115 rfl) rfl
theorem q4075 : (Jvm.Cond.privateMethod ({ cls := "ModuleEngineModel", name := "takesElement", desc := "(II)V" } : Jvm.MethodName)) ∈ lw_tbl := lw_at lw_m16 116 rfl
theorem q4076 : (Jvm.Cond.instanceMethod ({ cls := "ModuleEngineModel", name := "takesElement", desc := "(II)V" } : Jvm.MethodName)) ∈ lw_all := lw_g (lw_at lw_m16 117 rfl) rfl
theorem q4077 : (Jvm.Cond.code ({ cls := "ModuleEngineModel", name := "takesElement", desc := "(II)V" } : Jvm.MethodName) prog_20_method_141_code (4 : Nat) (Option.none : Option Jvm.ClassFile.FieldType)) ∈ lw_all := lw_g (lw_at lw_m16 118 rfl) rfl
theorem q4078 : (Jvm.Cond.methodLink "ModuleEngineModel" (1002 : Nat) ({ cls := "ModuleEngineModel", name := "startsUp", desc := "(I)V" } : Jvm.MethodName)) ∈ lw_all := lw_g (lw_at lw_m16 119 rfl) rfl
theorem q4079 : (Jvm.Cond.privateMethod ({ cls := "ModuleEngineModel", name := "startsUp", desc := "(I)V" } : Jvm.MethodName)) ∈ lw_tbl := lw_at lw_m16 120 rfl
theorem q4080 : (Jvm.Cond.instanceMethod ({ cls := "ModuleEngineModel", name := "startsUp", desc := "(I)V" } : Jvm.MethodName)) ∈ lw_all := lw_g (lw_at lw_m16 121 rfl) rfl
theorem q4081 : (Jvm.Cond.code ({ cls := "ModuleEngineModel", name := "startsUp", desc := "(I)V" } : Jvm.MethodName) prog_20_method_146_code (5 : Nat) (Option.none : Option Jvm.ClassFile.FieldType)) ∈ lw_all := lw_g (lw_at lw_m16 122 rfl) rfl
theorem q4082 : (Jvm.Cond.methodLink "ModuleEngineModel" (1030 : Nat) ({ cls := "ModuleEngineModel", name := "copiesElement", desc := "(IIIJJJ)Z" } : Jvm.MethodName)) ∈ lw_all := lw_g (lw_at lw_m16 123 rfl) rfl
theorem q4083 : (Jvm.Cond.privateMethod ({ cls := "ModuleEngineModel", name := "copiesElement", desc := "(IIIJJJ)Z" } : Jvm.MethodName)) ∈ lw_tbl := lw_at lw_m16 124 rfl
theorem q4084 : (Jvm.Cond.instanceMethod ({ cls := "ModuleEngineModel", name := "copiesElement", desc := "(IIIJJJ)Z" } : Jvm.MethodName)) ∈ lw_all := lw_g (lw_at lw_m16 125 rfl) rfl
theorem q4085 : (Jvm.Cond.code ({ cls := "ModuleEngineModel", name := "copiesElement", desc := "(IIIJJJ)Z" } : Jvm.MethodName) prog_20_method_148_code (11 : Nat) (Option.some Jvm.ClassFile.FieldType.boolean)) ∈ lw_all := lw_g (lw_at lw_m16 126 rfl) rfl
theorem q4086 : (Jvm.Cond.methodLink "ModuleEngineModel" (1034 : Nat) ({ cls := "ModuleEngineModel", name := "failsAtOnce", desc := "(I)V" } : Jvm.MethodName)) ∈ lw_all := lw_g (lw_at lw_m16 127 rfl) rfl
theorem q4087 : (Jvm.Cond.privateMethod ({ cls := "ModuleEngineModel", name := "failsAtOnce", desc := "(I)V" } : Jvm.MethodName)) ∈ lw_tbl := lw_at lw_m16 128 rfl
theorem q4088 : (Jvm.Cond.instanceMethod ({ cls := "ModuleEngineModel", name := "failsAtOnce", desc := "(I)V" } : Jvm.MethodName)) ∈ lw_all := lw_g (lw_at lw_m16 129 rfl) rfl
theorem q4089 : (Jvm.Cond.code ({ cls := "ModuleEngineModel", name := "failsAtOnce", desc := "(I)V" } : Jvm.MethodName) prog_20_method_147_code (2 : Nat) (Option.none : Option Jvm.ClassFile.FieldType)) ∈ lw_all := lw_g (lw_at lw_m16 130 rfl) rfl
theorem q4090 : (Jvm.Cond.methodLink "ModuleEngineModel" (1037 : Nat) ({ cls := "ModuleEngineModel", name := "dropped", desc := "(II)V" } : Jvm.MethodName)) ∈ lw_all := lw_g (lw_at lw_m16 131 rfl) rfl
theorem q4091 : (Jvm.Cond.privateMethod ({ cls := "ModuleEngineModel", name := "dropped", desc := "(II)V" } : Jvm.MethodName)) ∈ lw_tbl := lw_at lw_m16 132 rfl
theorem q4092 : (Jvm.Cond.instanceMethod ({ cls := "ModuleEngineModel", name := "dropped", desc := "(II)V" } : Jvm.MethodName)) ∈ lw_all := lw_g (lw_at lw_m16 133 rfl) rfl
theorem q4093 : (Jvm.Cond.code ({ cls := "ModuleEngineModel", name := "dropped", desc := "(II)V" } : Jvm.MethodName) prog_20_method_145_code (3 : Nat) (Option.none : Option Jvm.ClassFile.FieldType)) ∈ lw_all := lw_g (lw_at lw_m16 134 rfl) rfl
theorem q4094 : (Jvm.Cond.methodLink "ModuleEngineModel" (1040 : Nat) ({ cls := "ModuleEngineModel", name := "copiesData", desc := "(IIIJJJ)Z" } : Jvm.MethodName)) ∈ lw_all := lw_g (lw_at lw_m16 135 rfl) rfl
theorem q4095 : (Jvm.Cond.privateMethod ({ cls := "ModuleEngineModel", name := "copiesData", desc := "(IIIJJJ)Z" } : Jvm.MethodName)) ∈ lw_tbl := lw_at lw_m16 136 rfl
theorem q4096 : (Jvm.Cond.instanceMethod ({ cls := "ModuleEngineModel", name := "copiesData", desc := "(IIIJJJ)Z" } : Jvm.MethodName)) ∈ lw_all := lw_g (lw_at lw_m16 137 rfl) rfl
theorem q4097 : (Jvm.Cond.code ({ cls := "ModuleEngineModel", name := "copiesData", desc := "(IIIJJJ)Z" } : Jvm.MethodName) prog_20_method_149_code (13 : Nat) (Option.some Jvm.ClassFile.FieldType.boolean)) ∈ lw_all := lw_g (lw_at lw_m16 138 rfl) rfl
theorem q4098 : (Jvm.Cond.methodLink "ModuleEngineModel" (1055 : Nat) ({ cls := "ModuleEngineModel", name := "sets", desc := "(IJB)V" } : Jvm.MethodName)) ∈ lw_all := lw_g (lw_at lw_m16 139 rfl) rfl
theorem q4099 : (Jvm.Cond.privateMethod ({ cls := "ModuleEngineModel", name := "sets", desc := "(IJB)V" } : Jvm.MethodName)) ∈ lw_tbl := lw_at lw_m16 140 rfl
theorem q4100 : (Jvm.Cond.instanceMethod ({ cls := "ModuleEngineModel", name := "sets", desc := "(IJB)V" } : Jvm.MethodName)) ∈ lw_all := lw_g (lw_at lw_m16 141 rfl) rfl
theorem q4101 : (Jvm.Cond.code ({ cls := "ModuleEngineModel", name := "sets", desc := "(IJB)V" } : Jvm.MethodName) prog_20_method_151_code (5 : Nat) (Option.none : Option Jvm.ClassFile.FieldType)) ∈ lw_all := lw_g (lw_at lw_m16 142 rfl) rfl
theorem q4102 : (Jvm.Cond.methodLink "ModuleEngineModel" (1061 : Nat) ({ cls := "ModuleEngineModel", name := "placeOf", desc := "(IJ)I" } : Jvm.MethodName)) ∈ lw_all := lw_g (lw_at lw_m16 143 rfl) rfl
theorem q4103 : (Jvm.Cond.privateMethod ({ cls := "ModuleEngineModel", name := "placeOf", desc := "(IJ)I" } : Jvm.MethodName)) ∈ lw_tbl := lw_at lw_m16 144 rfl
theorem q4104 : (Jvm.Cond.instanceMethod ({ cls := "ModuleEngineModel", name := "placeOf", desc := "(IJ)I" } : Jvm.MethodName)) ∈ lw_all := lw_g (lw_at lw_m16 145 rfl) rfl
theorem q4105 : (Jvm.Cond.code ({ cls := "ModuleEngineModel", name := "placeOf", desc := "(IJ)I" } : Jvm.MethodName) prog_20_method_150_code (4 : Nat) (Option.some Jvm.ClassFile.FieldType.int)) ∈ lw_all := lw_g (lw_at lw_m16 146 rfl) rfl
theorem q4106 : (Jvm.Cond.constantLong "ModuleEngineModel" (1059 : Nat) (65535 : Int64)) ∈ lw_all := lw_g (lw_at lw_m16 147 rfl) rfl
theorem q4107 : (Jvm.Cond.methodLink "ModuleEngineModel" (1043 : Nat) ({ cls := "ModuleEngineModel", name := "calls", desc := "(I)V" } : Jvm.MethodName)) ∈ lw_all := lw_g (lw_at lw_m16 148 rfl) rfl
theorem q4108 : (Jvm.Cond.privateMethod ({ cls := "ModuleEngineModel", name := "calls", desc := "(I)V" } : Jvm.MethodName)) ∈ lw_tbl := lw_at lw_m16 149 rfl
theorem q4109 : (Jvm.Cond.instanceMethod ({ cls := "ModuleEngineModel", name := "calls", desc := "(I)V" } : Jvm.MethodName)) ∈ lw_all := lw_g (lw_at lw_m16 150 rfl) rfl
theorem q4110 : (Jvm.Cond.code ({ cls := "ModuleEngineModel", name := "calls", desc := "(I)V" } : Jvm.MethodName) prog_20_method_160_code (2 : Nat) (Option.none : Option Jvm.ClassFile.FieldType)) ∈ lw_all := lw_g (lw_at lw_m16 151 rfl) rfl
theorem q4111 : (Jvm.Cond.methodLink "ModuleEngineModel" (1089 : Nat) ({ cls := "ModuleEngineModel", name := "enters", desc := "(I)V" } : Jvm.MethodName)) ∈ lw_all := lw_g (lw_at lw_m16 152 rfl) rfl
theorem q4112 : (Jvm.Cond.privateMethod ({ cls := "ModuleEngineModel", name := "enters", desc := "(I)V" } : Jvm.MethodName)) ∈ lw_tbl := lw_at lw_m16 153 rfl
theorem q4113 : (Jvm.Cond.instanceMethod ({ cls := "ModuleEngineModel", name := "enters", desc := "(I)V" } : Jvm.MethodName)) ∈ lw_all := lw_g (lw_at lw_m16 154 rfl) rfl
theorem q4114 : (Jvm.Cond.code ({ cls := "ModuleEngineModel", name := "enters", desc := "(I)V" } : Jvm.MethodName) prog_20_method_161_code (13 : Nat) (Option.none : Option Jvm.ClassFile.FieldType)) ∈ lw_all := lw_g (lw_at lw_m16 155 rfl) rfl
theorem q4115 : (Jvm.Cond.methodLink "ModuleEngineModel" (1077 : Nat) ({ cls := "ModuleEngineModel", name := "parametersIn", desc := "(I)I" } : Jvm.MethodName)) ∈ lw_all := lw_g (lw_at lw_m16 156 rfl) rfl
theorem q4116 : (Jvm.Cond.privateMethod ({ cls := "ModuleEngineModel", name := "parametersIn", desc := "(I)I" } : Jvm.MethodName)) ∈ lw_tbl := lw_at lw_m16 157 rfl
theorem q4117 : (Jvm.Cond.instanceMethod ({ cls := "ModuleEngineModel", name := "parametersIn", desc := "(I)I" } : Jvm.MethodName)) ∈ lw_all := lw_g (lw_at lw_m16 158 rfl) rfl
theorem q4118 : (Jvm.Cond.code ({ cls := "ModuleEngineModel", name := "parametersIn", desc := "(I)I" } : Jvm.MethodName) prog_20_method_154_code (2 : Nat) (Option.some Jvm.ClassFile.FieldType.int)) ∈ lw_all := lw_g (lw_at lw_m16 159 rfl) rfl
theorem q4119 : (Jvm.Cond.methodLink "ModuleEngineModel" (1065 : Nat) ({ cls := "ModuleEngineModel", name := "planOf", desc := "(I)LModuleEngineModel$Plan;" } : Jvm.MethodName)) ∈ lw_all := lw_g (lw_at lw_m16 160 rfl) rfl
theorem q4120 : (Jvm.Cond.privateMethod ({ cls := "ModuleEngineModel", name := "planOf", desc := "(I)LModuleEngineModel$Plan;" } : Jvm.MethodName)) ∈ lw_tbl := lw_at lw_m16 161 rfl
theorem q4121 : (Jvm.Cond.instanceMethod ({ cls := "ModuleEngineModel", name := "planOf", desc := "(I)LModuleEngineModel$Plan;" } : Jvm.MethodName)) ∈ lw_all := lw_g (lw_at lw_m16 162 rfl) rfl
theorem q4122 : (Jvm.Cond.code ({ cls := "ModuleEngineModel", name := "planOf", desc := "(I)LModuleEngineModel$Plan;" } : Jvm.MethodName) prog_20_method_153_code (2 : Nat) (Option.some (Jvm.ClassFile.FieldType.object "ModuleEngineModel$Plan"))) ∈ lw_all := lw_g (lw_at lw_m16 163 rfl) rfl
theorem q4123 : (Jvm.Cond.methodLink "ModuleEngineModel" (1101 : Nat) ({ cls := "ModuleEngineModel", name := "counts", desc := "(I)V" } : Jvm.MethodName)) ∈ lw_all := lw_g (lw_at lw_m16 164 rfl) rfl
theorem q4124 : (Jvm.Cond.privateMethod ({ cls := "ModuleEngineModel", name := "counts", desc := "(I)V" } : Jvm.MethodName)) ∈ lw_tbl := lw_at lw_m16 165 rfl
theorem q4125 : (Jvm.Cond.instanceMethod ({ cls := "ModuleEngineModel", name := "counts", desc := "(I)V" } : Jvm.MethodName)) ∈ lw_all := lw_g (lw_at lw_m16 166 rfl) rfl
theorem q4126 : (Jvm.Cond.code ({ cls := "ModuleEngineModel", name := "counts", desc := "(I)V" } : Jvm.MethodName) prog_20_method_162_code (2 : Nat) (Option.none : Option Jvm.ClassFile.FieldType)) ∈ lw_all := lw_g (lw_at lw_m16 167 rfl) rfl
theorem q4127 : (Jvm.Cond.methodLink "ModuleEngineModel" (1113 : Nat) ({ cls := "ModuleEngineModel", name := "opens", desc := "(IIIZ)V" } : Jvm.MethodName)) ∈ lw_all := lw_g (lw_at lw_m16 168 rfl) rfl
theorem q4128 : (Jvm.Cond.privateMethod ({ cls := "ModuleEngineModel", name := "opens", desc := "(IIIZ)V" } : Jvm.MethodName)) ∈ lw_tbl := lw_at lw_m16 169 rfl
theorem q4129 : (Jvm.Cond.instanceMethod ({ cls := "ModuleEngineModel", name := "opens", desc := "(IIIZ)V" } : Jvm.MethodName)) ∈ lw_all := lw_g (lw_at lw_m16 170 rfl) rfl
theorem q4130 : (Jvm.Cond.code ({ cls := "ModuleEngineModel", name := "opens", desc := "(IIIZ)V" } : Jvm.MethodName) prog_20_method_163_code (5 : Nat) (Option.none : Option Jvm.ClassFile.FieldType)) ∈ lw_all := lw_g (lw_at lw_m16 171 rfl) rfl
theorem q4131 : (Jvm.Cond.methodLink "ModuleEngineModel" (1092 : Nat) ({ cls := "ModuleEngineModel", name := "goesOn", desc := "()V" } : Jvm.MethodName)) ∈ lw_all := lw_g (lw_at lw_m16 172 rfl) rfl
theorem q4132 : (Jvm.Cond.privateMethod ({ cls := "ModuleEngineModel", name := "goesOn", desc := "()V" } : Jvm.MethodName)) ∈ lw_tbl := lw_at lw_m16 173 rfl
theorem q4133 : (Jvm.Cond.instanceMethod ({ cls := "ModuleEngineModel", name := "goesOn", desc := "()V" } : Jvm.MethodName)) ∈ lw_all := lw_g (lw_at lw_m16 174 rfl) rfl
theorem q4134 : (Jvm.Cond.code ({ cls := "ModuleEngineModel", name := "goesOn", desc := "()V" } : Jvm.MethodName) prog_20_method_164_code (2 : Nat) (Option.none : Option Jvm.ClassFile.FieldType)) ∈ lw_all := lw_g (lw_at lw_m16 175 rfl) rfl
theorem q4135 : (Jvm.Cond.methodLink "ModuleEngineModel" (1123 : Nat) ({ cls := "ModuleEngineModel", name := "opensBlock", desc := "(I)V" } : Jvm.MethodName)) ∈ lw_all := lw_g (lw_at lw_m16 176 rfl) rfl
theorem q4136 : (Jvm.Cond.privateMethod ({ cls := "ModuleEngineModel", name := "opensBlock", desc := "(I)V" } : Jvm.MethodName)) ∈ lw_tbl := lw_at lw_m16 177 rfl
theorem q4137 : (Jvm.Cond.instanceMethod ({ cls := "ModuleEngineModel", name := "opensBlock", desc := "(I)V" } : Jvm.MethodName)) ∈ lw_all := lw_g (lw_at lw_m16 178 rfl) rfl
theorem q4138 : (Jvm.Cond.code ({ cls := "ModuleEngineModel", name := "opensBlock", desc := "(I)V" } : Jvm.MethodName) prog_20_method_165_code (5 : Nat) (Option.none : Option Jvm.ClassFile.FieldType)) ∈ lw_all := lw_g (lw_at lw_m16 179 rfl) rfl
theorem q4139 : (Jvm.Cond.methodLink "ModuleEngineModel" (1126 : Nat) ({ cls := "ModuleEngineModel", name := "closes", desc := "()V" } : Jvm.MethodName)) ∈ lw_all := lw_g (lw_at lw_m16 180 rfl) rfl
theorem q4140 : (Jvm.Cond.privateMethod ({ cls := "ModuleEngineModel", name := "closes", desc := "()V" } : Jvm.MethodName)) ∈ lw_tbl := lw_at lw_m16 181 rfl
theorem q4141 : (Jvm.Cond.instanceMethod ({ cls := "ModuleEngineModel", name := "closes", desc := "()V" } : Jvm.MethodName)) ∈ lw_all := lw_g (lw_at lw_m16 182 rfl) rfl
theorem q4142 : (Jvm.Cond.code ({ cls := "ModuleEngineModel", name := "closes", desc := "()V" } : Jvm.MethodName) prog_20_method_166_code (5 : Nat) (Option.none : Option Jvm.ClassFile.FieldType)) ∈ lw_all := lw_g (lw_at lw_m16 183 rfl) rfl
theorem q4143 : (Jvm.Cond.methodLink "ModuleEngineModel" (1129 : Nat) ({ cls := "ModuleEngineModel", name := "resultsIn", desc := "(I)I" } : Jvm.MethodName)) ∈ lw_all := lw_g (lw_at lw_m16 184 rfl) rfl
theorem q4144 : (Jvm.Cond.privateMethod ({ cls := "ModuleEngineModel", name := "resultsIn", desc := "(I)I" } : Jvm.MethodName)) ∈ lw_tbl := lw_at lw_m16 185 rfl
theorem q4145 : (Jvm.Cond.instanceMethod ({ cls := "ModuleEngineModel", name := "resultsIn", desc := "(I)I" } : Jvm.MethodName)) ∈ lw_all := lw_g (lw_at lw_m16 186 rfl) rfl
theorem q4146 : (Jvm.Cond.code ({ cls := "ModuleEngineModel", name := "resultsIn", desc := "(I)I" } : Jvm.MethodName) prog_20_method_155_code (2 : Nat) (Option.some Jvm.ClassFile.FieldType.int)) ∈ lw_all := lw_g (lw_at lw_m16 187 rfl) rfl
theorem q4148 : (Jvm.Cond.instanceMethod ({ cls := "ModuleEngineModel", name := "argument", desc := "(J)I" } : Jvm.MethodName)) ∈ lw_all := lw_g (lw_at lw_m16 189 rfl) rfl
theorem q4149 : (Jvm.Cond.selects "ModuleEngineModel" ({ cls := "ModuleEngineModel", name := "argument", desc := "(J)I" } : Jvm.MethodName) ({ cls := "ModuleEngineModel", name := "argument", desc := "(J)I" } : Jvm.MethodName)) ∈ lw_all := lw_g (lw_at lw_m16 190 rfl) rfl
theorem q4150 : (Jvm.Cond.code ({ cls := "ModuleEngineModel", name := "argument", desc := "(J)I" } : Jvm.MethodName) prog_20_method_158_code (3 : Nat) (Option.some Jvm.ClassFile.FieldType.int)) ∈ lw_all := lw_g (lw_at lw_m16 191 rfl) rfl
theorem q4152 : (Jvm.Cond.instanceMethod ({ cls := "ModuleEngineModel", name := "call", desc := "(II)Z" } : Jvm.MethodName)) ∈ lw_all := lw_g (lw_at lw_m16 193 rfl) rfl
theorem q4153 : (Jvm.Cond.selects "ModuleEngineModel" ({ cls := "ModuleEngineModel", name := "call", desc := "(II)Z" } : Jvm.MethodName) ({ cls := "ModuleEngineModel", name := "call", desc := "(II)Z" } : Jvm.MethodName)) ∈ lw_all := lw_g (lw_at lw_m16 194 rfl) rfl
theorem q4154 : (Jvm.Cond.code ({ cls := "ModuleEngineModel", name := "call", desc := "(II)Z" } : Jvm.MethodName) prog_20_method_159_code (5 : Nat) (Option.some Jvm.ClassFile.FieldType.boolean)) ∈ lw_all := lw_g (lw_at lw_m16 195 rfl) rfl
theorem q4155 : (Jvm.Cond.methodLink "ModuleEngineModel" (1074 : Nat) ({ cls := "ModuleEngineModel", name := "exportedAs", desc := "(III)I" } : Jvm.MethodName)) ∈ lw_all := lw_g (lw_at lw_m16 196 rfl) rfl
theorem q4156 : (Jvm.Cond.privateMethod ({ cls := "ModuleEngineModel", name := "exportedAs", desc := "(III)I" } : Jvm.MethodName)) ∈ lw_tbl := lw_at lw_m16 197 rfl
theorem q4157 : (Jvm.Cond.instanceMethod ({ cls := "ModuleEngineModel", name := "exportedAs", desc := "(III)I" } : Jvm.MethodName)) ∈ lw_all := lw_g (lw_at lw_m16 198 rfl) rfl
theorem q4158 : (Jvm.Cond.code ({ cls := "ModuleEngineModel", name := "exportedAs", desc := "(III)I" } : Jvm.MethodName) prog_20_method_130_code (4 : Nat) (Option.some Jvm.ClassFile.FieldType.int)) ∈ lw_all := lw_g (lw_at lw_m16 199 rfl) rfl
theorem q4159 : (Jvm.Cond.methodLink "ModuleEngineModel" (1080 : Nat) ({ cls := "ModuleEngineModel", name := "areSuch", desc := "(II)Z" } : Jvm.MethodName)) ∈ lw_all := lw_g (lw_at lw_m16 200 rfl) rfl
theorem q4160 : (Jvm.Cond.privateMethod ({ cls := "ModuleEngineModel", name := "areSuch", desc := "(II)Z" } : Jvm.MethodName)) ∈ lw_tbl := lw_at lw_m16 201 rfl
theorem q4161 : (Jvm.Cond.instanceMethod ({ cls := "ModuleEngineModel", name := "areSuch", desc := "(II)Z" } : Jvm.MethodName)) ∈ lw_all := lw_g (lw_at lw_m16 202 rfl) rfl
theorem q4162 : (Jvm.Cond.code ({ cls := "ModuleEngineModel", name := "areSuch", desc := "(II)Z" } : Jvm.MethodName) prog_20_method_156_code (8 : Nat) (Option.some Jvm.ClassFile.FieldType.boolean)) ∈ lw_all := lw_g (lw_at lw_m16 203 rfl) rfl
theorem q4163 : (Jvm.Cond.constantLong "ModuleEngineModel" (1072 : Nat) (2147483647 : Int64)) ∈ lw_all := lw_g (lw_at lw_m16 204 rfl) rfl
theorem q4164 : (Jvm.Cond.methodLink "ModuleEngineModel" (1083 : Nat) ({ cls := "ModuleEngineModel", name := "held", desc := "(IJ)J" } : Jvm.MethodName)) ∈ lw_all := lw_g (lw_at lw_m16 205 rfl) rfl
theorem q4165 : (Jvm.Cond.static ({ cls := "ModuleEngineModel", name := "held", desc := "(IJ)J" } : Jvm.MethodName)) ∈ lw_all := lw_g (lw_at lw_m16 206 rfl) rfl
theorem q4166 : (Jvm.Cond.code ({ cls := "ModuleEngineModel", name := "held", desc := "(IJ)J" } : Jvm.MethodName) prog_20_method_157_code (3 : Nat) (Option.some Jvm.ClassFile.FieldType.long)) ∈ lw_all := lw_g (lw_at lw_m16 207 rfl) rfl
theorem q4168 : (Jvm.Cond.instanceMethod ({ cls := "ModuleEngineModel", name := "run", desc := "(I)I" } : Jvm.MethodName)) ∈ lw_all := lw_g (lw_at lw_m16 209 rfl) rfl
theorem q4169 : (Jvm.Cond.selects "ModuleEngineModel" ({ cls := "ModuleEngineModel", name := "run", desc := "(I)I" } : Jvm.MethodName) ({ cls := "ModuleEngineModel", name := "run", desc := "(I)I" } : Jvm.MethodName)) ∈ lw_all := lw_g (lw_at lw_m16 210 rfl) rfl
theorem q4170 : (Jvm.Cond.code ({ cls := "ModuleEngineModel", name := "run", desc := "(I)I" } : Jvm.MethodName) prog_20_method_167_code (3 : Nat) (Option.some Jvm.ClassFile.FieldType.int)) ∈ lw_all := lw_g (lw_at lw_m16 211 rfl) rfl
theorem q4171 : (Jvm.Cond.constant "ModuleEngineModel" (1132 : Nat) (100000 : Int32)) ∈ lw_all := lw_g (lw_at lw_m16 212 rfl) rfl
theorem q4172 : (Jvm.Cond.methodLink "ModuleEngineModel" (1133 : Nat) ({ cls := "ModuleEngineModel", name := "step", desc := "()V" } : Jvm.MethodName)) ∈ lw_all := lw_g (lw_at lw_m16 213 rfl) rfl
theorem q4173 : (Jvm.Cond.privateMethod ({ cls := "ModuleEngineModel", name := "step", desc := "()V" } : Jvm.MethodName)) ∈ lw_tbl := lw_at lw_m16 214 rfl
theorem q4174 : (Jvm.Cond.instanceMethod ({ cls := "ModuleEngineModel", name := "step", desc := "()V" } : Jvm.MethodName)) ∈ lw_all := lw_g (lw_at lw_m16 215 rfl) rfl
theorem q4175 : (Jvm.Cond.code ({ cls := "ModuleEngineModel", name := "step", desc := "()V" } : Jvm.MethodName) prog_20_method_173_code (3 : Nat) (Option.none : Option Jvm.ClassFile.FieldType)) ∈ lw_all := lw_g (lw_at lw_m16 216 rfl) rfl
theorem q4176 : (Jvm.Cond.methodLink "ModuleEngineModel" (1139 : Nat) ({ cls := "ModuleEngineModel", name := "operator", desc := "(I)V" } : Jvm.MethodName)) ∈ lw_all := lw_g (lw_at lw_m16 217 rfl) rfl
theorem q4177 : (Jvm.Cond.privateMethod ({ cls := "ModuleEngineModel", name := "operator", desc := "(I)V" } : Jvm.MethodName)) ∈ lw_tbl := lw_at lw_m16 218 rfl
theorem q4178 : (Jvm.Cond.instanceMethod ({ cls := "ModuleEngineModel", name := "operator", desc := "(I)V" } : Jvm.MethodName)) ∈ lw_all := lw_g (lw_at lw_m16 219 rfl) rfl
theorem q4179 : (Jvm.Cond.code ({ cls := "ModuleEngineModel", name := "operator", desc := "(I)V" } : Jvm.MethodName) prog_20_method_174_code (8 : Nat) (Option.none : Option Jvm.ClassFile.FieldType)) ∈ lw_all := lw_g (lw_at lw_m16 220 rfl) rfl
theorem q4180 : (Jvm.Cond.methodLink "ModuleEngineModel" (1157 : Nat) ({ cls := "ModuleEngineModel", name := "pop", desc := "()J" } : Jvm.MethodName)) ∈ lw_all := lw_g (lw_at lw_m16 221 rfl) rfl
theorem q4181 : (Jvm.Cond.privateMethod ({ cls := "ModuleEngineModel", name := "pop", desc := "()J" } : Jvm.MethodName)) ∈ lw_tbl := lw_at lw_m16 222 rfl
theorem q4182 : (Jvm.Cond.instanceMethod ({ cls := "ModuleEngineModel", name := "pop", desc := "()J" } : Jvm.MethodName)) ∈ lw_all := lw_g (lw_at lw_m16 223 rfl) rfl
theorem q4183 : (Jvm.Cond.code ({ cls := "ModuleEngineModel", name := "pop", desc := "()J" } : Jvm.MethodName) prog_20_method_171_code (1 : Nat) (Option.some Jvm.ClassFile.FieldType.long)) ∈ lw_all := lw_g (lw_at lw_m16 224 rfl) rfl
theorem q4184 : (Jvm.Cond.methodLink "ModuleEngineModel" (1160 : Nat) ({ cls := "ModuleEngineModel", name := "reckons", desc := "(IJJ)J" } : Jvm.MethodName)) ∈ lw_all := lw_g (lw_at lw_m16 225 rfl) rfl
theorem q4185 : (Jvm.Cond.privateMethod ({ cls := "ModuleEngineModel", name := "reckons", desc := "(IJJ)J" } : Jvm.MethodName)) ∈ lw_tbl := lw_at lw_m16 226 rfl
theorem q4186 : (Jvm.Cond.instanceMethod ({ cls := "ModuleEngineModel", name := "reckons", desc := "(IJJ)J" } : Jvm.MethodName)) ∈ lw_all := lw_g (lw_at lw_m16 227 rfl) rfl
theorem q4187 : (Jvm.Cond.code ({ cls := "ModuleEngineModel", name := "reckons", desc := "(IJJ)J" } : Jvm.MethodName) prog_20_method_97_code (7 : Nat) (Option.some Jvm.ClassFile.FieldType.long)) ∈ lw_all := lw_g (lw_at lw_m16 228 rfl) rfl
theorem q4188 : (Jvm.Cond.methodLink "ModuleEngineModel" (803 : Nat) ({ cls := "ModuleEngineModel", name := "isWhole", desc := "(IJJJJ)Z" } : Jvm.MethodName)) ∈ lw_all := lw_g (lw_at lw_m16 229 rfl) rfl
theorem q4189 : (Jvm.Cond.static ({ cls := "ModuleEngineModel", name := "isWhole", desc := "(IJJJJ)Z" } : Jvm.MethodName)) ∈ lw_all := lw_g (lw_at lw_m16 230 rfl) rfl
theorem q4190 : (Jvm.Cond.code ({ cls := "ModuleEngineModel", name := "isWhole", desc := "(IJJJJ)Z" } : Jvm.MethodName) prog_20_method_98_code (9 : Nat) (Option.some Jvm.ClassFile.FieldType.boolean)) ∈ lw_all := lw_g (lw_at lw_m16 231 rfl) rfl
theorem q4191 : (Jvm.Cond.methodLink "ModuleEngineModel" (827 : Nat) ({ cls := "ModuleEngineModel", name := "isBelow", desc := "(JJ)Z" } : Jvm.MethodName)) ∈ lw_all := lw_g (lw_at lw_m16 232 rfl) rfl
theorem q4192 : (Jvm.Cond.static ({ cls := "ModuleEngineModel", name := "isBelow", desc := "(JJ)Z" } : Jvm.MethodName)) ∈ lw_all := lw_g (lw_at lw_m16 233 rfl) rfl
theorem q4193 : (Jvm.Cond.code ({ cls := "ModuleEngineModel", name := "isBelow", desc := "(JJ)Z" } : Jvm.MethodName) prog_20_method_95_code (4 : Nat) (Option.some Jvm.ClassFile.FieldType.boolean)) ∈ lw_all := lw_g (lw_at lw_m16 234 rfl) rfl
theorem q4194 : (Jvm.Cond.constantLong "ModuleEngineModel" (798 : Nat) (-9223372036854775808 : Int64)) ∈ lw_all := lw_g (lw_at lw_m16 235 rfl) rfl
theorem q4195 : (Jvm.Cond.methodLink "ModuleEngineModel" (807 : Nat) ({ cls := "ModuleEngineModel", name := "isReal", desc := "(IIJJ)Z" } : Jvm.MethodName)) ∈ lw_all := lw_g (lw_at lw_m16 236 rfl) rfl
theorem q4196 : (Jvm.Cond.privateMethod ({ cls := "ModuleEngineModel", name := "isReal", desc := "(IIJJ)Z" } : Jvm.MethodName)) ∈ lw_tbl := lw_at lw_m16 237 rfl
theorem q4197 : (Jvm.Cond.instanceMethod ({ cls := "ModuleEngineModel", name := "isReal", desc := "(IIJJ)Z" } : Jvm.MethodName)) ∈ lw_all := lw_g (lw_at lw_m16 238 rfl) rfl
theorem q4198 : (Jvm.Cond.code ({ cls := "ModuleEngineModel", name := "isReal", desc := "(IIJJ)Z" } : Jvm.MethodName) prog_20_method_110_code (11 : Nat) (Option.some Jvm.ClassFile.FieldType.boolean)) ∈ lw_all := lw_g (lw_at lw_m16 239 rfl) rfl
theorem q4199 : (Jvm.Cond.methodLink "ModuleEngineModel" (868 : Nat) ({ cls := "ModuleEngineModel$Real", name := "read", desc := "(IJ)V" } : Jvm.MethodName)) ∈ lw_all := lw_g (lw_at lw_m17 0 rfl) rfl
theorem q4203 : (Jvm.Cond.methodLink "ModuleEngineModel" (874 : Nat) ({ cls := "ModuleEngineModel", name := "order", desc := "(IJ)J" } : Jvm.MethodName)) ∈ lw_all := lw_g (lw_at lw_m17 4 rfl) rfl
theorem q4204 : (Jvm.Cond.static ({ cls := "ModuleEngineModel", name := "order", desc := "(IJ)J" } : Jvm.MethodName)) ∈ lw_all := lw_g (lw_at lw_m17 5 rfl) rfl
theorem q4205 : (Jvm.Cond.code ({ cls := "ModuleEngineModel", name := "order", desc := "(IJ)J" } : Jvm.MethodName) prog_20_method_109_code (5 : Nat) (Option.some Jvm.ClassFile.FieldType.long)) ∈ lw_all := lw_g (lw_at lw_m17 6 rfl) rfl
theorem q4206 : (Jvm.Cond.methodLink "ModuleEngineModel" (865 : Nat) ({ cls := "ModuleEngineModel", name := "signOf", desc := "(I)J" } : Jvm.MethodName)) ∈ lw_all := lw_g (lw_at lw_m17 7 rfl) rfl
theorem q4207 : (Jvm.Cond.static ({ cls := "ModuleEngineModel", name := "signOf", desc := "(I)J" } : Jvm.MethodName)) ∈ lw_all := lw_g (lw_at lw_m17 8 rfl) rfl
theorem q4208 : (Jvm.Cond.code ({ cls := "ModuleEngineModel", name := "signOf", desc := "(I)J" } : Jvm.MethodName) prog_20_method_105_code (1 : Nat) (Option.some Jvm.ClassFile.FieldType.long)) ∈ lw_all := lw_g (lw_at lw_m17 9 rfl) rfl
theorem q4209 : (Jvm.Cond.methodLink "ModuleEngineModel" (811 : Nat) ({ cls := "ModuleEngineModel", name := "short32", desc := "(IJJJJ)J" } : Jvm.MethodName)) ∈ lw_all := lw_g (lw_at lw_m17 10 rfl) rfl
theorem q4210 : (Jvm.Cond.privateMethod ({ cls := "ModuleEngineModel", name := "short32", desc := "(IJJJJ)J" } : Jvm.MethodName)) ∈ lw_tbl := lw_at lw_m17 11 rfl
theorem q4211 : (Jvm.Cond.instanceMethod ({ cls := "ModuleEngineModel", name := "short32", desc := "(IJJJJ)J" } : Jvm.MethodName)) ∈ lw_all := lw_g (lw_at lw_m17 12 rfl) rfl
theorem q4212 : (Jvm.Cond.code ({ cls := "ModuleEngineModel", name := "short32", desc := "(IJJJJ)J" } : Jvm.MethodName) prog_20_method_101_code (11 : Nat) (Option.some Jvm.ClassFile.FieldType.long)) ∈ lw_all := lw_g (lw_at lw_m17 13 rfl) rfl
theorem q4213 : (Jvm.Cond.methodLink "ModuleEngineModel" (831 : Nat) ({ cls := "ModuleEngineModel", name := "zeros", desc := "(JIZ)I" } : Jvm.MethodName)) ∈ lw_all := lw_g (lw_at lw_m17 14 rfl) rfl
theorem q4214 : (Jvm.Cond.static ({ cls := "ModuleEngineModel", name := "zeros", desc := "(JIZ)I" } : Jvm.MethodName)) ∈ lw_all := lw_g (lw_at lw_m17 15 rfl) rfl
theorem q4215 : (Jvm.Cond.code ({ cls := "ModuleEngineModel", name := "zeros", desc := "(JIZ)I" } : Jvm.MethodName) prog_20_method_99_code (5 : Nat) (Option.some Jvm.ClassFile.FieldType.int)) ∈ lw_all := lw_g (lw_at lw_m17 16 rfl) rfl
theorem q4216 : (Jvm.Cond.methodLink "ModuleEngineModel" (835 : Nat) ({ cls := "ModuleEngineModel", name := "ones", desc := "(J)I" } : Jvm.MethodName)) ∈ lw_all := lw_g (lw_at lw_m17 17 rfl) rfl
theorem q4217 : (Jvm.Cond.static ({ cls := "ModuleEngineModel", name := "ones", desc := "(J)I" } : Jvm.MethodName)) ∈ lw_all := lw_g (lw_at lw_m17 18 rfl) rfl
theorem q4218 : (Jvm.Cond.code ({ cls := "ModuleEngineModel", name := "ones", desc := "(J)I" } : Jvm.MethodName) prog_20_method_100_code (4 : Nat) (Option.some Jvm.ClassFile.FieldType.int)) ∈ lw_all := lw_g (lw_at lw_m17 19 rfl) rfl
theorem q4219 : (Jvm.Cond.constantLong "ModuleEngineModel" (838 : Nat) (-2147483648 : Int64)) ∈ lw_all := lw_g (lw_at lw_m17 20 rfl) rfl
theorem q4220 : (Jvm.Cond.methodLink "ModuleEngineModel" (840 : Nat) ({ cls := "ModuleEngineModel", name := "divided", desc := "(IJJJ)J" } : Jvm.MethodName)) ∈ lw_all := lw_g (lw_at lw_m17 21 rfl) rfl
theorem q4221 : (Jvm.Cond.privateMethod ({ cls := "ModuleEngineModel", name := "divided", desc := "(IJJJ)J" } : Jvm.MethodName)) ∈ lw_tbl := lw_at lw_m17 22 rfl
theorem q4222 : (Jvm.Cond.instanceMethod ({ cls := "ModuleEngineModel", name := "divided", desc := "(IJJJ)J" } : Jvm.MethodName)) ∈ lw_all := lw_g (lw_at lw_m17 23 rfl) rfl
theorem q4223 : (Jvm.Cond.code ({ cls := "ModuleEngineModel", name := "divided", desc := "(IJJJ)J" } : Jvm.MethodName) prog_20_method_104_code (8 : Nat) (Option.some Jvm.ClassFile.FieldType.long)) ∈ lw_all := lw_g (lw_at lw_m17 24 rfl) rfl
theorem q4224 : (Jvm.Cond.methodLink "ModuleEngineModel" (847 : Nat) ({ cls := "ModuleEngineModel", name := "traps", desc := "(I)V" } : Jvm.MethodName)) ∈ lw_all := lw_g (lw_at lw_m17 25 rfl) rfl
theorem q4225 : (Jvm.Cond.privateMethod ({ cls := "ModuleEngineModel", name := "traps", desc := "(I)V" } : Jvm.MethodName)) ∈ lw_tbl := lw_at lw_m17 26 rfl
theorem q4226 : (Jvm.Cond.instanceMethod ({ cls := "ModuleEngineModel", name := "traps", desc := "(I)V" } : Jvm.MethodName)) ∈ lw_all := lw_g (lw_at lw_m17 27 rfl) rfl
theorem q4227 : (Jvm.Cond.code ({ cls := "ModuleEngineModel", name := "traps", desc := "(I)V" } : Jvm.MethodName) prog_20_method_96_code (2 : Nat) (Option.none : Option Jvm.ClassFile.FieldType)) ∈ lw_all := lw_g (lw_at lw_m17 28 rfl) rfl
theorem q4228 : (Jvm.Cond.methodLink "ModuleEngineModel" (850 : Nat) ({ cls := "java/lang/Long", name := "divideUnsigned", desc := "(JJ)J" } : Jvm.MethodName)) ∈ lw_all := lw_g (lw_at lw_m17 29 rfl) rfl
theorem q4232 : (Jvm.Cond.methodLink "ModuleEngineModel" (854 : Nat) ({ cls := "java/lang/Long", name := "remainderUnsigned", desc := "(JJ)J" } : Jvm.MethodName)) ∈ lw_all := lw_g (lw_at lw_m17 33 rfl) rfl
theorem q4235 : (Jvm.Cond.methodLink "ModuleEngineModel" (844 : Nat) ({ cls := "ModuleEngineModel", name := "plain", desc := "(IJJ)J" } : Jvm.MethodName)) ∈ lw_all := lw_g (lw_at lw_m17 36 rfl) rfl
theorem q4236 : (Jvm.Cond.static ({ cls := "ModuleEngineModel", name := "plain", desc := "(IJJ)J" } : Jvm.MethodName)) ∈ lw_all := lw_g (lw_at lw_m17 37 rfl) rfl
theorem q4237 : (Jvm.Cond.code ({ cls := "ModuleEngineModel", name := "plain", desc := "(IJJ)J" } : Jvm.MethodName) prog_20_method_103_code (5 : Nat) (Option.some Jvm.ClassFile.FieldType.long)) ∈ lw_all := lw_g (lw_at lw_m17 38 rfl) rfl
theorem q4238 : (Jvm.Cond.methodLink "ModuleEngineModel" (815 : Nat) ({ cls := "ModuleEngineModel", name := "long64", desc := "(IJJ)J" } : Jvm.MethodName)) ∈ lw_all := lw_g (lw_at lw_m17 39 rfl) rfl
theorem q4239 : (Jvm.Cond.privateMethod ({ cls := "ModuleEngineModel", name := "long64", desc := "(IJJ)J" } : Jvm.MethodName)) ∈ lw_tbl := lw_at lw_m17 40 rfl
theorem q4240 : (Jvm.Cond.instanceMethod ({ cls := "ModuleEngineModel", name := "long64", desc := "(IJJ)J" } : Jvm.MethodName)) ∈ lw_all := lw_g (lw_at lw_m17 41 rfl) rfl
theorem q4241 : (Jvm.Cond.code ({ cls := "ModuleEngineModel", name := "long64", desc := "(IJJ)J" } : Jvm.MethodName) prog_20_method_102_code (7 : Nat) (Option.some Jvm.ClassFile.FieldType.long)) ∈ lw_all := lw_g (lw_at lw_m17 42 rfl) rfl
theorem q4242 : (Jvm.Cond.methodLink "ModuleEngineModel" (819 : Nat) ({ cls := "ModuleEngineModel", name := "real", desc := "(IIJJ)J" } : Jvm.MethodName)) ∈ lw_all := lw_g (lw_at lw_m17 43 rfl) rfl
theorem q4243 : (Jvm.Cond.privateMethod ({ cls := "ModuleEngineModel", name := "real", desc := "(IIJJ)J" } : Jvm.MethodName)) ∈ lw_tbl := lw_at lw_m17 44 rfl
theorem q4244 : (Jvm.Cond.instanceMethod ({ cls := "ModuleEngineModel", name := "real", desc := "(IIJJ)J" } : Jvm.MethodName)) ∈ lw_all := lw_g (lw_at lw_m17 45 rfl) rfl
theorem q4245 : (Jvm.Cond.code ({ cls := "ModuleEngineModel", name := "real", desc := "(IIJJ)J" } : Jvm.MethodName) prog_20_method_113_code (7 : Nat) (Option.some Jvm.ClassFile.FieldType.long)) ∈ lw_all := lw_g (lw_at lw_m17 46 rfl) rfl
theorem q4246 : (Jvm.Cond.methodLink "ModuleEngineModel" (891 : Nat) ({ cls := "ModuleEngineModel", name := "wholeOf", desc := "(IIJ)J" } : Jvm.MethodName)) ∈ lw_all := lw_g (lw_at lw_m17 47 rfl) rfl
theorem q4247 : (Jvm.Cond.privateMethod ({ cls := "ModuleEngineModel", name := "wholeOf", desc := "(IIJ)J" } : Jvm.MethodName)) ∈ lw_tbl := lw_at lw_m17 48 rfl
theorem q4248 : (Jvm.Cond.instanceMethod ({ cls := "ModuleEngineModel", name := "wholeOf", desc := "(IIJ)J" } : Jvm.MethodName)) ∈ lw_all := lw_g (lw_at lw_m17 49 rfl) rfl
theorem q4249 : (Jvm.Cond.code ({ cls := "ModuleEngineModel", name := "wholeOf", desc := "(IIJ)J" } : Jvm.MethodName) prog_20_method_114_code (13 : Nat) (Option.some Jvm.ClassFile.FieldType.long)) ∈ lw_all := lw_g (lw_at lw_m17 50 rfl) rfl
theorem q4250 : (Jvm.Cond.methodLink "ModuleEngineModel" (910 : Nat) ({ cls := "ModuleEngineModel", name := "noneOf", desc := "(I)J" } : Jvm.MethodName)) ∈ lw_all := lw_g (lw_at lw_m17 51 rfl) rfl
theorem q4251 : (Jvm.Cond.static ({ cls := "ModuleEngineModel", name := "noneOf", desc := "(I)J" } : Jvm.MethodName)) ∈ lw_all := lw_g (lw_at lw_m17 52 rfl) rfl
theorem q4252 : (Jvm.Cond.code ({ cls := "ModuleEngineModel", name := "noneOf", desc := "(I)J" } : Jvm.MethodName) prog_20_method_107_code (1 : Nat) (Option.some Jvm.ClassFile.FieldType.long)) ∈ lw_all := lw_g (lw_at lw_m17 53 rfl) rfl
theorem q4253 : (Jvm.Cond.constantLong "ModuleEngineModel" (861 : Nat) (2143289344 : Int64)) ∈ lw_all := lw_g (lw_at lw_m17 54 rfl) rfl
theorem q4254 : (Jvm.Cond.constantLong "ModuleEngineModel" (863 : Nat) (9221120237041090560 : Int64)) ∈ lw_all := lw_g (lw_at lw_m17 55 rfl) rfl
theorem q4255 : (Jvm.Cond.constantLong "ModuleEngineModel" (919 : Nat) (9223372036854775807 : Int64)) ∈ lw_all := lw_g (lw_at lw_m17 56 rfl) rfl
theorem q4256 : (Jvm.Cond.methodLink "ModuleEngineModel" (882 : Nat) ({ cls := "ModuleEngineModel", name := "withSign", desc := "(IZJ)J" } : Jvm.MethodName)) ∈ lw_all := lw_g (lw_at lw_m17 57 rfl) rfl
theorem q4257 : (Jvm.Cond.static ({ cls := "ModuleEngineModel", name := "withSign", desc := "(IZJ)J" } : Jvm.MethodName)) ∈ lw_all := lw_g (lw_at lw_m17 58 rfl) rfl
theorem q4258 : (Jvm.Cond.code ({ cls := "ModuleEngineModel", name := "withSign", desc := "(IZJ)J" } : Jvm.MethodName) prog_20_method_108_code (4 : Nat) (Option.some Jvm.ClassFile.FieldType.long)) ∈ lw_all := lw_g (lw_at lw_m17 59 rfl) rfl
theorem q4259 : (Jvm.Cond.methodLink "ModuleEngineModel" (924 : Nat) ({ cls := "ModuleEngineModel", name := "rounded", desc := "(IZJJIZ)J" } : Jvm.MethodName)) ∈ lw_all := lw_g (lw_at lw_m17 60 rfl) rfl
theorem q4260 : (Jvm.Cond.static ({ cls := "ModuleEngineModel", name := "rounded", desc := "(IZJJIZ)J" } : Jvm.MethodName)) ∈ lw_all := lw_g (lw_at lw_m17 61 rfl) rfl
theorem q4261 : (Jvm.Cond.code ({ cls := "ModuleEngineModel", name := "rounded", desc := "(IZJJIZ)J" } : Jvm.MethodName) prog_20_method_112_code (19 : Nat) (Option.some Jvm.ClassFile.FieldType.long)) ∈ lw_all := lw_g (lw_at lw_m17 62 rfl) rfl
theorem q4262 : (Jvm.Cond.methodLink "ModuleEngineModel" (878 : Nat) ({ cls := "ModuleEngineModel", name := "length", desc := "(JJ)I" } : Jvm.MethodName)) ∈ lw_all := lw_g (lw_at lw_m17 63 rfl) rfl
theorem q4263 : (Jvm.Cond.static ({ cls := "ModuleEngineModel", name := "length", desc := "(JJ)I" } : Jvm.MethodName)) ∈ lw_all := lw_g (lw_at lw_m17 64 rfl) rfl
theorem q4264 : (Jvm.Cond.code ({ cls := "ModuleEngineModel", name := "length", desc := "(JJ)I" } : Jvm.MethodName) prog_20_method_111_code (7 : Nat) (Option.some Jvm.ClassFile.FieldType.int)) ∈ lw_all := lw_g (lw_at lw_m17 65 rfl) rfl
theorem q4265 : (Jvm.Cond.constantLong "ModuleEngineModel" (886 : Nat) (2047 : Int64)) ∈ lw_all := lw_g (lw_at lw_m17 66 rfl) rfl
theorem q4266 : (Jvm.Cond.methodLink "ModuleEngineModel" (888 : Nat) ({ cls := "ModuleEngineModel", name := "infinite", desc := "(I)J" } : Jvm.MethodName)) ∈ lw_all := lw_g (lw_at lw_m17 67 rfl) rfl
theorem q4267 : (Jvm.Cond.static ({ cls := "ModuleEngineModel", name := "infinite", desc := "(I)J" } : Jvm.MethodName)) ∈ lw_all := lw_g (lw_at lw_m17 68 rfl) rfl
theorem q4268 : (Jvm.Cond.code ({ cls := "ModuleEngineModel", name := "infinite", desc := "(I)J" } : Jvm.MethodName) prog_20_method_106_code (1 : Nat) (Option.some Jvm.ClassFile.FieldType.long)) ∈ lw_all := lw_g (lw_at lw_m17 69 rfl) rfl
theorem q4269 : (Jvm.Cond.constantLong "ModuleEngineModel" (857 : Nat) (2139095040 : Int64)) ∈ lw_all := lw_g (lw_at lw_m17 70 rfl) rfl
theorem q4270 : (Jvm.Cond.constantLong "ModuleEngineModel" (859 : Nat) (9218868437227405312 : Int64)) ∈ lw_all := lw_g (lw_at lw_m17 71 rfl) rfl
theorem q4271 : (Jvm.Cond.methodLink "ModuleEngineModel" (894 : Nat) ({ cls := "ModuleEngineModel", name := "root", desc := "(IJ)J" } : Jvm.MethodName)) ∈ lw_all := lw_g (lw_at lw_m17 72 rfl) rfl
theorem q4272 : (Jvm.Cond.privateMethod ({ cls := "ModuleEngineModel", name := "root", desc := "(IJ)J" } : Jvm.MethodName)) ∈ lw_tbl := lw_at lw_m17 73 rfl
theorem q4273 : (Jvm.Cond.instanceMethod ({ cls := "ModuleEngineModel", name := "root", desc := "(IJ)J" } : Jvm.MethodName)) ∈ lw_all := lw_g (lw_at lw_m17 74 rfl) rfl
theorem q4274 : (Jvm.Cond.code ({ cls := "ModuleEngineModel", name := "root", desc := "(IJ)J" } : Jvm.MethodName) prog_20_method_115_code (14 : Nat) (Option.some Jvm.ClassFile.FieldType.long)) ∈ lw_all := lw_g (lw_at lw_m17 75 rfl) rfl
theorem q4275 : (Jvm.Cond.constantLong "ModuleEngineModel" (928 : Nat) (4503599627370496 : Int64)) ∈ lw_all := lw_g (lw_at lw_m17 76 rfl) rfl
theorem q4276 : (Jvm.Cond.constantLong "ModuleEngineModel" (930 : Nat) (3 : Int64)) ∈ lw_all := lw_g (lw_at lw_m17 77 rfl) rfl
theorem q4277 : (Jvm.Cond.methodLink "ModuleEngineModel" (897 : Nat) ({ cls := "ModuleEngineModel", name := "sum", desc := "(IJJZ)J" } : Jvm.MethodName)) ∈ lw_all := lw_g (lw_at lw_m17 78 rfl) rfl
theorem q4278 : (Jvm.Cond.privateMethod ({ cls := "ModuleEngineModel", name := "sum", desc := "(IJJZ)J" } : Jvm.MethodName)) ∈ lw_tbl := lw_at lw_m17 79 rfl
theorem q4279 : (Jvm.Cond.instanceMethod ({ cls := "ModuleEngineModel", name := "sum", desc := "(IJJZ)J" } : Jvm.MethodName)) ∈ lw_all := lw_g (lw_at lw_m17 80 rfl) rfl
theorem q4280 : (Jvm.Cond.code ({ cls := "ModuleEngineModel", name := "sum", desc := "(IJJZ)J" } : Jvm.MethodName) prog_20_method_116_code (7 : Nat) (Option.some Jvm.ClassFile.FieldType.long)) ∈ lw_all := lw_g (lw_at lw_m17 81 rfl) rfl
theorem q4281 : (Jvm.Cond.methodLink "ModuleEngineModel" (932 : Nat) ({ cls := "ModuleEngineModel", name := "sumOf", desc := "(ILModuleEngineModel$Real;LModuleEngineModel$Real;)J" } : Jvm.MethodName)) ∈ lw_all := lw_g (lw_at lw_m17 82 rfl) rfl
theorem q4282 : (Jvm.Cond.static ({ cls := "ModuleEngineModel", name := "sumOf", desc := "(ILModuleEngineModel$Real;LModuleEngineModel$Real;)J" } : Jvm.MethodName)) ∈ lw_all := lw_g (lw_at lw_m17 83 rfl) rfl
theorem q4283 : (Jvm.Cond.code ({ cls := "ModuleEngineModel", name := "sumOf", desc := "(ILModuleEngineModel$Real;LModuleEngineModel$Real;)J" } : Jvm.MethodName) prog_20_method_117_code (13 : Nat) (Option.some Jvm.ClassFile.FieldType.long)) ∈ lw_all := lw_g (lw_at lw_m17 84 rfl) rfl
theorem q4284 : (Jvm.Cond.methodLink "ModuleEngineModel" (901 : Nat) ({ cls := "ModuleEngineModel", name := "product", desc := "(IJJ)J" } : Jvm.MethodName)) ∈ lw_all := lw_g (lw_at lw_m17 85 rfl) rfl
theorem q4285 : (Jvm.Cond.privateMethod ({ cls := "ModuleEngineModel", name := "product", desc := "(IJJ)J" } : Jvm.MethodName)) ∈ lw_tbl := lw_at lw_m17 86 rfl
theorem q4286 : (Jvm.Cond.instanceMethod ({ cls := "ModuleEngineModel", name := "product", desc := "(IJJ)J" } : Jvm.MethodName)) ∈ lw_all := lw_g (lw_at lw_m17 87 rfl) rfl
theorem q4287 : (Jvm.Cond.code ({ cls := "ModuleEngineModel", name := "product", desc := "(IJJ)J" } : Jvm.MethodName) prog_20_method_118_code (23 : Nat) (Option.some Jvm.ClassFile.FieldType.long)) ∈ lw_all := lw_g (lw_at lw_m17 88 rfl) rfl
theorem q4288 : (Jvm.Cond.constantLong "ModuleEngineModel" (936 : Nat) (134217727 : Int64)) ∈ lw_all := lw_g (lw_at lw_m17 89 rfl) rfl
theorem q4289 : (Jvm.Cond.methodLink "ModuleEngineModel" (904 : Nat) ({ cls := "ModuleEngineModel", name := "quotient", desc := "(IJJ)J" } : Jvm.MethodName)) ∈ lw_all := lw_g (lw_at lw_m17 90 rfl) rfl
theorem q4290 : (Jvm.Cond.privateMethod ({ cls := "ModuleEngineModel", name := "quotient", desc := "(IJJ)J" } : Jvm.MethodName)) ∈ lw_tbl := lw_at lw_m17 91 rfl
theorem q4291 : (Jvm.Cond.instanceMethod ({ cls := "ModuleEngineModel", name := "quotient", desc := "(IJJ)J" } : Jvm.MethodName)) ∈ lw_all := lw_g (lw_at lw_m17 92 rfl) rfl
theorem q4292 : (Jvm.Cond.code ({ cls := "ModuleEngineModel", name := "quotient", desc := "(IJJ)J" } : Jvm.MethodName) prog_20_method_119_code (15 : Nat) (Option.some Jvm.ClassFile.FieldType.long)) ∈ lw_all := lw_g (lw_at lw_m17 93 rfl) rfl
theorem q4293 : (Jvm.Cond.methodLink "ModuleEngineModel" (907 : Nat) ({ cls := "ModuleEngineModel", name := "extreme", desc := "(IJJZ)J" } : Jvm.MethodName)) ∈ lw_all := lw_g (lw_at lw_m17 94 rfl) rfl
theorem q4294 : (Jvm.Cond.privateMethod ({ cls := "ModuleEngineModel", name := "extreme", desc := "(IJJZ)J" } : Jvm.MethodName)) ∈ lw_tbl := lw_at lw_m17 95 rfl
theorem q4295 : (Jvm.Cond.instanceMethod ({ cls := "ModuleEngineModel", name := "extreme", desc := "(IJJZ)J" } : Jvm.MethodName)) ∈ lw_all := lw_g (lw_at lw_m17 96 rfl) rfl
theorem q4296 : (Jvm.Cond.code ({ cls := "ModuleEngineModel", name := "extreme", desc := "(IJJZ)J" } : Jvm.MethodName) prog_20_method_120_code (7 : Nat) (Option.some Jvm.ClassFile.FieldType.long)) ∈ lw_all := lw_g (lw_at lw_m17 97 rfl) rfl
theorem q4297 : (Jvm.Cond.methodLink "ModuleEngineModel" (823 : Nat) ({ cls := "ModuleEngineModel", name := "turned", desc := "(IIJ)J" } : Jvm.MethodName)) ∈ lw_all := lw_g (lw_at lw_m17 98 rfl) rfl
theorem q4298 : (Jvm.Cond.privateMethod ({ cls := "ModuleEngineModel", name := "turned", desc := "(IIJ)J" } : Jvm.MethodName)) ∈ lw_tbl := lw_at lw_m17 99 rfl
theorem q4299 : (Jvm.Cond.instanceMethod ({ cls := "ModuleEngineModel", name := "turned", desc := "(IIJ)J" } : Jvm.MethodName)) ∈ lw_all := lw_g (lw_at lw_m17 100 rfl) rfl
theorem q4300 : (Jvm.Cond.code ({ cls := "ModuleEngineModel", name := "turned", desc := "(IIJ)J" } : Jvm.MethodName) prog_20_method_124_code (5 : Nat) (Option.some Jvm.ClassFile.FieldType.long)) ∈ lw_all := lw_g (lw_at lw_m17 101 rfl) rfl
theorem q4301 : (Jvm.Cond.methodLink "ModuleEngineModel" (938 : Nat) ({ cls := "ModuleEngineModel", name := "towards", desc := "(IJIZZ)J" } : Jvm.MethodName)) ∈ lw_all := lw_g (lw_at lw_m17 102 rfl) rfl
theorem q4302 : (Jvm.Cond.privateMethod ({ cls := "ModuleEngineModel", name := "towards", desc := "(IJIZZ)J" } : Jvm.MethodName)) ∈ lw_tbl := lw_at lw_m17 103 rfl
theorem q4303 : (Jvm.Cond.instanceMethod ({ cls := "ModuleEngineModel", name := "towards", desc := "(IJIZZ)J" } : Jvm.MethodName)) ∈ lw_all := lw_g (lw_at lw_m17 104 rfl) rfl
theorem q4304 : (Jvm.Cond.code ({ cls := "ModuleEngineModel", name := "towards", desc := "(IJIZZ)J" } : Jvm.MethodName) prog_20_method_121_code (16 : Nat) (Option.some Jvm.ClassFile.FieldType.long)) ∈ lw_all := lw_g (lw_at lw_m17 105 rfl) rfl
theorem q4305 : (Jvm.Cond.methodLink "ModuleEngineModel" (942 : Nat) ({ cls := "ModuleEngineModel", name := "ofWhole", desc := "(IJZ)J" } : Jvm.MethodName)) ∈ lw_all := lw_g (lw_at lw_m17 106 rfl) rfl
theorem q4306 : (Jvm.Cond.static ({ cls := "ModuleEngineModel", name := "ofWhole", desc := "(IJZ)J" } : Jvm.MethodName)) ∈ lw_all := lw_g (lw_at lw_m17 107 rfl) rfl
theorem q4307 : (Jvm.Cond.code ({ cls := "ModuleEngineModel", name := "ofWhole", desc := "(IJZ)J" } : Jvm.MethodName) prog_20_method_122_code (4 : Nat) (Option.some Jvm.ClassFile.FieldType.long)) ∈ lw_all := lw_g (lw_at lw_m17 108 rfl) rfl
theorem q4308 : (Jvm.Cond.methodLink "ModuleEngineModel" (946 : Nat) ({ cls := "ModuleEngineModel", name := "moved", desc := "(IIJ)J" } : Jvm.MethodName)) ∈ lw_all := lw_g (lw_at lw_m17 109 rfl) rfl
theorem q4309 : (Jvm.Cond.privateMethod ({ cls := "ModuleEngineModel", name := "moved", desc := "(IIJ)J" } : Jvm.MethodName)) ∈ lw_tbl := lw_at lw_m17 110 rfl
theorem q4310 : (Jvm.Cond.instanceMethod ({ cls := "ModuleEngineModel", name := "moved", desc := "(IIJ)J" } : Jvm.MethodName)) ∈ lw_all := lw_g (lw_at lw_m17 111 rfl) rfl
theorem q4311 : (Jvm.Cond.code ({ cls := "ModuleEngineModel", name := "moved", desc := "(IIJ)J" } : Jvm.MethodName) prog_20_method_123_code (5 : Nat) (Option.some Jvm.ClassFile.FieldType.long)) ∈ lw_all := lw_g (lw_at lw_m17 112 rfl) rfl
theorem q4312 : (Jvm.Cond.methodLink "ModuleEngineModel" (1163 : Nat) ({ cls := "ModuleEngineModel", name := "endsBy", desc := "(IZ)V" } : Jvm.MethodName)) ∈ lw_all := lw_g (lw_at lw_m17 113 rfl) rfl
theorem q4313 : (Jvm.Cond.privateMethod ({ cls := "ModuleEngineModel", name := "endsBy", desc := "(IZ)V" } : Jvm.MethodName)) ∈ lw_tbl := lw_at lw_m17 114 rfl
theorem q4314 : (Jvm.Cond.instanceMethod ({ cls := "ModuleEngineModel", name := "endsBy", desc := "(IZ)V" } : Jvm.MethodName)) ∈ lw_all := lw_g (lw_at lw_m17 115 rfl) rfl
theorem q4315 : (Jvm.Cond.code ({ cls := "ModuleEngineModel", name := "endsBy", desc := "(IZ)V" } : Jvm.MethodName) prog_20_method_172_code (3 : Nat) (Option.none : Option Jvm.ClassFile.FieldType)) ∈ lw_all := lw_g (lw_at lw_m17 116 rfl) rfl
theorem q4316 : (Jvm.Cond.methodLink "ModuleEngineModel" (1136 : Nat) ({ cls := "ModuleEngineModel", name := "push", desc := "(J)V" } : Jvm.MethodName)) ∈ lw_all := lw_g (lw_at lw_m17 117 rfl) rfl
theorem q4317 : (Jvm.Cond.privateMethod ({ cls := "ModuleEngineModel", name := "push", desc := "(J)V" } : Jvm.MethodName)) ∈ lw_tbl := lw_at lw_m17 118 rfl
theorem q4318 : (Jvm.Cond.instanceMethod ({ cls := "ModuleEngineModel", name := "push", desc := "(J)V" } : Jvm.MethodName)) ∈ lw_all := lw_g (lw_at lw_m17 119 rfl) rfl
theorem q4319 : (Jvm.Cond.code ({ cls := "ModuleEngineModel", name := "push", desc := "(J)V" } : Jvm.MethodName) prog_20_method_170_code (3 : Nat) (Option.none : Option Jvm.ClassFile.FieldType)) ∈ lw_all := lw_g (lw_at lw_m17 120 rfl) rfl
theorem q4320 : (Jvm.Cond.methodLink "ModuleEngineModel" (1142 : Nat) ({ cls := "ModuleEngineModel", name := "turns", desc := "(II)V" } : Jvm.MethodName)) ∈ lw_all := lw_g (lw_at lw_m17 121 rfl) rfl
theorem q4321 : (Jvm.Cond.privateMethod ({ cls := "ModuleEngineModel", name := "turns", desc := "(II)V" } : Jvm.MethodName)) ∈ lw_tbl := lw_at lw_m17 122 rfl
theorem q4322 : (Jvm.Cond.instanceMethod ({ cls := "ModuleEngineModel", name := "turns", desc := "(II)V" } : Jvm.MethodName)) ∈ lw_all := lw_g (lw_at lw_m17 123 rfl) rfl
theorem q4323 : (Jvm.Cond.code ({ cls := "ModuleEngineModel", name := "turns", desc := "(II)V" } : Jvm.MethodName) prog_20_method_177_code (20 : Nat) (Option.none : Option Jvm.ClassFile.FieldType)) ∈ lw_all := lw_g (lw_at lw_m17 124 rfl) rfl
theorem q4324 : (Jvm.Cond.methodLink "ModuleEngineModel" (1167 : Nat) ({ cls := "ModuleEngineModel", name := "opensIf", desc := "(I)V" } : Jvm.MethodName)) ∈ lw_all := lw_g (lw_at lw_m17 125 rfl) rfl
theorem q4325 : (Jvm.Cond.privateMethod ({ cls := "ModuleEngineModel", name := "opensIf", desc := "(I)V" } : Jvm.MethodName)) ∈ lw_tbl := lw_at lw_m17 126 rfl
theorem q4326 : (Jvm.Cond.instanceMethod ({ cls := "ModuleEngineModel", name := "opensIf", desc := "(I)V" } : Jvm.MethodName)) ∈ lw_all := lw_g (lw_at lw_m17 127 rfl) rfl
theorem q4327 : (Jvm.Cond.code ({ cls := "ModuleEngineModel", name := "opensIf", desc := "(I)V" } : Jvm.MethodName) prog_20_method_178_code (5 : Nat) (Option.none : Option Jvm.ClassFile.FieldType)) ∈ lw_all := lw_g (lw_at lw_m17 128 rfl) rfl
theorem q4328 : (Jvm.Cond.methodLink "ModuleEngineModel" (1170 : Nat) ({ cls := "ModuleEngineModel", name := "branches", desc := "(I)V" } : Jvm.MethodName)) ∈ lw_all := lw_g (lw_at lw_m17 129 rfl) rfl
theorem q4329 : (Jvm.Cond.privateMethod ({ cls := "ModuleEngineModel", name := "branches", desc := "(I)V" } : Jvm.MethodName)) ∈ lw_tbl := lw_at lw_m17 130 rfl
theorem q4330 : (Jvm.Cond.instanceMethod ({ cls := "ModuleEngineModel", name := "branches", desc := "(I)V" } : Jvm.MethodName)) ∈ lw_all := lw_g (lw_at lw_m17 131 rfl) rfl
theorem q4331 : (Jvm.Cond.code ({ cls := "ModuleEngineModel", name := "branches", desc := "(I)V" } : Jvm.MethodName) prog_20_method_176_code (6 : Nat) (Option.none : Option Jvm.ClassFile.FieldType)) ∈ lw_all := lw_g (lw_at lw_m17 132 rfl) rfl
theorem q4332 : (Jvm.Cond.methodLink "ModuleEngineModel" (1173 : Nat) ({ cls := "ModuleEngineModel", name := "invokes", desc := "(I)V" } : Jvm.MethodName)) ∈ lw_all := lw_g (lw_at lw_m17 133 rfl) rfl
theorem q4333 : (Jvm.Cond.privateMethod ({ cls := "ModuleEngineModel", name := "invokes", desc := "(I)V" } : Jvm.MethodName)) ∈ lw_tbl := lw_at lw_m17 134 rfl
theorem q4334 : (Jvm.Cond.instanceMethod ({ cls := "ModuleEngineModel", name := "invokes", desc := "(I)V" } : Jvm.MethodName)) ∈ lw_all := lw_g (lw_at lw_m17 135 rfl) rfl
theorem q4335 : (Jvm.Cond.code ({ cls := "ModuleEngineModel", name := "invokes", desc := "(I)V" } : Jvm.MethodName) prog_20_method_179_code (4 : Nat) (Option.none : Option Jvm.ClassFile.FieldType)) ∈ lw_all := lw_g (lw_at lw_m17 136 rfl) rfl
theorem q4336 : (Jvm.Cond.methodLink "ModuleEngineModel" (1176 : Nat) ({ cls := "ModuleEngineModel", name := "invokesEntry", desc := "()V" } : Jvm.MethodName)) ∈ lw_all := lw_g (lw_at lw_m17 137 rfl) rfl
theorem q4337 : (Jvm.Cond.privateMethod ({ cls := "ModuleEngineModel", name := "invokesEntry", desc := "()V" } : Jvm.MethodName)) ∈ lw_tbl := lw_at lw_m17 138 rfl
theorem q4338 : (Jvm.Cond.instanceMethod ({ cls := "ModuleEngineModel", name := "invokesEntry", desc := "()V" } : Jvm.MethodName)) ∈ lw_all := lw_g (lw_at lw_m17 139 rfl) rfl
theorem q4339 : (Jvm.Cond.code ({ cls := "ModuleEngineModel", name := "invokesEntry", desc := "()V" } : Jvm.MethodName) prog_20_method_180_code (6 : Nat) (Option.none : Option Jvm.ClassFile.FieldType)) ∈ lw_all := lw_g (lw_at lw_m17 140 rfl) rfl
theorem q4340 : (Jvm.Cond.methodLink "ModuleEngineModel" (1145 : Nat) ({ cls := "ModuleEngineModel", name := "moves", desc := "(I)V" } : Jvm.MethodName)) ∈ lw_all := lw_g (lw_at lw_m17 141 rfl) rfl
theorem q4341 : (Jvm.Cond.privateMethod ({ cls := "ModuleEngineModel", name := "moves", desc := "(I)V" } : Jvm.MethodName)) ∈ lw_tbl := lw_at lw_m17 142 rfl
theorem q4342 : (Jvm.Cond.instanceMethod ({ cls := "ModuleEngineModel", name := "moves", desc := "(I)V" } : Jvm.MethodName)) ∈ lw_all := lw_g (lw_at lw_m17 143 rfl) rfl
theorem q4343 : (Jvm.Cond.code ({ cls := "ModuleEngineModel", name := "moves", desc := "(I)V" } : Jvm.MethodName) prog_20_method_181_code (4 : Nat) (Option.none : Option Jvm.ClassFile.FieldType)) ∈ lw_all := lw_g (lw_at lw_m17 144 rfl) rfl
theorem q4344 : (Jvm.Cond.methodLink "ModuleEngineModel" (1179 : Nat) ({ cls := "ModuleEngineModel", name := "entry", desc := "(II)V" } : Jvm.MethodName)) ∈ lw_all := lw_g (lw_at lw_m17 145 rfl) rfl
theorem q4345 : (Jvm.Cond.privateMethod ({ cls := "ModuleEngineModel", name := "entry", desc := "(II)V" } : Jvm.MethodName)) ∈ lw_tbl := lw_at lw_m17 146 rfl
theorem q4346 : (Jvm.Cond.instanceMethod ({ cls := "ModuleEngineModel", name := "entry", desc := "(II)V" } : Jvm.MethodName)) ∈ lw_all := lw_g (lw_at lw_m17 147 rfl) rfl
theorem q4347 : (Jvm.Cond.code ({ cls := "ModuleEngineModel", name := "entry", desc := "(II)V" } : Jvm.MethodName) prog_20_method_182_code (7 : Nat) (Option.none : Option Jvm.ClassFile.FieldType)) ∈ lw_all := lw_g (lw_at lw_m17 148 rfl) rfl
theorem q4348 : (Jvm.Cond.methodLink "ModuleEngineModel" (1148 : Nat) ({ cls := "ModuleEngineModel", name := "accesses1", desc := "(I)V" } : Jvm.MethodName)) ∈ lw_all := lw_g (lw_at lw_m17 149 rfl) rfl
theorem q4349 : (Jvm.Cond.privateMethod ({ cls := "ModuleEngineModel", name := "accesses1", desc := "(I)V" } : Jvm.MethodName)) ∈ lw_tbl := lw_at lw_m17 150 rfl
theorem q4350 : (Jvm.Cond.instanceMethod ({ cls := "ModuleEngineModel", name := "accesses1", desc := "(I)V" } : Jvm.MethodName)) ∈ lw_all := lw_g (lw_at lw_m17 151 rfl) rfl
theorem q4351 : (Jvm.Cond.code ({ cls := "ModuleEngineModel", name := "accesses1", desc := "(I)V" } : Jvm.MethodName) prog_20_method_183_code (13 : Nat) (Option.none : Option Jvm.ClassFile.FieldType)) ∈ lw_all := lw_g (lw_at lw_m17 152 rfl) rfl
theorem q4352 : (Jvm.Cond.methodLink "ModuleEngineModel" (1182 : Nat) ({ cls := "ModuleEngineModel", name := "gets", desc := "(IJ)J" } : Jvm.MethodName)) ∈ lw_all := lw_g (lw_at lw_m17 153 rfl) rfl
theorem q4353 : (Jvm.Cond.privateMethod ({ cls := "ModuleEngineModel", name := "gets", desc := "(IJ)J" } : Jvm.MethodName)) ∈ lw_tbl := lw_at lw_m17 154 rfl
theorem q4354 : (Jvm.Cond.instanceMethod ({ cls := "ModuleEngineModel", name := "gets", desc := "(IJ)J" } : Jvm.MethodName)) ∈ lw_all := lw_g (lw_at lw_m17 155 rfl) rfl
theorem q4355 : (Jvm.Cond.code ({ cls := "ModuleEngineModel", name := "gets", desc := "(IJ)J" } : Jvm.MethodName) prog_20_method_152_code (4 : Nat) (Option.some Jvm.ClassFile.FieldType.long)) ∈ lw_all := lw_g (lw_at lw_m17 156 rfl) rfl
theorem q4356 : (Jvm.Cond.methodLink "ModuleEngineModel" (1151 : Nat) ({ cls := "ModuleEngineModel", name := "furtherStep", desc := "()V" } : Jvm.MethodName)) ∈ lw_all := lw_g (lw_at lw_m17 157 rfl) rfl
theorem q4357 : (Jvm.Cond.privateMethod ({ cls := "ModuleEngineModel", name := "furtherStep", desc := "()V" } : Jvm.MethodName)) ∈ lw_tbl := lw_at lw_m17 158 rfl
theorem q4358 : (Jvm.Cond.instanceMethod ({ cls := "ModuleEngineModel", name := "furtherStep", desc := "()V" } : Jvm.MethodName)) ∈ lw_all := lw_g (lw_at lw_m17 159 rfl) rfl
theorem q4359 : (Jvm.Cond.code ({ cls := "ModuleEngineModel", name := "furtherStep", desc := "()V" } : Jvm.MethodName) prog_20_method_184_code (4 : Nat) (Option.none : Option Jvm.ClassFile.FieldType)) ∈ lw_all := lw_g (lw_at lw_m17 160 rfl) rfl
theorem q4360 : (Jvm.Cond.methodLink "ModuleEngineModel" (1185 : Nat) ({ cls := "ModuleEngineModel", name := "stretches", desc := "(II)V" } : Jvm.MethodName)) ∈ lw_all := lw_g (lw_at lw_m17 161 rfl) rfl
theorem q4361 : (Jvm.Cond.privateMethod ({ cls := "ModuleEngineModel", name := "stretches", desc := "(II)V" } : Jvm.MethodName)) ∈ lw_tbl := lw_at lw_m17 162 rfl
theorem q4362 : (Jvm.Cond.instanceMethod ({ cls := "ModuleEngineModel", name := "stretches", desc := "(II)V" } : Jvm.MethodName)) ∈ lw_all := lw_g (lw_at lw_m17 163 rfl) rfl
theorem q4363 : (Jvm.Cond.code ({ cls := "ModuleEngineModel", name := "stretches", desc := "(II)V" } : Jvm.MethodName) prog_20_method_185_code (17 : Nat) (Option.none : Option Jvm.ClassFile.FieldType)) ∈ lw_all := lw_g (lw_at lw_m17 164 rfl) rfl
theorem q4364 : (Jvm.Cond.methodLink "ModuleEngineModel" (1188 : Nat) ({ cls := "ModuleEngineModel", name := "tablesStep", desc := "(III)V" } : Jvm.MethodName)) ∈ lw_all := lw_g (lw_at lw_m17 165 rfl) rfl
theorem q4365 : (Jvm.Cond.privateMethod ({ cls := "ModuleEngineModel", name := "tablesStep", desc := "(III)V" } : Jvm.MethodName)) ∈ lw_tbl := lw_at lw_m17 166 rfl
theorem q4366 : (Jvm.Cond.instanceMethod ({ cls := "ModuleEngineModel", name := "tablesStep", desc := "(III)V" } : Jvm.MethodName)) ∈ lw_all := lw_g (lw_at lw_m17 167 rfl) rfl
theorem q4367 : (Jvm.Cond.code ({ cls := "ModuleEngineModel", name := "tablesStep", desc := "(III)V" } : Jvm.MethodName) prog_20_method_186_code (16 : Nat) (Option.none : Option Jvm.ClassFile.FieldType)) ∈ lw_all := lw_g (lw_at lw_m17 168 rfl) rfl
theorem q4368 : (Jvm.Cond.methodLink "ModuleEngineModel" (1154 : Nat) ({ cls := "ModuleEngineModel", name := "others", desc := "(I)V" } : Jvm.MethodName)) ∈ lw_all := lw_g (lw_at lw_m17 169 rfl) rfl
theorem q4369 : (Jvm.Cond.privateMethod ({ cls := "ModuleEngineModel", name := "others", desc := "(I)V" } : Jvm.MethodName)) ∈ lw_tbl := lw_at lw_m17 170 rfl
theorem q4370 : (Jvm.Cond.instanceMethod ({ cls := "ModuleEngineModel", name := "others", desc := "(I)V" } : Jvm.MethodName)) ∈ lw_all := lw_g (lw_at lw_m17 171 rfl) rfl
theorem q4371 : (Jvm.Cond.code ({ cls := "ModuleEngineModel", name := "others", desc := "(I)V" } : Jvm.MethodName) prog_20_method_175_code (9 : Nat) (Option.none : Option Jvm.ClassFile.FieldType)) ∈ lw_all := lw_g (lw_at lw_m17 172 rfl) rfl
theorem q4373 : (Jvm.Cond.instanceMethod ({ cls := "ModuleEngineModel", name := "give", desc := "()Z" } : Jvm.MethodName)) ∈ lw_all := lw_g (lw_at lw_m17 174 rfl) rfl
theorem q4374 : (Jvm.Cond.selects "ModuleEngineModel" ({ cls := "ModuleEngineModel", name := "give", desc := "()Z" } : Jvm.MethodName) ({ cls := "ModuleEngineModel", name := "give", desc := "()Z" } : Jvm.MethodName)) ∈ lw_all := lw_g (lw_at lw_m17 175 rfl) rfl
theorem q4375 : (Jvm.Cond.code ({ cls := "ModuleEngineModel", name := "give", desc := "()Z" } : Jvm.MethodName) prog_20_method_168_code (1 : Nat) (Option.some Jvm.ClassFile.FieldType.boolean)) ∈ lw_all := lw_g (lw_at lw_m17 176 rfl) rfl
theorem q4377 : (Jvm.Cond.instanceMethod ({ cls := "ModuleEngineModel", name := "answer", desc := "()Z" } : Jvm.MethodName)) ∈ lw_all := lw_g (lw_at lw_m17 178 rfl) rfl
theorem q4378 : (Jvm.Cond.selects "ModuleEngineModel" ({ cls := "ModuleEngineModel", name := "answer", desc := "()Z" } : Jvm.MethodName) ({ cls := "ModuleEngineModel", name := "answer", desc := "()Z" } : Jvm.MethodName)) ∈ lw_all := lw_g (lw_at lw_m17 179 rfl) rfl
theorem q4379 : (Jvm.Cond.code ({ cls := "ModuleEngineModel", name := "answer", desc := "()Z" } : Jvm.MethodName) prog_20_method_169_code (6 : Nat) (Option.some Jvm.ClassFile.FieldType.boolean)) ∈ lw_all := lw_g (lw_at lw_m17 180 rfl) rfl
theorem q4381 : (Jvm.Cond.instanceMethod ({ cls := "ModuleEngineModel", name := "state", desc := "(I)I" } : Jvm.MethodName)) ∈ lw_all := lw_g (lw_at lw_m17 182 rfl) rfl
theorem q4382 : (Jvm.Cond.selects "ModuleEngineModel" ({ cls := "ModuleEngineModel", name := "state", desc := "(I)I" } : Jvm.MethodName) ({ cls := "ModuleEngineModel", name := "state", desc := "(I)I" } : Jvm.MethodName)) ∈ lw_all := lw_g (lw_at lw_m17 183 rfl) rfl
theorem q4383 : (Jvm.Cond.code ({ cls := "ModuleEngineModel", name := "state", desc := "(I)I" } : Jvm.MethodName) prog_20_method_187_code (2 : Nat) (Option.some Jvm.ClassFile.FieldType.int)) ∈ lw_all := lw_g (lw_at lw_m17 184 rfl) rfl
theorem q4385 : (Jvm.Cond.instanceMethod ({ cls := "ModuleEngineModel", name := "value", desc := "(I)J" } : Jvm.MethodName)) ∈ lw_all := lw_g (lw_at lw_m17 186 rfl) rfl
theorem q4386 : (Jvm.Cond.selects "ModuleEngineModel" ({ cls := "ModuleEngineModel", name := "value", desc := "(I)J" } : Jvm.MethodName) ({ cls := "ModuleEngineModel", name := "value", desc := "(I)J" } : Jvm.MethodName)) ∈ lw_all := lw_g (lw_at lw_m17 187 rfl) rfl
theorem q4387 : (Jvm.Cond.code ({ cls := "ModuleEngineModel", name := "value", desc := "(I)J" } : Jvm.MethodName) prog_20_method_188_code (2 : Nat) (Option.some Jvm.ClassFile.FieldType.long)) ∈ lw_all := lw_g (lw_at lw_m17 188 rfl) rfl
theorem q4389 : (Jvm.Cond.instanceMethod ({ cls := "ModuleEngineModel", name := "tier", desc := "(I)I" } : Jvm.MethodName)) ∈ lw_all := lw_g (lw_at lw_m17 190 rfl) rfl
theorem q4390 : (Jvm.Cond.selects "ModuleEngineModel" ({ cls := "ModuleEngineModel", name := "tier", desc := "(I)I" } : Jvm.MethodName) ({ cls := "ModuleEngineModel", name := "tier", desc := "(I)I" } : Jvm.MethodName)) ∈ lw_all := lw_g (lw_at lw_m17 191 rfl) rfl
theorem q4391 : (Jvm.Cond.code ({ cls := "ModuleEngineModel", name := "tier", desc := "(I)I" } : Jvm.MethodName) prog_20_method_189_code (3 : Nat) (Option.some Jvm.ClassFile.FieldType.int)) ∈ lw_all := lw_g (lw_at lw_m17 192 rfl) rfl
theorem q4393 : (Jvm.Cond.instanceMethod ({ cls := "ModuleEngineModel", name := "export", desc := "(III)I" } : Jvm.MethodName)) ∈ lw_all := lw_g (lw_at lw_m17 194 rfl) rfl
theorem q4394 : (Jvm.Cond.selects "ModuleEngineModel" ({ cls := "ModuleEngineModel", name := "export", desc := "(III)I" } : Jvm.MethodName) ({ cls := "ModuleEngineModel", name := "export", desc := "(III)I" } : Jvm.MethodName)) ∈ lw_all := lw_g (lw_at lw_m17 195 rfl) rfl
theorem q4395 : (Jvm.Cond.code ({ cls := "ModuleEngineModel", name := "export", desc := "(III)I" } : Jvm.MethodName) prog_20_method_190_code (6 : Nat) (Option.some Jvm.ClassFile.FieldType.int)) ∈ lw_all := lw_g (lw_at lw_m17 196 rfl) rfl
theorem q4397 : (Jvm.Cond.instanceMethod ({ cls := "ModuleEngineModel", name := "memory", desc := "(III)I" } : Jvm.MethodName)) ∈ lw_all := lw_g (lw_at lw_m17 198 rfl) rfl
theorem q4398 : (Jvm.Cond.selects "ModuleEngineModel" ({ cls := "ModuleEngineModel", name := "memory", desc := "(III)I" } : Jvm.MethodName) ({ cls := "ModuleEngineModel", name := "memory", desc := "(III)I" } : Jvm.MethodName)) ∈ lw_all := lw_g (lw_at lw_m17 199 rfl) rfl
theorem q4399 : (Jvm.Cond.code ({ cls := "ModuleEngineModel", name := "memory", desc := "(III)I" } : Jvm.MethodName) prog_20_method_191_code (7 : Nat) (Option.some Jvm.ClassFile.FieldType.int)) ∈ lw_all := lw_g (lw_at lw_m17 200 rfl) rfl
theorem q4401 : (Jvm.Cond.instanceMethod ({ cls := "ModuleEngineModel", name := "poke", desc := "(IIII)Z" } : Jvm.MethodName)) ∈ lw_all := lw_g (lw_at lw_m17 202 rfl) rfl
theorem q4402 : (Jvm.Cond.selects "ModuleEngineModel" ({ cls := "ModuleEngineModel", name := "poke", desc := "(IIII)Z" } : Jvm.MethodName) ({ cls := "ModuleEngineModel", name := "poke", desc := "(IIII)Z" } : Jvm.MethodName)) ∈ lw_all := lw_g (lw_at lw_m17 203 rfl) rfl
theorem q4403 : (Jvm.Cond.code ({ cls := "ModuleEngineModel", name := "poke", desc := "(IIII)Z" } : Jvm.MethodName) prog_20_method_192_code (8 : Nat) (Option.some Jvm.ClassFile.FieldType.boolean)) ∈ lw_all := lw_g (lw_at lw_m17 204 rfl) rfl
theorem q4405 : (Jvm.Cond.instanceMethod ({ cls := "ModuleEngineModel", name := "table", desc := "(III)I" } : Jvm.MethodName)) ∈ lw_all := lw_g (lw_at lw_m17 206 rfl) rfl
theorem q4406 : (Jvm.Cond.selects "ModuleEngineModel" ({ cls := "ModuleEngineModel", name := "table", desc := "(III)I" } : Jvm.MethodName) ({ cls := "ModuleEngineModel", name := "table", desc := "(III)I" } : Jvm.MethodName)) ∈ lw_all := lw_g (lw_at lw_m17 207 rfl) rfl
theorem q4407 : (Jvm.Cond.code ({ cls := "ModuleEngineModel", name := "table", desc := "(III)I" } : Jvm.MethodName) prog_20_method_193_code (5 : Nat) (Option.some Jvm.ClassFile.FieldType.int)) ∈ lw_all := lw_g (lw_at lw_m17 208 rfl) rfl
theorem q4409 : (Jvm.Cond.instanceMethod ({ cls := "ModuleEngineModel", name := "global", desc := "(II)J" } : Jvm.MethodName)) ∈ lw_all := lw_g (lw_at lw_m17 210 rfl) rfl
theorem q4410 : (Jvm.Cond.selects "ModuleEngineModel" ({ cls := "ModuleEngineModel", name := "global", desc := "(II)J" } : Jvm.MethodName) ({ cls := "ModuleEngineModel", name := "global", desc := "(II)J" } : Jvm.MethodName)) ∈ lw_all := lw_g (lw_at lw_m17 211 rfl) rfl
theorem q4411 : (Jvm.Cond.code ({ cls := "ModuleEngineModel", name := "global", desc := "(II)J" } : Jvm.MethodName) prog_20_method_194_code (4 : Nat) (Option.some Jvm.ClassFile.FieldType.long)) ∈ lw_all := lw_g (lw_at lw_m17 212 rfl) rfl
theorem in_X17 : ∀ w ∈ wsX170, w ∈ lw_all := lw_in wsX170 [3137, 3139, 3141, 3143, 3145, 3147, 3149, 3151, 3153, 3155, 3157, 3159, 3161, 3163, 3165, 3167, 3169, 3171, 3173, 3175, 3177, 3179, 3181, 3183, 3185, 3187, 3189, 3191, 3193, 3195, 3197, 3199, 3201, 3203, 3205, 3207, 3209, 3211, 3213, 3215, 3217, 3219, 3221, 3223, 3225, 3227, 3229, 3231, 3233, 3235, 3237, 3239, 3241, 3243, 3245, 3247, 3249, 3251, 3253, 3255, 3257, 3259, 3261, 3263, 3265, 3267, 3269, 3271, 3273, 3275, 3277, 3279, 3281, 3283, 3285, 3287, 3289, 3291, 3293, 3295, 3297, 3299, 3301, 3303, 3305, 3307, 3309, 3311, 3313, 3315, 3317, 3319, 3321, 3323, 3325, 3327, 3329, 3331, 3333, 3335, 3337] (by decide +kernel) (by decide +kernel)

/-! ModuleEngineModel$Fault -/
set_option maxRecDepth 100000
def RX18 : String := "ModuleEngineModel$Fault"
def TX18 : u_T := fun k => match k with
  | 0 => ("java/lang/Throwable", "cause", "Ljava/lang/Throwable;", false)
  | 1 => ("java/lang/Throwable", "stackTrace", "[Ljava/lang/StackTraceElement;", false)
  | 2 => ("java/lang/Throwable", "suppressedExceptions", "Ljava/util/List;", false)
  | 3 => ("java/lang/Throwable", "detailMessage", "Ljava/lang/String;", false)
  | 4 => ("java/lang/Throwable", "backtrace", "Ljava/lang/Object;", false)
  | _ => ("java/lang/Throwable", "depth", "I", false)
def tyX18 : Nat → FieldType := fun k => match k with
  | 0 => .object "java/lang/Throwable"
  | 1 => .array (.object "java/lang/StackTraceElement")
  | 2 => .object "java/util/List"
  | 3 => .object "java/lang/String"
  | 4 => .object "java/lang/Object"
  | _ => .int
abbrev wsX180 : List Cond := u_ws RX18 TX18 6
theorem nmX18 : ∀ a, a < 6 → ∀ b, b < 6 → a ≠ b → (TX18 a).2.1 ≠ (TX18 b).2.1 := by decide +kernel
theorem tyX18_ok : ∀ k, k < 6 → parseFieldDescriptor (TX18 k).2.2.1 = some (tyX18 k) := by decide +kernel
abbrev cX18_init : ByteArray := prog_21_method_1_code
def yX18_init : MethodName := ⟨RX18, "<init>", "()V"⟩
theorem q381 : (Jvm.Cond.initialized "ModuleEngineModel$Fault") ∈ lw_all := lw_g (lw_at lw_m1 22 rfl) rfl
theorem q1329 : (Jvm.Cond.selects "ModuleEngineModel$Fault" ({ cls := "java/lang/Throwable", name := "fillInStackTrace", desc := "()Ljava/lang/Throwable;" } : Jvm.MethodName) ({ cls := "java/lang/Throwable", name := "fillInStackTrace", desc := "()Ljava/lang/Throwable;" } : Jvm.MethodName)) ∈ lw_all := lw_g (lw_at lw_m5 10 rfl) rfl
theorem q2995 : (Jvm.Cond.instantiable "ModuleEngineModel$Fault" (6 : Nat)) ∈ lw_all := lw_g (lw_at lw_m11 236 rfl) rfl
theorem q2996 : (Jvm.Cond.castable "ModuleEngineModel$Fault" "ModuleEngineModel$Fault") ∈ lw_tbl := lw_at lw_m11 237 rfl
theorem q2997 : (Jvm.Cond.selects "ModuleEngineModel$Fault" ({ cls := "java/lang/Throwable", name := "fillInStackTrace", desc := "(I)Ljava/lang/Throwable;" } : Jvm.MethodName) ({ cls := "java/lang/Throwable", name := "fillInStackTrace", desc := "(I)Ljava/lang/Throwable;" } : Jvm.MethodName)) ∈ lw_all := lw_g (lw_at lw_m11 238 rfl) rfl
theorem q2998 : (Jvm.Cond.lays "ModuleEngineModel$Fault" "java/lang/Throwable" "cause" "Ljava/lang/Throwable;") ∈ lw_all := lw_g (lw_at lw_m11 239 rfl) rfl
theorem q2999 : (Jvm.Cond.lays "ModuleEngineModel$Fault" "java/lang/Throwable" "stackTrace" "[Ljava/lang/StackTraceElement;") ∈ lw_all := lw_g (lw_at lw_m12 0 rfl) rfl
theorem q3000 : (Jvm.Cond.lays "ModuleEngineModel$Fault" "java/lang/Throwable" "suppressedExceptions" "Ljava/util/List;") ∈ lw_all := lw_g (lw_at lw_m12 1 rfl) rfl
theorem q3001 : (Jvm.Cond.lays "ModuleEngineModel$Fault" "java/lang/Throwable" "detailMessage" "Ljava/lang/String;") ∈ lw_all := lw_g (lw_at lw_m12 2 rfl) rfl
theorem q3002 : (Jvm.Cond.lays "ModuleEngineModel$Fault" "java/lang/Throwable" "backtrace" "Ljava/lang/Object;") ∈ lw_all := lw_g (lw_at lw_m12 3 rfl) rfl
theorem q3004 : (Jvm.Cond.instanceMethod ({ cls := "ModuleEngineModel$Fault", name := "<init>", desc := "()V" } : Jvm.MethodName)) ∈ lw_all := lw_g (lw_at lw_m12 5 rfl) rfl
theorem q3005 : (Jvm.Cond.code ({ cls := "ModuleEngineModel$Fault", name := "<init>", desc := "()V" } : Jvm.MethodName) prog_21_method_1_code (1 : Nat) (Option.none : Option Jvm.ClassFile.FieldType)) ∈ lw_all := lw_g (lw_at lw_m12 6 rfl) rfl
theorem q3006 : (Jvm.Cond.methodLink "ModuleEngineModel$Fault" (1 : Nat) ({ cls := "java/lang/RuntimeException", name := "<init>", desc := "()V" } : Jvm.MethodName)) ∈ lw_all := lw_g (lw_at lw_m12 7 rfl) rfl
theorem q3007 : (Jvm.Cond.lays "ModuleEngineModel$Fault" "java/lang/Throwable" "depth" "I") ∈ lw_all := lw_g (lw_at lw_m12 8 rfl) rfl
theorem q3008 : (Jvm.Cond.superclass "ModuleEngineModel$Fault" "java/lang/RuntimeException") ∈ lw_all := lw_g (lw_at lw_m12 9 rfl) rfl
theorem in_X18 : ∀ w ∈ wsX180, w ∈ lw_all := lw_in wsX180 [2998, 2999, 3000, 3001, 3002, 3007] (by decide +kernel) (by decide +kernel)

/-! ModuleEngineModel$Real -/
set_option maxRecDepth 100000
def RX19 : String := "ModuleEngineModel$Real"
def TX19 : u_T := fun k => match k with
  | 0 => ("ModuleEngineModel$Real", "negative", "Z", false)
  | 1 => ("ModuleEngineModel$Real", "sort", "I", false)
  | 2 => ("ModuleEngineModel$Real", "whole", "J", false)
  | _ => ("ModuleEngineModel$Real", "power", "I", false)
def tyX19 : Nat → FieldType := fun k => match k with
  | 0 => .boolean
  | 1 => .int
  | 2 => .long
  | _ => .int
abbrev wsX190 : List Cond := u_ws RX19 TX19 4
theorem nmX19 : ∀ a, a < 4 → ∀ b, b < 4 → a ≠ b → (TX19 a).2.1 ≠ (TX19 b).2.1 := by decide +kernel
theorem tyX19_ok : ∀ k, k < 4 → parseFieldDescriptor (TX19 k).2.2.1 = some (tyX19 k) := by decide +kernel
abbrev cX19_init : ByteArray := prog_23_method_1_code
def yX19_init : MethodName := ⟨RX19, "<init>", "()V"⟩
abbrev cX19_read : ByteArray := prog_23_method_2_code
def yX19_read : MethodName := ⟨RX19, "read", "(IJ)V"⟩
theorem q382 : (Jvm.Cond.initialized "ModuleEngineModel$Real") ∈ lw_all := lw_g (lw_at lw_m1 23 rfl) rfl
theorem q3011 : (Jvm.Cond.instantiable "ModuleEngineModel$Real" (4 : Nat)) ∈ lw_all := lw_g (lw_at lw_m12 12 rfl) rfl
theorem q3013 : (Jvm.Cond.instanceMethod ({ cls := "ModuleEngineModel$Real", name := "<init>", desc := "()V" } : Jvm.MethodName)) ∈ lw_all := lw_g (lw_at lw_m12 14 rfl) rfl
theorem q3014 : (Jvm.Cond.code ({ cls := "ModuleEngineModel$Real", name := "<init>", desc := "()V" } : Jvm.MethodName) prog_23_method_1_code (1 : Nat) (Option.none : Option Jvm.ClassFile.FieldType)) ∈ lw_all := lw_g (lw_at lw_m12 15 rfl) rfl
theorem q3015 : (Jvm.Cond.methodLink "ModuleEngineModel$Real" (1 : Nat) ({ cls := "java/lang/Object", name := "<init>", desc := "()V" } : Jvm.MethodName)) ∈ lw_all := lw_g (lw_at lw_m12 16 rfl) rfl
theorem q3016 : (Jvm.Cond.fieldLink "ModuleEngineModel$Real" (7 : Nat) "ModuleEngineModel$Real" "negative" "Z") ∈ lw_all := lw_g (lw_at lw_m12 17 rfl) rfl
theorem q3018 : (Jvm.Cond.fieldLink "ModuleEngineModel$Real" (13 : Nat) "ModuleEngineModel$Real" "sort" "I") ∈ lw_all := lw_g (lw_at lw_m12 19 rfl) rfl
theorem q3020 : (Jvm.Cond.fieldLink "ModuleEngineModel$Real" (17 : Nat) "ModuleEngineModel$Real" "whole" "J") ∈ lw_all := lw_g (lw_at lw_m12 21 rfl) rfl
theorem q3022 : (Jvm.Cond.fieldLink "ModuleEngineModel$Real" (21 : Nat) "ModuleEngineModel$Real" "power" "I") ∈ lw_all := lw_g (lw_at lw_m12 23 rfl) rfl
theorem q3024 : (Jvm.Cond.lays "ModuleEngineModel$Real" "ModuleEngineModel$Real" "negative" "Z") ∈ lw_all := lw_g (lw_at lw_m12 25 rfl) rfl
theorem q3025 : (Jvm.Cond.soleField "ModuleEngineModel$Real" "negative") ∈ lw_all := lw_g (lw_at lw_m12 26 rfl) rfl
theorem q3026 : (Jvm.Cond.lays "ModuleEngineModel$Real" "ModuleEngineModel$Real" "sort" "I") ∈ lw_all := lw_g (lw_at lw_m12 27 rfl) rfl
theorem q3027 : (Jvm.Cond.soleField "ModuleEngineModel$Real" "sort") ∈ lw_all := lw_g (lw_at lw_m12 28 rfl) rfl
theorem q3028 : (Jvm.Cond.lays "ModuleEngineModel$Real" "ModuleEngineModel$Real" "whole" "J") ∈ lw_all := lw_g (lw_at lw_m12 29 rfl) rfl
theorem q3029 : (Jvm.Cond.soleField "ModuleEngineModel$Real" "whole") ∈ lw_all := lw_g (lw_at lw_m12 30 rfl) rfl
theorem q3030 : (Jvm.Cond.lays "ModuleEngineModel$Real" "ModuleEngineModel$Real" "power" "I") ∈ lw_all := lw_g (lw_at lw_m12 31 rfl) rfl
theorem q3031 : (Jvm.Cond.soleField "ModuleEngineModel$Real" "power") ∈ lw_all := lw_g (lw_at lw_m12 32 rfl) rfl
theorem q3032 : (Jvm.Cond.superclass "ModuleEngineModel$Real" "java/lang/Object") ∈ lw_all := lw_g (lw_at lw_m12 33 rfl) rfl
theorem q4200 : (Jvm.Cond.instanceMethod ({ cls := "ModuleEngineModel$Real", name := "read", desc := "(IJ)V" } : Jvm.MethodName)) ∈ lw_all := lw_g (lw_at lw_m17 1 rfl) rfl
theorem q4201 : (Jvm.Cond.selects "ModuleEngineModel$Real" ({ cls := "ModuleEngineModel$Real", name := "read", desc := "(IJ)V" } : Jvm.MethodName) ({ cls := "ModuleEngineModel$Real", name := "read", desc := "(IJ)V" } : Jvm.MethodName)) ∈ lw_all := lw_g (lw_at lw_m17 2 rfl) rfl
theorem q4202 : (Jvm.Cond.code ({ cls := "ModuleEngineModel$Real", name := "read", desc := "(IJ)V" } : Jvm.MethodName) prog_23_method_2_code (9 : Nat) (Option.none : Option Jvm.ClassFile.FieldType)) ∈ lw_all := lw_g (lw_at lw_m17 3 rfl) rfl
theorem in_X19 : ∀ w ∈ wsX190, w ∈ lw_all := lw_in wsX190 [3024, 3026, 3028, 3030] (by decide +kernel) (by decide +kernel)

/-! ModuleEngineModel$Plan -/
set_option maxRecDepth 100000
def RX20 : String := "ModuleEngineModel$Plan"
def TX20 : u_T := fun k => match k with
  | 0 => ("ModuleEngineModel$Plan", "bytes", "[B", false)
  | 1 => ("ModuleEngineModel$Plan", "size", "I", false)
  | 2 => ("ModuleEngineModel$Plan", "section", "[I", true)
  | 3 => ("ModuleEngineModel$Plan", "limit", "I", false)
  | 4 => ("ModuleEngineModel$Plan", "types", "I", false)
  | 5 => ("ModuleEngineModel$Plan", "parameters", "[I", true)
  | 6 => ("ModuleEngineModel$Plan", "results", "[I", true)
  | 7 => ("ModuleEngineModel$Plan", "rows", "[I", true)
  | 8 => ("ModuleEngineModel$Plan", "imports", "I", false)
  | 9 => ("ModuleEngineModel$Plan", "importKind", "[I", true)
  | 10 => ("ModuleEngineModel$Plan", "importType", "[J", true)
  | 11 => ("ModuleEngineModel$Plan", "importLeast", "[J", true)
  | 12 => ("ModuleEngineModel$Plan", "importGreatest", "[J", true)
  | 13 => ("ModuleEngineModel$Plan", "importChanges", "[Z", true)
  | 14 => ("ModuleEngineModel$Plan", "functionRow", "J", false)
  | 15 => ("ModuleEngineModel$Plan", "functions", "I", false)
  | 16 => ("ModuleEngineModel$Plan", "functionType", "[J", true)
  | 17 => ("ModuleEngineModel$Plan", "tables", "I", false)
  | 18 => ("ModuleEngineModel$Plan", "tableType", "[I", true)
  | 19 => ("ModuleEngineModel$Plan", "tableLeast", "[J", true)
  | 20 => ("ModuleEngineModel$Plan", "tableGreatest", "[J", true)
  | 21 => ("ModuleEngineModel$Plan", "memories", "I", false)
  | 22 => ("ModuleEngineModel$Plan", "memoryLeast", "[J", true)
  | 23 => ("ModuleEngineModel$Plan", "memoryGreatest", "[J", true)
  | 24 => ("ModuleEngineModel$Plan", "globals", "I", false)
  | 25 => ("ModuleEngineModel$Plan", "globalType", "[I", true)
  | 26 => ("ModuleEngineModel$Plan", "globalChanges", "[Z", true)
  | 27 => ("ModuleEngineModel$Plan", "globalAt", "[I", true)
  | 28 => ("ModuleEngineModel$Plan", "exports", "I", false)
  | 29 => ("ModuleEngineModel$Plan", "exportName", "[I", true)
  | 30 => ("ModuleEngineModel$Plan", "exportNameSize", "[I", true)
  | 31 => ("ModuleEngineModel$Plan", "exportKind", "[I", true)
  | 32 => ("ModuleEngineModel$Plan", "exportOf", "[J", true)
  | 33 => ("ModuleEngineModel$Plan", "start", "J", false)
  | 34 => ("ModuleEngineModel$Plan", "elements", "I", false)
  | 35 => ("ModuleEngineModel$Plan", "elementMode", "[I", true)
  | 36 => ("ModuleEngineModel$Plan", "elementTable", "[J", true)
  | 37 => ("ModuleEngineModel$Plan", "elementPlace", "[I", true)
  | 38 => ("ModuleEngineModel$Plan", "elementType", "[I", true)
  | 39 => ("ModuleEngineModel$Plan", "elementOfExpressions", "[Z", true)
  | 40 => ("ModuleEngineModel$Plan", "elementItems", "[I", true)
  | 41 => ("ModuleEngineModel$Plan", "elementAt", "[I", true)
  | 42 => ("ModuleEngineModel$Plan", "dataTold", "J", false)
  | 43 => ("ModuleEngineModel$Plan", "dataRow", "J", false)
  | 44 => ("ModuleEngineModel$Plan", "datas", "I", false)
  | 45 => ("ModuleEngineModel$Plan", "dataActive", "[Z", true)
  | 46 => ("ModuleEngineModel$Plan", "dataMemory", "[J", true)
  | 47 => ("ModuleEngineModel$Plan", "dataPlace", "[I", true)
  | 48 => ("ModuleEngineModel$Plan", "dataAt", "[I", true)
  | 49 => ("ModuleEngineModel$Plan", "dataSize", "[I", true)
  | 50 => ("ModuleEngineModel$Plan", "bodyRow", "J", false)
  | 51 => ("ModuleEngineModel$Plan", "localsAt", "[I", true)
  | 52 => ("ModuleEngineModel$Plan", "locals", "[J", true)
  | 53 => ("ModuleEngineModel$Plan", "bodyAt", "[I", true)
  | 54 => ("ModuleEngineModel$Plan", "bodyEnd", "[I", true)
  | 55 => ("ModuleEngineModel$Plan", "operands", "[I", true)
  | 56 => ("ModuleEngineModel$Plan", "endOf", "[I", false)
  | _ => ("ModuleEngineModel$Plan", "elseOf", "[I", false)
def tyX20 : Nat → FieldType := fun k => match k with
  | 0 => .array .byte
  | 1 => .int
  | 2 => .array .int
  | 3 => .int
  | 4 => .int
  | 5 => .array .int
  | 6 => .array .int
  | 7 => .array .int
  | 8 => .int
  | 9 => .array .int
  | 10 => .array .long
  | 11 => .array .long
  | 12 => .array .long
  | 13 => .array .boolean
  | 14 => .long
  | 15 => .int
  | 16 => .array .long
  | 17 => .int
  | 18 => .array .int
  | 19 => .array .long
  | 20 => .array .long
  | 21 => .int
  | 22 => .array .long
  | 23 => .array .long
  | 24 => .int
  | 25 => .array .int
  | 26 => .array .boolean
  | 27 => .array .int
  | 28 => .int
  | 29 => .array .int
  | 30 => .array .int
  | 31 => .array .int
  | 32 => .array .long
  | 33 => .long
  | 34 => .int
  | 35 => .array .int
  | 36 => .array .long
  | 37 => .array .int
  | 38 => .array .int
  | 39 => .array .boolean
  | 40 => .array .int
  | 41 => .array .int
  | 42 => .long
  | 43 => .long
  | 44 => .int
  | 45 => .array .boolean
  | 46 => .array .long
  | 47 => .array .int
  | 48 => .array .int
  | 49 => .array .int
  | 50 => .long
  | 51 => .array .int
  | 52 => .array .long
  | 53 => .array .int
  | 54 => .array .int
  | 55 => .array .int
  | 56 => .array .int
  | _ => .array .int
abbrev wsX200 : List Cond := u_ws RX20 TX20 58
set_option maxRecDepth 100000 in
theorem nmX20 : ∀ a, a < 58 → ∀ b, b < 58 → a ≠ b → (TX20 a).2.1 ≠ (TX20 b).2.1 := by decide +kernel
set_option maxRecDepth 100000 in
theorem tyX20_ok : ∀ k, k < 58 → parseFieldDescriptor (TX20 k).2.2.1 = some (tyX20 k) := by decide +kernel
abbrev cX20_init : ByteArray := prog_22_method_1_code
def yX20_init : MethodName := ⟨RX20, "<init>", "()V"⟩
abbrev cX20_begin : ByteArray := prog_22_method_2_code
def yX20_begin : MethodName := ⟨RX20, "begin", "(I)V"⟩
abbrev cX20_at : ByteArray := prog_22_method_3_code
def yX20_at : MethodName := ⟨RX20, "at", "(I)I"⟩
abbrev cX20_all : ByteArray := prog_22_method_6_code
def yX20_all : MethodName := ⟨RX20, "all", "(I)I"⟩
abbrev cX20_imported : ByteArray := prog_22_method_4_code
def yX20_imported : MethodName := ⟨RX20, "imported", "(I)I"⟩
abbrev cX20_typeOfFunction : ByteArray := prog_22_method_7_code
def yX20_typeOfFunction : MethodName := ⟨RX20, "typeOfFunction", "(I)I"⟩
abbrev cX20_importOf : ByteArray := prog_22_method_5_code
def yX20_importOf : MethodName := ⟨RX20, "importOf", "(II)I"⟩
abbrev cX20_globalMoves : ByteArray := prog_22_method_10_code
def yX20_globalMoves : MethodName := ⟨RX20, "globalMoves", "(I)Z"⟩
abbrev cX20_typeOfGlobal : ByteArray := prog_22_method_9_code
def yX20_typeOfGlobal : MethodName := ⟨RX20, "typeOfGlobal", "(I)I"⟩
abbrev cX20_typeOfTable : ByteArray := prog_22_method_8_code
def yX20_typeOfTable : MethodName := ⟨RX20, "typeOfTable", "(I)I"⟩
theorem q385 : (Jvm.Cond.initialized "ModuleEngineModel$Plan") ∈ lw_all := lw_g (lw_at lw_m1 26 rfl) rfl
theorem q3353 : (Jvm.Cond.instantiable "ModuleEngineModel$Plan" (58 : Nat)) ∈ lw_all := lw_g (lw_at lw_m13 114 rfl) rfl
theorem q3355 : (Jvm.Cond.instanceMethod ({ cls := "ModuleEngineModel$Plan", name := "<init>", desc := "()V" } : Jvm.MethodName)) ∈ lw_all := lw_g (lw_at lw_m13 116 rfl) rfl
theorem q3356 : (Jvm.Cond.code ({ cls := "ModuleEngineModel$Plan", name := "<init>", desc := "()V" } : Jvm.MethodName) prog_22_method_1_code (1 : Nat) (Option.none : Option Jvm.ClassFile.FieldType)) ∈ lw_all := lw_g (lw_at lw_m13 117 rfl) rfl
theorem q3357 : (Jvm.Cond.methodLink "ModuleEngineModel$Plan" (3 : Nat) ({ cls := "java/lang/Object", name := "<init>", desc := "()V" } : Jvm.MethodName)) ∈ lw_all := lw_g (lw_at lw_m13 118 rfl) rfl
theorem q3358 : (Jvm.Cond.constantLong "ModuleEngineModel$Plan" (84 : Nat) (-1 : Int64)) ∈ lw_all := lw_g (lw_at lw_m13 119 rfl) rfl
theorem q3359 : (Jvm.Cond.fieldLink "ModuleEngineModel$Plan" (147 : Nat) "ModuleEngineModel$Plan" "bytes" "[B") ∈ lw_all := lw_g (lw_at lw_m13 120 rfl) rfl
theorem q3361 : (Jvm.Cond.fieldLink "ModuleEngineModel$Plan" (144 : Nat) "ModuleEngineModel$Plan" "size" "I") ∈ lw_all := lw_g (lw_at lw_m13 122 rfl) rfl
theorem q3363 : (Jvm.Cond.fieldLink "ModuleEngineModel$Plan" (9 : Nat) "ModuleEngineModel$Plan" "section" "[I") ∈ lw_all := lw_g (lw_at lw_m13 124 rfl) rfl
theorem q3365 : (Jvm.Cond.fieldLink "ModuleEngineModel$Plan" (15 : Nat) "ModuleEngineModel$Plan" "limit" "I") ∈ lw_all := lw_g (lw_at lw_m13 126 rfl) rfl
theorem q3367 : (Jvm.Cond.fieldLink "ModuleEngineModel$Plan" (157 : Nat) "ModuleEngineModel$Plan" "types" "I") ∈ lw_all := lw_g (lw_at lw_m13 128 rfl) rfl
theorem q3369 : (Jvm.Cond.fieldLink "ModuleEngineModel$Plan" (19 : Nat) "ModuleEngineModel$Plan" "parameters" "[I") ∈ lw_all := lw_g (lw_at lw_m13 130 rfl) rfl
theorem q3371 : (Jvm.Cond.fieldLink "ModuleEngineModel$Plan" (22 : Nat) "ModuleEngineModel$Plan" "results" "[I") ∈ lw_all := lw_g (lw_at lw_m13 132 rfl) rfl
theorem q3373 : (Jvm.Cond.fieldLink "ModuleEngineModel$Plan" (25 : Nat) "ModuleEngineModel$Plan" "rows" "[I") ∈ lw_all := lw_g (lw_at lw_m13 134 rfl) rfl
theorem q3375 : (Jvm.Cond.fieldLink "ModuleEngineModel$Plan" (160 : Nat) "ModuleEngineModel$Plan" "imports" "I") ∈ lw_all := lw_g (lw_at lw_m13 136 rfl) rfl
theorem q3377 : (Jvm.Cond.fieldLink "ModuleEngineModel$Plan" (28 : Nat) "ModuleEngineModel$Plan" "importKind" "[I") ∈ lw_all := lw_g (lw_at lw_m13 138 rfl) rfl
theorem q3379 : (Jvm.Cond.fieldLink "ModuleEngineModel$Plan" (31 : Nat) "ModuleEngineModel$Plan" "importType" "[J") ∈ lw_all := lw_g (lw_at lw_m13 140 rfl) rfl
theorem q3381 : (Jvm.Cond.fieldLink "ModuleEngineModel$Plan" (35 : Nat) "ModuleEngineModel$Plan" "importLeast" "[J") ∈ lw_all := lw_g (lw_at lw_m13 142 rfl) rfl
theorem q3383 : (Jvm.Cond.fieldLink "ModuleEngineModel$Plan" (38 : Nat) "ModuleEngineModel$Plan" "importGreatest" "[J") ∈ lw_all := lw_g (lw_at lw_m13 144 rfl) rfl
theorem q3385 : (Jvm.Cond.fieldLink "ModuleEngineModel$Plan" (41 : Nat) "ModuleEngineModel$Plan" "importChanges" "[Z") ∈ lw_all := lw_g (lw_at lw_m13 146 rfl) rfl
theorem q3387 : (Jvm.Cond.fieldLink "ModuleEngineModel$Plan" (163 : Nat) "ModuleEngineModel$Plan" "functionRow" "J") ∈ lw_all := lw_g (lw_at lw_m13 148 rfl) rfl
theorem q3389 : (Jvm.Cond.fieldLink "ModuleEngineModel$Plan" (166 : Nat) "ModuleEngineModel$Plan" "functions" "I") ∈ lw_all := lw_g (lw_at lw_m13 150 rfl) rfl
theorem q3391 : (Jvm.Cond.fieldLink "ModuleEngineModel$Plan" (45 : Nat) "ModuleEngineModel$Plan" "functionType" "[J") ∈ lw_all := lw_g (lw_at lw_m13 152 rfl) rfl
theorem q3393 : (Jvm.Cond.fieldLink "ModuleEngineModel$Plan" (169 : Nat) "ModuleEngineModel$Plan" "tables" "I") ∈ lw_all := lw_g (lw_at lw_m13 154 rfl) rfl
theorem q3395 : (Jvm.Cond.fieldLink "ModuleEngineModel$Plan" (48 : Nat) "ModuleEngineModel$Plan" "tableType" "[I") ∈ lw_all := lw_g (lw_at lw_m13 156 rfl) rfl
theorem q3397 : (Jvm.Cond.fieldLink "ModuleEngineModel$Plan" (51 : Nat) "ModuleEngineModel$Plan" "tableLeast" "[J") ∈ lw_all := lw_g (lw_at lw_m13 158 rfl) rfl
theorem q3399 : (Jvm.Cond.fieldLink "ModuleEngineModel$Plan" (54 : Nat) "ModuleEngineModel$Plan" "tableGreatest" "[J") ∈ lw_all := lw_g (lw_at lw_m13 160 rfl) rfl
theorem q3401 : (Jvm.Cond.fieldLink "ModuleEngineModel$Plan" (172 : Nat) "ModuleEngineModel$Plan" "memories" "I") ∈ lw_all := lw_g (lw_at lw_m13 162 rfl) rfl
theorem q3403 : (Jvm.Cond.fieldLink "ModuleEngineModel$Plan" (57 : Nat) "ModuleEngineModel$Plan" "memoryLeast" "[J") ∈ lw_all := lw_g (lw_at lw_m13 164 rfl) rfl
theorem q3405 : (Jvm.Cond.fieldLink "ModuleEngineModel$Plan" (60 : Nat) "ModuleEngineModel$Plan" "memoryGreatest" "[J") ∈ lw_all := lw_g (lw_at lw_m13 166 rfl) rfl
theorem q3407 : (Jvm.Cond.fieldLink "ModuleEngineModel$Plan" (175 : Nat) "ModuleEngineModel$Plan" "globals" "I") ∈ lw_all := lw_g (lw_at lw_m13 168 rfl) rfl
theorem q3409 : (Jvm.Cond.fieldLink "ModuleEngineModel$Plan" (63 : Nat) "ModuleEngineModel$Plan" "globalType" "[I") ∈ lw_all := lw_g (lw_at lw_m13 170 rfl) rfl
theorem q3411 : (Jvm.Cond.fieldLink "ModuleEngineModel$Plan" (66 : Nat) "ModuleEngineModel$Plan" "globalChanges" "[Z") ∈ lw_all := lw_g (lw_at lw_m13 172 rfl) rfl
theorem q3413 : (Jvm.Cond.fieldLink "ModuleEngineModel$Plan" (69 : Nat) "ModuleEngineModel$Plan" "globalAt" "[I") ∈ lw_all := lw_g (lw_at lw_m13 174 rfl) rfl
theorem q3415 : (Jvm.Cond.fieldLink "ModuleEngineModel$Plan" (178 : Nat) "ModuleEngineModel$Plan" "exports" "I") ∈ lw_all := lw_g (lw_at lw_m13 176 rfl) rfl
theorem q3417 : (Jvm.Cond.fieldLink "ModuleEngineModel$Plan" (72 : Nat) "ModuleEngineModel$Plan" "exportName" "[I") ∈ lw_all := lw_g (lw_at lw_m13 178 rfl) rfl
theorem q3419 : (Jvm.Cond.fieldLink "ModuleEngineModel$Plan" (75 : Nat) "ModuleEngineModel$Plan" "exportNameSize" "[I") ∈ lw_all := lw_g (lw_at lw_m13 180 rfl) rfl
theorem q3421 : (Jvm.Cond.fieldLink "ModuleEngineModel$Plan" (78 : Nat) "ModuleEngineModel$Plan" "exportKind" "[I") ∈ lw_all := lw_g (lw_at lw_m13 182 rfl) rfl
theorem q3423 : (Jvm.Cond.fieldLink "ModuleEngineModel$Plan" (81 : Nat) "ModuleEngineModel$Plan" "exportOf" "[J") ∈ lw_all := lw_g (lw_at lw_m13 184 rfl) rfl
theorem q3425 : (Jvm.Cond.fieldLink "ModuleEngineModel$Plan" (86 : Nat) "ModuleEngineModel$Plan" "start" "J") ∈ lw_all := lw_g (lw_at lw_m13 186 rfl) rfl
theorem q3427 : (Jvm.Cond.fieldLink "ModuleEngineModel$Plan" (181 : Nat) "ModuleEngineModel$Plan" "elements" "I") ∈ lw_all := lw_g (lw_at lw_m13 188 rfl) rfl
theorem q3429 : (Jvm.Cond.fieldLink "ModuleEngineModel$Plan" (90 : Nat) "ModuleEngineModel$Plan" "elementMode" "[I") ∈ lw_all := lw_g (lw_at lw_m13 190 rfl) rfl
theorem q3431 : (Jvm.Cond.fieldLink "ModuleEngineModel$Plan" (93 : Nat) "ModuleEngineModel$Plan" "elementTable" "[J") ∈ lw_all := lw_g (lw_at lw_m13 192 rfl) rfl
theorem q3433 : (Jvm.Cond.fieldLink "ModuleEngineModel$Plan" (96 : Nat) "ModuleEngineModel$Plan" "elementPlace" "[I") ∈ lw_all := lw_g (lw_at lw_m13 194 rfl) rfl
theorem q3435 : (Jvm.Cond.fieldLink "ModuleEngineModel$Plan" (99 : Nat) "ModuleEngineModel$Plan" "elementType" "[I") ∈ lw_all := lw_g (lw_at lw_m13 196 rfl) rfl
theorem q3437 : (Jvm.Cond.fieldLink "ModuleEngineModel$Plan" (102 : Nat) "ModuleEngineModel$Plan" "elementOfExpressions" "[Z") ∈ lw_all := lw_g (lw_at lw_m13 198 rfl) rfl
theorem q3439 : (Jvm.Cond.fieldLink "ModuleEngineModel$Plan" (105 : Nat) "ModuleEngineModel$Plan" "elementItems" "[I") ∈ lw_all := lw_g (lw_at lw_m13 200 rfl) rfl
theorem q3441 : (Jvm.Cond.fieldLink "ModuleEngineModel$Plan" (108 : Nat) "ModuleEngineModel$Plan" "elementAt" "[I") ∈ lw_all := lw_g (lw_at lw_m13 202 rfl) rfl
theorem q3443 : (Jvm.Cond.fieldLink "ModuleEngineModel$Plan" (111 : Nat) "ModuleEngineModel$Plan" "dataTold" "J") ∈ lw_all := lw_g (lw_at lw_m13 204 rfl) rfl
theorem q3445 : (Jvm.Cond.fieldLink "ModuleEngineModel$Plan" (184 : Nat) "ModuleEngineModel$Plan" "dataRow" "J") ∈ lw_all := lw_g (lw_at lw_m13 206 rfl) rfl
theorem q3447 : (Jvm.Cond.fieldLink "ModuleEngineModel$Plan" (187 : Nat) "ModuleEngineModel$Plan" "datas" "I") ∈ lw_all := lw_g (lw_at lw_m13 208 rfl) rfl
theorem q3449 : (Jvm.Cond.fieldLink "ModuleEngineModel$Plan" (114 : Nat) "ModuleEngineModel$Plan" "dataActive" "[Z") ∈ lw_all := lw_g (lw_at lw_m13 210 rfl) rfl
theorem q3451 : (Jvm.Cond.fieldLink "ModuleEngineModel$Plan" (117 : Nat) "ModuleEngineModel$Plan" "dataMemory" "[J") ∈ lw_all := lw_g (lw_at lw_m13 212 rfl) rfl
theorem q3453 : (Jvm.Cond.fieldLink "ModuleEngineModel$Plan" (120 : Nat) "ModuleEngineModel$Plan" "dataPlace" "[I") ∈ lw_all := lw_g (lw_at lw_m13 214 rfl) rfl
theorem q3455 : (Jvm.Cond.fieldLink "ModuleEngineModel$Plan" (123 : Nat) "ModuleEngineModel$Plan" "dataAt" "[I") ∈ lw_all := lw_g (lw_at lw_m13 216 rfl) rfl
theorem q3457 : (Jvm.Cond.fieldLink "ModuleEngineModel$Plan" (126 : Nat) "ModuleEngineModel$Plan" "dataSize" "[I") ∈ lw_all := lw_g (lw_at lw_m13 218 rfl) rfl
theorem q3459 : (Jvm.Cond.fieldLink "ModuleEngineModel$Plan" (190 : Nat) "ModuleEngineModel$Plan" "bodyRow" "J") ∈ lw_all := lw_g (lw_at lw_m13 220 rfl) rfl
theorem q3461 : (Jvm.Cond.fieldLink "ModuleEngineModel$Plan" (129 : Nat) "ModuleEngineModel$Plan" "localsAt" "[I") ∈ lw_all := lw_g (lw_at lw_m13 222 rfl) rfl
theorem q3463 : (Jvm.Cond.fieldLink "ModuleEngineModel$Plan" (132 : Nat) "ModuleEngineModel$Plan" "locals" "[J") ∈ lw_all := lw_g (lw_at lw_m13 224 rfl) rfl
theorem q3465 : (Jvm.Cond.fieldLink "ModuleEngineModel$Plan" (135 : Nat) "ModuleEngineModel$Plan" "bodyAt" "[I") ∈ lw_all := lw_g (lw_at lw_m13 226 rfl) rfl
theorem q3467 : (Jvm.Cond.fieldLink "ModuleEngineModel$Plan" (138 : Nat) "ModuleEngineModel$Plan" "bodyEnd" "[I") ∈ lw_all := lw_g (lw_at lw_m13 228 rfl) rfl
theorem q3469 : (Jvm.Cond.fieldLink "ModuleEngineModel$Plan" (141 : Nat) "ModuleEngineModel$Plan" "operands" "[I") ∈ lw_all := lw_g (lw_at lw_m13 230 rfl) rfl
theorem q3471 : (Jvm.Cond.fieldLink "ModuleEngineModel$Plan" (151 : Nat) "ModuleEngineModel$Plan" "endOf" "[I") ∈ lw_all := lw_g (lw_at lw_m13 232 rfl) rfl
theorem q3473 : (Jvm.Cond.fieldLink "ModuleEngineModel$Plan" (154 : Nat) "ModuleEngineModel$Plan" "elseOf" "[I") ∈ lw_all := lw_g (lw_at lw_m13 234 rfl) rfl
theorem q3475 : (Jvm.Cond.lays "ModuleEngineModel$Plan" "ModuleEngineModel$Plan" "bytes" "[B") ∈ lw_all := lw_g (lw_at lw_m13 236 rfl) rfl
theorem q3476 : (Jvm.Cond.soleField "ModuleEngineModel$Plan" "bytes") ∈ lw_all := lw_g (lw_at lw_m13 237 rfl) rfl
theorem q3477 : (Jvm.Cond.lays "ModuleEngineModel$Plan" "ModuleEngineModel$Plan" "size" "I") ∈ lw_all := lw_g (lw_at lw_m13 238 rfl) rfl
theorem q3478 : (Jvm.Cond.soleField "ModuleEngineModel$Plan" "size") ∈ lw_all := lw_g (lw_at lw_m13 239 rfl) rfl
theorem q3479 : (Jvm.Cond.laysFinal "ModuleEngineModel$Plan" "ModuleEngineModel$Plan" "section" "[I") ∈ lw_all := lw_g (lw_at lw_m14 0 rfl) rfl
theorem q3480 : (Jvm.Cond.soleField "ModuleEngineModel$Plan" "section") ∈ lw_all := lw_g (lw_at lw_m14 1 rfl) rfl
theorem q3481 : (Jvm.Cond.lays "ModuleEngineModel$Plan" "ModuleEngineModel$Plan" "limit" "I") ∈ lw_all := lw_g (lw_at lw_m14 2 rfl) rfl
theorem q3482 : (Jvm.Cond.soleField "ModuleEngineModel$Plan" "limit") ∈ lw_all := lw_g (lw_at lw_m14 3 rfl) rfl
theorem q3483 : (Jvm.Cond.lays "ModuleEngineModel$Plan" "ModuleEngineModel$Plan" "types" "I") ∈ lw_all := lw_g (lw_at lw_m14 4 rfl) rfl
theorem q3484 : (Jvm.Cond.soleField "ModuleEngineModel$Plan" "types") ∈ lw_all := lw_g (lw_at lw_m14 5 rfl) rfl
theorem q3485 : (Jvm.Cond.laysFinal "ModuleEngineModel$Plan" "ModuleEngineModel$Plan" "parameters" "[I") ∈ lw_all := lw_g (lw_at lw_m14 6 rfl) rfl
theorem q3486 : (Jvm.Cond.soleField "ModuleEngineModel$Plan" "parameters") ∈ lw_all := lw_g (lw_at lw_m14 7 rfl) rfl
theorem q3487 : (Jvm.Cond.laysFinal "ModuleEngineModel$Plan" "ModuleEngineModel$Plan" "results" "[I") ∈ lw_all := lw_g (lw_at lw_m14 8 rfl) rfl
theorem q3488 : (Jvm.Cond.soleField "ModuleEngineModel$Plan" "results") ∈ lw_all := lw_g (lw_at lw_m14 9 rfl) rfl
theorem q3489 : (Jvm.Cond.laysFinal "ModuleEngineModel$Plan" "ModuleEngineModel$Plan" "rows" "[I") ∈ lw_all := lw_g (lw_at lw_m14 10 rfl) rfl
theorem q3490 : (Jvm.Cond.soleField "ModuleEngineModel$Plan" "rows") ∈ lw_all := lw_g (lw_at lw_m14 11 rfl) rfl
theorem q3491 : (Jvm.Cond.lays "ModuleEngineModel$Plan" "ModuleEngineModel$Plan" "imports" "I") ∈ lw_all := lw_g (lw_at lw_m14 12 rfl) rfl
theorem q3492 : (Jvm.Cond.soleField "ModuleEngineModel$Plan" "imports") ∈ lw_all := lw_g (lw_at lw_m14 13 rfl) rfl
theorem q3493 : (Jvm.Cond.laysFinal "ModuleEngineModel$Plan" "ModuleEngineModel$Plan" "importKind" "[I") ∈ lw_all := lw_g (lw_at lw_m14 14 rfl) rfl
theorem q3494 : (Jvm.Cond.soleField "ModuleEngineModel$Plan" "importKind") ∈ lw_all := lw_g (lw_at lw_m14 15 rfl) rfl
theorem q3495 : (Jvm.Cond.laysFinal "ModuleEngineModel$Plan" "ModuleEngineModel$Plan" "importType" "[J") ∈ lw_all := lw_g (lw_at lw_m14 16 rfl) rfl
theorem q3496 : (Jvm.Cond.soleField "ModuleEngineModel$Plan" "importType") ∈ lw_all := lw_g (lw_at lw_m14 17 rfl) rfl
theorem q3497 : (Jvm.Cond.laysFinal "ModuleEngineModel$Plan" "ModuleEngineModel$Plan" "importLeast" "[J") ∈ lw_all := lw_g (lw_at lw_m14 18 rfl) rfl
theorem q3498 : (Jvm.Cond.soleField "ModuleEngineModel$Plan" "importLeast") ∈ lw_all := lw_g (lw_at lw_m14 19 rfl) rfl
theorem q3499 : (Jvm.Cond.laysFinal "ModuleEngineModel$Plan" "ModuleEngineModel$Plan" "importGreatest" "[J") ∈ lw_all := lw_g (lw_at lw_m14 20 rfl) rfl
theorem q3500 : (Jvm.Cond.soleField "ModuleEngineModel$Plan" "importGreatest") ∈ lw_all := lw_g (lw_at lw_m14 21 rfl) rfl
theorem q3501 : (Jvm.Cond.laysFinal "ModuleEngineModel$Plan" "ModuleEngineModel$Plan" "importChanges" "[Z") ∈ lw_all := lw_g (lw_at lw_m14 22 rfl) rfl
theorem q3502 : (Jvm.Cond.soleField "ModuleEngineModel$Plan" "importChanges") ∈ lw_all := lw_g (lw_at lw_m14 23 rfl) rfl
theorem q3503 : (Jvm.Cond.lays "ModuleEngineModel$Plan" "ModuleEngineModel$Plan" "functionRow" "J") ∈ lw_all := lw_g (lw_at lw_m14 24 rfl) rfl
theorem q3504 : (Jvm.Cond.soleField "ModuleEngineModel$Plan" "functionRow") ∈ lw_all := lw_g (lw_at lw_m14 25 rfl) rfl
theorem q3505 : (Jvm.Cond.lays "ModuleEngineModel$Plan" "ModuleEngineModel$Plan" "functions" "I") ∈ lw_all := lw_g (lw_at lw_m14 26 rfl) rfl
theorem q3506 : (Jvm.Cond.soleField "ModuleEngineModel$Plan" "functions") ∈ lw_all := lw_g (lw_at lw_m14 27 rfl) rfl
theorem q3507 : (Jvm.Cond.laysFinal "ModuleEngineModel$Plan" "ModuleEngineModel$Plan" "functionType" "[J") ∈ lw_all := lw_g (lw_at lw_m14 28 rfl) rfl
theorem q3508 : (Jvm.Cond.soleField "ModuleEngineModel$Plan" "functionType") ∈ lw_all := lw_g (lw_at lw_m14 29 rfl) rfl
theorem q3509 : (Jvm.Cond.lays "ModuleEngineModel$Plan" "ModuleEngineModel$Plan" "tables" "I") ∈ lw_all := lw_g (lw_at lw_m14 30 rfl) rfl
theorem q3510 : (Jvm.Cond.soleField "ModuleEngineModel$Plan" "tables") ∈ lw_all := lw_g (lw_at lw_m14 31 rfl) rfl
theorem q3511 : (Jvm.Cond.laysFinal "ModuleEngineModel$Plan" "ModuleEngineModel$Plan" "tableType" "[I") ∈ lw_all := lw_g (lw_at lw_m14 32 rfl) rfl
theorem q3512 : (Jvm.Cond.soleField "ModuleEngineModel$Plan" "tableType") ∈ lw_all := lw_g (lw_at lw_m14 33 rfl) rfl
theorem q3513 : (Jvm.Cond.laysFinal "ModuleEngineModel$Plan" "ModuleEngineModel$Plan" "tableLeast" "[J") ∈ lw_all := lw_g (lw_at lw_m14 34 rfl) rfl
theorem q3514 : (Jvm.Cond.soleField "ModuleEngineModel$Plan" "tableLeast") ∈ lw_all := lw_g (lw_at lw_m14 35 rfl) rfl
theorem q3515 : (Jvm.Cond.laysFinal "ModuleEngineModel$Plan" "ModuleEngineModel$Plan" "tableGreatest" "[J") ∈ lw_all := lw_g (lw_at lw_m14 36 rfl) rfl
theorem q3516 : (Jvm.Cond.soleField "ModuleEngineModel$Plan" "tableGreatest") ∈ lw_all := lw_g (lw_at lw_m14 37 rfl) rfl
theorem q3517 : (Jvm.Cond.lays "ModuleEngineModel$Plan" "ModuleEngineModel$Plan" "memories" "I") ∈ lw_all := lw_g (lw_at lw_m14 38 rfl) rfl
theorem q3518 : (Jvm.Cond.soleField "ModuleEngineModel$Plan" "memories") ∈ lw_all := lw_g (lw_at lw_m14 39 rfl) rfl
theorem q3519 : (Jvm.Cond.laysFinal "ModuleEngineModel$Plan" "ModuleEngineModel$Plan" "memoryLeast" "[J") ∈ lw_all := lw_g (lw_at lw_m14 40 rfl) rfl
theorem q3520 : (Jvm.Cond.soleField "ModuleEngineModel$Plan" "memoryLeast") ∈ lw_all := lw_g (lw_at lw_m14 41 rfl) rfl
theorem q3521 : (Jvm.Cond.laysFinal "ModuleEngineModel$Plan" "ModuleEngineModel$Plan" "memoryGreatest" "[J") ∈ lw_all := lw_g (lw_at lw_m14 42 rfl) rfl
theorem q3522 : (Jvm.Cond.soleField "ModuleEngineModel$Plan" "memoryGreatest") ∈ lw_all := lw_g (lw_at lw_m14 43 rfl) rfl
theorem q3523 : (Jvm.Cond.lays "ModuleEngineModel$Plan" "ModuleEngineModel$Plan" "globals" "I") ∈ lw_all := lw_g (lw_at lw_m14 44 rfl) rfl
theorem q3524 : (Jvm.Cond.soleField "ModuleEngineModel$Plan" "globals") ∈ lw_all := lw_g (lw_at lw_m14 45 rfl) rfl
theorem q3525 : (Jvm.Cond.laysFinal "ModuleEngineModel$Plan" "ModuleEngineModel$Plan" "globalType" "[I") ∈ lw_all := lw_g (lw_at lw_m14 46 rfl) rfl
theorem q3526 : (Jvm.Cond.soleField "ModuleEngineModel$Plan" "globalType") ∈ lw_all := lw_g (lw_at lw_m14 47 rfl) rfl
theorem q3527 : (Jvm.Cond.laysFinal "ModuleEngineModel$Plan" "ModuleEngineModel$Plan" "globalChanges" "[Z") ∈ lw_all := lw_g (lw_at lw_m14 48 rfl) rfl
theorem q3528 : (Jvm.Cond.soleField "ModuleEngineModel$Plan" "globalChanges") ∈ lw_all := lw_g (lw_at lw_m14 49 rfl) rfl
theorem q3529 : (Jvm.Cond.laysFinal "ModuleEngineModel$Plan" "ModuleEngineModel$Plan" "globalAt" "[I") ∈ lw_all := lw_g (lw_at lw_m14 50 rfl) rfl
theorem q3530 : (Jvm.Cond.soleField "ModuleEngineModel$Plan" "globalAt") ∈ lw_all := lw_g (lw_at lw_m14 51 rfl) rfl
theorem q3531 : (Jvm.Cond.lays "ModuleEngineModel$Plan" "ModuleEngineModel$Plan" "exports" "I") ∈ lw_all := lw_g (lw_at lw_m14 52 rfl) rfl
theorem q3532 : (Jvm.Cond.soleField "ModuleEngineModel$Plan" "exports") ∈ lw_all := lw_g (lw_at lw_m14 53 rfl) rfl
theorem q3533 : (Jvm.Cond.laysFinal "ModuleEngineModel$Plan" "ModuleEngineModel$Plan" "exportName" "[I") ∈ lw_all := lw_g (lw_at lw_m14 54 rfl) rfl
theorem q3534 : (Jvm.Cond.soleField "ModuleEngineModel$Plan" "exportName") ∈ lw_all := lw_g (lw_at lw_m14 55 rfl) rfl
theorem q3535 : (Jvm.Cond.laysFinal "ModuleEngineModel$Plan" "ModuleEngineModel$Plan" "exportNameSize" "[I") ∈ lw_all := lw_g (lw_at lw_m14 56 rfl) rfl
theorem q3536 : (Jvm.Cond.soleField "ModuleEngineModel$Plan" "exportNameSize") ∈ lw_all := lw_g (lw_at lw_m14 57 rfl) rfl
theorem q3537 : (Jvm.Cond.laysFinal "ModuleEngineModel$Plan" "ModuleEngineModel$Plan" "exportKind" "[I") ∈ lw_all := lw_g (lw_at lw_m14 58 rfl) rfl
theorem q3538 : (Jvm.Cond.soleField "ModuleEngineModel$Plan" "exportKind") ∈ lw_all := lw_g (lw_at lw_m14 59 rfl) rfl
theorem q3539 : (Jvm.Cond.laysFinal "ModuleEngineModel$Plan" "ModuleEngineModel$Plan" "exportOf" "[J") ∈ lw_all := lw_g (lw_at lw_m14 60 rfl) rfl
theorem q3540 : (Jvm.Cond.soleField "ModuleEngineModel$Plan" "exportOf") ∈ lw_all := lw_g (lw_at lw_m14 61 rfl) rfl
theorem q3541 : (Jvm.Cond.lays "ModuleEngineModel$Plan" "ModuleEngineModel$Plan" "start" "J") ∈ lw_all := lw_g (lw_at lw_m14 62 rfl) rfl
theorem q3542 : (Jvm.Cond.soleField "ModuleEngineModel$Plan" "start") ∈ lw_all := lw_g (lw_at lw_m14 63 rfl) rfl
theorem q3543 : (Jvm.Cond.lays "ModuleEngineModel$Plan" "ModuleEngineModel$Plan" "elements" "I") ∈ lw_all := lw_g (lw_at lw_m14 64 rfl) rfl
theorem q3544 : (Jvm.Cond.soleField "ModuleEngineModel$Plan" "elements") ∈ lw_all := lw_g (lw_at lw_m14 65 rfl) rfl
theorem q3545 : (Jvm.Cond.laysFinal "ModuleEngineModel$Plan" "ModuleEngineModel$Plan" "elementMode" "[I") ∈ lw_all := lw_g (lw_at lw_m14 66 rfl) rfl
theorem q3546 : (Jvm.Cond.soleField "ModuleEngineModel$Plan" "elementMode") ∈ lw_all := lw_g (lw_at lw_m14 67 rfl) rfl
theorem q3547 : (Jvm.Cond.laysFinal "ModuleEngineModel$Plan" "ModuleEngineModel$Plan" "elementTable" "[J") ∈ lw_all := lw_g (lw_at lw_m14 68 rfl) rfl
theorem q3548 : (Jvm.Cond.soleField "ModuleEngineModel$Plan" "elementTable") ∈ lw_all := lw_g (lw_at lw_m14 69 rfl) rfl
theorem q3549 : (Jvm.Cond.laysFinal "ModuleEngineModel$Plan" "ModuleEngineModel$Plan" "elementPlace" "[I") ∈ lw_all := lw_g (lw_at lw_m14 70 rfl) rfl
theorem q3550 : (Jvm.Cond.soleField "ModuleEngineModel$Plan" "elementPlace") ∈ lw_all := lw_g (lw_at lw_m14 71 rfl) rfl
theorem q3551 : (Jvm.Cond.laysFinal "ModuleEngineModel$Plan" "ModuleEngineModel$Plan" "elementType" "[I") ∈ lw_all := lw_g (lw_at lw_m14 72 rfl) rfl
theorem q3552 : (Jvm.Cond.soleField "ModuleEngineModel$Plan" "elementType") ∈ lw_all := lw_g (lw_at lw_m14 73 rfl) rfl
theorem q3553 : (Jvm.Cond.laysFinal "ModuleEngineModel$Plan" "ModuleEngineModel$Plan" "elementOfExpressions" "[Z") ∈ lw_all := lw_g (lw_at lw_m14 74 rfl) rfl
theorem q3554 : (Jvm.Cond.soleField "ModuleEngineModel$Plan" "elementOfExpressions") ∈ lw_all := lw_g (lw_at lw_m14 75 rfl) rfl
theorem q3555 : (Jvm.Cond.laysFinal "ModuleEngineModel$Plan" "ModuleEngineModel$Plan" "elementItems" "[I") ∈ lw_all := lw_g (lw_at lw_m14 76 rfl) rfl
theorem q3556 : (Jvm.Cond.soleField "ModuleEngineModel$Plan" "elementItems") ∈ lw_all := lw_g (lw_at lw_m14 77 rfl) rfl
theorem q3557 : (Jvm.Cond.laysFinal "ModuleEngineModel$Plan" "ModuleEngineModel$Plan" "elementAt" "[I") ∈ lw_all := lw_g (lw_at lw_m14 78 rfl) rfl
theorem q3558 : (Jvm.Cond.soleField "ModuleEngineModel$Plan" "elementAt") ∈ lw_all := lw_g (lw_at lw_m14 79 rfl) rfl
theorem q3559 : (Jvm.Cond.lays "ModuleEngineModel$Plan" "ModuleEngineModel$Plan" "dataTold" "J") ∈ lw_all := lw_g (lw_at lw_m14 80 rfl) rfl
theorem q3560 : (Jvm.Cond.soleField "ModuleEngineModel$Plan" "dataTold") ∈ lw_all := lw_g (lw_at lw_m14 81 rfl) rfl
theorem q3561 : (Jvm.Cond.lays "ModuleEngineModel$Plan" "ModuleEngineModel$Plan" "dataRow" "J") ∈ lw_all := lw_g (lw_at lw_m14 82 rfl) rfl
theorem q3562 : (Jvm.Cond.soleField "ModuleEngineModel$Plan" "dataRow") ∈ lw_all := lw_g (lw_at lw_m14 83 rfl) rfl
theorem q3563 : (Jvm.Cond.lays "ModuleEngineModel$Plan" "ModuleEngineModel$Plan" "datas" "I") ∈ lw_all := lw_g (lw_at lw_m14 84 rfl) rfl
theorem q3564 : (Jvm.Cond.soleField "ModuleEngineModel$Plan" "datas") ∈ lw_all := lw_g (lw_at lw_m14 85 rfl) rfl
theorem q3565 : (Jvm.Cond.laysFinal "ModuleEngineModel$Plan" "ModuleEngineModel$Plan" "dataActive" "[Z") ∈ lw_all := lw_g (lw_at lw_m14 86 rfl) rfl
theorem q3566 : (Jvm.Cond.soleField "ModuleEngineModel$Plan" "dataActive") ∈ lw_all := lw_g (lw_at lw_m14 87 rfl) rfl
theorem q3567 : (Jvm.Cond.laysFinal "ModuleEngineModel$Plan" "ModuleEngineModel$Plan" "dataMemory" "[J") ∈ lw_all := lw_g (lw_at lw_m14 88 rfl) rfl
theorem q3568 : (Jvm.Cond.soleField "ModuleEngineModel$Plan" "dataMemory") ∈ lw_all := lw_g (lw_at lw_m14 89 rfl) rfl
theorem q3569 : (Jvm.Cond.laysFinal "ModuleEngineModel$Plan" "ModuleEngineModel$Plan" "dataPlace" "[I") ∈ lw_all := lw_g (lw_at lw_m14 90 rfl) rfl
theorem q3570 : (Jvm.Cond.soleField "ModuleEngineModel$Plan" "dataPlace") ∈ lw_all := lw_g (lw_at lw_m14 91 rfl) rfl
theorem q3571 : (Jvm.Cond.laysFinal "ModuleEngineModel$Plan" "ModuleEngineModel$Plan" "dataAt" "[I") ∈ lw_all := lw_g (lw_at lw_m14 92 rfl) rfl
theorem q3572 : (Jvm.Cond.soleField "ModuleEngineModel$Plan" "dataAt") ∈ lw_all := lw_g (lw_at lw_m14 93 rfl) rfl
theorem q3573 : (Jvm.Cond.laysFinal "ModuleEngineModel$Plan" "ModuleEngineModel$Plan" "dataSize" "[I") ∈ lw_all := lw_g (lw_at lw_m14 94 rfl) rfl
theorem q3574 : (Jvm.Cond.soleField "ModuleEngineModel$Plan" "dataSize") ∈ lw_all := lw_g (lw_at lw_m14 95 rfl) rfl
theorem q3575 : (Jvm.Cond.lays "ModuleEngineModel$Plan" "ModuleEngineModel$Plan" "bodyRow" "J") ∈ lw_all := lw_g (lw_at lw_m14 96 rfl) rfl
theorem q3576 : (Jvm.Cond.soleField "ModuleEngineModel$Plan" "bodyRow") ∈ lw_all := lw_g (lw_at lw_m14 97 rfl) rfl
theorem q3577 : (Jvm.Cond.laysFinal "ModuleEngineModel$Plan" "ModuleEngineModel$Plan" "localsAt" "[I") ∈ lw_all := lw_g (lw_at lw_m14 98 rfl) rfl
theorem q3578 : (Jvm.Cond.soleField "ModuleEngineModel$Plan" "localsAt") ∈ lw_all := lw_g (lw_at lw_m14 99 rfl) rfl
theorem q3579 : (Jvm.Cond.laysFinal "ModuleEngineModel$Plan" "ModuleEngineModel$Plan" "locals" "[J") ∈ lw_all := lw_g (lw_at lw_m14 100 rfl) rfl
theorem q3580 : (Jvm.Cond.soleField "ModuleEngineModel$Plan" "locals") ∈ lw_all := lw_g (lw_at lw_m14 101 rfl) rfl
theorem q3581 : (Jvm.Cond.laysFinal "ModuleEngineModel$Plan" "ModuleEngineModel$Plan" "bodyAt" "[I") ∈ lw_all := lw_g (lw_at lw_m14 102 rfl) rfl
theorem q3582 : (Jvm.Cond.soleField "ModuleEngineModel$Plan" "bodyAt") ∈ lw_all := lw_g (lw_at lw_m14 103 rfl) rfl
theorem q3583 : (Jvm.Cond.laysFinal "ModuleEngineModel$Plan" "ModuleEngineModel$Plan" "bodyEnd" "[I") ∈ lw_all := lw_g (lw_at lw_m14 104 rfl) rfl
theorem q3584 : (Jvm.Cond.soleField "ModuleEngineModel$Plan" "bodyEnd") ∈ lw_all := lw_g (lw_at lw_m14 105 rfl) rfl
theorem q3585 : (Jvm.Cond.laysFinal "ModuleEngineModel$Plan" "ModuleEngineModel$Plan" "operands" "[I") ∈ lw_all := lw_g (lw_at lw_m14 106 rfl) rfl
theorem q3586 : (Jvm.Cond.soleField "ModuleEngineModel$Plan" "operands") ∈ lw_all := lw_g (lw_at lw_m14 107 rfl) rfl
theorem q3587 : (Jvm.Cond.lays "ModuleEngineModel$Plan" "ModuleEngineModel$Plan" "endOf" "[I") ∈ lw_all := lw_g (lw_at lw_m14 108 rfl) rfl
theorem q3588 : (Jvm.Cond.soleField "ModuleEngineModel$Plan" "endOf") ∈ lw_all := lw_g (lw_at lw_m14 109 rfl) rfl
theorem q3589 : (Jvm.Cond.lays "ModuleEngineModel$Plan" "ModuleEngineModel$Plan" "elseOf" "[I") ∈ lw_all := lw_g (lw_at lw_m14 110 rfl) rfl
theorem q3590 : (Jvm.Cond.soleField "ModuleEngineModel$Plan" "elseOf") ∈ lw_all := lw_g (lw_at lw_m14 111 rfl) rfl
theorem q3591 : (Jvm.Cond.superclass "ModuleEngineModel$Plan" "java/lang/Object") ∈ lw_all := lw_g (lw_at lw_m14 112 rfl) rfl
theorem q3593 : (Jvm.Cond.instanceMethod ({ cls := "ModuleEngineModel$Plan", name := "begin", desc := "(I)V" } : Jvm.MethodName)) ∈ lw_all := lw_g (lw_at lw_m14 114 rfl) rfl
theorem q3594 : (Jvm.Cond.selects "ModuleEngineModel$Plan" ({ cls := "ModuleEngineModel$Plan", name := "begin", desc := "(I)V" } : Jvm.MethodName) ({ cls := "ModuleEngineModel$Plan", name := "begin", desc := "(I)V" } : Jvm.MethodName)) ∈ lw_all := lw_g (lw_at lw_m14 115 rfl) rfl
theorem q3595 : (Jvm.Cond.code ({ cls := "ModuleEngineModel$Plan", name := "begin", desc := "(I)V" } : Jvm.MethodName) prog_22_method_2_code (3 : Nat) (Option.none : Option Jvm.ClassFile.FieldType)) ∈ lw_all := lw_g (lw_at lw_m14 116 rfl) rfl
theorem q3609 : (Jvm.Cond.instanceMethod ({ cls := "ModuleEngineModel$Plan", name := "at", desc := "(I)I" } : Jvm.MethodName)) ∈ lw_all := lw_g (lw_at lw_m14 130 rfl) rfl
theorem q3610 : (Jvm.Cond.selects "ModuleEngineModel$Plan" ({ cls := "ModuleEngineModel$Plan", name := "at", desc := "(I)I" } : Jvm.MethodName) ({ cls := "ModuleEngineModel$Plan", name := "at", desc := "(I)I" } : Jvm.MethodName)) ∈ lw_all := lw_g (lw_at lw_m14 131 rfl) rfl
theorem q3611 : (Jvm.Cond.code ({ cls := "ModuleEngineModel$Plan", name := "at", desc := "(I)I" } : Jvm.MethodName) prog_22_method_3_code (2 : Nat) (Option.some Jvm.ClassFile.FieldType.int)) ∈ lw_all := lw_g (lw_at lw_m14 132 rfl) rfl
theorem q3780 : (Jvm.Cond.instanceMethod ({ cls := "ModuleEngineModel$Plan", name := "all", desc := "(I)I" } : Jvm.MethodName)) ∈ lw_all := lw_g (lw_at lw_m15 61 rfl) rfl
theorem q3781 : (Jvm.Cond.selects "ModuleEngineModel$Plan" ({ cls := "ModuleEngineModel$Plan", name := "all", desc := "(I)I" } : Jvm.MethodName) ({ cls := "ModuleEngineModel$Plan", name := "all", desc := "(I)I" } : Jvm.MethodName)) ∈ lw_all := lw_g (lw_at lw_m15 62 rfl) rfl
theorem q3782 : (Jvm.Cond.code ({ cls := "ModuleEngineModel$Plan", name := "all", desc := "(I)I" } : Jvm.MethodName) prog_22_method_6_code (2 : Nat) (Option.some Jvm.ClassFile.FieldType.int)) ∈ lw_all := lw_g (lw_at lw_m15 63 rfl) rfl
theorem q3783 : (Jvm.Cond.methodLink "ModuleEngineModel$Plan" (193 : Nat) ({ cls := "ModuleEngineModel$Plan", name := "imported", desc := "(I)I" } : Jvm.MethodName)) ∈ lw_all := lw_g (lw_at lw_m15 64 rfl) rfl
theorem q3784 : (Jvm.Cond.instanceMethod ({ cls := "ModuleEngineModel$Plan", name := "imported", desc := "(I)I" } : Jvm.MethodName)) ∈ lw_all := lw_g (lw_at lw_m15 65 rfl) rfl
theorem q3785 : (Jvm.Cond.selects "ModuleEngineModel$Plan" ({ cls := "ModuleEngineModel$Plan", name := "imported", desc := "(I)I" } : Jvm.MethodName) ({ cls := "ModuleEngineModel$Plan", name := "imported", desc := "(I)I" } : Jvm.MethodName)) ∈ lw_all := lw_g (lw_at lw_m15 66 rfl) rfl
theorem q3786 : (Jvm.Cond.code ({ cls := "ModuleEngineModel$Plan", name := "imported", desc := "(I)I" } : Jvm.MethodName) prog_22_method_4_code (4 : Nat) (Option.some Jvm.ClassFile.FieldType.int)) ∈ lw_all := lw_g (lw_at lw_m15 67 rfl) rfl
theorem q3796 : (Jvm.Cond.instanceMethod ({ cls := "ModuleEngineModel$Plan", name := "typeOfFunction", desc := "(I)I" } : Jvm.MethodName)) ∈ lw_all := lw_g (lw_at lw_m15 77 rfl) rfl
theorem q3797 : (Jvm.Cond.selects "ModuleEngineModel$Plan" ({ cls := "ModuleEngineModel$Plan", name := "typeOfFunction", desc := "(I)I" } : Jvm.MethodName) ({ cls := "ModuleEngineModel$Plan", name := "typeOfFunction", desc := "(I)I" } : Jvm.MethodName)) ∈ lw_all := lw_g (lw_at lw_m15 78 rfl) rfl
theorem q3798 : (Jvm.Cond.code ({ cls := "ModuleEngineModel$Plan", name := "typeOfFunction", desc := "(I)I" } : Jvm.MethodName) prog_22_method_7_code (3 : Nat) (Option.some Jvm.ClassFile.FieldType.int)) ∈ lw_all := lw_g (lw_at lw_m15 79 rfl) rfl
theorem q3799 : (Jvm.Cond.methodLink "ModuleEngineModel$Plan" (197 : Nat) ({ cls := "ModuleEngineModel$Plan", name := "importOf", desc := "(II)I" } : Jvm.MethodName)) ∈ lw_all := lw_g (lw_at lw_m15 80 rfl) rfl
theorem q3800 : (Jvm.Cond.instanceMethod ({ cls := "ModuleEngineModel$Plan", name := "importOf", desc := "(II)I" } : Jvm.MethodName)) ∈ lw_all := lw_g (lw_at lw_m15 81 rfl) rfl
theorem q3801 : (Jvm.Cond.selects "ModuleEngineModel$Plan" ({ cls := "ModuleEngineModel$Plan", name := "importOf", desc := "(II)I" } : Jvm.MethodName) ({ cls := "ModuleEngineModel$Plan", name := "importOf", desc := "(II)I" } : Jvm.MethodName)) ∈ lw_all := lw_g (lw_at lw_m15 82 rfl) rfl
theorem q3802 : (Jvm.Cond.code ({ cls := "ModuleEngineModel$Plan", name := "importOf", desc := "(II)I" } : Jvm.MethodName) prog_22_method_5_code (5 : Nat) (Option.some Jvm.ClassFile.FieldType.int)) ∈ lw_all := lw_g (lw_at lw_m15 83 rfl) rfl
theorem q3846 : (Jvm.Cond.instanceMethod ({ cls := "ModuleEngineModel$Plan", name := "globalMoves", desc := "(I)Z" } : Jvm.MethodName)) ∈ lw_all := lw_g (lw_at lw_m15 127 rfl) rfl
theorem q3847 : (Jvm.Cond.selects "ModuleEngineModel$Plan" ({ cls := "ModuleEngineModel$Plan", name := "globalMoves", desc := "(I)Z" } : Jvm.MethodName) ({ cls := "ModuleEngineModel$Plan", name := "globalMoves", desc := "(I)Z" } : Jvm.MethodName)) ∈ lw_all := lw_g (lw_at lw_m15 128 rfl) rfl
theorem q3848 : (Jvm.Cond.code ({ cls := "ModuleEngineModel$Plan", name := "globalMoves", desc := "(I)Z" } : Jvm.MethodName) prog_22_method_10_code (3 : Nat) (Option.some Jvm.ClassFile.FieldType.boolean)) ∈ lw_all := lw_g (lw_at lw_m15 129 rfl) rfl
theorem q3850 : (Jvm.Cond.instanceMethod ({ cls := "ModuleEngineModel$Plan", name := "typeOfGlobal", desc := "(I)I" } : Jvm.MethodName)) ∈ lw_all := lw_g (lw_at lw_m15 131 rfl) rfl
theorem q3851 : (Jvm.Cond.selects "ModuleEngineModel$Plan" ({ cls := "ModuleEngineModel$Plan", name := "typeOfGlobal", desc := "(I)I" } : Jvm.MethodName) ({ cls := "ModuleEngineModel$Plan", name := "typeOfGlobal", desc := "(I)I" } : Jvm.MethodName)) ∈ lw_all := lw_g (lw_at lw_m15 132 rfl) rfl
theorem q3852 : (Jvm.Cond.code ({ cls := "ModuleEngineModel$Plan", name := "typeOfGlobal", desc := "(I)I" } : Jvm.MethodName) prog_22_method_9_code (3 : Nat) (Option.some Jvm.ClassFile.FieldType.int)) ∈ lw_all := lw_g (lw_at lw_m15 133 rfl) rfl
theorem q3858 : (Jvm.Cond.instanceMethod ({ cls := "ModuleEngineModel$Plan", name := "typeOfTable", desc := "(I)I" } : Jvm.MethodName)) ∈ lw_all := lw_g (lw_at lw_m15 139 rfl) rfl
theorem q3859 : (Jvm.Cond.selects "ModuleEngineModel$Plan" ({ cls := "ModuleEngineModel$Plan", name := "typeOfTable", desc := "(I)I" } : Jvm.MethodName) ({ cls := "ModuleEngineModel$Plan", name := "typeOfTable", desc := "(I)I" } : Jvm.MethodName)) ∈ lw_all := lw_g (lw_at lw_m15 140 rfl) rfl
theorem q3860 : (Jvm.Cond.code ({ cls := "ModuleEngineModel$Plan", name := "typeOfTable", desc := "(I)I" } : Jvm.MethodName) prog_22_method_8_code (3 : Nat) (Option.some Jvm.ClassFile.FieldType.int)) ∈ lw_all := lw_g (lw_at lw_m15 141 rfl) rfl
theorem in_X20 : ∀ w ∈ wsX200, w ∈ lw_all := lw_in wsX200 [3475, 3477, 3479, 3481, 3483, 3485, 3487, 3489, 3491, 3493, 3495, 3497, 3499, 3501, 3503, 3505, 3507, 3509, 3511, 3513, 3515, 3517, 3519, 3521, 3523, 3525, 3527, 3529, 3531, 3533, 3535, 3537, 3539, 3541, 3543, 3545, 3547, 3549, 3551, 3553, 3555, 3557, 3559, 3561, 3563, 3565, 3567, 3569, 3571, 3573, 3575, 3577, 3579, 3581, 3583, 3585, 3587, 3589] (by decide +kernel) (by decide +kernel)

theorem q421 : (Jvm.Cond.arrayClass Jvm.ClassFile.FieldType.byte) ∈ lw_all := lw_g (lw_at lw_m1 62 rfl) rfl
set_option maxRecDepth 100000
theorem q422 : (Jvm.Cond.arrayClass Jvm.ClassFile.FieldType.int) ∈ lw_all := lw_g (lw_at lw_m1 63 rfl) rfl
theorem q423 : (Jvm.Cond.arrayOver (Jvm.ClassFile.FieldType.object "ModuleEngine$Row")) ∈ lw_tbl := lw_at lw_m1 64 rfl
theorem q745 : (Jvm.Cond.arrayClass Jvm.ClassFile.FieldType.long) ∈ lw_all := lw_g (lw_at lw_m2 146 rfl) rfl
theorem q949 : (Jvm.Cond.arrayOver (Jvm.ClassFile.FieldType.object "ModuleEngine$Module")) ∈ lw_tbl := lw_at lw_m3 110 rfl
theorem q1013 : (Jvm.Cond.arrayOver (Jvm.ClassFile.FieldType.object "ModuleEngine$Walker")) ∈ lw_tbl := lw_at lw_m3 174 rfl
theorem q1211 : (Jvm.Cond.arrayClass Jvm.ClassFile.FieldType.boolean) ∈ lw_all := lw_g (lw_at lw_m4 132 rfl) rfl
theorem q2993 : (Jvm.Cond.arrayOver (Jvm.ClassFile.FieldType.object "ModuleEngineModel$Plan")) ∈ lw_tbl := lw_at lw_m11 234 rfl

theorem q359 : (Jvm.Cond.initialized "ModuleEngineLaw") ∈ lw_all := lw_g (lw_at lw_m1 0 rfl) rfl
set_option maxRecDepth 100000
theorem q387 : (Jvm.Cond.classLink "ModuleEngineLaw" (7 : Nat) "ModuleEngine") ∈ lw_all := lw_g (lw_at lw_m1 28 rfl) rfl
theorem q389 : (Jvm.Cond.methodLink "ModuleEngineLaw" (9 : Nat) ({ cls := "ModuleEngine", name := "<init>", desc := "()V" } : Jvm.MethodName)) ∈ lw_all := lw_g (lw_at lw_m1 30 rfl) rfl
theorem q1252 : (Jvm.Cond.methodLink "ModuleEngineLaw" (13 : Nat) ({ cls := "ModuleEngine", name := "feed", desc := "(IIIII)I" } : Jvm.MethodName)) ∈ lw_all := lw_g (lw_at lw_m4 173 rfl) rfl
theorem q1267 : (Jvm.Cond.methodLink "ModuleEngineLaw" (18 : Nat) ({ cls := "ModuleEngine", name := "module", desc := "(I)I" } : Jvm.MethodName)) ∈ lw_all := lw_g (lw_at lw_m4 188 rfl) rfl
theorem q2146 : (Jvm.Cond.methodLink "ModuleEngineLaw" (23 : Nat) ({ cls := "ModuleEngine", name := "fault", desc := "(I)I" } : Jvm.MethodName)) ∈ lw_all := lw_g (lw_at lw_m8 107 rfl) rfl
theorem q2150 : (Jvm.Cond.methodLink "ModuleEngineLaw" (27 : Nat) ({ cls := "ModuleEngine", name := "offer", desc := "(II)I" } : Jvm.MethodName)) ∈ lw_all := lw_g (lw_at lw_m8 111 rfl) rfl
theorem q2181 : (Jvm.Cond.methodLink "ModuleEngineLaw" (32 : Nat) ({ cls := "ModuleEngine", name := "make", desc := "(I)I" } : Jvm.MethodName)) ∈ lw_all := lw_g (lw_at lw_m8 142 rfl) rfl
theorem q2874 : (Jvm.Cond.methodLink "ModuleEngineLaw" (38 : Nat) ({ cls := "ModuleEngine", name := "argument", desc := "(J)I" } : Jvm.MethodName)) ∈ lw_all := lw_g (lw_at lw_m11 115 rfl) rfl
theorem q2878 : (Jvm.Cond.methodLink "ModuleEngineLaw" (43 : Nat) ({ cls := "ModuleEngine", name := "call", desc := "(II)Z" } : Jvm.MethodName)) ∈ lw_all := lw_g (lw_at lw_m11 119 rfl) rfl
theorem q2913 : (Jvm.Cond.methodLink "ModuleEngineLaw" (48 : Nat) ({ cls := "ModuleEngine", name := "run", desc := "(I)I" } : Jvm.MethodName)) ∈ lw_all := lw_g (lw_at lw_m11 154 rfl) rfl
theorem q2922 : (Jvm.Cond.methodLink "ModuleEngineLaw" (52 : Nat) ({ cls := "ModuleEngine", name := "give", desc := "()Z" } : Jvm.MethodName)) ∈ lw_all := lw_g (lw_at lw_m11 163 rfl) rfl
theorem q2926 : (Jvm.Cond.methodLink "ModuleEngineLaw" (57 : Nat) ({ cls := "ModuleEngine", name := "answer", desc := "()Z" } : Jvm.MethodName)) ∈ lw_all := lw_g (lw_at lw_m11 167 rfl) rfl
theorem q2935 : (Jvm.Cond.methodLink "ModuleEngineLaw" (61 : Nat) ({ cls := "ModuleEngine", name := "state", desc := "(I)I" } : Jvm.MethodName)) ∈ lw_all := lw_g (lw_at lw_m11 176 rfl) rfl
theorem q2941 : (Jvm.Cond.methodLink "ModuleEngineLaw" (65 : Nat) ({ cls := "ModuleEngine", name := "value", desc := "(I)J" } : Jvm.MethodName)) ∈ lw_all := lw_g (lw_at lw_m11 182 rfl) rfl
theorem q2945 : (Jvm.Cond.methodLink "ModuleEngineLaw" (70 : Nat) ({ cls := "ModuleEngine", name := "tier", desc := "(I)I" } : Jvm.MethodName)) ∈ lw_all := lw_g (lw_at lw_m11 186 rfl) rfl
theorem q2949 : (Jvm.Cond.methodLink "ModuleEngineLaw" (74 : Nat) ({ cls := "ModuleEngine", name := "export", desc := "(III)I" } : Jvm.MethodName)) ∈ lw_all := lw_g (lw_at lw_m11 190 rfl) rfl
theorem q2958 : (Jvm.Cond.methodLink "ModuleEngineLaw" (79 : Nat) ({ cls := "ModuleEngine", name := "memory", desc := "(III)I" } : Jvm.MethodName)) ∈ lw_all := lw_g (lw_at lw_m11 199 rfl) rfl
theorem q2971 : (Jvm.Cond.methodLink "ModuleEngineLaw" (83 : Nat) ({ cls := "ModuleEngine", name := "poke", desc := "(IIII)Z" } : Jvm.MethodName)) ∈ lw_all := lw_g (lw_at lw_m11 212 rfl) rfl
theorem q2976 : (Jvm.Cond.methodLink "ModuleEngineLaw" (88 : Nat) ({ cls := "ModuleEngine", name := "table", desc := "(III)I" } : Jvm.MethodName)) ∈ lw_all := lw_g (lw_at lw_m11 217 rfl) rfl
theorem q2981 : (Jvm.Cond.methodLink "ModuleEngineLaw" (92 : Nat) ({ cls := "ModuleEngine", name := "global", desc := "(II)J" } : Jvm.MethodName)) ∈ lw_all := lw_g (lw_at lw_m11 222 rfl) rfl
theorem q2985 : (Jvm.Cond.classLink "ModuleEngineLaw" (10 : Nat) "ModuleEngineModel") ∈ lw_all := lw_g (lw_at lw_m11 226 rfl) rfl
theorem q2987 : (Jvm.Cond.methodLink "ModuleEngineLaw" (12 : Nat) ({ cls := "ModuleEngineModel", name := "<init>", desc := "()V" } : Jvm.MethodName)) ∈ lw_all := lw_g (lw_at lw_m11 228 rfl) rfl
theorem q3340 : (Jvm.Cond.methodLink "ModuleEngineLaw" (17 : Nat) ({ cls := "ModuleEngineModel", name := "feed", desc := "(IIIII)I" } : Jvm.MethodName)) ∈ lw_all := lw_g (lw_at lw_m13 101 rfl) rfl
theorem q3349 : (Jvm.Cond.methodLink "ModuleEngineLaw" (22 : Nat) ({ cls := "ModuleEngineModel", name := "module", desc := "(I)I" } : Jvm.MethodName)) ∈ lw_all := lw_g (lw_at lw_m13 110 rfl) rfl
theorem q3993 : (Jvm.Cond.methodLink "ModuleEngineLaw" (26 : Nat) ({ cls := "ModuleEngineModel", name := "fault", desc := "(I)I" } : Jvm.MethodName)) ∈ lw_all := lw_g (lw_at lw_m16 34 rfl) rfl
theorem q3997 : (Jvm.Cond.methodLink "ModuleEngineLaw" (31 : Nat) ({ cls := "ModuleEngineModel", name := "offer", desc := "(II)I" } : Jvm.MethodName)) ∈ lw_all := lw_g (lw_at lw_m16 38 rfl) rfl
theorem q4021 : (Jvm.Cond.methodLink "ModuleEngineLaw" (35 : Nat) ({ cls := "ModuleEngineModel", name := "make", desc := "(I)I" } : Jvm.MethodName)) ∈ lw_all := lw_g (lw_at lw_m16 62 rfl) rfl
theorem q4147 : (Jvm.Cond.methodLink "ModuleEngineLaw" (42 : Nat) ({ cls := "ModuleEngineModel", name := "argument", desc := "(J)I" } : Jvm.MethodName)) ∈ lw_all := lw_g (lw_at lw_m16 188 rfl) rfl
theorem q4151 : (Jvm.Cond.methodLink "ModuleEngineLaw" (47 : Nat) ({ cls := "ModuleEngineModel", name := "call", desc := "(II)Z" } : Jvm.MethodName)) ∈ lw_all := lw_g (lw_at lw_m16 192 rfl) rfl
theorem q4167 : (Jvm.Cond.methodLink "ModuleEngineLaw" (51 : Nat) ({ cls := "ModuleEngineModel", name := "run", desc := "(I)I" } : Jvm.MethodName)) ∈ lw_all := lw_g (lw_at lw_m16 208 rfl) rfl
theorem q4372 : (Jvm.Cond.methodLink "ModuleEngineLaw" (56 : Nat) ({ cls := "ModuleEngineModel", name := "give", desc := "()Z" } : Jvm.MethodName)) ∈ lw_all := lw_g (lw_at lw_m17 173 rfl) rfl
theorem q4376 : (Jvm.Cond.methodLink "ModuleEngineLaw" (60 : Nat) ({ cls := "ModuleEngineModel", name := "answer", desc := "()Z" } : Jvm.MethodName)) ∈ lw_all := lw_g (lw_at lw_m17 177 rfl) rfl
theorem q4380 : (Jvm.Cond.methodLink "ModuleEngineLaw" (64 : Nat) ({ cls := "ModuleEngineModel", name := "state", desc := "(I)I" } : Jvm.MethodName)) ∈ lw_all := lw_g (lw_at lw_m17 181 rfl) rfl
theorem q4384 : (Jvm.Cond.methodLink "ModuleEngineLaw" (69 : Nat) ({ cls := "ModuleEngineModel", name := "value", desc := "(I)J" } : Jvm.MethodName)) ∈ lw_all := lw_g (lw_at lw_m17 185 rfl) rfl
theorem q4388 : (Jvm.Cond.methodLink "ModuleEngineLaw" (73 : Nat) ({ cls := "ModuleEngineModel", name := "tier", desc := "(I)I" } : Jvm.MethodName)) ∈ lw_all := lw_g (lw_at lw_m17 189 rfl) rfl
theorem q4392 : (Jvm.Cond.methodLink "ModuleEngineLaw" (78 : Nat) ({ cls := "ModuleEngineModel", name := "export", desc := "(III)I" } : Jvm.MethodName)) ∈ lw_all := lw_g (lw_at lw_m17 193 rfl) rfl
theorem q4396 : (Jvm.Cond.methodLink "ModuleEngineLaw" (82 : Nat) ({ cls := "ModuleEngineModel", name := "memory", desc := "(III)I" } : Jvm.MethodName)) ∈ lw_all := lw_g (lw_at lw_m17 197 rfl) rfl
theorem q4400 : (Jvm.Cond.methodLink "ModuleEngineLaw" (87 : Nat) ({ cls := "ModuleEngineModel", name := "poke", desc := "(IIII)Z" } : Jvm.MethodName)) ∈ lw_all := lw_g (lw_at lw_m17 201 rfl) rfl
theorem q4404 : (Jvm.Cond.methodLink "ModuleEngineLaw" (91 : Nat) ({ cls := "ModuleEngineModel", name := "table", desc := "(III)I" } : Jvm.MethodName)) ∈ lw_all := lw_g (lw_at lw_m17 205 rfl) rfl
theorem q4408 : (Jvm.Cond.methodLink "ModuleEngineLaw" (96 : Nat) ({ cls := "ModuleEngineModel", name := "global", desc := "(II)J" } : Jvm.MethodName)) ∈ lw_all := lw_g (lw_at lw_m17 209 rfl) rfl
theorem q4412 : (Jvm.Cond.constantLong "ModuleEngineLaw" (36 : Nat) (4294967295 : Int64)) ∈ lw_all := lw_g (lw_at lw_m17 213 rfl) rfl

theorem q1757 : (Jvm.Cond.interfaceMethod "ModuleEngine$Types" "ModuleEngine$Types" "parameters" "(I)I") ∈ lw_tbl := lw_at lw_m6 198 rfl
set_option maxRecDepth 100000
theorem q1758 : (Jvm.Cond.declares ({ cls := "ModuleEngine$Types", name := "parameters", desc := "(I)I" } : Jvm.MethodName)) ∈ lw_tbl := lw_at lw_m6 199 rfl
theorem q1768 : (Jvm.Cond.interfaceMethod "ModuleEngine$Types" "ModuleEngine$Types" "parameter" "(II)I") ∈ lw_tbl := lw_at lw_m6 209 rfl
theorem q1769 : (Jvm.Cond.declares ({ cls := "ModuleEngine$Types", name := "parameter", desc := "(II)I" } : Jvm.MethodName)) ∈ lw_tbl := lw_at lw_m6 210 rfl
theorem q1827 : (Jvm.Cond.interfaceMethod "ModuleEngine$Types" "ModuleEngine$Types" "count" "()I") ∈ lw_tbl := lw_at lw_m7 28 rfl
theorem q1828 : (Jvm.Cond.declares ({ cls := "ModuleEngine$Types", name := "count", desc := "()I" } : Jvm.MethodName)) ∈ lw_tbl := lw_at lw_m7 29 rfl
theorem q1877 : (Jvm.Cond.interfaceMethod "ModuleEngine$Types" "ModuleEngine$Types" "results" "(I)I") ∈ lw_tbl := lw_at lw_m7 78 rfl
theorem q1878 : (Jvm.Cond.declares ({ cls := "ModuleEngine$Types", name := "results", desc := "(I)I" } : Jvm.MethodName)) ∈ lw_tbl := lw_at lw_m7 79 rfl
theorem q1891 : (Jvm.Cond.interfaceMethod "ModuleEngine$Types" "ModuleEngine$Types" "result" "(II)I") ∈ lw_tbl := lw_at lw_m7 92 rfl
theorem q1892 : (Jvm.Cond.declares ({ cls := "ModuleEngine$Types", name := "result", desc := "(II)I" } : Jvm.MethodName)) ∈ lw_tbl := lw_at lw_m7 93 rfl
