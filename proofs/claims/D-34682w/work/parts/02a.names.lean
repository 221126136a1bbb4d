theorem q906 : (Jvm.Cond.castable "[B" "java/lang/Object") ∈ lw_tbl := lw_at lw_m4 164 rfl
set_option maxRecDepth 100000
theorem q903 : (Jvm.Cond.castable "[I" "java/lang/Object") ∈ lw_tbl := lw_at lw_m4 161 rfl
set_option maxRecDepth 100000
theorem q909 : (Jvm.Cond.castable "[J" "java/lang/Object") ∈ lw_tbl := lw_at lw_m4 167 rfl
set_option maxRecDepth 100000
theorem q63 : (Jvm.Cond.sameMethod "[LFundBook$Bearing;" "java/lang/Object" "clone" "()Ljava/lang/Object;") ∈ lw_all := lw_g (lw_at lw_m1 41 rfl) rfl
set_option maxRecDepth 100000
theorem q66 : (Jvm.Cond.selects "[LFundBook$Bearing;" ({ cls := "[LFundBook$Bearing;", name := "clone", desc := "()Ljava/lang/Object;" } : Jvm.MethodName) ({ cls := "java/lang/Object", name := "clone", desc := "()Ljava/lang/Object;" } : Jvm.MethodName)) ∈ lw_all := lw_g (lw_at lw_m1 44 rfl) rfl
theorem q67 : (Jvm.Cond.castable "[LFundBook$Bearing;" "java/lang/Cloneable") ∈ lw_tbl := lw_at lw_m1 45 rfl
theorem q902 : (Jvm.Cond.castable "[LFundBook$Bearing;" "java/lang/Object") ∈ lw_tbl := lw_at lw_m4 160 rfl
theorem q904 : (Jvm.Cond.castable "[LFundBook$Deposit;" "java/lang/Object") ∈ lw_tbl := lw_at lw_m4 162 rfl
set_option maxRecDepth 100000
theorem q899 : (Jvm.Cond.sameMethod "[Ljava/lang/Object;" "java/lang/Object" "getClass" "()Ljava/lang/Class;") ∈ lw_all := lw_g (lw_at lw_m4 157 rfl) rfl
set_option maxRecDepth 100000
theorem q900 : (Jvm.Cond.selects "[Ljava/lang/Object;" ({ cls := "java/lang/Object", name := "getClass", desc := "()Ljava/lang/Class;" } : Jvm.MethodName) ({ cls := "java/lang/Object", name := "getClass", desc := "()Ljava/lang/Class;" } : Jvm.MethodName)) ∈ lw_all := lw_g (lw_at lw_m4 158 rfl) rfl
theorem q907 : (Jvm.Cond.castable "[Ljava/lang/Object;" "java/lang/Object") ∈ lw_tbl := lw_at lw_m4 165 rfl
theorem q908 : (Jvm.Cond.castable "[Z" "java/lang/Object") ∈ lw_tbl := lw_at lw_m4 166 rfl
set_option maxRecDepth 100000
theorem q905 : (Jvm.Cond.castable "[[I" "java/lang/Object") ∈ lw_tbl := lw_at lw_m4 163 rfl
set_option maxRecDepth 100000
theorem q24 : (Jvm.Cond.initialized "java/lang/Enum") ∈ lw_all := lw_g (lw_at lw_m1 2 rfl) rfl
set_option maxRecDepth 100000
theorem q45 : (Jvm.Cond.initialized "java/lang/System") ∈ lw_all := lw_g (lw_at lw_m1 23 rfl) rfl
set_option maxRecDepth 100000
theorem q456 : (Jvm.Cond.static ({ cls := "java/lang/System", name := "arraycopy", desc := "(Ljava/lang/Object;ILjava/lang/Object;II)V" } : Jvm.MethodName)) ∈ lw_all := lw_g (lw_at lw_m2 194 rfl) rfl
theorem q457 : (Jvm.Cond.native ({ cls := "java/lang/System", name := "arraycopy", desc := "(Ljava/lang/Object;ILjava/lang/Object;II)V" } : Jvm.MethodName)) ∈ lw_all := lw_g (lw_at lw_m2 195 rfl) rfl
theorem q169 : (Jvm.Cond.interfaceMethod "java/util/List" "java/util/List" "size" "()I") ∈ lw_tbl := lw_at lw_m1 147 rfl
set_option maxRecDepth 100000
theorem q170 : (Jvm.Cond.declares ({ cls := "java/util/List", name := "size", desc := "()I" } : Jvm.MethodName)) ∈ lw_tbl := lw_at lw_m1 148 rfl
theorem q396 : (Jvm.Cond.interfaceMethod "java/util/List" "java/util/List" "add" "(Ljava/lang/Object;)Z") ∈ lw_tbl := lw_at lw_m2 134 rfl
theorem q397 : (Jvm.Cond.declares ({ cls := "java/util/List", name := "add", desc := "(Ljava/lang/Object;)Z" } : Jvm.MethodName)) ∈ lw_tbl := lw_at lw_m2 135 rfl
theorem q473 : (Jvm.Cond.interfaceMethod "java/util/List" "java/util/List" "get" "(I)Ljava/lang/Object;") ∈ lw_tbl := lw_at lw_m2 211 rfl
theorem q474 : (Jvm.Cond.declares ({ cls := "java/util/List", name := "get", desc := "(I)Ljava/lang/Object;" } : Jvm.MethodName)) ∈ lw_tbl := lw_at lw_m2 212 rfl
theorem q68 : (Jvm.Cond.arrayOver (Jvm.ClassFile.FieldType.object "FundBook$Bearing")) ∈ lw_tbl := lw_at lw_m1 46 rfl
set_option maxRecDepth 100000
theorem q96 : (Jvm.Cond.arrayClass Jvm.ClassFile.FieldType.int) ∈ lw_all := lw_g (lw_at lw_m1 74 rfl) rfl
theorem q98 : (Jvm.Cond.arrayOver (Jvm.ClassFile.FieldType.object "FundBook$Deposit")) ∈ lw_tbl := lw_at lw_m1 76 rfl
theorem q100 : (Jvm.Cond.arrayOver (Jvm.ClassFile.FieldType.array Jvm.ClassFile.FieldType.int)) ∈ lw_tbl := lw_at lw_m1 78 rfl
theorem q260 : (Jvm.Cond.arrayClass Jvm.ClassFile.FieldType.byte) ∈ lw_all := lw_g (lw_at lw_m1 238 rfl) rfl
theorem q450 : (Jvm.Cond.arrayOver (Jvm.ClassFile.FieldType.object "java/lang/Object")) ∈ lw_tbl := lw_at lw_m2 188 rfl
theorem q747 : (Jvm.Cond.arrayClass Jvm.ClassFile.FieldType.boolean) ∈ lw_all := lw_g (lw_at lw_m4 5 rfl) rfl
theorem q874 : (Jvm.Cond.arrayClass Jvm.ClassFile.FieldType.long) ∈ lw_all := lw_g (lw_at lw_m4 132 rfl) rfl
/-! java/util/AbstractCollection -/
set_option maxRecDepth 100000
def RJ0 : String := "java/util/AbstractCollection"
abbrev cJ0_init : ByteArray := prog_28_method_1_code
def yJ0_init : MethodName := ⟨RJ0, "<init>", "()V"⟩
theorem dJ0_init_0 : decode cJ0_init 0 = .ok (.aload_n 0, 1) := by decide +kernel
theorem dJ0_init_1 : decode cJ0_init 1 = .ok (.invokespecial 1, 3) := by decide +kernel
theorem dJ0_init_4 : decode cJ0_init 4 = .ok (.return_, 1) := by decide +kernel
theorem q26 : (Jvm.Cond.initialized "java/util/AbstractCollection") ∈ lw_all := lw_g (lw_at lw_m1 4 rfl) rfl
theorem q79 : (Jvm.Cond.instanceMethod ({ cls := "java/util/AbstractCollection", name := "<init>", desc := "()V" } : Jvm.MethodName)) ∈ lw_all := lw_g (lw_at lw_m1 57 rfl) rfl
theorem q80 : (Jvm.Cond.code ({ cls := "java/util/AbstractCollection", name := "<init>", desc := "()V" } : Jvm.MethodName) prog_28_method_1_code (1 : Nat) (Option.none : Option Jvm.ClassFile.FieldType)) ∈ lw_all := lw_g (lw_at lw_m1 58 rfl) rfl
theorem q81 : (Jvm.Cond.methodLink "java/util/AbstractCollection" (1 : Nat) ({ cls := "java/lang/Object", name := "<init>", desc := "()V" } : Jvm.MethodName)) ∈ lw_all := lw_g (lw_at lw_m1 59 rfl) rfl
/-! java/util/AbstractList -/
set_option maxRecDepth 100000
def RJ1 : String := "java/util/AbstractList"
abbrev cJ1_init : ByteArray := prog_29_method_1_code
def yJ1_init : MethodName := ⟨RJ1, "<init>", "()V"⟩
def dkwJ1_init_0 : List UInt8 := [42, 183, 0, 1, 42, 3, 181, 0, 7, 177]
abbrev dktJ1_init_0 : List UInt8 := dkwJ1_init_0 ++ []
theorem dksJ1_init_0 : cJ1_init.data.toList.drop 0 = dktJ1_init_0 := by decide +kernel
theorem dJ1_init_0 : decode cJ1_init 0 = .ok (.aload_n 0, 1) := dk_42 (dk_at dksJ1_init_0 0 rfl rfl)
theorem dJ1_init_1 : decode cJ1_init 1 = .ok (.invokespecial 1, 3) := dk_183 0 1 (dk_at dksJ1_init_0 1 rfl rfl)
theorem dJ1_init_4 : decode cJ1_init 4 = .ok (.aload_n 0, 1) := dk_42 (dk_at dksJ1_init_0 4 rfl rfl)
theorem dJ1_init_5 : decode cJ1_init 5 = .ok (.iconst 0, 1) := dk_3 (dk_at dksJ1_init_0 5 rfl rfl)
theorem dJ1_init_6 : decode cJ1_init 6 = .ok (.putfield 7, 3) := dk_181 0 7 (dk_at dksJ1_init_0 6 rfl rfl)
theorem dJ1_init_9 : decode cJ1_init 9 = .ok (.return_, 1) := dk_177 (dk_at dksJ1_init_0 9 rfl rfl)
theorem q27 : (Jvm.Cond.initialized "java/util/AbstractList") ∈ lw_all := lw_g (lw_at lw_m1 5 rfl) rfl
theorem q76 : (Jvm.Cond.instanceMethod ({ cls := "java/util/AbstractList", name := "<init>", desc := "()V" } : Jvm.MethodName)) ∈ lw_all := lw_g (lw_at lw_m1 54 rfl) rfl
theorem q77 : (Jvm.Cond.code ({ cls := "java/util/AbstractList", name := "<init>", desc := "()V" } : Jvm.MethodName) prog_29_method_1_code (1 : Nat) (Option.none : Option Jvm.ClassFile.FieldType)) ∈ lw_all := lw_g (lw_at lw_m1 55 rfl) rfl
theorem q78 : (Jvm.Cond.methodLink "java/util/AbstractList" (1 : Nat) ({ cls := "java/util/AbstractCollection", name := "<init>", desc := "()V" } : Jvm.MethodName)) ∈ lw_all := lw_g (lw_at lw_m1 56 rfl) rfl
theorem q86 : (Jvm.Cond.fieldLink "java/util/AbstractList" (7 : Nat) "java/util/AbstractList" "modCount" "I") ∈ lw_all := lw_g (lw_at lw_m1 64 rfl) rfl
theorem q94 : (Jvm.Cond.soleField "java/util/AbstractList" "modCount") ∈ lw_all := lw_g (lw_at lw_m1 72 rfl) rfl
/-! java/lang/IllegalArgumentException -/
set_option maxRecDepth 100000
def RJ10 : String := "java/lang/IllegalArgumentException"
def TJ10 : u_T := fun k => match k with
  | 0 => ("java/lang/Throwable", "cause", "Ljava/lang/Throwable;", false)
  | 1 => ("java/lang/Throwable", "stackTrace", "[Ljava/lang/StackTraceElement;", false)
  | 2 => ("java/lang/Throwable", "suppressedExceptions", "Ljava/util/List;", false)
  | 3 => ("java/lang/Throwable", "detailMessage", "Ljava/lang/String;", false)
  | 4 => ("java/lang/Throwable", "backtrace", "Ljava/lang/Object;", false)
  | _ => ("java/lang/Throwable", "depth", "I", false)
def tyJ10 : Nat → FieldType := fun k => match k with
  | 0 => .object "java/lang/Throwable"
  | 1 => .array (.object "java/lang/StackTraceElement")
  | 2 => .object "java/util/List"
  | 3 => .object "java/lang/String"
  | 4 => .object "java/lang/Object"
  | _ => .int
abbrev wsJ100 : List Cond := u_ws RJ10 TJ10 6
theorem nmJ10 : ∀ a, a < 6 → ∀ b, b < 6 → a ≠ b → (TJ10 a).2.1 ≠ (TJ10 b).2.1 := by decide +kernel
theorem tyJ10_ok : ∀ k, k < 6 → parseFieldDescriptor (TJ10 k).2.2.1 = some (tyJ10 k) := by decide +kernel
abbrev cJ10_init : ByteArray := prog_18_method_1_code
def yJ10_init : MethodName := ⟨RJ10, "<init>", "()V"⟩
theorem dJ10_init_0 : decode cJ10_init 0 = .ok (.aload_n 0, 1) := by decide +kernel
theorem dJ10_init_1 : decode cJ10_init 1 = .ok (.invokespecial 1, 3) := by decide +kernel
theorem dJ10_init_4 : decode cJ10_init 4 = .ok (.return_, 1) := by decide +kernel
theorem q38 : (Jvm.Cond.initialized "java/lang/IllegalArgumentException") ∈ lw_all := lw_g (lw_at lw_m1 16 rfl) rfl
theorem q213 : (Jvm.Cond.selects "java/lang/IllegalArgumentException" ({ cls := "java/lang/Throwable", name := "fillInStackTrace", desc := "()Ljava/lang/Throwable;" } : Jvm.MethodName) ({ cls := "java/lang/Throwable", name := "fillInStackTrace", desc := "()Ljava/lang/Throwable;" } : Jvm.MethodName)) ∈ lw_all := lw_g (lw_at lw_m1 191 rfl) rfl
theorem q301 : (Jvm.Cond.instantiable "java/lang/IllegalArgumentException" (6 : Nat)) ∈ lw_all := lw_g (lw_at lw_m2 39 rfl) rfl
theorem q302 : (Jvm.Cond.castable "java/lang/IllegalArgumentException" "java/lang/IllegalArgumentException") ∈ lw_tbl := lw_at lw_m2 40 rfl
theorem q303 : (Jvm.Cond.selects "java/lang/IllegalArgumentException" ({ cls := "java/lang/Throwable", name := "fillInStackTrace", desc := "(I)Ljava/lang/Throwable;" } : Jvm.MethodName) ({ cls := "java/lang/Throwable", name := "fillInStackTrace", desc := "(I)Ljava/lang/Throwable;" } : Jvm.MethodName)) ∈ lw_all := lw_g (lw_at lw_m2 41 rfl) rfl
theorem q304 : (Jvm.Cond.lays "java/lang/IllegalArgumentException" "java/lang/Throwable" "cause" "Ljava/lang/Throwable;") ∈ lw_all := lw_g (lw_at lw_m2 42 rfl) rfl
theorem q305 : (Jvm.Cond.lays "java/lang/IllegalArgumentException" "java/lang/Throwable" "stackTrace" "[Ljava/lang/StackTraceElement;") ∈ lw_all := lw_g (lw_at lw_m2 43 rfl) rfl
theorem q306 : (Jvm.Cond.lays "java/lang/IllegalArgumentException" "java/lang/Throwable" "suppressedExceptions" "Ljava/util/List;") ∈ lw_all := lw_g (lw_at lw_m2 44 rfl) rfl
theorem q307 : (Jvm.Cond.lays "java/lang/IllegalArgumentException" "java/lang/Throwable" "detailMessage" "Ljava/lang/String;") ∈ lw_all := lw_g (lw_at lw_m2 45 rfl) rfl
theorem q308 : (Jvm.Cond.lays "java/lang/IllegalArgumentException" "java/lang/Throwable" "backtrace" "Ljava/lang/Object;") ∈ lw_all := lw_g (lw_at lw_m2 46 rfl) rfl
theorem q310 : (Jvm.Cond.instanceMethod ({ cls := "java/lang/IllegalArgumentException", name := "<init>", desc := "()V" } : Jvm.MethodName)) ∈ lw_all := lw_g (lw_at lw_m2 48 rfl) rfl
theorem q311 : (Jvm.Cond.code ({ cls := "java/lang/IllegalArgumentException", name := "<init>", desc := "()V" } : Jvm.MethodName) prog_18_method_1_code (1 : Nat) (Option.none : Option Jvm.ClassFile.FieldType)) ∈ lw_all := lw_g (lw_at lw_m2 49 rfl) rfl
theorem q312 : (Jvm.Cond.methodLink "java/lang/IllegalArgumentException" (1 : Nat) ({ cls := "java/lang/RuntimeException", name := "<init>", desc := "()V" } : Jvm.MethodName)) ∈ lw_all := lw_g (lw_at lw_m2 50 rfl) rfl
theorem q313 : (Jvm.Cond.lays "java/lang/IllegalArgumentException" "java/lang/Throwable" "depth" "I") ∈ lw_all := lw_g (lw_at lw_m2 51 rfl) rfl
theorem q314 : (Jvm.Cond.superclass "java/lang/IllegalArgumentException" "java/lang/RuntimeException") ∈ lw_all := lw_g (lw_at lw_m2 52 rfl) rfl
theorem q441 : (Jvm.Cond.selects "java/lang/IllegalArgumentException" ({ cls := "java/lang/Object", name := "getClass", desc := "()Ljava/lang/Class;" } : Jvm.MethodName) ({ cls := "java/lang/Object", name := "getClass", desc := "()Ljava/lang/Class;" } : Jvm.MethodName)) ∈ lw_all := lw_g (lw_at lw_m2 179 rfl) rfl
theorem q889 : (Jvm.Cond.castable "java/lang/IllegalArgumentException" "java/lang/Object") ∈ lw_tbl := lw_at lw_m4 147 rfl
theorem in_J10 : ∀ w ∈ wsJ100, w ∈ lw_all := lw_in wsJ100 [304, 305, 306, 307, 308, 313] (by decide +kernel) (by decide +kernel)
/-! java/lang/IllegalStateException -/
set_option maxRecDepth 100000
def RJ11 : String := "java/lang/IllegalStateException"
def TJ11 : u_T := fun k => match k with
  | 0 => ("java/lang/Throwable", "cause", "Ljava/lang/Throwable;", false)
  | 1 => ("java/lang/Throwable", "stackTrace", "[Ljava/lang/StackTraceElement;", false)
  | 2 => ("java/lang/Throwable", "suppressedExceptions", "Ljava/util/List;", false)
  | 3 => ("java/lang/Throwable", "detailMessage", "Ljava/lang/String;", false)
  | 4 => ("java/lang/Throwable", "backtrace", "Ljava/lang/Object;", false)
  | _ => ("java/lang/Throwable", "depth", "I", false)
def tyJ11 : Nat → FieldType := fun k => match k with
  | 0 => .object "java/lang/Throwable"
  | 1 => .array (.object "java/lang/StackTraceElement")
  | 2 => .object "java/util/List"
  | 3 => .object "java/lang/String"
  | 4 => .object "java/lang/Object"
  | _ => .int
abbrev wsJ110 : List Cond := u_ws RJ11 TJ11 6
theorem nmJ11 : ∀ a, a < 6 → ∀ b, b < 6 → a ≠ b → (TJ11 a).2.1 ≠ (TJ11 b).2.1 := by decide +kernel
theorem tyJ11_ok : ∀ k, k < 6 → parseFieldDescriptor (TJ11 k).2.2.1 = some (tyJ11 k) := by decide +kernel
abbrev cJ11_init : ByteArray := prog_19_method_1_code
def yJ11_init : MethodName := ⟨RJ11, "<init>", "()V"⟩
theorem dJ11_init_0 : decode cJ11_init 0 = .ok (.aload_n 0, 1) := by decide +kernel
theorem dJ11_init_1 : decode cJ11_init 1 = .ok (.invokespecial 1, 3) := by decide +kernel
theorem dJ11_init_4 : decode cJ11_init 4 = .ok (.return_, 1) := by decide +kernel
theorem q39 : (Jvm.Cond.initialized "java/lang/IllegalStateException") ∈ lw_all := lw_g (lw_at lw_m1 17 rfl) rfl
theorem q214 : (Jvm.Cond.selects "java/lang/IllegalStateException" ({ cls := "java/lang/Throwable", name := "fillInStackTrace", desc := "()Ljava/lang/Throwable;" } : Jvm.MethodName) ({ cls := "java/lang/Throwable", name := "fillInStackTrace", desc := "()Ljava/lang/Throwable;" } : Jvm.MethodName)) ∈ lw_all := lw_g (lw_at lw_m1 192 rfl) rfl
theorem q335 : (Jvm.Cond.instantiable "java/lang/IllegalStateException" (6 : Nat)) ∈ lw_all := lw_g (lw_at lw_m2 73 rfl) rfl
theorem q336 : (Jvm.Cond.castable "java/lang/IllegalStateException" "java/lang/IllegalStateException") ∈ lw_tbl := lw_at lw_m2 74 rfl
theorem q337 : (Jvm.Cond.selects "java/lang/IllegalStateException" ({ cls := "java/lang/Throwable", name := "fillInStackTrace", desc := "(I)Ljava/lang/Throwable;" } : Jvm.MethodName) ({ cls := "java/lang/Throwable", name := "fillInStackTrace", desc := "(I)Ljava/lang/Throwable;" } : Jvm.MethodName)) ∈ lw_all := lw_g (lw_at lw_m2 75 rfl) rfl
theorem q338 : (Jvm.Cond.lays "java/lang/IllegalStateException" "java/lang/Throwable" "cause" "Ljava/lang/Throwable;") ∈ lw_all := lw_g (lw_at lw_m2 76 rfl) rfl
theorem q339 : (Jvm.Cond.lays "java/lang/IllegalStateException" "java/lang/Throwable" "stackTrace" "[Ljava/lang/StackTraceElement;") ∈ lw_all := lw_g (lw_at lw_m2 77 rfl) rfl
theorem q340 : (Jvm.Cond.lays "java/lang/IllegalStateException" "java/lang/Throwable" "suppressedExceptions" "Ljava/util/List;") ∈ lw_all := lw_g (lw_at lw_m2 78 rfl) rfl
theorem q341 : (Jvm.Cond.lays "java/lang/IllegalStateException" "java/lang/Throwable" "detailMessage" "Ljava/lang/String;") ∈ lw_all := lw_g (lw_at lw_m2 79 rfl) rfl
theorem q342 : (Jvm.Cond.lays "java/lang/IllegalStateException" "java/lang/Throwable" "backtrace" "Ljava/lang/Object;") ∈ lw_all := lw_g (lw_at lw_m2 80 rfl) rfl
theorem q344 : (Jvm.Cond.instanceMethod ({ cls := "java/lang/IllegalStateException", name := "<init>", desc := "()V" } : Jvm.MethodName)) ∈ lw_all := lw_g (lw_at lw_m2 82 rfl) rfl
theorem q345 : (Jvm.Cond.code ({ cls := "java/lang/IllegalStateException", name := "<init>", desc := "()V" } : Jvm.MethodName) prog_19_method_1_code (1 : Nat) (Option.none : Option Jvm.ClassFile.FieldType)) ∈ lw_all := lw_g (lw_at lw_m2 83 rfl) rfl
theorem q346 : (Jvm.Cond.methodLink "java/lang/IllegalStateException" (1 : Nat) ({ cls := "java/lang/RuntimeException", name := "<init>", desc := "()V" } : Jvm.MethodName)) ∈ lw_all := lw_g (lw_at lw_m2 84 rfl) rfl
theorem q347 : (Jvm.Cond.lays "java/lang/IllegalStateException" "java/lang/Throwable" "depth" "I") ∈ lw_all := lw_g (lw_at lw_m2 85 rfl) rfl
theorem q348 : (Jvm.Cond.superclass "java/lang/IllegalStateException" "java/lang/RuntimeException") ∈ lw_all := lw_g (lw_at lw_m2 86 rfl) rfl
theorem q442 : (Jvm.Cond.selects "java/lang/IllegalStateException" ({ cls := "java/lang/Object", name := "getClass", desc := "()Ljava/lang/Class;" } : Jvm.MethodName) ({ cls := "java/lang/Object", name := "getClass", desc := "()Ljava/lang/Class;" } : Jvm.MethodName)) ∈ lw_all := lw_g (lw_at lw_m2 180 rfl) rfl
theorem q890 : (Jvm.Cond.castable "java/lang/IllegalStateException" "java/lang/Object") ∈ lw_tbl := lw_at lw_m4 148 rfl
theorem in_J11 : ∀ w ∈ wsJ110, w ∈ lw_all := lw_in wsJ110 [338, 339, 340, 341, 342, 347] (by decide +kernel) (by decide +kernel)
/-! jdk/internal/util/ArraysSupport -/
set_option maxRecDepth 100000
def RJ12 : String := "jdk/internal/util/ArraysSupport"
abbrev cJ12_newLength : ByteArray := prog_37_method_27_code
def yJ12_newLength : MethodName := ⟨RJ12, "newLength", "(III)I"⟩
def dkwJ12_newLength_1 : List UInt8 := [184, 0, 201, 172]
abbrev dktJ12_newLength_1 : List UInt8 := dkwJ12_newLength_1 ++ []
def dkwJ12_newLength_0 : List UInt8 := [26, 27, 28, 184, 0, 194, 96, 62, 3, 29, 162, 0, 11, 29, 18, 200, 163, 0, 5, 29, 172, 26, 27]
abbrev dktJ12_newLength_0 : List UInt8 := dkwJ12_newLength_0 ++ dktJ12_newLength_1
theorem dksJ12_newLength_0 : cJ12_newLength.data.toList.drop 0 = dktJ12_newLength_0 := by decide +kernel
theorem dksJ12_newLength_1 : cJ12_newLength.data.toList.drop 23 = dktJ12_newLength_1 := dk_seg dksJ12_newLength_0 23 rfl rfl
theorem dJ12_newLength_0 : decode cJ12_newLength 0 = .ok (.iload_n 0, 1) := dk_26 (dk_at dksJ12_newLength_0 0 rfl rfl)
theorem dJ12_newLength_1 : decode cJ12_newLength 1 = .ok (.iload_n 1, 1) := dk_27 (dk_at dksJ12_newLength_0 1 rfl rfl)
theorem dJ12_newLength_2 : decode cJ12_newLength 2 = .ok (.iload_n 2, 1) := dk_28 (dk_at dksJ12_newLength_0 2 rfl rfl)
theorem dJ12_newLength_3 : decode cJ12_newLength 3 = .ok (.invokestatic 194, 3) := dk_184 0 194 (dk_at dksJ12_newLength_0 3 rfl rfl)
theorem dJ12_newLength_6 : decode cJ12_newLength 6 = .ok (.iadd, 1) := dk_96 (dk_at dksJ12_newLength_0 6 rfl rfl)
theorem dJ12_newLength_7 : decode cJ12_newLength 7 = .ok (.istore_n 3, 1) := dk_62 (dk_at dksJ12_newLength_0 7 rfl rfl)
theorem dJ12_newLength_8 : decode cJ12_newLength 8 = .ok (.iconst 0, 1) := dk_3 (dk_at dksJ12_newLength_0 8 rfl rfl)
theorem dJ12_newLength_9 : decode cJ12_newLength 9 = .ok (.iload_n 3, 1) := dk_29 (dk_at dksJ12_newLength_0 9 rfl rfl)
theorem dJ12_newLength_10 : decode cJ12_newLength 10 = .ok (.if_icmp .ge 11, 3) := dk_162 0 11 (dk_at dksJ12_newLength_0 10 rfl rfl)
theorem dJ12_newLength_13 : decode cJ12_newLength 13 = .ok (.iload_n 3, 1) := dk_29 (dk_at dksJ12_newLength_0 13 rfl rfl)
theorem dJ12_newLength_14 : decode cJ12_newLength 14 = .ok (.ldc 200, 2) := dk_18 200 (dk_at dksJ12_newLength_0 14 rfl rfl)
theorem dJ12_newLength_16 : decode cJ12_newLength 16 = .ok (.if_icmp .gt 5, 3) := dk_163 0 5 (dk_at dksJ12_newLength_0 16 rfl rfl)
theorem dJ12_newLength_19 : decode cJ12_newLength 19 = .ok (.iload_n 3, 1) := dk_29 (dk_at dksJ12_newLength_0 19 rfl rfl)
theorem dJ12_newLength_20 : decode cJ12_newLength 20 = .ok (.ireturn, 1) := dk_172 (dk_at dksJ12_newLength_0 20 rfl rfl)
theorem dJ12_newLength_21 : decode cJ12_newLength 21 = .ok (.iload_n 0, 1) := dk_26 (dk_at dksJ12_newLength_0 21 rfl rfl)
theorem dJ12_newLength_22 : decode cJ12_newLength 22 = .ok (.iload_n 1, 1) := dk_27 (dk_at dksJ12_newLength_0 22 rfl rfl)
theorem dJ12_newLength_23 : decode cJ12_newLength 23 = .ok (.invokestatic 201, 3) := dk_184 0 201 (dk_at dksJ12_newLength_1 0 rfl rfl)
theorem dJ12_newLength_26 : decode cJ12_newLength 26 = .ok (.ireturn, 1) := dk_172 (dk_at dksJ12_newLength_1 3 rfl rfl)
abbrev cJ12_hugeLength : ByteArray := prog_37_method_28_code
def yJ12_hugeLength : MethodName := ⟨RJ12, "hugeLength", "(II)I"⟩
def dkwJ12_hugeLength_2 : List UInt8 := [191, 28, 18, 200, 163, 0, 6, 18, 200, 172, 28, 172]
abbrev dktJ12_hugeLength_2 : List UInt8 := dkwJ12_hugeLength_2 ++ []
def dkwJ12_hugeLength_1 : List UInt8 := [26, 182, 0, 98, 18, 208, 182, 0, 94, 27, 182, 0, 98, 18, 210, 182, 0, 94, 182, 0, 101, 183, 0, 212]
abbrev dktJ12_hugeLength_1 : List UInt8 := dkwJ12_hugeLength_1 ++ dktJ12_hugeLength_2
def dkwJ12_hugeLength_0 : List UInt8 := [26, 27, 96, 61, 28, 156, 0, 44, 187, 0, 204, 89, 187, 0, 89, 89, 183, 0, 91, 18, 206, 182, 0, 94]
abbrev dktJ12_hugeLength_0 : List UInt8 := dkwJ12_hugeLength_0 ++ dktJ12_hugeLength_1
theorem dksJ12_hugeLength_0 : cJ12_hugeLength.data.toList.drop 0 = dktJ12_hugeLength_0 := by decide +kernel
theorem dksJ12_hugeLength_1 : cJ12_hugeLength.data.toList.drop 24 = dktJ12_hugeLength_1 := dk_seg dksJ12_hugeLength_0 24 rfl rfl
theorem dksJ12_hugeLength_2 : cJ12_hugeLength.data.toList.drop 48 = dktJ12_hugeLength_2 := dk_seg dksJ12_hugeLength_1 24 rfl rfl
theorem dJ12_hugeLength_0 : decode cJ12_hugeLength 0 = .ok (.iload_n 0, 1) := dk_26 (dk_at dksJ12_hugeLength_0 0 rfl rfl)
theorem dJ12_hugeLength_1 : decode cJ12_hugeLength 1 = .ok (.iload_n 1, 1) := dk_27 (dk_at dksJ12_hugeLength_0 1 rfl rfl)
theorem dJ12_hugeLength_2 : decode cJ12_hugeLength 2 = .ok (.iadd, 1) := dk_96 (dk_at dksJ12_hugeLength_0 2 rfl rfl)
theorem dJ12_hugeLength_3 : decode cJ12_hugeLength 3 = .ok (.istore_n 2, 1) := dk_61 (dk_at dksJ12_hugeLength_0 3 rfl rfl)
theorem dJ12_hugeLength_4 : decode cJ12_hugeLength 4 = .ok (.iload_n 2, 1) := dk_28 (dk_at dksJ12_hugeLength_0 4 rfl rfl)
theorem dJ12_hugeLength_5 : decode cJ12_hugeLength 5 = .ok (.ifCond .ge 44, 3) := dk_156 0 44 (dk_at dksJ12_hugeLength_0 5 rfl rfl)
theorem dJ12_hugeLength_8 : decode cJ12_hugeLength 8 = .ok (.new 204, 3) := dk_187 0 204 (dk_at dksJ12_hugeLength_0 8 rfl rfl)
theorem dJ12_hugeLength_11 : decode cJ12_hugeLength 11 = .ok (.dup, 1) := dk_89 (dk_at dksJ12_hugeLength_0 11 rfl rfl)
theorem dJ12_hugeLength_12 : decode cJ12_hugeLength 12 = .ok (.new 89, 3) := dk_187 0 89 (dk_at dksJ12_hugeLength_0 12 rfl rfl)
theorem dJ12_hugeLength_15 : decode cJ12_hugeLength 15 = .ok (.dup, 1) := dk_89 (dk_at dksJ12_hugeLength_0 15 rfl rfl)
theorem dJ12_hugeLength_16 : decode cJ12_hugeLength 16 = .ok (.invokespecial 91, 3) := dk_183 0 91 (dk_at dksJ12_hugeLength_0 16 rfl rfl)
theorem dJ12_hugeLength_19 : decode cJ12_hugeLength 19 = .ok (.ldc 206, 2) := dk_18 206 (dk_at dksJ12_hugeLength_0 19 rfl rfl)
theorem dJ12_hugeLength_21 : decode cJ12_hugeLength 21 = .ok (.invokevirtual 94, 3) := dk_182 0 94 (dk_at dksJ12_hugeLength_0 21 rfl rfl)
theorem dJ12_hugeLength_24 : decode cJ12_hugeLength 24 = .ok (.iload_n 0, 1) := dk_26 (dk_at dksJ12_hugeLength_1 0 rfl rfl)
theorem dJ12_hugeLength_25 : decode cJ12_hugeLength 25 = .ok (.invokevirtual 98, 3) := dk_182 0 98 (dk_at dksJ12_hugeLength_1 1 rfl rfl)
theorem dJ12_hugeLength_28 : decode cJ12_hugeLength 28 = .ok (.ldc 208, 2) := dk_18 208 (dk_at dksJ12_hugeLength_1 4 rfl rfl)
theorem dJ12_hugeLength_30 : decode cJ12_hugeLength 30 = .ok (.invokevirtual 94, 3) := dk_182 0 94 (dk_at dksJ12_hugeLength_1 6 rfl rfl)
theorem dJ12_hugeLength_33 : decode cJ12_hugeLength 33 = .ok (.iload_n 1, 1) := dk_27 (dk_at dksJ12_hugeLength_1 9 rfl rfl)
theorem dJ12_hugeLength_34 : decode cJ12_hugeLength 34 = .ok (.invokevirtual 98, 3) := dk_182 0 98 (dk_at dksJ12_hugeLength_1 10 rfl rfl)
theorem dJ12_hugeLength_37 : decode cJ12_hugeLength 37 = .ok (.ldc 210, 2) := dk_18 210 (dk_at dksJ12_hugeLength_1 13 rfl rfl)
theorem dJ12_hugeLength_39 : decode cJ12_hugeLength 39 = .ok (.invokevirtual 94, 3) := dk_182 0 94 (dk_at dksJ12_hugeLength_1 15 rfl rfl)
theorem dJ12_hugeLength_42 : decode cJ12_hugeLength 42 = .ok (.invokevirtual 101, 3) := dk_182 0 101 (dk_at dksJ12_hugeLength_1 18 rfl rfl)
theorem dJ12_hugeLength_45 : decode cJ12_hugeLength 45 = .ok (.invokespecial 212, 3) := dk_183 0 212 (dk_at dksJ12_hugeLength_1 21 rfl rfl)
theorem dJ12_hugeLength_48 : decode cJ12_hugeLength 48 = .ok (.athrow, 1) := dk_191 (dk_at dksJ12_hugeLength_2 0 rfl rfl)
theorem dJ12_hugeLength_49 : decode cJ12_hugeLength 49 = .ok (.iload_n 2, 1) := dk_28 (dk_at dksJ12_hugeLength_2 1 rfl rfl)
theorem dJ12_hugeLength_50 : decode cJ12_hugeLength 50 = .ok (.ldc 200, 2) := dk_18 200 (dk_at dksJ12_hugeLength_2 2 rfl rfl)
theorem dJ12_hugeLength_52 : decode cJ12_hugeLength 52 = .ok (.if_icmp .gt 6, 3) := dk_163 0 6 (dk_at dksJ12_hugeLength_2 4 rfl rfl)
theorem dJ12_hugeLength_55 : decode cJ12_hugeLength 55 = .ok (.ldc 200, 2) := dk_18 200 (dk_at dksJ12_hugeLength_2 7 rfl rfl)
theorem dJ12_hugeLength_57 : decode cJ12_hugeLength 57 = .ok (.ireturn, 1) := dk_172 (dk_at dksJ12_hugeLength_2 9 rfl rfl)
theorem dJ12_hugeLength_58 : decode cJ12_hugeLength 58 = .ok (.iload_n 2, 1) := dk_28 (dk_at dksJ12_hugeLength_2 10 rfl rfl)
theorem dJ12_hugeLength_59 : decode cJ12_hugeLength 59 = .ok (.ireturn, 1) := dk_172 (dk_at dksJ12_hugeLength_2 11 rfl rfl)
theorem q42 : (Jvm.Cond.initialized "jdk/internal/util/ArraysSupport") ∈ lw_all := lw_g (lw_at lw_m1 20 rfl) rfl
theorem q416 : (Jvm.Cond.static ({ cls := "jdk/internal/util/ArraysSupport", name := "newLength", desc := "(III)I" } : Jvm.MethodName)) ∈ lw_all := lw_g (lw_at lw_m2 154 rfl) rfl
theorem q417 : (Jvm.Cond.code ({ cls := "jdk/internal/util/ArraysSupport", name := "newLength", desc := "(III)I" } : Jvm.MethodName) prog_37_method_27_code (4 : Nat) (Option.some Jvm.ClassFile.FieldType.int)) ∈ lw_all := lw_g (lw_at lw_m2 155 rfl) rfl
theorem q418 : (Jvm.Cond.methodLink "jdk/internal/util/ArraysSupport" (194 : Nat) ({ cls := "java/lang/Math", name := "max", desc := "(II)I" } : Jvm.MethodName)) ∈ lw_all := lw_g (lw_at lw_m2 156 rfl) rfl
theorem q421 : (Jvm.Cond.constant "jdk/internal/util/ArraysSupport" (200 : Nat) (2147483639 : Int32)) ∈ lw_all := lw_g (lw_at lw_m2 159 rfl) rfl
theorem q422 : (Jvm.Cond.methodLink "jdk/internal/util/ArraysSupport" (201 : Nat) ({ cls := "jdk/internal/util/ArraysSupport", name := "hugeLength", desc := "(II)I" } : Jvm.MethodName)) ∈ lw_all := lw_g (lw_at lw_m2 160 rfl) rfl
theorem q423 : (Jvm.Cond.static ({ cls := "jdk/internal/util/ArraysSupport", name := "hugeLength", desc := "(II)I" } : Jvm.MethodName)) ∈ lw_all := lw_g (lw_at lw_m2 161 rfl) rfl
theorem q424 : (Jvm.Cond.code ({ cls := "jdk/internal/util/ArraysSupport", name := "hugeLength", desc := "(II)I" } : Jvm.MethodName) prog_37_method_28_code (3 : Nat) (Option.some Jvm.ClassFile.FieldType.int)) ∈ lw_all := lw_g (lw_at lw_m2 162 rfl) rfl
/-! java/lang/Math -/
set_option maxRecDepth 100000
def RJ13 : String := "java/lang/Math"
abbrev cJ13_max : ByteArray := prog_22_method_65_code
def yJ13_max : MethodName := ⟨RJ13, "max", "(II)I"⟩
def dkwJ13_max_0 : List UInt8 := [26, 27, 161, 0, 7, 26, 167, 0, 4, 27, 172]
abbrev dktJ13_max_0 : List UInt8 := dkwJ13_max_0 ++ []
theorem dksJ13_max_0 : cJ13_max.data.toList.drop 0 = dktJ13_max_0 := by decide +kernel
theorem dJ13_max_0 : decode cJ13_max 0 = .ok (.iload_n 0, 1) := dk_26 (dk_at dksJ13_max_0 0 rfl rfl)
theorem dJ13_max_1 : decode cJ13_max 1 = .ok (.iload_n 1, 1) := dk_27 (dk_at dksJ13_max_0 1 rfl rfl)
theorem dJ13_max_2 : decode cJ13_max 2 = .ok (.if_icmp .lt 7, 3) := dk_161 0 7 (dk_at dksJ13_max_0 2 rfl rfl)
theorem dJ13_max_5 : decode cJ13_max 5 = .ok (.iload_n 0, 1) := dk_26 (dk_at dksJ13_max_0 5 rfl rfl)
theorem dJ13_max_6 : decode cJ13_max 6 = .ok (.goto 4, 3) := dk_167 0 4 (dk_at dksJ13_max_0 6 rfl rfl)
theorem dJ13_max_9 : decode cJ13_max 9 = .ok (.iload_n 1, 1) := dk_27 (dk_at dksJ13_max_0 9 rfl rfl)
theorem dJ13_max_10 : decode cJ13_max 10 = .ok (.ireturn, 1) := dk_172 (dk_at dksJ13_max_0 10 rfl rfl)
abbrev cJ13_min : ByteArray := prog_22_method_69_code
def yJ13_min : MethodName := ⟨RJ13, "min", "(II)I"⟩
def dkwJ13_min_0 : List UInt8 := [26, 27, 163, 0, 7, 26, 167, 0, 4, 27, 172]
abbrev dktJ13_min_0 : List UInt8 := dkwJ13_min_0 ++ []
theorem dksJ13_min_0 : cJ13_min.data.toList.drop 0 = dktJ13_min_0 := by decide +kernel
theorem dJ13_min_0 : decode cJ13_min 0 = .ok (.iload_n 0, 1) := dk_26 (dk_at dksJ13_min_0 0 rfl rfl)
theorem dJ13_min_1 : decode cJ13_min 1 = .ok (.iload_n 1, 1) := dk_27 (dk_at dksJ13_min_0 1 rfl rfl)
theorem dJ13_min_2 : decode cJ13_min 2 = .ok (.if_icmp .gt 7, 3) := dk_163 0 7 (dk_at dksJ13_min_0 2 rfl rfl)
theorem dJ13_min_5 : decode cJ13_min 5 = .ok (.iload_n 0, 1) := dk_26 (dk_at dksJ13_min_0 5 rfl rfl)
theorem dJ13_min_6 : decode cJ13_min 6 = .ok (.goto 4, 3) := dk_167 0 4 (dk_at dksJ13_min_0 6 rfl rfl)
theorem dJ13_min_9 : decode cJ13_min 9 = .ok (.iload_n 1, 1) := dk_27 (dk_at dksJ13_min_0 9 rfl rfl)
theorem dJ13_min_10 : decode cJ13_min 10 = .ok (.ireturn, 1) := dk_172 (dk_at dksJ13_min_0 10 rfl rfl)
theorem q43 : (Jvm.Cond.initialized "java/lang/Math") ∈ lw_all := lw_g (lw_at lw_m1 21 rfl) rfl
theorem q419 : (Jvm.Cond.static ({ cls := "java/lang/Math", name := "max", desc := "(II)I" } : Jvm.MethodName)) ∈ lw_all := lw_g (lw_at lw_m2 157 rfl) rfl
theorem q420 : (Jvm.Cond.code ({ cls := "java/lang/Math", name := "max", desc := "(II)I" } : Jvm.MethodName) prog_22_method_65_code (2 : Nat) (Option.some Jvm.ClassFile.FieldType.int)) ∈ lw_all := lw_g (lw_at lw_m2 158 rfl) rfl
theorem q453 : (Jvm.Cond.static ({ cls := "java/lang/Math", name := "min", desc := "(II)I" } : Jvm.MethodName)) ∈ lw_all := lw_g (lw_at lw_m2 191 rfl) rfl
theorem q454 : (Jvm.Cond.code ({ cls := "java/lang/Math", name := "min", desc := "(II)I" } : Jvm.MethodName) prog_22_method_69_code (2 : Nat) (Option.some Jvm.ClassFile.FieldType.int)) ∈ lw_all := lw_g (lw_at lw_m2 192 rfl) rfl
/-! java/util/Arrays -/
set_option maxRecDepth 100000
def RJ14 : String := "java/util/Arrays"
abbrev cJ14_copyOf : ByteArray := prog_31_method_119_code
def yJ14_copyOf : MethodName := ⟨RJ14, "copyOf", "([Ljava/lang/Object;I)[Ljava/lang/Object;"⟩
def dkwJ14_copyOf_0 : List UInt8 := [42, 27, 42, 182, 0, 86, 184, 1, 44, 176]
abbrev dktJ14_copyOf_0 : List UInt8 := dkwJ14_copyOf_0 ++ []
theorem dksJ14_copyOf_0 : cJ14_copyOf.data.toList.drop 0 = dktJ14_copyOf_0 := by decide +kernel
theorem dJ14_copyOf_0 : decode cJ14_copyOf 0 = .ok (.aload_n 0, 1) := dk_42 (dk_at dksJ14_copyOf_0 0 rfl rfl)
theorem dJ14_copyOf_1 : decode cJ14_copyOf 1 = .ok (.iload_n 1, 1) := dk_27 (dk_at dksJ14_copyOf_0 1 rfl rfl)
theorem dJ14_copyOf_2 : decode cJ14_copyOf 2 = .ok (.aload_n 0, 1) := dk_42 (dk_at dksJ14_copyOf_0 2 rfl rfl)
theorem dJ14_copyOf_3 : decode cJ14_copyOf 3 = .ok (.invokevirtual 86, 3) := dk_182 0 86 (dk_at dksJ14_copyOf_0 3 rfl rfl)
theorem dJ14_copyOf_6 : decode cJ14_copyOf 6 = .ok (.invokestatic 300, 3) := dk_184 1 44 (dk_at dksJ14_copyOf_0 6 rfl rfl)
theorem dJ14_copyOf_9 : decode cJ14_copyOf 9 = .ok (.areturn, 1) := dk_176 (dk_at dksJ14_copyOf_0 9 rfl rfl)
abbrev cJ14_copyOf_2 : ByteArray := prog_31_method_120_code
def yJ14_copyOf_2 : MethodName := ⟨RJ14, "copyOf", "([Ljava/lang/Object;ILjava/lang/Class;)[Ljava/lang/Object;"⟩
def dkwJ14_copyOf_2_1 : List UInt8 := [78, 42, 3, 45, 3, 42, 190, 27, 184, 1, 48, 184, 0, 150, 45, 176]
abbrev dktJ14_copyOf_2_1 : List UInt8 := dkwJ14_copyOf_2_1 ++ []
def dkwJ14_copyOf_2_0 : List UInt8 := [44, 18, 110, 166, 0, 10, 27, 189, 0, 2, 167, 0, 14, 44, 182, 0, 90, 27, 184, 0, 95, 192, 0, 110]
abbrev dktJ14_copyOf_2_0 : List UInt8 := dkwJ14_copyOf_2_0 ++ dktJ14_copyOf_2_1
theorem dksJ14_copyOf_2_0 : cJ14_copyOf_2.data.toList.drop 0 = dktJ14_copyOf_2_0 := by decide +kernel
theorem dksJ14_copyOf_2_1 : cJ14_copyOf_2.data.toList.drop 24 = dktJ14_copyOf_2_1 := dk_seg dksJ14_copyOf_2_0 24 rfl rfl
theorem dJ14_copyOf_2_0 : decode cJ14_copyOf_2 0 = .ok (.aload_n 2, 1) := dk_44 (dk_at dksJ14_copyOf_2_0 0 rfl rfl)
theorem dJ14_copyOf_2_1 : decode cJ14_copyOf_2 1 = .ok (.ldc 110, 2) := dk_18 110 (dk_at dksJ14_copyOf_2_0 1 rfl rfl)
theorem dJ14_copyOf_2_3 : decode cJ14_copyOf_2 3 = .ok (.if_acmp .ne 10, 3) := dk_166 0 10 (dk_at dksJ14_copyOf_2_0 3 rfl rfl)
theorem dJ14_copyOf_2_6 : decode cJ14_copyOf_2 6 = .ok (.iload_n 1, 1) := dk_27 (dk_at dksJ14_copyOf_2_0 6 rfl rfl)
theorem dJ14_copyOf_2_7 : decode cJ14_copyOf_2 7 = .ok (.anewarray 2, 3) := dk_189 0 2 (dk_at dksJ14_copyOf_2_0 7 rfl rfl)
theorem dJ14_copyOf_2_10 : decode cJ14_copyOf_2 10 = .ok (.goto 14, 3) := dk_167 0 14 (dk_at dksJ14_copyOf_2_0 10 rfl rfl)
theorem dJ14_copyOf_2_13 : decode cJ14_copyOf_2 13 = .ok (.aload_n 2, 1) := dk_44 (dk_at dksJ14_copyOf_2_0 13 rfl rfl)
theorem dJ14_copyOf_2_14 : decode cJ14_copyOf_2 14 = .ok (.invokevirtual 90, 3) := dk_182 0 90 (dk_at dksJ14_copyOf_2_0 14 rfl rfl)
theorem dJ14_copyOf_2_17 : decode cJ14_copyOf_2 17 = .ok (.iload_n 1, 1) := dk_27 (dk_at dksJ14_copyOf_2_0 17 rfl rfl)
theorem dJ14_copyOf_2_18 : decode cJ14_copyOf_2 18 = .ok (.invokestatic 95, 3) := dk_184 0 95 (dk_at dksJ14_copyOf_2_0 18 rfl rfl)
theorem dJ14_copyOf_2_21 : decode cJ14_copyOf_2 21 = .ok (.checkcast 110, 3) := dk_192 0 110 (dk_at dksJ14_copyOf_2_0 21 rfl rfl)
theorem dJ14_copyOf_2_24 : decode cJ14_copyOf_2 24 = .ok (.astore_n 3, 1) := dk_78 (dk_at dksJ14_copyOf_2_1 0 rfl rfl)
theorem dJ14_copyOf_2_25 : decode cJ14_copyOf_2 25 = .ok (.aload_n 0, 1) := dk_42 (dk_at dksJ14_copyOf_2_1 1 rfl rfl)
theorem dJ14_copyOf_2_26 : decode cJ14_copyOf_2 26 = .ok (.iconst 0, 1) := dk_3 (dk_at dksJ14_copyOf_2_1 2 rfl rfl)
theorem dJ14_copyOf_2_27 : decode cJ14_copyOf_2 27 = .ok (.aload_n 3, 1) := dk_45 (dk_at dksJ14_copyOf_2_1 3 rfl rfl)
theorem dJ14_copyOf_2_28 : decode cJ14_copyOf_2 28 = .ok (.iconst 0, 1) := dk_3 (dk_at dksJ14_copyOf_2_1 4 rfl rfl)
theorem dJ14_copyOf_2_29 : decode cJ14_copyOf_2 29 = .ok (.aload_n 0, 1) := dk_42 (dk_at dksJ14_copyOf_2_1 5 rfl rfl)
theorem dJ14_copyOf_2_30 : decode cJ14_copyOf_2 30 = .ok (.arraylength, 1) := dk_190 (dk_at dksJ14_copyOf_2_1 6 rfl rfl)
theorem dJ14_copyOf_2_31 : decode cJ14_copyOf_2 31 = .ok (.iload_n 1, 1) := dk_27 (dk_at dksJ14_copyOf_2_1 7 rfl rfl)
theorem dJ14_copyOf_2_32 : decode cJ14_copyOf_2 32 = .ok (.invokestatic 304, 3) := dk_184 1 48 (dk_at dksJ14_copyOf_2_1 8 rfl rfl)
theorem dJ14_copyOf_2_35 : decode cJ14_copyOf_2 35 = .ok (.invokestatic 150, 3) := dk_184 0 150 (dk_at dksJ14_copyOf_2_1 11 rfl rfl)
theorem dJ14_copyOf_2_38 : decode cJ14_copyOf_2 38 = .ok (.aload_n 3, 1) := dk_45 (dk_at dksJ14_copyOf_2_1 14 rfl rfl)
theorem dJ14_copyOf_2_39 : decode cJ14_copyOf_2 39 = .ok (.areturn, 1) := dk_176 (dk_at dksJ14_copyOf_2_1 15 rfl rfl)
theorem q44 : (Jvm.Cond.initialized "java/util/Arrays") ∈ lw_all := lw_g (lw_at lw_m1 22 rfl) rfl
theorem q426 : (Jvm.Cond.static ({ cls := "java/util/Arrays", name := "copyOf", desc := "([Ljava/lang/Object;I)[Ljava/lang/Object;" } : Jvm.MethodName)) ∈ lw_all := lw_g (lw_at lw_m2 164 rfl) rfl
theorem q427 : (Jvm.Cond.code ({ cls := "java/util/Arrays", name := "copyOf", desc := "([Ljava/lang/Object;I)[Ljava/lang/Object;" } : Jvm.MethodName) prog_31_method_119_code (2 : Nat) (Option.some (Jvm.ClassFile.FieldType.array (Jvm.ClassFile.FieldType.object "java/lang/Object")))) ∈ lw_all := lw_g (lw_at lw_m2 165 rfl) rfl
theorem q428 : (Jvm.Cond.methodLink "java/util/Arrays" (86 : Nat) ({ cls := "java/lang/Object", name := "getClass", desc := "()Ljava/lang/Class;" } : Jvm.MethodName)) ∈ lw_all := lw_g (lw_at lw_m2 166 rfl) rfl
theorem q446 : (Jvm.Cond.methodLink "java/util/Arrays" (300 : Nat) ({ cls := "java/util/Arrays", name := "copyOf", desc := "([Ljava/lang/Object;ILjava/lang/Class;)[Ljava/lang/Object;" } : Jvm.MethodName)) ∈ lw_all := lw_g (lw_at lw_m2 184 rfl) rfl
theorem q447 : (Jvm.Cond.static ({ cls := "java/util/Arrays", name := "copyOf", desc := "([Ljava/lang/Object;ILjava/lang/Class;)[Ljava/lang/Object;" } : Jvm.MethodName)) ∈ lw_all := lw_g (lw_at lw_m2 185 rfl) rfl
theorem q448 : (Jvm.Cond.code ({ cls := "java/util/Arrays", name := "copyOf", desc := "([Ljava/lang/Object;ILjava/lang/Class;)[Ljava/lang/Object;" } : Jvm.MethodName) prog_31_method_120_code (4 : Nat) (Option.some (Jvm.ClassFile.FieldType.array (Jvm.ClassFile.FieldType.object "java/lang/Object")))) ∈ lw_all := lw_g (lw_at lw_m2 186 rfl) rfl
theorem q449 : (Jvm.Cond.classLink "java/util/Arrays" (110 : Nat) "[Ljava/lang/Object;") ∈ lw_all := lw_g (lw_at lw_m2 187 rfl) rfl
theorem q451 : (Jvm.Cond.classLink "java/util/Arrays" (2 : Nat) "java/lang/Object") ∈ lw_all := lw_g (lw_at lw_m2 189 rfl) rfl
theorem q452 : (Jvm.Cond.methodLink "java/util/Arrays" (304 : Nat) ({ cls := "java/lang/Math", name := "min", desc := "(II)I" } : Jvm.MethodName)) ∈ lw_all := lw_g (lw_at lw_m2 190 rfl) rfl
theorem q455 : (Jvm.Cond.methodLink "java/util/Arrays" (150 : Nat) ({ cls := "java/lang/System", name := "arraycopy", desc := "(Ljava/lang/Object;ILjava/lang/Object;II)V" } : Jvm.MethodName)) ∈ lw_all := lw_g (lw_at lw_m2 193 rfl) rfl
/-! java/util/Objects -/
set_option maxRecDepth 100000
def RJ15 : String := "java/util/Objects"
abbrev cJ15_checkIndex : ByteArray := prog_34_method_17_code
def yJ15_checkIndex : MethodName := ⟨RJ15, "checkIndex", "(II)I"⟩
def dkwJ15_checkIndex_0 : List UInt8 := [26, 27, 1, 184, 0, 105, 172]
abbrev dktJ15_checkIndex_0 : List UInt8 := dkwJ15_checkIndex_0 ++ []
theorem dksJ15_checkIndex_0 : cJ15_checkIndex.data.toList.drop 0 = dktJ15_checkIndex_0 := by decide +kernel
theorem dJ15_checkIndex_0 : decode cJ15_checkIndex 0 = .ok (.iload_n 0, 1) := dk_26 (dk_at dksJ15_checkIndex_0 0 rfl rfl)
theorem dJ15_checkIndex_1 : decode cJ15_checkIndex 1 = .ok (.iload_n 1, 1) := dk_27 (dk_at dksJ15_checkIndex_0 1 rfl rfl)
theorem dJ15_checkIndex_2 : decode cJ15_checkIndex 2 = .ok (.aconst_null, 1) := dk_1 (dk_at dksJ15_checkIndex_0 2 rfl rfl)
theorem dJ15_checkIndex_3 : decode cJ15_checkIndex 3 = .ok (.invokestatic 105, 3) := dk_184 0 105 (dk_at dksJ15_checkIndex_0 3 rfl rfl)
theorem dJ15_checkIndex_6 : decode cJ15_checkIndex 6 = .ok (.ireturn, 1) := dk_172 (dk_at dksJ15_checkIndex_0 6 rfl rfl)
theorem q46 : (Jvm.Cond.initialized "java/util/Objects") ∈ lw_all := lw_g (lw_at lw_m1 24 rfl) rfl
theorem q481 : (Jvm.Cond.static ({ cls := "java/util/Objects", name := "checkIndex", desc := "(II)I" } : Jvm.MethodName)) ∈ lw_all := lw_g (lw_at lw_m2 219 rfl) rfl
theorem q482 : (Jvm.Cond.code ({ cls := "java/util/Objects", name := "checkIndex", desc := "(II)I" } : Jvm.MethodName) prog_34_method_17_code (2 : Nat) (Option.some Jvm.ClassFile.FieldType.int)) ∈ lw_all := lw_g (lw_at lw_m2 220 rfl) rfl
theorem q483 : (Jvm.Cond.methodLink "java/util/Objects" (105 : Nat) ({ cls := "jdk/internal/util/Preconditions", name := "checkIndex", desc := "(IILjava/util/function/BiFunction;)I" } : Jvm.MethodName)) ∈ lw_all := lw_g (lw_at lw_m2 221 rfl) rfl
/-! jdk/internal/util/Preconditions -/
set_option maxRecDepth 100000
def RJ16 : String := "jdk/internal/util/Preconditions"
abbrev cJ16_checkIndex : ByteArray := prog_38_method_11_code
def yJ16_checkIndex : MethodName := ⟨RJ16, "checkIndex", "(IILjava/util/function/BiFunction;)I"⟩
def dkwJ16_checkIndex_0 : List UInt8 := [26, 155, 0, 8, 26, 27, 161, 0, 10, 44, 26, 27, 184, 0, 95, 191, 26, 172]
abbrev dktJ16_checkIndex_0 : List UInt8 := dkwJ16_checkIndex_0 ++ []
theorem dksJ16_checkIndex_0 : cJ16_checkIndex.data.toList.drop 0 = dktJ16_checkIndex_0 := by decide +kernel
theorem dJ16_checkIndex_0 : decode cJ16_checkIndex 0 = .ok (.iload_n 0, 1) := dk_26 (dk_at dksJ16_checkIndex_0 0 rfl rfl)
theorem dJ16_checkIndex_1 : decode cJ16_checkIndex 1 = .ok (.ifCond .lt 8, 3) := dk_155 0 8 (dk_at dksJ16_checkIndex_0 1 rfl rfl)
theorem dJ16_checkIndex_4 : decode cJ16_checkIndex 4 = .ok (.iload_n 0, 1) := dk_26 (dk_at dksJ16_checkIndex_0 4 rfl rfl)
theorem dJ16_checkIndex_5 : decode cJ16_checkIndex 5 = .ok (.iload_n 1, 1) := dk_27 (dk_at dksJ16_checkIndex_0 5 rfl rfl)
theorem dJ16_checkIndex_6 : decode cJ16_checkIndex 6 = .ok (.if_icmp .lt 10, 3) := dk_161 0 10 (dk_at dksJ16_checkIndex_0 6 rfl rfl)
theorem dJ16_checkIndex_9 : decode cJ16_checkIndex 9 = .ok (.aload_n 2, 1) := dk_44 (dk_at dksJ16_checkIndex_0 9 rfl rfl)
theorem dJ16_checkIndex_10 : decode cJ16_checkIndex 10 = .ok (.iload_n 0, 1) := dk_26 (dk_at dksJ16_checkIndex_0 10 rfl rfl)
theorem dJ16_checkIndex_11 : decode cJ16_checkIndex 11 = .ok (.iload_n 1, 1) := dk_27 (dk_at dksJ16_checkIndex_0 11 rfl rfl)
theorem dJ16_checkIndex_12 : decode cJ16_checkIndex 12 = .ok (.invokestatic 95, 3) := dk_184 0 95 (dk_at dksJ16_checkIndex_0 12 rfl rfl)
theorem dJ16_checkIndex_15 : decode cJ16_checkIndex 15 = .ok (.athrow, 1) := dk_191 (dk_at dksJ16_checkIndex_0 15 rfl rfl)
theorem dJ16_checkIndex_16 : decode cJ16_checkIndex 16 = .ok (.iload_n 0, 1) := dk_26 (dk_at dksJ16_checkIndex_0 16 rfl rfl)
theorem dJ16_checkIndex_17 : decode cJ16_checkIndex 17 = .ok (.ireturn, 1) := dk_172 (dk_at dksJ16_checkIndex_0 17 rfl rfl)
theorem q47 : (Jvm.Cond.initialized "jdk/internal/util/Preconditions") ∈ lw_all := lw_g (lw_at lw_m1 25 rfl) rfl
theorem q484 : (Jvm.Cond.static ({ cls := "jdk/internal/util/Preconditions", name := "checkIndex", desc := "(IILjava/util/function/BiFunction;)I" } : Jvm.MethodName)) ∈ lw_all := lw_g (lw_at lw_m2 222 rfl) rfl
theorem q485 : (Jvm.Cond.code ({ cls := "jdk/internal/util/Preconditions", name := "checkIndex", desc := "(IILjava/util/function/BiFunction;)I" } : Jvm.MethodName) prog_38_method_11_code (3 : Nat) (Option.some Jvm.ClassFile.FieldType.int)) ∈ lw_all := lw_g (lw_at lw_m2 223 rfl) rfl
/-! java/lang/Object -/
set_option maxRecDepth 100000
def RJ17 : String := "java/lang/Object"
abbrev cJ17_init : ByteArray := object_method_1_code
def yJ17_init : MethodName := ⟨RJ17, "<init>", "()V"⟩
theorem dJ17_init_0 : decode cJ17_init 0 = .ok (.return_, 1) := by decide +kernel
theorem q55 : (Jvm.Cond.instanceMethod ({ cls := "java/lang/Object", name := "<init>", desc := "()V" } : Jvm.MethodName)) ∈ lw_all := lw_g (lw_at lw_m1 33 rfl) rfl
theorem q56 : (Jvm.Cond.code ({ cls := "java/lang/Object", name := "<init>", desc := "()V" } : Jvm.MethodName) object_method_1_code (1 : Nat) (Option.none : Option Jvm.ClassFile.FieldType)) ∈ lw_all := lw_g (lw_at lw_m1 34 rfl) rfl
theorem q64 : (Jvm.Cond.native ({ cls := "java/lang/Object", name := "clone", desc := "()Ljava/lang/Object;" } : Jvm.MethodName)) ∈ lw_all := lw_g (lw_at lw_m1 42 rfl) rfl
theorem q65 : (Jvm.Cond.instanceMethod ({ cls := "java/lang/Object", name := "clone", desc := "()Ljava/lang/Object;" } : Jvm.MethodName)) ∈ lw_all := lw_g (lw_at lw_m1 43 rfl) rfl
theorem q429 : (Jvm.Cond.instanceMethod ({ cls := "java/lang/Object", name := "getClass", desc := "()Ljava/lang/Class;" } : Jvm.MethodName)) ∈ lw_all := lw_g (lw_at lw_m2 167 rfl) rfl
theorem q430 : (Jvm.Cond.sameMethod "java/lang/Object" "java/lang/Object" "getClass" "()Ljava/lang/Class;") ∈ lw_all := lw_g (lw_at lw_m2 168 rfl) rfl
theorem q445 : (Jvm.Cond.native ({ cls := "java/lang/Object", name := "getClass", desc := "()Ljava/lang/Class;" } : Jvm.MethodName)) ∈ lw_all := lw_g (lw_at lw_m2 183 rfl) rfl
theorem q876 : (Jvm.Cond.initialized "java/lang/Object") ∈ lw_all := lw_g (lw_at lw_m4 134 rfl) rfl
theorem q901 : (Jvm.Cond.declares ({ cls := "java/lang/Object", name := "getClass", desc := "()Ljava/lang/Class;" } : Jvm.MethodName)) ∈ lw_tbl := lw_at lw_m4 159 rfl
/-! java/util/ArrayList -/
set_option maxRecDepth 100000
def RJ2 : String := "java/util/ArrayList"
def TJ2 : u_T := fun k => match k with
  | 0 => ("java/util/AbstractList", "modCount", "I", false)
  | 1 => ("java/util/ArrayList", "elementData", "[Ljava/lang/Object;", false)
  | _ => ("java/util/ArrayList", "size", "I", false)
def tyJ2 : Nat → FieldType := fun k => match k with
  | 0 => .int
  | 1 => .array (.object "java/lang/Object")
  | _ => .int
abbrev wsJ20 : List Cond := u_ws RJ2 TJ2 3
theorem nmJ2 : ∀ a, a < 3 → ∀ b, b < 3 → a ≠ b → (TJ2 a).2.1 ≠ (TJ2 b).2.1 := by decide +kernel
theorem tyJ2_ok : ∀ k, k < 3 → parseFieldDescriptor (TJ2 k).2.2.1 = some (tyJ2 k) := by decide +kernel
abbrev cJ2_init : ByteArray := prog_30_method_2_code
def yJ2_init : MethodName := ⟨RJ2, "<init>", "()V"⟩
def dkwJ2_init_0 : List UInt8 := [42, 183, 0, 1, 42, 178, 0, 39, 181, 0, 9, 177]
abbrev dktJ2_init_0 : List UInt8 := dkwJ2_init_0 ++ []
theorem dksJ2_init_0 : cJ2_init.data.toList.drop 0 = dktJ2_init_0 := by decide +kernel
theorem dJ2_init_0 : decode cJ2_init 0 = .ok (.aload_n 0, 1) := dk_42 (dk_at dksJ2_init_0 0 rfl rfl)
theorem dJ2_init_1 : decode cJ2_init 1 = .ok (.invokespecial 1, 3) := dk_183 0 1 (dk_at dksJ2_init_0 1 rfl rfl)
theorem dJ2_init_4 : decode cJ2_init 4 = .ok (.aload_n 0, 1) := dk_42 (dk_at dksJ2_init_0 4 rfl rfl)
theorem dJ2_init_5 : decode cJ2_init 5 = .ok (.getstatic 39, 3) := dk_178 0 39 (dk_at dksJ2_init_0 5 rfl rfl)
theorem dJ2_init_8 : decode cJ2_init 8 = .ok (.putfield 9, 3) := dk_181 0 9 (dk_at dksJ2_init_0 8 rfl rfl)
theorem dJ2_init_11 : decode cJ2_init 11 = .ok (.return_, 1) := dk_177 (dk_at dksJ2_init_0 11 rfl rfl)
abbrev cJ2_size : ByteArray := prog_30_method_8_code
def yJ2_size : MethodName := ⟨RJ2, "size", "()I"⟩
theorem dJ2_size_0 : decode cJ2_size 0 = .ok (.aload_n 0, 1) := by decide +kernel
theorem dJ2_size_1 : decode cJ2_size 1 = .ok (.getfield 48, 3) := by decide +kernel
theorem dJ2_size_4 : decode cJ2_size 4 = .ok (.ireturn, 1) := by decide +kernel
abbrev cJ2_add : ByteArray := prog_30_method_25_code
def yJ2_add : MethodName := ⟨RJ2, "add", "(Ljava/lang/Object;)Z"⟩
def dkwJ2_add_1 : List UInt8 := [172]
abbrev dktJ2_add_1 : List UInt8 := dkwJ2_add_1 ++ []
def dkwJ2_add_0 : List UInt8 := [42, 89, 180, 0, 63, 4, 96, 181, 0, 63, 42, 43, 42, 180, 0, 9, 42, 180, 0, 48, 182, 0, 131, 4]
abbrev dktJ2_add_0 : List UInt8 := dkwJ2_add_0 ++ dktJ2_add_1
theorem dksJ2_add_0 : cJ2_add.data.toList.drop 0 = dktJ2_add_0 := by decide +kernel
theorem dksJ2_add_1 : cJ2_add.data.toList.drop 24 = dktJ2_add_1 := dk_seg dksJ2_add_0 24 rfl rfl
theorem dJ2_add_0 : decode cJ2_add 0 = .ok (.aload_n 0, 1) := dk_42 (dk_at dksJ2_add_0 0 rfl rfl)
theorem dJ2_add_1 : decode cJ2_add 1 = .ok (.dup, 1) := dk_89 (dk_at dksJ2_add_0 1 rfl rfl)
theorem dJ2_add_2 : decode cJ2_add 2 = .ok (.getfield 63, 3) := dk_180 0 63 (dk_at dksJ2_add_0 2 rfl rfl)
theorem dJ2_add_5 : decode cJ2_add 5 = .ok (.iconst 1, 1) := dk_4 (dk_at dksJ2_add_0 5 rfl rfl)
theorem dJ2_add_6 : decode cJ2_add 6 = .ok (.iadd, 1) := dk_96 (dk_at dksJ2_add_0 6 rfl rfl)
theorem dJ2_add_7 : decode cJ2_add 7 = .ok (.putfield 63, 3) := dk_181 0 63 (dk_at dksJ2_add_0 7 rfl rfl)
theorem dJ2_add_10 : decode cJ2_add 10 = .ok (.aload_n 0, 1) := dk_42 (dk_at dksJ2_add_0 10 rfl rfl)
theorem dJ2_add_11 : decode cJ2_add 11 = .ok (.aload_n 1, 1) := dk_43 (dk_at dksJ2_add_0 11 rfl rfl)
theorem dJ2_add_12 : decode cJ2_add 12 = .ok (.aload_n 0, 1) := dk_42 (dk_at dksJ2_add_0 12 rfl rfl)
theorem dJ2_add_13 : decode cJ2_add 13 = .ok (.getfield 9, 3) := dk_180 0 9 (dk_at dksJ2_add_0 13 rfl rfl)
theorem dJ2_add_16 : decode cJ2_add 16 = .ok (.aload_n 0, 1) := dk_42 (dk_at dksJ2_add_0 16 rfl rfl)
theorem dJ2_add_17 : decode cJ2_add 17 = .ok (.getfield 48, 3) := dk_180 0 48 (dk_at dksJ2_add_0 17 rfl rfl)
theorem dJ2_add_20 : decode cJ2_add 20 = .ok (.invokevirtual 131, 3) := dk_182 0 131 (dk_at dksJ2_add_0 20 rfl rfl)
theorem dJ2_add_23 : decode cJ2_add 23 = .ok (.iconst 1, 1) := dk_4 (dk_at dksJ2_add_0 23 rfl rfl)
theorem dJ2_add_24 : decode cJ2_add 24 = .ok (.ireturn, 1) := dk_172 (dk_at dksJ2_add_1 0 rfl rfl)
abbrev cJ2_add_2 : ByteArray := prog_30_method_24_code
def yJ2_add_2 : MethodName := ⟨RJ2, "add", "(Ljava/lang/Object;[Ljava/lang/Object;I)V"⟩
def dkwJ2_add_2_0 : List UInt8 := [29, 44, 190, 160, 0, 8, 42, 182, 0, 129, 77, 44, 29, 43, 83, 42, 29, 4, 96, 181, 0, 48, 177]
abbrev dktJ2_add_2_0 : List UInt8 := dkwJ2_add_2_0 ++ []
theorem dksJ2_add_2_0 : cJ2_add_2.data.toList.drop 0 = dktJ2_add_2_0 := by decide +kernel
theorem dJ2_add_2_0 : decode cJ2_add_2 0 = .ok (.iload_n 3, 1) := dk_29 (dk_at dksJ2_add_2_0 0 rfl rfl)
theorem dJ2_add_2_1 : decode cJ2_add_2 1 = .ok (.aload_n 2, 1) := dk_44 (dk_at dksJ2_add_2_0 1 rfl rfl)
theorem dJ2_add_2_2 : decode cJ2_add_2 2 = .ok (.arraylength, 1) := dk_190 (dk_at dksJ2_add_2_0 2 rfl rfl)
theorem dJ2_add_2_3 : decode cJ2_add_2 3 = .ok (.if_icmp .ne 8, 3) := dk_160 0 8 (dk_at dksJ2_add_2_0 3 rfl rfl)
theorem dJ2_add_2_6 : decode cJ2_add_2 6 = .ok (.aload_n 0, 1) := dk_42 (dk_at dksJ2_add_2_0 6 rfl rfl)
theorem dJ2_add_2_7 : decode cJ2_add_2 7 = .ok (.invokevirtual 129, 3) := dk_182 0 129 (dk_at dksJ2_add_2_0 7 rfl rfl)
theorem dJ2_add_2_10 : decode cJ2_add_2 10 = .ok (.astore_n 2, 1) := dk_77 (dk_at dksJ2_add_2_0 10 rfl rfl)
theorem dJ2_add_2_11 : decode cJ2_add_2 11 = .ok (.aload_n 2, 1) := dk_44 (dk_at dksJ2_add_2_0 11 rfl rfl)
theorem dJ2_add_2_12 : decode cJ2_add_2 12 = .ok (.iload_n 3, 1) := dk_29 (dk_at dksJ2_add_2_0 12 rfl rfl)
theorem dJ2_add_2_13 : decode cJ2_add_2 13 = .ok (.aload_n 1, 1) := dk_43 (dk_at dksJ2_add_2_0 13 rfl rfl)
theorem dJ2_add_2_14 : decode cJ2_add_2 14 = .ok (.aastore, 1) := dk_83 (dk_at dksJ2_add_2_0 14 rfl rfl)
theorem dJ2_add_2_15 : decode cJ2_add_2 15 = .ok (.aload_n 0, 1) := dk_42 (dk_at dksJ2_add_2_0 15 rfl rfl)
theorem dJ2_add_2_16 : decode cJ2_add_2 16 = .ok (.iload_n 3, 1) := dk_29 (dk_at dksJ2_add_2_0 16 rfl rfl)
theorem dJ2_add_2_17 : decode cJ2_add_2 17 = .ok (.iconst 1, 1) := dk_4 (dk_at dksJ2_add_2_0 17 rfl rfl)
theorem dJ2_add_2_18 : decode cJ2_add_2 18 = .ok (.iadd, 1) := dk_96 (dk_at dksJ2_add_2_0 18 rfl rfl)
theorem dJ2_add_2_19 : decode cJ2_add_2 19 = .ok (.putfield 48, 3) := dk_181 0 48 (dk_at dksJ2_add_2_0 19 rfl rfl)
theorem dJ2_add_2_22 : decode cJ2_add_2 22 = .ok (.return_, 1) := dk_177 (dk_at dksJ2_add_2_0 22 rfl rfl)
abbrev cJ2_grow : ByteArray := prog_30_method_7_code
def yJ2_grow : MethodName := ⟨RJ2, "grow", "()[Ljava/lang/Object;"⟩
def dkwJ2_grow_0 : List UInt8 := [42, 42, 180, 0, 48, 4, 96, 182, 0, 69, 176]
abbrev dktJ2_grow_0 : List UInt8 := dkwJ2_grow_0 ++ []
theorem dksJ2_grow_0 : cJ2_grow.data.toList.drop 0 = dktJ2_grow_0 := by decide +kernel
theorem dJ2_grow_0 : decode cJ2_grow 0 = .ok (.aload_n 0, 1) := dk_42 (dk_at dksJ2_grow_0 0 rfl rfl)
theorem dJ2_grow_1 : decode cJ2_grow 1 = .ok (.aload_n 0, 1) := dk_42 (dk_at dksJ2_grow_0 1 rfl rfl)
theorem dJ2_grow_2 : decode cJ2_grow 2 = .ok (.getfield 48, 3) := dk_180 0 48 (dk_at dksJ2_grow_0 2 rfl rfl)
theorem dJ2_grow_5 : decode cJ2_grow 5 = .ok (.iconst 1, 1) := dk_4 (dk_at dksJ2_grow_0 5 rfl rfl)
theorem dJ2_grow_6 : decode cJ2_grow 6 = .ok (.iadd, 1) := dk_96 (dk_at dksJ2_grow_0 6 rfl rfl)
theorem dJ2_grow_7 : decode cJ2_grow 7 = .ok (.invokevirtual 69, 3) := dk_182 0 69 (dk_at dksJ2_grow_0 7 rfl rfl)
theorem dJ2_grow_10 : decode cJ2_grow 10 = .ok (.areturn, 1) := dk_176 (dk_at dksJ2_grow_0 10 rfl rfl)
abbrev cJ2_grow_2 : ByteArray := prog_30_method_6_code
def yJ2_grow_2 : MethodName := ⟨RJ2, "grow", "(I)[Ljava/lang/Object;"⟩
def dkwJ2_grow_2_2 : List UInt8 := [27, 184, 0, 79, 189, 0, 7, 90, 181, 0, 9, 176]
abbrev dktJ2_grow_2_2 : List UInt8 := dkwJ2_grow_2_2 ++ []
def dkwJ2_grow_2_1 : List UInt8 := [28, 4, 122, 184, 0, 73, 62, 42, 42, 180, 0, 9, 29, 184, 0, 66, 90, 181, 0, 9, 176, 42, 16, 10]
abbrev dktJ2_grow_2_1 : List UInt8 := dkwJ2_grow_2_1 ++ dktJ2_grow_2_2
def dkwJ2_grow_2_0 : List UInt8 := [42, 180, 0, 9, 190, 61, 28, 157, 0, 13, 42, 180, 0, 9, 178, 0, 39, 165, 0, 28, 28, 27, 28, 100]
abbrev dktJ2_grow_2_0 : List UInt8 := dkwJ2_grow_2_0 ++ dktJ2_grow_2_1
theorem dksJ2_grow_2_0 : cJ2_grow_2.data.toList.drop 0 = dktJ2_grow_2_0 := by decide +kernel
theorem dksJ2_grow_2_1 : cJ2_grow_2.data.toList.drop 24 = dktJ2_grow_2_1 := dk_seg dksJ2_grow_2_0 24 rfl rfl
theorem dksJ2_grow_2_2 : cJ2_grow_2.data.toList.drop 48 = dktJ2_grow_2_2 := dk_seg dksJ2_grow_2_1 24 rfl rfl
theorem dJ2_grow_2_0 : decode cJ2_grow_2 0 = .ok (.aload_n 0, 1) := dk_42 (dk_at dksJ2_grow_2_0 0 rfl rfl)
theorem dJ2_grow_2_1 : decode cJ2_grow_2 1 = .ok (.getfield 9, 3) := dk_180 0 9 (dk_at dksJ2_grow_2_0 1 rfl rfl)
theorem dJ2_grow_2_4 : decode cJ2_grow_2 4 = .ok (.arraylength, 1) := dk_190 (dk_at dksJ2_grow_2_0 4 rfl rfl)
theorem dJ2_grow_2_5 : decode cJ2_grow_2 5 = .ok (.istore_n 2, 1) := dk_61 (dk_at dksJ2_grow_2_0 5 rfl rfl)
theorem dJ2_grow_2_6 : decode cJ2_grow_2 6 = .ok (.iload_n 2, 1) := dk_28 (dk_at dksJ2_grow_2_0 6 rfl rfl)
theorem dJ2_grow_2_7 : decode cJ2_grow_2 7 = .ok (.ifCond .gt 13, 3) := dk_157 0 13 (dk_at dksJ2_grow_2_0 7 rfl rfl)
theorem dJ2_grow_2_10 : decode cJ2_grow_2 10 = .ok (.aload_n 0, 1) := dk_42 (dk_at dksJ2_grow_2_0 10 rfl rfl)
theorem dJ2_grow_2_11 : decode cJ2_grow_2 11 = .ok (.getfield 9, 3) := dk_180 0 9 (dk_at dksJ2_grow_2_0 11 rfl rfl)
theorem dJ2_grow_2_14 : decode cJ2_grow_2 14 = .ok (.getstatic 39, 3) := dk_178 0 39 (dk_at dksJ2_grow_2_0 14 rfl rfl)
theorem dJ2_grow_2_17 : decode cJ2_grow_2 17 = .ok (.if_acmp .eq 28, 3) := dk_165 0 28 (dk_at dksJ2_grow_2_0 17 rfl rfl)
theorem dJ2_grow_2_20 : decode cJ2_grow_2 20 = .ok (.iload_n 2, 1) := dk_28 (dk_at dksJ2_grow_2_0 20 rfl rfl)
theorem dJ2_grow_2_21 : decode cJ2_grow_2 21 = .ok (.iload_n 1, 1) := dk_27 (dk_at dksJ2_grow_2_0 21 rfl rfl)
theorem dJ2_grow_2_22 : decode cJ2_grow_2 22 = .ok (.iload_n 2, 1) := dk_28 (dk_at dksJ2_grow_2_0 22 rfl rfl)
theorem dJ2_grow_2_23 : decode cJ2_grow_2 23 = .ok (.isub, 1) := dk_100 (dk_at dksJ2_grow_2_0 23 rfl rfl)
theorem dJ2_grow_2_24 : decode cJ2_grow_2 24 = .ok (.iload_n 2, 1) := dk_28 (dk_at dksJ2_grow_2_1 0 rfl rfl)
theorem dJ2_grow_2_25 : decode cJ2_grow_2 25 = .ok (.iconst 1, 1) := dk_4 (dk_at dksJ2_grow_2_1 1 rfl rfl)
theorem dJ2_grow_2_26 : decode cJ2_grow_2 26 = .ok (.ishr, 1) := dk_122 (dk_at dksJ2_grow_2_1 2 rfl rfl)
theorem dJ2_grow_2_27 : decode cJ2_grow_2 27 = .ok (.invokestatic 73, 3) := dk_184 0 73 (dk_at dksJ2_grow_2_1 3 rfl rfl)
theorem dJ2_grow_2_30 : decode cJ2_grow_2 30 = .ok (.istore_n 3, 1) := dk_62 (dk_at dksJ2_grow_2_1 6 rfl rfl)
theorem dJ2_grow_2_31 : decode cJ2_grow_2 31 = .ok (.aload_n 0, 1) := dk_42 (dk_at dksJ2_grow_2_1 7 rfl rfl)
theorem dJ2_grow_2_32 : decode cJ2_grow_2 32 = .ok (.aload_n 0, 1) := dk_42 (dk_at dksJ2_grow_2_1 8 rfl rfl)
theorem dJ2_grow_2_33 : decode cJ2_grow_2 33 = .ok (.getfield 9, 3) := dk_180 0 9 (dk_at dksJ2_grow_2_1 9 rfl rfl)
theorem dJ2_grow_2_36 : decode cJ2_grow_2 36 = .ok (.iload_n 3, 1) := dk_29 (dk_at dksJ2_grow_2_1 12 rfl rfl)
theorem dJ2_grow_2_37 : decode cJ2_grow_2 37 = .ok (.invokestatic 66, 3) := dk_184 0 66 (dk_at dksJ2_grow_2_1 13 rfl rfl)
theorem dJ2_grow_2_40 : decode cJ2_grow_2 40 = .ok (.dup_x1, 1) := dk_90 (dk_at dksJ2_grow_2_1 16 rfl rfl)
theorem dJ2_grow_2_41 : decode cJ2_grow_2 41 = .ok (.putfield 9, 3) := dk_181 0 9 (dk_at dksJ2_grow_2_1 17 rfl rfl)
theorem dJ2_grow_2_44 : decode cJ2_grow_2 44 = .ok (.areturn, 1) := dk_176 (dk_at dksJ2_grow_2_1 20 rfl rfl)
theorem dJ2_grow_2_45 : decode cJ2_grow_2 45 = .ok (.aload_n 0, 1) := dk_42 (dk_at dksJ2_grow_2_1 21 rfl rfl)
theorem dJ2_grow_2_46 : decode cJ2_grow_2 46 = .ok (.bipush 10, 2) := dk_16 10 (dk_at dksJ2_grow_2_1 22 rfl rfl)
theorem dJ2_grow_2_48 : decode cJ2_grow_2 48 = .ok (.iload_n 1, 1) := dk_27 (dk_at dksJ2_grow_2_2 0 rfl rfl)
theorem dJ2_grow_2_49 : decode cJ2_grow_2 49 = .ok (.invokestatic 79, 3) := dk_184 0 79 (dk_at dksJ2_grow_2_2 1 rfl rfl)
theorem dJ2_grow_2_52 : decode cJ2_grow_2 52 = .ok (.anewarray 7, 3) := dk_189 0 7 (dk_at dksJ2_grow_2_2 4 rfl rfl)
theorem dJ2_grow_2_55 : decode cJ2_grow_2 55 = .ok (.dup_x1, 1) := dk_90 (dk_at dksJ2_grow_2_2 7 rfl rfl)
theorem dJ2_grow_2_56 : decode cJ2_grow_2 56 = .ok (.putfield 9, 3) := dk_181 0 9 (dk_at dksJ2_grow_2_2 8 rfl rfl)
theorem dJ2_grow_2_59 : decode cJ2_grow_2 59 = .ok (.areturn, 1) := dk_176 (dk_at dksJ2_grow_2_2 11 rfl rfl)
abbrev cJ2_get : ByteArray := prog_30_method_20_code
def yJ2_get : MethodName := ⟨RJ2, "get", "(I)Ljava/lang/Object;"⟩
def dkwJ2_get_0 : List UInt8 := [27, 42, 180, 0, 48, 184, 0, 118, 87, 42, 27, 182, 0, 123, 176]
abbrev dktJ2_get_0 : List UInt8 := dkwJ2_get_0 ++ []
theorem dksJ2_get_0 : cJ2_get.data.toList.drop 0 = dktJ2_get_0 := by decide +kernel
theorem dJ2_get_0 : decode cJ2_get 0 = .ok (.iload_n 1, 1) := dk_27 (dk_at dksJ2_get_0 0 rfl rfl)
theorem dJ2_get_1 : decode cJ2_get 1 = .ok (.aload_n 0, 1) := dk_42 (dk_at dksJ2_get_0 1 rfl rfl)
theorem dJ2_get_2 : decode cJ2_get 2 = .ok (.getfield 48, 3) := dk_180 0 48 (dk_at dksJ2_get_0 2 rfl rfl)
theorem dJ2_get_5 : decode cJ2_get 5 = .ok (.invokestatic 118, 3) := dk_184 0 118 (dk_at dksJ2_get_0 5 rfl rfl)
theorem dJ2_get_8 : decode cJ2_get 8 = .ok (.pop, 1) := dk_87 (dk_at dksJ2_get_0 8 rfl rfl)
theorem dJ2_get_9 : decode cJ2_get 9 = .ok (.aload_n 0, 1) := dk_42 (dk_at dksJ2_get_0 9 rfl rfl)
theorem dJ2_get_10 : decode cJ2_get 10 = .ok (.iload_n 1, 1) := dk_27 (dk_at dksJ2_get_0 10 rfl rfl)
theorem dJ2_get_11 : decode cJ2_get 11 = .ok (.invokevirtual 123, 3) := dk_182 0 123 (dk_at dksJ2_get_0 11 rfl rfl)
theorem dJ2_get_14 : decode cJ2_get 14 = .ok (.areturn, 1) := dk_176 (dk_at dksJ2_get_0 14 rfl rfl)
abbrev cJ2_elementData : ByteArray := prog_30_method_18_code
def yJ2_elementData : MethodName := ⟨RJ2, "elementData", "(I)Ljava/lang/Object;"⟩
def dkwJ2_elementData_0 : List UInt8 := [42, 180, 0, 9, 27, 50, 176]
abbrev dktJ2_elementData_0 : List UInt8 := dkwJ2_elementData_0 ++ []
theorem dksJ2_elementData_0 : cJ2_elementData.data.toList.drop 0 = dktJ2_elementData_0 := by decide +kernel
theorem dJ2_elementData_0 : decode cJ2_elementData 0 = .ok (.aload_n 0, 1) := dk_42 (dk_at dksJ2_elementData_0 0 rfl rfl)
theorem dJ2_elementData_1 : decode cJ2_elementData 1 = .ok (.getfield 9, 3) := dk_180 0 9 (dk_at dksJ2_elementData_0 1 rfl rfl)
theorem dJ2_elementData_4 : decode cJ2_elementData 4 = .ok (.iload_n 1, 1) := dk_27 (dk_at dksJ2_elementData_0 4 rfl rfl)
theorem dJ2_elementData_5 : decode cJ2_elementData 5 = .ok (.aaload, 1) := dk_50 (dk_at dksJ2_elementData_0 5 rfl rfl)
theorem dJ2_elementData_6 : decode cJ2_elementData 6 = .ok (.areturn, 1) := dk_176 (dk_at dksJ2_elementData_0 6 rfl rfl)
theorem q28 : (Jvm.Cond.initialized "java/util/ArrayList") ∈ lw_all := lw_g (lw_at lw_m1 6 rfl) rfl
theorem q71 : (Jvm.Cond.instantiable "java/util/ArrayList" (3 : Nat)) ∈ lw_all := lw_g (lw_at lw_m1 49 rfl) rfl
theorem q73 : (Jvm.Cond.instanceMethod ({ cls := "java/util/ArrayList", name := "<init>", desc := "()V" } : Jvm.MethodName)) ∈ lw_all := lw_g (lw_at lw_m1 51 rfl) rfl
theorem q74 : (Jvm.Cond.code ({ cls := "java/util/ArrayList", name := "<init>", desc := "()V" } : Jvm.MethodName) prog_30_method_2_code (1 : Nat) (Option.none : Option Jvm.ClassFile.FieldType)) ∈ lw_all := lw_g (lw_at lw_m1 52 rfl) rfl
theorem q75 : (Jvm.Cond.methodLink "java/util/ArrayList" (1 : Nat) ({ cls := "java/util/AbstractList", name := "<init>", desc := "()V" } : Jvm.MethodName)) ∈ lw_all := lw_g (lw_at lw_m1 53 rfl) rfl
theorem q82 : (Jvm.Cond.fieldLink "java/util/ArrayList" (39 : Nat) "java/util/ArrayList" "DEFAULTCAPACITY_EMPTY_ELEMENTDATA" "[Ljava/lang/Object;") ∈ lw_all := lw_g (lw_at lw_m1 60 rfl) rfl
theorem q83 : (Jvm.Cond.laysStatic "java/util/ArrayList" "DEFAULTCAPACITY_EMPTY_ELEMENTDATA" "[Ljava/lang/Object;") ∈ lw_tbl := lw_at lw_m1 61 rfl
theorem q84 : (Jvm.Cond.fieldLink "java/util/ArrayList" (9 : Nat) "java/util/ArrayList" "elementData" "[Ljava/lang/Object;") ∈ lw_all := lw_g (lw_at lw_m1 62 rfl) rfl
theorem q85 : (Jvm.Cond.fieldLink "java/util/ArrayList" (48 : Nat) "java/util/ArrayList" "size" "I") ∈ lw_all := lw_g (lw_at lw_m1 63 rfl) rfl
theorem q87 : (Jvm.Cond.fieldLink "java/util/ArrayList" (63 : Nat) "java/util/ArrayList" "modCount" "I") ∈ lw_all := lw_g (lw_at lw_m1 65 rfl) rfl
theorem q88 : (Jvm.Cond.sameField "java/util/ArrayList" "java/util/AbstractList" "modCount" "I") ∈ lw_all := lw_g (lw_at lw_m1 66 rfl) rfl
theorem q89 : (Jvm.Cond.lays "java/util/ArrayList" "java/util/ArrayList" "elementData" "[Ljava/lang/Object;") ∈ lw_all := lw_g (lw_at lw_m1 67 rfl) rfl
theorem q90 : (Jvm.Cond.soleField "java/util/ArrayList" "elementData") ∈ lw_all := lw_g (lw_at lw_m1 68 rfl) rfl
theorem q91 : (Jvm.Cond.lays "java/util/ArrayList" "java/util/ArrayList" "size" "I") ∈ lw_all := lw_g (lw_at lw_m1 69 rfl) rfl
theorem q92 : (Jvm.Cond.soleField "java/util/ArrayList" "size") ∈ lw_all := lw_g (lw_at lw_m1 70 rfl) rfl
theorem q93 : (Jvm.Cond.lays "java/util/ArrayList" "java/util/AbstractList" "modCount" "I") ∈ lw_all := lw_g (lw_at lw_m1 71 rfl) rfl
theorem q95 : (Jvm.Cond.superclass "java/util/ArrayList" "java/util/AbstractList") ∈ lw_all := lw_g (lw_at lw_m1 73 rfl) rfl
theorem q171 : (Jvm.Cond.castable "java/util/ArrayList" "java/util/List") ∈ lw_tbl := lw_at lw_m1 149 rfl
theorem q172 : (Jvm.Cond.selects "java/util/ArrayList" ({ cls := "java/util/List", name := "size", desc := "()I" } : Jvm.MethodName) ({ cls := "java/util/ArrayList", name := "size", desc := "()I" } : Jvm.MethodName)) ∈ lw_all := lw_g (lw_at lw_m1 150 rfl) rfl
theorem q173 : (Jvm.Cond.unhidden "java/util/ArrayList" "size" "()I") ∈ lw_tbl := lw_at lw_m1 151 rfl
theorem q174 : (Jvm.Cond.instanceMethod ({ cls := "java/util/ArrayList", name := "size", desc := "()I" } : Jvm.MethodName)) ∈ lw_all := lw_g (lw_at lw_m1 152 rfl) rfl
theorem q175 : (Jvm.Cond.publicMethod ({ cls := "java/util/ArrayList", name := "size", desc := "()I" } : Jvm.MethodName)) ∈ lw_tbl := lw_at lw_m1 153 rfl
theorem q176 : (Jvm.Cond.code ({ cls := "java/util/ArrayList", name := "size", desc := "()I" } : Jvm.MethodName) prog_30_method_8_code (1 : Nat) (Option.some Jvm.ClassFile.FieldType.int)) ∈ lw_all := lw_g (lw_at lw_m1 154 rfl) rfl
theorem q398 : (Jvm.Cond.selects "java/util/ArrayList" ({ cls := "java/util/List", name := "add", desc := "(Ljava/lang/Object;)Z" } : Jvm.MethodName) ({ cls := "java/util/ArrayList", name := "add", desc := "(Ljava/lang/Object;)Z" } : Jvm.MethodName)) ∈ lw_all := lw_g (lw_at lw_m2 136 rfl) rfl
theorem q399 : (Jvm.Cond.unhidden "java/util/ArrayList" "add" "(Ljava/lang/Object;)Z") ∈ lw_tbl := lw_at lw_m2 137 rfl
theorem q400 : (Jvm.Cond.instanceMethod ({ cls := "java/util/ArrayList", name := "add", desc := "(Ljava/lang/Object;)Z" } : Jvm.MethodName)) ∈ lw_all := lw_g (lw_at lw_m2 138 rfl) rfl
theorem q401 : (Jvm.Cond.publicMethod ({ cls := "java/util/ArrayList", name := "add", desc := "(Ljava/lang/Object;)Z" } : Jvm.MethodName)) ∈ lw_tbl := lw_at lw_m2 139 rfl
theorem q402 : (Jvm.Cond.code ({ cls := "java/util/ArrayList", name := "add", desc := "(Ljava/lang/Object;)Z" } : Jvm.MethodName) prog_30_method_25_code (2 : Nat) (Option.some Jvm.ClassFile.FieldType.boolean)) ∈ lw_all := lw_g (lw_at lw_m2 140 rfl) rfl
theorem q403 : (Jvm.Cond.methodLink "java/util/ArrayList" (131 : Nat) ({ cls := "java/util/ArrayList", name := "add", desc := "(Ljava/lang/Object;[Ljava/lang/Object;I)V" } : Jvm.MethodName)) ∈ lw_all := lw_g (lw_at lw_m2 141 rfl) rfl
theorem q404 : (Jvm.Cond.privateMethod ({ cls := "java/util/ArrayList", name := "add", desc := "(Ljava/lang/Object;[Ljava/lang/Object;I)V" } : Jvm.MethodName)) ∈ lw_tbl := lw_at lw_m2 142 rfl
theorem q405 : (Jvm.Cond.instanceMethod ({ cls := "java/util/ArrayList", name := "add", desc := "(Ljava/lang/Object;[Ljava/lang/Object;I)V" } : Jvm.MethodName)) ∈ lw_all := lw_g (lw_at lw_m2 143 rfl) rfl
theorem q406 : (Jvm.Cond.code ({ cls := "java/util/ArrayList", name := "add", desc := "(Ljava/lang/Object;[Ljava/lang/Object;I)V" } : Jvm.MethodName) prog_30_method_24_code (4 : Nat) (Option.none : Option Jvm.ClassFile.FieldType)) ∈ lw_all := lw_g (lw_at lw_m2 144 rfl) rfl
theorem q407 : (Jvm.Cond.methodLink "java/util/ArrayList" (129 : Nat) ({ cls := "java/util/ArrayList", name := "grow", desc := "()[Ljava/lang/Object;" } : Jvm.MethodName)) ∈ lw_all := lw_g (lw_at lw_m2 145 rfl) rfl
theorem q408 : (Jvm.Cond.privateMethod ({ cls := "java/util/ArrayList", name := "grow", desc := "()[Ljava/lang/Object;" } : Jvm.MethodName)) ∈ lw_tbl := lw_at lw_m2 146 rfl
theorem q409 : (Jvm.Cond.instanceMethod ({ cls := "java/util/ArrayList", name := "grow", desc := "()[Ljava/lang/Object;" } : Jvm.MethodName)) ∈ lw_all := lw_g (lw_at lw_m2 147 rfl) rfl
theorem q410 : (Jvm.Cond.code ({ cls := "java/util/ArrayList", name := "grow", desc := "()[Ljava/lang/Object;" } : Jvm.MethodName) prog_30_method_7_code (1 : Nat) (Option.some (Jvm.ClassFile.FieldType.array (Jvm.ClassFile.FieldType.object "java/lang/Object")))) ∈ lw_all := lw_g (lw_at lw_m2 148 rfl) rfl
theorem q411 : (Jvm.Cond.methodLink "java/util/ArrayList" (69 : Nat) ({ cls := "java/util/ArrayList", name := "grow", desc := "(I)[Ljava/lang/Object;" } : Jvm.MethodName)) ∈ lw_all := lw_g (lw_at lw_m2 149 rfl) rfl
theorem q412 : (Jvm.Cond.privateMethod ({ cls := "java/util/ArrayList", name := "grow", desc := "(I)[Ljava/lang/Object;" } : Jvm.MethodName)) ∈ lw_tbl := lw_at lw_m2 150 rfl
theorem q413 : (Jvm.Cond.instanceMethod ({ cls := "java/util/ArrayList", name := "grow", desc := "(I)[Ljava/lang/Object;" } : Jvm.MethodName)) ∈ lw_all := lw_g (lw_at lw_m2 151 rfl) rfl
theorem q414 : (Jvm.Cond.code ({ cls := "java/util/ArrayList", name := "grow", desc := "(I)[Ljava/lang/Object;" } : Jvm.MethodName) prog_30_method_6_code (4 : Nat) (Option.some (Jvm.ClassFile.FieldType.array (Jvm.ClassFile.FieldType.object "java/lang/Object")))) ∈ lw_all := lw_g (lw_at lw_m2 152 rfl) rfl
theorem q415 : (Jvm.Cond.methodLink "java/util/ArrayList" (73 : Nat) ({ cls := "jdk/internal/util/ArraysSupport", name := "newLength", desc := "(III)I" } : Jvm.MethodName)) ∈ lw_all := lw_g (lw_at lw_m2 153 rfl) rfl
theorem q425 : (Jvm.Cond.methodLink "java/util/ArrayList" (66 : Nat) ({ cls := "java/util/Arrays", name := "copyOf", desc := "([Ljava/lang/Object;I)[Ljava/lang/Object;" } : Jvm.MethodName)) ∈ lw_all := lw_g (lw_at lw_m2 163 rfl) rfl
theorem q444 : (Jvm.Cond.selects "java/util/ArrayList" ({ cls := "java/lang/Object", name := "getClass", desc := "()Ljava/lang/Class;" } : Jvm.MethodName) ({ cls := "java/lang/Object", name := "getClass", desc := "()Ljava/lang/Class;" } : Jvm.MethodName)) ∈ lw_all := lw_g (lw_at lw_m2 182 rfl) rfl
theorem q458 : (Jvm.Cond.methodLink "java/util/ArrayList" (79 : Nat) ({ cls := "java/lang/Math", name := "max", desc := "(II)I" } : Jvm.MethodName)) ∈ lw_all := lw_g (lw_at lw_m2 196 rfl) rfl
theorem q459 : (Jvm.Cond.classLink "java/util/ArrayList" (7 : Nat) "java/lang/Object") ∈ lw_all := lw_g (lw_at lw_m2 197 rfl) rfl
theorem q475 : (Jvm.Cond.selects "java/util/ArrayList" ({ cls := "java/util/List", name := "get", desc := "(I)Ljava/lang/Object;" } : Jvm.MethodName) ({ cls := "java/util/ArrayList", name := "get", desc := "(I)Ljava/lang/Object;" } : Jvm.MethodName)) ∈ lw_all := lw_g (lw_at lw_m2 213 rfl) rfl
theorem q476 : (Jvm.Cond.unhidden "java/util/ArrayList" "get" "(I)Ljava/lang/Object;") ∈ lw_tbl := lw_at lw_m2 214 rfl
theorem q477 : (Jvm.Cond.instanceMethod ({ cls := "java/util/ArrayList", name := "get", desc := "(I)Ljava/lang/Object;" } : Jvm.MethodName)) ∈ lw_all := lw_g (lw_at lw_m2 215 rfl) rfl
theorem q478 : (Jvm.Cond.publicMethod ({ cls := "java/util/ArrayList", name := "get", desc := "(I)Ljava/lang/Object;" } : Jvm.MethodName)) ∈ lw_tbl := lw_at lw_m2 216 rfl
theorem q479 : (Jvm.Cond.code ({ cls := "java/util/ArrayList", name := "get", desc := "(I)Ljava/lang/Object;" } : Jvm.MethodName) prog_30_method_20_code (2 : Nat) (Option.some (Jvm.ClassFile.FieldType.object "java/lang/Object"))) ∈ lw_all := lw_g (lw_at lw_m2 217 rfl) rfl
theorem q480 : (Jvm.Cond.methodLink "java/util/ArrayList" (118 : Nat) ({ cls := "java/util/Objects", name := "checkIndex", desc := "(II)I" } : Jvm.MethodName)) ∈ lw_all := lw_g (lw_at lw_m2 218 rfl) rfl
theorem q486 : (Jvm.Cond.methodLink "java/util/ArrayList" (123 : Nat) ({ cls := "java/util/ArrayList", name := "elementData", desc := "(I)Ljava/lang/Object;" } : Jvm.MethodName)) ∈ lw_all := lw_g (lw_at lw_m2 224 rfl) rfl
theorem q487 : (Jvm.Cond.instanceMethod ({ cls := "java/util/ArrayList", name := "elementData", desc := "(I)Ljava/lang/Object;" } : Jvm.MethodName)) ∈ lw_all := lw_g (lw_at lw_m2 225 rfl) rfl
theorem q488 : (Jvm.Cond.selects "java/util/ArrayList" ({ cls := "java/util/ArrayList", name := "elementData", desc := "(I)Ljava/lang/Object;" } : Jvm.MethodName) ({ cls := "java/util/ArrayList", name := "elementData", desc := "(I)Ljava/lang/Object;" } : Jvm.MethodName)) ∈ lw_all := lw_g (lw_at lw_m2 226 rfl) rfl
theorem q489 : (Jvm.Cond.code ({ cls := "java/util/ArrayList", name := "elementData", desc := "(I)Ljava/lang/Object;" } : Jvm.MethodName) prog_30_method_18_code (2 : Nat) (Option.some (Jvm.ClassFile.FieldType.object "java/lang/Object"))) ∈ lw_all := lw_g (lw_at lw_m2 227 rfl) rfl
theorem q885 : (Jvm.Cond.castable "java/util/ArrayList" "java/lang/Object") ∈ lw_tbl := lw_at lw_m4 143 rfl
theorem in_J2 : ∀ w ∈ wsJ20, w ∈ lw_all := lw_in wsJ20 [93, 89, 91] (by decide +kernel) (by decide +kernel)
/-! java/lang/Record -/
set_option maxRecDepth 100000
def RJ3 : String := "java/lang/Record"
abbrev cJ3_init : ByteArray := prog_23_method_1_code
def yJ3_init : MethodName := ⟨RJ3, "<init>", "()V"⟩
theorem dJ3_init_0 : decode cJ3_init 0 = .ok (.aload_n 0, 1) := by decide +kernel
theorem dJ3_init_1 : decode cJ3_init 1 = .ok (.invokespecial 1, 3) := by decide +kernel
theorem dJ3_init_4 : decode cJ3_init 4 = .ok (.return_, 1) := by decide +kernel
theorem q29 : (Jvm.Cond.initialized "java/lang/Record") ∈ lw_all := lw_g (lw_at lw_m1 7 rfl) rfl
theorem q106 : (Jvm.Cond.instanceMethod ({ cls := "java/lang/Record", name := "<init>", desc := "()V" } : Jvm.MethodName)) ∈ lw_all := lw_g (lw_at lw_m1 84 rfl) rfl
theorem q107 : (Jvm.Cond.code ({ cls := "java/lang/Record", name := "<init>", desc := "()V" } : Jvm.MethodName) prog_23_method_1_code (1 : Nat) (Option.none : Option Jvm.ClassFile.FieldType)) ∈ lw_all := lw_g (lw_at lw_m1 85 rfl) rfl
theorem q108 : (Jvm.Cond.methodLink "java/lang/Record" (1 : Nat) ({ cls := "java/lang/Object", name := "<init>", desc := "()V" } : Jvm.MethodName)) ∈ lw_all := lw_g (lw_at lw_m1 86 rfl) rfl
/-! java/lang/Throwable -/
set_option maxRecDepth 100000
def RJ4 : String := "java/lang/Throwable"
def TJ4 : u_T := fun k => match k with
  | 0 => ("java/lang/Throwable", "cause", "Ljava/lang/Throwable;", false)
  | 1 => ("java/lang/Throwable", "stackTrace", "[Ljava/lang/StackTraceElement;", false)
  | 2 => ("java/lang/Throwable", "suppressedExceptions", "Ljava/util/List;", false)
  | 3 => ("java/lang/Throwable", "detailMessage", "Ljava/lang/String;", false)
  | _ => ("java/lang/Throwable", "backtrace", "Ljava/lang/Object;", false)
def tyJ4 : Nat → FieldType := fun k => match k with
  | 0 => .object "java/lang/Throwable"
  | 1 => .array (.object "java/lang/StackTraceElement")
  | 2 => .object "java/util/List"
  | 3 => .object "java/lang/String"
  | _ => .object "java/lang/Object"
abbrev wsJ40 : List Cond := u_ws RJ4 TJ4 5
theorem nmJ4 : ∀ a, a < 5 → ∀ b, b < 5 → a ≠ b → (TJ4 a).2.1 ≠ (TJ4 b).2.1 := by decide +kernel
theorem tyJ4_ok : ∀ k, k < 5 → parseFieldDescriptor (TJ4 k).2.2.1 = some (tyJ4 k) := by decide +kernel
abbrev cJ4_init : ByteArray := prog_27_method_2_code
def yJ4_init : MethodName := ⟨RJ4, "<init>", "(Ljava/lang/String;)V"⟩
def dkwJ4_init_1 : List UInt8 := [182, 0, 27, 87, 42, 43, 181, 0, 31, 177]
abbrev dktJ4_init_1 : List UInt8 := dkwJ4_init_1 ++ []
def dkwJ4_init_0 : List UInt8 := [42, 183, 0, 1, 42, 42, 181, 0, 7, 42, 178, 0, 13, 181, 0, 17, 42, 178, 0, 20, 181, 0, 24, 42]
abbrev dktJ4_init_0 : List UInt8 := dkwJ4_init_0 ++ dktJ4_init_1
theorem dksJ4_init_0 : cJ4_init.data.toList.drop 0 = dktJ4_init_0 := by decide +kernel
theorem dksJ4_init_1 : cJ4_init.data.toList.drop 24 = dktJ4_init_1 := dk_seg dksJ4_init_0 24 rfl rfl
theorem dJ4_init_0 : decode cJ4_init 0 = .ok (.aload_n 0, 1) := dk_42 (dk_at dksJ4_init_0 0 rfl rfl)
theorem dJ4_init_1 : decode cJ4_init 1 = .ok (.invokespecial 1, 3) := dk_183 0 1 (dk_at dksJ4_init_0 1 rfl rfl)
theorem dJ4_init_4 : decode cJ4_init 4 = .ok (.aload_n 0, 1) := dk_42 (dk_at dksJ4_init_0 4 rfl rfl)
theorem dJ4_init_5 : decode cJ4_init 5 = .ok (.aload_n 0, 1) := dk_42 (dk_at dksJ4_init_0 5 rfl rfl)
theorem dJ4_init_6 : decode cJ4_init 6 = .ok (.putfield 7, 3) := dk_181 0 7 (dk_at dksJ4_init_0 6 rfl rfl)
theorem dJ4_init_9 : decode cJ4_init 9 = .ok (.aload_n 0, 1) := dk_42 (dk_at dksJ4_init_0 9 rfl rfl)
theorem dJ4_init_10 : decode cJ4_init 10 = .ok (.getstatic 13, 3) := dk_178 0 13 (dk_at dksJ4_init_0 10 rfl rfl)
theorem dJ4_init_13 : decode cJ4_init 13 = .ok (.putfield 17, 3) := dk_181 0 17 (dk_at dksJ4_init_0 13 rfl rfl)
theorem dJ4_init_16 : decode cJ4_init 16 = .ok (.aload_n 0, 1) := dk_42 (dk_at dksJ4_init_0 16 rfl rfl)
theorem dJ4_init_17 : decode cJ4_init 17 = .ok (.getstatic 20, 3) := dk_178 0 20 (dk_at dksJ4_init_0 17 rfl rfl)
theorem dJ4_init_20 : decode cJ4_init 20 = .ok (.putfield 24, 3) := dk_181 0 24 (dk_at dksJ4_init_0 20 rfl rfl)
theorem dJ4_init_23 : decode cJ4_init 23 = .ok (.aload_n 0, 1) := dk_42 (dk_at dksJ4_init_0 23 rfl rfl)
theorem dJ4_init_24 : decode cJ4_init 24 = .ok (.invokevirtual 27, 3) := dk_182 0 27 (dk_at dksJ4_init_1 0 rfl rfl)
theorem dJ4_init_27 : decode cJ4_init 27 = .ok (.pop, 1) := dk_87 (dk_at dksJ4_init_1 3 rfl rfl)
theorem dJ4_init_28 : decode cJ4_init 28 = .ok (.aload_n 0, 1) := dk_42 (dk_at dksJ4_init_1 4 rfl rfl)
theorem dJ4_init_29 : decode cJ4_init 29 = .ok (.aload_n 1, 1) := dk_43 (dk_at dksJ4_init_1 5 rfl rfl)
theorem dJ4_init_30 : decode cJ4_init 30 = .ok (.putfield 31, 3) := dk_181 0 31 (dk_at dksJ4_init_1 6 rfl rfl)
theorem dJ4_init_33 : decode cJ4_init 33 = .ok (.return_, 1) := dk_177 (dk_at dksJ4_init_1 9 rfl rfl)
abbrev cJ4_init_2 : ByteArray := prog_27_method_1_code
def yJ4_init_2 : MethodName := ⟨RJ4, "<init>", "()V"⟩
def dkwJ4_init_2_1 : List UInt8 := [182, 0, 27, 87, 177]
abbrev dktJ4_init_2_1 : List UInt8 := dkwJ4_init_2_1 ++ []
def dkwJ4_init_2_0 : List UInt8 := [42, 183, 0, 1, 42, 42, 181, 0, 7, 42, 178, 0, 13, 181, 0, 17, 42, 178, 0, 20, 181, 0, 24, 42]
abbrev dktJ4_init_2_0 : List UInt8 := dkwJ4_init_2_0 ++ dktJ4_init_2_1
theorem dksJ4_init_2_0 : cJ4_init_2.data.toList.drop 0 = dktJ4_init_2_0 := by decide +kernel
theorem dksJ4_init_2_1 : cJ4_init_2.data.toList.drop 24 = dktJ4_init_2_1 := dk_seg dksJ4_init_2_0 24 rfl rfl
theorem dJ4_init_2_0 : decode cJ4_init_2 0 = .ok (.aload_n 0, 1) := dk_42 (dk_at dksJ4_init_2_0 0 rfl rfl)
theorem dJ4_init_2_1 : decode cJ4_init_2 1 = .ok (.invokespecial 1, 3) := dk_183 0 1 (dk_at dksJ4_init_2_0 1 rfl rfl)
theorem dJ4_init_2_4 : decode cJ4_init_2 4 = .ok (.aload_n 0, 1) := dk_42 (dk_at dksJ4_init_2_0 4 rfl rfl)
theorem dJ4_init_2_5 : decode cJ4_init_2 5 = .ok (.aload_n 0, 1) := dk_42 (dk_at dksJ4_init_2_0 5 rfl rfl)
theorem dJ4_init_2_6 : decode cJ4_init_2 6 = .ok (.putfield 7, 3) := dk_181 0 7 (dk_at dksJ4_init_2_0 6 rfl rfl)
theorem dJ4_init_2_9 : decode cJ4_init_2 9 = .ok (.aload_n 0, 1) := dk_42 (dk_at dksJ4_init_2_0 9 rfl rfl)
theorem dJ4_init_2_10 : decode cJ4_init_2 10 = .ok (.getstatic 13, 3) := dk_178 0 13 (dk_at dksJ4_init_2_0 10 rfl rfl)
theorem dJ4_init_2_13 : decode cJ4_init_2 13 = .ok (.putfield 17, 3) := dk_181 0 17 (dk_at dksJ4_init_2_0 13 rfl rfl)
theorem dJ4_init_2_16 : decode cJ4_init_2 16 = .ok (.aload_n 0, 1) := dk_42 (dk_at dksJ4_init_2_0 16 rfl rfl)
theorem dJ4_init_2_17 : decode cJ4_init_2 17 = .ok (.getstatic 20, 3) := dk_178 0 20 (dk_at dksJ4_init_2_0 17 rfl rfl)
theorem dJ4_init_2_20 : decode cJ4_init_2 20 = .ok (.putfield 24, 3) := dk_181 0 24 (dk_at dksJ4_init_2_0 20 rfl rfl)
theorem dJ4_init_2_23 : decode cJ4_init_2 23 = .ok (.aload_n 0, 1) := dk_42 (dk_at dksJ4_init_2_0 23 rfl rfl)
theorem dJ4_init_2_24 : decode cJ4_init_2 24 = .ok (.invokevirtual 27, 3) := dk_182 0 27 (dk_at dksJ4_init_2_1 0 rfl rfl)
theorem dJ4_init_2_27 : decode cJ4_init_2 27 = .ok (.pop, 1) := dk_87 (dk_at dksJ4_init_2_1 3 rfl rfl)
theorem dJ4_init_2_28 : decode cJ4_init_2 28 = .ok (.return_, 1) := dk_177 (dk_at dksJ4_init_2_1 4 rfl rfl)
theorem q32 : (Jvm.Cond.initialized "java/lang/Throwable") ∈ lw_all := lw_g (lw_at lw_m1 10 rfl) rfl
theorem q202 : (Jvm.Cond.instanceMethod ({ cls := "java/lang/Throwable", name := "<init>", desc := "(Ljava/lang/String;)V" } : Jvm.MethodName)) ∈ lw_all := lw_g (lw_at lw_m1 180 rfl) rfl
theorem q203 : (Jvm.Cond.code ({ cls := "java/lang/Throwable", name := "<init>", desc := "(Ljava/lang/String;)V" } : Jvm.MethodName) prog_27_method_2_code (2 : Nat) (Option.none : Option Jvm.ClassFile.FieldType)) ∈ lw_all := lw_g (lw_at lw_m1 181 rfl) rfl
theorem q204 : (Jvm.Cond.methodLink "java/lang/Throwable" (1 : Nat) ({ cls := "java/lang/Object", name := "<init>", desc := "()V" } : Jvm.MethodName)) ∈ lw_all := lw_g (lw_at lw_m1 182 rfl) rfl
theorem q205 : (Jvm.Cond.fieldLink "java/lang/Throwable" (13 : Nat) "java/lang/Throwable" "UNASSIGNED_STACK" "[Ljava/lang/StackTraceElement;") ∈ lw_all := lw_g (lw_at lw_m1 183 rfl) rfl
theorem q206 : (Jvm.Cond.laysStatic "java/lang/Throwable" "UNASSIGNED_STACK" "[Ljava/lang/StackTraceElement;") ∈ lw_tbl := lw_at lw_m1 184 rfl
theorem q207 : (Jvm.Cond.fieldLink "java/lang/Throwable" (20 : Nat) "java/lang/Throwable" "SUPPRESSED_SENTINEL" "Ljava/util/List;") ∈ lw_all := lw_g (lw_at lw_m1 185 rfl) rfl
theorem q208 : (Jvm.Cond.laysStatic "java/lang/Throwable" "SUPPRESSED_SENTINEL" "Ljava/util/List;") ∈ lw_tbl := lw_at lw_m1 186 rfl
theorem q209 : (Jvm.Cond.methodLink "java/lang/Throwable" (27 : Nat) ({ cls := "java/lang/Throwable", name := "fillInStackTrace", desc := "()Ljava/lang/Throwable;" } : Jvm.MethodName)) ∈ lw_all := lw_g (lw_at lw_m1 187 rfl) rfl
theorem q210 : (Jvm.Cond.instanceMethod ({ cls := "java/lang/Throwable", name := "fillInStackTrace", desc := "()Ljava/lang/Throwable;" } : Jvm.MethodName)) ∈ lw_all := lw_g (lw_at lw_m1 188 rfl) rfl
theorem q211 : (Jvm.Cond.sameMethod "java/lang/Throwable" "java/lang/Throwable" "fillInStackTrace" "()Ljava/lang/Throwable;") ∈ lw_all := lw_g (lw_at lw_m1 189 rfl) rfl
theorem q216 : (Jvm.Cond.codeSync ({ cls := "java/lang/Throwable", name := "fillInStackTrace", desc := "()Ljava/lang/Throwable;" } : Jvm.MethodName) prog_27_method_18_code (1 : Nat) (Option.some (Jvm.ClassFile.FieldType.object "java/lang/Throwable"))) ∈ lw_all := lw_g (lw_at lw_m1 194 rfl) rfl
theorem q217 : (Jvm.Cond.methodLink "java/lang/Throwable" (202 : Nat) ({ cls := "java/lang/Throwable", name := "fillInStackTrace", desc := "(I)Ljava/lang/Throwable;" } : Jvm.MethodName)) ∈ lw_all := lw_g (lw_at lw_m1 195 rfl) rfl
theorem q218 : (Jvm.Cond.privateMethod ({ cls := "java/lang/Throwable", name := "fillInStackTrace", desc := "(I)Ljava/lang/Throwable;" } : Jvm.MethodName)) ∈ lw_tbl := lw_at lw_m1 196 rfl
theorem q219 : (Jvm.Cond.instanceMethod ({ cls := "java/lang/Throwable", name := "fillInStackTrace", desc := "(I)Ljava/lang/Throwable;" } : Jvm.MethodName)) ∈ lw_all := lw_g (lw_at lw_m1 197 rfl) rfl
theorem q220 : (Jvm.Cond.instantiable "java/lang/Throwable" (6 : Nat)) ∈ lw_all := lw_g (lw_at lw_m1 198 rfl) rfl
theorem q221 : (Jvm.Cond.native ({ cls := "java/lang/Throwable", name := "fillInStackTrace", desc := "(I)Ljava/lang/Throwable;" } : Jvm.MethodName)) ∈ lw_all := lw_g (lw_at lw_m1 199 rfl) rfl
theorem q222 : (Jvm.Cond.fieldLink "java/lang/Throwable" (198 : Nat) "java/lang/Throwable" "backtrace" "Ljava/lang/Object;") ∈ lw_all := lw_g (lw_at lw_m1 200 rfl) rfl
theorem q223 : (Jvm.Cond.fieldLink "java/lang/Throwable" (31 : Nat) "java/lang/Throwable" "detailMessage" "Ljava/lang/String;") ∈ lw_all := lw_g (lw_at lw_m1 201 rfl) rfl
theorem q224 : (Jvm.Cond.fieldLink "java/lang/Throwable" (7 : Nat) "java/lang/Throwable" "cause" "Ljava/lang/Throwable;") ∈ lw_all := lw_g (lw_at lw_m1 202 rfl) rfl
theorem q225 : (Jvm.Cond.fieldLink "java/lang/Throwable" (17 : Nat) "java/lang/Throwable" "stackTrace" "[Ljava/lang/StackTraceElement;") ∈ lw_all := lw_g (lw_at lw_m1 203 rfl) rfl
theorem q226 : (Jvm.Cond.fieldLink "java/lang/Throwable" (24 : Nat) "java/lang/Throwable" "suppressedExceptions" "Ljava/util/List;") ∈ lw_all := lw_g (lw_at lw_m1 204 rfl) rfl
theorem q228 : (Jvm.Cond.soleField "java/lang/Throwable" "backtrace") ∈ lw_all := lw_g (lw_at lw_m1 206 rfl) rfl
theorem q230 : (Jvm.Cond.soleField "java/lang/Throwable" "detailMessage") ∈ lw_all := lw_g (lw_at lw_m1 208 rfl) rfl
theorem q232 : (Jvm.Cond.soleField "java/lang/Throwable" "cause") ∈ lw_all := lw_g (lw_at lw_m1 210 rfl) rfl
theorem q234 : (Jvm.Cond.soleField "java/lang/Throwable" "stackTrace") ∈ lw_all := lw_g (lw_at lw_m1 212 rfl) rfl
theorem q236 : (Jvm.Cond.soleField "java/lang/Throwable" "depth") ∈ lw_all := lw_g (lw_at lw_m1 214 rfl) rfl
theorem q238 : (Jvm.Cond.soleField "java/lang/Throwable" "suppressedExceptions") ∈ lw_all := lw_g (lw_at lw_m1 216 rfl) rfl
theorem q247 : (Jvm.Cond.declares ({ cls := "java/lang/Throwable", name := "<init>", desc := "()V" } : Jvm.MethodName)) ∈ lw_tbl := lw_at lw_m1 225 rfl
theorem q248 : (Jvm.Cond.declares ({ cls := "java/lang/Throwable", name := "<init>", desc := "(Ljava/lang/String;)V" } : Jvm.MethodName)) ∈ lw_tbl := lw_at lw_m1 226 rfl
theorem q250 : (Jvm.Cond.lays "java/lang/Throwable" "java/lang/Throwable" "cause" "Ljava/lang/Throwable;") ∈ lw_all := lw_g (lw_at lw_m1 228 rfl) rfl
theorem q251 : (Jvm.Cond.lays "java/lang/Throwable" "java/lang/Throwable" "stackTrace" "[Ljava/lang/StackTraceElement;") ∈ lw_all := lw_g (lw_at lw_m1 229 rfl) rfl
theorem q252 : (Jvm.Cond.lays "java/lang/Throwable" "java/lang/Throwable" "suppressedExceptions" "Ljava/util/List;") ∈ lw_all := lw_g (lw_at lw_m1 230 rfl) rfl
theorem q253 : (Jvm.Cond.lays "java/lang/Throwable" "java/lang/Throwable" "detailMessage" "Ljava/lang/String;") ∈ lw_all := lw_g (lw_at lw_m1 231 rfl) rfl
theorem q254 : (Jvm.Cond.lays "java/lang/Throwable" "java/lang/Throwable" "backtrace" "Ljava/lang/Object;") ∈ lw_all := lw_g (lw_at lw_m1 232 rfl) rfl
theorem q255 : (Jvm.Cond.fieldLink "java/lang/Throwable" (198 : Nat) "java/lang/Throwable" "backtrace" "Ljava/lang/Object;") ∈ lw_all := lw_g (lw_at lw_m1 233 rfl) rfl
theorem q256 : (Jvm.Cond.superclass "java/lang/Throwable" "java/lang/Object") ∈ lw_all := lw_g (lw_at lw_m1 234 rfl) rfl
theorem q257 : (Jvm.Cond.instanceMethod ({ cls := "java/lang/Throwable", name := "<init>", desc := "()V" } : Jvm.MethodName)) ∈ lw_all := lw_g (lw_at lw_m1 235 rfl) rfl
theorem q258 : (Jvm.Cond.code ({ cls := "java/lang/Throwable", name := "<init>", desc := "()V" } : Jvm.MethodName) prog_27_method_1_code (1 : Nat) (Option.none : Option Jvm.ClassFile.FieldType)) ∈ lw_all := lw_g (lw_at lw_m1 236 rfl) rfl
theorem q875 : (Jvm.Cond.sameMethod "java/lang/Throwable" "java/lang/Throwable" "fillInStackTrace" "(I)Ljava/lang/Throwable;") ∈ lw_all := lw_g (lw_at lw_m4 133 rfl) rfl
theorem q893 : (Jvm.Cond.castable "java/lang/Throwable" "java/lang/Object") ∈ lw_tbl := lw_at lw_m4 151 rfl
theorem in_J4 : ∀ w ∈ wsJ40, w ∈ lw_all := lw_in wsJ40 [250, 251, 252, 253, 254] (by decide +kernel) (by decide +kernel)
/-! java/lang/Exception -/
set_option maxRecDepth 100000
def RJ5 : String := "java/lang/Exception"
abbrev cJ5_init : ByteArray := prog_17_method_2_code
def yJ5_init : MethodName := ⟨RJ5, "<init>", "(Ljava/lang/String;)V"⟩
def dkwJ5_init_0 : List UInt8 := [42, 43, 183, 0, 7, 177]
abbrev dktJ5_init_0 : List UInt8 := dkwJ5_init_0 ++ []
theorem dksJ5_init_0 : cJ5_init.data.toList.drop 0 = dktJ5_init_0 := by decide +kernel
theorem dJ5_init_0 : decode cJ5_init 0 = .ok (.aload_n 0, 1) := dk_42 (dk_at dksJ5_init_0 0 rfl rfl)
theorem dJ5_init_1 : decode cJ5_init 1 = .ok (.aload_n 1, 1) := dk_43 (dk_at dksJ5_init_0 1 rfl rfl)
theorem dJ5_init_2 : decode cJ5_init 2 = .ok (.invokespecial 7, 3) := dk_183 0 7 (dk_at dksJ5_init_0 2 rfl rfl)
theorem dJ5_init_5 : decode cJ5_init 5 = .ok (.return_, 1) := dk_177 (dk_at dksJ5_init_0 5 rfl rfl)
abbrev cJ5_init_2 : ByteArray := prog_17_method_1_code
def yJ5_init_2 : MethodName := ⟨RJ5, "<init>", "()V"⟩
theorem dJ5_init_2_0 : decode cJ5_init_2 0 = .ok (.aload_n 0, 1) := by decide +kernel
theorem dJ5_init_2_1 : decode cJ5_init_2 1 = .ok (.invokespecial 1, 3) := by decide +kernel
theorem dJ5_init_2_4 : decode cJ5_init_2 4 = .ok (.return_, 1) := by decide +kernel
theorem q33 : (Jvm.Cond.initialized "java/lang/Exception") ∈ lw_all := lw_g (lw_at lw_m1 11 rfl) rfl
theorem q199 : (Jvm.Cond.instanceMethod ({ cls := "java/lang/Exception", name := "<init>", desc := "(Ljava/lang/String;)V" } : Jvm.MethodName)) ∈ lw_all := lw_g (lw_at lw_m1 177 rfl) rfl
theorem q200 : (Jvm.Cond.code ({ cls := "java/lang/Exception", name := "<init>", desc := "(Ljava/lang/String;)V" } : Jvm.MethodName) prog_17_method_2_code (2 : Nat) (Option.none : Option Jvm.ClassFile.FieldType)) ∈ lw_all := lw_g (lw_at lw_m1 178 rfl) rfl
theorem q201 : (Jvm.Cond.methodLink "java/lang/Exception" (7 : Nat) ({ cls := "java/lang/Throwable", name := "<init>", desc := "(Ljava/lang/String;)V" } : Jvm.MethodName)) ∈ lw_all := lw_g (lw_at lw_m1 179 rfl) rfl
theorem q245 : (Jvm.Cond.declares ({ cls := "java/lang/Exception", name := "<init>", desc := "()V" } : Jvm.MethodName)) ∈ lw_tbl := lw_at lw_m1 223 rfl
theorem q246 : (Jvm.Cond.declares ({ cls := "java/lang/Exception", name := "<init>", desc := "(Ljava/lang/String;)V" } : Jvm.MethodName)) ∈ lw_tbl := lw_at lw_m1 224 rfl
theorem q289 : (Jvm.Cond.instanceMethod ({ cls := "java/lang/Exception", name := "<init>", desc := "()V" } : Jvm.MethodName)) ∈ lw_all := lw_g (lw_at lw_m2 27 rfl) rfl
theorem q290 : (Jvm.Cond.code ({ cls := "java/lang/Exception", name := "<init>", desc := "()V" } : Jvm.MethodName) prog_17_method_1_code (1 : Nat) (Option.none : Option Jvm.ClassFile.FieldType)) ∈ lw_all := lw_g (lw_at lw_m2 28 rfl) rfl
theorem q291 : (Jvm.Cond.methodLink "java/lang/Exception" (1 : Nat) ({ cls := "java/lang/Throwable", name := "<init>", desc := "()V" } : Jvm.MethodName)) ∈ lw_all := lw_g (lw_at lw_m2 29 rfl) rfl
/-! java/lang/RuntimeException -/
set_option maxRecDepth 100000
def RJ6 : String := "java/lang/RuntimeException"
abbrev cJ6_init : ByteArray := prog_24_method_2_code
def yJ6_init : MethodName := ⟨RJ6, "<init>", "(Ljava/lang/String;)V"⟩
def dkwJ6_init_0 : List UInt8 := [42, 43, 183, 0, 7, 177]
abbrev dktJ6_init_0 : List UInt8 := dkwJ6_init_0 ++ []
theorem dksJ6_init_0 : cJ6_init.data.toList.drop 0 = dktJ6_init_0 := by decide +kernel
theorem dJ6_init_0 : decode cJ6_init 0 = .ok (.aload_n 0, 1) := dk_42 (dk_at dksJ6_init_0 0 rfl rfl)
theorem dJ6_init_1 : decode cJ6_init 1 = .ok (.aload_n 1, 1) := dk_43 (dk_at dksJ6_init_0 1 rfl rfl)
theorem dJ6_init_2 : decode cJ6_init 2 = .ok (.invokespecial 7, 3) := dk_183 0 7 (dk_at dksJ6_init_0 2 rfl rfl)
theorem dJ6_init_5 : decode cJ6_init 5 = .ok (.return_, 1) := dk_177 (dk_at dksJ6_init_0 5 rfl rfl)
abbrev cJ6_init_2 : ByteArray := prog_24_method_1_code
def yJ6_init_2 : MethodName := ⟨RJ6, "<init>", "()V"⟩
theorem dJ6_init_2_0 : decode cJ6_init_2 0 = .ok (.aload_n 0, 1) := by decide +kernel
theorem dJ6_init_2_1 : decode cJ6_init_2 1 = .ok (.invokespecial 1, 3) := by decide +kernel
theorem dJ6_init_2_4 : decode cJ6_init_2 4 = .ok (.return_, 1) := by decide +kernel
theorem q34 : (Jvm.Cond.initialized "java/lang/RuntimeException") ∈ lw_all := lw_g (lw_at lw_m1 12 rfl) rfl
theorem q196 : (Jvm.Cond.instanceMethod ({ cls := "java/lang/RuntimeException", name := "<init>", desc := "(Ljava/lang/String;)V" } : Jvm.MethodName)) ∈ lw_all := lw_g (lw_at lw_m1 174 rfl) rfl
theorem q197 : (Jvm.Cond.code ({ cls := "java/lang/RuntimeException", name := "<init>", desc := "(Ljava/lang/String;)V" } : Jvm.MethodName) prog_24_method_2_code (2 : Nat) (Option.none : Option Jvm.ClassFile.FieldType)) ∈ lw_all := lw_g (lw_at lw_m1 175 rfl) rfl
theorem q198 : (Jvm.Cond.methodLink "java/lang/RuntimeException" (7 : Nat) ({ cls := "java/lang/Exception", name := "<init>", desc := "(Ljava/lang/String;)V" } : Jvm.MethodName)) ∈ lw_all := lw_g (lw_at lw_m1 176 rfl) rfl
theorem q243 : (Jvm.Cond.declares ({ cls := "java/lang/RuntimeException", name := "<init>", desc := "()V" } : Jvm.MethodName)) ∈ lw_tbl := lw_at lw_m1 221 rfl
theorem q244 : (Jvm.Cond.declares ({ cls := "java/lang/RuntimeException", name := "<init>", desc := "(Ljava/lang/String;)V" } : Jvm.MethodName)) ∈ lw_tbl := lw_at lw_m1 222 rfl
theorem q286 : (Jvm.Cond.instanceMethod ({ cls := "java/lang/RuntimeException", name := "<init>", desc := "()V" } : Jvm.MethodName)) ∈ lw_all := lw_g (lw_at lw_m2 24 rfl) rfl
theorem q287 : (Jvm.Cond.code ({ cls := "java/lang/RuntimeException", name := "<init>", desc := "()V" } : Jvm.MethodName) prog_24_method_1_code (1 : Nat) (Option.none : Option Jvm.ClassFile.FieldType)) ∈ lw_all := lw_g (lw_at lw_m2 25 rfl) rfl
theorem q288 : (Jvm.Cond.methodLink "java/lang/RuntimeException" (1 : Nat) ({ cls := "java/lang/Exception", name := "<init>", desc := "()V" } : Jvm.MethodName)) ∈ lw_all := lw_g (lw_at lw_m2 26 rfl) rfl
/-! java/lang/IndexOutOfBoundsException -/
set_option maxRecDepth 100000
def RJ7 : String := "java/lang/IndexOutOfBoundsException"
def TJ7 : u_T := fun k => match k with
  | 0 => ("java/lang/Throwable", "cause", "Ljava/lang/Throwable;", false)
  | 1 => ("java/lang/Throwable", "stackTrace", "[Ljava/lang/StackTraceElement;", false)
  | 2 => ("java/lang/Throwable", "suppressedExceptions", "Ljava/util/List;", false)
  | 3 => ("java/lang/Throwable", "detailMessage", "Ljava/lang/String;", false)
  | 4 => ("java/lang/Throwable", "backtrace", "Ljava/lang/Object;", false)
  | _ => ("java/lang/Throwable", "depth", "I", false)
def tyJ7 : Nat → FieldType := fun k => match k with
  | 0 => .object "java/lang/Throwable"
  | 1 => .array (.object "java/lang/StackTraceElement")
  | 2 => .object "java/util/List"
  | 3 => .object "java/lang/String"
  | 4 => .object "java/lang/Object"
  | _ => .int
abbrev wsJ70 : List Cond := u_ws RJ7 TJ7 6
theorem nmJ7 : ∀ a, a < 6 → ∀ b, b < 6 → a ≠ b → (TJ7 a).2.1 ≠ (TJ7 b).2.1 := by decide +kernel
theorem tyJ7_ok : ∀ k, k < 6 → parseFieldDescriptor (TJ7 k).2.2.1 = some (tyJ7 k) := by decide +kernel
abbrev cJ7_init : ByteArray := prog_20_method_2_code
def yJ7_init : MethodName := ⟨RJ7, "<init>", "(Ljava/lang/String;)V"⟩
def dkwJ7_init_0 : List UInt8 := [42, 43, 183, 0, 7, 177]
abbrev dktJ7_init_0 : List UInt8 := dkwJ7_init_0 ++ []
theorem dksJ7_init_0 : cJ7_init.data.toList.drop 0 = dktJ7_init_0 := by decide +kernel
theorem dJ7_init_0 : decode cJ7_init 0 = .ok (.aload_n 0, 1) := dk_42 (dk_at dksJ7_init_0 0 rfl rfl)
theorem dJ7_init_1 : decode cJ7_init 1 = .ok (.aload_n 1, 1) := dk_43 (dk_at dksJ7_init_0 1 rfl rfl)
theorem dJ7_init_2 : decode cJ7_init 2 = .ok (.invokespecial 7, 3) := dk_183 0 7 (dk_at dksJ7_init_0 2 rfl rfl)
theorem dJ7_init_5 : decode cJ7_init 5 = .ok (.return_, 1) := dk_177 (dk_at dksJ7_init_0 5 rfl rfl)
abbrev cJ7_init_2 : ByteArray := prog_20_method_1_code
def yJ7_init_2 : MethodName := ⟨RJ7, "<init>", "()V"⟩
theorem dJ7_init_2_0 : decode cJ7_init_2 0 = .ok (.aload_n 0, 1) := by decide +kernel
theorem dJ7_init_2_1 : decode cJ7_init_2 1 = .ok (.invokespecial 1, 3) := by decide +kernel
theorem dJ7_init_2_4 : decode cJ7_init_2 4 = .ok (.return_, 1) := by decide +kernel
theorem q35 : (Jvm.Cond.initialized "java/lang/IndexOutOfBoundsException") ∈ lw_all := lw_g (lw_at lw_m1 13 rfl) rfl
theorem q193 : (Jvm.Cond.instanceMethod ({ cls := "java/lang/IndexOutOfBoundsException", name := "<init>", desc := "(Ljava/lang/String;)V" } : Jvm.MethodName)) ∈ lw_all := lw_g (lw_at lw_m1 171 rfl) rfl
theorem q194 : (Jvm.Cond.code ({ cls := "java/lang/IndexOutOfBoundsException", name := "<init>", desc := "(Ljava/lang/String;)V" } : Jvm.MethodName) prog_20_method_2_code (2 : Nat) (Option.none : Option Jvm.ClassFile.FieldType)) ∈ lw_all := lw_g (lw_at lw_m1 172 rfl) rfl
theorem q195 : (Jvm.Cond.methodLink "java/lang/IndexOutOfBoundsException" (7 : Nat) ({ cls := "java/lang/RuntimeException", name := "<init>", desc := "(Ljava/lang/String;)V" } : Jvm.MethodName)) ∈ lw_all := lw_g (lw_at lw_m1 173 rfl) rfl
theorem q215 : (Jvm.Cond.selects "java/lang/IndexOutOfBoundsException" ({ cls := "java/lang/Throwable", name := "fillInStackTrace", desc := "()Ljava/lang/Throwable;" } : Jvm.MethodName) ({ cls := "java/lang/Throwable", name := "fillInStackTrace", desc := "()Ljava/lang/Throwable;" } : Jvm.MethodName)) ∈ lw_all := lw_g (lw_at lw_m1 193 rfl) rfl
theorem q241 : (Jvm.Cond.declares ({ cls := "java/lang/IndexOutOfBoundsException", name := "<init>", desc := "()V" } : Jvm.MethodName)) ∈ lw_tbl := lw_at lw_m1 219 rfl
theorem q242 : (Jvm.Cond.declares ({ cls := "java/lang/IndexOutOfBoundsException", name := "<init>", desc := "(Ljava/lang/String;)V" } : Jvm.MethodName)) ∈ lw_tbl := lw_at lw_m1 220 rfl
theorem q274 : (Jvm.Cond.instantiable "java/lang/IndexOutOfBoundsException" (6 : Nat)) ∈ lw_all := lw_g (lw_at lw_m2 12 rfl) rfl
theorem q275 : (Jvm.Cond.castable "java/lang/IndexOutOfBoundsException" "java/lang/IndexOutOfBoundsException") ∈ lw_tbl := lw_at lw_m2 13 rfl
theorem q276 : (Jvm.Cond.selects "java/lang/IndexOutOfBoundsException" ({ cls := "java/lang/Throwable", name := "fillInStackTrace", desc := "(I)Ljava/lang/Throwable;" } : Jvm.MethodName) ({ cls := "java/lang/Throwable", name := "fillInStackTrace", desc := "(I)Ljava/lang/Throwable;" } : Jvm.MethodName)) ∈ lw_all := lw_g (lw_at lw_m2 14 rfl) rfl
theorem q277 : (Jvm.Cond.lays "java/lang/IndexOutOfBoundsException" "java/lang/Throwable" "cause" "Ljava/lang/Throwable;") ∈ lw_all := lw_g (lw_at lw_m2 15 rfl) rfl
theorem q278 : (Jvm.Cond.lays "java/lang/IndexOutOfBoundsException" "java/lang/Throwable" "stackTrace" "[Ljava/lang/StackTraceElement;") ∈ lw_all := lw_g (lw_at lw_m2 16 rfl) rfl
theorem q279 : (Jvm.Cond.lays "java/lang/IndexOutOfBoundsException" "java/lang/Throwable" "suppressedExceptions" "Ljava/util/List;") ∈ lw_all := lw_g (lw_at lw_m2 17 rfl) rfl
theorem q280 : (Jvm.Cond.lays "java/lang/IndexOutOfBoundsException" "java/lang/Throwable" "detailMessage" "Ljava/lang/String;") ∈ lw_all := lw_g (lw_at lw_m2 18 rfl) rfl
theorem q281 : (Jvm.Cond.lays "java/lang/IndexOutOfBoundsException" "java/lang/Throwable" "backtrace" "Ljava/lang/Object;") ∈ lw_all := lw_g (lw_at lw_m2 19 rfl) rfl
theorem q283 : (Jvm.Cond.instanceMethod ({ cls := "java/lang/IndexOutOfBoundsException", name := "<init>", desc := "()V" } : Jvm.MethodName)) ∈ lw_all := lw_g (lw_at lw_m2 21 rfl) rfl
theorem q284 : (Jvm.Cond.code ({ cls := "java/lang/IndexOutOfBoundsException", name := "<init>", desc := "()V" } : Jvm.MethodName) prog_20_method_1_code (1 : Nat) (Option.none : Option Jvm.ClassFile.FieldType)) ∈ lw_all := lw_g (lw_at lw_m2 22 rfl) rfl
theorem q285 : (Jvm.Cond.methodLink "java/lang/IndexOutOfBoundsException" (1 : Nat) ({ cls := "java/lang/RuntimeException", name := "<init>", desc := "()V" } : Jvm.MethodName)) ∈ lw_all := lw_g (lw_at lw_m2 23 rfl) rfl
theorem q292 : (Jvm.Cond.lays "java/lang/IndexOutOfBoundsException" "java/lang/Throwable" "depth" "I") ∈ lw_all := lw_g (lw_at lw_m2 30 rfl) rfl
theorem q293 : (Jvm.Cond.superclass "java/lang/IndexOutOfBoundsException" "java/lang/RuntimeException") ∈ lw_all := lw_g (lw_at lw_m2 31 rfl) rfl
theorem q443 : (Jvm.Cond.selects "java/lang/IndexOutOfBoundsException" ({ cls := "java/lang/Object", name := "getClass", desc := "()Ljava/lang/Class;" } : Jvm.MethodName) ({ cls := "java/lang/Object", name := "getClass", desc := "()Ljava/lang/Class;" } : Jvm.MethodName)) ∈ lw_all := lw_g (lw_at lw_m2 181 rfl) rfl
theorem q888 : (Jvm.Cond.castable "java/lang/IndexOutOfBoundsException" "java/lang/Object") ∈ lw_tbl := lw_at lw_m4 146 rfl
theorem in_J7 : ∀ w ∈ wsJ70, w ∈ lw_all := lw_in wsJ70 [277, 278, 279, 280, 281, 292] (by decide +kernel) (by decide +kernel)
/-! java/lang/ArrayIndexOutOfBoundsException -/
set_option maxRecDepth 100000
def RJ8 : String := "java/lang/ArrayIndexOutOfBoundsException"
def TJ8 : u_T := fun k => match k with
  | 0 => ("java/lang/Throwable", "backtrace", "Ljava/lang/Object;", false)
  | 1 => ("java/lang/Throwable", "detailMessage", "Ljava/lang/String;", false)
  | 2 => ("java/lang/Throwable", "cause", "Ljava/lang/Throwable;", false)
  | 3 => ("java/lang/Throwable", "stackTrace", "[Ljava/lang/StackTraceElement;", false)
  | 4 => ("java/lang/Throwable", "depth", "I", false)
  | _ => ("java/lang/Throwable", "suppressedExceptions", "Ljava/util/List;", false)
def tyJ8 : Nat → FieldType := fun k => match k with
  | 0 => .object "java/lang/Object"
  | 1 => .object "java/lang/String"
  | 2 => .object "java/lang/Throwable"
  | 3 => .array (.object "java/lang/StackTraceElement")
  | 4 => .int
  | _ => .object "java/util/List"
abbrev wsJ80 : List Cond := u_ws RJ8 TJ8 6
theorem nmJ8 : ∀ a, a < 6 → ∀ b, b < 6 → a ≠ b → (TJ8 a).2.1 ≠ (TJ8 b).2.1 := by decide +kernel
theorem tyJ8_ok : ∀ k, k < 6 → parseFieldDescriptor (TJ8 k).2.2.1 = some (tyJ8 k) := by decide +kernel
abbrev cJ8_init : ByteArray := prog_14_method_2_code
def yJ8_init : MethodName := ⟨RJ8, "<init>", "(Ljava/lang/String;)V"⟩
def dkwJ8_init_0 : List UInt8 := [42, 43, 183, 0, 7, 177]
abbrev dktJ8_init_0 : List UInt8 := dkwJ8_init_0 ++ []
theorem dksJ8_init_0 : cJ8_init.data.toList.drop 0 = dktJ8_init_0 := by decide +kernel
theorem dJ8_init_0 : decode cJ8_init 0 = .ok (.aload_n 0, 1) := dk_42 (dk_at dksJ8_init_0 0 rfl rfl)
theorem dJ8_init_1 : decode cJ8_init 1 = .ok (.aload_n 1, 1) := dk_43 (dk_at dksJ8_init_0 1 rfl rfl)
theorem dJ8_init_2 : decode cJ8_init 2 = .ok (.invokespecial 7, 3) := dk_183 0 7 (dk_at dksJ8_init_0 2 rfl rfl)
theorem dJ8_init_5 : decode cJ8_init 5 = .ok (.return_, 1) := dk_177 (dk_at dksJ8_init_0 5 rfl rfl)
theorem q36 : (Jvm.Cond.initialized "java/lang/ArrayIndexOutOfBoundsException") ∈ lw_all := lw_g (lw_at lw_m1 14 rfl) rfl
theorem q189 : (Jvm.Cond.instantiable "java/lang/ArrayIndexOutOfBoundsException" (6 : Nat)) ∈ lw_all := lw_g (lw_at lw_m1 167 rfl) rfl
theorem q190 : (Jvm.Cond.instanceMethod ({ cls := "java/lang/ArrayIndexOutOfBoundsException", name := "<init>", desc := "(Ljava/lang/String;)V" } : Jvm.MethodName)) ∈ lw_all := lw_g (lw_at lw_m1 168 rfl) rfl
theorem q191 : (Jvm.Cond.code ({ cls := "java/lang/ArrayIndexOutOfBoundsException", name := "<init>", desc := "(Ljava/lang/String;)V" } : Jvm.MethodName) prog_14_method_2_code (2 : Nat) (Option.none : Option Jvm.ClassFile.FieldType)) ∈ lw_all := lw_g (lw_at lw_m1 169 rfl) rfl
theorem q192 : (Jvm.Cond.methodLink "java/lang/ArrayIndexOutOfBoundsException" (7 : Nat) ({ cls := "java/lang/IndexOutOfBoundsException", name := "<init>", desc := "(Ljava/lang/String;)V" } : Jvm.MethodName)) ∈ lw_all := lw_g (lw_at lw_m1 170 rfl) rfl
theorem q212 : (Jvm.Cond.selects "java/lang/ArrayIndexOutOfBoundsException" ({ cls := "java/lang/Throwable", name := "fillInStackTrace", desc := "()Ljava/lang/Throwable;" } : Jvm.MethodName) ({ cls := "java/lang/Throwable", name := "fillInStackTrace", desc := "()Ljava/lang/Throwable;" } : Jvm.MethodName)) ∈ lw_all := lw_g (lw_at lw_m1 190 rfl) rfl
theorem q227 : (Jvm.Cond.lays "java/lang/ArrayIndexOutOfBoundsException" "java/lang/Throwable" "backtrace" "Ljava/lang/Object;") ∈ lw_all := lw_g (lw_at lw_m1 205 rfl) rfl
theorem q229 : (Jvm.Cond.lays "java/lang/ArrayIndexOutOfBoundsException" "java/lang/Throwable" "detailMessage" "Ljava/lang/String;") ∈ lw_all := lw_g (lw_at lw_m1 207 rfl) rfl
theorem q231 : (Jvm.Cond.lays "java/lang/ArrayIndexOutOfBoundsException" "java/lang/Throwable" "cause" "Ljava/lang/Throwable;") ∈ lw_all := lw_g (lw_at lw_m1 209 rfl) rfl
theorem q233 : (Jvm.Cond.lays "java/lang/ArrayIndexOutOfBoundsException" "java/lang/Throwable" "stackTrace" "[Ljava/lang/StackTraceElement;") ∈ lw_all := lw_g (lw_at lw_m1 211 rfl) rfl
theorem q235 : (Jvm.Cond.lays "java/lang/ArrayIndexOutOfBoundsException" "java/lang/Throwable" "depth" "I") ∈ lw_all := lw_g (lw_at lw_m1 213 rfl) rfl
theorem q237 : (Jvm.Cond.lays "java/lang/ArrayIndexOutOfBoundsException" "java/lang/Throwable" "suppressedExceptions" "Ljava/util/List;") ∈ lw_all := lw_g (lw_at lw_m1 215 rfl) rfl
theorem q239 : (Jvm.Cond.superclass "java/lang/ArrayIndexOutOfBoundsException" "java/lang/IndexOutOfBoundsException") ∈ lw_all := lw_g (lw_at lw_m1 217 rfl) rfl
theorem q240 : (Jvm.Cond.castable "java/lang/ArrayIndexOutOfBoundsException" "java/lang/ArrayIndexOutOfBoundsException") ∈ lw_tbl := lw_at lw_m1 218 rfl
theorem q249 : (Jvm.Cond.selects "java/lang/ArrayIndexOutOfBoundsException" ({ cls := "java/lang/Throwable", name := "fillInStackTrace", desc := "(I)Ljava/lang/Throwable;" } : Jvm.MethodName) ({ cls := "java/lang/Throwable", name := "fillInStackTrace", desc := "(I)Ljava/lang/Throwable;" } : Jvm.MethodName)) ∈ lw_all := lw_g (lw_at lw_m1 227 rfl) rfl
theorem q440 : (Jvm.Cond.selects "java/lang/ArrayIndexOutOfBoundsException" ({ cls := "java/lang/Object", name := "getClass", desc := "()Ljava/lang/Class;" } : Jvm.MethodName) ({ cls := "java/lang/Object", name := "getClass", desc := "()Ljava/lang/Class;" } : Jvm.MethodName)) ∈ lw_all := lw_g (lw_at lw_m2 178 rfl) rfl
theorem q877 : (Jvm.Cond.castable "java/lang/ArrayIndexOutOfBoundsException" "java/lang/IndexOutOfBoundsException") ∈ lw_tbl := lw_at lw_m4 135 rfl
theorem q887 : (Jvm.Cond.castable "java/lang/ArrayIndexOutOfBoundsException" "java/lang/Object") ∈ lw_tbl := lw_at lw_m4 145 rfl
theorem in_J8 : ∀ w ∈ wsJ80, w ∈ lw_all := lw_in wsJ80 [227, 229, 231, 233, 235, 237] (by decide +kernel) (by decide +kernel)
/-! java/lang/String -/
set_option maxRecDepth 100000
def RJ9 : String := "java/lang/String"
def TJ9 : u_T := fun k => match k with
  | 0 => ("java/lang/String", "value", "[B", true)
  | _ => ("java/lang/String", "coder", "B", true)
def tyJ9 : Nat → FieldType := fun k => match k with
  | 0 => .array .byte
  | _ => .byte
abbrev wsJ90 : List Cond := u_ws RJ9 TJ9 2
theorem nmJ9 : ∀ a, a < 2 → ∀ b, b < 2 → a ≠ b → (TJ9 a).2.1 ≠ (TJ9 b).2.1 := by decide +kernel
theorem tyJ9_ok : ∀ k, k < 2 → parseFieldDescriptor (TJ9 k).2.2.1 = some (tyJ9 k) := by decide +kernel
theorem q37 : (Jvm.Cond.initialized "java/lang/String") ∈ lw_all := lw_g (lw_at lw_m1 15 rfl) rfl
theorem q259 : (Jvm.Cond.instantiable "java/lang/String" (4 : Nat)) ∈ lw_all := lw_g (lw_at lw_m1 237 rfl) rfl
theorem q261 : (Jvm.Cond.laysFinal "java/lang/String" "java/lang/String" "value" "[B") ∈ lw_all := lw_g (lw_at lw_m1 239 rfl) rfl
theorem q262 : (Jvm.Cond.soleField "java/lang/String" "value") ∈ lw_all := lw_g (lw_at lw_m2 0 rfl) rfl
theorem q263 : (Jvm.Cond.laysFinal "java/lang/String" "java/lang/String" "coder" "B") ∈ lw_all := lw_g (lw_at lw_m2 1 rfl) rfl
theorem q264 : (Jvm.Cond.soleField "java/lang/String" "coder") ∈ lw_all := lw_g (lw_at lw_m2 2 rfl) rfl
theorem q894 : (Jvm.Cond.castable "java/lang/String" "java/lang/Object") ∈ lw_tbl := lw_at lw_m4 152 rfl
theorem in_J9 : ∀ w ∈ wsJ90, w ∈ lw_all := lw_in wsJ90 [261, 263] (by decide +kernel) (by decide +kernel)
/-! FundBook$Bearing -/
set_option maxRecDepth 100000
def RX2 : String := "FundBook$Bearing"
abbrev cX2_values : ByteArray := prog_3_method_1_code
def yX2_values : MethodName := ⟨RX2, "values", "()[LFundBook$Bearing;"⟩
def dkwX2_values_0 : List UInt8 := [178, 0, 16, 182, 0, 20, 192, 0, 21, 176]
abbrev dktX2_values_0 : List UInt8 := dkwX2_values_0 ++ []
theorem dksX2_values_0 : cX2_values.data.toList.drop 0 = dktX2_values_0 := by decide +kernel
theorem dX2_values_0 : decode cX2_values 0 = .ok (.getstatic 16, 3) := dk_178 0 16 (dk_at dksX2_values_0 0 rfl rfl)
theorem dX2_values_3 : decode cX2_values 3 = .ok (.invokevirtual 20, 3) := dk_182 0 20 (dk_at dksX2_values_0 3 rfl rfl)
theorem dX2_values_6 : decode cX2_values 6 = .ok (.checkcast 21, 3) := dk_192 0 21 (dk_at dksX2_values_0 6 rfl rfl)
theorem dX2_values_9 : decode cX2_values 9 = .ok (.areturn, 1) := dk_176 (dk_at dksX2_values_0 9 rfl rfl)
theorem q25 : (Jvm.Cond.initialized "FundBook$Bearing") ∈ lw_all := lw_g (lw_at lw_m1 3 rfl) rfl
theorem q58 : (Jvm.Cond.static ({ cls := "FundBook$Bearing", name := "values", desc := "()[LFundBook$Bearing;" } : Jvm.MethodName)) ∈ lw_all := lw_g (lw_at lw_m1 36 rfl) rfl
theorem q59 : (Jvm.Cond.code ({ cls := "FundBook$Bearing", name := "values", desc := "()[LFundBook$Bearing;" } : Jvm.MethodName) prog_3_method_1_code (0 : Nat) (Option.some (Jvm.ClassFile.FieldType.array (Jvm.ClassFile.FieldType.object "FundBook$Bearing")))) ∈ lw_all := lw_g (lw_at lw_m1 37 rfl) rfl
theorem q60 : (Jvm.Cond.fieldLink "FundBook$Bearing" (16 : Nat) "FundBook$Bearing" "$VALUES" "[LFundBook$Bearing;") ∈ lw_all := lw_g (lw_at lw_m1 38 rfl) rfl
theorem q61 : (Jvm.Cond.laysStatic "FundBook$Bearing" "$VALUES" "[LFundBook$Bearing;") ∈ lw_tbl := lw_at lw_m1 39 rfl
theorem q62 : (Jvm.Cond.methodLink "FundBook$Bearing" (20 : Nat) ({ cls := "[LFundBook$Bearing;", name := "clone", desc := "()Ljava/lang/Object;" } : Jvm.MethodName)) ∈ lw_all := lw_g (lw_at lw_m1 40 rfl) rfl
theorem q69 : (Jvm.Cond.classLink "FundBook$Bearing" (21 : Nat) "[LFundBook$Bearing;") ∈ lw_all := lw_g (lw_at lw_m1 47 rfl) rfl
theorem q544 : (Jvm.Cond.laysStatic "FundBook$Bearing" "MARGIN" "LFundBook$Bearing;") ∈ lw_tbl := lw_at lw_m3 42 rfl
theorem q546 : (Jvm.Cond.declares ({ cls := "FundBook$Bearing", name := "of", desc := "(LFundBook$Account;)I" } : Jvm.MethodName)) ∈ lw_tbl := lw_at lw_m3 44 rfl
theorem q547 : (Jvm.Cond.sameMethod "FundBook$Bearing" "FundBook$Bearing" "of" "(LFundBook$Account;)I") ∈ lw_all := lw_g (lw_at lw_m3 45 rfl) rfl
theorem q583 : (Jvm.Cond.laysStatic "FundBook$Bearing" "INTEREST" "LFundBook$Bearing;") ∈ lw_tbl := lw_at lw_m3 81 rfl
theorem q587 : (Jvm.Cond.laysStatic "FundBook$Bearing" "FUNDING" "LFundBook$Bearing;") ∈ lw_tbl := lw_at lw_m3 85 rfl
theorem q590 : (Jvm.Cond.laysStatic "FundBook$Bearing" "OPTION" "LFundBook$Bearing;") ∈ lw_tbl := lw_at lw_m3 88 rfl
theorem q878 : (Jvm.Cond.castable "FundBook$Bearing" "java/lang/Object") ∈ lw_tbl := lw_at lw_m4 136 rfl
/-! FundBook$Deposit -/
set_option maxRecDepth 100000
def RX3 : String := "FundBook$Deposit"
def TX3 : u_T := fun k => match k with
  | 0 => ("FundBook$Deposit", "branch", "I", true)
  | _ => ("FundBook$Deposit", "balance", "I", true)
def tyX3 : Nat → FieldType := fun k => match k with
  | 0 => .int
  | _ => .int
abbrev wsX30 : List Cond := u_ws RX3 TX3 2
theorem nmX3 : ∀ a, a < 2 → ∀ b, b < 2 → a ≠ b → (TX3 a).2.1 ≠ (TX3 b).2.1 := by decide +kernel
theorem tyX3_ok : ∀ k, k < 2 → parseFieldDescriptor (TX3 k).2.2.1 = some (tyX3 k) := by decide +kernel
abbrev cX3_init : ByteArray := prog_9_method_1_code
def yX3_init : MethodName := ⟨RX3, "<init>", "(II)V"⟩
def dkwX3_init_0 : List UInt8 := [42, 183, 0, 1, 42, 27, 181, 0, 7, 42, 28, 181, 0, 13, 177]
abbrev dktX3_init_0 : List UInt8 := dkwX3_init_0 ++ []
theorem dksX3_init_0 : cX3_init.data.toList.drop 0 = dktX3_init_0 := by decide +kernel
theorem dX3_init_0 : decode cX3_init 0 = .ok (.aload_n 0, 1) := dk_42 (dk_at dksX3_init_0 0 rfl rfl)
theorem dX3_init_1 : decode cX3_init 1 = .ok (.invokespecial 1, 3) := dk_183 0 1 (dk_at dksX3_init_0 1 rfl rfl)
theorem dX3_init_4 : decode cX3_init 4 = .ok (.aload_n 0, 1) := dk_42 (dk_at dksX3_init_0 4 rfl rfl)
theorem dX3_init_5 : decode cX3_init 5 = .ok (.iload_n 1, 1) := dk_27 (dk_at dksX3_init_0 5 rfl rfl)
theorem dX3_init_6 : decode cX3_init 6 = .ok (.putfield 7, 3) := dk_181 0 7 (dk_at dksX3_init_0 6 rfl rfl)
theorem dX3_init_9 : decode cX3_init 9 = .ok (.aload_n 0, 1) := dk_42 (dk_at dksX3_init_0 9 rfl rfl)
theorem dX3_init_10 : decode cX3_init 10 = .ok (.iload_n 2, 1) := dk_28 (dk_at dksX3_init_0 10 rfl rfl)
theorem dX3_init_11 : decode cX3_init 11 = .ok (.putfield 13, 3) := dk_181 0 13 (dk_at dksX3_init_0 11 rfl rfl)
theorem dX3_init_14 : decode cX3_init 14 = .ok (.return_, 1) := dk_177 (dk_at dksX3_init_0 14 rfl rfl)
abbrev cX3_balance : ByteArray := prog_9_method_6_code
def yX3_balance : MethodName := ⟨RX3, "balance", "()I"⟩
theorem dX3_balance_0 : decode cX3_balance 0 = .ok (.aload_n 0, 1) := by decide +kernel
theorem dX3_balance_1 : decode cX3_balance 1 = .ok (.getfield 13, 3) := by decide +kernel
theorem dX3_balance_4 : decode cX3_balance 4 = .ok (.ireturn, 1) := by decide +kernel
theorem q30 : (Jvm.Cond.initialized "FundBook$Deposit") ∈ lw_all := lw_g (lw_at lw_m1 8 rfl) rfl
theorem q101 : (Jvm.Cond.instantiable "FundBook$Deposit" (2 : Nat)) ∈ lw_all := lw_g (lw_at lw_m1 79 rfl) rfl
theorem q103 : (Jvm.Cond.instanceMethod ({ cls := "FundBook$Deposit", name := "<init>", desc := "(II)V" } : Jvm.MethodName)) ∈ lw_all := lw_g (lw_at lw_m1 81 rfl) rfl
theorem q104 : (Jvm.Cond.code ({ cls := "FundBook$Deposit", name := "<init>", desc := "(II)V" } : Jvm.MethodName) prog_9_method_1_code (3 : Nat) (Option.none : Option Jvm.ClassFile.FieldType)) ∈ lw_all := lw_g (lw_at lw_m1 82 rfl) rfl
theorem q105 : (Jvm.Cond.methodLink "FundBook$Deposit" (1 : Nat) ({ cls := "java/lang/Record", name := "<init>", desc := "()V" } : Jvm.MethodName)) ∈ lw_all := lw_g (lw_at lw_m1 83 rfl) rfl
theorem q109 : (Jvm.Cond.fieldLink "FundBook$Deposit" (7 : Nat) "FundBook$Deposit" "branch" "I") ∈ lw_all := lw_g (lw_at lw_m1 87 rfl) rfl
theorem q110 : (Jvm.Cond.fieldLink "FundBook$Deposit" (13 : Nat) "FundBook$Deposit" "balance" "I") ∈ lw_all := lw_g (lw_at lw_m1 88 rfl) rfl
theorem q111 : (Jvm.Cond.laysFinal "FundBook$Deposit" "FundBook$Deposit" "branch" "I") ∈ lw_all := lw_g (lw_at lw_m1 89 rfl) rfl
theorem q112 : (Jvm.Cond.soleField "FundBook$Deposit" "branch") ∈ lw_all := lw_g (lw_at lw_m1 90 rfl) rfl
theorem q113 : (Jvm.Cond.laysFinal "FundBook$Deposit" "FundBook$Deposit" "balance" "I") ∈ lw_all := lw_g (lw_at lw_m1 91 rfl) rfl
theorem q114 : (Jvm.Cond.soleField "FundBook$Deposit" "balance") ∈ lw_all := lw_g (lw_at lw_m1 92 rfl) rfl
theorem q115 : (Jvm.Cond.superclass "FundBook$Deposit" "java/lang/Record") ∈ lw_all := lw_g (lw_at lw_m1 93 rfl) rfl
theorem q437 : (Jvm.Cond.selects "FundBook$Deposit" ({ cls := "java/lang/Object", name := "getClass", desc := "()Ljava/lang/Class;" } : Jvm.MethodName) ({ cls := "java/lang/Object", name := "getClass", desc := "()Ljava/lang/Class;" } : Jvm.MethodName)) ∈ lw_all := lw_g (lw_at lw_m2 175 rfl) rfl
theorem q516 : (Jvm.Cond.instanceMethod ({ cls := "FundBook$Deposit", name := "balance", desc := "()I" } : Jvm.MethodName)) ∈ lw_all := lw_g (lw_at lw_m3 14 rfl) rfl
theorem q517 : (Jvm.Cond.selects "FundBook$Deposit" ({ cls := "FundBook$Deposit", name := "balance", desc := "()I" } : Jvm.MethodName) ({ cls := "FundBook$Deposit", name := "balance", desc := "()I" } : Jvm.MethodName)) ∈ lw_all := lw_g (lw_at lw_m3 15 rfl) rfl
theorem q518 : (Jvm.Cond.code ({ cls := "FundBook$Deposit", name := "balance", desc := "()I" } : Jvm.MethodName) prog_9_method_6_code (1 : Nat) (Option.some Jvm.ClassFile.FieldType.int)) ∈ lw_all := lw_g (lw_at lw_m3 16 rfl) rfl
theorem q879 : (Jvm.Cond.castable "FundBook$Deposit" "java/lang/Object") ∈ lw_tbl := lw_at lw_m4 137 rfl
theorem in_X3 : ∀ w ∈ wsX30, w ∈ lw_all := lw_in wsX30 [111, 113] (by decide +kernel) (by decide +kernel)
/-! FundBook$Account -/
set_option maxRecDepth 100000
def RX5 : String := "FundBook$Account"
def TX5 : u_T := fun k => match k with
  | 0 => ("FundBook$Account", "loan", "LFundBook$Loan;", true)
  | _ => ("FundBook$Account", "paid", "I", false)
def tyX5 : Nat → FieldType := fun k => match k with
  | 0 => .object "FundBook$Loan"
  | _ => .int
abbrev wsX50 : List Cond := u_ws RX5 TX5 2
theorem nmX5 : ∀ a, a < 2 → ∀ b, b < 2 → a ≠ b → (TX5 a).2.1 ≠ (TX5 b).2.1 := by decide +kernel
theorem tyX5_ok : ∀ k, k < 2 → parseFieldDescriptor (TX5 k).2.2.1 = some (tyX5 k) := by decide +kernel
abbrev cX5_init : ByteArray := prog_2_method_1_code
def yX5_init : MethodName := ⟨RX5, "<init>", "(LFundBook$Loan;)V"⟩
def dkwX5_init_0 : List UInt8 := [42, 183, 0, 3, 42, 43, 181, 0, 9, 177]
abbrev dktX5_init_0 : List UInt8 := dkwX5_init_0 ++ []
theorem dksX5_init_0 : cX5_init.data.toList.drop 0 = dktX5_init_0 := by decide +kernel
theorem dX5_init_0 : decode cX5_init 0 = .ok (.aload_n 0, 1) := dk_42 (dk_at dksX5_init_0 0 rfl rfl)
theorem dX5_init_1 : decode cX5_init 1 = .ok (.invokespecial 3, 3) := dk_183 0 3 (dk_at dksX5_init_0 1 rfl rfl)
theorem dX5_init_4 : decode cX5_init 4 = .ok (.aload_n 0, 1) := dk_42 (dk_at dksX5_init_0 4 rfl rfl)
theorem dX5_init_5 : decode cX5_init 5 = .ok (.aload_n 1, 1) := dk_43 (dk_at dksX5_init_0 5 rfl rfl)
theorem dX5_init_6 : decode cX5_init 6 = .ok (.putfield 9, 3) := dk_181 0 9 (dk_at dksX5_init_0 6 rfl rfl)
theorem dX5_init_9 : decode cX5_init 9 = .ok (.return_, 1) := dk_177 (dk_at dksX5_init_0 9 rfl rfl)
abbrev cX5_isPaid : ByteArray := prog_2_method_4_code
def yX5_isPaid : MethodName := ⟨RX5, "isPaid", "()Z"⟩
def dkwX5_isPaid_0 : List UInt8 := [42, 180, 0, 15, 42, 180, 0, 9, 182, 0, 19, 190, 160, 0, 7, 4, 167, 0, 4, 3, 172]
abbrev dktX5_isPaid_0 : List UInt8 := dkwX5_isPaid_0 ++ []
theorem dksX5_isPaid_0 : cX5_isPaid.data.toList.drop 0 = dktX5_isPaid_0 := by decide +kernel
theorem dX5_isPaid_0 : decode cX5_isPaid 0 = .ok (.aload_n 0, 1) := dk_42 (dk_at dksX5_isPaid_0 0 rfl rfl)
theorem dX5_isPaid_1 : decode cX5_isPaid 1 = .ok (.getfield 15, 3) := dk_180 0 15 (dk_at dksX5_isPaid_0 1 rfl rfl)
theorem dX5_isPaid_4 : decode cX5_isPaid 4 = .ok (.aload_n 0, 1) := dk_42 (dk_at dksX5_isPaid_0 4 rfl rfl)
theorem dX5_isPaid_5 : decode cX5_isPaid 5 = .ok (.getfield 9, 3) := dk_180 0 9 (dk_at dksX5_isPaid_0 5 rfl rfl)
theorem dX5_isPaid_8 : decode cX5_isPaid 8 = .ok (.invokevirtual 19, 3) := dk_182 0 19 (dk_at dksX5_isPaid_0 8 rfl rfl)
theorem dX5_isPaid_11 : decode cX5_isPaid 11 = .ok (.arraylength, 1) := dk_190 (dk_at dksX5_isPaid_0 11 rfl rfl)
theorem dX5_isPaid_12 : decode cX5_isPaid 12 = .ok (.if_icmp .ne 7, 3) := dk_160 0 7 (dk_at dksX5_isPaid_0 12 rfl rfl)
theorem dX5_isPaid_15 : decode cX5_isPaid 15 = .ok (.iconst 1, 1) := dk_4 (dk_at dksX5_isPaid_0 15 rfl rfl)
theorem dX5_isPaid_16 : decode cX5_isPaid 16 = .ok (.goto 4, 3) := dk_167 0 4 (dk_at dksX5_isPaid_0 16 rfl rfl)
theorem dX5_isPaid_19 : decode cX5_isPaid 19 = .ok (.iconst 0, 1) := dk_3 (dk_at dksX5_isPaid_0 19 rfl rfl)
theorem dX5_isPaid_20 : decode cX5_isPaid 20 = .ok (.ireturn, 1) := dk_172 (dk_at dksX5_isPaid_0 20 rfl rfl)
abbrev cX5_left : ByteArray := prog_2_method_2_code
def yX5_left : MethodName := ⟨RX5, "left", "()I"⟩
def dkwX5_left_1 : List UInt8 := [182, 0, 19, 28, 46, 96, 60, 132, 2, 1, 167, 255, 229, 27, 172]
abbrev dktX5_left_1 : List UInt8 := dkwX5_left_1 ++ []
def dkwX5_left_0 : List UInt8 := [3, 60, 42, 180, 0, 15, 61, 28, 42, 180, 0, 9, 182, 0, 19, 190, 162, 0, 21, 27, 42, 180, 0, 9]
abbrev dktX5_left_0 : List UInt8 := dkwX5_left_0 ++ dktX5_left_1
theorem dksX5_left_0 : cX5_left.data.toList.drop 0 = dktX5_left_0 := by decide +kernel
theorem dksX5_left_1 : cX5_left.data.toList.drop 24 = dktX5_left_1 := dk_seg dksX5_left_0 24 rfl rfl
theorem dX5_left_0 : decode cX5_left 0 = .ok (.iconst 0, 1) := dk_3 (dk_at dksX5_left_0 0 rfl rfl)
theorem dX5_left_1 : decode cX5_left 1 = .ok (.istore_n 1, 1) := dk_60 (dk_at dksX5_left_0 1 rfl rfl)
theorem dX5_left_2 : decode cX5_left 2 = .ok (.aload_n 0, 1) := dk_42 (dk_at dksX5_left_0 2 rfl rfl)
theorem dX5_left_3 : decode cX5_left 3 = .ok (.getfield 15, 3) := dk_180 0 15 (dk_at dksX5_left_0 3 rfl rfl)
theorem dX5_left_6 : decode cX5_left 6 = .ok (.istore_n 2, 1) := dk_61 (dk_at dksX5_left_0 6 rfl rfl)
theorem dX5_left_7 : decode cX5_left 7 = .ok (.iload_n 2, 1) := dk_28 (dk_at dksX5_left_0 7 rfl rfl)
theorem dX5_left_8 : decode cX5_left 8 = .ok (.aload_n 0, 1) := dk_42 (dk_at dksX5_left_0 8 rfl rfl)
theorem dX5_left_9 : decode cX5_left 9 = .ok (.getfield 9, 3) := dk_180 0 9 (dk_at dksX5_left_0 9 rfl rfl)
theorem dX5_left_12 : decode cX5_left 12 = .ok (.invokevirtual 19, 3) := dk_182 0 19 (dk_at dksX5_left_0 12 rfl rfl)
theorem dX5_left_15 : decode cX5_left 15 = .ok (.arraylength, 1) := dk_190 (dk_at dksX5_left_0 15 rfl rfl)
theorem dX5_left_16 : decode cX5_left 16 = .ok (.if_icmp .ge 21, 3) := dk_162 0 21 (dk_at dksX5_left_0 16 rfl rfl)
theorem dX5_left_19 : decode cX5_left 19 = .ok (.iload_n 1, 1) := dk_27 (dk_at dksX5_left_0 19 rfl rfl)
theorem dX5_left_20 : decode cX5_left 20 = .ok (.aload_n 0, 1) := dk_42 (dk_at dksX5_left_0 20 rfl rfl)
theorem dX5_left_21 : decode cX5_left 21 = .ok (.getfield 9, 3) := dk_180 0 9 (dk_at dksX5_left_0 21 rfl rfl)
theorem dX5_left_24 : decode cX5_left 24 = .ok (.invokevirtual 19, 3) := dk_182 0 19 (dk_at dksX5_left_1 0 rfl rfl)
theorem dX5_left_27 : decode cX5_left 27 = .ok (.iload_n 2, 1) := dk_28 (dk_at dksX5_left_1 3 rfl rfl)
theorem dX5_left_28 : decode cX5_left 28 = .ok (.iaload, 1) := dk_46 (dk_at dksX5_left_1 4 rfl rfl)
theorem dX5_left_29 : decode cX5_left 29 = .ok (.iadd, 1) := dk_96 (dk_at dksX5_left_1 5 rfl rfl)
theorem dX5_left_30 : decode cX5_left 30 = .ok (.istore_n 1, 1) := dk_60 (dk_at dksX5_left_1 6 rfl rfl)
theorem dX5_left_31 : decode cX5_left 31 = .ok (.iinc 2 1, 3) := dk_132 2 1 (dk_at dksX5_left_1 7 rfl rfl)
theorem dX5_left_34 : decode cX5_left 34 = .ok (.goto (-27), 3) := dk_167 255 229 (dk_at dksX5_left_1 10 rfl rfl)
theorem dX5_left_37 : decode cX5_left 37 = .ok (.iload_n 1, 1) := dk_27 (dk_at dksX5_left_1 13 rfl rfl)
theorem dX5_left_38 : decode cX5_left 38 = .ok (.ireturn, 1) := dk_172 (dk_at dksX5_left_1 14 rfl rfl)
abbrev cX5_funding : ByteArray := prog_2_method_3_code
def yX5_funding : MethodName := ⟨RX5, "funding", "()I"⟩
def dkwX5_funding_2 : List UInt8 := [167, 255, 217, 31, 20, 0, 28, 109, 136, 172]
abbrev dktX5_funding_2 : List UInt8 := dkwX5_funding_2 ++ []
def dkwX5_funding_1 : List UInt8 := [182, 0, 19, 29, 46, 133, 42, 180, 0, 9, 182, 0, 25, 29, 46, 133, 105, 97, 64, 132, 3, 1]
abbrev dktX5_funding_1 : List UInt8 := dkwX5_funding_1 ++ dktX5_funding_2
def dkwX5_funding_0 : List UInt8 := [9, 64, 42, 180, 0, 15, 62, 29, 42, 180, 0, 9, 182, 0, 19, 190, 162, 0, 33, 31, 42, 180, 0, 9]
abbrev dktX5_funding_0 : List UInt8 := dkwX5_funding_0 ++ dktX5_funding_1
theorem dksX5_funding_0 : cX5_funding.data.toList.drop 0 = dktX5_funding_0 := by decide +kernel
theorem dksX5_funding_1 : cX5_funding.data.toList.drop 24 = dktX5_funding_1 := dk_seg dksX5_funding_0 24 rfl rfl
theorem dksX5_funding_2 : cX5_funding.data.toList.drop 46 = dktX5_funding_2 := dk_seg dksX5_funding_1 22 rfl rfl
theorem dX5_funding_0 : decode cX5_funding 0 = .ok (.lconst 0, 1) := dk_9 (dk_at dksX5_funding_0 0 rfl rfl)
theorem dX5_funding_1 : decode cX5_funding 1 = .ok (.lstore_n 1, 1) := dk_64 (dk_at dksX5_funding_0 1 rfl rfl)
theorem dX5_funding_2 : decode cX5_funding 2 = .ok (.aload_n 0, 1) := dk_42 (dk_at dksX5_funding_0 2 rfl rfl)
theorem dX5_funding_3 : decode cX5_funding 3 = .ok (.getfield 15, 3) := dk_180 0 15 (dk_at dksX5_funding_0 3 rfl rfl)
theorem dX5_funding_6 : decode cX5_funding 6 = .ok (.istore_n 3, 1) := dk_62 (dk_at dksX5_funding_0 6 rfl rfl)
theorem dX5_funding_7 : decode cX5_funding 7 = .ok (.iload_n 3, 1) := dk_29 (dk_at dksX5_funding_0 7 rfl rfl)
theorem dX5_funding_8 : decode cX5_funding 8 = .ok (.aload_n 0, 1) := dk_42 (dk_at dksX5_funding_0 8 rfl rfl)
theorem dX5_funding_9 : decode cX5_funding 9 = .ok (.getfield 9, 3) := dk_180 0 9 (dk_at dksX5_funding_0 9 rfl rfl)
theorem dX5_funding_12 : decode cX5_funding 12 = .ok (.invokevirtual 19, 3) := dk_182 0 19 (dk_at dksX5_funding_0 12 rfl rfl)
theorem dX5_funding_15 : decode cX5_funding 15 = .ok (.arraylength, 1) := dk_190 (dk_at dksX5_funding_0 15 rfl rfl)
theorem dX5_funding_16 : decode cX5_funding 16 = .ok (.if_icmp .ge 33, 3) := dk_162 0 33 (dk_at dksX5_funding_0 16 rfl rfl)
theorem dX5_funding_19 : decode cX5_funding 19 = .ok (.lload_n 1, 1) := dk_31 (dk_at dksX5_funding_0 19 rfl rfl)
theorem dX5_funding_20 : decode cX5_funding 20 = .ok (.aload_n 0, 1) := dk_42 (dk_at dksX5_funding_0 20 rfl rfl)
theorem dX5_funding_21 : decode cX5_funding 21 = .ok (.getfield 9, 3) := dk_180 0 9 (dk_at dksX5_funding_0 21 rfl rfl)
theorem dX5_funding_24 : decode cX5_funding 24 = .ok (.invokevirtual 19, 3) := dk_182 0 19 (dk_at dksX5_funding_1 0 rfl rfl)
theorem dX5_funding_27 : decode cX5_funding 27 = .ok (.iload_n 3, 1) := dk_29 (dk_at dksX5_funding_1 3 rfl rfl)
theorem dX5_funding_28 : decode cX5_funding 28 = .ok (.iaload, 1) := dk_46 (dk_at dksX5_funding_1 4 rfl rfl)
theorem dX5_funding_29 : decode cX5_funding 29 = .ok (.i2l, 1) := dk_133 (dk_at dksX5_funding_1 5 rfl rfl)
theorem dX5_funding_30 : decode cX5_funding 30 = .ok (.aload_n 0, 1) := dk_42 (dk_at dksX5_funding_1 6 rfl rfl)
theorem dX5_funding_31 : decode cX5_funding 31 = .ok (.getfield 9, 3) := dk_180 0 9 (dk_at dksX5_funding_1 7 rfl rfl)
theorem dX5_funding_34 : decode cX5_funding 34 = .ok (.invokevirtual 25, 3) := dk_182 0 25 (dk_at dksX5_funding_1 10 rfl rfl)
theorem dX5_funding_37 : decode cX5_funding 37 = .ok (.iload_n 3, 1) := dk_29 (dk_at dksX5_funding_1 13 rfl rfl)
theorem dX5_funding_38 : decode cX5_funding 38 = .ok (.iaload, 1) := dk_46 (dk_at dksX5_funding_1 14 rfl rfl)
theorem dX5_funding_39 : decode cX5_funding 39 = .ok (.i2l, 1) := dk_133 (dk_at dksX5_funding_1 15 rfl rfl)
theorem dX5_funding_40 : decode cX5_funding 40 = .ok (.lmul, 1) := dk_105 (dk_at dksX5_funding_1 16 rfl rfl)
theorem dX5_funding_41 : decode cX5_funding 41 = .ok (.ladd, 1) := dk_97 (dk_at dksX5_funding_1 17 rfl rfl)
theorem dX5_funding_42 : decode cX5_funding 42 = .ok (.lstore_n 1, 1) := dk_64 (dk_at dksX5_funding_1 18 rfl rfl)
theorem dX5_funding_43 : decode cX5_funding 43 = .ok (.iinc 3 1, 3) := dk_132 3 1 (dk_at dksX5_funding_1 19 rfl rfl)
theorem dX5_funding_46 : decode cX5_funding 46 = .ok (.goto (-39), 3) := dk_167 255 217 (dk_at dksX5_funding_2 0 rfl rfl)
theorem dX5_funding_49 : decode cX5_funding 49 = .ok (.lload_n 1, 1) := dk_31 (dk_at dksX5_funding_2 3 rfl rfl)
theorem dX5_funding_50 : decode cX5_funding 50 = .ok (.ldc2_w 28, 3) := dk_20 0 28 (dk_at dksX5_funding_2 4 rfl rfl)
theorem dX5_funding_53 : decode cX5_funding 53 = .ok (.ldiv, 1) := dk_109 (dk_at dksX5_funding_2 7 rfl rfl)
theorem dX5_funding_54 : decode cX5_funding 54 = .ok (.l2i, 1) := dk_136 (dk_at dksX5_funding_2 8 rfl rfl)
theorem dX5_funding_55 : decode cX5_funding 55 = .ok (.ireturn, 1) := dk_172 (dk_at dksX5_funding_2 9 rfl rfl)
theorem q40 : (Jvm.Cond.initialized "FundBook$Account") ∈ lw_all := lw_g (lw_at lw_m1 18 rfl) rfl
theorem q350 : (Jvm.Cond.instantiable "FundBook$Account" (2 : Nat)) ∈ lw_all := lw_g (lw_at lw_m2 88 rfl) rfl
theorem q380 : (Jvm.Cond.instanceMethod ({ cls := "FundBook$Account", name := "<init>", desc := "(LFundBook$Loan;)V" } : Jvm.MethodName)) ∈ lw_all := lw_g (lw_at lw_m2 118 rfl) rfl
theorem q381 : (Jvm.Cond.code ({ cls := "FundBook$Account", name := "<init>", desc := "(LFundBook$Loan;)V" } : Jvm.MethodName) prog_2_method_1_code (2 : Nat) (Option.none : Option Jvm.ClassFile.FieldType)) ∈ lw_all := lw_g (lw_at lw_m2 119 rfl) rfl
theorem q382 : (Jvm.Cond.methodLink "FundBook$Account" (3 : Nat) ({ cls := "java/lang/Object", name := "<init>", desc := "()V" } : Jvm.MethodName)) ∈ lw_all := lw_g (lw_at lw_m2 120 rfl) rfl
theorem q383 : (Jvm.Cond.fieldLink "FundBook$Account" (9 : Nat) "FundBook$Account" "loan" "LFundBook$Loan;") ∈ lw_all := lw_g (lw_at lw_m2 121 rfl) rfl
theorem q387 : (Jvm.Cond.fieldLink "FundBook$Account" (15 : Nat) "FundBook$Account" "paid" "I") ∈ lw_all := lw_g (lw_at lw_m2 125 rfl) rfl
theorem q389 : (Jvm.Cond.laysFinal "FundBook$Account" "FundBook$Account" "loan" "LFundBook$Loan;") ∈ lw_all := lw_g (lw_at lw_m2 127 rfl) rfl
theorem q390 : (Jvm.Cond.soleField "FundBook$Account" "loan") ∈ lw_all := lw_g (lw_at lw_m2 128 rfl) rfl
theorem q391 : (Jvm.Cond.lays "FundBook$Account" "FundBook$Account" "paid" "I") ∈ lw_all := lw_g (lw_at lw_m2 129 rfl) rfl
theorem q392 : (Jvm.Cond.soleField "FundBook$Account" "paid") ∈ lw_all := lw_g (lw_at lw_m2 130 rfl) rfl
theorem q393 : (Jvm.Cond.superclass "FundBook$Account" "java/lang/Object") ∈ lw_all := lw_g (lw_at lw_m2 131 rfl) rfl
theorem q432 : (Jvm.Cond.selects "FundBook$Account" ({ cls := "java/lang/Object", name := "getClass", desc := "()Ljava/lang/Class;" } : Jvm.MethodName) ({ cls := "java/lang/Object", name := "getClass", desc := "()Ljava/lang/Class;" } : Jvm.MethodName)) ∈ lw_all := lw_g (lw_at lw_m2 170 rfl) rfl
theorem q495 : (Jvm.Cond.instanceMethod ({ cls := "FundBook$Account", name := "isPaid", desc := "()Z" } : Jvm.MethodName)) ∈ lw_all := lw_g (lw_at lw_m2 233 rfl) rfl
theorem q496 : (Jvm.Cond.selects "FundBook$Account" ({ cls := "FundBook$Account", name := "isPaid", desc := "()Z" } : Jvm.MethodName) ({ cls := "FundBook$Account", name := "isPaid", desc := "()Z" } : Jvm.MethodName)) ∈ lw_all := lw_g (lw_at lw_m2 234 rfl) rfl
theorem q497 : (Jvm.Cond.code ({ cls := "FundBook$Account", name := "isPaid", desc := "()Z" } : Jvm.MethodName) prog_2_method_4_code (1 : Nat) (Option.some Jvm.ClassFile.FieldType.boolean)) ∈ lw_all := lw_g (lw_at lw_m2 235 rfl) rfl
theorem q498 : (Jvm.Cond.methodLink "FundBook$Account" (19 : Nat) ({ cls := "FundBook$Loan", name := "parts", desc := "()[I" } : Jvm.MethodName)) ∈ lw_all := lw_g (lw_at lw_m2 236 rfl) rfl
theorem q503 : (Jvm.Cond.instanceMethod ({ cls := "FundBook$Account", name := "left", desc := "()I" } : Jvm.MethodName)) ∈ lw_all := lw_g (lw_at lw_m3 1 rfl) rfl
theorem q504 : (Jvm.Cond.selects "FundBook$Account" ({ cls := "FundBook$Account", name := "left", desc := "()I" } : Jvm.MethodName) ({ cls := "FundBook$Account", name := "left", desc := "()I" } : Jvm.MethodName)) ∈ lw_all := lw_g (lw_at lw_m3 2 rfl) rfl
theorem q505 : (Jvm.Cond.code ({ cls := "FundBook$Account", name := "left", desc := "()I" } : Jvm.MethodName) prog_2_method_2_code (3 : Nat) (Option.some Jvm.ClassFile.FieldType.int)) ∈ lw_all := lw_g (lw_at lw_m3 3 rfl) rfl
theorem q561 : (Jvm.Cond.instanceMethod ({ cls := "FundBook$Account", name := "funding", desc := "()I" } : Jvm.MethodName)) ∈ lw_all := lw_g (lw_at lw_m3 59 rfl) rfl
theorem q562 : (Jvm.Cond.selects "FundBook$Account" ({ cls := "FundBook$Account", name := "funding", desc := "()I" } : Jvm.MethodName) ({ cls := "FundBook$Account", name := "funding", desc := "()I" } : Jvm.MethodName)) ∈ lw_all := lw_g (lw_at lw_m3 60 rfl) rfl
theorem q563 : (Jvm.Cond.code ({ cls := "FundBook$Account", name := "funding", desc := "()I" } : Jvm.MethodName) prog_2_method_3_code (4 : Nat) (Option.some Jvm.ClassFile.FieldType.int)) ∈ lw_all := lw_g (lw_at lw_m3 61 rfl) rfl
theorem q564 : (Jvm.Cond.methodLink "FundBook$Account" (25 : Nat) ({ cls := "FundBook$Loan", name := "fundings", desc := "()[I" } : Jvm.MethodName)) ∈ lw_all := lw_g (lw_at lw_m3 62 rfl) rfl
theorem q568 : (Jvm.Cond.constantLong "FundBook$Account" (28 : Nat) (120000 : Int64)) ∈ lw_all := lw_g (lw_at lw_m3 66 rfl) rfl
theorem q891 : (Jvm.Cond.castable "FundBook$Account" "java/lang/Object") ∈ lw_tbl := lw_at lw_m4 149 rfl
theorem in_X5 : ∀ w ∈ wsX50, w ∈ lw_all := lw_in wsX50 [389, 391] (by decide +kernel) (by decide +kernel)
/-! FundBook$Loan -/
set_option maxRecDepth 100000
def RX6 : String := "FundBook$Loan"
def TX6 : u_T := fun k => match k with
  | 0 => ("FundBook$Loan", "branch", "I", true)
  | 1 => ("FundBook$Loan", "product", "I", true)
  | 2 => ("FundBook$Loan", "rate", "I", true)
  | 3 => ("FundBook$Loan", "option", "I", true)
  | 4 => ("FundBook$Loan", "hasOption", "Z", true)
  | 5 => ("FundBook$Loan", "parts", "[I", true)
  | _ => ("FundBook$Loan", "fundings", "[I", true)
def tyX6 : Nat → FieldType := fun k => match k with
  | 0 => .int
  | 1 => .int
  | 2 => .int
  | 3 => .int
  | 4 => .boolean
  | 5 => .array .int
  | _ => .array .int
abbrev wsX60 : List Cond := u_ws RX6 TX6 7
theorem nmX6 : ∀ a, a < 7 → ∀ b, b < 7 → a ≠ b → (TX6 a).2.1 ≠ (TX6 b).2.1 := by decide +kernel
theorem tyX6_ok : ∀ k, k < 7 → parseFieldDescriptor (TX6 k).2.2.1 = some (tyX6 k) := by decide +kernel
abbrev cX6_init : ByteArray := prog_10_method_1_code
def yX6_init : MethodName := ⟨RX6, "<init>", "(IIIIZ[I[I)V"⟩
def dkwX6_init_1 : List UInt8 := [181, 0, 19, 42, 21, 5, 181, 0, 22, 42, 25, 6, 181, 0, 26, 42, 25, 7, 181, 0, 30, 177]
abbrev dktX6_init_1 : List UInt8 := dkwX6_init_1 ++ []
def dkwX6_init_0 : List UInt8 := [42, 183, 0, 1, 42, 27, 181, 0, 7, 42, 28, 181, 0, 13, 42, 29, 181, 0, 16, 42, 21, 4]
abbrev dktX6_init_0 : List UInt8 := dkwX6_init_0 ++ dktX6_init_1
theorem dksX6_init_0 : cX6_init.data.toList.drop 0 = dktX6_init_0 := by decide +kernel
theorem dksX6_init_1 : cX6_init.data.toList.drop 22 = dktX6_init_1 := dk_seg dksX6_init_0 22 rfl rfl
theorem dX6_init_0 : decode cX6_init 0 = .ok (.aload_n 0, 1) := dk_42 (dk_at dksX6_init_0 0 rfl rfl)
theorem dX6_init_1 : decode cX6_init 1 = .ok (.invokespecial 1, 3) := dk_183 0 1 (dk_at dksX6_init_0 1 rfl rfl)
theorem dX6_init_4 : decode cX6_init 4 = .ok (.aload_n 0, 1) := dk_42 (dk_at dksX6_init_0 4 rfl rfl)
theorem dX6_init_5 : decode cX6_init 5 = .ok (.iload_n 1, 1) := dk_27 (dk_at dksX6_init_0 5 rfl rfl)
theorem dX6_init_6 : decode cX6_init 6 = .ok (.putfield 7, 3) := dk_181 0 7 (dk_at dksX6_init_0 6 rfl rfl)
theorem dX6_init_9 : decode cX6_init 9 = .ok (.aload_n 0, 1) := dk_42 (dk_at dksX6_init_0 9 rfl rfl)
theorem dX6_init_10 : decode cX6_init 10 = .ok (.iload_n 2, 1) := dk_28 (dk_at dksX6_init_0 10 rfl rfl)
theorem dX6_init_11 : decode cX6_init 11 = .ok (.putfield 13, 3) := dk_181 0 13 (dk_at dksX6_init_0 11 rfl rfl)
theorem dX6_init_14 : decode cX6_init 14 = .ok (.aload_n 0, 1) := dk_42 (dk_at dksX6_init_0 14 rfl rfl)
theorem dX6_init_15 : decode cX6_init 15 = .ok (.iload_n 3, 1) := dk_29 (dk_at dksX6_init_0 15 rfl rfl)
theorem dX6_init_16 : decode cX6_init 16 = .ok (.putfield 16, 3) := dk_181 0 16 (dk_at dksX6_init_0 16 rfl rfl)
theorem dX6_init_19 : decode cX6_init 19 = .ok (.aload_n 0, 1) := dk_42 (dk_at dksX6_init_0 19 rfl rfl)
theorem dX6_init_20 : decode cX6_init 20 = .ok (.iload 4, 2) := dk_21 4 (dk_at dksX6_init_0 20 rfl rfl)
theorem dX6_init_22 : decode cX6_init 22 = .ok (.putfield 19, 3) := dk_181 0 19 (dk_at dksX6_init_1 0 rfl rfl)
theorem dX6_init_25 : decode cX6_init 25 = .ok (.aload_n 0, 1) := dk_42 (dk_at dksX6_init_1 3 rfl rfl)
theorem dX6_init_26 : decode cX6_init 26 = .ok (.iload 5, 2) := dk_21 5 (dk_at dksX6_init_1 4 rfl rfl)
theorem dX6_init_28 : decode cX6_init 28 = .ok (.putfield 22, 3) := dk_181 0 22 (dk_at dksX6_init_1 6 rfl rfl)
theorem dX6_init_31 : decode cX6_init 31 = .ok (.aload_n 0, 1) := dk_42 (dk_at dksX6_init_1 9 rfl rfl)
theorem dX6_init_32 : decode cX6_init 32 = .ok (.aload 6, 2) := dk_25 6 (dk_at dksX6_init_1 10 rfl rfl)
theorem dX6_init_34 : decode cX6_init 34 = .ok (.putfield 26, 3) := dk_181 0 26 (dk_at dksX6_init_1 12 rfl rfl)
theorem dX6_init_37 : decode cX6_init 37 = .ok (.aload_n 0, 1) := dk_42 (dk_at dksX6_init_1 15 rfl rfl)
theorem dX6_init_38 : decode cX6_init 38 = .ok (.aload 7, 2) := dk_25 7 (dk_at dksX6_init_1 16 rfl rfl)
theorem dX6_init_40 : decode cX6_init 40 = .ok (.putfield 30, 3) := dk_181 0 30 (dk_at dksX6_init_1 18 rfl rfl)
theorem dX6_init_43 : decode cX6_init 43 = .ok (.return_, 1) := dk_177 (dk_at dksX6_init_1 21 rfl rfl)
abbrev cX6_hasOption : ByteArray := prog_10_method_9_code
def yX6_hasOption : MethodName := ⟨RX6, "hasOption", "()Z"⟩
theorem dX6_hasOption_0 : decode cX6_hasOption 0 = .ok (.aload_n 0, 1) := by decide +kernel
theorem dX6_hasOption_1 : decode cX6_hasOption 1 = .ok (.getfield 22, 3) := by decide +kernel
theorem dX6_hasOption_4 : decode cX6_hasOption 4 = .ok (.ireturn, 1) := by decide +kernel
abbrev cX6_parts : ByteArray := prog_10_method_10_code
def yX6_parts : MethodName := ⟨RX6, "parts", "()[I"⟩
theorem dX6_parts_0 : decode cX6_parts 0 = .ok (.aload_n 0, 1) := by decide +kernel
theorem dX6_parts_1 : decode cX6_parts 1 = .ok (.getfield 26, 3) := by decide +kernel
theorem dX6_parts_4 : decode cX6_parts 4 = .ok (.areturn, 1) := by decide +kernel
abbrev cX6_rate : ByteArray := prog_10_method_7_code
def yX6_rate : MethodName := ⟨RX6, "rate", "()I"⟩
theorem dX6_rate_0 : decode cX6_rate 0 = .ok (.aload_n 0, 1) := by decide +kernel
theorem dX6_rate_1 : decode cX6_rate 1 = .ok (.getfield 16, 3) := by decide +kernel
theorem dX6_rate_4 : decode cX6_rate 4 = .ok (.ireturn, 1) := by decide +kernel
abbrev cX6_fundings : ByteArray := prog_10_method_11_code
def yX6_fundings : MethodName := ⟨RX6, "fundings", "()[I"⟩
theorem dX6_fundings_0 : decode cX6_fundings 0 = .ok (.aload_n 0, 1) := by decide +kernel
theorem dX6_fundings_1 : decode cX6_fundings 1 = .ok (.getfield 30, 3) := by decide +kernel
theorem dX6_fundings_4 : decode cX6_fundings 4 = .ok (.areturn, 1) := by decide +kernel
abbrev cX6_option : ByteArray := prog_10_method_8_code
def yX6_option : MethodName := ⟨RX6, "option", "()I"⟩
theorem dX6_option_0 : decode cX6_option 0 = .ok (.aload_n 0, 1) := by decide +kernel
theorem dX6_option_1 : decode cX6_option 1 = .ok (.getfield 19, 3) := by decide +kernel
theorem dX6_option_4 : decode cX6_option 4 = .ok (.ireturn, 1) := by decide +kernel
abbrev cX6_branch : ByteArray := prog_10_method_5_code
def yX6_branch : MethodName := ⟨RX6, "branch", "()I"⟩
theorem dX6_branch_0 : decode cX6_branch 0 = .ok (.aload_n 0, 1) := by decide +kernel
theorem dX6_branch_1 : decode cX6_branch 1 = .ok (.getfield 7, 3) := by decide +kernel
theorem dX6_branch_4 : decode cX6_branch 4 = .ok (.ireturn, 1) := by decide +kernel
abbrev cX6_product : ByteArray := prog_10_method_6_code
def yX6_product : MethodName := ⟨RX6, "product", "()I"⟩
theorem dX6_product_0 : decode cX6_product 0 = .ok (.aload_n 0, 1) := by decide +kernel
theorem dX6_product_1 : decode cX6_product 1 = .ok (.getfield 13, 3) := by decide +kernel
theorem dX6_product_4 : decode cX6_product 4 = .ok (.ireturn, 1) := by decide +kernel
theorem q41 : (Jvm.Cond.initialized "FundBook$Loan") ∈ lw_all := lw_g (lw_at lw_m1 19 rfl) rfl
theorem q352 : (Jvm.Cond.instantiable "FundBook$Loan" (7 : Nat)) ∈ lw_all := lw_g (lw_at lw_m2 90 rfl) rfl
theorem q354 : (Jvm.Cond.instanceMethod ({ cls := "FundBook$Loan", name := "<init>", desc := "(IIIIZ[I[I)V" } : Jvm.MethodName)) ∈ lw_all := lw_g (lw_at lw_m2 92 rfl) rfl
theorem q355 : (Jvm.Cond.code ({ cls := "FundBook$Loan", name := "<init>", desc := "(IIIIZ[I[I)V" } : Jvm.MethodName) prog_10_method_1_code (8 : Nat) (Option.none : Option Jvm.ClassFile.FieldType)) ∈ lw_all := lw_g (lw_at lw_m2 93 rfl) rfl
theorem q356 : (Jvm.Cond.methodLink "FundBook$Loan" (1 : Nat) ({ cls := "java/lang/Record", name := "<init>", desc := "()V" } : Jvm.MethodName)) ∈ lw_all := lw_g (lw_at lw_m2 94 rfl) rfl
theorem q357 : (Jvm.Cond.fieldLink "FundBook$Loan" (7 : Nat) "FundBook$Loan" "branch" "I") ∈ lw_all := lw_g (lw_at lw_m2 95 rfl) rfl
theorem q358 : (Jvm.Cond.fieldLink "FundBook$Loan" (13 : Nat) "FundBook$Loan" "product" "I") ∈ lw_all := lw_g (lw_at lw_m2 96 rfl) rfl
theorem q359 : (Jvm.Cond.fieldLink "FundBook$Loan" (16 : Nat) "FundBook$Loan" "rate" "I") ∈ lw_all := lw_g (lw_at lw_m2 97 rfl) rfl
theorem q360 : (Jvm.Cond.fieldLink "FundBook$Loan" (19 : Nat) "FundBook$Loan" "option" "I") ∈ lw_all := lw_g (lw_at lw_m2 98 rfl) rfl
theorem q361 : (Jvm.Cond.fieldLink "FundBook$Loan" (22 : Nat) "FundBook$Loan" "hasOption" "Z") ∈ lw_all := lw_g (lw_at lw_m2 99 rfl) rfl
theorem q362 : (Jvm.Cond.fieldLink "FundBook$Loan" (26 : Nat) "FundBook$Loan" "parts" "[I") ∈ lw_all := lw_g (lw_at lw_m2 100 rfl) rfl
theorem q363 : (Jvm.Cond.fieldLink "FundBook$Loan" (30 : Nat) "FundBook$Loan" "fundings" "[I") ∈ lw_all := lw_g (lw_at lw_m2 101 rfl) rfl
theorem q364 : (Jvm.Cond.laysFinal "FundBook$Loan" "FundBook$Loan" "branch" "I") ∈ lw_all := lw_g (lw_at lw_m2 102 rfl) rfl
theorem q365 : (Jvm.Cond.soleField "FundBook$Loan" "branch") ∈ lw_all := lw_g (lw_at lw_m2 103 rfl) rfl
theorem q366 : (Jvm.Cond.laysFinal "FundBook$Loan" "FundBook$Loan" "product" "I") ∈ lw_all := lw_g (lw_at lw_m2 104 rfl) rfl
theorem q367 : (Jvm.Cond.soleField "FundBook$Loan" "product") ∈ lw_all := lw_g (lw_at lw_m2 105 rfl) rfl
theorem q368 : (Jvm.Cond.laysFinal "FundBook$Loan" "FundBook$Loan" "rate" "I") ∈ lw_all := lw_g (lw_at lw_m2 106 rfl) rfl
theorem q369 : (Jvm.Cond.soleField "FundBook$Loan" "rate") ∈ lw_all := lw_g (lw_at lw_m2 107 rfl) rfl
theorem q370 : (Jvm.Cond.laysFinal "FundBook$Loan" "FundBook$Loan" "option" "I") ∈ lw_all := lw_g (lw_at lw_m2 108 rfl) rfl
theorem q371 : (Jvm.Cond.soleField "FundBook$Loan" "option") ∈ lw_all := lw_g (lw_at lw_m2 109 rfl) rfl
theorem q372 : (Jvm.Cond.laysFinal "FundBook$Loan" "FundBook$Loan" "hasOption" "Z") ∈ lw_all := lw_g (lw_at lw_m2 110 rfl) rfl
theorem q373 : (Jvm.Cond.soleField "FundBook$Loan" "hasOption") ∈ lw_all := lw_g (lw_at lw_m2 111 rfl) rfl
theorem q374 : (Jvm.Cond.laysFinal "FundBook$Loan" "FundBook$Loan" "parts" "[I") ∈ lw_all := lw_g (lw_at lw_m2 112 rfl) rfl
theorem q375 : (Jvm.Cond.soleField "FundBook$Loan" "parts") ∈ lw_all := lw_g (lw_at lw_m2 113 rfl) rfl
theorem q376 : (Jvm.Cond.laysFinal "FundBook$Loan" "FundBook$Loan" "fundings" "[I") ∈ lw_all := lw_g (lw_at lw_m2 114 rfl) rfl
theorem q377 : (Jvm.Cond.soleField "FundBook$Loan" "fundings") ∈ lw_all := lw_g (lw_at lw_m2 115 rfl) rfl
theorem q378 : (Jvm.Cond.superclass "FundBook$Loan" "java/lang/Record") ∈ lw_all := lw_g (lw_at lw_m2 116 rfl) rfl
theorem q438 : (Jvm.Cond.selects "FundBook$Loan" ({ cls := "java/lang/Object", name := "getClass", desc := "()Ljava/lang/Class;" } : Jvm.MethodName) ({ cls := "java/lang/Object", name := "getClass", desc := "()Ljava/lang/Class;" } : Jvm.MethodName)) ∈ lw_all := lw_g (lw_at lw_m2 176 rfl) rfl
theorem q491 : (Jvm.Cond.instanceMethod ({ cls := "FundBook$Loan", name := "hasOption", desc := "()Z" } : Jvm.MethodName)) ∈ lw_all := lw_g (lw_at lw_m2 229 rfl) rfl
theorem q492 : (Jvm.Cond.selects "FundBook$Loan" ({ cls := "FundBook$Loan", name := "hasOption", desc := "()Z" } : Jvm.MethodName) ({ cls := "FundBook$Loan", name := "hasOption", desc := "()Z" } : Jvm.MethodName)) ∈ lw_all := lw_g (lw_at lw_m2 230 rfl) rfl
theorem q493 : (Jvm.Cond.code ({ cls := "FundBook$Loan", name := "hasOption", desc := "()Z" } : Jvm.MethodName) prog_10_method_9_code (1 : Nat) (Option.some Jvm.ClassFile.FieldType.boolean)) ∈ lw_all := lw_g (lw_at lw_m2 231 rfl) rfl
theorem q499 : (Jvm.Cond.instanceMethod ({ cls := "FundBook$Loan", name := "parts", desc := "()[I" } : Jvm.MethodName)) ∈ lw_all := lw_g (lw_at lw_m2 237 rfl) rfl
theorem q500 : (Jvm.Cond.selects "FundBook$Loan" ({ cls := "FundBook$Loan", name := "parts", desc := "()[I" } : Jvm.MethodName) ({ cls := "FundBook$Loan", name := "parts", desc := "()[I" } : Jvm.MethodName)) ∈ lw_all := lw_g (lw_at lw_m2 238 rfl) rfl
theorem q501 : (Jvm.Cond.code ({ cls := "FundBook$Loan", name := "parts", desc := "()[I" } : Jvm.MethodName) prog_10_method_10_code (1 : Nat) (Option.some (Jvm.ClassFile.FieldType.array Jvm.ClassFile.FieldType.int))) ∈ lw_all := lw_g (lw_at lw_m2 239 rfl) rfl
theorem q553 : (Jvm.Cond.instanceMethod ({ cls := "FundBook$Loan", name := "rate", desc := "()I" } : Jvm.MethodName)) ∈ lw_all := lw_g (lw_at lw_m3 51 rfl) rfl
theorem q554 : (Jvm.Cond.selects "FundBook$Loan" ({ cls := "FundBook$Loan", name := "rate", desc := "()I" } : Jvm.MethodName) ({ cls := "FundBook$Loan", name := "rate", desc := "()I" } : Jvm.MethodName)) ∈ lw_all := lw_g (lw_at lw_m3 52 rfl) rfl
theorem q555 : (Jvm.Cond.code ({ cls := "FundBook$Loan", name := "rate", desc := "()I" } : Jvm.MethodName) prog_10_method_7_code (1 : Nat) (Option.some Jvm.ClassFile.FieldType.int)) ∈ lw_all := lw_g (lw_at lw_m3 53 rfl) rfl
theorem q565 : (Jvm.Cond.instanceMethod ({ cls := "FundBook$Loan", name := "fundings", desc := "()[I" } : Jvm.MethodName)) ∈ lw_all := lw_g (lw_at lw_m3 63 rfl) rfl
theorem q566 : (Jvm.Cond.selects "FundBook$Loan" ({ cls := "FundBook$Loan", name := "fundings", desc := "()[I" } : Jvm.MethodName) ({ cls := "FundBook$Loan", name := "fundings", desc := "()[I" } : Jvm.MethodName)) ∈ lw_all := lw_g (lw_at lw_m3 64 rfl) rfl
theorem q567 : (Jvm.Cond.code ({ cls := "FundBook$Loan", name := "fundings", desc := "()[I" } : Jvm.MethodName) prog_10_method_11_code (1 : Nat) (Option.some (Jvm.ClassFile.FieldType.array Jvm.ClassFile.FieldType.int))) ∈ lw_all := lw_g (lw_at lw_m3 65 rfl) rfl
theorem q574 : (Jvm.Cond.instanceMethod ({ cls := "FundBook$Loan", name := "option", desc := "()I" } : Jvm.MethodName)) ∈ lw_all := lw_g (lw_at lw_m3 72 rfl) rfl
theorem q575 : (Jvm.Cond.selects "FundBook$Loan" ({ cls := "FundBook$Loan", name := "option", desc := "()I" } : Jvm.MethodName) ({ cls := "FundBook$Loan", name := "option", desc := "()I" } : Jvm.MethodName)) ∈ lw_all := lw_g (lw_at lw_m3 73 rfl) rfl
theorem q576 : (Jvm.Cond.code ({ cls := "FundBook$Loan", name := "option", desc := "()I" } : Jvm.MethodName) prog_10_method_8_code (1 : Nat) (Option.some Jvm.ClassFile.FieldType.int)) ∈ lw_all := lw_g (lw_at lw_m3 74 rfl) rfl
theorem q601 : (Jvm.Cond.instanceMethod ({ cls := "FundBook$Loan", name := "branch", desc := "()I" } : Jvm.MethodName)) ∈ lw_all := lw_g (lw_at lw_m3 99 rfl) rfl
theorem q602 : (Jvm.Cond.selects "FundBook$Loan" ({ cls := "FundBook$Loan", name := "branch", desc := "()I" } : Jvm.MethodName) ({ cls := "FundBook$Loan", name := "branch", desc := "()I" } : Jvm.MethodName)) ∈ lw_all := lw_g (lw_at lw_m3 100 rfl) rfl
theorem q603 : (Jvm.Cond.code ({ cls := "FundBook$Loan", name := "branch", desc := "()I" } : Jvm.MethodName) prog_10_method_5_code (1 : Nat) (Option.some Jvm.ClassFile.FieldType.int)) ∈ lw_all := lw_g (lw_at lw_m3 101 rfl) rfl
theorem q605 : (Jvm.Cond.instanceMethod ({ cls := "FundBook$Loan", name := "product", desc := "()I" } : Jvm.MethodName)) ∈ lw_all := lw_g (lw_at lw_m3 103 rfl) rfl
theorem q606 : (Jvm.Cond.selects "FundBook$Loan" ({ cls := "FundBook$Loan", name := "product", desc := "()I" } : Jvm.MethodName) ({ cls := "FundBook$Loan", name := "product", desc := "()I" } : Jvm.MethodName)) ∈ lw_all := lw_g (lw_at lw_m3 104 rfl) rfl
theorem q607 : (Jvm.Cond.code ({ cls := "FundBook$Loan", name := "product", desc := "()I" } : Jvm.MethodName) prog_10_method_6_code (1 : Nat) (Option.some Jvm.ClassFile.FieldType.int)) ∈ lw_all := lw_g (lw_at lw_m3 105 rfl) rfl
theorem q892 : (Jvm.Cond.castable "FundBook$Loan" "java/lang/Object") ∈ lw_tbl := lw_at lw_m4 150 rfl
theorem in_X6 : ∀ w ∈ wsX60, w ∈ lw_all := lw_in wsX60 [364, 366, 368, 370, 372, 374, 376] (by decide +kernel) (by decide +kernel)
/-! FundBook$Bearing$4 -/
set_option maxRecDepth 100000
def RX7 : String := "FundBook$Bearing$4"
abbrev cX7_of : ByteArray := prog_7_method_2_code
def yX7_of : MethodName := ⟨RX7, "of", "(LFundBook$Account;)I"⟩
def dkwX7_of_0 : List UInt8 := [178, 0, 7, 43, 182, 0, 13, 178, 0, 17, 43, 182, 0, 13, 100, 178, 0, 20, 43, 182, 0, 13, 100, 172]
abbrev dktX7_of_0 : List UInt8 := dkwX7_of_0 ++ []
theorem dksX7_of_0 : cX7_of.data.toList.drop 0 = dktX7_of_0 := by decide +kernel
theorem dX7_of_0 : decode cX7_of 0 = .ok (.getstatic 7, 3) := dk_178 0 7 (dk_at dksX7_of_0 0 rfl rfl)
theorem dX7_of_3 : decode cX7_of 3 = .ok (.aload_n 1, 1) := dk_43 (dk_at dksX7_of_0 3 rfl rfl)
theorem dX7_of_4 : decode cX7_of 4 = .ok (.invokevirtual 13, 3) := dk_182 0 13 (dk_at dksX7_of_0 4 rfl rfl)
theorem dX7_of_7 : decode cX7_of 7 = .ok (.getstatic 17, 3) := dk_178 0 17 (dk_at dksX7_of_0 7 rfl rfl)
theorem dX7_of_10 : decode cX7_of 10 = .ok (.aload_n 1, 1) := dk_43 (dk_at dksX7_of_0 10 rfl rfl)
theorem dX7_of_11 : decode cX7_of 11 = .ok (.invokevirtual 13, 3) := dk_182 0 13 (dk_at dksX7_of_0 11 rfl rfl)
theorem dX7_of_14 : decode cX7_of 14 = .ok (.isub, 1) := dk_100 (dk_at dksX7_of_0 14 rfl rfl)
theorem dX7_of_15 : decode cX7_of 15 = .ok (.getstatic 20, 3) := dk_178 0 20 (dk_at dksX7_of_0 15 rfl rfl)
theorem dX7_of_18 : decode cX7_of 18 = .ok (.aload_n 1, 1) := dk_43 (dk_at dksX7_of_0 18 rfl rfl)
theorem dX7_of_19 : decode cX7_of 19 = .ok (.invokevirtual 13, 3) := dk_182 0 13 (dk_at dksX7_of_0 19 rfl rfl)
theorem dX7_of_22 : decode cX7_of 22 = .ok (.isub, 1) := dk_100 (dk_at dksX7_of_0 22 rfl rfl)
theorem dX7_of_23 : decode cX7_of 23 = .ok (.ireturn, 1) := dk_172 (dk_at dksX7_of_0 23 rfl rfl)
theorem q48 : (Jvm.Cond.initialized "FundBook$Bearing$4") ∈ lw_all := lw_g (lw_at lw_m1 26 rfl) rfl
theorem q436 : (Jvm.Cond.selects "FundBook$Bearing$4" ({ cls := "java/lang/Object", name := "getClass", desc := "()Ljava/lang/Class;" } : Jvm.MethodName) ({ cls := "java/lang/Object", name := "getClass", desc := "()Ljava/lang/Class;" } : Jvm.MethodName)) ∈ lw_all := lw_g (lw_at lw_m2 174 rfl) rfl
theorem q578 : (Jvm.Cond.selects "FundBook$Bearing$4" ({ cls := "FundBook$Bearing", name := "of", desc := "(LFundBook$Account;)I" } : Jvm.MethodName) ({ cls := "FundBook$Bearing$4", name := "of", desc := "(LFundBook$Account;)I" } : Jvm.MethodName)) ∈ lw_all := lw_g (lw_at lw_m3 76 rfl) rfl
theorem q579 : (Jvm.Cond.instanceMethod ({ cls := "FundBook$Bearing$4", name := "of", desc := "(LFundBook$Account;)I" } : Jvm.MethodName)) ∈ lw_all := lw_g (lw_at lw_m3 77 rfl) rfl
theorem q580 : (Jvm.Cond.code ({ cls := "FundBook$Bearing$4", name := "of", desc := "(LFundBook$Account;)I" } : Jvm.MethodName) prog_7_method_2_code (2 : Nat) (Option.some Jvm.ClassFile.FieldType.int)) ∈ lw_all := lw_g (lw_at lw_m3 78 rfl) rfl
theorem q581 : (Jvm.Cond.fieldLink "FundBook$Bearing$4" (7 : Nat) "FundBook$Bearing$4" "INTEREST" "LFundBook$Bearing;") ∈ lw_all := lw_g (lw_at lw_m3 79 rfl) rfl
theorem q582 : (Jvm.Cond.sameField "FundBook$Bearing$4" "FundBook$Bearing" "INTEREST" "LFundBook$Bearing;") ∈ lw_all := lw_g (lw_at lw_m3 80 rfl) rfl
theorem q584 : (Jvm.Cond.methodLink "FundBook$Bearing$4" (13 : Nat) ({ cls := "FundBook$Bearing", name := "of", desc := "(LFundBook$Account;)I" } : Jvm.MethodName)) ∈ lw_all := lw_g (lw_at lw_m3 82 rfl) rfl
theorem q585 : (Jvm.Cond.fieldLink "FundBook$Bearing$4" (17 : Nat) "FundBook$Bearing$4" "FUNDING" "LFundBook$Bearing;") ∈ lw_all := lw_g (lw_at lw_m3 83 rfl) rfl
theorem q586 : (Jvm.Cond.sameField "FundBook$Bearing$4" "FundBook$Bearing" "FUNDING" "LFundBook$Bearing;") ∈ lw_all := lw_g (lw_at lw_m3 84 rfl) rfl
theorem q588 : (Jvm.Cond.fieldLink "FundBook$Bearing$4" (20 : Nat) "FundBook$Bearing$4" "OPTION" "LFundBook$Bearing;") ∈ lw_all := lw_g (lw_at lw_m3 86 rfl) rfl
theorem q589 : (Jvm.Cond.sameField "FundBook$Bearing$4" "FundBook$Bearing" "OPTION" "LFundBook$Bearing;") ∈ lw_all := lw_g (lw_at lw_m3 87 rfl) rfl
theorem q884 : (Jvm.Cond.castable "FundBook$Bearing$4" "java/lang/Object") ∈ lw_tbl := lw_at lw_m4 142 rfl
theorem q898 : (Jvm.Cond.castable "FundBook$Bearing$4" "FundBook$Bearing") ∈ lw_tbl := lw_at lw_m4 156 rfl
/-! FundBook$Bearing$1 -/
set_option maxRecDepth 100000
def RX8 : String := "FundBook$Bearing$1"
abbrev cX8_of : ByteArray := prog_4_method_2_code
def yX8_of : MethodName := ⟨RX8, "of", "(LFundBook$Account;)I"⟩
def dkwX8_of_0 : List UInt8 := [43, 182, 0, 9, 133, 43, 180, 0, 15, 182, 0, 19, 133, 105, 20, 0, 24, 109, 136, 172]
abbrev dktX8_of_0 : List UInt8 := dkwX8_of_0 ++ []
theorem dksX8_of_0 : cX8_of.data.toList.drop 0 = dktX8_of_0 := by decide +kernel
theorem dX8_of_0 : decode cX8_of 0 = .ok (.aload_n 1, 1) := dk_43 (dk_at dksX8_of_0 0 rfl rfl)
theorem dX8_of_1 : decode cX8_of 1 = .ok (.invokevirtual 9, 3) := dk_182 0 9 (dk_at dksX8_of_0 1 rfl rfl)
theorem dX8_of_4 : decode cX8_of 4 = .ok (.i2l, 1) := dk_133 (dk_at dksX8_of_0 4 rfl rfl)
theorem dX8_of_5 : decode cX8_of 5 = .ok (.aload_n 1, 1) := dk_43 (dk_at dksX8_of_0 5 rfl rfl)
theorem dX8_of_6 : decode cX8_of 6 = .ok (.getfield 15, 3) := dk_180 0 15 (dk_at dksX8_of_0 6 rfl rfl)
theorem dX8_of_9 : decode cX8_of 9 = .ok (.invokevirtual 19, 3) := dk_182 0 19 (dk_at dksX8_of_0 9 rfl rfl)
theorem dX8_of_12 : decode cX8_of 12 = .ok (.i2l, 1) := dk_133 (dk_at dksX8_of_0 12 rfl rfl)
theorem dX8_of_13 : decode cX8_of 13 = .ok (.lmul, 1) := dk_105 (dk_at dksX8_of_0 13 rfl rfl)
theorem dX8_of_14 : decode cX8_of 14 = .ok (.ldc2_w 24, 3) := dk_20 0 24 (dk_at dksX8_of_0 14 rfl rfl)
theorem dX8_of_17 : decode cX8_of 17 = .ok (.ldiv, 1) := dk_109 (dk_at dksX8_of_0 17 rfl rfl)
theorem dX8_of_18 : decode cX8_of 18 = .ok (.l2i, 1) := dk_136 (dk_at dksX8_of_0 18 rfl rfl)
theorem dX8_of_19 : decode cX8_of 19 = .ok (.ireturn, 1) := dk_172 (dk_at dksX8_of_0 19 rfl rfl)
theorem q384 : (Jvm.Cond.fieldLink "FundBook$Bearing$1" (15 : Nat) "FundBook$Account" "loan" "LFundBook$Loan;") ∈ lw_all := lw_g (lw_at lw_m2 122 rfl) rfl
theorem q433 : (Jvm.Cond.selects "FundBook$Bearing$1" ({ cls := "java/lang/Object", name := "getClass", desc := "()Ljava/lang/Class;" } : Jvm.MethodName) ({ cls := "java/lang/Object", name := "getClass", desc := "()Ljava/lang/Class;" } : Jvm.MethodName)) ∈ lw_all := lw_g (lw_at lw_m2 171 rfl) rfl
theorem q548 : (Jvm.Cond.selects "FundBook$Bearing$1" ({ cls := "FundBook$Bearing", name := "of", desc := "(LFundBook$Account;)I" } : Jvm.MethodName) ({ cls := "FundBook$Bearing$1", name := "of", desc := "(LFundBook$Account;)I" } : Jvm.MethodName)) ∈ lw_all := lw_g (lw_at lw_m3 46 rfl) rfl
theorem q549 : (Jvm.Cond.instanceMethod ({ cls := "FundBook$Bearing$1", name := "of", desc := "(LFundBook$Account;)I" } : Jvm.MethodName)) ∈ lw_all := lw_g (lw_at lw_m3 47 rfl) rfl
theorem q550 : (Jvm.Cond.code ({ cls := "FundBook$Bearing$1", name := "of", desc := "(LFundBook$Account;)I" } : Jvm.MethodName) prog_4_method_2_code (2 : Nat) (Option.some Jvm.ClassFile.FieldType.int)) ∈ lw_all := lw_g (lw_at lw_m3 48 rfl) rfl
theorem q551 : (Jvm.Cond.methodLink "FundBook$Bearing$1" (9 : Nat) ({ cls := "FundBook$Account", name := "left", desc := "()I" } : Jvm.MethodName)) ∈ lw_all := lw_g (lw_at lw_m3 49 rfl) rfl
theorem q552 : (Jvm.Cond.methodLink "FundBook$Bearing$1" (19 : Nat) ({ cls := "FundBook$Loan", name := "rate", desc := "()I" } : Jvm.MethodName)) ∈ lw_all := lw_g (lw_at lw_m3 50 rfl) rfl
theorem q556 : (Jvm.Cond.constantLong "FundBook$Bearing$1" (24 : Nat) (120000 : Int64)) ∈ lw_all := lw_g (lw_at lw_m3 54 rfl) rfl
theorem q881 : (Jvm.Cond.castable "FundBook$Bearing$1" "java/lang/Object") ∈ lw_tbl := lw_at lw_m4 139 rfl
theorem q895 : (Jvm.Cond.castable "FundBook$Bearing$1" "FundBook$Bearing") ∈ lw_tbl := lw_at lw_m4 153 rfl
/-! FundBook$Bearing$3 -/
set_option maxRecDepth 100000
def RX9 : String := "FundBook$Bearing$3"
abbrev cX9_of : ByteArray := prog_6_method_2_code
def yX9_of : MethodName := ⟨RX9, "of", "(LFundBook$Account;)I"⟩
def dkwX9_of_0 : List UInt8 := [43, 182, 0, 9, 133, 43, 180, 0, 15, 182, 0, 19, 133, 105, 20, 0, 24, 109, 136, 172]
abbrev dktX9_of_0 : List UInt8 := dkwX9_of_0 ++ []
theorem dksX9_of_0 : cX9_of.data.toList.drop 0 = dktX9_of_0 := by decide +kernel
theorem dX9_of_0 : decode cX9_of 0 = .ok (.aload_n 1, 1) := dk_43 (dk_at dksX9_of_0 0 rfl rfl)
theorem dX9_of_1 : decode cX9_of 1 = .ok (.invokevirtual 9, 3) := dk_182 0 9 (dk_at dksX9_of_0 1 rfl rfl)
theorem dX9_of_4 : decode cX9_of 4 = .ok (.i2l, 1) := dk_133 (dk_at dksX9_of_0 4 rfl rfl)
theorem dX9_of_5 : decode cX9_of 5 = .ok (.aload_n 1, 1) := dk_43 (dk_at dksX9_of_0 5 rfl rfl)
theorem dX9_of_6 : decode cX9_of 6 = .ok (.getfield 15, 3) := dk_180 0 15 (dk_at dksX9_of_0 6 rfl rfl)
theorem dX9_of_9 : decode cX9_of 9 = .ok (.invokevirtual 19, 3) := dk_182 0 19 (dk_at dksX9_of_0 9 rfl rfl)
theorem dX9_of_12 : decode cX9_of 12 = .ok (.i2l, 1) := dk_133 (dk_at dksX9_of_0 12 rfl rfl)
theorem dX9_of_13 : decode cX9_of 13 = .ok (.lmul, 1) := dk_105 (dk_at dksX9_of_0 13 rfl rfl)
theorem dX9_of_14 : decode cX9_of 14 = .ok (.ldc2_w 24, 3) := dk_20 0 24 (dk_at dksX9_of_0 14 rfl rfl)
theorem dX9_of_17 : decode cX9_of 17 = .ok (.ldiv, 1) := dk_109 (dk_at dksX9_of_0 17 rfl rfl)
theorem dX9_of_18 : decode cX9_of 18 = .ok (.l2i, 1) := dk_136 (dk_at dksX9_of_0 18 rfl rfl)
theorem dX9_of_19 : decode cX9_of 19 = .ok (.ireturn, 1) := dk_172 (dk_at dksX9_of_0 19 rfl rfl)
theorem q385 : (Jvm.Cond.fieldLink "FundBook$Bearing$3" (15 : Nat) "FundBook$Account" "loan" "LFundBook$Loan;") ∈ lw_all := lw_g (lw_at lw_m2 123 rfl) rfl
theorem q435 : (Jvm.Cond.selects "FundBook$Bearing$3" ({ cls := "java/lang/Object", name := "getClass", desc := "()Ljava/lang/Class;" } : Jvm.MethodName) ({ cls := "java/lang/Object", name := "getClass", desc := "()Ljava/lang/Class;" } : Jvm.MethodName)) ∈ lw_all := lw_g (lw_at lw_m2 173 rfl) rfl
theorem q569 : (Jvm.Cond.selects "FundBook$Bearing$3" ({ cls := "FundBook$Bearing", name := "of", desc := "(LFundBook$Account;)I" } : Jvm.MethodName) ({ cls := "FundBook$Bearing$3", name := "of", desc := "(LFundBook$Account;)I" } : Jvm.MethodName)) ∈ lw_all := lw_g (lw_at lw_m3 67 rfl) rfl
theorem q570 : (Jvm.Cond.instanceMethod ({ cls := "FundBook$Bearing$3", name := "of", desc := "(LFundBook$Account;)I" } : Jvm.MethodName)) ∈ lw_all := lw_g (lw_at lw_m3 68 rfl) rfl
theorem q571 : (Jvm.Cond.code ({ cls := "FundBook$Bearing$3", name := "of", desc := "(LFundBook$Account;)I" } : Jvm.MethodName) prog_6_method_2_code (2 : Nat) (Option.some Jvm.ClassFile.FieldType.int)) ∈ lw_all := lw_g (lw_at lw_m3 69 rfl) rfl
theorem q572 : (Jvm.Cond.methodLink "FundBook$Bearing$3" (9 : Nat) ({ cls := "FundBook$Account", name := "left", desc := "()I" } : Jvm.MethodName)) ∈ lw_all := lw_g (lw_at lw_m3 70 rfl) rfl
theorem q573 : (Jvm.Cond.methodLink "FundBook$Bearing$3" (19 : Nat) ({ cls := "FundBook$Loan", name := "option", desc := "()I" } : Jvm.MethodName)) ∈ lw_all := lw_g (lw_at lw_m3 71 rfl) rfl
theorem q577 : (Jvm.Cond.constantLong "FundBook$Bearing$3" (24 : Nat) (120000 : Int64)) ∈ lw_all := lw_g (lw_at lw_m3 75 rfl) rfl
theorem q883 : (Jvm.Cond.castable "FundBook$Bearing$3" "java/lang/Object") ∈ lw_tbl := lw_at lw_m4 141 rfl
theorem q897 : (Jvm.Cond.castable "FundBook$Bearing$3" "FundBook$Bearing") ∈ lw_tbl := lw_at lw_m4 155 rfl
/-! FundBook$Bearing$2 -/
set_option maxRecDepth 100000
def RX10 : String := "FundBook$Bearing$2"
abbrev cX10_of : ByteArray := prog_5_method_2_code
def yX10_of : MethodName := ⟨RX10, "of", "(LFundBook$Account;)I"⟩
theorem dX10_of_0 : decode cX10_of 0 = .ok (.aload_n 1, 1) := by decide +kernel
theorem dX10_of_1 : decode cX10_of 1 = .ok (.invokevirtual 7, 3) := by decide +kernel
theorem dX10_of_4 : decode cX10_of 4 = .ok (.ireturn, 1) := by decide +kernel
theorem q434 : (Jvm.Cond.selects "FundBook$Bearing$2" ({ cls := "java/lang/Object", name := "getClass", desc := "()Ljava/lang/Class;" } : Jvm.MethodName) ({ cls := "java/lang/Object", name := "getClass", desc := "()Ljava/lang/Class;" } : Jvm.MethodName)) ∈ lw_all := lw_g (lw_at lw_m2 172 rfl) rfl
theorem q557 : (Jvm.Cond.selects "FundBook$Bearing$2" ({ cls := "FundBook$Bearing", name := "of", desc := "(LFundBook$Account;)I" } : Jvm.MethodName) ({ cls := "FundBook$Bearing$2", name := "of", desc := "(LFundBook$Account;)I" } : Jvm.MethodName)) ∈ lw_all := lw_g (lw_at lw_m3 55 rfl) rfl
theorem q558 : (Jvm.Cond.instanceMethod ({ cls := "FundBook$Bearing$2", name := "of", desc := "(LFundBook$Account;)I" } : Jvm.MethodName)) ∈ lw_all := lw_g (lw_at lw_m3 56 rfl) rfl
theorem q559 : (Jvm.Cond.code ({ cls := "FundBook$Bearing$2", name := "of", desc := "(LFundBook$Account;)I" } : Jvm.MethodName) prog_5_method_2_code (2 : Nat) (Option.some Jvm.ClassFile.FieldType.int)) ∈ lw_all := lw_g (lw_at lw_m3 57 rfl) rfl
theorem q560 : (Jvm.Cond.methodLink "FundBook$Bearing$2" (7 : Nat) ({ cls := "FundBook$Account", name := "funding", desc := "()I" } : Jvm.MethodName)) ∈ lw_all := lw_g (lw_at lw_m3 58 rfl) rfl
theorem q882 : (Jvm.Cond.castable "FundBook$Bearing$2" "java/lang/Object") ∈ lw_tbl := lw_at lw_m4 140 rfl
theorem q896 : (Jvm.Cond.castable "FundBook$Bearing$2" "FundBook$Bearing") ∈ lw_tbl := lw_at lw_m4 154 rfl
/-! FundBook -/
set_option maxRecDepth 100000
def RX1 : String := "FundBook"
def TX1 : u_T := fun k => match k with
  | 0 => ("FundBook", "bearings", "[LFundBook$Bearing;", true)
  | 1 => ("FundBook", "curve", "[I", true)
  | 2 => ("FundBook", "accounts", "Ljava/util/List;", true)
  | 3 => ("FundBook", "deposits", "[LFundBook$Deposit;", true)
  | 4 => ("FundBook", "amounts", "[I", true)
  | 5 => ("FundBook", "rates", "[I", true)
  | 6 => ("FundBook", "margins", "[[I", true)
  | 7 => ("FundBook", "byProducts", "[[I", true)
  | 8 => ("FundBook", "treasuries", "[I", true)
  | 9 => ("FundBook", "interests", "[I", true)
  | 10 => ("FundBook", "depositRate", "I", false)
  | 11 => ("FundBook", "optionRate", "I", false)
  | 12 => ("FundBook", "coreShare", "I", false)
  | _ => ("FundBook", "month", "I", false)
def tyX1 : Nat → FieldType := fun k => match k with
  | 0 => .array (.object "FundBook$Bearing")
  | 1 => .array .int
  | 2 => .object "java/util/List"
  | 3 => .array (.object "FundBook$Deposit")
  | 4 => .array .int
  | 5 => .array .int
  | 6 => .array (.array .int)
  | 7 => .array (.array .int)
  | 8 => .array .int
  | 9 => .array .int
  | 10 => .int
  | 11 => .int
  | 12 => .int
  | _ => .int
abbrev wsX10 : List Cond := u_ws RX1 TX1 14
set_option maxRecDepth 100000 in
theorem nmX1 : ∀ a, a < 14 → ∀ b, b < 14 → a ≠ b → (TX1 a).2.1 ≠ (TX1 b).2.1 := by decide +kernel
set_option maxRecDepth 100000 in
theorem tyX1_ok : ∀ k, k < 14 → parseFieldDescriptor (TX1 k).2.2.1 = some (tyX1 k) := by decide +kernel
abbrev cX1_init : ByteArray := prog_1_method_1_code
def yX1_init : MethodName := ⟨RX1, "<init>", "()V"⟩
def dkwX1_init_5 : List UInt8 := [183, 0, 60, 83, 132, 1, 1, 167, 255, 233, 177]
abbrev dktX1_init_5 : List UInt8 := dkwX1_init_5 ++ []
def dkwX1_init_4 : List UInt8 := [16, 50, 181, 0, 56, 3, 60, 27, 6, 162, 0, 24, 42, 180, 0, 32, 27, 187, 0, 30, 89, 27, 3]
abbrev dktX1_init_4 : List UInt8 := dkwX1_init_4 ++ dktX1_init_5
def dkwX1_init_3 : List UInt8 := [197, 0, 42, 2, 181, 0, 47, 42, 16, 48, 188, 10, 181, 0, 50, 42, 16, 48, 188, 10, 181, 0, 53, 42]
abbrev dktX1_init_3 : List UInt8 := dkwX1_init_3 ++ dktX1_init_4
def dkwX1_init_2 : List UInt8 := [16, 6, 188, 10, 181, 0, 39, 42, 16, 48, 6, 197, 0, 42, 2, 181, 0, 44, 42, 16, 48, 6]
abbrev dktX1_init_2 : List UInt8 := dkwX1_init_2 ++ dktX1_init_3
def dkwX1_init_1 : List UInt8 := [183, 0, 25, 181, 0, 26, 42, 6, 189, 0, 30, 181, 0, 32, 42, 16, 6, 188, 10, 181, 0, 36, 42]
abbrev dktX1_init_1 : List UInt8 := dkwX1_init_1 ++ dktX1_init_2
def dkwX1_init_0 : List UInt8 := [42, 183, 0, 1, 42, 184, 0, 7, 181, 0, 13, 42, 16, 6, 188, 10, 181, 0, 19, 42, 187, 0, 23, 89]
abbrev dktX1_init_0 : List UInt8 := dkwX1_init_0 ++ dktX1_init_1
theorem dksX1_init_0 : cX1_init.data.toList.drop 0 = dktX1_init_0 := by decide +kernel
theorem dksX1_init_1 : cX1_init.data.toList.drop 24 = dktX1_init_1 := dk_seg dksX1_init_0 24 rfl rfl
theorem dksX1_init_2 : cX1_init.data.toList.drop 47 = dktX1_init_2 := dk_seg dksX1_init_1 23 rfl rfl
theorem dksX1_init_3 : cX1_init.data.toList.drop 69 = dktX1_init_3 := dk_seg dksX1_init_2 22 rfl rfl
theorem dksX1_init_4 : cX1_init.data.toList.drop 93 = dktX1_init_4 := dk_seg dksX1_init_3 24 rfl rfl
theorem dksX1_init_5 : cX1_init.data.toList.drop 116 = dktX1_init_5 := dk_seg dksX1_init_4 23 rfl rfl
theorem dX1_init_0 : decode cX1_init 0 = .ok (.aload_n 0, 1) := dk_42 (dk_at dksX1_init_0 0 rfl rfl)
theorem dX1_init_1 : decode cX1_init 1 = .ok (.invokespecial 1, 3) := dk_183 0 1 (dk_at dksX1_init_0 1 rfl rfl)
theorem dX1_init_4 : decode cX1_init 4 = .ok (.aload_n 0, 1) := dk_42 (dk_at dksX1_init_0 4 rfl rfl)
theorem dX1_init_5 : decode cX1_init 5 = .ok (.invokestatic 7, 3) := dk_184 0 7 (dk_at dksX1_init_0 5 rfl rfl)
theorem dX1_init_8 : decode cX1_init 8 = .ok (.putfield 13, 3) := dk_181 0 13 (dk_at dksX1_init_0 8 rfl rfl)
theorem dX1_init_11 : decode cX1_init 11 = .ok (.aload_n 0, 1) := dk_42 (dk_at dksX1_init_0 11 rfl rfl)
theorem dX1_init_12 : decode cX1_init 12 = .ok (.bipush 6, 2) := dk_16 6 (dk_at dksX1_init_0 12 rfl rfl)
theorem dX1_init_14 : decode cX1_init 14 = .ok (.newarray .int, 2) := dk_188_10 (dk_at dksX1_init_0 14 rfl rfl)
theorem dX1_init_16 : decode cX1_init 16 = .ok (.putfield 19, 3) := dk_181 0 19 (dk_at dksX1_init_0 16 rfl rfl)
theorem dX1_init_19 : decode cX1_init 19 = .ok (.aload_n 0, 1) := dk_42 (dk_at dksX1_init_0 19 rfl rfl)
theorem dX1_init_20 : decode cX1_init 20 = .ok (.new 23, 3) := dk_187 0 23 (dk_at dksX1_init_0 20 rfl rfl)
theorem dX1_init_23 : decode cX1_init 23 = .ok (.dup, 1) := dk_89 (dk_at dksX1_init_0 23 rfl rfl)
theorem dX1_init_24 : decode cX1_init 24 = .ok (.invokespecial 25, 3) := dk_183 0 25 (dk_at dksX1_init_1 0 rfl rfl)
theorem dX1_init_27 : decode cX1_init 27 = .ok (.putfield 26, 3) := dk_181 0 26 (dk_at dksX1_init_1 3 rfl rfl)
theorem dX1_init_30 : decode cX1_init 30 = .ok (.aload_n 0, 1) := dk_42 (dk_at dksX1_init_1 6 rfl rfl)
theorem dX1_init_31 : decode cX1_init 31 = .ok (.iconst 3, 1) := dk_6 (dk_at dksX1_init_1 7 rfl rfl)
theorem dX1_init_32 : decode cX1_init 32 = .ok (.anewarray 30, 3) := dk_189 0 30 (dk_at dksX1_init_1 8 rfl rfl)
theorem dX1_init_35 : decode cX1_init 35 = .ok (.putfield 32, 3) := dk_181 0 32 (dk_at dksX1_init_1 11 rfl rfl)
theorem dX1_init_38 : decode cX1_init 38 = .ok (.aload_n 0, 1) := dk_42 (dk_at dksX1_init_1 14 rfl rfl)
theorem dX1_init_39 : decode cX1_init 39 = .ok (.bipush 6, 2) := dk_16 6 (dk_at dksX1_init_1 15 rfl rfl)
theorem dX1_init_41 : decode cX1_init 41 = .ok (.newarray .int, 2) := dk_188_10 (dk_at dksX1_init_1 17 rfl rfl)
theorem dX1_init_43 : decode cX1_init 43 = .ok (.putfield 36, 3) := dk_181 0 36 (dk_at dksX1_init_1 19 rfl rfl)
theorem dX1_init_46 : decode cX1_init 46 = .ok (.aload_n 0, 1) := dk_42 (dk_at dksX1_init_1 22 rfl rfl)
theorem dX1_init_47 : decode cX1_init 47 = .ok (.bipush 6, 2) := dk_16 6 (dk_at dksX1_init_2 0 rfl rfl)
theorem dX1_init_49 : decode cX1_init 49 = .ok (.newarray .int, 2) := dk_188_10 (dk_at dksX1_init_2 2 rfl rfl)
theorem dX1_init_51 : decode cX1_init 51 = .ok (.putfield 39, 3) := dk_181 0 39 (dk_at dksX1_init_2 4 rfl rfl)
theorem dX1_init_54 : decode cX1_init 54 = .ok (.aload_n 0, 1) := dk_42 (dk_at dksX1_init_2 7 rfl rfl)
theorem dX1_init_55 : decode cX1_init 55 = .ok (.bipush 48, 2) := dk_16 48 (dk_at dksX1_init_2 8 rfl rfl)
theorem dX1_init_57 : decode cX1_init 57 = .ok (.iconst 3, 1) := dk_6 (dk_at dksX1_init_2 10 rfl rfl)
theorem dX1_init_58 : decode cX1_init 58 = .ok (.multianewarray 42 2, 4) := by decide +kernel
theorem dX1_init_62 : decode cX1_init 62 = .ok (.putfield 44, 3) := dk_181 0 44 (dk_at dksX1_init_2 15 rfl rfl)
theorem dX1_init_65 : decode cX1_init 65 = .ok (.aload_n 0, 1) := dk_42 (dk_at dksX1_init_2 18 rfl rfl)
theorem dX1_init_66 : decode cX1_init 66 = .ok (.bipush 48, 2) := dk_16 48 (dk_at dksX1_init_2 19 rfl rfl)
theorem dX1_init_68 : decode cX1_init 68 = .ok (.iconst 3, 1) := dk_6 (dk_at dksX1_init_2 21 rfl rfl)
theorem dX1_init_69 : decode cX1_init 69 = .ok (.multianewarray 42 2, 4) := by decide +kernel
theorem dX1_init_73 : decode cX1_init 73 = .ok (.putfield 47, 3) := dk_181 0 47 (dk_at dksX1_init_3 4 rfl rfl)
theorem dX1_init_76 : decode cX1_init 76 = .ok (.aload_n 0, 1) := dk_42 (dk_at dksX1_init_3 7 rfl rfl)
theorem dX1_init_77 : decode cX1_init 77 = .ok (.bipush 48, 2) := dk_16 48 (dk_at dksX1_init_3 8 rfl rfl)
theorem dX1_init_79 : decode cX1_init 79 = .ok (.newarray .int, 2) := dk_188_10 (dk_at dksX1_init_3 10 rfl rfl)
theorem dX1_init_81 : decode cX1_init 81 = .ok (.putfield 50, 3) := dk_181 0 50 (dk_at dksX1_init_3 12 rfl rfl)
theorem dX1_init_84 : decode cX1_init 84 = .ok (.aload_n 0, 1) := dk_42 (dk_at dksX1_init_3 15 rfl rfl)
theorem dX1_init_85 : decode cX1_init 85 = .ok (.bipush 48, 2) := dk_16 48 (dk_at dksX1_init_3 16 rfl rfl)
theorem dX1_init_87 : decode cX1_init 87 = .ok (.newarray .int, 2) := dk_188_10 (dk_at dksX1_init_3 18 rfl rfl)
theorem dX1_init_89 : decode cX1_init 89 = .ok (.putfield 53, 3) := dk_181 0 53 (dk_at dksX1_init_3 20 rfl rfl)
theorem dX1_init_92 : decode cX1_init 92 = .ok (.aload_n 0, 1) := dk_42 (dk_at dksX1_init_3 23 rfl rfl)
theorem dX1_init_93 : decode cX1_init 93 = .ok (.bipush 50, 2) := dk_16 50 (dk_at dksX1_init_4 0 rfl rfl)
theorem dX1_init_95 : decode cX1_init 95 = .ok (.putfield 56, 3) := dk_181 0 56 (dk_at dksX1_init_4 2 rfl rfl)
theorem dX1_init_98 : decode cX1_init 98 = .ok (.iconst 0, 1) := dk_3 (dk_at dksX1_init_4 5 rfl rfl)
theorem dX1_init_99 : decode cX1_init 99 = .ok (.istore_n 1, 1) := dk_60 (dk_at dksX1_init_4 6 rfl rfl)
theorem dX1_init_100 : decode cX1_init 100 = .ok (.iload_n 1, 1) := dk_27 (dk_at dksX1_init_4 7 rfl rfl)
theorem dX1_init_101 : decode cX1_init 101 = .ok (.iconst 3, 1) := dk_6 (dk_at dksX1_init_4 8 rfl rfl)
theorem dX1_init_102 : decode cX1_init 102 = .ok (.if_icmp .ge 24, 3) := dk_162 0 24 (dk_at dksX1_init_4 9 rfl rfl)
theorem dX1_init_105 : decode cX1_init 105 = .ok (.aload_n 0, 1) := dk_42 (dk_at dksX1_init_4 12 rfl rfl)
theorem dX1_init_106 : decode cX1_init 106 = .ok (.getfield 32, 3) := dk_180 0 32 (dk_at dksX1_init_4 13 rfl rfl)
theorem dX1_init_109 : decode cX1_init 109 = .ok (.iload_n 1, 1) := dk_27 (dk_at dksX1_init_4 16 rfl rfl)
theorem dX1_init_110 : decode cX1_init 110 = .ok (.new 30, 3) := dk_187 0 30 (dk_at dksX1_init_4 17 rfl rfl)
theorem dX1_init_113 : decode cX1_init 113 = .ok (.dup, 1) := dk_89 (dk_at dksX1_init_4 20 rfl rfl)
theorem dX1_init_114 : decode cX1_init 114 = .ok (.iload_n 1, 1) := dk_27 (dk_at dksX1_init_4 21 rfl rfl)
theorem dX1_init_115 : decode cX1_init 115 = .ok (.iconst 0, 1) := dk_3 (dk_at dksX1_init_4 22 rfl rfl)
theorem dX1_init_116 : decode cX1_init 116 = .ok (.invokespecial 60, 3) := dk_183 0 60 (dk_at dksX1_init_5 0 rfl rfl)
theorem dX1_init_119 : decode cX1_init 119 = .ok (.aastore, 1) := dk_83 (dk_at dksX1_init_5 3 rfl rfl)
theorem dX1_init_120 : decode cX1_init 120 = .ok (.iinc 1 1, 3) := dk_132 1 1 (dk_at dksX1_init_5 4 rfl rfl)
theorem dX1_init_123 : decode cX1_init 123 = .ok (.goto (-23), 3) := dk_167 255 233 (dk_at dksX1_init_5 7 rfl rfl)
theorem dX1_init_126 : decode cX1_init 126 = .ok (.return_, 1) := dk_177 (dk_at dksX1_init_5 10 rfl rfl)
abbrev cX1_month : ByteArray := prog_1_method_20_code
def yX1_month : MethodName := ⟨RX1, "month", "()I"⟩
theorem dX1_month_0 : decode cX1_month 0 = .ok (.aload_n 0, 1) := by decide +kernel
theorem dX1_month_1 : decode cX1_month 1 = .ok (.getfield 151, 3) := by decide +kernel
theorem dX1_month_4 : decode cX1_month 4 = .ok (.ireturn, 1) := by decide +kernel
abbrev cX1_loans : ByteArray := prog_1_method_21_code
def yX1_loans : MethodName := ⟨RX1, "loans", "()I"⟩
def dkwX1_loans_0 : List UInt8 := [42, 180, 0, 26, 185, 0, 72, 1, 0, 172]
abbrev dktX1_loans_0 : List UInt8 := dkwX1_loans_0 ++ []
theorem dksX1_loans_0 : cX1_loans.data.toList.drop 0 = dktX1_loans_0 := by decide +kernel
theorem dX1_loans_0 : decode cX1_loans 0 = .ok (.aload_n 0, 1) := dk_42 (dk_at dksX1_loans_0 0 rfl rfl)
theorem dX1_loans_1 : decode cX1_loans 1 = .ok (.getfield 26, 3) := dk_180 0 26 (dk_at dksX1_loans_0 1 rfl rfl)
theorem dX1_loans_4 : decode cX1_loans 4 = .ok (.invokeinterface 72 1, 5) := by decide +kernel
theorem dX1_loans_9 : decode cX1_loans 9 = .ok (.ireturn, 1) := dk_172 (dk_at dksX1_loans_0 9 rfl rfl)
abbrev cX1_replicaRate : ByteArray := prog_1_method_27_code
def yX1_replicaRate : MethodName := ⟨RX1, "replicaRate", "()I"⟩
theorem dX1_replicaRate_0 : decode cX1_replicaRate 0 = .ok (.aload_n 0, 1) := by decide +kernel
theorem dX1_replicaRate_1 : decode cX1_replicaRate 1 = .ok (.invokevirtual 158, 3) := by decide +kernel
theorem dX1_replicaRate_4 : decode cX1_replicaRate 4 = .ok (.ireturn, 1) := by decide +kernel
abbrev cX1_replica : ByteArray := prog_1_method_14_code
def yX1_replica : MethodName := ⟨RX1, "replica", "()I"⟩
def dkwX1_replica_2 : List UInt8 := [167, 255, 215, 33, 9, 148, 154, 0, 7, 3, 167, 0, 7, 31, 33, 109, 136, 172]
abbrev dktX1_replica_2 : List UInt8 := dkwX1_replica_2 ++ []
def dkwX1_replica_1 : List UInt8 := [180, 0, 39, 21, 5, 46, 133, 105, 97, 64, 33, 42, 180, 0, 36, 21, 5, 46, 133, 97, 66, 132, 5, 1]
abbrev dktX1_replica_1 : List UInt8 := dkwX1_replica_1 ++ dktX1_replica_2
def dkwX1_replica_0 : List UInt8 := [9, 64, 9, 66, 3, 54, 5, 21, 5, 16, 6, 162, 0, 40, 31, 42, 180, 0, 36, 21, 5, 46, 133, 42]
abbrev dktX1_replica_0 : List UInt8 := dkwX1_replica_0 ++ dktX1_replica_1
theorem dksX1_replica_0 : cX1_replica.data.toList.drop 0 = dktX1_replica_0 := by decide +kernel
theorem dksX1_replica_1 : cX1_replica.data.toList.drop 24 = dktX1_replica_1 := dk_seg dksX1_replica_0 24 rfl rfl
theorem dksX1_replica_2 : cX1_replica.data.toList.drop 48 = dktX1_replica_2 := dk_seg dksX1_replica_1 24 rfl rfl
theorem dX1_replica_0 : decode cX1_replica 0 = .ok (.lconst 0, 1) := dk_9 (dk_at dksX1_replica_0 0 rfl rfl)
theorem dX1_replica_1 : decode cX1_replica 1 = .ok (.lstore_n 1, 1) := dk_64 (dk_at dksX1_replica_0 1 rfl rfl)
theorem dX1_replica_2 : decode cX1_replica 2 = .ok (.lconst 0, 1) := dk_9 (dk_at dksX1_replica_0 2 rfl rfl)
theorem dX1_replica_3 : decode cX1_replica 3 = .ok (.lstore_n 3, 1) := dk_66 (dk_at dksX1_replica_0 3 rfl rfl)
theorem dX1_replica_4 : decode cX1_replica 4 = .ok (.iconst 0, 1) := dk_3 (dk_at dksX1_replica_0 4 rfl rfl)
theorem dX1_replica_5 : decode cX1_replica 5 = .ok (.istore 5, 2) := dk_54 5 (dk_at dksX1_replica_0 5 rfl rfl)
theorem dX1_replica_7 : decode cX1_replica 7 = .ok (.iload 5, 2) := dk_21 5 (dk_at dksX1_replica_0 7 rfl rfl)
theorem dX1_replica_9 : decode cX1_replica 9 = .ok (.bipush 6, 2) := dk_16 6 (dk_at dksX1_replica_0 9 rfl rfl)
theorem dX1_replica_11 : decode cX1_replica 11 = .ok (.if_icmp .ge 40, 3) := dk_162 0 40 (dk_at dksX1_replica_0 11 rfl rfl)
theorem dX1_replica_14 : decode cX1_replica 14 = .ok (.lload_n 1, 1) := dk_31 (dk_at dksX1_replica_0 14 rfl rfl)
theorem dX1_replica_15 : decode cX1_replica 15 = .ok (.aload_n 0, 1) := dk_42 (dk_at dksX1_replica_0 15 rfl rfl)
theorem dX1_replica_16 : decode cX1_replica 16 = .ok (.getfield 36, 3) := dk_180 0 36 (dk_at dksX1_replica_0 16 rfl rfl)
theorem dX1_replica_19 : decode cX1_replica 19 = .ok (.iload 5, 2) := dk_21 5 (dk_at dksX1_replica_0 19 rfl rfl)
theorem dX1_replica_21 : decode cX1_replica 21 = .ok (.iaload, 1) := dk_46 (dk_at dksX1_replica_0 21 rfl rfl)
theorem dX1_replica_22 : decode cX1_replica 22 = .ok (.i2l, 1) := dk_133 (dk_at dksX1_replica_0 22 rfl rfl)
theorem dX1_replica_23 : decode cX1_replica 23 = .ok (.aload_n 0, 1) := dk_42 (dk_at dksX1_replica_0 23 rfl rfl)
theorem dX1_replica_24 : decode cX1_replica 24 = .ok (.getfield 39, 3) := dk_180 0 39 (dk_at dksX1_replica_1 0 rfl rfl)
theorem dX1_replica_27 : decode cX1_replica 27 = .ok (.iload 5, 2) := dk_21 5 (dk_at dksX1_replica_1 3 rfl rfl)
theorem dX1_replica_29 : decode cX1_replica 29 = .ok (.iaload, 1) := dk_46 (dk_at dksX1_replica_1 5 rfl rfl)
theorem dX1_replica_30 : decode cX1_replica 30 = .ok (.i2l, 1) := dk_133 (dk_at dksX1_replica_1 6 rfl rfl)
theorem dX1_replica_31 : decode cX1_replica 31 = .ok (.lmul, 1) := dk_105 (dk_at dksX1_replica_1 7 rfl rfl)
theorem dX1_replica_32 : decode cX1_replica 32 = .ok (.ladd, 1) := dk_97 (dk_at dksX1_replica_1 8 rfl rfl)
theorem dX1_replica_33 : decode cX1_replica 33 = .ok (.lstore_n 1, 1) := dk_64 (dk_at dksX1_replica_1 9 rfl rfl)
theorem dX1_replica_34 : decode cX1_replica 34 = .ok (.lload_n 3, 1) := dk_33 (dk_at dksX1_replica_1 10 rfl rfl)
theorem dX1_replica_35 : decode cX1_replica 35 = .ok (.aload_n 0, 1) := dk_42 (dk_at dksX1_replica_1 11 rfl rfl)
theorem dX1_replica_36 : decode cX1_replica 36 = .ok (.getfield 36, 3) := dk_180 0 36 (dk_at dksX1_replica_1 12 rfl rfl)
theorem dX1_replica_39 : decode cX1_replica 39 = .ok (.iload 5, 2) := dk_21 5 (dk_at dksX1_replica_1 15 rfl rfl)
theorem dX1_replica_41 : decode cX1_replica 41 = .ok (.iaload, 1) := dk_46 (dk_at dksX1_replica_1 17 rfl rfl)
theorem dX1_replica_42 : decode cX1_replica 42 = .ok (.i2l, 1) := dk_133 (dk_at dksX1_replica_1 18 rfl rfl)
theorem dX1_replica_43 : decode cX1_replica 43 = .ok (.ladd, 1) := dk_97 (dk_at dksX1_replica_1 19 rfl rfl)
theorem dX1_replica_44 : decode cX1_replica 44 = .ok (.lstore_n 3, 1) := dk_66 (dk_at dksX1_replica_1 20 rfl rfl)
theorem dX1_replica_45 : decode cX1_replica 45 = .ok (.iinc 5 1, 3) := dk_132 5 1 (dk_at dksX1_replica_1 21 rfl rfl)
theorem dX1_replica_48 : decode cX1_replica 48 = .ok (.goto (-41), 3) := dk_167 255 215 (dk_at dksX1_replica_2 0 rfl rfl)
theorem dX1_replica_51 : decode cX1_replica 51 = .ok (.lload_n 3, 1) := dk_33 (dk_at dksX1_replica_2 3 rfl rfl)
theorem dX1_replica_52 : decode cX1_replica 52 = .ok (.lconst 0, 1) := dk_9 (dk_at dksX1_replica_2 4 rfl rfl)
theorem dX1_replica_53 : decode cX1_replica 53 = .ok (.lcmp, 1) := dk_148 (dk_at dksX1_replica_2 5 rfl rfl)
theorem dX1_replica_54 : decode cX1_replica 54 = .ok (.ifCond .ne 7, 3) := dk_154 0 7 (dk_at dksX1_replica_2 6 rfl rfl)
theorem dX1_replica_57 : decode cX1_replica 57 = .ok (.iconst 0, 1) := dk_3 (dk_at dksX1_replica_2 9 rfl rfl)
theorem dX1_replica_58 : decode cX1_replica 58 = .ok (.goto 7, 3) := dk_167 0 7 (dk_at dksX1_replica_2 10 rfl rfl)
theorem dX1_replica_61 : decode cX1_replica 61 = .ok (.lload_n 1, 1) := dk_31 (dk_at dksX1_replica_2 13 rfl rfl)
theorem dX1_replica_62 : decode cX1_replica 62 = .ok (.lload_n 3, 1) := dk_33 (dk_at dksX1_replica_2 14 rfl rfl)
theorem dX1_replica_63 : decode cX1_replica 63 = .ok (.ldiv, 1) := dk_109 (dk_at dksX1_replica_2 15 rfl rfl)
theorem dX1_replica_64 : decode cX1_replica 64 = .ok (.l2i, 1) := dk_136 (dk_at dksX1_replica_2 16 rfl rfl)
theorem dX1_replica_65 : decode cX1_replica 65 = .ok (.ireturn, 1) := dk_172 (dk_at dksX1_replica_2 17 rfl rfl)
abbrev cX1_setCurve : ByteArray := prog_1_method_7_code
def yX1_setCurve : MethodName := ⟨RX1, "setCurve", "(II)I"⟩
def dkwX1_setCurve_1 : List UInt8 := [4, 100, 46, 62, 42, 180, 0, 19, 27, 4, 100, 28, 79, 29, 172]
abbrev dktX1_setCurve_1 : List UInt8 := dkwX1_setCurve_1 ++ []
def dkwX1_setCurve_0 : List UInt8 := [27, 4, 100, 16, 6, 184, 0, 78, 28, 3, 17, 19, 136, 184, 0, 87, 184, 0, 91, 42, 180, 0, 19, 27]
abbrev dktX1_setCurve_0 : List UInt8 := dkwX1_setCurve_0 ++ dktX1_setCurve_1
theorem dksX1_setCurve_0 : cX1_setCurve.data.toList.drop 0 = dktX1_setCurve_0 := by decide +kernel
theorem dksX1_setCurve_1 : cX1_setCurve.data.toList.drop 24 = dktX1_setCurve_1 := dk_seg dksX1_setCurve_0 24 rfl rfl
theorem dX1_setCurve_0 : decode cX1_setCurve 0 = .ok (.iload_n 1, 1) := dk_27 (dk_at dksX1_setCurve_0 0 rfl rfl)
theorem dX1_setCurve_1 : decode cX1_setCurve 1 = .ok (.iconst 1, 1) := dk_4 (dk_at dksX1_setCurve_0 1 rfl rfl)
theorem dX1_setCurve_2 : decode cX1_setCurve 2 = .ok (.isub, 1) := dk_100 (dk_at dksX1_setCurve_0 2 rfl rfl)
theorem dX1_setCurve_3 : decode cX1_setCurve 3 = .ok (.bipush 6, 2) := dk_16 6 (dk_at dksX1_setCurve_0 3 rfl rfl)
theorem dX1_setCurve_5 : decode cX1_setCurve 5 = .ok (.invokestatic 78, 3) := dk_184 0 78 (dk_at dksX1_setCurve_0 5 rfl rfl)
theorem dX1_setCurve_8 : decode cX1_setCurve 8 = .ok (.iload_n 2, 1) := dk_28 (dk_at dksX1_setCurve_0 8 rfl rfl)
theorem dX1_setCurve_9 : decode cX1_setCurve 9 = .ok (.iconst 0, 1) := dk_3 (dk_at dksX1_setCurve_0 9 rfl rfl)
theorem dX1_setCurve_10 : decode cX1_setCurve 10 = .ok (.sipush 5000, 3) := dk_17 19 136 (dk_at dksX1_setCurve_0 10 rfl rfl)
theorem dX1_setCurve_13 : decode cX1_setCurve 13 = .ok (.invokestatic 87, 3) := dk_184 0 87 (dk_at dksX1_setCurve_0 13 rfl rfl)
theorem dX1_setCurve_16 : decode cX1_setCurve 16 = .ok (.invokestatic 91, 3) := dk_184 0 91 (dk_at dksX1_setCurve_0 16 rfl rfl)
theorem dX1_setCurve_19 : decode cX1_setCurve 19 = .ok (.aload_n 0, 1) := dk_42 (dk_at dksX1_setCurve_0 19 rfl rfl)
theorem dX1_setCurve_20 : decode cX1_setCurve 20 = .ok (.getfield 19, 3) := dk_180 0 19 (dk_at dksX1_setCurve_0 20 rfl rfl)
theorem dX1_setCurve_23 : decode cX1_setCurve 23 = .ok (.iload_n 1, 1) := dk_27 (dk_at dksX1_setCurve_0 23 rfl rfl)
theorem dX1_setCurve_24 : decode cX1_setCurve 24 = .ok (.iconst 1, 1) := dk_4 (dk_at dksX1_setCurve_1 0 rfl rfl)
theorem dX1_setCurve_25 : decode cX1_setCurve 25 = .ok (.isub, 1) := dk_100 (dk_at dksX1_setCurve_1 1 rfl rfl)
theorem dX1_setCurve_26 : decode cX1_setCurve 26 = .ok (.iaload, 1) := dk_46 (dk_at dksX1_setCurve_1 2 rfl rfl)
theorem dX1_setCurve_27 : decode cX1_setCurve 27 = .ok (.istore_n 3, 1) := dk_62 (dk_at dksX1_setCurve_1 3 rfl rfl)
theorem dX1_setCurve_28 : decode cX1_setCurve 28 = .ok (.aload_n 0, 1) := dk_42 (dk_at dksX1_setCurve_1 4 rfl rfl)
theorem dX1_setCurve_29 : decode cX1_setCurve 29 = .ok (.getfield 19, 3) := dk_180 0 19 (dk_at dksX1_setCurve_1 5 rfl rfl)
theorem dX1_setCurve_32 : decode cX1_setCurve 32 = .ok (.iload_n 1, 1) := dk_27 (dk_at dksX1_setCurve_1 8 rfl rfl)
theorem dX1_setCurve_33 : decode cX1_setCurve 33 = .ok (.iconst 1, 1) := dk_4 (dk_at dksX1_setCurve_1 9 rfl rfl)
theorem dX1_setCurve_34 : decode cX1_setCurve 34 = .ok (.isub, 1) := dk_100 (dk_at dksX1_setCurve_1 10 rfl rfl)
theorem dX1_setCurve_35 : decode cX1_setCurve 35 = .ok (.iload_n 2, 1) := dk_28 (dk_at dksX1_setCurve_1 11 rfl rfl)
theorem dX1_setCurve_36 : decode cX1_setCurve 36 = .ok (.iastore, 1) := dk_79 (dk_at dksX1_setCurve_1 12 rfl rfl)
theorem dX1_setCurve_37 : decode cX1_setCurve 37 = .ok (.iload_n 3, 1) := dk_29 (dk_at dksX1_setCurve_1 13 rfl rfl)
theorem dX1_setCurve_38 : decode cX1_setCurve 38 = .ok (.ireturn, 1) := dk_172 (dk_at dksX1_setCurve_1 14 rfl rfl)
abbrev cX1_exists : ByteArray := prog_1_method_4_code
def yX1_exists : MethodName := ⟨RX1, "exists", "(II)V"⟩
def dkwX1_exists_0 : List UInt8 := [26, 155, 0, 8, 26, 27, 161, 0, 11, 187, 0, 69, 89, 183, 0, 71, 191, 177]
abbrev dktX1_exists_0 : List UInt8 := dkwX1_exists_0 ++ []
theorem dksX1_exists_0 : cX1_exists.data.toList.drop 0 = dktX1_exists_0 := by decide +kernel
theorem dX1_exists_0 : decode cX1_exists 0 = .ok (.iload_n 0, 1) := dk_26 (dk_at dksX1_exists_0 0 rfl rfl)
theorem dX1_exists_1 : decode cX1_exists 1 = .ok (.ifCond .lt 8, 3) := dk_155 0 8 (dk_at dksX1_exists_0 1 rfl rfl)
theorem dX1_exists_4 : decode cX1_exists 4 = .ok (.iload_n 0, 1) := dk_26 (dk_at dksX1_exists_0 4 rfl rfl)
theorem dX1_exists_5 : decode cX1_exists 5 = .ok (.iload_n 1, 1) := dk_27 (dk_at dksX1_exists_0 5 rfl rfl)
theorem dX1_exists_6 : decode cX1_exists 6 = .ok (.if_icmp .lt 11, 3) := dk_161 0 11 (dk_at dksX1_exists_0 6 rfl rfl)
theorem dX1_exists_9 : decode cX1_exists 9 = .ok (.new 69, 3) := dk_187 0 69 (dk_at dksX1_exists_0 9 rfl rfl)
theorem dX1_exists_12 : decode cX1_exists 12 = .ok (.dup, 1) := dk_89 (dk_at dksX1_exists_0 12 rfl rfl)
theorem dX1_exists_13 : decode cX1_exists 13 = .ok (.invokespecial 71, 3) := dk_183 0 71 (dk_at dksX1_exists_0 13 rfl rfl)
theorem dX1_exists_16 : decode cX1_exists 16 = .ok (.athrow, 1) := dk_191 (dk_at dksX1_exists_0 16 rfl rfl)
theorem dX1_exists_17 : decode cX1_exists 17 = .ok (.return_, 1) := dk_177 (dk_at dksX1_exists_0 17 rfl rfl)
abbrev cX1_isIn : ByteArray := prog_1_method_5_code
def yX1_isIn : MethodName := ⟨RX1, "isIn", "(III)Z"⟩
def dkwX1_isIn_0 : List UInt8 := [26, 27, 161, 0, 12, 26, 28, 163, 0, 7, 4, 167, 0, 4, 3, 172]
abbrev dktX1_isIn_0 : List UInt8 := dkwX1_isIn_0 ++ []
theorem dksX1_isIn_0 : cX1_isIn.data.toList.drop 0 = dktX1_isIn_0 := by decide +kernel
theorem dX1_isIn_0 : decode cX1_isIn 0 = .ok (.iload_n 0, 1) := dk_26 (dk_at dksX1_isIn_0 0 rfl rfl)
theorem dX1_isIn_1 : decode cX1_isIn 1 = .ok (.iload_n 1, 1) := dk_27 (dk_at dksX1_isIn_0 1 rfl rfl)
theorem dX1_isIn_2 : decode cX1_isIn 2 = .ok (.if_icmp .lt 12, 3) := dk_161 0 12 (dk_at dksX1_isIn_0 2 rfl rfl)
theorem dX1_isIn_5 : decode cX1_isIn 5 = .ok (.iload_n 0, 1) := dk_26 (dk_at dksX1_isIn_0 5 rfl rfl)
theorem dX1_isIn_6 : decode cX1_isIn 6 = .ok (.iload_n 2, 1) := dk_28 (dk_at dksX1_isIn_0 6 rfl rfl)
theorem dX1_isIn_7 : decode cX1_isIn 7 = .ok (.if_icmp .gt 7, 3) := dk_163 0 7 (dk_at dksX1_isIn_0 7 rfl rfl)
theorem dX1_isIn_10 : decode cX1_isIn 10 = .ok (.iconst 1, 1) := dk_4 (dk_at dksX1_isIn_0 10 rfl rfl)
theorem dX1_isIn_11 : decode cX1_isIn 11 = .ok (.goto 4, 3) := dk_167 0 4 (dk_at dksX1_isIn_0 11 rfl rfl)
theorem dX1_isIn_14 : decode cX1_isIn 14 = .ok (.iconst 0, 1) := dk_3 (dk_at dksX1_isIn_0 14 rfl rfl)
theorem dX1_isIn_15 : decode cX1_isIn 15 = .ok (.ireturn, 1) := dk_172 (dk_at dksX1_isIn_0 15 rfl rfl)
abbrev cX1_want : ByteArray := prog_1_method_2_code
def yX1_want : MethodName := ⟨RX1, "want", "(Z)V"⟩
def dkwX1_want_0 : List UInt8 := [26, 154, 0, 11, 187, 0, 63, 89, 183, 0, 65, 191, 177]
abbrev dktX1_want_0 : List UInt8 := dkwX1_want_0 ++ []
theorem dksX1_want_0 : cX1_want.data.toList.drop 0 = dktX1_want_0 := by decide +kernel
theorem dX1_want_0 : decode cX1_want 0 = .ok (.iload_n 0, 1) := dk_26 (dk_at dksX1_want_0 0 rfl rfl)
theorem dX1_want_1 : decode cX1_want 1 = .ok (.ifCond .ne 11, 3) := dk_154 0 11 (dk_at dksX1_want_0 1 rfl rfl)
theorem dX1_want_4 : decode cX1_want 4 = .ok (.new 63, 3) := dk_187 0 63 (dk_at dksX1_want_0 4 rfl rfl)
theorem dX1_want_7 : decode cX1_want 7 = .ok (.dup, 1) := dk_89 (dk_at dksX1_want_0 7 rfl rfl)
theorem dX1_want_8 : decode cX1_want 8 = .ok (.invokespecial 65, 3) := dk_183 0 65 (dk_at dksX1_want_0 8 rfl rfl)
theorem dX1_want_11 : decode cX1_want 11 = .ok (.athrow, 1) := dk_191 (dk_at dksX1_want_0 11 rfl rfl)
theorem dX1_want_12 : decode cX1_want 12 = .ok (.return_, 1) := dk_177 (dk_at dksX1_want_0 12 rfl rfl)
abbrev cX1_setRates : ByteArray := prog_1_method_8_code
def yX1_setRates : MethodName := ⟨RX1, "setRates", "(III)V"⟩
def dkwX1_setRates_2 : List UInt8 := [181, 0, 98, 42, 29, 181, 0, 56, 177]
abbrev dktX1_setRates_2 : List UInt8 := dkwX1_setRates_2 ++ []
def dkwX1_setRates_1 : List UInt8 := [16, 100, 184, 0, 87, 153, 0, 7, 4, 167, 0, 4, 3, 184, 0, 91, 42, 27, 181, 0, 95, 42, 28]
abbrev dktX1_setRates_1 : List UInt8 := dkwX1_setRates_1 ++ dktX1_setRates_2
def dkwX1_setRates_0 : List UInt8 := [27, 3, 17, 19, 136, 184, 0, 87, 153, 0, 28, 28, 3, 17, 19, 136, 184, 0, 87, 153, 0, 17, 29, 3]
abbrev dktX1_setRates_0 : List UInt8 := dkwX1_setRates_0 ++ dktX1_setRates_1
theorem dksX1_setRates_0 : cX1_setRates.data.toList.drop 0 = dktX1_setRates_0 := by decide +kernel
theorem dksX1_setRates_1 : cX1_setRates.data.toList.drop 24 = dktX1_setRates_1 := dk_seg dksX1_setRates_0 24 rfl rfl
theorem dksX1_setRates_2 : cX1_setRates.data.toList.drop 47 = dktX1_setRates_2 := dk_seg dksX1_setRates_1 23 rfl rfl
theorem dX1_setRates_0 : decode cX1_setRates 0 = .ok (.iload_n 1, 1) := dk_27 (dk_at dksX1_setRates_0 0 rfl rfl)
theorem dX1_setRates_1 : decode cX1_setRates 1 = .ok (.iconst 0, 1) := dk_3 (dk_at dksX1_setRates_0 1 rfl rfl)
theorem dX1_setRates_2 : decode cX1_setRates 2 = .ok (.sipush 5000, 3) := dk_17 19 136 (dk_at dksX1_setRates_0 2 rfl rfl)
theorem dX1_setRates_5 : decode cX1_setRates 5 = .ok (.invokestatic 87, 3) := dk_184 0 87 (dk_at dksX1_setRates_0 5 rfl rfl)
theorem dX1_setRates_8 : decode cX1_setRates 8 = .ok (.ifCond .eq 28, 3) := dk_153 0 28 (dk_at dksX1_setRates_0 8 rfl rfl)
theorem dX1_setRates_11 : decode cX1_setRates 11 = .ok (.iload_n 2, 1) := dk_28 (dk_at dksX1_setRates_0 11 rfl rfl)
theorem dX1_setRates_12 : decode cX1_setRates 12 = .ok (.iconst 0, 1) := dk_3 (dk_at dksX1_setRates_0 12 rfl rfl)
theorem dX1_setRates_13 : decode cX1_setRates 13 = .ok (.sipush 5000, 3) := dk_17 19 136 (dk_at dksX1_setRates_0 13 rfl rfl)
theorem dX1_setRates_16 : decode cX1_setRates 16 = .ok (.invokestatic 87, 3) := dk_184 0 87 (dk_at dksX1_setRates_0 16 rfl rfl)
theorem dX1_setRates_19 : decode cX1_setRates 19 = .ok (.ifCond .eq 17, 3) := dk_153 0 17 (dk_at dksX1_setRates_0 19 rfl rfl)
theorem dX1_setRates_22 : decode cX1_setRates 22 = .ok (.iload_n 3, 1) := dk_29 (dk_at dksX1_setRates_0 22 rfl rfl)
theorem dX1_setRates_23 : decode cX1_setRates 23 = .ok (.iconst 0, 1) := dk_3 (dk_at dksX1_setRates_0 23 rfl rfl)
theorem dX1_setRates_24 : decode cX1_setRates 24 = .ok (.bipush 100, 2) := dk_16 100 (dk_at dksX1_setRates_1 0 rfl rfl)
theorem dX1_setRates_26 : decode cX1_setRates 26 = .ok (.invokestatic 87, 3) := dk_184 0 87 (dk_at dksX1_setRates_1 2 rfl rfl)
theorem dX1_setRates_29 : decode cX1_setRates 29 = .ok (.ifCond .eq 7, 3) := dk_153 0 7 (dk_at dksX1_setRates_1 5 rfl rfl)
theorem dX1_setRates_32 : decode cX1_setRates 32 = .ok (.iconst 1, 1) := dk_4 (dk_at dksX1_setRates_1 8 rfl rfl)
theorem dX1_setRates_33 : decode cX1_setRates 33 = .ok (.goto 4, 3) := dk_167 0 4 (dk_at dksX1_setRates_1 9 rfl rfl)
theorem dX1_setRates_36 : decode cX1_setRates 36 = .ok (.iconst 0, 1) := dk_3 (dk_at dksX1_setRates_1 12 rfl rfl)
theorem dX1_setRates_37 : decode cX1_setRates 37 = .ok (.invokestatic 91, 3) := dk_184 0 91 (dk_at dksX1_setRates_1 13 rfl rfl)
theorem dX1_setRates_40 : decode cX1_setRates 40 = .ok (.aload_n 0, 1) := dk_42 (dk_at dksX1_setRates_1 16 rfl rfl)
theorem dX1_setRates_41 : decode cX1_setRates 41 = .ok (.iload_n 1, 1) := dk_27 (dk_at dksX1_setRates_1 17 rfl rfl)
theorem dX1_setRates_42 : decode cX1_setRates 42 = .ok (.putfield 95, 3) := dk_181 0 95 (dk_at dksX1_setRates_1 18 rfl rfl)
theorem dX1_setRates_45 : decode cX1_setRates 45 = .ok (.aload_n 0, 1) := dk_42 (dk_at dksX1_setRates_1 21 rfl rfl)
theorem dX1_setRates_46 : decode cX1_setRates 46 = .ok (.iload_n 2, 1) := dk_28 (dk_at dksX1_setRates_1 22 rfl rfl)
theorem dX1_setRates_47 : decode cX1_setRates 47 = .ok (.putfield 98, 3) := dk_181 0 98 (dk_at dksX1_setRates_2 0 rfl rfl)
theorem dX1_setRates_50 : decode cX1_setRates 50 = .ok (.aload_n 0, 1) := dk_42 (dk_at dksX1_setRates_2 3 rfl rfl)
theorem dX1_setRates_51 : decode cX1_setRates 51 = .ok (.iload_n 3, 1) := dk_29 (dk_at dksX1_setRates_2 4 rfl rfl)
theorem dX1_setRates_52 : decode cX1_setRates 52 = .ok (.putfield 56, 3) := dk_181 0 56 (dk_at dksX1_setRates_2 5 rfl rfl)
theorem dX1_setRates_55 : decode cX1_setRates 55 = .ok (.return_, 1) := dk_177 (dk_at dksX1_setRates_2 8 rfl rfl)
abbrev cX1_lend : ByteArray := prog_1_method_9_code
def yX1_lend : MethodName := ⟨RX1, "lend", "(IIIIIZ)I"⟩
def dkwX1_lend_8 : List UInt8 := [185, 0, 113, 2, 0, 87, 42, 180, 0, 26, 185, 0, 72, 1, 0, 4, 100, 172]
abbrev dktX1_lend_8 : List UInt8 := dkwX1_lend_8 ++ []
def dkwX1_lend_7 : List UInt8 := [153, 0, 10, 42, 180, 0, 98, 167, 0, 4, 3, 21, 6, 25, 7, 25, 8, 183, 0, 107, 183, 0, 110]
abbrev dktX1_lend_7 : List UInt8 := dkwX1_lend_7 ++ dktX1_lend_8
def dkwX1_lend_6 : List UInt8 := [132, 9, 1, 167, 255, 202, 42, 180, 0, 26, 187, 0, 85, 89, 187, 0, 105, 89, 27, 28, 21, 4, 21, 6]
abbrev dktX1_lend_6 : List UInt8 := dkwX1_lend_6 ++ dktX1_lend_7
def dkwX1_lend_5 : List UInt8 := [29, 21, 5, 108, 21, 5, 4, 100, 104, 100, 79, 25, 8, 21, 9, 42, 180, 0, 19, 21, 9, 46, 79]
abbrev dktX1_lend_5 : List UInt8 := dkwX1_lend_5 ++ dktX1_lend_6
def dkwX1_lend_4 : List UInt8 := [162, 0, 53, 25, 7, 21, 9, 21, 9, 21, 5, 4, 100, 162, 0, 10, 29, 21, 5, 108, 167, 0, 14, 29]
abbrev dktX1_lend_4 : List UInt8 := dkwX1_lend_4 ++ dktX1_lend_5
def dkwX1_lend_3 : List UInt8 := [184, 0, 102, 21, 5, 188, 10, 58, 7, 21, 5, 188, 10, 58, 8, 3, 54, 9, 21, 9, 21, 5]
abbrev dktX1_lend_3 : List UInt8 := dkwX1_lend_3 ++ dktX1_lend_4
def dkwX1_lend_2 : List UInt8 := [3, 184, 0, 91, 42, 180, 0, 26, 185, 0, 72, 1, 0, 16, 24, 162, 0, 7, 4, 167, 0, 4, 3]
abbrev dktX1_lend_2 : List UInt8 := dkwX1_lend_2 ++ dktX1_lend_3
def dkwX1_lend_1 : List UInt8 := [17, 19, 136, 184, 0, 87, 153, 0, 18, 21, 5, 4, 16, 6, 184, 0, 87, 153, 0, 7, 4, 167, 0, 4]
abbrev dktX1_lend_1 : List UInt8 := dkwX1_lend_1 ++ dktX1_lend_2
def dkwX1_lend_0 : List UInt8 := [27, 6, 184, 0, 78, 28, 6, 184, 0, 78, 29, 4, 18, 101, 184, 0, 87, 153, 0, 30, 21, 4, 3]
abbrev dktX1_lend_0 : List UInt8 := dkwX1_lend_0 ++ dktX1_lend_1
theorem dksX1_lend_0 : cX1_lend.data.toList.drop 0 = dktX1_lend_0 := by decide +kernel
theorem dksX1_lend_1 : cX1_lend.data.toList.drop 23 = dktX1_lend_1 := dk_seg dksX1_lend_0 23 rfl rfl
theorem dksX1_lend_2 : cX1_lend.data.toList.drop 47 = dktX1_lend_2 := dk_seg dksX1_lend_1 24 rfl rfl
theorem dksX1_lend_3 : cX1_lend.data.toList.drop 70 = dktX1_lend_3 := dk_seg dksX1_lend_2 23 rfl rfl
theorem dksX1_lend_4 : cX1_lend.data.toList.drop 92 = dktX1_lend_4 := dk_seg dksX1_lend_3 22 rfl rfl
theorem dksX1_lend_5 : cX1_lend.data.toList.drop 116 = dktX1_lend_5 := dk_seg dksX1_lend_4 24 rfl rfl
theorem dksX1_lend_6 : cX1_lend.data.toList.drop 139 = dktX1_lend_6 := dk_seg dksX1_lend_5 23 rfl rfl
theorem dksX1_lend_7 : cX1_lend.data.toList.drop 163 = dktX1_lend_7 := dk_seg dksX1_lend_6 24 rfl rfl
theorem dksX1_lend_8 : cX1_lend.data.toList.drop 186 = dktX1_lend_8 := dk_seg dksX1_lend_7 23 rfl rfl
theorem dX1_lend_0 : decode cX1_lend 0 = .ok (.iload_n 1, 1) := dk_27 (dk_at dksX1_lend_0 0 rfl rfl)
theorem dX1_lend_1 : decode cX1_lend 1 = .ok (.iconst 3, 1) := dk_6 (dk_at dksX1_lend_0 1 rfl rfl)
theorem dX1_lend_2 : decode cX1_lend 2 = .ok (.invokestatic 78, 3) := dk_184 0 78 (dk_at dksX1_lend_0 2 rfl rfl)
theorem dX1_lend_5 : decode cX1_lend 5 = .ok (.iload_n 2, 1) := dk_28 (dk_at dksX1_lend_0 5 rfl rfl)
theorem dX1_lend_6 : decode cX1_lend 6 = .ok (.iconst 3, 1) := dk_6 (dk_at dksX1_lend_0 6 rfl rfl)
theorem dX1_lend_7 : decode cX1_lend 7 = .ok (.invokestatic 78, 3) := dk_184 0 78 (dk_at dksX1_lend_0 7 rfl rfl)
theorem dX1_lend_10 : decode cX1_lend 10 = .ok (.iload_n 3, 1) := dk_29 (dk_at dksX1_lend_0 10 rfl rfl)
theorem dX1_lend_11 : decode cX1_lend 11 = .ok (.iconst 1, 1) := dk_4 (dk_at dksX1_lend_0 11 rfl rfl)
theorem dX1_lend_12 : decode cX1_lend 12 = .ok (.ldc 101, 2) := dk_18 101 (dk_at dksX1_lend_0 12 rfl rfl)
theorem dX1_lend_14 : decode cX1_lend 14 = .ok (.invokestatic 87, 3) := dk_184 0 87 (dk_at dksX1_lend_0 14 rfl rfl)
theorem dX1_lend_17 : decode cX1_lend 17 = .ok (.ifCond .eq 30, 3) := dk_153 0 30 (dk_at dksX1_lend_0 17 rfl rfl)
theorem dX1_lend_20 : decode cX1_lend 20 = .ok (.iload 4, 2) := dk_21 4 (dk_at dksX1_lend_0 20 rfl rfl)
theorem dX1_lend_22 : decode cX1_lend 22 = .ok (.iconst 0, 1) := dk_3 (dk_at dksX1_lend_0 22 rfl rfl)
theorem dX1_lend_23 : decode cX1_lend 23 = .ok (.sipush 5000, 3) := dk_17 19 136 (dk_at dksX1_lend_1 0 rfl rfl)
theorem dX1_lend_26 : decode cX1_lend 26 = .ok (.invokestatic 87, 3) := dk_184 0 87 (dk_at dksX1_lend_1 3 rfl rfl)
theorem dX1_lend_29 : decode cX1_lend 29 = .ok (.ifCond .eq 18, 3) := dk_153 0 18 (dk_at dksX1_lend_1 6 rfl rfl)
theorem dX1_lend_32 : decode cX1_lend 32 = .ok (.iload 5, 2) := dk_21 5 (dk_at dksX1_lend_1 9 rfl rfl)
theorem dX1_lend_34 : decode cX1_lend 34 = .ok (.iconst 1, 1) := dk_4 (dk_at dksX1_lend_1 11 rfl rfl)
theorem dX1_lend_35 : decode cX1_lend 35 = .ok (.bipush 6, 2) := dk_16 6 (dk_at dksX1_lend_1 12 rfl rfl)
theorem dX1_lend_37 : decode cX1_lend 37 = .ok (.invokestatic 87, 3) := dk_184 0 87 (dk_at dksX1_lend_1 14 rfl rfl)
theorem dX1_lend_40 : decode cX1_lend 40 = .ok (.ifCond .eq 7, 3) := dk_153 0 7 (dk_at dksX1_lend_1 17 rfl rfl)
theorem dX1_lend_43 : decode cX1_lend 43 = .ok (.iconst 1, 1) := dk_4 (dk_at dksX1_lend_1 20 rfl rfl)
theorem dX1_lend_44 : decode cX1_lend 44 = .ok (.goto 4, 3) := dk_167 0 4 (dk_at dksX1_lend_1 21 rfl rfl)
theorem dX1_lend_47 : decode cX1_lend 47 = .ok (.iconst 0, 1) := dk_3 (dk_at dksX1_lend_2 0 rfl rfl)
theorem dX1_lend_48 : decode cX1_lend 48 = .ok (.invokestatic 91, 3) := dk_184 0 91 (dk_at dksX1_lend_2 1 rfl rfl)
theorem dX1_lend_51 : decode cX1_lend 51 = .ok (.aload_n 0, 1) := dk_42 (dk_at dksX1_lend_2 4 rfl rfl)
theorem dX1_lend_52 : decode cX1_lend 52 = .ok (.getfield 26, 3) := dk_180 0 26 (dk_at dksX1_lend_2 5 rfl rfl)
theorem dX1_lend_55 : decode cX1_lend 55 = .ok (.invokeinterface 72 1, 5) := by decide +kernel
theorem dX1_lend_60 : decode cX1_lend 60 = .ok (.bipush 24, 2) := dk_16 24 (dk_at dksX1_lend_2 13 rfl rfl)
theorem dX1_lend_62 : decode cX1_lend 62 = .ok (.if_icmp .ge 7, 3) := dk_162 0 7 (dk_at dksX1_lend_2 15 rfl rfl)
theorem dX1_lend_65 : decode cX1_lend 65 = .ok (.iconst 1, 1) := dk_4 (dk_at dksX1_lend_2 18 rfl rfl)
theorem dX1_lend_66 : decode cX1_lend 66 = .ok (.goto 4, 3) := dk_167 0 4 (dk_at dksX1_lend_2 19 rfl rfl)
theorem dX1_lend_69 : decode cX1_lend 69 = .ok (.iconst 0, 1) := dk_3 (dk_at dksX1_lend_2 22 rfl rfl)
theorem dX1_lend_70 : decode cX1_lend 70 = .ok (.invokestatic 102, 3) := dk_184 0 102 (dk_at dksX1_lend_3 0 rfl rfl)
theorem dX1_lend_73 : decode cX1_lend 73 = .ok (.iload 5, 2) := dk_21 5 (dk_at dksX1_lend_3 3 rfl rfl)
theorem dX1_lend_75 : decode cX1_lend 75 = .ok (.newarray .int, 2) := dk_188_10 (dk_at dksX1_lend_3 5 rfl rfl)
theorem dX1_lend_77 : decode cX1_lend 77 = .ok (.astore 7, 2) := dk_58 7 (dk_at dksX1_lend_3 7 rfl rfl)
theorem dX1_lend_79 : decode cX1_lend 79 = .ok (.iload 5, 2) := dk_21 5 (dk_at dksX1_lend_3 9 rfl rfl)
theorem dX1_lend_81 : decode cX1_lend 81 = .ok (.newarray .int, 2) := dk_188_10 (dk_at dksX1_lend_3 11 rfl rfl)
theorem dX1_lend_83 : decode cX1_lend 83 = .ok (.astore 8, 2) := dk_58 8 (dk_at dksX1_lend_3 13 rfl rfl)
theorem dX1_lend_85 : decode cX1_lend 85 = .ok (.iconst 0, 1) := dk_3 (dk_at dksX1_lend_3 15 rfl rfl)
theorem dX1_lend_86 : decode cX1_lend 86 = .ok (.istore 9, 2) := dk_54 9 (dk_at dksX1_lend_3 16 rfl rfl)
theorem dX1_lend_88 : decode cX1_lend 88 = .ok (.iload 9, 2) := dk_21 9 (dk_at dksX1_lend_3 18 rfl rfl)
theorem dX1_lend_90 : decode cX1_lend 90 = .ok (.iload 5, 2) := dk_21 5 (dk_at dksX1_lend_3 20 rfl rfl)
theorem dX1_lend_92 : decode cX1_lend 92 = .ok (.if_icmp .ge 53, 3) := dk_162 0 53 (dk_at dksX1_lend_4 0 rfl rfl)
theorem dX1_lend_95 : decode cX1_lend 95 = .ok (.aload 7, 2) := dk_25 7 (dk_at dksX1_lend_4 3 rfl rfl)
theorem dX1_lend_97 : decode cX1_lend 97 = .ok (.iload 9, 2) := dk_21 9 (dk_at dksX1_lend_4 5 rfl rfl)
theorem dX1_lend_99 : decode cX1_lend 99 = .ok (.iload 9, 2) := dk_21 9 (dk_at dksX1_lend_4 7 rfl rfl)
theorem dX1_lend_101 : decode cX1_lend 101 = .ok (.iload 5, 2) := dk_21 5 (dk_at dksX1_lend_4 9 rfl rfl)
theorem dX1_lend_103 : decode cX1_lend 103 = .ok (.iconst 1, 1) := dk_4 (dk_at dksX1_lend_4 11 rfl rfl)
theorem dX1_lend_104 : decode cX1_lend 104 = .ok (.isub, 1) := dk_100 (dk_at dksX1_lend_4 12 rfl rfl)
theorem dX1_lend_105 : decode cX1_lend 105 = .ok (.if_icmp .ge 10, 3) := dk_162 0 10 (dk_at dksX1_lend_4 13 rfl rfl)
theorem dX1_lend_108 : decode cX1_lend 108 = .ok (.iload_n 3, 1) := dk_29 (dk_at dksX1_lend_4 16 rfl rfl)
theorem dX1_lend_109 : decode cX1_lend 109 = .ok (.iload 5, 2) := dk_21 5 (dk_at dksX1_lend_4 17 rfl rfl)
theorem dX1_lend_111 : decode cX1_lend 111 = .ok (.idiv, 1) := dk_108 (dk_at dksX1_lend_4 19 rfl rfl)
theorem dX1_lend_112 : decode cX1_lend 112 = .ok (.goto 14, 3) := dk_167 0 14 (dk_at dksX1_lend_4 20 rfl rfl)
theorem dX1_lend_115 : decode cX1_lend 115 = .ok (.iload_n 3, 1) := dk_29 (dk_at dksX1_lend_4 23 rfl rfl)
theorem dX1_lend_116 : decode cX1_lend 116 = .ok (.iload_n 3, 1) := dk_29 (dk_at dksX1_lend_5 0 rfl rfl)
theorem dX1_lend_117 : decode cX1_lend 117 = .ok (.iload 5, 2) := dk_21 5 (dk_at dksX1_lend_5 1 rfl rfl)
theorem dX1_lend_119 : decode cX1_lend 119 = .ok (.idiv, 1) := dk_108 (dk_at dksX1_lend_5 3 rfl rfl)
theorem dX1_lend_120 : decode cX1_lend 120 = .ok (.iload 5, 2) := dk_21 5 (dk_at dksX1_lend_5 4 rfl rfl)
theorem dX1_lend_122 : decode cX1_lend 122 = .ok (.iconst 1, 1) := dk_4 (dk_at dksX1_lend_5 6 rfl rfl)
theorem dX1_lend_123 : decode cX1_lend 123 = .ok (.isub, 1) := dk_100 (dk_at dksX1_lend_5 7 rfl rfl)
theorem dX1_lend_124 : decode cX1_lend 124 = .ok (.imul, 1) := dk_104 (dk_at dksX1_lend_5 8 rfl rfl)
theorem dX1_lend_125 : decode cX1_lend 125 = .ok (.isub, 1) := dk_100 (dk_at dksX1_lend_5 9 rfl rfl)
theorem dX1_lend_126 : decode cX1_lend 126 = .ok (.iastore, 1) := dk_79 (dk_at dksX1_lend_5 10 rfl rfl)
theorem dX1_lend_127 : decode cX1_lend 127 = .ok (.aload 8, 2) := dk_25 8 (dk_at dksX1_lend_5 11 rfl rfl)
theorem dX1_lend_129 : decode cX1_lend 129 = .ok (.iload 9, 2) := dk_21 9 (dk_at dksX1_lend_5 13 rfl rfl)
theorem dX1_lend_131 : decode cX1_lend 131 = .ok (.aload_n 0, 1) := dk_42 (dk_at dksX1_lend_5 15 rfl rfl)
theorem dX1_lend_132 : decode cX1_lend 132 = .ok (.getfield 19, 3) := dk_180 0 19 (dk_at dksX1_lend_5 16 rfl rfl)
theorem dX1_lend_135 : decode cX1_lend 135 = .ok (.iload 9, 2) := dk_21 9 (dk_at dksX1_lend_5 19 rfl rfl)
theorem dX1_lend_137 : decode cX1_lend 137 = .ok (.iaload, 1) := dk_46 (dk_at dksX1_lend_5 21 rfl rfl)
theorem dX1_lend_138 : decode cX1_lend 138 = .ok (.iastore, 1) := dk_79 (dk_at dksX1_lend_5 22 rfl rfl)
theorem dX1_lend_139 : decode cX1_lend 139 = .ok (.iinc 9 1, 3) := dk_132 9 1 (dk_at dksX1_lend_6 0 rfl rfl)
theorem dX1_lend_142 : decode cX1_lend 142 = .ok (.goto (-54), 3) := dk_167 255 202 (dk_at dksX1_lend_6 3 rfl rfl)
theorem dX1_lend_145 : decode cX1_lend 145 = .ok (.aload_n 0, 1) := dk_42 (dk_at dksX1_lend_6 6 rfl rfl)
theorem dX1_lend_146 : decode cX1_lend 146 = .ok (.getfield 26, 3) := dk_180 0 26 (dk_at dksX1_lend_6 7 rfl rfl)
theorem dX1_lend_149 : decode cX1_lend 149 = .ok (.new 85, 3) := dk_187 0 85 (dk_at dksX1_lend_6 10 rfl rfl)
theorem dX1_lend_152 : decode cX1_lend 152 = .ok (.dup, 1) := dk_89 (dk_at dksX1_lend_6 13 rfl rfl)
theorem dX1_lend_153 : decode cX1_lend 153 = .ok (.new 105, 3) := dk_187 0 105 (dk_at dksX1_lend_6 14 rfl rfl)
theorem dX1_lend_156 : decode cX1_lend 156 = .ok (.dup, 1) := dk_89 (dk_at dksX1_lend_6 17 rfl rfl)
theorem dX1_lend_157 : decode cX1_lend 157 = .ok (.iload_n 1, 1) := dk_27 (dk_at dksX1_lend_6 18 rfl rfl)
theorem dX1_lend_158 : decode cX1_lend 158 = .ok (.iload_n 2, 1) := dk_28 (dk_at dksX1_lend_6 19 rfl rfl)
theorem dX1_lend_159 : decode cX1_lend 159 = .ok (.iload 4, 2) := dk_21 4 (dk_at dksX1_lend_6 20 rfl rfl)
theorem dX1_lend_161 : decode cX1_lend 161 = .ok (.iload 6, 2) := dk_21 6 (dk_at dksX1_lend_6 22 rfl rfl)
theorem dX1_lend_163 : decode cX1_lend 163 = .ok (.ifCond .eq 10, 3) := dk_153 0 10 (dk_at dksX1_lend_7 0 rfl rfl)
theorem dX1_lend_166 : decode cX1_lend 166 = .ok (.aload_n 0, 1) := dk_42 (dk_at dksX1_lend_7 3 rfl rfl)
theorem dX1_lend_167 : decode cX1_lend 167 = .ok (.getfield 98, 3) := dk_180 0 98 (dk_at dksX1_lend_7 4 rfl rfl)
theorem dX1_lend_170 : decode cX1_lend 170 = .ok (.goto 4, 3) := dk_167 0 4 (dk_at dksX1_lend_7 7 rfl rfl)
theorem dX1_lend_173 : decode cX1_lend 173 = .ok (.iconst 0, 1) := dk_3 (dk_at dksX1_lend_7 10 rfl rfl)
theorem dX1_lend_174 : decode cX1_lend 174 = .ok (.iload 6, 2) := dk_21 6 (dk_at dksX1_lend_7 11 rfl rfl)
theorem dX1_lend_176 : decode cX1_lend 176 = .ok (.aload 7, 2) := dk_25 7 (dk_at dksX1_lend_7 13 rfl rfl)
theorem dX1_lend_178 : decode cX1_lend 178 = .ok (.aload 8, 2) := dk_25 8 (dk_at dksX1_lend_7 15 rfl rfl)
theorem dX1_lend_180 : decode cX1_lend 180 = .ok (.invokespecial 107, 3) := dk_183 0 107 (dk_at dksX1_lend_7 17 rfl rfl)
theorem dX1_lend_183 : decode cX1_lend 183 = .ok (.invokespecial 110, 3) := dk_183 0 110 (dk_at dksX1_lend_7 20 rfl rfl)
theorem dX1_lend_186 : decode cX1_lend 186 = .ok (.invokeinterface 113 2, 5) := by decide +kernel
theorem dX1_lend_191 : decode cX1_lend 191 = .ok (.pop, 1) := dk_87 (dk_at dksX1_lend_8 5 rfl rfl)
theorem dX1_lend_192 : decode cX1_lend 192 = .ok (.aload_n 0, 1) := dk_42 (dk_at dksX1_lend_8 6 rfl rfl)
theorem dX1_lend_193 : decode cX1_lend 193 = .ok (.getfield 26, 3) := dk_180 0 26 (dk_at dksX1_lend_8 7 rfl rfl)
theorem dX1_lend_196 : decode cX1_lend 196 = .ok (.invokeinterface 72 1, 5) := by decide +kernel
theorem dX1_lend_201 : decode cX1_lend 201 = .ok (.iconst 1, 1) := dk_4 (dk_at dksX1_lend_8 15 rfl rfl)
theorem dX1_lend_202 : decode cX1_lend 202 = .ok (.isub, 1) := dk_100 (dk_at dksX1_lend_8 16 rfl rfl)
theorem dX1_lend_203 : decode cX1_lend 203 = .ok (.ireturn, 1) := dk_172 (dk_at dksX1_lend_8 17 rfl rfl)
abbrev cX1_allow : ByteArray := prog_1_method_3_code
def yX1_allow : MethodName := ⟨RX1, "allow", "(Z)V"⟩
def dkwX1_allow_0 : List UInt8 := [26, 154, 0, 11, 187, 0, 66, 89, 183, 0, 68, 191, 177]
abbrev dktX1_allow_0 : List UInt8 := dkwX1_allow_0 ++ []
theorem dksX1_allow_0 : cX1_allow.data.toList.drop 0 = dktX1_allow_0 := by decide +kernel
theorem dX1_allow_0 : decode cX1_allow 0 = .ok (.iload_n 0, 1) := dk_26 (dk_at dksX1_allow_0 0 rfl rfl)
theorem dX1_allow_1 : decode cX1_allow 1 = .ok (.ifCond .ne 11, 3) := dk_154 0 11 (dk_at dksX1_allow_0 1 rfl rfl)
theorem dX1_allow_4 : decode cX1_allow 4 = .ok (.new 66, 3) := dk_187 0 66 (dk_at dksX1_allow_0 4 rfl rfl)
theorem dX1_allow_7 : decode cX1_allow 7 = .ok (.dup, 1) := dk_89 (dk_at dksX1_allow_0 7 rfl rfl)
theorem dX1_allow_8 : decode cX1_allow 8 = .ok (.invokespecial 68, 3) := dk_183 0 68 (dk_at dksX1_allow_0 8 rfl rfl)
theorem dX1_allow_11 : decode cX1_allow 11 = .ok (.athrow, 1) := dk_191 (dk_at dksX1_allow_0 11 rfl rfl)
theorem dX1_allow_12 : decode cX1_allow 12 = .ok (.return_, 1) := dk_177 (dk_at dksX1_allow_0 12 rfl rfl)
abbrev cX1_repay : ByteArray := prog_1_method_10_code
def yX1_repay : MethodName := ⟨RX1, "repay", "(I)I"⟩
def dkwX1_repay_2 : List UInt8 := [29, 172]
abbrev dktX1_repay_2 : List UInt8 := dkwX1_repay_2 ++ []
def dkwX1_repay_1 : List UInt8 := [167, 0, 4, 3, 184, 0, 102, 44, 182, 0, 132, 62, 44, 44, 180, 0, 121, 182, 0, 135, 190, 181, 0, 139]
abbrev dktX1_repay_1 : List UInt8 := dkwX1_repay_1 ++ dktX1_repay_2
def dkwX1_repay_0 : List UInt8 := [42, 27, 182, 0, 117, 77, 44, 180, 0, 121, 182, 0, 125, 153, 0, 14, 44, 182, 0, 129, 154, 0, 7, 4]
abbrev dktX1_repay_0 : List UInt8 := dkwX1_repay_0 ++ dktX1_repay_1
theorem dksX1_repay_0 : cX1_repay.data.toList.drop 0 = dktX1_repay_0 := by decide +kernel
theorem dksX1_repay_1 : cX1_repay.data.toList.drop 24 = dktX1_repay_1 := dk_seg dksX1_repay_0 24 rfl rfl
theorem dksX1_repay_2 : cX1_repay.data.toList.drop 48 = dktX1_repay_2 := dk_seg dksX1_repay_1 24 rfl rfl
theorem dX1_repay_0 : decode cX1_repay 0 = .ok (.aload_n 0, 1) := dk_42 (dk_at dksX1_repay_0 0 rfl rfl)
theorem dX1_repay_1 : decode cX1_repay 1 = .ok (.iload_n 1, 1) := dk_27 (dk_at dksX1_repay_0 1 rfl rfl)
theorem dX1_repay_2 : decode cX1_repay 2 = .ok (.invokevirtual 117, 3) := dk_182 0 117 (dk_at dksX1_repay_0 2 rfl rfl)
theorem dX1_repay_5 : decode cX1_repay 5 = .ok (.astore_n 2, 1) := dk_77 (dk_at dksX1_repay_0 5 rfl rfl)
theorem dX1_repay_6 : decode cX1_repay 6 = .ok (.aload_n 2, 1) := dk_44 (dk_at dksX1_repay_0 6 rfl rfl)
theorem dX1_repay_7 : decode cX1_repay 7 = .ok (.getfield 121, 3) := dk_180 0 121 (dk_at dksX1_repay_0 7 rfl rfl)
theorem dX1_repay_10 : decode cX1_repay 10 = .ok (.invokevirtual 125, 3) := dk_182 0 125 (dk_at dksX1_repay_0 10 rfl rfl)
theorem dX1_repay_13 : decode cX1_repay 13 = .ok (.ifCond .eq 14, 3) := dk_153 0 14 (dk_at dksX1_repay_0 13 rfl rfl)
theorem dX1_repay_16 : decode cX1_repay 16 = .ok (.aload_n 2, 1) := dk_44 (dk_at dksX1_repay_0 16 rfl rfl)
theorem dX1_repay_17 : decode cX1_repay 17 = .ok (.invokevirtual 129, 3) := dk_182 0 129 (dk_at dksX1_repay_0 17 rfl rfl)
theorem dX1_repay_20 : decode cX1_repay 20 = .ok (.ifCond .ne 7, 3) := dk_154 0 7 (dk_at dksX1_repay_0 20 rfl rfl)
theorem dX1_repay_23 : decode cX1_repay 23 = .ok (.iconst 1, 1) := dk_4 (dk_at dksX1_repay_0 23 rfl rfl)
theorem dX1_repay_24 : decode cX1_repay 24 = .ok (.goto 4, 3) := dk_167 0 4 (dk_at dksX1_repay_1 0 rfl rfl)
theorem dX1_repay_27 : decode cX1_repay 27 = .ok (.iconst 0, 1) := dk_3 (dk_at dksX1_repay_1 3 rfl rfl)
theorem dX1_repay_28 : decode cX1_repay 28 = .ok (.invokestatic 102, 3) := dk_184 0 102 (dk_at dksX1_repay_1 4 rfl rfl)
theorem dX1_repay_31 : decode cX1_repay 31 = .ok (.aload_n 2, 1) := dk_44 (dk_at dksX1_repay_1 7 rfl rfl)
theorem dX1_repay_32 : decode cX1_repay 32 = .ok (.invokevirtual 132, 3) := dk_182 0 132 (dk_at dksX1_repay_1 8 rfl rfl)
theorem dX1_repay_35 : decode cX1_repay 35 = .ok (.istore_n 3, 1) := dk_62 (dk_at dksX1_repay_1 11 rfl rfl)
theorem dX1_repay_36 : decode cX1_repay 36 = .ok (.aload_n 2, 1) := dk_44 (dk_at dksX1_repay_1 12 rfl rfl)
theorem dX1_repay_37 : decode cX1_repay 37 = .ok (.aload_n 2, 1) := dk_44 (dk_at dksX1_repay_1 13 rfl rfl)
theorem dX1_repay_38 : decode cX1_repay 38 = .ok (.getfield 121, 3) := dk_180 0 121 (dk_at dksX1_repay_1 14 rfl rfl)
theorem dX1_repay_41 : decode cX1_repay 41 = .ok (.invokevirtual 135, 3) := dk_182 0 135 (dk_at dksX1_repay_1 17 rfl rfl)
theorem dX1_repay_44 : decode cX1_repay 44 = .ok (.arraylength, 1) := dk_190 (dk_at dksX1_repay_1 20 rfl rfl)
theorem dX1_repay_45 : decode cX1_repay 45 = .ok (.putfield 139, 3) := dk_181 0 139 (dk_at dksX1_repay_1 21 rfl rfl)
theorem dX1_repay_48 : decode cX1_repay 48 = .ok (.iload_n 3, 1) := dk_29 (dk_at dksX1_repay_2 0 rfl rfl)
theorem dX1_repay_49 : decode cX1_repay 49 = .ok (.ireturn, 1) := dk_172 (dk_at dksX1_repay_2 1 rfl rfl)
abbrev cX1_account : ByteArray := prog_1_method_6_code
def yX1_account : MethodName := ⟨RX1, "account", "(I)LFundBook$Account;"⟩
def dkwX1_account_1 : List UInt8 := [192, 0, 85, 176]
abbrev dktX1_account_1 : List UInt8 := dkwX1_account_1 ++ []
def dkwX1_account_0 : List UInt8 := [27, 42, 180, 0, 26, 185, 0, 72, 1, 0, 184, 0, 78, 42, 180, 0, 26, 27, 185, 0, 81, 2, 0]
abbrev dktX1_account_0 : List UInt8 := dkwX1_account_0 ++ dktX1_account_1
theorem dksX1_account_0 : cX1_account.data.toList.drop 0 = dktX1_account_0 := by decide +kernel
theorem dksX1_account_1 : cX1_account.data.toList.drop 23 = dktX1_account_1 := dk_seg dksX1_account_0 23 rfl rfl
theorem dX1_account_0 : decode cX1_account 0 = .ok (.iload_n 1, 1) := dk_27 (dk_at dksX1_account_0 0 rfl rfl)
theorem dX1_account_1 : decode cX1_account 1 = .ok (.aload_n 0, 1) := dk_42 (dk_at dksX1_account_0 1 rfl rfl)
theorem dX1_account_2 : decode cX1_account 2 = .ok (.getfield 26, 3) := dk_180 0 26 (dk_at dksX1_account_0 2 rfl rfl)
theorem dX1_account_5 : decode cX1_account 5 = .ok (.invokeinterface 72 1, 5) := by decide +kernel
theorem dX1_account_10 : decode cX1_account 10 = .ok (.invokestatic 78, 3) := dk_184 0 78 (dk_at dksX1_account_0 10 rfl rfl)
theorem dX1_account_13 : decode cX1_account 13 = .ok (.aload_n 0, 1) := dk_42 (dk_at dksX1_account_0 13 rfl rfl)
theorem dX1_account_14 : decode cX1_account 14 = .ok (.getfield 26, 3) := dk_180 0 26 (dk_at dksX1_account_0 14 rfl rfl)
theorem dX1_account_17 : decode cX1_account 17 = .ok (.iload_n 1, 1) := dk_27 (dk_at dksX1_account_0 17 rfl rfl)
theorem dX1_account_18 : decode cX1_account 18 = .ok (.invokeinterface 81 2, 5) := by decide +kernel
theorem dX1_account_23 : decode cX1_account 23 = .ok (.checkcast 85, 3) := dk_192 0 85 (dk_at dksX1_account_1 0 rfl rfl)
theorem dX1_account_26 : decode cX1_account 26 = .ok (.areturn, 1) := dk_176 (dk_at dksX1_account_1 3 rfl rfl)
abbrev cX1_deposit : ByteArray := prog_1_method_13_code
def yX1_deposit : MethodName := ⟨RX1, "deposit", "(II)I"⟩
def dkwX1_deposit_3 : List UInt8 := [28, 153, 0, 15, 42, 21, 4, 182, 0, 154, 132, 4, 1, 167, 255, 229, 29, 172]
abbrev dktX1_deposit_3 : List UInt8 := dkwX1_deposit_3 ++ []
def dkwX1_deposit_2 : List UInt8 := [89, 27, 29, 183, 0, 60, 83, 3, 54, 4, 21, 4, 16, 6, 162, 0, 26, 42, 180, 0, 151, 154, 0, 19]
abbrev dktX1_deposit_2 : List UInt8 := dkwX1_deposit_2 ++ dktX1_deposit_3
def dkwX1_deposit_1 : List UInt8 := [182, 0, 142, 28, 96, 62, 29, 3, 18, 101, 184, 0, 87, 184, 0, 102, 42, 180, 0, 32, 27, 187, 0, 30]
abbrev dktX1_deposit_1 : List UInt8 := dkwX1_deposit_1 ++ dktX1_deposit_2
def dkwX1_deposit_0 : List UInt8 := [27, 6, 184, 0, 78, 28, 18, 150, 18, 101, 184, 0, 87, 184, 0, 91, 42, 180, 0, 32, 27, 50]
abbrev dktX1_deposit_0 : List UInt8 := dkwX1_deposit_0 ++ dktX1_deposit_1
theorem dksX1_deposit_0 : cX1_deposit.data.toList.drop 0 = dktX1_deposit_0 := by decide +kernel
theorem dksX1_deposit_1 : cX1_deposit.data.toList.drop 22 = dktX1_deposit_1 := dk_seg dksX1_deposit_0 22 rfl rfl
theorem dksX1_deposit_2 : cX1_deposit.data.toList.drop 46 = dktX1_deposit_2 := dk_seg dksX1_deposit_1 24 rfl rfl
theorem dksX1_deposit_3 : cX1_deposit.data.toList.drop 70 = dktX1_deposit_3 := dk_seg dksX1_deposit_2 24 rfl rfl
theorem dX1_deposit_0 : decode cX1_deposit 0 = .ok (.iload_n 1, 1) := dk_27 (dk_at dksX1_deposit_0 0 rfl rfl)
theorem dX1_deposit_1 : decode cX1_deposit 1 = .ok (.iconst 3, 1) := dk_6 (dk_at dksX1_deposit_0 1 rfl rfl)
theorem dX1_deposit_2 : decode cX1_deposit 2 = .ok (.invokestatic 78, 3) := dk_184 0 78 (dk_at dksX1_deposit_0 2 rfl rfl)
theorem dX1_deposit_5 : decode cX1_deposit 5 = .ok (.iload_n 2, 1) := dk_28 (dk_at dksX1_deposit_0 5 rfl rfl)
theorem dX1_deposit_6 : decode cX1_deposit 6 = .ok (.ldc 150, 2) := dk_18 150 (dk_at dksX1_deposit_0 6 rfl rfl)
theorem dX1_deposit_8 : decode cX1_deposit 8 = .ok (.ldc 101, 2) := dk_18 101 (dk_at dksX1_deposit_0 8 rfl rfl)
theorem dX1_deposit_10 : decode cX1_deposit 10 = .ok (.invokestatic 87, 3) := dk_184 0 87 (dk_at dksX1_deposit_0 10 rfl rfl)
theorem dX1_deposit_13 : decode cX1_deposit 13 = .ok (.invokestatic 91, 3) := dk_184 0 91 (dk_at dksX1_deposit_0 13 rfl rfl)
theorem dX1_deposit_16 : decode cX1_deposit 16 = .ok (.aload_n 0, 1) := dk_42 (dk_at dksX1_deposit_0 16 rfl rfl)
theorem dX1_deposit_17 : decode cX1_deposit 17 = .ok (.getfield 32, 3) := dk_180 0 32 (dk_at dksX1_deposit_0 17 rfl rfl)
theorem dX1_deposit_20 : decode cX1_deposit 20 = .ok (.iload_n 1, 1) := dk_27 (dk_at dksX1_deposit_0 20 rfl rfl)
theorem dX1_deposit_21 : decode cX1_deposit 21 = .ok (.aaload, 1) := dk_50 (dk_at dksX1_deposit_0 21 rfl rfl)
theorem dX1_deposit_22 : decode cX1_deposit 22 = .ok (.invokevirtual 142, 3) := dk_182 0 142 (dk_at dksX1_deposit_1 0 rfl rfl)
theorem dX1_deposit_25 : decode cX1_deposit 25 = .ok (.iload_n 2, 1) := dk_28 (dk_at dksX1_deposit_1 3 rfl rfl)
theorem dX1_deposit_26 : decode cX1_deposit 26 = .ok (.iadd, 1) := dk_96 (dk_at dksX1_deposit_1 4 rfl rfl)
theorem dX1_deposit_27 : decode cX1_deposit 27 = .ok (.istore_n 3, 1) := dk_62 (dk_at dksX1_deposit_1 5 rfl rfl)
theorem dX1_deposit_28 : decode cX1_deposit 28 = .ok (.iload_n 3, 1) := dk_29 (dk_at dksX1_deposit_1 6 rfl rfl)
theorem dX1_deposit_29 : decode cX1_deposit 29 = .ok (.iconst 0, 1) := dk_3 (dk_at dksX1_deposit_1 7 rfl rfl)
theorem dX1_deposit_30 : decode cX1_deposit 30 = .ok (.ldc 101, 2) := dk_18 101 (dk_at dksX1_deposit_1 8 rfl rfl)
theorem dX1_deposit_32 : decode cX1_deposit 32 = .ok (.invokestatic 87, 3) := dk_184 0 87 (dk_at dksX1_deposit_1 10 rfl rfl)
theorem dX1_deposit_35 : decode cX1_deposit 35 = .ok (.invokestatic 102, 3) := dk_184 0 102 (dk_at dksX1_deposit_1 13 rfl rfl)
theorem dX1_deposit_38 : decode cX1_deposit 38 = .ok (.aload_n 0, 1) := dk_42 (dk_at dksX1_deposit_1 16 rfl rfl)
theorem dX1_deposit_39 : decode cX1_deposit 39 = .ok (.getfield 32, 3) := dk_180 0 32 (dk_at dksX1_deposit_1 17 rfl rfl)
theorem dX1_deposit_42 : decode cX1_deposit 42 = .ok (.iload_n 1, 1) := dk_27 (dk_at dksX1_deposit_1 20 rfl rfl)
theorem dX1_deposit_43 : decode cX1_deposit 43 = .ok (.new 30, 3) := dk_187 0 30 (dk_at dksX1_deposit_1 21 rfl rfl)
theorem dX1_deposit_46 : decode cX1_deposit 46 = .ok (.dup, 1) := dk_89 (dk_at dksX1_deposit_2 0 rfl rfl)
theorem dX1_deposit_47 : decode cX1_deposit 47 = .ok (.iload_n 1, 1) := dk_27 (dk_at dksX1_deposit_2 1 rfl rfl)
theorem dX1_deposit_48 : decode cX1_deposit 48 = .ok (.iload_n 3, 1) := dk_29 (dk_at dksX1_deposit_2 2 rfl rfl)
theorem dX1_deposit_49 : decode cX1_deposit 49 = .ok (.invokespecial 60, 3) := dk_183 0 60 (dk_at dksX1_deposit_2 3 rfl rfl)
theorem dX1_deposit_52 : decode cX1_deposit 52 = .ok (.aastore, 1) := dk_83 (dk_at dksX1_deposit_2 6 rfl rfl)
theorem dX1_deposit_53 : decode cX1_deposit 53 = .ok (.iconst 0, 1) := dk_3 (dk_at dksX1_deposit_2 7 rfl rfl)
theorem dX1_deposit_54 : decode cX1_deposit 54 = .ok (.istore 4, 2) := dk_54 4 (dk_at dksX1_deposit_2 8 rfl rfl)
theorem dX1_deposit_56 : decode cX1_deposit 56 = .ok (.iload 4, 2) := dk_21 4 (dk_at dksX1_deposit_2 10 rfl rfl)
theorem dX1_deposit_58 : decode cX1_deposit 58 = .ok (.bipush 6, 2) := dk_16 6 (dk_at dksX1_deposit_2 12 rfl rfl)
theorem dX1_deposit_60 : decode cX1_deposit 60 = .ok (.if_icmp .ge 26, 3) := dk_162 0 26 (dk_at dksX1_deposit_2 14 rfl rfl)
theorem dX1_deposit_63 : decode cX1_deposit 63 = .ok (.aload_n 0, 1) := dk_42 (dk_at dksX1_deposit_2 17 rfl rfl)
theorem dX1_deposit_64 : decode cX1_deposit 64 = .ok (.getfield 151, 3) := dk_180 0 151 (dk_at dksX1_deposit_2 18 rfl rfl)
theorem dX1_deposit_67 : decode cX1_deposit 67 = .ok (.ifCond .ne 19, 3) := dk_154 0 19 (dk_at dksX1_deposit_2 21 rfl rfl)
theorem dX1_deposit_70 : decode cX1_deposit 70 = .ok (.iload_n 2, 1) := dk_28 (dk_at dksX1_deposit_3 0 rfl rfl)
theorem dX1_deposit_71 : decode cX1_deposit 71 = .ok (.ifCond .eq 15, 3) := dk_153 0 15 (dk_at dksX1_deposit_3 1 rfl rfl)
theorem dX1_deposit_74 : decode cX1_deposit 74 = .ok (.aload_n 0, 1) := dk_42 (dk_at dksX1_deposit_3 4 rfl rfl)
theorem dX1_deposit_75 : decode cX1_deposit 75 = .ok (.iload 4, 2) := dk_21 4 (dk_at dksX1_deposit_3 5 rfl rfl)
theorem dX1_deposit_77 : decode cX1_deposit 77 = .ok (.invokevirtual 154, 3) := dk_182 0 154 (dk_at dksX1_deposit_3 7 rfl rfl)
theorem dX1_deposit_80 : decode cX1_deposit 80 = .ok (.iinc 4 1, 3) := dk_132 4 1 (dk_at dksX1_deposit_3 10 rfl rfl)
theorem dX1_deposit_83 : decode cX1_deposit 83 = .ok (.goto (-27), 3) := dk_167 255 229 (dk_at dksX1_deposit_3 13 rfl rfl)
theorem dX1_deposit_86 : decode cX1_deposit 86 = .ok (.iload_n 3, 1) := dk_29 (dk_at dksX1_deposit_3 16 rfl rfl)
theorem dX1_deposit_87 : decode cX1_deposit 87 = .ok (.ireturn, 1) := dk_172 (dk_at dksX1_deposit_3 17 rfl rfl)
abbrev cX1_lay : ByteArray := prog_1_method_12_code
def yX1_lay : MethodName := ⟨RX1, "lay", "(I)V"⟩
def dkwX1_lay_1 : List UInt8 := [79, 177]
abbrev dktX1_lay_1 : List UInt8 := dkwX1_lay_1 ++ []
def dkwX1_lay_0 : List UInt8 := [42, 180, 0, 36, 27, 42, 182, 0, 147, 16, 6, 108, 79, 42, 180, 0, 39, 27, 42, 180, 0, 19, 8, 46]
abbrev dktX1_lay_0 : List UInt8 := dkwX1_lay_0 ++ dktX1_lay_1
theorem dksX1_lay_0 : cX1_lay.data.toList.drop 0 = dktX1_lay_0 := by decide +kernel
theorem dksX1_lay_1 : cX1_lay.data.toList.drop 24 = dktX1_lay_1 := dk_seg dksX1_lay_0 24 rfl rfl
theorem dX1_lay_0 : decode cX1_lay 0 = .ok (.aload_n 0, 1) := dk_42 (dk_at dksX1_lay_0 0 rfl rfl)
theorem dX1_lay_1 : decode cX1_lay 1 = .ok (.getfield 36, 3) := dk_180 0 36 (dk_at dksX1_lay_0 1 rfl rfl)
theorem dX1_lay_4 : decode cX1_lay 4 = .ok (.iload_n 1, 1) := dk_27 (dk_at dksX1_lay_0 4 rfl rfl)
theorem dX1_lay_5 : decode cX1_lay 5 = .ok (.aload_n 0, 1) := dk_42 (dk_at dksX1_lay_0 5 rfl rfl)
theorem dX1_lay_6 : decode cX1_lay 6 = .ok (.invokevirtual 147, 3) := dk_182 0 147 (dk_at dksX1_lay_0 6 rfl rfl)
theorem dX1_lay_9 : decode cX1_lay 9 = .ok (.bipush 6, 2) := dk_16 6 (dk_at dksX1_lay_0 9 rfl rfl)
theorem dX1_lay_11 : decode cX1_lay 11 = .ok (.idiv, 1) := dk_108 (dk_at dksX1_lay_0 11 rfl rfl)
theorem dX1_lay_12 : decode cX1_lay 12 = .ok (.iastore, 1) := dk_79 (dk_at dksX1_lay_0 12 rfl rfl)
theorem dX1_lay_13 : decode cX1_lay 13 = .ok (.aload_n 0, 1) := dk_42 (dk_at dksX1_lay_0 13 rfl rfl)
theorem dX1_lay_14 : decode cX1_lay 14 = .ok (.getfield 39, 3) := dk_180 0 39 (dk_at dksX1_lay_0 14 rfl rfl)
theorem dX1_lay_17 : decode cX1_lay 17 = .ok (.iload_n 1, 1) := dk_27 (dk_at dksX1_lay_0 17 rfl rfl)
theorem dX1_lay_18 : decode cX1_lay 18 = .ok (.aload_n 0, 1) := dk_42 (dk_at dksX1_lay_0 18 rfl rfl)
theorem dX1_lay_19 : decode cX1_lay 19 = .ok (.getfield 19, 3) := dk_180 0 19 (dk_at dksX1_lay_0 19 rfl rfl)
theorem dX1_lay_22 : decode cX1_lay 22 = .ok (.iconst 5, 1) := dk_8 (dk_at dksX1_lay_0 22 rfl rfl)
theorem dX1_lay_23 : decode cX1_lay 23 = .ok (.iaload, 1) := dk_46 (dk_at dksX1_lay_0 23 rfl rfl)
theorem dX1_lay_24 : decode cX1_lay 24 = .ok (.iastore, 1) := dk_79 (dk_at dksX1_lay_1 0 rfl rfl)
theorem dX1_lay_25 : decode cX1_lay 25 = .ok (.return_, 1) := dk_177 (dk_at dksX1_lay_1 1 rfl rfl)
abbrev cX1_core : ByteArray := prog_1_method_11_code
def yX1_core : MethodName := ⟨RX1, "core", "()I"⟩
def dkwX1_core_1 : List UInt8 := [167, 255, 236, 27, 133, 42, 180, 0, 56, 133, 105, 20, 0, 145, 109, 136, 172]
abbrev dktX1_core_1 : List UInt8 := dkwX1_core_1 ++ []
def dkwX1_core_0 : List UInt8 := [3, 60, 3, 61, 28, 6, 162, 0, 21, 27, 42, 180, 0, 32, 28, 50, 182, 0, 142, 96, 60, 132, 2, 1]
abbrev dktX1_core_0 : List UInt8 := dkwX1_core_0 ++ dktX1_core_1
theorem dksX1_core_0 : cX1_core.data.toList.drop 0 = dktX1_core_0 := by decide +kernel
theorem dksX1_core_1 : cX1_core.data.toList.drop 24 = dktX1_core_1 := dk_seg dksX1_core_0 24 rfl rfl
theorem dX1_core_0 : decode cX1_core 0 = .ok (.iconst 0, 1) := dk_3 (dk_at dksX1_core_0 0 rfl rfl)
theorem dX1_core_1 : decode cX1_core 1 = .ok (.istore_n 1, 1) := dk_60 (dk_at dksX1_core_0 1 rfl rfl)
theorem dX1_core_2 : decode cX1_core 2 = .ok (.iconst 0, 1) := dk_3 (dk_at dksX1_core_0 2 rfl rfl)
theorem dX1_core_3 : decode cX1_core 3 = .ok (.istore_n 2, 1) := dk_61 (dk_at dksX1_core_0 3 rfl rfl)
theorem dX1_core_4 : decode cX1_core 4 = .ok (.iload_n 2, 1) := dk_28 (dk_at dksX1_core_0 4 rfl rfl)
theorem dX1_core_5 : decode cX1_core 5 = .ok (.iconst 3, 1) := dk_6 (dk_at dksX1_core_0 5 rfl rfl)
theorem dX1_core_6 : decode cX1_core 6 = .ok (.if_icmp .ge 21, 3) := dk_162 0 21 (dk_at dksX1_core_0 6 rfl rfl)
theorem dX1_core_9 : decode cX1_core 9 = .ok (.iload_n 1, 1) := dk_27 (dk_at dksX1_core_0 9 rfl rfl)
theorem dX1_core_10 : decode cX1_core 10 = .ok (.aload_n 0, 1) := dk_42 (dk_at dksX1_core_0 10 rfl rfl)
theorem dX1_core_11 : decode cX1_core 11 = .ok (.getfield 32, 3) := dk_180 0 32 (dk_at dksX1_core_0 11 rfl rfl)
theorem dX1_core_14 : decode cX1_core 14 = .ok (.iload_n 2, 1) := dk_28 (dk_at dksX1_core_0 14 rfl rfl)
theorem dX1_core_15 : decode cX1_core 15 = .ok (.aaload, 1) := dk_50 (dk_at dksX1_core_0 15 rfl rfl)
theorem dX1_core_16 : decode cX1_core 16 = .ok (.invokevirtual 142, 3) := dk_182 0 142 (dk_at dksX1_core_0 16 rfl rfl)
theorem dX1_core_19 : decode cX1_core 19 = .ok (.iadd, 1) := dk_96 (dk_at dksX1_core_0 19 rfl rfl)
theorem dX1_core_20 : decode cX1_core 20 = .ok (.istore_n 1, 1) := dk_60 (dk_at dksX1_core_0 20 rfl rfl)
theorem dX1_core_21 : decode cX1_core 21 = .ok (.iinc 2 1, 3) := dk_132 2 1 (dk_at dksX1_core_0 21 rfl rfl)
theorem dX1_core_24 : decode cX1_core 24 = .ok (.goto (-20), 3) := dk_167 255 236 (dk_at dksX1_core_1 0 rfl rfl)
theorem dX1_core_27 : decode cX1_core 27 = .ok (.iload_n 1, 1) := dk_27 (dk_at dksX1_core_1 3 rfl rfl)
theorem dX1_core_28 : decode cX1_core 28 = .ok (.i2l, 1) := dk_133 (dk_at dksX1_core_1 4 rfl rfl)
theorem dX1_core_29 : decode cX1_core 29 = .ok (.aload_n 0, 1) := dk_42 (dk_at dksX1_core_1 5 rfl rfl)
theorem dX1_core_30 : decode cX1_core 30 = .ok (.getfield 56, 3) := dk_180 0 56 (dk_at dksX1_core_1 6 rfl rfl)
theorem dX1_core_33 : decode cX1_core 33 = .ok (.i2l, 1) := dk_133 (dk_at dksX1_core_1 9 rfl rfl)
theorem dX1_core_34 : decode cX1_core 34 = .ok (.lmul, 1) := dk_105 (dk_at dksX1_core_1 10 rfl rfl)
theorem dX1_core_35 : decode cX1_core 35 = .ok (.ldc2_w 145, 3) := dk_20 0 145 (dk_at dksX1_core_1 11 rfl rfl)
theorem dX1_core_38 : decode cX1_core 38 = .ok (.ldiv, 1) := dk_109 (dk_at dksX1_core_1 14 rfl rfl)
theorem dX1_core_39 : decode cX1_core 39 = .ok (.l2i, 1) := dk_136 (dk_at dksX1_core_1 15 rfl rfl)
theorem dX1_core_40 : decode cX1_core 40 = .ok (.ireturn, 1) := dk_172 (dk_at dksX1_core_1 16 rfl rfl)
abbrev cX1_closeMonth : ByteArray := prog_1_method_19_code
def yX1_closeMonth : MethodName := ⟨RX1, "closeMonth", "()I"⟩
def dkwX1_closeMonth_4 : List UInt8 := [96, 181, 0, 151, 42, 42, 180, 0, 151, 16, 6, 112, 182, 0, 154, 42, 180, 0, 151, 172]
abbrev dktX1_closeMonth_4 : List UInt8 := dkwX1_closeMonth_4 ++ []
def dkwX1_closeMonth_3 : List UInt8 := [153, 0, 7, 3, 167, 0, 4, 4, 96, 181, 0, 139, 132, 1, 1, 167, 255, 195, 42, 89, 180, 0, 151, 4]
abbrev dktX1_closeMonth_3 : List UInt8 := dkwX1_closeMonth_3 ++ dktX1_closeMonth_4
def dkwX1_closeMonth_2 : List UInt8 := [192, 0, 85, 89, 180, 0, 139, 42, 180, 0, 26, 27, 185, 0, 81, 2, 0, 192, 0, 85, 182, 0, 129]
abbrev dktX1_closeMonth_2 : List UInt8 := dkwX1_closeMonth_2 ++ dktX1_closeMonth_3
def dkwX1_closeMonth_1 : List UInt8 := [42, 180, 0, 26, 185, 0, 72, 1, 0, 162, 0, 54, 42, 180, 0, 26, 27, 185, 0, 81, 2, 0]
abbrev dktX1_closeMonth_1 : List UInt8 := dkwX1_closeMonth_1 ++ dktX1_closeMonth_2
def dkwX1_closeMonth_0 : List UInt8 := [42, 180, 0, 151, 16, 47, 162, 0, 7, 4, 167, 0, 4, 3, 184, 0, 102, 42, 182, 0, 197, 3, 60, 27]
abbrev dktX1_closeMonth_0 : List UInt8 := dkwX1_closeMonth_0 ++ dktX1_closeMonth_1
theorem dksX1_closeMonth_0 : cX1_closeMonth.data.toList.drop 0 = dktX1_closeMonth_0 := by decide +kernel
theorem dksX1_closeMonth_1 : cX1_closeMonth.data.toList.drop 24 = dktX1_closeMonth_1 := dk_seg dksX1_closeMonth_0 24 rfl rfl
theorem dksX1_closeMonth_2 : cX1_closeMonth.data.toList.drop 46 = dktX1_closeMonth_2 := dk_seg dksX1_closeMonth_1 22 rfl rfl
theorem dksX1_closeMonth_3 : cX1_closeMonth.data.toList.drop 69 = dktX1_closeMonth_3 := dk_seg dksX1_closeMonth_2 23 rfl rfl
theorem dksX1_closeMonth_4 : cX1_closeMonth.data.toList.drop 93 = dktX1_closeMonth_4 := dk_seg dksX1_closeMonth_3 24 rfl rfl
theorem dX1_closeMonth_0 : decode cX1_closeMonth 0 = .ok (.aload_n 0, 1) := dk_42 (dk_at dksX1_closeMonth_0 0 rfl rfl)
theorem dX1_closeMonth_1 : decode cX1_closeMonth 1 = .ok (.getfield 151, 3) := dk_180 0 151 (dk_at dksX1_closeMonth_0 1 rfl rfl)
theorem dX1_closeMonth_4 : decode cX1_closeMonth 4 = .ok (.bipush 47, 2) := dk_16 47 (dk_at dksX1_closeMonth_0 4 rfl rfl)
theorem dX1_closeMonth_6 : decode cX1_closeMonth 6 = .ok (.if_icmp .ge 7, 3) := dk_162 0 7 (dk_at dksX1_closeMonth_0 6 rfl rfl)
theorem dX1_closeMonth_9 : decode cX1_closeMonth 9 = .ok (.iconst 1, 1) := dk_4 (dk_at dksX1_closeMonth_0 9 rfl rfl)
theorem dX1_closeMonth_10 : decode cX1_closeMonth 10 = .ok (.goto 4, 3) := dk_167 0 4 (dk_at dksX1_closeMonth_0 10 rfl rfl)
theorem dX1_closeMonth_13 : decode cX1_closeMonth 13 = .ok (.iconst 0, 1) := dk_3 (dk_at dksX1_closeMonth_0 13 rfl rfl)
theorem dX1_closeMonth_14 : decode cX1_closeMonth 14 = .ok (.invokestatic 102, 3) := dk_184 0 102 (dk_at dksX1_closeMonth_0 14 rfl rfl)
theorem dX1_closeMonth_17 : decode cX1_closeMonth 17 = .ok (.aload_n 0, 1) := dk_42 (dk_at dksX1_closeMonth_0 17 rfl rfl)
theorem dX1_closeMonth_18 : decode cX1_closeMonth 18 = .ok (.invokevirtual 197, 3) := dk_182 0 197 (dk_at dksX1_closeMonth_0 18 rfl rfl)
theorem dX1_closeMonth_21 : decode cX1_closeMonth 21 = .ok (.iconst 0, 1) := dk_3 (dk_at dksX1_closeMonth_0 21 rfl rfl)
theorem dX1_closeMonth_22 : decode cX1_closeMonth 22 = .ok (.istore_n 1, 1) := dk_60 (dk_at dksX1_closeMonth_0 22 rfl rfl)
theorem dX1_closeMonth_23 : decode cX1_closeMonth 23 = .ok (.iload_n 1, 1) := dk_27 (dk_at dksX1_closeMonth_0 23 rfl rfl)
theorem dX1_closeMonth_24 : decode cX1_closeMonth 24 = .ok (.aload_n 0, 1) := dk_42 (dk_at dksX1_closeMonth_1 0 rfl rfl)
theorem dX1_closeMonth_25 : decode cX1_closeMonth 25 = .ok (.getfield 26, 3) := dk_180 0 26 (dk_at dksX1_closeMonth_1 1 rfl rfl)
theorem dX1_closeMonth_28 : decode cX1_closeMonth 28 = .ok (.invokeinterface 72 1, 5) := by decide +kernel
theorem dX1_closeMonth_33 : decode cX1_closeMonth 33 = .ok (.if_icmp .ge 54, 3) := dk_162 0 54 (dk_at dksX1_closeMonth_1 9 rfl rfl)
theorem dX1_closeMonth_36 : decode cX1_closeMonth 36 = .ok (.aload_n 0, 1) := dk_42 (dk_at dksX1_closeMonth_1 12 rfl rfl)
theorem dX1_closeMonth_37 : decode cX1_closeMonth 37 = .ok (.getfield 26, 3) := dk_180 0 26 (dk_at dksX1_closeMonth_1 13 rfl rfl)
theorem dX1_closeMonth_40 : decode cX1_closeMonth 40 = .ok (.iload_n 1, 1) := dk_27 (dk_at dksX1_closeMonth_1 16 rfl rfl)
theorem dX1_closeMonth_41 : decode cX1_closeMonth 41 = .ok (.invokeinterface 81 2, 5) := by decide +kernel
theorem dX1_closeMonth_46 : decode cX1_closeMonth 46 = .ok (.checkcast 85, 3) := dk_192 0 85 (dk_at dksX1_closeMonth_2 0 rfl rfl)
theorem dX1_closeMonth_49 : decode cX1_closeMonth 49 = .ok (.dup, 1) := dk_89 (dk_at dksX1_closeMonth_2 3 rfl rfl)
theorem dX1_closeMonth_50 : decode cX1_closeMonth 50 = .ok (.getfield 139, 3) := dk_180 0 139 (dk_at dksX1_closeMonth_2 4 rfl rfl)
theorem dX1_closeMonth_53 : decode cX1_closeMonth 53 = .ok (.aload_n 0, 1) := dk_42 (dk_at dksX1_closeMonth_2 7 rfl rfl)
theorem dX1_closeMonth_54 : decode cX1_closeMonth 54 = .ok (.getfield 26, 3) := dk_180 0 26 (dk_at dksX1_closeMonth_2 8 rfl rfl)
theorem dX1_closeMonth_57 : decode cX1_closeMonth 57 = .ok (.iload_n 1, 1) := dk_27 (dk_at dksX1_closeMonth_2 11 rfl rfl)
theorem dX1_closeMonth_58 : decode cX1_closeMonth 58 = .ok (.invokeinterface 81 2, 5) := by decide +kernel
theorem dX1_closeMonth_63 : decode cX1_closeMonth 63 = .ok (.checkcast 85, 3) := dk_192 0 85 (dk_at dksX1_closeMonth_2 17 rfl rfl)
theorem dX1_closeMonth_66 : decode cX1_closeMonth 66 = .ok (.invokevirtual 129, 3) := dk_182 0 129 (dk_at dksX1_closeMonth_2 20 rfl rfl)
theorem dX1_closeMonth_69 : decode cX1_closeMonth 69 = .ok (.ifCond .eq 7, 3) := dk_153 0 7 (dk_at dksX1_closeMonth_3 0 rfl rfl)
theorem dX1_closeMonth_72 : decode cX1_closeMonth 72 = .ok (.iconst 0, 1) := dk_3 (dk_at dksX1_closeMonth_3 3 rfl rfl)
theorem dX1_closeMonth_73 : decode cX1_closeMonth 73 = .ok (.goto 4, 3) := dk_167 0 4 (dk_at dksX1_closeMonth_3 4 rfl rfl)
theorem dX1_closeMonth_76 : decode cX1_closeMonth 76 = .ok (.iconst 1, 1) := dk_4 (dk_at dksX1_closeMonth_3 7 rfl rfl)
theorem dX1_closeMonth_77 : decode cX1_closeMonth 77 = .ok (.iadd, 1) := dk_96 (dk_at dksX1_closeMonth_3 8 rfl rfl)
theorem dX1_closeMonth_78 : decode cX1_closeMonth 78 = .ok (.putfield 139, 3) := dk_181 0 139 (dk_at dksX1_closeMonth_3 9 rfl rfl)
theorem dX1_closeMonth_81 : decode cX1_closeMonth 81 = .ok (.iinc 1 1, 3) := dk_132 1 1 (dk_at dksX1_closeMonth_3 12 rfl rfl)
theorem dX1_closeMonth_84 : decode cX1_closeMonth 84 = .ok (.goto (-61), 3) := dk_167 255 195 (dk_at dksX1_closeMonth_3 15 rfl rfl)
theorem dX1_closeMonth_87 : decode cX1_closeMonth 87 = .ok (.aload_n 0, 1) := dk_42 (dk_at dksX1_closeMonth_3 18 rfl rfl)
theorem dX1_closeMonth_88 : decode cX1_closeMonth 88 = .ok (.dup, 1) := dk_89 (dk_at dksX1_closeMonth_3 19 rfl rfl)
theorem dX1_closeMonth_89 : decode cX1_closeMonth 89 = .ok (.getfield 151, 3) := dk_180 0 151 (dk_at dksX1_closeMonth_3 20 rfl rfl)
theorem dX1_closeMonth_92 : decode cX1_closeMonth 92 = .ok (.iconst 1, 1) := dk_4 (dk_at dksX1_closeMonth_3 23 rfl rfl)
theorem dX1_closeMonth_93 : decode cX1_closeMonth 93 = .ok (.iadd, 1) := dk_96 (dk_at dksX1_closeMonth_4 0 rfl rfl)
theorem dX1_closeMonth_94 : decode cX1_closeMonth 94 = .ok (.putfield 151, 3) := dk_181 0 151 (dk_at dksX1_closeMonth_4 1 rfl rfl)
theorem dX1_closeMonth_97 : decode cX1_closeMonth 97 = .ok (.aload_n 0, 1) := dk_42 (dk_at dksX1_closeMonth_4 4 rfl rfl)
theorem dX1_closeMonth_98 : decode cX1_closeMonth 98 = .ok (.aload_n 0, 1) := dk_42 (dk_at dksX1_closeMonth_4 5 rfl rfl)
theorem dX1_closeMonth_99 : decode cX1_closeMonth 99 = .ok (.getfield 151, 3) := dk_180 0 151 (dk_at dksX1_closeMonth_4 6 rfl rfl)
theorem dX1_closeMonth_102 : decode cX1_closeMonth 102 = .ok (.bipush 6, 2) := dk_16 6 (dk_at dksX1_closeMonth_4 9 rfl rfl)
theorem dX1_closeMonth_104 : decode cX1_closeMonth 104 = .ok (.irem, 1) := dk_112 (dk_at dksX1_closeMonth_4 11 rfl rfl)
theorem dX1_closeMonth_105 : decode cX1_closeMonth 105 = .ok (.invokevirtual 154, 3) := dk_182 0 154 (dk_at dksX1_closeMonth_4 12 rfl rfl)
theorem dX1_closeMonth_108 : decode cX1_closeMonth 108 = .ok (.aload_n 0, 1) := dk_42 (dk_at dksX1_closeMonth_4 15 rfl rfl)
theorem dX1_closeMonth_109 : decode cX1_closeMonth 109 = .ok (.getfield 151, 3) := dk_180 0 151 (dk_at dksX1_closeMonth_4 16 rfl rfl)
theorem dX1_closeMonth_112 : decode cX1_closeMonth 112 = .ok (.ireturn, 1) := dk_172 (dk_at dksX1_closeMonth_4 19 rfl rfl)
abbrev cX1_reckon : ByteArray := prog_1_method_18_code
def yX1_reckon : MethodName := ⟨RX1, "reckon", "()V"⟩
def dkwX1_reckon_9 : List UInt8 := [182, 0, 175, 100, 79, 132, 1, 1, 167, 255, 179, 177]
abbrev dktX1_reckon_9 : List UInt8 := dkwX1_reckon_9 ++ []
def dkwX1_reckon_8 : List UInt8 := [182, 0, 171, 100, 79, 42, 180, 0, 53, 42, 180, 0, 151, 92, 46, 42, 42, 180, 0, 32, 27, 50]
abbrev dktX1_reckon_8 : List UInt8 := dkwX1_reckon_8 ++ dktX1_reckon_9
def dkwX1_reckon_7 : List UInt8 := [182, 0, 178, 96, 79, 42, 180, 0, 50, 42, 180, 0, 151, 92, 46, 42, 42, 180, 0, 32, 27, 50]
abbrev dktX1_reckon_7 : List UInt8 := dkwX1_reckon_7 ++ dktX1_reckon_8
def dkwX1_reckon_6 : List UInt8 := [162, 0, 78, 42, 180, 0, 44, 42, 180, 0, 151, 50, 27, 92, 46, 42, 42, 180, 0, 32, 27, 50, 1]
abbrev dktX1_reckon_6 : List UInt8 := dkwX1_reckon_6 ++ dktX1_reckon_7
def dkwX1_reckon_5 : List UInt8 := [180, 0, 151, 92, 46, 178, 0, 194, 44, 182, 0, 167, 96, 79, 132, 1, 1, 167, 255, 128, 3, 60, 27, 6]
abbrev dktX1_reckon_5 : List UInt8 := dkwX1_reckon_5 ++ dktX1_reckon_6
def dkwX1_reckon_4 : List UInt8 := [178, 0, 188, 44, 182, 0, 167, 178, 0, 191, 44, 182, 0, 167, 96, 96, 79, 42, 180, 0, 53, 42]
abbrev dktX1_reckon_4 : List UInt8 := dkwX1_reckon_4 ++ dktX1_reckon_5
def dkwX1_reckon_3 : List UInt8 := [50, 44, 180, 0, 121, 182, 0, 185, 92, 46, 29, 96, 79, 42, 180, 0, 50, 42, 180, 0, 151, 92, 46]
abbrev dktX1_reckon_3 : List UInt8 := dkwX1_reckon_3 ++ dktX1_reckon_4
def dkwX1_reckon_2 : List UInt8 := [180, 0, 151, 50, 44, 180, 0, 121, 182, 0, 182, 92, 46, 29, 96, 79, 42, 180, 0, 47, 42, 180, 0, 151]
abbrev dktX1_reckon_2 : List UInt8 := dkwX1_reckon_2 ++ dktX1_reckon_3
def dkwX1_reckon_1 : List UInt8 := [185, 0, 81, 2, 0, 192, 0, 85, 77, 42, 44, 180, 0, 121, 44, 182, 0, 178, 62, 42, 180, 0, 44, 42]
abbrev dktX1_reckon_1 : List UInt8 := dkwX1_reckon_1 ++ dktX1_reckon_2
def dkwX1_reckon_0 : List UInt8 := [3, 60, 27, 42, 180, 0, 26, 185, 0, 72, 1, 0, 162, 0, 121, 42, 180, 0, 26, 27]
abbrev dktX1_reckon_0 : List UInt8 := dkwX1_reckon_0 ++ dktX1_reckon_1
theorem dksX1_reckon_0 : cX1_reckon.data.toList.drop 0 = dktX1_reckon_0 := by decide +kernel
theorem dksX1_reckon_1 : cX1_reckon.data.toList.drop 20 = dktX1_reckon_1 := dk_seg dksX1_reckon_0 20 rfl rfl
theorem dksX1_reckon_2 : cX1_reckon.data.toList.drop 44 = dktX1_reckon_2 := dk_seg dksX1_reckon_1 24 rfl rfl
theorem dksX1_reckon_3 : cX1_reckon.data.toList.drop 68 = dktX1_reckon_3 := dk_seg dksX1_reckon_2 24 rfl rfl
theorem dksX1_reckon_4 : cX1_reckon.data.toList.drop 91 = dktX1_reckon_4 := dk_seg dksX1_reckon_3 23 rfl rfl
theorem dksX1_reckon_5 : cX1_reckon.data.toList.drop 113 = dktX1_reckon_5 := dk_seg dksX1_reckon_4 22 rfl rfl
theorem dksX1_reckon_6 : cX1_reckon.data.toList.drop 137 = dktX1_reckon_6 := dk_seg dksX1_reckon_5 24 rfl rfl
theorem dksX1_reckon_7 : cX1_reckon.data.toList.drop 160 = dktX1_reckon_7 := dk_seg dksX1_reckon_6 23 rfl rfl
theorem dksX1_reckon_8 : cX1_reckon.data.toList.drop 182 = dktX1_reckon_8 := dk_seg dksX1_reckon_7 22 rfl rfl
theorem dksX1_reckon_9 : cX1_reckon.data.toList.drop 204 = dktX1_reckon_9 := dk_seg dksX1_reckon_8 22 rfl rfl
theorem dX1_reckon_0 : decode cX1_reckon 0 = .ok (.iconst 0, 1) := dk_3 (dk_at dksX1_reckon_0 0 rfl rfl)
theorem dX1_reckon_1 : decode cX1_reckon 1 = .ok (.istore_n 1, 1) := dk_60 (dk_at dksX1_reckon_0 1 rfl rfl)
theorem dX1_reckon_2 : decode cX1_reckon 2 = .ok (.iload_n 1, 1) := dk_27 (dk_at dksX1_reckon_0 2 rfl rfl)
theorem dX1_reckon_3 : decode cX1_reckon 3 = .ok (.aload_n 0, 1) := dk_42 (dk_at dksX1_reckon_0 3 rfl rfl)
theorem dX1_reckon_4 : decode cX1_reckon 4 = .ok (.getfield 26, 3) := dk_180 0 26 (dk_at dksX1_reckon_0 4 rfl rfl)
theorem dX1_reckon_7 : decode cX1_reckon 7 = .ok (.invokeinterface 72 1, 5) := by decide +kernel
theorem dX1_reckon_12 : decode cX1_reckon 12 = .ok (.if_icmp .ge 121, 3) := dk_162 0 121 (dk_at dksX1_reckon_0 12 rfl rfl)
theorem dX1_reckon_15 : decode cX1_reckon 15 = .ok (.aload_n 0, 1) := dk_42 (dk_at dksX1_reckon_0 15 rfl rfl)
theorem dX1_reckon_16 : decode cX1_reckon 16 = .ok (.getfield 26, 3) := dk_180 0 26 (dk_at dksX1_reckon_0 16 rfl rfl)
theorem dX1_reckon_19 : decode cX1_reckon 19 = .ok (.iload_n 1, 1) := dk_27 (dk_at dksX1_reckon_0 19 rfl rfl)
theorem dX1_reckon_20 : decode cX1_reckon 20 = .ok (.invokeinterface 81 2, 5) := by decide +kernel
theorem dX1_reckon_25 : decode cX1_reckon 25 = .ok (.checkcast 85, 3) := dk_192 0 85 (dk_at dksX1_reckon_1 5 rfl rfl)
theorem dX1_reckon_28 : decode cX1_reckon 28 = .ok (.astore_n 2, 1) := dk_77 (dk_at dksX1_reckon_1 8 rfl rfl)
theorem dX1_reckon_29 : decode cX1_reckon 29 = .ok (.aload_n 0, 1) := dk_42 (dk_at dksX1_reckon_1 9 rfl rfl)
theorem dX1_reckon_30 : decode cX1_reckon 30 = .ok (.aload_n 2, 1) := dk_44 (dk_at dksX1_reckon_1 10 rfl rfl)
theorem dX1_reckon_31 : decode cX1_reckon 31 = .ok (.getfield 121, 3) := dk_180 0 121 (dk_at dksX1_reckon_1 11 rfl rfl)
theorem dX1_reckon_34 : decode cX1_reckon 34 = .ok (.aload_n 2, 1) := dk_44 (dk_at dksX1_reckon_1 14 rfl rfl)
theorem dX1_reckon_35 : decode cX1_reckon 35 = .ok (.invokevirtual 178, 3) := dk_182 0 178 (dk_at dksX1_reckon_1 15 rfl rfl)
theorem dX1_reckon_38 : decode cX1_reckon 38 = .ok (.istore_n 3, 1) := dk_62 (dk_at dksX1_reckon_1 18 rfl rfl)
theorem dX1_reckon_39 : decode cX1_reckon 39 = .ok (.aload_n 0, 1) := dk_42 (dk_at dksX1_reckon_1 19 rfl rfl)
theorem dX1_reckon_40 : decode cX1_reckon 40 = .ok (.getfield 44, 3) := dk_180 0 44 (dk_at dksX1_reckon_1 20 rfl rfl)
theorem dX1_reckon_43 : decode cX1_reckon 43 = .ok (.aload_n 0, 1) := dk_42 (dk_at dksX1_reckon_1 23 rfl rfl)
theorem dX1_reckon_44 : decode cX1_reckon 44 = .ok (.getfield 151, 3) := dk_180 0 151 (dk_at dksX1_reckon_2 0 rfl rfl)
theorem dX1_reckon_47 : decode cX1_reckon 47 = .ok (.aaload, 1) := dk_50 (dk_at dksX1_reckon_2 3 rfl rfl)
theorem dX1_reckon_48 : decode cX1_reckon 48 = .ok (.aload_n 2, 1) := dk_44 (dk_at dksX1_reckon_2 4 rfl rfl)
theorem dX1_reckon_49 : decode cX1_reckon 49 = .ok (.getfield 121, 3) := dk_180 0 121 (dk_at dksX1_reckon_2 5 rfl rfl)
theorem dX1_reckon_52 : decode cX1_reckon 52 = .ok (.invokevirtual 182, 3) := dk_182 0 182 (dk_at dksX1_reckon_2 8 rfl rfl)
theorem dX1_reckon_55 : decode cX1_reckon 55 = .ok (.dup2, 1) := dk_92 (dk_at dksX1_reckon_2 11 rfl rfl)
theorem dX1_reckon_56 : decode cX1_reckon 56 = .ok (.iaload, 1) := dk_46 (dk_at dksX1_reckon_2 12 rfl rfl)
theorem dX1_reckon_57 : decode cX1_reckon 57 = .ok (.iload_n 3, 1) := dk_29 (dk_at dksX1_reckon_2 13 rfl rfl)
theorem dX1_reckon_58 : decode cX1_reckon 58 = .ok (.iadd, 1) := dk_96 (dk_at dksX1_reckon_2 14 rfl rfl)
theorem dX1_reckon_59 : decode cX1_reckon 59 = .ok (.iastore, 1) := dk_79 (dk_at dksX1_reckon_2 15 rfl rfl)
theorem dX1_reckon_60 : decode cX1_reckon 60 = .ok (.aload_n 0, 1) := dk_42 (dk_at dksX1_reckon_2 16 rfl rfl)
theorem dX1_reckon_61 : decode cX1_reckon 61 = .ok (.getfield 47, 3) := dk_180 0 47 (dk_at dksX1_reckon_2 17 rfl rfl)
theorem dX1_reckon_64 : decode cX1_reckon 64 = .ok (.aload_n 0, 1) := dk_42 (dk_at dksX1_reckon_2 20 rfl rfl)
theorem dX1_reckon_65 : decode cX1_reckon 65 = .ok (.getfield 151, 3) := dk_180 0 151 (dk_at dksX1_reckon_2 21 rfl rfl)
theorem dX1_reckon_68 : decode cX1_reckon 68 = .ok (.aaload, 1) := dk_50 (dk_at dksX1_reckon_3 0 rfl rfl)
theorem dX1_reckon_69 : decode cX1_reckon 69 = .ok (.aload_n 2, 1) := dk_44 (dk_at dksX1_reckon_3 1 rfl rfl)
theorem dX1_reckon_70 : decode cX1_reckon 70 = .ok (.getfield 121, 3) := dk_180 0 121 (dk_at dksX1_reckon_3 2 rfl rfl)
theorem dX1_reckon_73 : decode cX1_reckon 73 = .ok (.invokevirtual 185, 3) := dk_182 0 185 (dk_at dksX1_reckon_3 5 rfl rfl)
theorem dX1_reckon_76 : decode cX1_reckon 76 = .ok (.dup2, 1) := dk_92 (dk_at dksX1_reckon_3 8 rfl rfl)
theorem dX1_reckon_77 : decode cX1_reckon 77 = .ok (.iaload, 1) := dk_46 (dk_at dksX1_reckon_3 9 rfl rfl)
theorem dX1_reckon_78 : decode cX1_reckon 78 = .ok (.iload_n 3, 1) := dk_29 (dk_at dksX1_reckon_3 10 rfl rfl)
theorem dX1_reckon_79 : decode cX1_reckon 79 = .ok (.iadd, 1) := dk_96 (dk_at dksX1_reckon_3 11 rfl rfl)
theorem dX1_reckon_80 : decode cX1_reckon 80 = .ok (.iastore, 1) := dk_79 (dk_at dksX1_reckon_3 12 rfl rfl)
theorem dX1_reckon_81 : decode cX1_reckon 81 = .ok (.aload_n 0, 1) := dk_42 (dk_at dksX1_reckon_3 13 rfl rfl)
theorem dX1_reckon_82 : decode cX1_reckon 82 = .ok (.getfield 50, 3) := dk_180 0 50 (dk_at dksX1_reckon_3 14 rfl rfl)
theorem dX1_reckon_85 : decode cX1_reckon 85 = .ok (.aload_n 0, 1) := dk_42 (dk_at dksX1_reckon_3 17 rfl rfl)
theorem dX1_reckon_86 : decode cX1_reckon 86 = .ok (.getfield 151, 3) := dk_180 0 151 (dk_at dksX1_reckon_3 18 rfl rfl)
theorem dX1_reckon_89 : decode cX1_reckon 89 = .ok (.dup2, 1) := dk_92 (dk_at dksX1_reckon_3 21 rfl rfl)
theorem dX1_reckon_90 : decode cX1_reckon 90 = .ok (.iaload, 1) := dk_46 (dk_at dksX1_reckon_3 22 rfl rfl)
theorem dX1_reckon_91 : decode cX1_reckon 91 = .ok (.getstatic 188, 3) := dk_178 0 188 (dk_at dksX1_reckon_4 0 rfl rfl)
theorem dX1_reckon_94 : decode cX1_reckon 94 = .ok (.aload_n 2, 1) := dk_44 (dk_at dksX1_reckon_4 3 rfl rfl)
theorem dX1_reckon_95 : decode cX1_reckon 95 = .ok (.invokevirtual 167, 3) := dk_182 0 167 (dk_at dksX1_reckon_4 4 rfl rfl)
theorem dX1_reckon_98 : decode cX1_reckon 98 = .ok (.getstatic 191, 3) := dk_178 0 191 (dk_at dksX1_reckon_4 7 rfl rfl)
theorem dX1_reckon_101 : decode cX1_reckon 101 = .ok (.aload_n 2, 1) := dk_44 (dk_at dksX1_reckon_4 10 rfl rfl)
theorem dX1_reckon_102 : decode cX1_reckon 102 = .ok (.invokevirtual 167, 3) := dk_182 0 167 (dk_at dksX1_reckon_4 11 rfl rfl)
theorem dX1_reckon_105 : decode cX1_reckon 105 = .ok (.iadd, 1) := dk_96 (dk_at dksX1_reckon_4 14 rfl rfl)
theorem dX1_reckon_106 : decode cX1_reckon 106 = .ok (.iadd, 1) := dk_96 (dk_at dksX1_reckon_4 15 rfl rfl)
theorem dX1_reckon_107 : decode cX1_reckon 107 = .ok (.iastore, 1) := dk_79 (dk_at dksX1_reckon_4 16 rfl rfl)
theorem dX1_reckon_108 : decode cX1_reckon 108 = .ok (.aload_n 0, 1) := dk_42 (dk_at dksX1_reckon_4 17 rfl rfl)
theorem dX1_reckon_109 : decode cX1_reckon 109 = .ok (.getfield 53, 3) := dk_180 0 53 (dk_at dksX1_reckon_4 18 rfl rfl)
theorem dX1_reckon_112 : decode cX1_reckon 112 = .ok (.aload_n 0, 1) := dk_42 (dk_at dksX1_reckon_4 21 rfl rfl)
theorem dX1_reckon_113 : decode cX1_reckon 113 = .ok (.getfield 151, 3) := dk_180 0 151 (dk_at dksX1_reckon_5 0 rfl rfl)
theorem dX1_reckon_116 : decode cX1_reckon 116 = .ok (.dup2, 1) := dk_92 (dk_at dksX1_reckon_5 3 rfl rfl)
theorem dX1_reckon_117 : decode cX1_reckon 117 = .ok (.iaload, 1) := dk_46 (dk_at dksX1_reckon_5 4 rfl rfl)
theorem dX1_reckon_118 : decode cX1_reckon 118 = .ok (.getstatic 194, 3) := dk_178 0 194 (dk_at dksX1_reckon_5 5 rfl rfl)
theorem dX1_reckon_121 : decode cX1_reckon 121 = .ok (.aload_n 2, 1) := dk_44 (dk_at dksX1_reckon_5 8 rfl rfl)
theorem dX1_reckon_122 : decode cX1_reckon 122 = .ok (.invokevirtual 167, 3) := dk_182 0 167 (dk_at dksX1_reckon_5 9 rfl rfl)
theorem dX1_reckon_125 : decode cX1_reckon 125 = .ok (.iadd, 1) := dk_96 (dk_at dksX1_reckon_5 12 rfl rfl)
theorem dX1_reckon_126 : decode cX1_reckon 126 = .ok (.iastore, 1) := dk_79 (dk_at dksX1_reckon_5 13 rfl rfl)
theorem dX1_reckon_127 : decode cX1_reckon 127 = .ok (.iinc 1 1, 3) := dk_132 1 1 (dk_at dksX1_reckon_5 14 rfl rfl)
theorem dX1_reckon_130 : decode cX1_reckon 130 = .ok (.goto (-128), 3) := dk_167 255 128 (dk_at dksX1_reckon_5 17 rfl rfl)
theorem dX1_reckon_133 : decode cX1_reckon 133 = .ok (.iconst 0, 1) := dk_3 (dk_at dksX1_reckon_5 20 rfl rfl)
theorem dX1_reckon_134 : decode cX1_reckon 134 = .ok (.istore_n 1, 1) := dk_60 (dk_at dksX1_reckon_5 21 rfl rfl)
theorem dX1_reckon_135 : decode cX1_reckon 135 = .ok (.iload_n 1, 1) := dk_27 (dk_at dksX1_reckon_5 22 rfl rfl)
theorem dX1_reckon_136 : decode cX1_reckon 136 = .ok (.iconst 3, 1) := dk_6 (dk_at dksX1_reckon_5 23 rfl rfl)
theorem dX1_reckon_137 : decode cX1_reckon 137 = .ok (.if_icmp .ge 78, 3) := dk_162 0 78 (dk_at dksX1_reckon_6 0 rfl rfl)
theorem dX1_reckon_140 : decode cX1_reckon 140 = .ok (.aload_n 0, 1) := dk_42 (dk_at dksX1_reckon_6 3 rfl rfl)
theorem dX1_reckon_141 : decode cX1_reckon 141 = .ok (.getfield 44, 3) := dk_180 0 44 (dk_at dksX1_reckon_6 4 rfl rfl)
theorem dX1_reckon_144 : decode cX1_reckon 144 = .ok (.aload_n 0, 1) := dk_42 (dk_at dksX1_reckon_6 7 rfl rfl)
theorem dX1_reckon_145 : decode cX1_reckon 145 = .ok (.getfield 151, 3) := dk_180 0 151 (dk_at dksX1_reckon_6 8 rfl rfl)
theorem dX1_reckon_148 : decode cX1_reckon 148 = .ok (.aaload, 1) := dk_50 (dk_at dksX1_reckon_6 11 rfl rfl)
theorem dX1_reckon_149 : decode cX1_reckon 149 = .ok (.iload_n 1, 1) := dk_27 (dk_at dksX1_reckon_6 12 rfl rfl)
theorem dX1_reckon_150 : decode cX1_reckon 150 = .ok (.dup2, 1) := dk_92 (dk_at dksX1_reckon_6 13 rfl rfl)
theorem dX1_reckon_151 : decode cX1_reckon 151 = .ok (.iaload, 1) := dk_46 (dk_at dksX1_reckon_6 14 rfl rfl)
theorem dX1_reckon_152 : decode cX1_reckon 152 = .ok (.aload_n 0, 1) := dk_42 (dk_at dksX1_reckon_6 15 rfl rfl)
theorem dX1_reckon_153 : decode cX1_reckon 153 = .ok (.aload_n 0, 1) := dk_42 (dk_at dksX1_reckon_6 16 rfl rfl)
theorem dX1_reckon_154 : decode cX1_reckon 154 = .ok (.getfield 32, 3) := dk_180 0 32 (dk_at dksX1_reckon_6 17 rfl rfl)
theorem dX1_reckon_157 : decode cX1_reckon 157 = .ok (.iload_n 1, 1) := dk_27 (dk_at dksX1_reckon_6 20 rfl rfl)
theorem dX1_reckon_158 : decode cX1_reckon 158 = .ok (.aaload, 1) := dk_50 (dk_at dksX1_reckon_6 21 rfl rfl)
theorem dX1_reckon_159 : decode cX1_reckon 159 = .ok (.aconst_null, 1) := dk_1 (dk_at dksX1_reckon_6 22 rfl rfl)
theorem dX1_reckon_160 : decode cX1_reckon 160 = .ok (.invokevirtual 178, 3) := dk_182 0 178 (dk_at dksX1_reckon_7 0 rfl rfl)
theorem dX1_reckon_163 : decode cX1_reckon 163 = .ok (.iadd, 1) := dk_96 (dk_at dksX1_reckon_7 3 rfl rfl)
theorem dX1_reckon_164 : decode cX1_reckon 164 = .ok (.iastore, 1) := dk_79 (dk_at dksX1_reckon_7 4 rfl rfl)
theorem dX1_reckon_165 : decode cX1_reckon 165 = .ok (.aload_n 0, 1) := dk_42 (dk_at dksX1_reckon_7 5 rfl rfl)
theorem dX1_reckon_166 : decode cX1_reckon 166 = .ok (.getfield 50, 3) := dk_180 0 50 (dk_at dksX1_reckon_7 6 rfl rfl)
theorem dX1_reckon_169 : decode cX1_reckon 169 = .ok (.aload_n 0, 1) := dk_42 (dk_at dksX1_reckon_7 9 rfl rfl)
theorem dX1_reckon_170 : decode cX1_reckon 170 = .ok (.getfield 151, 3) := dk_180 0 151 (dk_at dksX1_reckon_7 10 rfl rfl)
theorem dX1_reckon_173 : decode cX1_reckon 173 = .ok (.dup2, 1) := dk_92 (dk_at dksX1_reckon_7 13 rfl rfl)
theorem dX1_reckon_174 : decode cX1_reckon 174 = .ok (.iaload, 1) := dk_46 (dk_at dksX1_reckon_7 14 rfl rfl)
theorem dX1_reckon_175 : decode cX1_reckon 175 = .ok (.aload_n 0, 1) := dk_42 (dk_at dksX1_reckon_7 15 rfl rfl)
theorem dX1_reckon_176 : decode cX1_reckon 176 = .ok (.aload_n 0, 1) := dk_42 (dk_at dksX1_reckon_7 16 rfl rfl)
theorem dX1_reckon_177 : decode cX1_reckon 177 = .ok (.getfield 32, 3) := dk_180 0 32 (dk_at dksX1_reckon_7 17 rfl rfl)
theorem dX1_reckon_180 : decode cX1_reckon 180 = .ok (.iload_n 1, 1) := dk_27 (dk_at dksX1_reckon_7 20 rfl rfl)
theorem dX1_reckon_181 : decode cX1_reckon 181 = .ok (.aaload, 1) := dk_50 (dk_at dksX1_reckon_7 21 rfl rfl)
theorem dX1_reckon_182 : decode cX1_reckon 182 = .ok (.invokevirtual 171, 3) := dk_182 0 171 (dk_at dksX1_reckon_8 0 rfl rfl)
theorem dX1_reckon_185 : decode cX1_reckon 185 = .ok (.isub, 1) := dk_100 (dk_at dksX1_reckon_8 3 rfl rfl)
theorem dX1_reckon_186 : decode cX1_reckon 186 = .ok (.iastore, 1) := dk_79 (dk_at dksX1_reckon_8 4 rfl rfl)
theorem dX1_reckon_187 : decode cX1_reckon 187 = .ok (.aload_n 0, 1) := dk_42 (dk_at dksX1_reckon_8 5 rfl rfl)
theorem dX1_reckon_188 : decode cX1_reckon 188 = .ok (.getfield 53, 3) := dk_180 0 53 (dk_at dksX1_reckon_8 6 rfl rfl)
theorem dX1_reckon_191 : decode cX1_reckon 191 = .ok (.aload_n 0, 1) := dk_42 (dk_at dksX1_reckon_8 9 rfl rfl)
theorem dX1_reckon_192 : decode cX1_reckon 192 = .ok (.getfield 151, 3) := dk_180 0 151 (dk_at dksX1_reckon_8 10 rfl rfl)
theorem dX1_reckon_195 : decode cX1_reckon 195 = .ok (.dup2, 1) := dk_92 (dk_at dksX1_reckon_8 13 rfl rfl)
theorem dX1_reckon_196 : decode cX1_reckon 196 = .ok (.iaload, 1) := dk_46 (dk_at dksX1_reckon_8 14 rfl rfl)
theorem dX1_reckon_197 : decode cX1_reckon 197 = .ok (.aload_n 0, 1) := dk_42 (dk_at dksX1_reckon_8 15 rfl rfl)
theorem dX1_reckon_198 : decode cX1_reckon 198 = .ok (.aload_n 0, 1) := dk_42 (dk_at dksX1_reckon_8 16 rfl rfl)
theorem dX1_reckon_199 : decode cX1_reckon 199 = .ok (.getfield 32, 3) := dk_180 0 32 (dk_at dksX1_reckon_8 17 rfl rfl)
theorem dX1_reckon_202 : decode cX1_reckon 202 = .ok (.iload_n 1, 1) := dk_27 (dk_at dksX1_reckon_8 20 rfl rfl)
theorem dX1_reckon_203 : decode cX1_reckon 203 = .ok (.aaload, 1) := dk_50 (dk_at dksX1_reckon_8 21 rfl rfl)
theorem dX1_reckon_204 : decode cX1_reckon 204 = .ok (.invokevirtual 175, 3) := dk_182 0 175 (dk_at dksX1_reckon_9 0 rfl rfl)
theorem dX1_reckon_207 : decode cX1_reckon 207 = .ok (.isub, 1) := dk_100 (dk_at dksX1_reckon_9 3 rfl rfl)
theorem dX1_reckon_208 : decode cX1_reckon 208 = .ok (.iastore, 1) := dk_79 (dk_at dksX1_reckon_9 4 rfl rfl)
theorem dX1_reckon_209 : decode cX1_reckon 209 = .ok (.iinc 1 1, 3) := dk_132 1 1 (dk_at dksX1_reckon_9 5 rfl rfl)
theorem dX1_reckon_212 : decode cX1_reckon 212 = .ok (.goto (-77), 3) := dk_167 255 179 (dk_at dksX1_reckon_9 8 rfl rfl)
theorem dX1_reckon_215 : decode cX1_reckon 215 = .ok (.return_, 1) := dk_177 (dk_at dksX1_reckon_9 11 rfl rfl)
abbrev cX1_marginOf : ByteArray := prog_1_method_16_code
def yX1_marginOf : MethodName := ⟨RX1, "marginOf", "(LFundBook$Deal;LFundBook$Account;)I"⟩
def dkwX1_marginOf_1 : List UInt8 := [182, 0, 171, 42, 45, 182, 0, 175, 100, 172]
abbrev dktX1_marginOf_1 : List UInt8 := dkwX1_marginOf_1 ++ []
def dkwX1_marginOf_0 : List UInt8 := [43, 193, 0, 105, 153, 0, 11, 178, 0, 163, 44, 182, 0, 167, 172, 43, 192, 0, 30, 78, 42, 45]
abbrev dktX1_marginOf_0 : List UInt8 := dkwX1_marginOf_0 ++ dktX1_marginOf_1
theorem dksX1_marginOf_0 : cX1_marginOf.data.toList.drop 0 = dktX1_marginOf_0 := by decide +kernel
theorem dksX1_marginOf_1 : cX1_marginOf.data.toList.drop 22 = dktX1_marginOf_1 := dk_seg dksX1_marginOf_0 22 rfl rfl
theorem dX1_marginOf_0 : decode cX1_marginOf 0 = .ok (.aload_n 1, 1) := dk_43 (dk_at dksX1_marginOf_0 0 rfl rfl)
theorem dX1_marginOf_1 : decode cX1_marginOf 1 = .ok (.instanceof 105, 3) := dk_193 0 105 (dk_at dksX1_marginOf_0 1 rfl rfl)
theorem dX1_marginOf_4 : decode cX1_marginOf 4 = .ok (.ifCond .eq 11, 3) := dk_153 0 11 (dk_at dksX1_marginOf_0 4 rfl rfl)
theorem dX1_marginOf_7 : decode cX1_marginOf 7 = .ok (.getstatic 163, 3) := dk_178 0 163 (dk_at dksX1_marginOf_0 7 rfl rfl)
theorem dX1_marginOf_10 : decode cX1_marginOf 10 = .ok (.aload_n 2, 1) := dk_44 (dk_at dksX1_marginOf_0 10 rfl rfl)
theorem dX1_marginOf_11 : decode cX1_marginOf 11 = .ok (.invokevirtual 167, 3) := dk_182 0 167 (dk_at dksX1_marginOf_0 11 rfl rfl)
theorem dX1_marginOf_14 : decode cX1_marginOf 14 = .ok (.ireturn, 1) := dk_172 (dk_at dksX1_marginOf_0 14 rfl rfl)
theorem dX1_marginOf_15 : decode cX1_marginOf 15 = .ok (.aload_n 1, 1) := dk_43 (dk_at dksX1_marginOf_0 15 rfl rfl)
theorem dX1_marginOf_16 : decode cX1_marginOf 16 = .ok (.checkcast 30, 3) := dk_192 0 30 (dk_at dksX1_marginOf_0 16 rfl rfl)
theorem dX1_marginOf_19 : decode cX1_marginOf 19 = .ok (.astore_n 3, 1) := dk_78 (dk_at dksX1_marginOf_0 19 rfl rfl)
theorem dX1_marginOf_20 : decode cX1_marginOf 20 = .ok (.aload_n 0, 1) := dk_42 (dk_at dksX1_marginOf_0 20 rfl rfl)
theorem dX1_marginOf_21 : decode cX1_marginOf 21 = .ok (.aload_n 3, 1) := dk_45 (dk_at dksX1_marginOf_0 21 rfl rfl)
theorem dX1_marginOf_22 : decode cX1_marginOf 22 = .ok (.invokevirtual 171, 3) := dk_182 0 171 (dk_at dksX1_marginOf_1 0 rfl rfl)
theorem dX1_marginOf_25 : decode cX1_marginOf 25 = .ok (.aload_n 0, 1) := dk_42 (dk_at dksX1_marginOf_1 3 rfl rfl)
theorem dX1_marginOf_26 : decode cX1_marginOf 26 = .ok (.aload_n 3, 1) := dk_45 (dk_at dksX1_marginOf_1 4 rfl rfl)
theorem dX1_marginOf_27 : decode cX1_marginOf 27 = .ok (.invokevirtual 175, 3) := dk_182 0 175 (dk_at dksX1_marginOf_1 5 rfl rfl)
theorem dX1_marginOf_30 : decode cX1_marginOf 30 = .ok (.isub, 1) := dk_100 (dk_at dksX1_marginOf_1 8 rfl rfl)
theorem dX1_marginOf_31 : decode cX1_marginOf 31 = .ok (.ireturn, 1) := dk_172 (dk_at dksX1_marginOf_1 9 rfl rfl)
abbrev cX1_credit : ByteArray := prog_1_method_15_code
def yX1_credit : MethodName := ⟨RX1, "credit", "(LFundBook$Deposit;)I"⟩
def dkwX1_credit_1 : List UInt8 := [182, 0, 142, 133, 32, 101, 42, 180, 0, 19, 3, 46, 133, 105, 97, 20, 0, 161, 109, 136, 172]
abbrev dktX1_credit_1 : List UInt8 := dkwX1_credit_1 ++ []
def dkwX1_credit_0 : List UInt8 := [43, 182, 0, 142, 133, 42, 180, 0, 56, 133, 105, 20, 0, 145, 109, 65, 32, 42, 182, 0, 158, 133, 105, 43]
abbrev dktX1_credit_0 : List UInt8 := dkwX1_credit_0 ++ dktX1_credit_1
theorem dksX1_credit_0 : cX1_credit.data.toList.drop 0 = dktX1_credit_0 := by decide +kernel
theorem dksX1_credit_1 : cX1_credit.data.toList.drop 24 = dktX1_credit_1 := dk_seg dksX1_credit_0 24 rfl rfl
theorem dX1_credit_0 : decode cX1_credit 0 = .ok (.aload_n 1, 1) := dk_43 (dk_at dksX1_credit_0 0 rfl rfl)
theorem dX1_credit_1 : decode cX1_credit 1 = .ok (.invokevirtual 142, 3) := dk_182 0 142 (dk_at dksX1_credit_0 1 rfl rfl)
theorem dX1_credit_4 : decode cX1_credit 4 = .ok (.i2l, 1) := dk_133 (dk_at dksX1_credit_0 4 rfl rfl)
theorem dX1_credit_5 : decode cX1_credit 5 = .ok (.aload_n 0, 1) := dk_42 (dk_at dksX1_credit_0 5 rfl rfl)
theorem dX1_credit_6 : decode cX1_credit 6 = .ok (.getfield 56, 3) := dk_180 0 56 (dk_at dksX1_credit_0 6 rfl rfl)
theorem dX1_credit_9 : decode cX1_credit 9 = .ok (.i2l, 1) := dk_133 (dk_at dksX1_credit_0 9 rfl rfl)
theorem dX1_credit_10 : decode cX1_credit 10 = .ok (.lmul, 1) := dk_105 (dk_at dksX1_credit_0 10 rfl rfl)
theorem dX1_credit_11 : decode cX1_credit 11 = .ok (.ldc2_w 145, 3) := dk_20 0 145 (dk_at dksX1_credit_0 11 rfl rfl)
theorem dX1_credit_14 : decode cX1_credit 14 = .ok (.ldiv, 1) := dk_109 (dk_at dksX1_credit_0 14 rfl rfl)
theorem dX1_credit_15 : decode cX1_credit 15 = .ok (.lstore_n 2, 1) := dk_65 (dk_at dksX1_credit_0 15 rfl rfl)
theorem dX1_credit_16 : decode cX1_credit 16 = .ok (.lload_n 2, 1) := dk_32 (dk_at dksX1_credit_0 16 rfl rfl)
theorem dX1_credit_17 : decode cX1_credit 17 = .ok (.aload_n 0, 1) := dk_42 (dk_at dksX1_credit_0 17 rfl rfl)
theorem dX1_credit_18 : decode cX1_credit 18 = .ok (.invokevirtual 158, 3) := dk_182 0 158 (dk_at dksX1_credit_0 18 rfl rfl)
theorem dX1_credit_21 : decode cX1_credit 21 = .ok (.i2l, 1) := dk_133 (dk_at dksX1_credit_0 21 rfl rfl)
theorem dX1_credit_22 : decode cX1_credit 22 = .ok (.lmul, 1) := dk_105 (dk_at dksX1_credit_0 22 rfl rfl)
theorem dX1_credit_23 : decode cX1_credit 23 = .ok (.aload_n 1, 1) := dk_43 (dk_at dksX1_credit_0 23 rfl rfl)
theorem dX1_credit_24 : decode cX1_credit 24 = .ok (.invokevirtual 142, 3) := dk_182 0 142 (dk_at dksX1_credit_1 0 rfl rfl)
theorem dX1_credit_27 : decode cX1_credit 27 = .ok (.i2l, 1) := dk_133 (dk_at dksX1_credit_1 3 rfl rfl)
theorem dX1_credit_28 : decode cX1_credit 28 = .ok (.lload_n 2, 1) := dk_32 (dk_at dksX1_credit_1 4 rfl rfl)
theorem dX1_credit_29 : decode cX1_credit 29 = .ok (.lsub, 1) := dk_101 (dk_at dksX1_credit_1 5 rfl rfl)
theorem dX1_credit_30 : decode cX1_credit 30 = .ok (.aload_n 0, 1) := dk_42 (dk_at dksX1_credit_1 6 rfl rfl)
theorem dX1_credit_31 : decode cX1_credit 31 = .ok (.getfield 19, 3) := dk_180 0 19 (dk_at dksX1_credit_1 7 rfl rfl)
theorem dX1_credit_34 : decode cX1_credit 34 = .ok (.iconst 0, 1) := dk_3 (dk_at dksX1_credit_1 10 rfl rfl)
theorem dX1_credit_35 : decode cX1_credit 35 = .ok (.iaload, 1) := dk_46 (dk_at dksX1_credit_1 11 rfl rfl)
theorem dX1_credit_36 : decode cX1_credit 36 = .ok (.i2l, 1) := dk_133 (dk_at dksX1_credit_1 12 rfl rfl)
theorem dX1_credit_37 : decode cX1_credit 37 = .ok (.lmul, 1) := dk_105 (dk_at dksX1_credit_1 13 rfl rfl)
theorem dX1_credit_38 : decode cX1_credit 38 = .ok (.ladd, 1) := dk_97 (dk_at dksX1_credit_1 14 rfl rfl)
theorem dX1_credit_39 : decode cX1_credit 39 = .ok (.ldc2_w 161, 3) := dk_20 0 161 (dk_at dksX1_credit_1 15 rfl rfl)
theorem dX1_credit_42 : decode cX1_credit 42 = .ok (.ldiv, 1) := dk_109 (dk_at dksX1_credit_1 18 rfl rfl)
theorem dX1_credit_43 : decode cX1_credit 43 = .ok (.l2i, 1) := dk_136 (dk_at dksX1_credit_1 19 rfl rfl)
theorem dX1_credit_44 : decode cX1_credit 44 = .ok (.ireturn, 1) := dk_172 (dk_at dksX1_credit_1 20 rfl rfl)
abbrev cX1_cost : ByteArray := prog_1_method_17_code
def yX1_cost : MethodName := ⟨RX1, "cost", "(LFundBook$Deposit;)I"⟩
def dkwX1_cost_0 : List UInt8 := [43, 182, 0, 142, 133, 42, 180, 0, 95, 133, 105, 20, 0, 161, 109, 136, 172]
abbrev dktX1_cost_0 : List UInt8 := dkwX1_cost_0 ++ []
theorem dksX1_cost_0 : cX1_cost.data.toList.drop 0 = dktX1_cost_0 := by decide +kernel
theorem dX1_cost_0 : decode cX1_cost 0 = .ok (.aload_n 1, 1) := dk_43 (dk_at dksX1_cost_0 0 rfl rfl)
theorem dX1_cost_1 : decode cX1_cost 1 = .ok (.invokevirtual 142, 3) := dk_182 0 142 (dk_at dksX1_cost_0 1 rfl rfl)
theorem dX1_cost_4 : decode cX1_cost 4 = .ok (.i2l, 1) := dk_133 (dk_at dksX1_cost_0 4 rfl rfl)
theorem dX1_cost_5 : decode cX1_cost 5 = .ok (.aload_n 0, 1) := dk_42 (dk_at dksX1_cost_0 5 rfl rfl)
theorem dX1_cost_6 : decode cX1_cost 6 = .ok (.getfield 95, 3) := dk_180 0 95 (dk_at dksX1_cost_0 6 rfl rfl)
theorem dX1_cost_9 : decode cX1_cost 9 = .ok (.i2l, 1) := dk_133 (dk_at dksX1_cost_0 9 rfl rfl)
theorem dX1_cost_10 : decode cX1_cost 10 = .ok (.lmul, 1) := dk_105 (dk_at dksX1_cost_0 10 rfl rfl)
theorem dX1_cost_11 : decode cX1_cost 11 = .ok (.ldc2_w 161, 3) := dk_20 0 161 (dk_at dksX1_cost_0 11 rfl rfl)
theorem dX1_cost_14 : decode cX1_cost 14 = .ok (.ldiv, 1) := dk_109 (dk_at dksX1_cost_0 14 rfl rfl)
theorem dX1_cost_15 : decode cX1_cost 15 = .ok (.l2i, 1) := dk_136 (dk_at dksX1_cost_0 15 rfl rfl)
theorem dX1_cost_16 : decode cX1_cost 16 = .ok (.ireturn, 1) := dk_172 (dk_at dksX1_cost_0 16 rfl rfl)
abbrev cX1_left : ByteArray := prog_1_method_22_code
def yX1_left : MethodName := ⟨RX1, "left", "(I)I"⟩
def dkwX1_left_0 : List UInt8 := [42, 27, 182, 0, 117, 182, 0, 132, 172]
abbrev dktX1_left_0 : List UInt8 := dkwX1_left_0 ++ []
theorem dksX1_left_0 : cX1_left.data.toList.drop 0 = dktX1_left_0 := by decide +kernel
theorem dX1_left_0 : decode cX1_left 0 = .ok (.aload_n 0, 1) := dk_42 (dk_at dksX1_left_0 0 rfl rfl)
theorem dX1_left_1 : decode cX1_left 1 = .ok (.iload_n 1, 1) := dk_27 (dk_at dksX1_left_0 1 rfl rfl)
theorem dX1_left_2 : decode cX1_left 2 = .ok (.invokevirtual 117, 3) := dk_182 0 117 (dk_at dksX1_left_0 2 rfl rfl)
theorem dX1_left_5 : decode cX1_left 5 = .ok (.invokevirtual 132, 3) := dk_182 0 132 (dk_at dksX1_left_0 5 rfl rfl)
theorem dX1_left_8 : decode cX1_left 8 = .ok (.ireturn, 1) := dk_172 (dk_at dksX1_left_0 8 rfl rfl)
abbrev cX1_bears : ByteArray := prog_1_method_23_code
def yX1_bears : MethodName := ⟨RX1, "bears", "(II)I"⟩
def dkwX1_bears_1 : List UInt8 := [180, 0, 13, 28, 50, 45, 182, 0, 167, 172]
abbrev dktX1_bears_1 : List UInt8 := dkwX1_bears_1 ++ []
def dkwX1_bears_0 : List UInt8 := [42, 27, 182, 0, 117, 78, 28, 3, 42, 180, 0, 13, 190, 4, 100, 184, 0, 87, 184, 0, 91, 42]
abbrev dktX1_bears_0 : List UInt8 := dkwX1_bears_0 ++ dktX1_bears_1
theorem dksX1_bears_0 : cX1_bears.data.toList.drop 0 = dktX1_bears_0 := by decide +kernel
theorem dksX1_bears_1 : cX1_bears.data.toList.drop 22 = dktX1_bears_1 := dk_seg dksX1_bears_0 22 rfl rfl
theorem dX1_bears_0 : decode cX1_bears 0 = .ok (.aload_n 0, 1) := dk_42 (dk_at dksX1_bears_0 0 rfl rfl)
theorem dX1_bears_1 : decode cX1_bears 1 = .ok (.iload_n 1, 1) := dk_27 (dk_at dksX1_bears_0 1 rfl rfl)
theorem dX1_bears_2 : decode cX1_bears 2 = .ok (.invokevirtual 117, 3) := dk_182 0 117 (dk_at dksX1_bears_0 2 rfl rfl)
theorem dX1_bears_5 : decode cX1_bears 5 = .ok (.astore_n 3, 1) := dk_78 (dk_at dksX1_bears_0 5 rfl rfl)
theorem dX1_bears_6 : decode cX1_bears 6 = .ok (.iload_n 2, 1) := dk_28 (dk_at dksX1_bears_0 6 rfl rfl)
theorem dX1_bears_7 : decode cX1_bears 7 = .ok (.iconst 0, 1) := dk_3 (dk_at dksX1_bears_0 7 rfl rfl)
theorem dX1_bears_8 : decode cX1_bears 8 = .ok (.aload_n 0, 1) := dk_42 (dk_at dksX1_bears_0 8 rfl rfl)
theorem dX1_bears_9 : decode cX1_bears 9 = .ok (.getfield 13, 3) := dk_180 0 13 (dk_at dksX1_bears_0 9 rfl rfl)
theorem dX1_bears_12 : decode cX1_bears 12 = .ok (.arraylength, 1) := dk_190 (dk_at dksX1_bears_0 12 rfl rfl)
theorem dX1_bears_13 : decode cX1_bears 13 = .ok (.iconst 1, 1) := dk_4 (dk_at dksX1_bears_0 13 rfl rfl)
theorem dX1_bears_14 : decode cX1_bears 14 = .ok (.isub, 1) := dk_100 (dk_at dksX1_bears_0 14 rfl rfl)
theorem dX1_bears_15 : decode cX1_bears 15 = .ok (.invokestatic 87, 3) := dk_184 0 87 (dk_at dksX1_bears_0 15 rfl rfl)
theorem dX1_bears_18 : decode cX1_bears 18 = .ok (.invokestatic 91, 3) := dk_184 0 91 (dk_at dksX1_bears_0 18 rfl rfl)
theorem dX1_bears_21 : decode cX1_bears 21 = .ok (.aload_n 0, 1) := dk_42 (dk_at dksX1_bears_0 21 rfl rfl)
theorem dX1_bears_22 : decode cX1_bears 22 = .ok (.getfield 13, 3) := dk_180 0 13 (dk_at dksX1_bears_1 0 rfl rfl)
theorem dX1_bears_25 : decode cX1_bears 25 = .ok (.iload_n 2, 1) := dk_28 (dk_at dksX1_bears_1 3 rfl rfl)
theorem dX1_bears_26 : decode cX1_bears 26 = .ok (.aaload, 1) := dk_50 (dk_at dksX1_bears_1 4 rfl rfl)
theorem dX1_bears_27 : decode cX1_bears 27 = .ok (.aload_n 3, 1) := dk_45 (dk_at dksX1_bears_1 5 rfl rfl)
theorem dX1_bears_28 : decode cX1_bears 28 = .ok (.invokevirtual 167, 3) := dk_182 0 167 (dk_at dksX1_bears_1 6 rfl rfl)
theorem dX1_bears_31 : decode cX1_bears 31 = .ok (.ireturn, 1) := dk_172 (dk_at dksX1_bears_1 9 rfl rfl)
abbrev cX1_due : ByteArray := prog_1_method_24_code
def yX1_due : MethodName := ⟨RX1, "due", "(I)I"⟩
def dkwX1_due_3 : List UInt8 := [182, 0, 135, 21, 5, 46, 167, 0, 4, 3, 96, 61, 132, 3, 1, 167, 255, 184, 28, 172]
abbrev dktX1_due_3 : List UInt8 := dkwX1_due_3 ++ []
def dkwX1_due_2 : List UInt8 := [96, 54, 5, 28, 21, 5, 25, 4, 180, 0, 121, 182, 0, 135, 190, 162, 0, 17, 25, 4, 180, 0, 121]
abbrev dktX1_due_2 : List UInt8 := dkwX1_due_2 ++ dktX1_due_3
def dkwX1_due_1 : List UInt8 := [162, 0, 65, 42, 180, 0, 26, 29, 185, 0, 81, 2, 0, 192, 0, 85, 58, 4, 25, 4, 180, 0, 139, 27]
abbrev dktX1_due_1 : List UInt8 := dkwX1_due_1 ++ dktX1_due_2
def dkwX1_due_0 : List UInt8 := [27, 3, 8, 184, 0, 87, 184, 0, 91, 3, 61, 3, 62, 29, 42, 180, 0, 26, 185, 0, 72, 1, 0]
abbrev dktX1_due_0 : List UInt8 := dkwX1_due_0 ++ dktX1_due_1
theorem dksX1_due_0 : cX1_due.data.toList.drop 0 = dktX1_due_0 := by decide +kernel
theorem dksX1_due_1 : cX1_due.data.toList.drop 23 = dktX1_due_1 := dk_seg dksX1_due_0 23 rfl rfl
theorem dksX1_due_2 : cX1_due.data.toList.drop 47 = dktX1_due_2 := dk_seg dksX1_due_1 24 rfl rfl
theorem dksX1_due_3 : cX1_due.data.toList.drop 70 = dktX1_due_3 := dk_seg dksX1_due_2 23 rfl rfl
theorem dX1_due_0 : decode cX1_due 0 = .ok (.iload_n 1, 1) := dk_27 (dk_at dksX1_due_0 0 rfl rfl)
theorem dX1_due_1 : decode cX1_due 1 = .ok (.iconst 0, 1) := dk_3 (dk_at dksX1_due_0 1 rfl rfl)
theorem dX1_due_2 : decode cX1_due 2 = .ok (.iconst 5, 1) := dk_8 (dk_at dksX1_due_0 2 rfl rfl)
theorem dX1_due_3 : decode cX1_due 3 = .ok (.invokestatic 87, 3) := dk_184 0 87 (dk_at dksX1_due_0 3 rfl rfl)
theorem dX1_due_6 : decode cX1_due 6 = .ok (.invokestatic 91, 3) := dk_184 0 91 (dk_at dksX1_due_0 6 rfl rfl)
theorem dX1_due_9 : decode cX1_due 9 = .ok (.iconst 0, 1) := dk_3 (dk_at dksX1_due_0 9 rfl rfl)
theorem dX1_due_10 : decode cX1_due 10 = .ok (.istore_n 2, 1) := dk_61 (dk_at dksX1_due_0 10 rfl rfl)
theorem dX1_due_11 : decode cX1_due 11 = .ok (.iconst 0, 1) := dk_3 (dk_at dksX1_due_0 11 rfl rfl)
theorem dX1_due_12 : decode cX1_due 12 = .ok (.istore_n 3, 1) := dk_62 (dk_at dksX1_due_0 12 rfl rfl)
theorem dX1_due_13 : decode cX1_due 13 = .ok (.iload_n 3, 1) := dk_29 (dk_at dksX1_due_0 13 rfl rfl)
theorem dX1_due_14 : decode cX1_due 14 = .ok (.aload_n 0, 1) := dk_42 (dk_at dksX1_due_0 14 rfl rfl)
theorem dX1_due_15 : decode cX1_due 15 = .ok (.getfield 26, 3) := dk_180 0 26 (dk_at dksX1_due_0 15 rfl rfl)
theorem dX1_due_18 : decode cX1_due 18 = .ok (.invokeinterface 72 1, 5) := by decide +kernel
theorem dX1_due_23 : decode cX1_due 23 = .ok (.if_icmp .ge 65, 3) := dk_162 0 65 (dk_at dksX1_due_1 0 rfl rfl)
theorem dX1_due_26 : decode cX1_due 26 = .ok (.aload_n 0, 1) := dk_42 (dk_at dksX1_due_1 3 rfl rfl)
theorem dX1_due_27 : decode cX1_due 27 = .ok (.getfield 26, 3) := dk_180 0 26 (dk_at dksX1_due_1 4 rfl rfl)
theorem dX1_due_30 : decode cX1_due 30 = .ok (.iload_n 3, 1) := dk_29 (dk_at dksX1_due_1 7 rfl rfl)
theorem dX1_due_31 : decode cX1_due 31 = .ok (.invokeinterface 81 2, 5) := by decide +kernel
theorem dX1_due_36 : decode cX1_due 36 = .ok (.checkcast 85, 3) := dk_192 0 85 (dk_at dksX1_due_1 13 rfl rfl)
theorem dX1_due_39 : decode cX1_due 39 = .ok (.astore 4, 2) := dk_58 4 (dk_at dksX1_due_1 16 rfl rfl)
theorem dX1_due_41 : decode cX1_due 41 = .ok (.aload 4, 2) := dk_25 4 (dk_at dksX1_due_1 18 rfl rfl)
theorem dX1_due_43 : decode cX1_due 43 = .ok (.getfield 139, 3) := dk_180 0 139 (dk_at dksX1_due_1 20 rfl rfl)
theorem dX1_due_46 : decode cX1_due 46 = .ok (.iload_n 1, 1) := dk_27 (dk_at dksX1_due_1 23 rfl rfl)
theorem dX1_due_47 : decode cX1_due 47 = .ok (.iadd, 1) := dk_96 (dk_at dksX1_due_2 0 rfl rfl)
theorem dX1_due_48 : decode cX1_due 48 = .ok (.istore 5, 2) := dk_54 5 (dk_at dksX1_due_2 1 rfl rfl)
theorem dX1_due_50 : decode cX1_due 50 = .ok (.iload_n 2, 1) := dk_28 (dk_at dksX1_due_2 3 rfl rfl)
theorem dX1_due_51 : decode cX1_due 51 = .ok (.iload 5, 2) := dk_21 5 (dk_at dksX1_due_2 4 rfl rfl)
theorem dX1_due_53 : decode cX1_due 53 = .ok (.aload 4, 2) := dk_25 4 (dk_at dksX1_due_2 6 rfl rfl)
theorem dX1_due_55 : decode cX1_due 55 = .ok (.getfield 121, 3) := dk_180 0 121 (dk_at dksX1_due_2 8 rfl rfl)
theorem dX1_due_58 : decode cX1_due 58 = .ok (.invokevirtual 135, 3) := dk_182 0 135 (dk_at dksX1_due_2 11 rfl rfl)
theorem dX1_due_61 : decode cX1_due 61 = .ok (.arraylength, 1) := dk_190 (dk_at dksX1_due_2 14 rfl rfl)
theorem dX1_due_62 : decode cX1_due 62 = .ok (.if_icmp .ge 17, 3) := dk_162 0 17 (dk_at dksX1_due_2 15 rfl rfl)
theorem dX1_due_65 : decode cX1_due 65 = .ok (.aload 4, 2) := dk_25 4 (dk_at dksX1_due_2 18 rfl rfl)
theorem dX1_due_67 : decode cX1_due 67 = .ok (.getfield 121, 3) := dk_180 0 121 (dk_at dksX1_due_2 20 rfl rfl)
theorem dX1_due_70 : decode cX1_due 70 = .ok (.invokevirtual 135, 3) := dk_182 0 135 (dk_at dksX1_due_3 0 rfl rfl)
theorem dX1_due_73 : decode cX1_due 73 = .ok (.iload 5, 2) := dk_21 5 (dk_at dksX1_due_3 3 rfl rfl)
theorem dX1_due_75 : decode cX1_due 75 = .ok (.iaload, 1) := dk_46 (dk_at dksX1_due_3 5 rfl rfl)
theorem dX1_due_76 : decode cX1_due 76 = .ok (.goto 4, 3) := dk_167 0 4 (dk_at dksX1_due_3 6 rfl rfl)
theorem dX1_due_79 : decode cX1_due 79 = .ok (.iconst 0, 1) := dk_3 (dk_at dksX1_due_3 9 rfl rfl)
theorem dX1_due_80 : decode cX1_due 80 = .ok (.iadd, 1) := dk_96 (dk_at dksX1_due_3 10 rfl rfl)
theorem dX1_due_81 : decode cX1_due 81 = .ok (.istore_n 2, 1) := dk_61 (dk_at dksX1_due_3 11 rfl rfl)
theorem dX1_due_82 : decode cX1_due 82 = .ok (.iinc 3 1, 3) := dk_132 3 1 (dk_at dksX1_due_3 12 rfl rfl)
theorem dX1_due_85 : decode cX1_due 85 = .ok (.goto (-72), 3) := dk_167 255 184 (dk_at dksX1_due_3 15 rfl rfl)
theorem dX1_due_88 : decode cX1_due 88 = .ok (.iload_n 2, 1) := dk_28 (dk_at dksX1_due_3 18 rfl rfl)
theorem dX1_due_89 : decode cX1_due 89 = .ok (.ireturn, 1) := dk_172 (dk_at dksX1_due_3 19 rfl rfl)
abbrev cX1_balance : ByteArray := prog_1_method_25_code
def yX1_balance : MethodName := ⟨RX1, "balance", "(I)I"⟩
def dkwX1_balance_0 : List UInt8 := [27, 6, 184, 0, 78, 42, 180, 0, 32, 27, 50, 182, 0, 142, 172]
abbrev dktX1_balance_0 : List UInt8 := dkwX1_balance_0 ++ []
theorem dksX1_balance_0 : cX1_balance.data.toList.drop 0 = dktX1_balance_0 := by decide +kernel
theorem dX1_balance_0 : decode cX1_balance 0 = .ok (.iload_n 1, 1) := dk_27 (dk_at dksX1_balance_0 0 rfl rfl)
theorem dX1_balance_1 : decode cX1_balance 1 = .ok (.iconst 3, 1) := dk_6 (dk_at dksX1_balance_0 1 rfl rfl)
theorem dX1_balance_2 : decode cX1_balance 2 = .ok (.invokestatic 78, 3) := dk_184 0 78 (dk_at dksX1_balance_0 2 rfl rfl)
theorem dX1_balance_5 : decode cX1_balance 5 = .ok (.aload_n 0, 1) := dk_42 (dk_at dksX1_balance_0 5 rfl rfl)
theorem dX1_balance_6 : decode cX1_balance 6 = .ok (.getfield 32, 3) := dk_180 0 32 (dk_at dksX1_balance_0 6 rfl rfl)
theorem dX1_balance_9 : decode cX1_balance 9 = .ok (.iload_n 1, 1) := dk_27 (dk_at dksX1_balance_0 9 rfl rfl)
theorem dX1_balance_10 : decode cX1_balance 10 = .ok (.aaload, 1) := dk_50 (dk_at dksX1_balance_0 10 rfl rfl)
theorem dX1_balance_11 : decode cX1_balance 11 = .ok (.invokevirtual 142, 3) := dk_182 0 142 (dk_at dksX1_balance_0 11 rfl rfl)
theorem dX1_balance_14 : decode cX1_balance 14 = .ok (.ireturn, 1) := dk_172 (dk_at dksX1_balance_0 14 rfl rfl)
abbrev cX1_tranche : ByteArray := prog_1_method_26_code
def yX1_tranche : MethodName := ⟨RX1, "tranche", "(I)I"⟩
def dkwX1_tranche_0 : List UInt8 := [27, 16, 6, 184, 0, 78, 42, 180, 0, 36, 27, 46, 172]
abbrev dktX1_tranche_0 : List UInt8 := dkwX1_tranche_0 ++ []
theorem dksX1_tranche_0 : cX1_tranche.data.toList.drop 0 = dktX1_tranche_0 := by decide +kernel
theorem dX1_tranche_0 : decode cX1_tranche 0 = .ok (.iload_n 1, 1) := dk_27 (dk_at dksX1_tranche_0 0 rfl rfl)
theorem dX1_tranche_1 : decode cX1_tranche 1 = .ok (.bipush 6, 2) := dk_16 6 (dk_at dksX1_tranche_0 1 rfl rfl)
theorem dX1_tranche_3 : decode cX1_tranche 3 = .ok (.invokestatic 78, 3) := dk_184 0 78 (dk_at dksX1_tranche_0 3 rfl rfl)
theorem dX1_tranche_6 : decode cX1_tranche 6 = .ok (.aload_n 0, 1) := dk_42 (dk_at dksX1_tranche_0 6 rfl rfl)
theorem dX1_tranche_7 : decode cX1_tranche 7 = .ok (.getfield 36, 3) := dk_180 0 36 (dk_at dksX1_tranche_0 7 rfl rfl)
theorem dX1_tranche_10 : decode cX1_tranche 10 = .ok (.iload_n 1, 1) := dk_27 (dk_at dksX1_tranche_0 10 rfl rfl)
theorem dX1_tranche_11 : decode cX1_tranche 11 = .ok (.iaload, 1) := dk_46 (dk_at dksX1_tranche_0 11 rfl rfl)
theorem dX1_tranche_12 : decode cX1_tranche 12 = .ok (.ireturn, 1) := dk_172 (dk_at dksX1_tranche_0 12 rfl rfl)
abbrev cX1_margin : ByteArray := prog_1_method_28_code
def yX1_margin : MethodName := ⟨RX1, "margin", "(II)I"⟩
def dkwX1_margin_0 : List UInt8 := [27, 6, 184, 0, 78, 28, 42, 180, 0, 151, 184, 0, 78, 42, 180, 0, 44, 28, 50, 27, 46, 172]
abbrev dktX1_margin_0 : List UInt8 := dkwX1_margin_0 ++ []
theorem dksX1_margin_0 : cX1_margin.data.toList.drop 0 = dktX1_margin_0 := by decide +kernel
theorem dX1_margin_0 : decode cX1_margin 0 = .ok (.iload_n 1, 1) := dk_27 (dk_at dksX1_margin_0 0 rfl rfl)
theorem dX1_margin_1 : decode cX1_margin 1 = .ok (.iconst 3, 1) := dk_6 (dk_at dksX1_margin_0 1 rfl rfl)
theorem dX1_margin_2 : decode cX1_margin 2 = .ok (.invokestatic 78, 3) := dk_184 0 78 (dk_at dksX1_margin_0 2 rfl rfl)
theorem dX1_margin_5 : decode cX1_margin 5 = .ok (.iload_n 2, 1) := dk_28 (dk_at dksX1_margin_0 5 rfl rfl)
theorem dX1_margin_6 : decode cX1_margin 6 = .ok (.aload_n 0, 1) := dk_42 (dk_at dksX1_margin_0 6 rfl rfl)
theorem dX1_margin_7 : decode cX1_margin 7 = .ok (.getfield 151, 3) := dk_180 0 151 (dk_at dksX1_margin_0 7 rfl rfl)
theorem dX1_margin_10 : decode cX1_margin 10 = .ok (.invokestatic 78, 3) := dk_184 0 78 (dk_at dksX1_margin_0 10 rfl rfl)
theorem dX1_margin_13 : decode cX1_margin 13 = .ok (.aload_n 0, 1) := dk_42 (dk_at dksX1_margin_0 13 rfl rfl)
theorem dX1_margin_14 : decode cX1_margin 14 = .ok (.getfield 44, 3) := dk_180 0 44 (dk_at dksX1_margin_0 14 rfl rfl)
theorem dX1_margin_17 : decode cX1_margin 17 = .ok (.iload_n 2, 1) := dk_28 (dk_at dksX1_margin_0 17 rfl rfl)
theorem dX1_margin_18 : decode cX1_margin 18 = .ok (.aaload, 1) := dk_50 (dk_at dksX1_margin_0 18 rfl rfl)
theorem dX1_margin_19 : decode cX1_margin 19 = .ok (.iload_n 1, 1) := dk_27 (dk_at dksX1_margin_0 19 rfl rfl)
theorem dX1_margin_20 : decode cX1_margin 20 = .ok (.iaload, 1) := dk_46 (dk_at dksX1_margin_0 20 rfl rfl)
theorem dX1_margin_21 : decode cX1_margin 21 = .ok (.ireturn, 1) := dk_172 (dk_at dksX1_margin_0 21 rfl rfl)
abbrev cX1_byProduct : ByteArray := prog_1_method_29_code
def yX1_byProduct : MethodName := ⟨RX1, "byProduct", "(II)I"⟩
def dkwX1_byProduct_0 : List UInt8 := [27, 6, 184, 0, 78, 28, 42, 180, 0, 151, 184, 0, 78, 42, 180, 0, 47, 28, 50, 27, 46, 172]
abbrev dktX1_byProduct_0 : List UInt8 := dkwX1_byProduct_0 ++ []
theorem dksX1_byProduct_0 : cX1_byProduct.data.toList.drop 0 = dktX1_byProduct_0 := by decide +kernel
theorem dX1_byProduct_0 : decode cX1_byProduct 0 = .ok (.iload_n 1, 1) := dk_27 (dk_at dksX1_byProduct_0 0 rfl rfl)
theorem dX1_byProduct_1 : decode cX1_byProduct 1 = .ok (.iconst 3, 1) := dk_6 (dk_at dksX1_byProduct_0 1 rfl rfl)
theorem dX1_byProduct_2 : decode cX1_byProduct 2 = .ok (.invokestatic 78, 3) := dk_184 0 78 (dk_at dksX1_byProduct_0 2 rfl rfl)
theorem dX1_byProduct_5 : decode cX1_byProduct 5 = .ok (.iload_n 2, 1) := dk_28 (dk_at dksX1_byProduct_0 5 rfl rfl)
theorem dX1_byProduct_6 : decode cX1_byProduct 6 = .ok (.aload_n 0, 1) := dk_42 (dk_at dksX1_byProduct_0 6 rfl rfl)
theorem dX1_byProduct_7 : decode cX1_byProduct 7 = .ok (.getfield 151, 3) := dk_180 0 151 (dk_at dksX1_byProduct_0 7 rfl rfl)
theorem dX1_byProduct_10 : decode cX1_byProduct 10 = .ok (.invokestatic 78, 3) := dk_184 0 78 (dk_at dksX1_byProduct_0 10 rfl rfl)
theorem dX1_byProduct_13 : decode cX1_byProduct 13 = .ok (.aload_n 0, 1) := dk_42 (dk_at dksX1_byProduct_0 13 rfl rfl)
theorem dX1_byProduct_14 : decode cX1_byProduct 14 = .ok (.getfield 47, 3) := dk_180 0 47 (dk_at dksX1_byProduct_0 14 rfl rfl)
theorem dX1_byProduct_17 : decode cX1_byProduct 17 = .ok (.iload_n 2, 1) := dk_28 (dk_at dksX1_byProduct_0 17 rfl rfl)
theorem dX1_byProduct_18 : decode cX1_byProduct 18 = .ok (.aaload, 1) := dk_50 (dk_at dksX1_byProduct_0 18 rfl rfl)
theorem dX1_byProduct_19 : decode cX1_byProduct 19 = .ok (.iload_n 1, 1) := dk_27 (dk_at dksX1_byProduct_0 19 rfl rfl)
theorem dX1_byProduct_20 : decode cX1_byProduct 20 = .ok (.iaload, 1) := dk_46 (dk_at dksX1_byProduct_0 20 rfl rfl)
theorem dX1_byProduct_21 : decode cX1_byProduct 21 = .ok (.ireturn, 1) := dk_172 (dk_at dksX1_byProduct_0 21 rfl rfl)
abbrev cX1_treasury : ByteArray := prog_1_method_30_code
def yX1_treasury : MethodName := ⟨RX1, "treasury", "(I)I"⟩
def dkwX1_treasury_0 : List UInt8 := [27, 42, 180, 0, 151, 184, 0, 78, 42, 180, 0, 50, 27, 46, 172]
abbrev dktX1_treasury_0 : List UInt8 := dkwX1_treasury_0 ++ []
theorem dksX1_treasury_0 : cX1_treasury.data.toList.drop 0 = dktX1_treasury_0 := by decide +kernel
theorem dX1_treasury_0 : decode cX1_treasury 0 = .ok (.iload_n 1, 1) := dk_27 (dk_at dksX1_treasury_0 0 rfl rfl)
theorem dX1_treasury_1 : decode cX1_treasury 1 = .ok (.aload_n 0, 1) := dk_42 (dk_at dksX1_treasury_0 1 rfl rfl)
theorem dX1_treasury_2 : decode cX1_treasury 2 = .ok (.getfield 151, 3) := dk_180 0 151 (dk_at dksX1_treasury_0 2 rfl rfl)
theorem dX1_treasury_5 : decode cX1_treasury 5 = .ok (.invokestatic 78, 3) := dk_184 0 78 (dk_at dksX1_treasury_0 5 rfl rfl)
theorem dX1_treasury_8 : decode cX1_treasury 8 = .ok (.aload_n 0, 1) := dk_42 (dk_at dksX1_treasury_0 8 rfl rfl)
theorem dX1_treasury_9 : decode cX1_treasury 9 = .ok (.getfield 50, 3) := dk_180 0 50 (dk_at dksX1_treasury_0 9 rfl rfl)
theorem dX1_treasury_12 : decode cX1_treasury 12 = .ok (.iload_n 1, 1) := dk_27 (dk_at dksX1_treasury_0 12 rfl rfl)
theorem dX1_treasury_13 : decode cX1_treasury 13 = .ok (.iaload, 1) := dk_46 (dk_at dksX1_treasury_0 13 rfl rfl)
theorem dX1_treasury_14 : decode cX1_treasury 14 = .ok (.ireturn, 1) := dk_172 (dk_at dksX1_treasury_0 14 rfl rfl)
abbrev cX1_interest : ByteArray := prog_1_method_31_code
def yX1_interest : MethodName := ⟨RX1, "interest", "(I)I"⟩
def dkwX1_interest_0 : List UInt8 := [27, 42, 180, 0, 151, 184, 0, 78, 42, 180, 0, 53, 27, 46, 172]
abbrev dktX1_interest_0 : List UInt8 := dkwX1_interest_0 ++ []
theorem dksX1_interest_0 : cX1_interest.data.toList.drop 0 = dktX1_interest_0 := by decide +kernel
theorem dX1_interest_0 : decode cX1_interest 0 = .ok (.iload_n 1, 1) := dk_27 (dk_at dksX1_interest_0 0 rfl rfl)
theorem dX1_interest_1 : decode cX1_interest 1 = .ok (.aload_n 0, 1) := dk_42 (dk_at dksX1_interest_0 1 rfl rfl)
theorem dX1_interest_2 : decode cX1_interest 2 = .ok (.getfield 151, 3) := dk_180 0 151 (dk_at dksX1_interest_0 2 rfl rfl)
theorem dX1_interest_5 : decode cX1_interest 5 = .ok (.invokestatic 78, 3) := dk_184 0 78 (dk_at dksX1_interest_0 5 rfl rfl)
theorem dX1_interest_8 : decode cX1_interest 8 = .ok (.aload_n 0, 1) := dk_42 (dk_at dksX1_interest_0 8 rfl rfl)
theorem dX1_interest_9 : decode cX1_interest 9 = .ok (.getfield 53, 3) := dk_180 0 53 (dk_at dksX1_interest_0 9 rfl rfl)
theorem dX1_interest_12 : decode cX1_interest 12 = .ok (.iload_n 1, 1) := dk_27 (dk_at dksX1_interest_0 12 rfl rfl)
theorem dX1_interest_13 : decode cX1_interest 13 = .ok (.iaload, 1) := dk_46 (dk_at dksX1_interest_0 13 rfl rfl)
theorem dX1_interest_14 : decode cX1_interest 14 = .ok (.ireturn, 1) := dk_172 (dk_at dksX1_interest_0 14 rfl rfl)
theorem q23 : (Jvm.Cond.initialized "FundBook") ∈ lw_all := lw_g (lw_at lw_m1 1 rfl) rfl
theorem q50 : (Jvm.Cond.instantiable "FundBook" (14 : Nat)) ∈ lw_all := lw_g (lw_at lw_m1 28 rfl) rfl
theorem q52 : (Jvm.Cond.instanceMethod ({ cls := "FundBook", name := "<init>", desc := "()V" } : Jvm.MethodName)) ∈ lw_all := lw_g (lw_at lw_m1 30 rfl) rfl
theorem q53 : (Jvm.Cond.code ({ cls := "FundBook", name := "<init>", desc := "()V" } : Jvm.MethodName) prog_1_method_1_code (2 : Nat) (Option.none : Option Jvm.ClassFile.FieldType)) ∈ lw_all := lw_g (lw_at lw_m1 31 rfl) rfl
theorem q54 : (Jvm.Cond.methodLink "FundBook" (1 : Nat) ({ cls := "java/lang/Object", name := "<init>", desc := "()V" } : Jvm.MethodName)) ∈ lw_all := lw_g (lw_at lw_m1 32 rfl) rfl
theorem q57 : (Jvm.Cond.methodLink "FundBook" (7 : Nat) ({ cls := "FundBook$Bearing", name := "values", desc := "()[LFundBook$Bearing;" } : Jvm.MethodName)) ∈ lw_all := lw_g (lw_at lw_m1 35 rfl) rfl
theorem q70 : (Jvm.Cond.classLink "FundBook" (23 : Nat) "java/util/ArrayList") ∈ lw_all := lw_g (lw_at lw_m1 48 rfl) rfl
theorem q72 : (Jvm.Cond.methodLink "FundBook" (25 : Nat) ({ cls := "java/util/ArrayList", name := "<init>", desc := "()V" } : Jvm.MethodName)) ∈ lw_all := lw_g (lw_at lw_m1 50 rfl) rfl
theorem q97 : (Jvm.Cond.classLink "FundBook" (30 : Nat) "FundBook$Deposit") ∈ lw_all := lw_g (lw_at lw_m1 75 rfl) rfl
theorem q99 : (Jvm.Cond.classLink "FundBook" (42 : Nat) "[[I") ∈ lw_all := lw_g (lw_at lw_m1 77 rfl) rfl
theorem q102 : (Jvm.Cond.methodLinkNest "FundBook" (60 : Nat) ({ cls := "FundBook$Deposit", name := "<init>", desc := "(II)V" } : Jvm.MethodName) "FundBook") ∈ lw_tbl := lw_at lw_m1 80 rfl
theorem q116 : (Jvm.Cond.fieldLink "FundBook" (13 : Nat) "FundBook" "bearings" "[LFundBook$Bearing;") ∈ lw_all := lw_g (lw_at lw_m1 94 rfl) rfl
theorem q117 : (Jvm.Cond.fieldLink "FundBook" (19 : Nat) "FundBook" "curve" "[I") ∈ lw_all := lw_g (lw_at lw_m1 95 rfl) rfl
theorem q118 : (Jvm.Cond.fieldLink "FundBook" (26 : Nat) "FundBook" "accounts" "Ljava/util/List;") ∈ lw_all := lw_g (lw_at lw_m1 96 rfl) rfl
theorem q119 : (Jvm.Cond.fieldLink "FundBook" (32 : Nat) "FundBook" "deposits" "[LFundBook$Deposit;") ∈ lw_all := lw_g (lw_at lw_m1 97 rfl) rfl
theorem q120 : (Jvm.Cond.fieldLink "FundBook" (36 : Nat) "FundBook" "amounts" "[I") ∈ lw_all := lw_g (lw_at lw_m1 98 rfl) rfl
theorem q121 : (Jvm.Cond.fieldLink "FundBook" (39 : Nat) "FundBook" "rates" "[I") ∈ lw_all := lw_g (lw_at lw_m1 99 rfl) rfl
theorem q122 : (Jvm.Cond.fieldLink "FundBook" (44 : Nat) "FundBook" "margins" "[[I") ∈ lw_all := lw_g (lw_at lw_m1 100 rfl) rfl
theorem q123 : (Jvm.Cond.fieldLink "FundBook" (47 : Nat) "FundBook" "byProducts" "[[I") ∈ lw_all := lw_g (lw_at lw_m1 101 rfl) rfl
theorem q124 : (Jvm.Cond.fieldLink "FundBook" (50 : Nat) "FundBook" "treasuries" "[I") ∈ lw_all := lw_g (lw_at lw_m1 102 rfl) rfl
theorem q125 : (Jvm.Cond.fieldLink "FundBook" (53 : Nat) "FundBook" "interests" "[I") ∈ lw_all := lw_g (lw_at lw_m1 103 rfl) rfl
theorem q126 : (Jvm.Cond.fieldLink "FundBook" (95 : Nat) "FundBook" "depositRate" "I") ∈ lw_all := lw_g (lw_at lw_m1 104 rfl) rfl
theorem q127 : (Jvm.Cond.fieldLink "FundBook" (98 : Nat) "FundBook" "optionRate" "I") ∈ lw_all := lw_g (lw_at lw_m1 105 rfl) rfl
theorem q128 : (Jvm.Cond.fieldLink "FundBook" (56 : Nat) "FundBook" "coreShare" "I") ∈ lw_all := lw_g (lw_at lw_m1 106 rfl) rfl
theorem q129 : (Jvm.Cond.fieldLink "FundBook" (151 : Nat) "FundBook" "month" "I") ∈ lw_all := lw_g (lw_at lw_m1 107 rfl) rfl
theorem q130 : (Jvm.Cond.laysFinal "FundBook" "FundBook" "bearings" "[LFundBook$Bearing;") ∈ lw_all := lw_g (lw_at lw_m1 108 rfl) rfl
theorem q131 : (Jvm.Cond.soleField "FundBook" "bearings") ∈ lw_all := lw_g (lw_at lw_m1 109 rfl) rfl
theorem q132 : (Jvm.Cond.laysFinal "FundBook" "FundBook" "curve" "[I") ∈ lw_all := lw_g (lw_at lw_m1 110 rfl) rfl
theorem q133 : (Jvm.Cond.soleField "FundBook" "curve") ∈ lw_all := lw_g (lw_at lw_m1 111 rfl) rfl
theorem q134 : (Jvm.Cond.laysFinal "FundBook" "FundBook" "accounts" "Ljava/util/List;") ∈ lw_all := lw_g (lw_at lw_m1 112 rfl) rfl
theorem q135 : (Jvm.Cond.soleField "FundBook" "accounts") ∈ lw_all := lw_g (lw_at lw_m1 113 rfl) rfl
theorem q136 : (Jvm.Cond.laysFinal "FundBook" "FundBook" "deposits" "[LFundBook$Deposit;") ∈ lw_all := lw_g (lw_at lw_m1 114 rfl) rfl
theorem q137 : (Jvm.Cond.soleField "FundBook" "deposits") ∈ lw_all := lw_g (lw_at lw_m1 115 rfl) rfl
theorem q138 : (Jvm.Cond.laysFinal "FundBook" "FundBook" "amounts" "[I") ∈ lw_all := lw_g (lw_at lw_m1 116 rfl) rfl
theorem q139 : (Jvm.Cond.soleField "FundBook" "amounts") ∈ lw_all := lw_g (lw_at lw_m1 117 rfl) rfl
theorem q140 : (Jvm.Cond.laysFinal "FundBook" "FundBook" "rates" "[I") ∈ lw_all := lw_g (lw_at lw_m1 118 rfl) rfl
theorem q141 : (Jvm.Cond.soleField "FundBook" "rates") ∈ lw_all := lw_g (lw_at lw_m1 119 rfl) rfl
theorem q142 : (Jvm.Cond.laysFinal "FundBook" "FundBook" "margins" "[[I") ∈ lw_all := lw_g (lw_at lw_m1 120 rfl) rfl
theorem q143 : (Jvm.Cond.soleField "FundBook" "margins") ∈ lw_all := lw_g (lw_at lw_m1 121 rfl) rfl
theorem q144 : (Jvm.Cond.laysFinal "FundBook" "FundBook" "byProducts" "[[I") ∈ lw_all := lw_g (lw_at lw_m1 122 rfl) rfl
theorem q145 : (Jvm.Cond.soleField "FundBook" "byProducts") ∈ lw_all := lw_g (lw_at lw_m1 123 rfl) rfl
theorem q146 : (Jvm.Cond.laysFinal "FundBook" "FundBook" "treasuries" "[I") ∈ lw_all := lw_g (lw_at lw_m1 124 rfl) rfl
theorem q147 : (Jvm.Cond.soleField "FundBook" "treasuries") ∈ lw_all := lw_g (lw_at lw_m1 125 rfl) rfl
theorem q148 : (Jvm.Cond.laysFinal "FundBook" "FundBook" "interests" "[I") ∈ lw_all := lw_g (lw_at lw_m1 126 rfl) rfl
theorem q149 : (Jvm.Cond.soleField "FundBook" "interests") ∈ lw_all := lw_g (lw_at lw_m1 127 rfl) rfl
theorem q150 : (Jvm.Cond.lays "FundBook" "FundBook" "depositRate" "I") ∈ lw_all := lw_g (lw_at lw_m1 128 rfl) rfl
theorem q151 : (Jvm.Cond.soleField "FundBook" "depositRate") ∈ lw_all := lw_g (lw_at lw_m1 129 rfl) rfl
theorem q152 : (Jvm.Cond.lays "FundBook" "FundBook" "optionRate" "I") ∈ lw_all := lw_g (lw_at lw_m1 130 rfl) rfl
theorem q153 : (Jvm.Cond.soleField "FundBook" "optionRate") ∈ lw_all := lw_g (lw_at lw_m1 131 rfl) rfl
theorem q154 : (Jvm.Cond.lays "FundBook" "FundBook" "coreShare" "I") ∈ lw_all := lw_g (lw_at lw_m1 132 rfl) rfl
theorem q155 : (Jvm.Cond.soleField "FundBook" "coreShare") ∈ lw_all := lw_g (lw_at lw_m1 133 rfl) rfl
theorem q156 : (Jvm.Cond.lays "FundBook" "FundBook" "month" "I") ∈ lw_all := lw_g (lw_at lw_m1 134 rfl) rfl
theorem q157 : (Jvm.Cond.soleField "FundBook" "month") ∈ lw_all := lw_g (lw_at lw_m1 135 rfl) rfl
theorem q158 : (Jvm.Cond.superclass "FundBook" "java/lang/Object") ∈ lw_all := lw_g (lw_at lw_m1 136 rfl) rfl
theorem q160 : (Jvm.Cond.instanceMethod ({ cls := "FundBook", name := "month", desc := "()I" } : Jvm.MethodName)) ∈ lw_all := lw_g (lw_at lw_m1 138 rfl) rfl
theorem q161 : (Jvm.Cond.selects "FundBook" ({ cls := "FundBook", name := "month", desc := "()I" } : Jvm.MethodName) ({ cls := "FundBook", name := "month", desc := "()I" } : Jvm.MethodName)) ∈ lw_all := lw_g (lw_at lw_m1 139 rfl) rfl
theorem q162 : (Jvm.Cond.code ({ cls := "FundBook", name := "month", desc := "()I" } : Jvm.MethodName) prog_1_method_20_code (1 : Nat) (Option.some Jvm.ClassFile.FieldType.int)) ∈ lw_all := lw_g (lw_at lw_m1 140 rfl) rfl
theorem q164 : (Jvm.Cond.instanceMethod ({ cls := "FundBook", name := "loans", desc := "()I" } : Jvm.MethodName)) ∈ lw_all := lw_g (lw_at lw_m1 142 rfl) rfl
theorem q165 : (Jvm.Cond.selects "FundBook" ({ cls := "FundBook", name := "loans", desc := "()I" } : Jvm.MethodName) ({ cls := "FundBook", name := "loans", desc := "()I" } : Jvm.MethodName)) ∈ lw_all := lw_g (lw_at lw_m1 143 rfl) rfl
theorem q166 : (Jvm.Cond.code ({ cls := "FundBook", name := "loans", desc := "()I" } : Jvm.MethodName) prog_1_method_21_code (1 : Nat) (Option.some Jvm.ClassFile.FieldType.int)) ∈ lw_all := lw_g (lw_at lw_m1 144 rfl) rfl
theorem q167 : (Jvm.Cond.interfaceEntry "FundBook" (72 : Nat)) ∈ lw_tbl := lw_at lw_m1 145 rfl
theorem q168 : (Jvm.Cond.methodLink "FundBook" (72 : Nat) ({ cls := "java/util/List", name := "size", desc := "()I" } : Jvm.MethodName)) ∈ lw_all := lw_g (lw_at lw_m1 146 rfl) rfl
theorem q178 : (Jvm.Cond.instanceMethod ({ cls := "FundBook", name := "replicaRate", desc := "()I" } : Jvm.MethodName)) ∈ lw_all := lw_g (lw_at lw_m1 156 rfl) rfl
theorem q179 : (Jvm.Cond.selects "FundBook" ({ cls := "FundBook", name := "replicaRate", desc := "()I" } : Jvm.MethodName) ({ cls := "FundBook", name := "replicaRate", desc := "()I" } : Jvm.MethodName)) ∈ lw_all := lw_g (lw_at lw_m1 157 rfl) rfl
theorem q180 : (Jvm.Cond.code ({ cls := "FundBook", name := "replicaRate", desc := "()I" } : Jvm.MethodName) prog_1_method_27_code (1 : Nat) (Option.some Jvm.ClassFile.FieldType.int)) ∈ lw_all := lw_g (lw_at lw_m1 158 rfl) rfl
theorem q181 : (Jvm.Cond.methodLink "FundBook" (158 : Nat) ({ cls := "FundBook", name := "replica", desc := "()I" } : Jvm.MethodName)) ∈ lw_all := lw_g (lw_at lw_m1 159 rfl) rfl
theorem q182 : (Jvm.Cond.privateMethod ({ cls := "FundBook", name := "replica", desc := "()I" } : Jvm.MethodName)) ∈ lw_tbl := lw_at lw_m1 160 rfl
theorem q183 : (Jvm.Cond.instanceMethod ({ cls := "FundBook", name := "replica", desc := "()I" } : Jvm.MethodName)) ∈ lw_all := lw_g (lw_at lw_m1 161 rfl) rfl
theorem q184 : (Jvm.Cond.code ({ cls := "FundBook", name := "replica", desc := "()I" } : Jvm.MethodName) prog_1_method_14_code (6 : Nat) (Option.some Jvm.ClassFile.FieldType.int)) ∈ lw_all := lw_g (lw_at lw_m1 162 rfl) rfl
theorem q267 : (Jvm.Cond.instanceMethod ({ cls := "FundBook", name := "setCurve", desc := "(II)I" } : Jvm.MethodName)) ∈ lw_all := lw_g (lw_at lw_m2 5 rfl) rfl
theorem q268 : (Jvm.Cond.selects "FundBook" ({ cls := "FundBook", name := "setCurve", desc := "(II)I" } : Jvm.MethodName) ({ cls := "FundBook", name := "setCurve", desc := "(II)I" } : Jvm.MethodName)) ∈ lw_all := lw_g (lw_at lw_m2 6 rfl) rfl
theorem q269 : (Jvm.Cond.code ({ cls := "FundBook", name := "setCurve", desc := "(II)I" } : Jvm.MethodName) prog_1_method_7_code (4 : Nat) (Option.some Jvm.ClassFile.FieldType.int)) ∈ lw_all := lw_g (lw_at lw_m2 7 rfl) rfl
theorem q270 : (Jvm.Cond.methodLink "FundBook" (78 : Nat) ({ cls := "FundBook", name := "exists", desc := "(II)V" } : Jvm.MethodName)) ∈ lw_all := lw_g (lw_at lw_m2 8 rfl) rfl
theorem q271 : (Jvm.Cond.static ({ cls := "FundBook", name := "exists", desc := "(II)V" } : Jvm.MethodName)) ∈ lw_all := lw_g (lw_at lw_m2 9 rfl) rfl
theorem q272 : (Jvm.Cond.code ({ cls := "FundBook", name := "exists", desc := "(II)V" } : Jvm.MethodName) prog_1_method_4_code (2 : Nat) (Option.none : Option Jvm.ClassFile.FieldType)) ∈ lw_all := lw_g (lw_at lw_m2 10 rfl) rfl
theorem q273 : (Jvm.Cond.classLink "FundBook" (69 : Nat) "java/lang/IndexOutOfBoundsException") ∈ lw_all := lw_g (lw_at lw_m2 11 rfl) rfl
theorem q282 : (Jvm.Cond.methodLink "FundBook" (71 : Nat) ({ cls := "java/lang/IndexOutOfBoundsException", name := "<init>", desc := "()V" } : Jvm.MethodName)) ∈ lw_all := lw_g (lw_at lw_m2 20 rfl) rfl
theorem q294 : (Jvm.Cond.methodLink "FundBook" (87 : Nat) ({ cls := "FundBook", name := "isIn", desc := "(III)Z" } : Jvm.MethodName)) ∈ lw_all := lw_g (lw_at lw_m2 32 rfl) rfl
theorem q295 : (Jvm.Cond.static ({ cls := "FundBook", name := "isIn", desc := "(III)Z" } : Jvm.MethodName)) ∈ lw_all := lw_g (lw_at lw_m2 33 rfl) rfl
theorem q296 : (Jvm.Cond.code ({ cls := "FundBook", name := "isIn", desc := "(III)Z" } : Jvm.MethodName) prog_1_method_5_code (3 : Nat) (Option.some Jvm.ClassFile.FieldType.boolean)) ∈ lw_all := lw_g (lw_at lw_m2 34 rfl) rfl
theorem q297 : (Jvm.Cond.methodLink "FundBook" (91 : Nat) ({ cls := "FundBook", name := "want", desc := "(Z)V" } : Jvm.MethodName)) ∈ lw_all := lw_g (lw_at lw_m2 35 rfl) rfl
theorem q298 : (Jvm.Cond.static ({ cls := "FundBook", name := "want", desc := "(Z)V" } : Jvm.MethodName)) ∈ lw_all := lw_g (lw_at lw_m2 36 rfl) rfl
theorem q299 : (Jvm.Cond.code ({ cls := "FundBook", name := "want", desc := "(Z)V" } : Jvm.MethodName) prog_1_method_2_code (1 : Nat) (Option.none : Option Jvm.ClassFile.FieldType)) ∈ lw_all := lw_g (lw_at lw_m2 37 rfl) rfl
theorem q300 : (Jvm.Cond.classLink "FundBook" (63 : Nat) "java/lang/IllegalArgumentException") ∈ lw_all := lw_g (lw_at lw_m2 38 rfl) rfl
theorem q309 : (Jvm.Cond.methodLink "FundBook" (65 : Nat) ({ cls := "java/lang/IllegalArgumentException", name := "<init>", desc := "()V" } : Jvm.MethodName)) ∈ lw_all := lw_g (lw_at lw_m2 47 rfl) rfl
theorem q319 : (Jvm.Cond.instanceMethod ({ cls := "FundBook", name := "setRates", desc := "(III)V" } : Jvm.MethodName)) ∈ lw_all := lw_g (lw_at lw_m2 57 rfl) rfl
theorem q320 : (Jvm.Cond.selects "FundBook" ({ cls := "FundBook", name := "setRates", desc := "(III)V" } : Jvm.MethodName) ({ cls := "FundBook", name := "setRates", desc := "(III)V" } : Jvm.MethodName)) ∈ lw_all := lw_g (lw_at lw_m2 58 rfl) rfl
theorem q321 : (Jvm.Cond.code ({ cls := "FundBook", name := "setRates", desc := "(III)V" } : Jvm.MethodName) prog_1_method_8_code (4 : Nat) (Option.none : Option Jvm.ClassFile.FieldType)) ∈ lw_all := lw_g (lw_at lw_m2 59 rfl) rfl
theorem q327 : (Jvm.Cond.instanceMethod ({ cls := "FundBook", name := "lend", desc := "(IIIIIZ)I" } : Jvm.MethodName)) ∈ lw_all := lw_g (lw_at lw_m2 65 rfl) rfl
theorem q328 : (Jvm.Cond.selects "FundBook" ({ cls := "FundBook", name := "lend", desc := "(IIIIIZ)I" } : Jvm.MethodName) ({ cls := "FundBook", name := "lend", desc := "(IIIIIZ)I" } : Jvm.MethodName)) ∈ lw_all := lw_g (lw_at lw_m2 66 rfl) rfl
theorem q329 : (Jvm.Cond.code ({ cls := "FundBook", name := "lend", desc := "(IIIIIZ)I" } : Jvm.MethodName) prog_1_method_9_code (10 : Nat) (Option.some Jvm.ClassFile.FieldType.int)) ∈ lw_all := lw_g (lw_at lw_m2 67 rfl) rfl
theorem q330 : (Jvm.Cond.constant "FundBook" (101 : Nat) (10000000 : Int32)) ∈ lw_all := lw_g (lw_at lw_m2 68 rfl) rfl
theorem q331 : (Jvm.Cond.methodLink "FundBook" (102 : Nat) ({ cls := "FundBook", name := "allow", desc := "(Z)V" } : Jvm.MethodName)) ∈ lw_all := lw_g (lw_at lw_m2 69 rfl) rfl
theorem q332 : (Jvm.Cond.static ({ cls := "FundBook", name := "allow", desc := "(Z)V" } : Jvm.MethodName)) ∈ lw_all := lw_g (lw_at lw_m2 70 rfl) rfl
theorem q333 : (Jvm.Cond.code ({ cls := "FundBook", name := "allow", desc := "(Z)V" } : Jvm.MethodName) prog_1_method_3_code (1 : Nat) (Option.none : Option Jvm.ClassFile.FieldType)) ∈ lw_all := lw_g (lw_at lw_m2 71 rfl) rfl
theorem q334 : (Jvm.Cond.classLink "FundBook" (66 : Nat) "java/lang/IllegalStateException") ∈ lw_all := lw_g (lw_at lw_m2 72 rfl) rfl
theorem q343 : (Jvm.Cond.methodLink "FundBook" (68 : Nat) ({ cls := "java/lang/IllegalStateException", name := "<init>", desc := "()V" } : Jvm.MethodName)) ∈ lw_all := lw_g (lw_at lw_m2 81 rfl) rfl
theorem q349 : (Jvm.Cond.classLink "FundBook" (85 : Nat) "FundBook$Account") ∈ lw_all := lw_g (lw_at lw_m2 87 rfl) rfl
theorem q351 : (Jvm.Cond.classLink "FundBook" (105 : Nat) "FundBook$Loan") ∈ lw_all := lw_g (lw_at lw_m2 89 rfl) rfl
theorem q353 : (Jvm.Cond.methodLinkNest "FundBook" (107 : Nat) ({ cls := "FundBook$Loan", name := "<init>", desc := "(IIIIZ[I[I)V" } : Jvm.MethodName) "FundBook") ∈ lw_tbl := lw_at lw_m2 91 rfl
theorem q379 : (Jvm.Cond.methodLink "FundBook" (110 : Nat) ({ cls := "FundBook$Account", name := "<init>", desc := "(LFundBook$Loan;)V" } : Jvm.MethodName)) ∈ lw_all := lw_g (lw_at lw_m2 117 rfl) rfl
theorem q386 : (Jvm.Cond.fieldLink "FundBook" (121 : Nat) "FundBook$Account" "loan" "LFundBook$Loan;") ∈ lw_all := lw_g (lw_at lw_m2 124 rfl) rfl
theorem q388 : (Jvm.Cond.fieldLink "FundBook" (139 : Nat) "FundBook$Account" "paid" "I") ∈ lw_all := lw_g (lw_at lw_m2 126 rfl) rfl
theorem q394 : (Jvm.Cond.interfaceEntry "FundBook" (113 : Nat)) ∈ lw_tbl := lw_at lw_m2 132 rfl
theorem q395 : (Jvm.Cond.methodLink "FundBook" (113 : Nat) ({ cls := "java/util/List", name := "add", desc := "(Ljava/lang/Object;)Z" } : Jvm.MethodName)) ∈ lw_all := lw_g (lw_at lw_m2 133 rfl) rfl
theorem q431 : (Jvm.Cond.selects "FundBook" ({ cls := "java/lang/Object", name := "getClass", desc := "()Ljava/lang/Class;" } : Jvm.MethodName) ({ cls := "java/lang/Object", name := "getClass", desc := "()Ljava/lang/Class;" } : Jvm.MethodName)) ∈ lw_all := lw_g (lw_at lw_m2 169 rfl) rfl
theorem q464 : (Jvm.Cond.instanceMethod ({ cls := "FundBook", name := "repay", desc := "(I)I" } : Jvm.MethodName)) ∈ lw_all := lw_g (lw_at lw_m2 202 rfl) rfl
theorem q465 : (Jvm.Cond.selects "FundBook" ({ cls := "FundBook", name := "repay", desc := "(I)I" } : Jvm.MethodName) ({ cls := "FundBook", name := "repay", desc := "(I)I" } : Jvm.MethodName)) ∈ lw_all := lw_g (lw_at lw_m2 203 rfl) rfl
theorem q466 : (Jvm.Cond.code ({ cls := "FundBook", name := "repay", desc := "(I)I" } : Jvm.MethodName) prog_1_method_10_code (4 : Nat) (Option.some Jvm.ClassFile.FieldType.int)) ∈ lw_all := lw_g (lw_at lw_m2 204 rfl) rfl
theorem q467 : (Jvm.Cond.methodLink "FundBook" (117 : Nat) ({ cls := "FundBook", name := "account", desc := "(I)LFundBook$Account;" } : Jvm.MethodName)) ∈ lw_all := lw_g (lw_at lw_m2 205 rfl) rfl
theorem q468 : (Jvm.Cond.privateMethod ({ cls := "FundBook", name := "account", desc := "(I)LFundBook$Account;" } : Jvm.MethodName)) ∈ lw_tbl := lw_at lw_m2 206 rfl
theorem q469 : (Jvm.Cond.instanceMethod ({ cls := "FundBook", name := "account", desc := "(I)LFundBook$Account;" } : Jvm.MethodName)) ∈ lw_all := lw_g (lw_at lw_m2 207 rfl) rfl
theorem q470 : (Jvm.Cond.code ({ cls := "FundBook", name := "account", desc := "(I)LFundBook$Account;" } : Jvm.MethodName) prog_1_method_6_code (2 : Nat) (Option.some (Jvm.ClassFile.FieldType.object "FundBook$Account"))) ∈ lw_all := lw_g (lw_at lw_m2 208 rfl) rfl
theorem q471 : (Jvm.Cond.interfaceEntry "FundBook" (81 : Nat)) ∈ lw_tbl := lw_at lw_m2 209 rfl
theorem q472 : (Jvm.Cond.methodLink "FundBook" (81 : Nat) ({ cls := "java/util/List", name := "get", desc := "(I)Ljava/lang/Object;" } : Jvm.MethodName)) ∈ lw_all := lw_g (lw_at lw_m2 210 rfl) rfl
theorem q490 : (Jvm.Cond.methodLink "FundBook" (125 : Nat) ({ cls := "FundBook$Loan", name := "hasOption", desc := "()Z" } : Jvm.MethodName)) ∈ lw_all := lw_g (lw_at lw_m2 228 rfl) rfl
theorem q494 : (Jvm.Cond.methodLink "FundBook" (129 : Nat) ({ cls := "FundBook$Account", name := "isPaid", desc := "()Z" } : Jvm.MethodName)) ∈ lw_all := lw_g (lw_at lw_m2 232 rfl) rfl
theorem q502 : (Jvm.Cond.methodLink "FundBook" (132 : Nat) ({ cls := "FundBook$Account", name := "left", desc := "()I" } : Jvm.MethodName)) ∈ lw_all := lw_g (lw_at lw_m3 0 rfl) rfl
theorem q506 : (Jvm.Cond.methodLink "FundBook" (135 : Nat) ({ cls := "FundBook$Loan", name := "parts", desc := "()[I" } : Jvm.MethodName)) ∈ lw_all := lw_g (lw_at lw_m3 4 rfl) rfl
theorem q511 : (Jvm.Cond.instanceMethod ({ cls := "FundBook", name := "deposit", desc := "(II)I" } : Jvm.MethodName)) ∈ lw_all := lw_g (lw_at lw_m3 9 rfl) rfl
theorem q512 : (Jvm.Cond.selects "FundBook" ({ cls := "FundBook", name := "deposit", desc := "(II)I" } : Jvm.MethodName) ({ cls := "FundBook", name := "deposit", desc := "(II)I" } : Jvm.MethodName)) ∈ lw_all := lw_g (lw_at lw_m3 10 rfl) rfl
theorem q513 : (Jvm.Cond.code ({ cls := "FundBook", name := "deposit", desc := "(II)I" } : Jvm.MethodName) prog_1_method_13_code (5 : Nat) (Option.some Jvm.ClassFile.FieldType.int)) ∈ lw_all := lw_g (lw_at lw_m3 11 rfl) rfl
theorem q514 : (Jvm.Cond.constant "FundBook" (150 : Nat) (-10000000 : Int32)) ∈ lw_all := lw_g (lw_at lw_m3 12 rfl) rfl
theorem q515 : (Jvm.Cond.methodLink "FundBook" (142 : Nat) ({ cls := "FundBook$Deposit", name := "balance", desc := "()I" } : Jvm.MethodName)) ∈ lw_all := lw_g (lw_at lw_m3 13 rfl) rfl
theorem q519 : (Jvm.Cond.methodLink "FundBook" (154 : Nat) ({ cls := "FundBook", name := "lay", desc := "(I)V" } : Jvm.MethodName)) ∈ lw_all := lw_g (lw_at lw_m3 17 rfl) rfl
theorem q520 : (Jvm.Cond.privateMethod ({ cls := "FundBook", name := "lay", desc := "(I)V" } : Jvm.MethodName)) ∈ lw_tbl := lw_at lw_m3 18 rfl
theorem q521 : (Jvm.Cond.instanceMethod ({ cls := "FundBook", name := "lay", desc := "(I)V" } : Jvm.MethodName)) ∈ lw_all := lw_g (lw_at lw_m3 19 rfl) rfl
theorem q522 : (Jvm.Cond.code ({ cls := "FundBook", name := "lay", desc := "(I)V" } : Jvm.MethodName) prog_1_method_12_code (2 : Nat) (Option.none : Option Jvm.ClassFile.FieldType)) ∈ lw_all := lw_g (lw_at lw_m3 20 rfl) rfl
theorem q523 : (Jvm.Cond.methodLink "FundBook" (147 : Nat) ({ cls := "FundBook", name := "core", desc := "()I" } : Jvm.MethodName)) ∈ lw_all := lw_g (lw_at lw_m3 21 rfl) rfl
theorem q524 : (Jvm.Cond.privateMethod ({ cls := "FundBook", name := "core", desc := "()I" } : Jvm.MethodName)) ∈ lw_tbl := lw_at lw_m3 22 rfl
theorem q525 : (Jvm.Cond.instanceMethod ({ cls := "FundBook", name := "core", desc := "()I" } : Jvm.MethodName)) ∈ lw_all := lw_g (lw_at lw_m3 23 rfl) rfl
theorem q526 : (Jvm.Cond.code ({ cls := "FundBook", name := "core", desc := "()I" } : Jvm.MethodName) prog_1_method_11_code (3 : Nat) (Option.some Jvm.ClassFile.FieldType.int)) ∈ lw_all := lw_g (lw_at lw_m3 24 rfl) rfl
theorem q527 : (Jvm.Cond.constantLong "FundBook" (145 : Nat) (100 : Int64)) ∈ lw_all := lw_g (lw_at lw_m3 25 rfl) rfl
theorem q532 : (Jvm.Cond.instanceMethod ({ cls := "FundBook", name := "closeMonth", desc := "()I" } : Jvm.MethodName)) ∈ lw_all := lw_g (lw_at lw_m3 30 rfl) rfl
theorem q533 : (Jvm.Cond.selects "FundBook" ({ cls := "FundBook", name := "closeMonth", desc := "()I" } : Jvm.MethodName) ({ cls := "FundBook", name := "closeMonth", desc := "()I" } : Jvm.MethodName)) ∈ lw_all := lw_g (lw_at lw_m3 31 rfl) rfl
theorem q534 : (Jvm.Cond.code ({ cls := "FundBook", name := "closeMonth", desc := "()I" } : Jvm.MethodName) prog_1_method_19_code (2 : Nat) (Option.some Jvm.ClassFile.FieldType.int)) ∈ lw_all := lw_g (lw_at lw_m3 32 rfl) rfl
theorem q535 : (Jvm.Cond.methodLink "FundBook" (197 : Nat) ({ cls := "FundBook", name := "reckon", desc := "()V" } : Jvm.MethodName)) ∈ lw_all := lw_g (lw_at lw_m3 33 rfl) rfl
theorem q536 : (Jvm.Cond.privateMethod ({ cls := "FundBook", name := "reckon", desc := "()V" } : Jvm.MethodName)) ∈ lw_tbl := lw_at lw_m3 34 rfl
theorem q537 : (Jvm.Cond.instanceMethod ({ cls := "FundBook", name := "reckon", desc := "()V" } : Jvm.MethodName)) ∈ lw_all := lw_g (lw_at lw_m3 35 rfl) rfl
theorem q538 : (Jvm.Cond.code ({ cls := "FundBook", name := "reckon", desc := "()V" } : Jvm.MethodName) prog_1_method_18_code (4 : Nat) (Option.none : Option Jvm.ClassFile.FieldType)) ∈ lw_all := lw_g (lw_at lw_m3 36 rfl) rfl
theorem q539 : (Jvm.Cond.methodLink "FundBook" (178 : Nat) ({ cls := "FundBook", name := "marginOf", desc := "(LFundBook$Deal;LFundBook$Account;)I" } : Jvm.MethodName)) ∈ lw_all := lw_g (lw_at lw_m3 37 rfl) rfl
theorem q540 : (Jvm.Cond.privateMethod ({ cls := "FundBook", name := "marginOf", desc := "(LFundBook$Deal;LFundBook$Account;)I" } : Jvm.MethodName)) ∈ lw_tbl := lw_at lw_m3 38 rfl
theorem q541 : (Jvm.Cond.instanceMethod ({ cls := "FundBook", name := "marginOf", desc := "(LFundBook$Deal;LFundBook$Account;)I" } : Jvm.MethodName)) ∈ lw_all := lw_g (lw_at lw_m3 39 rfl) rfl
theorem q542 : (Jvm.Cond.code ({ cls := "FundBook", name := "marginOf", desc := "(LFundBook$Deal;LFundBook$Account;)I" } : Jvm.MethodName) prog_1_method_16_code (4 : Nat) (Option.some Jvm.ClassFile.FieldType.int)) ∈ lw_all := lw_g (lw_at lw_m3 40 rfl) rfl
theorem q543 : (Jvm.Cond.fieldLink "FundBook" (163 : Nat) "FundBook$Bearing" "MARGIN" "LFundBook$Bearing;") ∈ lw_all := lw_g (lw_at lw_m3 41 rfl) rfl
theorem q545 : (Jvm.Cond.methodLink "FundBook" (167 : Nat) ({ cls := "FundBook$Bearing", name := "of", desc := "(LFundBook$Account;)I" } : Jvm.MethodName)) ∈ lw_all := lw_g (lw_at lw_m3 43 rfl) rfl
theorem q591 : (Jvm.Cond.methodLink "FundBook" (171 : Nat) ({ cls := "FundBook", name := "credit", desc := "(LFundBook$Deposit;)I" } : Jvm.MethodName)) ∈ lw_all := lw_g (lw_at lw_m3 89 rfl) rfl
theorem q592 : (Jvm.Cond.privateMethod ({ cls := "FundBook", name := "credit", desc := "(LFundBook$Deposit;)I" } : Jvm.MethodName)) ∈ lw_tbl := lw_at lw_m3 90 rfl
theorem q593 : (Jvm.Cond.instanceMethod ({ cls := "FundBook", name := "credit", desc := "(LFundBook$Deposit;)I" } : Jvm.MethodName)) ∈ lw_all := lw_g (lw_at lw_m3 91 rfl) rfl
theorem q594 : (Jvm.Cond.code ({ cls := "FundBook", name := "credit", desc := "(LFundBook$Deposit;)I" } : Jvm.MethodName) prog_1_method_15_code (4 : Nat) (Option.some Jvm.ClassFile.FieldType.int)) ∈ lw_all := lw_g (lw_at lw_m3 92 rfl) rfl
theorem q595 : (Jvm.Cond.constantLong "FundBook" (161 : Nat) (120000 : Int64)) ∈ lw_all := lw_g (lw_at lw_m3 93 rfl) rfl
theorem q596 : (Jvm.Cond.methodLink "FundBook" (175 : Nat) ({ cls := "FundBook", name := "cost", desc := "(LFundBook$Deposit;)I" } : Jvm.MethodName)) ∈ lw_all := lw_g (lw_at lw_m3 94 rfl) rfl
theorem q597 : (Jvm.Cond.privateMethod ({ cls := "FundBook", name := "cost", desc := "(LFundBook$Deposit;)I" } : Jvm.MethodName)) ∈ lw_tbl := lw_at lw_m3 95 rfl
theorem q598 : (Jvm.Cond.instanceMethod ({ cls := "FundBook", name := "cost", desc := "(LFundBook$Deposit;)I" } : Jvm.MethodName)) ∈ lw_all := lw_g (lw_at lw_m3 96 rfl) rfl
theorem q599 : (Jvm.Cond.code ({ cls := "FundBook", name := "cost", desc := "(LFundBook$Deposit;)I" } : Jvm.MethodName) prog_1_method_17_code (2 : Nat) (Option.some Jvm.ClassFile.FieldType.int)) ∈ lw_all := lw_g (lw_at lw_m3 97 rfl) rfl
theorem q600 : (Jvm.Cond.methodLink "FundBook" (182 : Nat) ({ cls := "FundBook$Loan", name := "branch", desc := "()I" } : Jvm.MethodName)) ∈ lw_all := lw_g (lw_at lw_m3 98 rfl) rfl
theorem q604 : (Jvm.Cond.methodLink "FundBook" (185 : Nat) ({ cls := "FundBook$Loan", name := "product", desc := "()I" } : Jvm.MethodName)) ∈ lw_all := lw_g (lw_at lw_m3 102 rfl) rfl
theorem q608 : (Jvm.Cond.fieldLink "FundBook" (188 : Nat) "FundBook$Bearing" "FUNDING" "LFundBook$Bearing;") ∈ lw_all := lw_g (lw_at lw_m3 106 rfl) rfl
theorem q609 : (Jvm.Cond.fieldLink "FundBook" (191 : Nat) "FundBook$Bearing" "OPTION" "LFundBook$Bearing;") ∈ lw_all := lw_g (lw_at lw_m3 107 rfl) rfl
theorem q610 : (Jvm.Cond.fieldLink "FundBook" (194 : Nat) "FundBook$Bearing" "INTEREST" "LFundBook$Bearing;") ∈ lw_all := lw_g (lw_at lw_m3 108 rfl) rfl
theorem q615 : (Jvm.Cond.instanceMethod ({ cls := "FundBook", name := "left", desc := "(I)I" } : Jvm.MethodName)) ∈ lw_all := lw_g (lw_at lw_m3 113 rfl) rfl
theorem q616 : (Jvm.Cond.selects "FundBook" ({ cls := "FundBook", name := "left", desc := "(I)I" } : Jvm.MethodName) ({ cls := "FundBook", name := "left", desc := "(I)I" } : Jvm.MethodName)) ∈ lw_all := lw_g (lw_at lw_m3 114 rfl) rfl
theorem q617 : (Jvm.Cond.code ({ cls := "FundBook", name := "left", desc := "(I)I" } : Jvm.MethodName) prog_1_method_22_code (2 : Nat) (Option.some Jvm.ClassFile.FieldType.int)) ∈ lw_all := lw_g (lw_at lw_m3 115 rfl) rfl
theorem q622 : (Jvm.Cond.instanceMethod ({ cls := "FundBook", name := "bears", desc := "(II)I" } : Jvm.MethodName)) ∈ lw_all := lw_g (lw_at lw_m3 120 rfl) rfl
theorem q623 : (Jvm.Cond.selects "FundBook" ({ cls := "FundBook", name := "bears", desc := "(II)I" } : Jvm.MethodName) ({ cls := "FundBook", name := "bears", desc := "(II)I" } : Jvm.MethodName)) ∈ lw_all := lw_g (lw_at lw_m3 121 rfl) rfl
theorem q624 : (Jvm.Cond.code ({ cls := "FundBook", name := "bears", desc := "(II)I" } : Jvm.MethodName) prog_1_method_23_code (4 : Nat) (Option.some Jvm.ClassFile.FieldType.int)) ∈ lw_all := lw_g (lw_at lw_m3 122 rfl) rfl
theorem q629 : (Jvm.Cond.instanceMethod ({ cls := "FundBook", name := "due", desc := "(I)I" } : Jvm.MethodName)) ∈ lw_all := lw_g (lw_at lw_m3 127 rfl) rfl
theorem q630 : (Jvm.Cond.selects "FundBook" ({ cls := "FundBook", name := "due", desc := "(I)I" } : Jvm.MethodName) ({ cls := "FundBook", name := "due", desc := "(I)I" } : Jvm.MethodName)) ∈ lw_all := lw_g (lw_at lw_m3 128 rfl) rfl
theorem q631 : (Jvm.Cond.code ({ cls := "FundBook", name := "due", desc := "(I)I" } : Jvm.MethodName) prog_1_method_24_code (6 : Nat) (Option.some Jvm.ClassFile.FieldType.int)) ∈ lw_all := lw_g (lw_at lw_m3 129 rfl) rfl
theorem q636 : (Jvm.Cond.instanceMethod ({ cls := "FundBook", name := "balance", desc := "(I)I" } : Jvm.MethodName)) ∈ lw_all := lw_g (lw_at lw_m3 134 rfl) rfl
theorem q637 : (Jvm.Cond.selects "FundBook" ({ cls := "FundBook", name := "balance", desc := "(I)I" } : Jvm.MethodName) ({ cls := "FundBook", name := "balance", desc := "(I)I" } : Jvm.MethodName)) ∈ lw_all := lw_g (lw_at lw_m3 135 rfl) rfl
theorem q638 : (Jvm.Cond.code ({ cls := "FundBook", name := "balance", desc := "(I)I" } : Jvm.MethodName) prog_1_method_25_code (2 : Nat) (Option.some Jvm.ClassFile.FieldType.int)) ∈ lw_all := lw_g (lw_at lw_m3 136 rfl) rfl
theorem q643 : (Jvm.Cond.instanceMethod ({ cls := "FundBook", name := "tranche", desc := "(I)I" } : Jvm.MethodName)) ∈ lw_all := lw_g (lw_at lw_m3 141 rfl) rfl
theorem q644 : (Jvm.Cond.selects "FundBook" ({ cls := "FundBook", name := "tranche", desc := "(I)I" } : Jvm.MethodName) ({ cls := "FundBook", name := "tranche", desc := "(I)I" } : Jvm.MethodName)) ∈ lw_all := lw_g (lw_at lw_m3 142 rfl) rfl
theorem q645 : (Jvm.Cond.code ({ cls := "FundBook", name := "tranche", desc := "(I)I" } : Jvm.MethodName) prog_1_method_26_code (2 : Nat) (Option.some Jvm.ClassFile.FieldType.int)) ∈ lw_all := lw_g (lw_at lw_m3 143 rfl) rfl
theorem q650 : (Jvm.Cond.instanceMethod ({ cls := "FundBook", name := "margin", desc := "(II)I" } : Jvm.MethodName)) ∈ lw_all := lw_g (lw_at lw_m3 148 rfl) rfl
theorem q651 : (Jvm.Cond.selects "FundBook" ({ cls := "FundBook", name := "margin", desc := "(II)I" } : Jvm.MethodName) ({ cls := "FundBook", name := "margin", desc := "(II)I" } : Jvm.MethodName)) ∈ lw_all := lw_g (lw_at lw_m3 149 rfl) rfl
theorem q652 : (Jvm.Cond.code ({ cls := "FundBook", name := "margin", desc := "(II)I" } : Jvm.MethodName) prog_1_method_28_code (3 : Nat) (Option.some Jvm.ClassFile.FieldType.int)) ∈ lw_all := lw_g (lw_at lw_m3 150 rfl) rfl
theorem q657 : (Jvm.Cond.instanceMethod ({ cls := "FundBook", name := "byProduct", desc := "(II)I" } : Jvm.MethodName)) ∈ lw_all := lw_g (lw_at lw_m3 155 rfl) rfl
theorem q658 : (Jvm.Cond.selects "FundBook" ({ cls := "FundBook", name := "byProduct", desc := "(II)I" } : Jvm.MethodName) ({ cls := "FundBook", name := "byProduct", desc := "(II)I" } : Jvm.MethodName)) ∈ lw_all := lw_g (lw_at lw_m3 156 rfl) rfl
theorem q659 : (Jvm.Cond.code ({ cls := "FundBook", name := "byProduct", desc := "(II)I" } : Jvm.MethodName) prog_1_method_29_code (3 : Nat) (Option.some Jvm.ClassFile.FieldType.int)) ∈ lw_all := lw_g (lw_at lw_m3 157 rfl) rfl
theorem q664 : (Jvm.Cond.instanceMethod ({ cls := "FundBook", name := "treasury", desc := "(I)I" } : Jvm.MethodName)) ∈ lw_all := lw_g (lw_at lw_m3 162 rfl) rfl
theorem q665 : (Jvm.Cond.selects "FundBook" ({ cls := "FundBook", name := "treasury", desc := "(I)I" } : Jvm.MethodName) ({ cls := "FundBook", name := "treasury", desc := "(I)I" } : Jvm.MethodName)) ∈ lw_all := lw_g (lw_at lw_m3 163 rfl) rfl
theorem q666 : (Jvm.Cond.code ({ cls := "FundBook", name := "treasury", desc := "(I)I" } : Jvm.MethodName) prog_1_method_30_code (2 : Nat) (Option.some Jvm.ClassFile.FieldType.int)) ∈ lw_all := lw_g (lw_at lw_m3 164 rfl) rfl
theorem q671 : (Jvm.Cond.instanceMethod ({ cls := "FundBook", name := "interest", desc := "(I)I" } : Jvm.MethodName)) ∈ lw_all := lw_g (lw_at lw_m3 169 rfl) rfl
theorem q672 : (Jvm.Cond.selects "FundBook" ({ cls := "FundBook", name := "interest", desc := "(I)I" } : Jvm.MethodName) ({ cls := "FundBook", name := "interest", desc := "(I)I" } : Jvm.MethodName)) ∈ lw_all := lw_g (lw_at lw_m3 170 rfl) rfl
theorem q673 : (Jvm.Cond.code ({ cls := "FundBook", name := "interest", desc := "(I)I" } : Jvm.MethodName) prog_1_method_31_code (2 : Nat) (Option.some Jvm.ClassFile.FieldType.int)) ∈ lw_all := lw_g (lw_at lw_m3 171 rfl) rfl
theorem q880 : (Jvm.Cond.castable "FundBook" "java/lang/Object") ∈ lw_tbl := lw_at lw_m4 138 rfl
theorem in_X1 : ∀ w ∈ wsX10, w ∈ lw_all := lw_in wsX10 [130, 132, 134, 136, 138, 140, 142, 144, 146, 148, 150, 152, 154, 156] (by decide +kernel) (by decide +kernel)
