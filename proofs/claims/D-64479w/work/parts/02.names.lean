set_option maxRecDepth 100000
theorem q85 : (Jvm.Cond.arrayClass Jvm.ClassFile.FieldType.int) ∈ lw_all := lw_g (lw_at lw_m1 57 rfl) rfl
theorem q86 : (Jvm.Cond.arrayClass Jvm.ClassFile.FieldType.long) ∈ lw_all := lw_g (lw_at lw_m1 58 rfl) rfl
theorem q123 : (Jvm.Cond.arrayOver (Jvm.ClassFile.FieldType.object "LazyPages$Page")) ∈ lw_tbl := lw_at lw_m1 95 rfl
theorem q131 : (Jvm.Cond.arrayOver (Jvm.ClassFile.FieldType.object "LazyPages$Row")) ∈ lw_tbl := lw_at lw_m1 103 rfl
theorem q133 : (Jvm.Cond.arrayOver (Jvm.ClassFile.FieldType.object "LazyPages$Letters")) ∈ lw_tbl := lw_at lw_m1 105 rfl
theorem q135 : (Jvm.Cond.arrayOver (Jvm.ClassFile.FieldType.object "LazyPages$Pages")) ∈ lw_tbl := lw_at lw_m1 107 rfl
theorem q156 : (Jvm.Cond.arrayOver (Jvm.ClassFile.FieldType.object "LazyPages$Message")) ∈ lw_tbl := lw_at lw_m1 128 rfl
theorem q591 : (Jvm.Cond.arrayClass Jvm.ClassFile.FieldType.byte) ∈ lw_all := lw_g (lw_at lw_m3 83 rfl) rfl
theorem q825 : (Jvm.Cond.arrayClass Jvm.ClassFile.FieldType.boolean) ∈ lw_all := lw_g (lw_at lw_m4 77 rfl) rfl
def RJ0 : String := "java/lang/Math"
abbrev cJ0_max : ByteArray := prog_17_method_65_code
def yJ0_max : MethodName := ⟨RJ0, "max", "(II)I"⟩
abbrev cJ0_min : ByteArray := prog_17_method_69_code
def yJ0_min : MethodName := ⟨RJ0, "min", "(II)I"⟩
abbrev cJ0_max_2 : ByteArray := prog_17_method_66_code
def yJ0_max_2 : MethodName := ⟨RJ0, "max", "(JJ)J"⟩
theorem q37 : (Jvm.Cond.initialized "java/lang/Math") ∈ lw_all := lw_g (lw_at lw_m1 9 rfl) rfl
theorem q301 : (Jvm.Cond.static ({ cls := "java/lang/Math", name := "max", desc := "(II)I" } : Jvm.MethodName)) ∈ lw_all := lw_g (lw_at lw_m2 33 rfl) rfl
theorem q302 : (Jvm.Cond.code ({ cls := "java/lang/Math", name := "max", desc := "(II)I" } : Jvm.MethodName) prog_17_method_65_code (2 : Nat) (Option.some Jvm.ClassFile.FieldType.int)) ∈ lw_all := lw_g (lw_at lw_m2 34 rfl) rfl
theorem q327 : (Jvm.Cond.static ({ cls := "java/lang/Math", name := "min", desc := "(II)I" } : Jvm.MethodName)) ∈ lw_all := lw_g (lw_at lw_m2 59 rfl) rfl
theorem q328 : (Jvm.Cond.code ({ cls := "java/lang/Math", name := "min", desc := "(II)I" } : Jvm.MethodName) prog_17_method_69_code (2 : Nat) (Option.some Jvm.ClassFile.FieldType.int)) ∈ lw_all := lw_g (lw_at lw_m2 60 rfl) rfl
theorem q406 : (Jvm.Cond.static ({ cls := "java/lang/Math", name := "max", desc := "(JJ)J" } : Jvm.MethodName)) ∈ lw_all := lw_g (lw_at lw_m2 138 rfl) rfl
theorem q407 : (Jvm.Cond.code ({ cls := "java/lang/Math", name := "max", desc := "(JJ)J" } : Jvm.MethodName) prog_17_method_66_code (4 : Nat) (Option.some Jvm.ClassFile.FieldType.long)) ∈ lw_all := lw_g (lw_at lw_m2 139 rfl) rfl
def RJ1 : String := "java/lang/Throwable"
def TJ1 : u_T := fun k => match k with
  | 0 => ("java/lang/Throwable", "cause", "Ljava/lang/Throwable;", false)
  | 1 => ("java/lang/Throwable", "stackTrace", "[Ljava/lang/StackTraceElement;", false)
  | 2 => ("java/lang/Throwable", "suppressedExceptions", "Ljava/util/List;", false)
  | 3 => ("java/lang/Throwable", "detailMessage", "Ljava/lang/String;", false)
  | _ => ("java/lang/Throwable", "backtrace", "Ljava/lang/Object;", false)
def tyJ1 : Nat → FieldType := fun k => match k with
  | 0 => .object "java/lang/Throwable"
  | 1 => .array (.object "java/lang/StackTraceElement")
  | 2 => .object "java/util/List"
  | 3 => .object "java/lang/String"
  | _ => .object "java/lang/Object"
abbrev wsJ10 : List Cond := u_ws RJ1 TJ1 5
theorem nmJ1 : ∀ a, a < 5 → ∀ b, b < 5 → a ≠ b → (TJ1 a).2.1 ≠ (TJ1 b).2.1 := by decide +kernel
theorem tyJ1_ok : ∀ k, k < 5 → parseFieldDescriptor (TJ1 k).2.2.1 = some (tyJ1 k) := by decide +kernel
abbrev cJ1_init : ByteArray := prog_20_method_1_code
def yJ1_init : MethodName := ⟨RJ1, "<init>", "()V"⟩
abbrev cJ1_init_2 : ByteArray := prog_20_method_2_code
def yJ1_init_2 : MethodName := ⟨RJ1, "<init>", "(Ljava/lang/String;)V"⟩
theorem q38 : (Jvm.Cond.initialized "java/lang/Throwable") ∈ lw_all := lw_g (lw_at lw_m1 10 rfl) rfl
theorem q530 : (Jvm.Cond.declares ({ cls := "java/lang/Throwable", name := "<init>", desc := "()V" } : Jvm.MethodName)) ∈ lw_tbl := lw_at lw_m3 22 rfl
theorem q531 : (Jvm.Cond.declares ({ cls := "java/lang/Throwable", name := "<init>", desc := "(Ljava/lang/String;)V" } : Jvm.MethodName)) ∈ lw_tbl := lw_at lw_m3 23 rfl
theorem q535 : (Jvm.Cond.lays "java/lang/Throwable" "java/lang/Throwable" "cause" "Ljava/lang/Throwable;") ∈ lw_all := lw_g (lw_at lw_m3 27 rfl) rfl
theorem q537 : (Jvm.Cond.lays "java/lang/Throwable" "java/lang/Throwable" "stackTrace" "[Ljava/lang/StackTraceElement;") ∈ lw_all := lw_g (lw_at lw_m3 29 rfl) rfl
theorem q539 : (Jvm.Cond.lays "java/lang/Throwable" "java/lang/Throwable" "suppressedExceptions" "Ljava/util/List;") ∈ lw_all := lw_g (lw_at lw_m3 31 rfl) rfl
theorem q541 : (Jvm.Cond.lays "java/lang/Throwable" "java/lang/Throwable" "detailMessage" "Ljava/lang/String;") ∈ lw_all := lw_g (lw_at lw_m3 33 rfl) rfl
theorem q543 : (Jvm.Cond.lays "java/lang/Throwable" "java/lang/Throwable" "backtrace" "Ljava/lang/Object;") ∈ lw_all := lw_g (lw_at lw_m3 35 rfl) rfl
theorem q544 : (Jvm.Cond.fieldLink "java/lang/Throwable" (198 : Nat) "java/lang/Throwable" "backtrace" "Ljava/lang/Object;") ∈ lw_all := lw_g (lw_at lw_m3 36 rfl) rfl
theorem q545 : (Jvm.Cond.superclass "java/lang/Throwable" "java/lang/Object") ∈ lw_all := lw_g (lw_at lw_m3 37 rfl) rfl
theorem q546 : (Jvm.Cond.instanceMethod ({ cls := "java/lang/Throwable", name := "<init>", desc := "()V" } : Jvm.MethodName)) ∈ lw_all := lw_g (lw_at lw_m3 38 rfl) rfl
theorem q547 : (Jvm.Cond.code ({ cls := "java/lang/Throwable", name := "<init>", desc := "()V" } : Jvm.MethodName) prog_20_method_1_code (1 : Nat) (Option.none : Option Jvm.ClassFile.FieldType)) ∈ lw_all := lw_g (lw_at lw_m3 39 rfl) rfl
theorem q548 : (Jvm.Cond.methodLink "java/lang/Throwable" (1 : Nat) ({ cls := "java/lang/Object", name := "<init>", desc := "()V" } : Jvm.MethodName)) ∈ lw_all := lw_g (lw_at lw_m3 40 rfl) rfl
theorem q549 : (Jvm.Cond.fieldLink "java/lang/Throwable" (13 : Nat) "java/lang/Throwable" "UNASSIGNED_STACK" "[Ljava/lang/StackTraceElement;") ∈ lw_all := lw_g (lw_at lw_m3 41 rfl) rfl
theorem q550 : (Jvm.Cond.laysStatic "java/lang/Throwable" "UNASSIGNED_STACK" "[Ljava/lang/StackTraceElement;") ∈ lw_tbl := lw_at lw_m3 42 rfl
theorem q551 : (Jvm.Cond.fieldLink "java/lang/Throwable" (20 : Nat) "java/lang/Throwable" "SUPPRESSED_SENTINEL" "Ljava/util/List;") ∈ lw_all := lw_g (lw_at lw_m3 43 rfl) rfl
theorem q552 : (Jvm.Cond.laysStatic "java/lang/Throwable" "SUPPRESSED_SENTINEL" "Ljava/util/List;") ∈ lw_tbl := lw_at lw_m3 44 rfl
theorem q553 : (Jvm.Cond.methodLink "java/lang/Throwable" (27 : Nat) ({ cls := "java/lang/Throwable", name := "fillInStackTrace", desc := "()Ljava/lang/Throwable;" } : Jvm.MethodName)) ∈ lw_all := lw_g (lw_at lw_m3 45 rfl) rfl
theorem q554 : (Jvm.Cond.instanceMethod ({ cls := "java/lang/Throwable", name := "fillInStackTrace", desc := "()Ljava/lang/Throwable;" } : Jvm.MethodName)) ∈ lw_all := lw_g (lw_at lw_m3 46 rfl) rfl
theorem q555 : (Jvm.Cond.sameMethod "java/lang/Throwable" "java/lang/Throwable" "fillInStackTrace" "()Ljava/lang/Throwable;") ∈ lw_all := lw_g (lw_at lw_m3 47 rfl) rfl
theorem q559 : (Jvm.Cond.codeSync ({ cls := "java/lang/Throwable", name := "fillInStackTrace", desc := "()Ljava/lang/Throwable;" } : Jvm.MethodName) prog_20_method_18_code (1 : Nat) (Option.some (Jvm.ClassFile.FieldType.object "java/lang/Throwable"))) ∈ lw_all := lw_g (lw_at lw_m3 51 rfl) rfl
theorem q560 : (Jvm.Cond.methodLink "java/lang/Throwable" (202 : Nat) ({ cls := "java/lang/Throwable", name := "fillInStackTrace", desc := "(I)Ljava/lang/Throwable;" } : Jvm.MethodName)) ∈ lw_all := lw_g (lw_at lw_m3 52 rfl) rfl
theorem q561 : (Jvm.Cond.privateMethod ({ cls := "java/lang/Throwable", name := "fillInStackTrace", desc := "(I)Ljava/lang/Throwable;" } : Jvm.MethodName)) ∈ lw_tbl := lw_at lw_m3 53 rfl
theorem q562 : (Jvm.Cond.instanceMethod ({ cls := "java/lang/Throwable", name := "fillInStackTrace", desc := "(I)Ljava/lang/Throwable;" } : Jvm.MethodName)) ∈ lw_all := lw_g (lw_at lw_m3 54 rfl) rfl
theorem q563 : (Jvm.Cond.instantiable "java/lang/Throwable" (6 : Nat)) ∈ lw_all := lw_g (lw_at lw_m3 55 rfl) rfl
theorem q564 : (Jvm.Cond.native ({ cls := "java/lang/Throwable", name := "fillInStackTrace", desc := "(I)Ljava/lang/Throwable;" } : Jvm.MethodName)) ∈ lw_all := lw_g (lw_at lw_m3 56 rfl) rfl
theorem q576 : (Jvm.Cond.instanceMethod ({ cls := "java/lang/Throwable", name := "<init>", desc := "(Ljava/lang/String;)V" } : Jvm.MethodName)) ∈ lw_all := lw_g (lw_at lw_m3 68 rfl) rfl
theorem q577 : (Jvm.Cond.code ({ cls := "java/lang/Throwable", name := "<init>", desc := "(Ljava/lang/String;)V" } : Jvm.MethodName) prog_20_method_2_code (2 : Nat) (Option.none : Option Jvm.ClassFile.FieldType)) ∈ lw_all := lw_g (lw_at lw_m3 69 rfl) rfl
theorem q578 : (Jvm.Cond.fieldLink "java/lang/Throwable" (198 : Nat) "java/lang/Throwable" "backtrace" "Ljava/lang/Object;") ∈ lw_all := lw_g (lw_at lw_m3 70 rfl) rfl
theorem q579 : (Jvm.Cond.fieldLink "java/lang/Throwable" (31 : Nat) "java/lang/Throwable" "detailMessage" "Ljava/lang/String;") ∈ lw_all := lw_g (lw_at lw_m3 71 rfl) rfl
theorem q580 : (Jvm.Cond.fieldLink "java/lang/Throwable" (7 : Nat) "java/lang/Throwable" "cause" "Ljava/lang/Throwable;") ∈ lw_all := lw_g (lw_at lw_m3 72 rfl) rfl
theorem q581 : (Jvm.Cond.fieldLink "java/lang/Throwable" (17 : Nat) "java/lang/Throwable" "stackTrace" "[Ljava/lang/StackTraceElement;") ∈ lw_all := lw_g (lw_at lw_m3 73 rfl) rfl
theorem q582 : (Jvm.Cond.fieldLink "java/lang/Throwable" (24 : Nat) "java/lang/Throwable" "suppressedExceptions" "Ljava/util/List;") ∈ lw_all := lw_g (lw_at lw_m3 74 rfl) rfl
theorem q583 : (Jvm.Cond.soleField "java/lang/Throwable" "backtrace") ∈ lw_all := lw_g (lw_at lw_m3 75 rfl) rfl
theorem q584 : (Jvm.Cond.soleField "java/lang/Throwable" "detailMessage") ∈ lw_all := lw_g (lw_at lw_m3 76 rfl) rfl
theorem q585 : (Jvm.Cond.soleField "java/lang/Throwable" "cause") ∈ lw_all := lw_g (lw_at lw_m3 77 rfl) rfl
theorem q586 : (Jvm.Cond.soleField "java/lang/Throwable" "stackTrace") ∈ lw_all := lw_g (lw_at lw_m3 78 rfl) rfl
theorem q588 : (Jvm.Cond.soleField "java/lang/Throwable" "depth") ∈ lw_all := lw_g (lw_at lw_m3 80 rfl) rfl
theorem q589 : (Jvm.Cond.soleField "java/lang/Throwable" "suppressedExceptions") ∈ lw_all := lw_g (lw_at lw_m3 81 rfl) rfl
theorem q961 : (Jvm.Cond.sameMethod "java/lang/Throwable" "java/lang/Throwable" "fillInStackTrace" "(I)Ljava/lang/Throwable;") ∈ lw_all := lw_g (lw_at lw_m4 213 rfl) rfl
theorem in_J1 : ∀ w ∈ wsJ10, w ∈ lw_all := lw_in wsJ10 [535, 537, 539, 541, 543] (by decide +kernel) (by decide +kernel)
def RJ2 : String := "java/lang/Exception"
abbrev cJ2_init : ByteArray := prog_14_method_2_code
def yJ2_init : MethodName := ⟨RJ2, "<init>", "(Ljava/lang/String;)V"⟩
theorem q39 : (Jvm.Cond.initialized "java/lang/Exception") ∈ lw_all := lw_g (lw_at lw_m1 11 rfl) rfl
theorem q528 : (Jvm.Cond.declares ({ cls := "java/lang/Exception", name := "<init>", desc := "()V" } : Jvm.MethodName)) ∈ lw_tbl := lw_at lw_m3 20 rfl
theorem q529 : (Jvm.Cond.declares ({ cls := "java/lang/Exception", name := "<init>", desc := "(Ljava/lang/String;)V" } : Jvm.MethodName)) ∈ lw_tbl := lw_at lw_m3 21 rfl
theorem q573 : (Jvm.Cond.instanceMethod ({ cls := "java/lang/Exception", name := "<init>", desc := "(Ljava/lang/String;)V" } : Jvm.MethodName)) ∈ lw_all := lw_g (lw_at lw_m3 65 rfl) rfl
theorem q574 : (Jvm.Cond.code ({ cls := "java/lang/Exception", name := "<init>", desc := "(Ljava/lang/String;)V" } : Jvm.MethodName) prog_14_method_2_code (2 : Nat) (Option.none : Option Jvm.ClassFile.FieldType)) ∈ lw_all := lw_g (lw_at lw_m3 66 rfl) rfl
theorem q575 : (Jvm.Cond.methodLink "java/lang/Exception" (7 : Nat) ({ cls := "java/lang/Throwable", name := "<init>", desc := "(Ljava/lang/String;)V" } : Jvm.MethodName)) ∈ lw_all := lw_g (lw_at lw_m3 67 rfl) rfl
def RJ3 : String := "java/lang/RuntimeException"
abbrev cJ3_init : ByteArray := prog_18_method_2_code
def yJ3_init : MethodName := ⟨RJ3, "<init>", "(Ljava/lang/String;)V"⟩
theorem q40 : (Jvm.Cond.initialized "java/lang/RuntimeException") ∈ lw_all := lw_g (lw_at lw_m1 12 rfl) rfl
theorem q526 : (Jvm.Cond.declares ({ cls := "java/lang/RuntimeException", name := "<init>", desc := "()V" } : Jvm.MethodName)) ∈ lw_tbl := lw_at lw_m3 18 rfl
theorem q527 : (Jvm.Cond.declares ({ cls := "java/lang/RuntimeException", name := "<init>", desc := "(Ljava/lang/String;)V" } : Jvm.MethodName)) ∈ lw_tbl := lw_at lw_m3 19 rfl
theorem q570 : (Jvm.Cond.instanceMethod ({ cls := "java/lang/RuntimeException", name := "<init>", desc := "(Ljava/lang/String;)V" } : Jvm.MethodName)) ∈ lw_all := lw_g (lw_at lw_m3 62 rfl) rfl
theorem q571 : (Jvm.Cond.code ({ cls := "java/lang/RuntimeException", name := "<init>", desc := "(Ljava/lang/String;)V" } : Jvm.MethodName) prog_18_method_2_code (2 : Nat) (Option.none : Option Jvm.ClassFile.FieldType)) ∈ lw_all := lw_g (lw_at lw_m3 63 rfl) rfl
theorem q572 : (Jvm.Cond.methodLink "java/lang/RuntimeException" (7 : Nat) ({ cls := "java/lang/Exception", name := "<init>", desc := "(Ljava/lang/String;)V" } : Jvm.MethodName)) ∈ lw_all := lw_g (lw_at lw_m3 64 rfl) rfl
def RJ4 : String := "java/lang/UnsupportedOperationException"
def TJ4 : u_T := fun k => match k with
  | 0 => ("java/lang/Throwable", "cause", "Ljava/lang/Throwable;", false)
  | 1 => ("java/lang/Throwable", "stackTrace", "[Ljava/lang/StackTraceElement;", false)
  | 2 => ("java/lang/Throwable", "suppressedExceptions", "Ljava/util/List;", false)
  | 3 => ("java/lang/Throwable", "detailMessage", "Ljava/lang/String;", false)
  | 4 => ("java/lang/Throwable", "backtrace", "Ljava/lang/Object;", false)
  | _ => ("java/lang/Throwable", "depth", "I", false)
def tyJ4 : Nat → FieldType := fun k => match k with
  | 0 => .object "java/lang/Throwable"
  | 1 => .array (.object "java/lang/StackTraceElement")
  | 2 => .object "java/util/List"
  | 3 => .object "java/lang/String"
  | 4 => .object "java/lang/Object"
  | _ => .int
abbrev wsJ40 : List Cond := u_ws RJ4 TJ4 6
theorem nmJ4 : ∀ a, a < 6 → ∀ b, b < 6 → a ≠ b → (TJ4 a).2.1 ≠ (TJ4 b).2.1 := by decide +kernel
theorem tyJ4_ok : ∀ k, k < 6 → parseFieldDescriptor (TJ4 k).2.2.1 = some (tyJ4 k) := by decide +kernel
abbrev cJ4_init : ByteArray := prog_21_method_2_code
def yJ4_init : MethodName := ⟨RJ4, "<init>", "(Ljava/lang/String;)V"⟩
theorem q41 : (Jvm.Cond.initialized "java/lang/UnsupportedOperationException") ∈ lw_all := lw_g (lw_at lw_m1 13 rfl) rfl
theorem q524 : (Jvm.Cond.instantiable "java/lang/UnsupportedOperationException" (6 : Nat)) ∈ lw_all := lw_g (lw_at lw_m3 16 rfl) rfl
theorem q525 : (Jvm.Cond.castable "java/lang/UnsupportedOperationException" "java/lang/UnsupportedOperationException") ∈ lw_tbl := lw_at lw_m3 17 rfl
theorem q532 : (Jvm.Cond.selects "java/lang/UnsupportedOperationException" ({ cls := "java/lang/Throwable", name := "fillInStackTrace", desc := "(I)Ljava/lang/Throwable;" } : Jvm.MethodName) ({ cls := "java/lang/Throwable", name := "fillInStackTrace", desc := "(I)Ljava/lang/Throwable;" } : Jvm.MethodName)) ∈ lw_all := lw_g (lw_at lw_m3 24 rfl) rfl
theorem q533 : (Jvm.Cond.selects "java/lang/UnsupportedOperationException" ({ cls := "java/lang/Throwable", name := "fillInStackTrace", desc := "()Ljava/lang/Throwable;" } : Jvm.MethodName) ({ cls := "java/lang/Throwable", name := "fillInStackTrace", desc := "()Ljava/lang/Throwable;" } : Jvm.MethodName)) ∈ lw_all := lw_g (lw_at lw_m3 25 rfl) rfl
theorem q534 : (Jvm.Cond.lays "java/lang/UnsupportedOperationException" "java/lang/Throwable" "cause" "Ljava/lang/Throwable;") ∈ lw_all := lw_g (lw_at lw_m3 26 rfl) rfl
theorem q536 : (Jvm.Cond.lays "java/lang/UnsupportedOperationException" "java/lang/Throwable" "stackTrace" "[Ljava/lang/StackTraceElement;") ∈ lw_all := lw_g (lw_at lw_m3 28 rfl) rfl
theorem q538 : (Jvm.Cond.lays "java/lang/UnsupportedOperationException" "java/lang/Throwable" "suppressedExceptions" "Ljava/util/List;") ∈ lw_all := lw_g (lw_at lw_m3 30 rfl) rfl
theorem q540 : (Jvm.Cond.lays "java/lang/UnsupportedOperationException" "java/lang/Throwable" "detailMessage" "Ljava/lang/String;") ∈ lw_all := lw_g (lw_at lw_m3 32 rfl) rfl
theorem q542 : (Jvm.Cond.lays "java/lang/UnsupportedOperationException" "java/lang/Throwable" "backtrace" "Ljava/lang/Object;") ∈ lw_all := lw_g (lw_at lw_m3 34 rfl) rfl
theorem q567 : (Jvm.Cond.instanceMethod ({ cls := "java/lang/UnsupportedOperationException", name := "<init>", desc := "(Ljava/lang/String;)V" } : Jvm.MethodName)) ∈ lw_all := lw_g (lw_at lw_m3 59 rfl) rfl
theorem q568 : (Jvm.Cond.code ({ cls := "java/lang/UnsupportedOperationException", name := "<init>", desc := "(Ljava/lang/String;)V" } : Jvm.MethodName) prog_21_method_2_code (2 : Nat) (Option.none : Option Jvm.ClassFile.FieldType)) ∈ lw_all := lw_g (lw_at lw_m3 60 rfl) rfl
theorem q569 : (Jvm.Cond.methodLink "java/lang/UnsupportedOperationException" (7 : Nat) ({ cls := "java/lang/RuntimeException", name := "<init>", desc := "(Ljava/lang/String;)V" } : Jvm.MethodName)) ∈ lw_all := lw_g (lw_at lw_m3 61 rfl) rfl
theorem q587 : (Jvm.Cond.lays "java/lang/UnsupportedOperationException" "java/lang/Throwable" "depth" "I") ∈ lw_all := lw_g (lw_at lw_m3 79 rfl) rfl
theorem q590 : (Jvm.Cond.superclass "java/lang/UnsupportedOperationException" "java/lang/RuntimeException") ∈ lw_all := lw_g (lw_at lw_m3 82 rfl) rfl
theorem in_J4 : ∀ w ∈ wsJ40, w ∈ lw_all := lw_in wsJ40 [534, 536, 538, 540, 542, 587] (by decide +kernel) (by decide +kernel)
def RJ5 : String := "java/lang/IllegalArgumentException"
def TJ5 : u_T := fun k => match k with
  | 0 => ("java/lang/Throwable", "cause", "Ljava/lang/Throwable;", false)
  | 1 => ("java/lang/Throwable", "stackTrace", "[Ljava/lang/StackTraceElement;", false)
  | 2 => ("java/lang/Throwable", "suppressedExceptions", "Ljava/util/List;", false)
  | 3 => ("java/lang/Throwable", "detailMessage", "Ljava/lang/String;", false)
  | 4 => ("java/lang/Throwable", "backtrace", "Ljava/lang/Object;", false)
  | _ => ("java/lang/Throwable", "depth", "I", false)
def tyJ5 : Nat → FieldType := fun k => match k with
  | 0 => .object "java/lang/Throwable"
  | 1 => .array (.object "java/lang/StackTraceElement")
  | 2 => .object "java/util/List"
  | 3 => .object "java/lang/String"
  | 4 => .object "java/lang/Object"
  | _ => .int
abbrev wsJ50 : List Cond := u_ws RJ5 TJ5 6
theorem nmJ5 : ∀ a, a < 6 → ∀ b, b < 6 → a ≠ b → (TJ5 a).2.1 ≠ (TJ5 b).2.1 := by decide +kernel
theorem tyJ5_ok : ∀ k, k < 6 → parseFieldDescriptor (TJ5 k).2.2.1 = some (tyJ5 k) := by decide +kernel
abbrev cJ5_init : ByteArray := prog_15_method_2_code
def yJ5_init : MethodName := ⟨RJ5, "<init>", "(Ljava/lang/String;)V"⟩
theorem q45 : (Jvm.Cond.initialized "java/lang/IllegalArgumentException") ∈ lw_all := lw_g (lw_at lw_m1 17 rfl) rfl
theorem q557 : (Jvm.Cond.selects "java/lang/IllegalArgumentException" ({ cls := "java/lang/Throwable", name := "fillInStackTrace", desc := "()Ljava/lang/Throwable;" } : Jvm.MethodName) ({ cls := "java/lang/Throwable", name := "fillInStackTrace", desc := "()Ljava/lang/Throwable;" } : Jvm.MethodName)) ∈ lw_all := lw_g (lw_at lw_m3 49 rfl) rfl
theorem q634 : (Jvm.Cond.instantiable "java/lang/IllegalArgumentException" (6 : Nat)) ∈ lw_all := lw_g (lw_at lw_m3 126 rfl) rfl
theorem q635 : (Jvm.Cond.castable "java/lang/IllegalArgumentException" "java/lang/IllegalArgumentException") ∈ lw_tbl := lw_at lw_m3 127 rfl
theorem q636 : (Jvm.Cond.selects "java/lang/IllegalArgumentException" ({ cls := "java/lang/Throwable", name := "fillInStackTrace", desc := "(I)Ljava/lang/Throwable;" } : Jvm.MethodName) ({ cls := "java/lang/Throwable", name := "fillInStackTrace", desc := "(I)Ljava/lang/Throwable;" } : Jvm.MethodName)) ∈ lw_all := lw_g (lw_at lw_m3 128 rfl) rfl
theorem q637 : (Jvm.Cond.lays "java/lang/IllegalArgumentException" "java/lang/Throwable" "cause" "Ljava/lang/Throwable;") ∈ lw_all := lw_g (lw_at lw_m3 129 rfl) rfl
theorem q638 : (Jvm.Cond.lays "java/lang/IllegalArgumentException" "java/lang/Throwable" "stackTrace" "[Ljava/lang/StackTraceElement;") ∈ lw_all := lw_g (lw_at lw_m3 130 rfl) rfl
theorem q639 : (Jvm.Cond.lays "java/lang/IllegalArgumentException" "java/lang/Throwable" "suppressedExceptions" "Ljava/util/List;") ∈ lw_all := lw_g (lw_at lw_m3 131 rfl) rfl
theorem q640 : (Jvm.Cond.lays "java/lang/IllegalArgumentException" "java/lang/Throwable" "detailMessage" "Ljava/lang/String;") ∈ lw_all := lw_g (lw_at lw_m3 132 rfl) rfl
theorem q641 : (Jvm.Cond.lays "java/lang/IllegalArgumentException" "java/lang/Throwable" "backtrace" "Ljava/lang/Object;") ∈ lw_all := lw_g (lw_at lw_m3 133 rfl) rfl
theorem q644 : (Jvm.Cond.instanceMethod ({ cls := "java/lang/IllegalArgumentException", name := "<init>", desc := "(Ljava/lang/String;)V" } : Jvm.MethodName)) ∈ lw_all := lw_g (lw_at lw_m3 136 rfl) rfl
theorem q645 : (Jvm.Cond.code ({ cls := "java/lang/IllegalArgumentException", name := "<init>", desc := "(Ljava/lang/String;)V" } : Jvm.MethodName) prog_15_method_2_code (2 : Nat) (Option.none : Option Jvm.ClassFile.FieldType)) ∈ lw_all := lw_g (lw_at lw_m3 137 rfl) rfl
theorem q646 : (Jvm.Cond.methodLink "java/lang/IllegalArgumentException" (7 : Nat) ({ cls := "java/lang/RuntimeException", name := "<init>", desc := "(Ljava/lang/String;)V" } : Jvm.MethodName)) ∈ lw_all := lw_g (lw_at lw_m3 138 rfl) rfl
theorem q647 : (Jvm.Cond.lays "java/lang/IllegalArgumentException" "java/lang/Throwable" "depth" "I") ∈ lw_all := lw_g (lw_at lw_m3 139 rfl) rfl
theorem q648 : (Jvm.Cond.superclass "java/lang/IllegalArgumentException" "java/lang/RuntimeException") ∈ lw_all := lw_g (lw_at lw_m3 140 rfl) rfl
theorem in_J5 : ∀ w ∈ wsJ50, w ∈ lw_all := lw_in wsJ50 [637, 638, 639, 640, 641, 647] (by decide +kernel) (by decide +kernel)
def RJ6 : String := "java/lang/IndexOutOfBoundsException"
def TJ6 : u_T := fun k => match k with
  | 0 => ("java/lang/Throwable", "cause", "Ljava/lang/Throwable;", false)
  | 1 => ("java/lang/Throwable", "stackTrace", "[Ljava/lang/StackTraceElement;", false)
  | 2 => ("java/lang/Throwable", "suppressedExceptions", "Ljava/util/List;", false)
  | 3 => ("java/lang/Throwable", "detailMessage", "Ljava/lang/String;", false)
  | 4 => ("java/lang/Throwable", "backtrace", "Ljava/lang/Object;", false)
  | _ => ("java/lang/Throwable", "depth", "I", false)
def tyJ6 : Nat → FieldType := fun k => match k with
  | 0 => .object "java/lang/Throwable"
  | 1 => .array (.object "java/lang/StackTraceElement")
  | 2 => .object "java/util/List"
  | 3 => .object "java/lang/String"
  | 4 => .object "java/lang/Object"
  | _ => .int
abbrev wsJ60 : List Cond := u_ws RJ6 TJ6 6
theorem nmJ6 : ∀ a, a < 6 → ∀ b, b < 6 → a ≠ b → (TJ6 a).2.1 ≠ (TJ6 b).2.1 := by decide +kernel
theorem tyJ6_ok : ∀ k, k < 6 → parseFieldDescriptor (TJ6 k).2.2.1 = some (tyJ6 k) := by decide +kernel
abbrev cJ6_init : ByteArray := prog_16_method_2_code
def yJ6_init : MethodName := ⟨RJ6, "<init>", "(Ljava/lang/String;)V"⟩
theorem q46 : (Jvm.Cond.initialized "java/lang/IndexOutOfBoundsException") ∈ lw_all := lw_g (lw_at lw_m1 18 rfl) rfl
theorem q558 : (Jvm.Cond.selects "java/lang/IndexOutOfBoundsException" ({ cls := "java/lang/Throwable", name := "fillInStackTrace", desc := "()Ljava/lang/Throwable;" } : Jvm.MethodName) ({ cls := "java/lang/Throwable", name := "fillInStackTrace", desc := "()Ljava/lang/Throwable;" } : Jvm.MethodName)) ∈ lw_all := lw_g (lw_at lw_m3 50 rfl) rfl
theorem q679 : (Jvm.Cond.instanceMethod ({ cls := "java/lang/IndexOutOfBoundsException", name := "<init>", desc := "(Ljava/lang/String;)V" } : Jvm.MethodName)) ∈ lw_all := lw_g (lw_at lw_m3 171 rfl) rfl
theorem q680 : (Jvm.Cond.code ({ cls := "java/lang/IndexOutOfBoundsException", name := "<init>", desc := "(Ljava/lang/String;)V" } : Jvm.MethodName) prog_16_method_2_code (2 : Nat) (Option.none : Option Jvm.ClassFile.FieldType)) ∈ lw_all := lw_g (lw_at lw_m3 172 rfl) rfl
theorem q681 : (Jvm.Cond.methodLink "java/lang/IndexOutOfBoundsException" (7 : Nat) ({ cls := "java/lang/RuntimeException", name := "<init>", desc := "(Ljava/lang/String;)V" } : Jvm.MethodName)) ∈ lw_all := lw_g (lw_at lw_m3 173 rfl) rfl
theorem q690 : (Jvm.Cond.declares ({ cls := "java/lang/IndexOutOfBoundsException", name := "<init>", desc := "()V" } : Jvm.MethodName)) ∈ lw_tbl := lw_at lw_m3 182 rfl
theorem q691 : (Jvm.Cond.declares ({ cls := "java/lang/IndexOutOfBoundsException", name := "<init>", desc := "(Ljava/lang/String;)V" } : Jvm.MethodName)) ∈ lw_tbl := lw_at lw_m3 183 rfl
theorem q710 : (Jvm.Cond.instantiable "java/lang/IndexOutOfBoundsException" (6 : Nat)) ∈ lw_all := lw_g (lw_at lw_m3 202 rfl) rfl
theorem q711 : (Jvm.Cond.castable "java/lang/IndexOutOfBoundsException" "java/lang/IndexOutOfBoundsException") ∈ lw_tbl := lw_at lw_m3 203 rfl
theorem q712 : (Jvm.Cond.selects "java/lang/IndexOutOfBoundsException" ({ cls := "java/lang/Throwable", name := "fillInStackTrace", desc := "(I)Ljava/lang/Throwable;" } : Jvm.MethodName) ({ cls := "java/lang/Throwable", name := "fillInStackTrace", desc := "(I)Ljava/lang/Throwable;" } : Jvm.MethodName)) ∈ lw_all := lw_g (lw_at lw_m3 204 rfl) rfl
theorem q713 : (Jvm.Cond.lays "java/lang/IndexOutOfBoundsException" "java/lang/Throwable" "cause" "Ljava/lang/Throwable;") ∈ lw_all := lw_g (lw_at lw_m3 205 rfl) rfl
theorem q714 : (Jvm.Cond.lays "java/lang/IndexOutOfBoundsException" "java/lang/Throwable" "stackTrace" "[Ljava/lang/StackTraceElement;") ∈ lw_all := lw_g (lw_at lw_m3 206 rfl) rfl
theorem q715 : (Jvm.Cond.lays "java/lang/IndexOutOfBoundsException" "java/lang/Throwable" "suppressedExceptions" "Ljava/util/List;") ∈ lw_all := lw_g (lw_at lw_m3 207 rfl) rfl
theorem q716 : (Jvm.Cond.lays "java/lang/IndexOutOfBoundsException" "java/lang/Throwable" "detailMessage" "Ljava/lang/String;") ∈ lw_all := lw_g (lw_at lw_m3 208 rfl) rfl
theorem q717 : (Jvm.Cond.lays "java/lang/IndexOutOfBoundsException" "java/lang/Throwable" "backtrace" "Ljava/lang/Object;") ∈ lw_all := lw_g (lw_at lw_m3 209 rfl) rfl
theorem q720 : (Jvm.Cond.lays "java/lang/IndexOutOfBoundsException" "java/lang/Throwable" "depth" "I") ∈ lw_all := lw_g (lw_at lw_m3 212 rfl) rfl
theorem q721 : (Jvm.Cond.superclass "java/lang/IndexOutOfBoundsException" "java/lang/RuntimeException") ∈ lw_all := lw_g (lw_at lw_m3 213 rfl) rfl
theorem in_J6 : ∀ w ∈ wsJ60, w ∈ lw_all := lw_in wsJ60 [713, 714, 715, 716, 717, 720] (by decide +kernel) (by decide +kernel)
def RJ7 : String := "java/lang/ArrayIndexOutOfBoundsException"
def TJ7 : u_T := fun k => match k with
  | 0 => ("java/lang/Throwable", "backtrace", "Ljava/lang/Object;", false)
  | 1 => ("java/lang/Throwable", "detailMessage", "Ljava/lang/String;", false)
  | 2 => ("java/lang/Throwable", "cause", "Ljava/lang/Throwable;", false)
  | 3 => ("java/lang/Throwable", "stackTrace", "[Ljava/lang/StackTraceElement;", false)
  | 4 => ("java/lang/Throwable", "depth", "I", false)
  | _ => ("java/lang/Throwable", "suppressedExceptions", "Ljava/util/List;", false)
def tyJ7 : Nat → FieldType := fun k => match k with
  | 0 => .object "java/lang/Object"
  | 1 => .object "java/lang/String"
  | 2 => .object "java/lang/Throwable"
  | 3 => .array (.object "java/lang/StackTraceElement")
  | 4 => .int
  | _ => .object "java/util/List"
abbrev wsJ70 : List Cond := u_ws RJ7 TJ7 6
theorem nmJ7 : ∀ a, a < 6 → ∀ b, b < 6 → a ≠ b → (TJ7 a).2.1 ≠ (TJ7 b).2.1 := by decide +kernel
theorem tyJ7_ok : ∀ k, k < 6 → parseFieldDescriptor (TJ7 k).2.2.1 = some (tyJ7 k) := by decide +kernel
abbrev cJ7_init : ByteArray := prog_13_method_2_code
def yJ7_init : MethodName := ⟨RJ7, "<init>", "(Ljava/lang/String;)V"⟩
theorem q47 : (Jvm.Cond.initialized "java/lang/ArrayIndexOutOfBoundsException") ∈ lw_all := lw_g (lw_at lw_m1 19 rfl) rfl
theorem q556 : (Jvm.Cond.selects "java/lang/ArrayIndexOutOfBoundsException" ({ cls := "java/lang/Throwable", name := "fillInStackTrace", desc := "()Ljava/lang/Throwable;" } : Jvm.MethodName) ({ cls := "java/lang/Throwable", name := "fillInStackTrace", desc := "()Ljava/lang/Throwable;" } : Jvm.MethodName)) ∈ lw_all := lw_g (lw_at lw_m3 48 rfl) rfl
theorem q675 : (Jvm.Cond.instantiable "java/lang/ArrayIndexOutOfBoundsException" (6 : Nat)) ∈ lw_all := lw_g (lw_at lw_m3 167 rfl) rfl
theorem q676 : (Jvm.Cond.instanceMethod ({ cls := "java/lang/ArrayIndexOutOfBoundsException", name := "<init>", desc := "(Ljava/lang/String;)V" } : Jvm.MethodName)) ∈ lw_all := lw_g (lw_at lw_m3 168 rfl) rfl
theorem q677 : (Jvm.Cond.code ({ cls := "java/lang/ArrayIndexOutOfBoundsException", name := "<init>", desc := "(Ljava/lang/String;)V" } : Jvm.MethodName) prog_13_method_2_code (2 : Nat) (Option.none : Option Jvm.ClassFile.FieldType)) ∈ lw_all := lw_g (lw_at lw_m3 169 rfl) rfl
theorem q678 : (Jvm.Cond.methodLink "java/lang/ArrayIndexOutOfBoundsException" (7 : Nat) ({ cls := "java/lang/IndexOutOfBoundsException", name := "<init>", desc := "(Ljava/lang/String;)V" } : Jvm.MethodName)) ∈ lw_all := lw_g (lw_at lw_m3 170 rfl) rfl
theorem q682 : (Jvm.Cond.lays "java/lang/ArrayIndexOutOfBoundsException" "java/lang/Throwable" "backtrace" "Ljava/lang/Object;") ∈ lw_all := lw_g (lw_at lw_m3 174 rfl) rfl
theorem q683 : (Jvm.Cond.lays "java/lang/ArrayIndexOutOfBoundsException" "java/lang/Throwable" "detailMessage" "Ljava/lang/String;") ∈ lw_all := lw_g (lw_at lw_m3 175 rfl) rfl
theorem q684 : (Jvm.Cond.lays "java/lang/ArrayIndexOutOfBoundsException" "java/lang/Throwable" "cause" "Ljava/lang/Throwable;") ∈ lw_all := lw_g (lw_at lw_m3 176 rfl) rfl
theorem q685 : (Jvm.Cond.lays "java/lang/ArrayIndexOutOfBoundsException" "java/lang/Throwable" "stackTrace" "[Ljava/lang/StackTraceElement;") ∈ lw_all := lw_g (lw_at lw_m3 177 rfl) rfl
theorem q686 : (Jvm.Cond.lays "java/lang/ArrayIndexOutOfBoundsException" "java/lang/Throwable" "depth" "I") ∈ lw_all := lw_g (lw_at lw_m3 178 rfl) rfl
theorem q687 : (Jvm.Cond.lays "java/lang/ArrayIndexOutOfBoundsException" "java/lang/Throwable" "suppressedExceptions" "Ljava/util/List;") ∈ lw_all := lw_g (lw_at lw_m3 179 rfl) rfl
theorem q688 : (Jvm.Cond.superclass "java/lang/ArrayIndexOutOfBoundsException" "java/lang/IndexOutOfBoundsException") ∈ lw_all := lw_g (lw_at lw_m3 180 rfl) rfl
theorem q689 : (Jvm.Cond.castable "java/lang/ArrayIndexOutOfBoundsException" "java/lang/ArrayIndexOutOfBoundsException") ∈ lw_tbl := lw_at lw_m3 181 rfl
theorem q692 : (Jvm.Cond.selects "java/lang/ArrayIndexOutOfBoundsException" ({ cls := "java/lang/Throwable", name := "fillInStackTrace", desc := "(I)Ljava/lang/Throwable;" } : Jvm.MethodName) ({ cls := "java/lang/Throwable", name := "fillInStackTrace", desc := "(I)Ljava/lang/Throwable;" } : Jvm.MethodName)) ∈ lw_all := lw_g (lw_at lw_m3 184 rfl) rfl
theorem q962 : (Jvm.Cond.castable "java/lang/ArrayIndexOutOfBoundsException" "java/lang/IndexOutOfBoundsException") ∈ lw_tbl := lw_at lw_m4 214 rfl
theorem in_J7 : ∀ w ∈ wsJ70, w ∈ lw_all := lw_in wsJ70 [682, 683, 684, 685, 686, 687] (by decide +kernel) (by decide +kernel)
def RJ8 : String := "java/lang/String"
def TJ8 : u_T := fun k => match k with
  | 0 => ("java/lang/String", "value", "[B", true)
  | _ => ("java/lang/String", "coder", "B", true)
def tyJ8 : Nat → FieldType := fun k => match k with
  | 0 => .array .byte
  | _ => .byte
abbrev wsJ80 : List Cond := u_ws RJ8 TJ8 2
theorem nmJ8 : ∀ a, a < 2 → ∀ b, b < 2 → a ≠ b → (TJ8 a).2.1 ≠ (TJ8 b).2.1 := by decide +kernel
theorem tyJ8_ok : ∀ k, k < 2 → parseFieldDescriptor (TJ8 k).2.2.1 = some (tyJ8 k) := by decide +kernel
theorem q48 : (Jvm.Cond.initialized "java/lang/String") ∈ lw_all := lw_g (lw_at lw_m1 20 rfl) rfl
theorem q693 : (Jvm.Cond.instantiable "java/lang/String" (4 : Nat)) ∈ lw_all := lw_g (lw_at lw_m3 185 rfl) rfl
theorem q694 : (Jvm.Cond.laysFinal "java/lang/String" "java/lang/String" "value" "[B") ∈ lw_all := lw_g (lw_at lw_m3 186 rfl) rfl
theorem q695 : (Jvm.Cond.soleField "java/lang/String" "value") ∈ lw_all := lw_g (lw_at lw_m3 187 rfl) rfl
theorem q696 : (Jvm.Cond.laysFinal "java/lang/String" "java/lang/String" "coder" "B") ∈ lw_all := lw_g (lw_at lw_m3 188 rfl) rfl
theorem q697 : (Jvm.Cond.soleField "java/lang/String" "coder") ∈ lw_all := lw_g (lw_at lw_m3 189 rfl) rfl
theorem in_J8 : ∀ w ∈ wsJ80, w ∈ lw_all := lw_in wsJ80 [694, 696] (by decide +kernel) (by decide +kernel)
def RJ9 : String := "java/lang/Object"
abbrev cJ9_init : ByteArray := object_method_1_code
def yJ9_init : MethodName := ⟨RJ9, "<init>", "()V"⟩
theorem q55 : (Jvm.Cond.instanceMethod ({ cls := "java/lang/Object", name := "<init>", desc := "()V" } : Jvm.MethodName)) ∈ lw_all := lw_g (lw_at lw_m1 27 rfl) rfl
theorem q56 : (Jvm.Cond.code ({ cls := "java/lang/Object", name := "<init>", desc := "()V" } : Jvm.MethodName) object_method_1_code (1 : Nat) (Option.none : Option Jvm.ClassFile.FieldType)) ∈ lw_all := lw_g (lw_at lw_m1 28 rfl) rfl
abbrev cL_law : ByteArray := code
def RX0 : String := "LazyPagesLaw"
abbrev cX0_put : ByteArray := method_3_code
def yX0_put : MethodName := ⟨RX0, "put", "(LLazyPages;IJ[J)I"⟩
abbrev cX0_add : ByteArray := method_4_code
def yX0_add : MethodName := ⟨RX0, "add", "(LLazyPages;IJ[J)I"⟩
abbrev cX0_most : ByteArray := method_5_code
def yX0_most : MethodName := ⟨RX0, "most", "(LLazyPages;IJ[J)I"⟩
abbrev cX0_delete : ByteArray := method_6_code
def yX0_delete : MethodName := ⟨RX0, "delete", "(LLazyPages;II[J)I"⟩
abbrev cX0_raise : ByteArray := method_7_code
def yX0_raise : MethodName := ⟨RX0, "raise", "(LLazyPages;IIJ[J)I"⟩
abbrev cX0_putAll : ByteArray := method_8_code
def yX0_putAll : MethodName := ⟨RX0, "putAll", "(LLazyPages;IIJJI[J)I"⟩
abbrev cX0_has : ByteArray := method_9_code
def yX0_has : MethodName := ⟨RX0, "has", "(LLazyPages;II[J)I"⟩
abbrev cX0_get : ByteArray := method_10_code
def yX0_get : MethodName := ⟨RX0, "get", "(LLazyPages;II[J)I"⟩
abbrev cX0_count : ByteArray := method_11_code
def yX0_count : MethodName := ⟨RX0, "count", "(LLazyPages;III[J)I"⟩
abbrev cX0_sum : ByteArray := method_12_code
def yX0_sum : MethodName := ⟨RX0, "sum", "(LLazyPages;III[J)I"⟩
abbrev cX0_key : ByteArray := method_13_code
def yX0_key : MethodName := ⟨RX0, "key", "(LLazyPages;III[J)I"⟩
abbrev cX0_save : ByteArray := method_14_code
def yX0_save : MethodName := ⟨RX0, "save", "(LLazyPages;I)I"⟩
abbrev cX0_drop : ByteArray := method_15_code
def yX0_drop : MethodName := ⟨RX0, "drop", "(LLazyPages;I[J)I"⟩
abbrev cX0_restore : ByteArray := method_16_code
def yX0_restore : MethodName := ⟨RX0, "restore", "(LLazyPages;I[J)I"⟩
abbrev cX0_differ : ByteArray := method_17_code
def yX0_differ : MethodName := ⟨RX0, "differ", "(LLazyPages;II[J)I"⟩
abbrev cX0_total : ByteArray := method_18_code
def yX0_total : MethodName := ⟨RX0, "total", "(LLazyPages;I[J)I"⟩
theorem q28 : (Jvm.Cond.initialized "LazyPagesLaw") ∈ lw_all := lw_g (lw_at lw_m1 0 rfl) rfl
theorem q49 : (Jvm.Cond.classLink "LazyPagesLaw" (8 : Nat) "LazyPages") ∈ lw_all := lw_g (lw_at lw_m1 21 rfl) rfl
theorem q51 : (Jvm.Cond.methodLink "LazyPagesLaw" (75 : Nat) ({ cls := "LazyPages", name := "<init>", desc := "()V" } : Jvm.MethodName)) ∈ lw_all := lw_g (lw_at lw_m1 23 rfl) rfl
theorem q208 : (Jvm.Cond.methodLink "LazyPagesLaw" (139 : Nat) ({ cls := "LazyPages", name := "settle", desc := "()V" } : Jvm.MethodName)) ∈ lw_all := lw_g (lw_at lw_m1 180 rfl) rfl
theorem q433 : (Jvm.Cond.methodLink "LazyPagesLaw" (143 : Nat) ({ cls := "LazyPages", name := "sync", desc := "()I" } : Jvm.MethodName)) ∈ lw_all := lw_g (lw_at lw_m2 165 rfl) rfl
theorem q437 : (Jvm.Cond.methodLink "LazyPagesLaw" (147 : Nat) ({ cls := "LazyPages", name := "checkpoint", desc := "()I" } : Jvm.MethodName)) ∈ lw_all := lw_g (lw_at lw_m2 169 rfl) rfl
theorem q443 : (Jvm.Cond.methodLink "LazyPagesLaw" (151 : Nat) ({ cls := "LazyPages", name := "crash", desc := "()I" } : Jvm.MethodName)) ∈ lw_all := lw_g (lw_at lw_m2 175 rfl) rfl
theorem q475 : (Jvm.Cond.methodLink "LazyPagesLaw" (158 : Nat) ({ cls := "LazyPages", name := "isSound", desc := "()Z" } : Jvm.MethodName)) ∈ lw_all := lw_g (lw_at lw_m2 207 rfl) rfl
theorem q489 : (Jvm.Cond.methodLink "LazyPagesLaw" (81 : Nat) ({ cls := "LazyPagesLaw", name := "put", desc := "(LLazyPages;IJ[J)I" } : Jvm.MethodName)) ∈ lw_all := lw_g (lw_at lw_m2 221 rfl) rfl
theorem q490 : (Jvm.Cond.static ({ cls := "LazyPagesLaw", name := "put", desc := "(LLazyPages;IJ[J)I" } : Jvm.MethodName)) ∈ lw_all := lw_g (lw_at lw_m2 222 rfl) rfl
theorem q491 : (Jvm.Cond.codeWith ({ cls := "LazyPagesLaw", name := "put", desc := "(LLazyPages;IJ[J)I" } : Jvm.MethodName) method_3_code (6 : Nat) (Option.some Jvm.ClassFile.FieldType.int) [((0 : Nat), (11 : Nat), (14 : Nat), (13 : Nat))]) ∈ lw_all := lw_g (lw_at lw_m2 223 rfl) rfl
theorem q492 : (Jvm.Cond.classLink "LazyPagesLaw" (13 : Nat) "java/lang/UnsupportedOperationException") ∈ lw_all := lw_g (lw_at lw_m2 224 rfl) rfl
theorem q493 : (Jvm.Cond.methodLink "LazyPagesLaw" (7 : Nat) ({ cls := "LazyPages", name := "put", desc := "(IJ)I" } : Jvm.MethodName)) ∈ lw_all := lw_g (lw_at lw_m2 225 rfl) rfl
theorem q608 : (Jvm.Cond.methodLink "LazyPagesLaw" (91 : Nat) ({ cls := "LazyPagesLaw", name := "add", desc := "(LLazyPages;IJ[J)I" } : Jvm.MethodName)) ∈ lw_all := lw_g (lw_at lw_m3 100 rfl) rfl
theorem q609 : (Jvm.Cond.static ({ cls := "LazyPagesLaw", name := "add", desc := "(LLazyPages;IJ[J)I" } : Jvm.MethodName)) ∈ lw_all := lw_g (lw_at lw_m3 101 rfl) rfl
theorem q610 : (Jvm.Cond.codeWith ({ cls := "LazyPagesLaw", name := "add", desc := "(LLazyPages;IJ[J)I" } : Jvm.MethodName) method_4_code (6 : Nat) (Option.some Jvm.ClassFile.FieldType.int) [((0 : Nat), (10 : Nat), (13 : Nat), (13 : Nat))]) ∈ lw_all := lw_g (lw_at lw_m3 102 rfl) rfl
theorem q611 : (Jvm.Cond.methodLink "LazyPagesLaw" (15 : Nat) ({ cls := "LazyPages", name := "add", desc := "(IJ)J" } : Jvm.MethodName)) ∈ lw_all := lw_g (lw_at lw_m3 103 rfl) rfl
theorem q615 : (Jvm.Cond.methodLink "LazyPagesLaw" (94 : Nat) ({ cls := "LazyPagesLaw", name := "most", desc := "(LLazyPages;IJ[J)I" } : Jvm.MethodName)) ∈ lw_all := lw_g (lw_at lw_m3 107 rfl) rfl
theorem q616 : (Jvm.Cond.static ({ cls := "LazyPagesLaw", name := "most", desc := "(LLazyPages;IJ[J)I" } : Jvm.MethodName)) ∈ lw_all := lw_g (lw_at lw_m3 108 rfl) rfl
theorem q617 : (Jvm.Cond.codeWith ({ cls := "LazyPagesLaw", name := "most", desc := "(LLazyPages;IJ[J)I" } : Jvm.MethodName) method_5_code (6 : Nat) (Option.some Jvm.ClassFile.FieldType.int) [((0 : Nat), (10 : Nat), (13 : Nat), (13 : Nat))]) ∈ lw_all := lw_g (lw_at lw_m3 109 rfl) rfl
theorem q618 : (Jvm.Cond.methodLink "LazyPagesLaw" (19 : Nat) ({ cls := "LazyPages", name := "most", desc := "(IJ)J" } : Jvm.MethodName)) ∈ lw_all := lw_g (lw_at lw_m3 110 rfl) rfl
theorem q622 : (Jvm.Cond.methodLink "LazyPagesLaw" (97 : Nat) ({ cls := "LazyPagesLaw", name := "delete", desc := "(LLazyPages;II[J)I" } : Jvm.MethodName)) ∈ lw_all := lw_g (lw_at lw_m3 114 rfl) rfl
theorem q623 : (Jvm.Cond.static ({ cls := "LazyPagesLaw", name := "delete", desc := "(LLazyPages;II[J)I" } : Jvm.MethodName)) ∈ lw_all := lw_g (lw_at lw_m3 115 rfl) rfl
theorem q624 : (Jvm.Cond.codeWith ({ cls := "LazyPagesLaw", name := "delete", desc := "(LLazyPages;II[J)I" } : Jvm.MethodName) method_6_code (5 : Nat) (Option.some Jvm.ClassFile.FieldType.int) [((0 : Nat), (10 : Nat), (13 : Nat), (26 : Nat)), ((0 : Nat), (10 : Nat), (17 : Nat), (13 : Nat))]) ∈ lw_all := lw_g (lw_at lw_m3 116 rfl) rfl
theorem q625 : (Jvm.Cond.classLink "LazyPagesLaw" (26 : Nat) "java/lang/IllegalArgumentException") ∈ lw_all := lw_g (lw_at lw_m3 117 rfl) rfl
theorem q626 : (Jvm.Cond.methodLink "LazyPagesLaw" (22 : Nat) ({ cls := "LazyPages", name := "delete", desc := "(II)I" } : Jvm.MethodName)) ∈ lw_all := lw_g (lw_at lw_m3 118 rfl) rfl
theorem q649 : (Jvm.Cond.methodLink "LazyPagesLaw" (101 : Nat) ({ cls := "LazyPagesLaw", name := "raise", desc := "(LLazyPages;IIJ[J)I" } : Jvm.MethodName)) ∈ lw_all := lw_g (lw_at lw_m3 141 rfl) rfl
theorem q650 : (Jvm.Cond.static ({ cls := "LazyPagesLaw", name := "raise", desc := "(LLazyPages;IIJ[J)I" } : Jvm.MethodName)) ∈ lw_all := lw_g (lw_at lw_m3 142 rfl) rfl
theorem q651 : (Jvm.Cond.codeWith ({ cls := "LazyPagesLaw", name := "raise", desc := "(LLazyPages;IIJ[J)I" } : Jvm.MethodName) method_7_code (7 : Nat) (Option.some Jvm.ClassFile.FieldType.int) [((0 : Nat), (12 : Nat), (15 : Nat), (26 : Nat)), ((0 : Nat), (12 : Nat), (19 : Nat), (13 : Nat))]) ∈ lw_all := lw_g (lw_at lw_m3 143 rfl) rfl
theorem q652 : (Jvm.Cond.methodLink "LazyPagesLaw" (28 : Nat) ({ cls := "LazyPages", name := "raise", desc := "(IIJ)I" } : Jvm.MethodName)) ∈ lw_all := lw_g (lw_at lw_m3 144 rfl) rfl
theorem q656 : (Jvm.Cond.methodLink "LazyPagesLaw" (105 : Nat) ({ cls := "LazyPagesLaw", name := "putAll", desc := "(LLazyPages;IIJJI[J)I" } : Jvm.MethodName)) ∈ lw_all := lw_g (lw_at lw_m3 148 rfl) rfl
theorem q657 : (Jvm.Cond.static ({ cls := "LazyPagesLaw", name := "putAll", desc := "(LLazyPages;IIJJI[J)I" } : Jvm.MethodName)) ∈ lw_all := lw_g (lw_at lw_m3 149 rfl) rfl
theorem q658 : (Jvm.Cond.codeWith ({ cls := "LazyPagesLaw", name := "putAll", desc := "(LLazyPages;IIJJI[J)I" } : Jvm.MethodName) method_8_code (10 : Nat) (Option.some Jvm.ClassFile.FieldType.int) [((0 : Nat), (16 : Nat), (19 : Nat), (26 : Nat))]) ∈ lw_all := lw_g (lw_at lw_m3 150 rfl) rfl
theorem q659 : (Jvm.Cond.methodLink "LazyPagesLaw" (32 : Nat) ({ cls := "LazyPages", name := "putAll", desc := "(IIJJI)I" } : Jvm.MethodName)) ∈ lw_all := lw_g (lw_at lw_m3 151 rfl) rfl
theorem q671 : (Jvm.Cond.methodLink "LazyPagesLaw" (109 : Nat) ({ cls := "LazyPagesLaw", name := "has", desc := "(LLazyPages;II[J)I" } : Jvm.MethodName)) ∈ lw_all := lw_g (lw_at lw_m3 163 rfl) rfl
theorem q672 : (Jvm.Cond.static ({ cls := "LazyPagesLaw", name := "has", desc := "(LLazyPages;II[J)I" } : Jvm.MethodName)) ∈ lw_all := lw_g (lw_at lw_m3 164 rfl) rfl
theorem q673 : (Jvm.Cond.codeWith ({ cls := "LazyPagesLaw", name := "has", desc := "(LLazyPages;II[J)I" } : Jvm.MethodName) method_9_code (5 : Nat) (Option.some Jvm.ClassFile.FieldType.int) [((0 : Nat), (17 : Nat), (20 : Nat), (40 : Nat))]) ∈ lw_all := lw_g (lw_at lw_m3 165 rfl) rfl
theorem q674 : (Jvm.Cond.classLink "LazyPagesLaw" (40 : Nat) "java/lang/IndexOutOfBoundsException") ∈ lw_all := lw_g (lw_at lw_m3 166 rfl) rfl
theorem q698 : (Jvm.Cond.methodLink "LazyPagesLaw" (36 : Nat) ({ cls := "LazyPages", name := "has", desc := "(II)Z" } : Jvm.MethodName)) ∈ lw_all := lw_g (lw_at lw_m3 190 rfl) rfl
theorem q722 : (Jvm.Cond.methodLink "LazyPagesLaw" (112 : Nat) ({ cls := "LazyPagesLaw", name := "get", desc := "(LLazyPages;II[J)I" } : Jvm.MethodName)) ∈ lw_all := lw_g (lw_at lw_m3 214 rfl) rfl
theorem q723 : (Jvm.Cond.static ({ cls := "LazyPagesLaw", name := "get", desc := "(LLazyPages;II[J)I" } : Jvm.MethodName)) ∈ lw_all := lw_g (lw_at lw_m3 215 rfl) rfl
theorem q724 : (Jvm.Cond.codeWith ({ cls := "LazyPagesLaw", name := "get", desc := "(LLazyPages;II[J)I" } : Jvm.MethodName) method_10_code (5 : Nat) (Option.some Jvm.ClassFile.FieldType.int) [((0 : Nat), (9 : Nat), (12 : Nat), (40 : Nat))]) ∈ lw_all := lw_g (lw_at lw_m3 216 rfl) rfl
theorem q725 : (Jvm.Cond.methodLink "LazyPagesLaw" (42 : Nat) ({ cls := "LazyPages", name := "get", desc := "(II)J" } : Jvm.MethodName)) ∈ lw_all := lw_g (lw_at lw_m3 217 rfl) rfl
theorem q729 : (Jvm.Cond.methodLink "LazyPagesLaw" (115 : Nat) ({ cls := "LazyPagesLaw", name := "count", desc := "(LLazyPages;III[J)I" } : Jvm.MethodName)) ∈ lw_all := lw_g (lw_at lw_m3 221 rfl) rfl
theorem q730 : (Jvm.Cond.static ({ cls := "LazyPagesLaw", name := "count", desc := "(LLazyPages;III[J)I" } : Jvm.MethodName)) ∈ lw_all := lw_g (lw_at lw_m3 222 rfl) rfl
theorem q731 : (Jvm.Cond.codeWith ({ cls := "LazyPagesLaw", name := "count", desc := "(LLazyPages;III[J)I" } : Jvm.MethodName) method_11_code (6 : Nat) (Option.some Jvm.ClassFile.FieldType.int) [((0 : Nat), (12 : Nat), (15 : Nat), (40 : Nat)), ((0 : Nat), (12 : Nat), (19 : Nat), (26 : Nat))]) ∈ lw_all := lw_g (lw_at lw_m3 223 rfl) rfl
theorem q732 : (Jvm.Cond.methodLink "LazyPagesLaw" (46 : Nat) ({ cls := "LazyPages", name := "count", desc := "(III)I" } : Jvm.MethodName)) ∈ lw_all := lw_g (lw_at lw_m3 224 rfl) rfl
theorem q736 : (Jvm.Cond.methodLink "LazyPagesLaw" (119 : Nat) ({ cls := "LazyPagesLaw", name := "sum", desc := "(LLazyPages;III[J)I" } : Jvm.MethodName)) ∈ lw_all := lw_g (lw_at lw_m3 228 rfl) rfl
theorem q737 : (Jvm.Cond.static ({ cls := "LazyPagesLaw", name := "sum", desc := "(LLazyPages;III[J)I" } : Jvm.MethodName)) ∈ lw_all := lw_g (lw_at lw_m3 229 rfl) rfl
theorem q738 : (Jvm.Cond.codeWith ({ cls := "LazyPagesLaw", name := "sum", desc := "(LLazyPages;III[J)I" } : Jvm.MethodName) method_12_code (6 : Nat) (Option.some Jvm.ClassFile.FieldType.int) [((0 : Nat), (11 : Nat), (14 : Nat), (40 : Nat)), ((0 : Nat), (11 : Nat), (18 : Nat), (26 : Nat))]) ∈ lw_all := lw_g (lw_at lw_m3 230 rfl) rfl
theorem q739 : (Jvm.Cond.methodLink "LazyPagesLaw" (50 : Nat) ({ cls := "LazyPages", name := "sum", desc := "(III)J" } : Jvm.MethodName)) ∈ lw_all := lw_g (lw_at lw_m3 231 rfl) rfl
theorem q743 : (Jvm.Cond.methodLink "LazyPagesLaw" (122 : Nat) ({ cls := "LazyPagesLaw", name := "key", desc := "(LLazyPages;III[J)I" } : Jvm.MethodName)) ∈ lw_all := lw_g (lw_at lw_m3 235 rfl) rfl
theorem q744 : (Jvm.Cond.static ({ cls := "LazyPagesLaw", name := "key", desc := "(LLazyPages;III[J)I" } : Jvm.MethodName)) ∈ lw_all := lw_g (lw_at lw_m3 236 rfl) rfl
theorem q745 : (Jvm.Cond.codeWith ({ cls := "LazyPagesLaw", name := "key", desc := "(LLazyPages;III[J)I" } : Jvm.MethodName) method_13_code (6 : Nat) (Option.some Jvm.ClassFile.FieldType.int) [((0 : Nat), (12 : Nat), (15 : Nat), (40 : Nat)), ((0 : Nat), (12 : Nat), (19 : Nat), (26 : Nat))]) ∈ lw_all := lw_g (lw_at lw_m3 237 rfl) rfl
theorem q746 : (Jvm.Cond.methodLink "LazyPagesLaw" (54 : Nat) ({ cls := "LazyPages", name := "key", desc := "(III)I" } : Jvm.MethodName)) ∈ lw_all := lw_g (lw_at lw_m3 238 rfl) rfl
theorem q750 : (Jvm.Cond.methodLink "LazyPagesLaw" (125 : Nat) ({ cls := "LazyPagesLaw", name := "save", desc := "(LLazyPages;I)I" } : Jvm.MethodName)) ∈ lw_all := lw_g (lw_at lw_m4 2 rfl) rfl
theorem q751 : (Jvm.Cond.static ({ cls := "LazyPagesLaw", name := "save", desc := "(LLazyPages;I)I" } : Jvm.MethodName)) ∈ lw_all := lw_g (lw_at lw_m4 3 rfl) rfl
theorem q752 : (Jvm.Cond.codeWith ({ cls := "LazyPagesLaw", name := "save", desc := "(LLazyPages;I)I" } : Jvm.MethodName) method_14_code (3 : Nat) (Option.some Jvm.ClassFile.FieldType.int) [((0 : Nat), (5 : Nat), (8 : Nat), (40 : Nat))]) ∈ lw_all := lw_g (lw_at lw_m4 4 rfl) rfl
theorem q753 : (Jvm.Cond.methodLink "LazyPagesLaw" (57 : Nat) ({ cls := "LazyPages", name := "save", desc := "(I)V" } : Jvm.MethodName)) ∈ lw_all := lw_g (lw_at lw_m4 5 rfl) rfl
theorem q757 : (Jvm.Cond.methodLink "LazyPagesLaw" (129 : Nat) ({ cls := "LazyPagesLaw", name := "drop", desc := "(LLazyPages;I[J)I" } : Jvm.MethodName)) ∈ lw_all := lw_g (lw_at lw_m4 9 rfl) rfl
theorem q758 : (Jvm.Cond.static ({ cls := "LazyPagesLaw", name := "drop", desc := "(LLazyPages;I[J)I" } : Jvm.MethodName)) ∈ lw_all := lw_g (lw_at lw_m4 10 rfl) rfl
theorem q759 : (Jvm.Cond.codeWith ({ cls := "LazyPagesLaw", name := "drop", desc := "(LLazyPages;I[J)I" } : Jvm.MethodName) method_15_code (4 : Nat) (Option.some Jvm.ClassFile.FieldType.int) [((0 : Nat), (16 : Nat), (19 : Nat), (40 : Nat))]) ∈ lw_all := lw_g (lw_at lw_m4 11 rfl) rfl
theorem q760 : (Jvm.Cond.methodLink "LazyPagesLaw" (61 : Nat) ({ cls := "LazyPages", name := "drop", desc := "(I)Z" } : Jvm.MethodName)) ∈ lw_all := lw_g (lw_at lw_m4 12 rfl) rfl
theorem q764 : (Jvm.Cond.methodLink "LazyPagesLaw" (133 : Nat) ({ cls := "LazyPagesLaw", name := "restore", desc := "(LLazyPages;I[J)I" } : Jvm.MethodName)) ∈ lw_all := lw_g (lw_at lw_m4 16 rfl) rfl
theorem q765 : (Jvm.Cond.static ({ cls := "LazyPagesLaw", name := "restore", desc := "(LLazyPages;I[J)I" } : Jvm.MethodName)) ∈ lw_all := lw_g (lw_at lw_m4 17 rfl) rfl
theorem q766 : (Jvm.Cond.codeWith ({ cls := "LazyPagesLaw", name := "restore", desc := "(LLazyPages;I[J)I" } : Jvm.MethodName) method_16_code (4 : Nat) (Option.some Jvm.ClassFile.FieldType.int) [((0 : Nat), (9 : Nat), (12 : Nat), (40 : Nat)), ((0 : Nat), (9 : Nat), (15 : Nat), (13 : Nat))]) ∈ lw_all := lw_g (lw_at lw_m4 18 rfl) rfl
theorem q767 : (Jvm.Cond.methodLink "LazyPagesLaw" (65 : Nat) ({ cls := "LazyPages", name := "restore", desc := "(I)I" } : Jvm.MethodName)) ∈ lw_all := lw_g (lw_at lw_m4 19 rfl) rfl
theorem q771 : (Jvm.Cond.methodLink "LazyPagesLaw" (136 : Nat) ({ cls := "LazyPagesLaw", name := "differ", desc := "(LLazyPages;II[J)I" } : Jvm.MethodName)) ∈ lw_all := lw_g (lw_at lw_m4 23 rfl) rfl
theorem q772 : (Jvm.Cond.static ({ cls := "LazyPagesLaw", name := "differ", desc := "(LLazyPages;II[J)I" } : Jvm.MethodName)) ∈ lw_all := lw_g (lw_at lw_m4 24 rfl) rfl
theorem q773 : (Jvm.Cond.codeWith ({ cls := "LazyPagesLaw", name := "differ", desc := "(LLazyPages;II[J)I" } : Jvm.MethodName) method_17_code (5 : Nat) (Option.some Jvm.ClassFile.FieldType.int) [((0 : Nat), (10 : Nat), (13 : Nat), (40 : Nat))]) ∈ lw_all := lw_g (lw_at lw_m4 25 rfl) rfl
theorem q774 : (Jvm.Cond.methodLink "LazyPagesLaw" (69 : Nat) ({ cls := "LazyPages", name := "differ", desc := "(II)I" } : Jvm.MethodName)) ∈ lw_all := lw_g (lw_at lw_m4 26 rfl) rfl
theorem q778 : (Jvm.Cond.methodLink "LazyPagesLaw" (155 : Nat) ({ cls := "LazyPagesLaw", name := "total", desc := "(LLazyPages;I[J)I" } : Jvm.MethodName)) ∈ lw_all := lw_g (lw_at lw_m4 30 rfl) rfl
theorem q779 : (Jvm.Cond.static ({ cls := "LazyPagesLaw", name := "total", desc := "(LLazyPages;I[J)I" } : Jvm.MethodName)) ∈ lw_all := lw_g (lw_at lw_m4 31 rfl) rfl
theorem q780 : (Jvm.Cond.codeWith ({ cls := "LazyPagesLaw", name := "total", desc := "(LLazyPages;I[J)I" } : Jvm.MethodName) method_18_code (4 : Nat) (Option.some Jvm.ClassFile.FieldType.int) [((0 : Nat), (9 : Nat), (12 : Nat), (26 : Nat))]) ∈ lw_all := lw_g (lw_at lw_m4 32 rfl) rfl
theorem q781 : (Jvm.Cond.methodLink "LazyPagesLaw" (72 : Nat) ({ cls := "LazyPages", name := "total", desc := "(I)I" } : Jvm.MethodName)) ∈ lw_all := lw_g (lw_at lw_m4 33 rfl) rfl
theorem q785 : (Jvm.Cond.classLink "LazyPagesLaw" (76 : Nat) "LazyPagesModel") ∈ lw_all := lw_g (lw_at lw_m4 37 rfl) rfl
theorem q787 : (Jvm.Cond.methodLink "LazyPagesLaw" (78 : Nat) ({ cls := "LazyPagesModel", name := "<init>", desc := "()V" } : Jvm.MethodName)) ∈ lw_all := lw_g (lw_at lw_m4 39 rfl) rfl
theorem q826 : (Jvm.Cond.methodLink "LazyPagesLaw" (87 : Nat) ({ cls := "LazyPagesModel", name := "thrown", desc := "()I" } : Jvm.MethodName)) ∈ lw_all := lw_g (lw_at lw_m4 78 rfl) rfl
theorem q830 : (Jvm.Cond.methodLink "LazyPagesLaw" (86 : Nat) ({ cls := "LazyPagesModel", name := "put", desc := "(IJ)I" } : Jvm.MethodName)) ∈ lw_all := lw_g (lw_at lw_m4 82 rfl) rfl
theorem q870 : (Jvm.Cond.methodLink "LazyPagesLaw" (93 : Nat) ({ cls := "LazyPagesModel", name := "add", desc := "(IJ)J" } : Jvm.MethodName)) ∈ lw_all := lw_g (lw_at lw_m4 122 rfl) rfl
theorem q874 : (Jvm.Cond.methodLink "LazyPagesLaw" (96 : Nat) ({ cls := "LazyPagesModel", name := "most", desc := "(IJ)J" } : Jvm.MethodName)) ∈ lw_all := lw_g (lw_at lw_m4 126 rfl) rfl
theorem q878 : (Jvm.Cond.methodLink "LazyPagesLaw" (100 : Nat) ({ cls := "LazyPagesModel", name := "delete", desc := "(II)I" } : Jvm.MethodName)) ∈ lw_all := lw_g (lw_at lw_m4 130 rfl) rfl
theorem q882 : (Jvm.Cond.methodLink "LazyPagesLaw" (104 : Nat) ({ cls := "LazyPagesModel", name := "raise", desc := "(IIJ)I" } : Jvm.MethodName)) ∈ lw_all := lw_g (lw_at lw_m4 134 rfl) rfl
theorem q886 : (Jvm.Cond.methodLink "LazyPagesLaw" (108 : Nat) ({ cls := "LazyPagesModel", name := "putAll", desc := "(IIJJI)I" } : Jvm.MethodName)) ∈ lw_all := lw_g (lw_at lw_m4 138 rfl) rfl
theorem q890 : (Jvm.Cond.methodLink "LazyPagesLaw" (111 : Nat) ({ cls := "LazyPagesModel", name := "has", desc := "(II)Z" } : Jvm.MethodName)) ∈ lw_all := lw_g (lw_at lw_m4 142 rfl) rfl
theorem q898 : (Jvm.Cond.methodLink "LazyPagesLaw" (114 : Nat) ({ cls := "LazyPagesModel", name := "get", desc := "(II)J" } : Jvm.MethodName)) ∈ lw_all := lw_g (lw_at lw_m4 150 rfl) rfl
theorem q902 : (Jvm.Cond.methodLink "LazyPagesLaw" (118 : Nat) ({ cls := "LazyPagesModel", name := "count", desc := "(III)I" } : Jvm.MethodName)) ∈ lw_all := lw_g (lw_at lw_m4 154 rfl) rfl
theorem q906 : (Jvm.Cond.methodLink "LazyPagesLaw" (121 : Nat) ({ cls := "LazyPagesModel", name := "sum", desc := "(III)J" } : Jvm.MethodName)) ∈ lw_all := lw_g (lw_at lw_m4 158 rfl) rfl
theorem q910 : (Jvm.Cond.methodLink "LazyPagesLaw" (124 : Nat) ({ cls := "LazyPagesModel", name := "key", desc := "(III)I" } : Jvm.MethodName)) ∈ lw_all := lw_g (lw_at lw_m4 162 rfl) rfl
theorem q914 : (Jvm.Cond.methodLink "LazyPagesLaw" (128 : Nat) ({ cls := "LazyPagesModel", name := "save", desc := "(I)V" } : Jvm.MethodName)) ∈ lw_all := lw_g (lw_at lw_m4 166 rfl) rfl
theorem q921 : (Jvm.Cond.methodLink "LazyPagesLaw" (132 : Nat) ({ cls := "LazyPagesModel", name := "drop", desc := "(I)Z" } : Jvm.MethodName)) ∈ lw_all := lw_g (lw_at lw_m4 173 rfl) rfl
theorem q925 : (Jvm.Cond.methodLink "LazyPagesLaw" (135 : Nat) ({ cls := "LazyPagesModel", name := "restore", desc := "(I)I" } : Jvm.MethodName)) ∈ lw_all := lw_g (lw_at lw_m4 177 rfl) rfl
theorem q931 : (Jvm.Cond.methodLink "LazyPagesLaw" (138 : Nat) ({ cls := "LazyPagesModel", name := "differ", desc := "(II)I" } : Jvm.MethodName)) ∈ lw_all := lw_g (lw_at lw_m4 183 rfl) rfl
theorem q935 : (Jvm.Cond.methodLink "LazyPagesLaw" (142 : Nat) ({ cls := "LazyPagesModel", name := "settle", desc := "()V" } : Jvm.MethodName)) ∈ lw_all := lw_g (lw_at lw_m4 187 rfl) rfl
theorem q939 : (Jvm.Cond.methodLink "LazyPagesLaw" (146 : Nat) ({ cls := "LazyPagesModel", name := "sync", desc := "()I" } : Jvm.MethodName)) ∈ lw_all := lw_g (lw_at lw_m4 191 rfl) rfl
theorem q943 : (Jvm.Cond.methodLink "LazyPagesLaw" (150 : Nat) ({ cls := "LazyPagesModel", name := "checkpoint", desc := "()I" } : Jvm.MethodName)) ∈ lw_all := lw_g (lw_at lw_m4 195 rfl) rfl
theorem q948 : (Jvm.Cond.methodLink "LazyPagesLaw" (154 : Nat) ({ cls := "LazyPagesModel", name := "crash", desc := "()I" } : Jvm.MethodName)) ∈ lw_all := lw_g (lw_at lw_m4 200 rfl) rfl
theorem q952 : (Jvm.Cond.methodLink "LazyPagesLaw" (157 : Nat) ({ cls := "LazyPagesModel", name := "total", desc := "(I)I" } : Jvm.MethodName)) ∈ lw_all := lw_g (lw_at lw_m4 204 rfl) rfl
theorem q956 : (Jvm.Cond.methodLink "LazyPagesLaw" (162 : Nat) ({ cls := "LazyPagesModel", name := "isSound", desc := "()Z" } : Jvm.MethodName)) ∈ lw_all := lw_g (lw_at lw_m4 208 rfl) rfl
theorem q960 : (Jvm.Cond.constantLong "LazyPagesLaw" (79 : Nat) (4294967295 : Int64)) ∈ lw_all := lw_g (lw_at lw_m4 212 rfl) rfl
def RX1 : String := "LazyPages"
def TX1 : u_T := fun k => match k with
  | 0 => ("LazyPages", "root", "LLazyPages$Page;", false)
  | 1 => ("LazyPages", "owner", "I", false)
  | 2 => ("LazyPages", "live", "I", false)
  | 3 => ("LazyPages", "pair", "LLazyPages$Pair;", true)
  | 4 => ("LazyPages", "views", "[LLazyPages$Page;", true)
  | 5 => ("LazyPages", "accepted", "I", false)
  | 6 => ("LazyPages", "kept", "I", false)
  | 7 => ("LazyPages", "base", "LLazyPages$Page;", false)
  | 8 => ("LazyPages", "work", "LLazyPages$Work;", true)
  | 9 => ("LazyPages", "puts", "LLazyPages$Letters;", true)
  | 10 => ("LazyPages", "answer", "LLazyPages$Row;", true)
  | _ => ("LazyPages", "other", "LLazyPages$Row;", true)
def tyX1 : Nat → FieldType := fun k => match k with
  | 0 => .object "LazyPages$Page"
  | 1 => .int
  | 2 => .int
  | 3 => .object "LazyPages$Pair"
  | 4 => .array (.object "LazyPages$Page")
  | 5 => .int
  | 6 => .int
  | 7 => .object "LazyPages$Page"
  | 8 => .object "LazyPages$Work"
  | 9 => .object "LazyPages$Letters"
  | 10 => .object "LazyPages$Row"
  | _ => .object "LazyPages$Row"
abbrev wsX10 : List Cond := u_ws RX1 TX1 12
theorem nmX1 : ∀ a, a < 12 → ∀ b, b < 12 → a ≠ b → (TX1 a).2.1 ≠ (TX1 b).2.1 := by decide +kernel
theorem tyX1_ok : ∀ k, k < 12 → parseFieldDescriptor (TX1 k).2.2.1 = some (tyX1 k) := by decide +kernel
abbrev cX1_init : ByteArray := prog_1_method_1_code
def yX1_init : MethodName := ⟨RX1, "<init>", "()V"⟩
abbrev cX1_settle : ByteArray := prog_1_method_31_code
def yX1_settle : MethodName := ⟨RX1, "settle", "()V"⟩
abbrev cX1_plant : ByteArray := prog_1_method_7_code
def yX1_plant : MethodName := ⟨RX1, "plant", "(LLazyPages$Pages;)V"⟩
abbrev cX1_sync : ByteArray := prog_1_method_32_code
def yX1_sync : MethodName := ⟨RX1, "sync", "()I"⟩
abbrev cX1_checkpoint : ByteArray := prog_1_method_33_code
def yX1_checkpoint : MethodName := ⟨RX1, "checkpoint", "()I"⟩
abbrev cX1_crash : ByteArray := prog_1_method_34_code
def yX1_crash : MethodName := ⟨RX1, "crash", "()I"⟩
abbrev cX1_row : ByteArray := prog_1_method_6_code
def yX1_row : MethodName := ⟨RX1, "row", "(LLazyPages$Page;II)LLazyPages$Row;"⟩
abbrev cX1_fill : ByteArray := prog_1_method_5_code
def yX1_fill : MethodName := ⟨RX1, "fill", "(LLazyPages$Row;LLazyPages$Page;II)LLazyPages$Row;"⟩
abbrev cX1_isSound : ByteArray := prog_1_method_36_code
def yX1_isSound : MethodName := ⟨RX1, "isSound", "()Z"⟩
abbrev cX1_put : ByteArray := prog_1_method_13_code
def yX1_put : MethodName := ⟨RX1, "put", "(IJ)I"⟩
abbrev cX1_isRoom : ByteArray := prog_1_method_11_code
def yX1_isRoom : MethodName := ⟨RX1, "isRoom", "(I)Z"⟩
abbrev cX1_read : ByteArray := prog_1_method_10_code
def yX1_read : MethodName := ⟨RX1, "read", "(LLazyPages$Page;I)LLazyPages$Pair;"⟩
abbrev cX1_room : ByteArray := prog_1_method_4_code
def yX1_room : MethodName := ⟨RX1, "room", "(Z)V"⟩
abbrev cX1_single : ByteArray := prog_1_method_12_code
def yX1_single : MethodName := ⟨RX1, "single", "(IIJ)J"⟩
abbrev cX1_accept : ByteArray := prog_1_method_9_code
def yX1_accept : MethodName := ⟨RX1, "accept", "(IIIJ)V"⟩
abbrev cX1_send : ByteArray := prog_1_method_8_code
def yX1_send : MethodName := ⟨RX1, "send", "(LLazyPages$Message;)V"⟩
abbrev cX1_add : ByteArray := prog_1_method_14_code
def yX1_add : MethodName := ⟨RX1, "add", "(IJ)J"⟩
abbrev cX1_most : ByteArray := prog_1_method_15_code
def yX1_most : MethodName := ⟨RX1, "most", "(IJ)J"⟩
abbrev cX1_delete : ByteArray := prog_1_method_16_code
def yX1_delete : MethodName := ⟨RX1, "delete", "(II)I"⟩
abbrev cX1_need : ByteArray := prog_1_method_2_code
def yX1_need : MethodName := ⟨RX1, "need", "(Z)V"⟩
abbrev cX1_raise : ByteArray := prog_1_method_17_code
def yX1_raise : MethodName := ⟨RX1, "raise", "(IIJ)I"⟩
abbrev cX1_putAll : ByteArray := prog_1_method_20_code
def yX1_putAll : MethodName := ⟨RX1, "putAll", "(IIJJI)I"⟩
abbrev cX1_isRoomBehind : ByteArray := prog_1_method_19_code
def yX1_isRoomBehind : MethodName := ⟨RX1, "isRoomBehind", "(LLazyPages$Letters;I)Z"⟩
abbrev cX1_isThere : ByteArray := prog_1_method_18_code
def yX1_isThere : MethodName := ⟨RX1, "isThere", "(LLazyPages$Letters;I)Z"⟩
abbrev cX1_has : ByteArray := prog_1_method_22_code
def yX1_has : MethodName := ⟨RX1, "has", "(II)Z"⟩
abbrev cX1_page : ByteArray := prog_1_method_21_code
def yX1_page : MethodName := ⟨RX1, "page", "(I)LLazyPages$Page;"⟩
abbrev cX1_there : ByteArray := prog_1_method_3_code
def yX1_there : MethodName := ⟨RX1, "there", "(Z)V"⟩
abbrev cX1_get : ByteArray := prog_1_method_23_code
def yX1_get : MethodName := ⟨RX1, "get", "(II)J"⟩
abbrev cX1_count : ByteArray := prog_1_method_24_code
def yX1_count : MethodName := ⟨RX1, "count", "(III)I"⟩
abbrev cX1_sum : ByteArray := prog_1_method_25_code
def yX1_sum : MethodName := ⟨RX1, "sum", "(III)J"⟩
abbrev cX1_key : ByteArray := prog_1_method_26_code
def yX1_key : MethodName := ⟨RX1, "key", "(III)I"⟩
abbrev cX1_save : ByteArray := prog_1_method_27_code
def yX1_save : MethodName := ⟨RX1, "save", "(I)V"⟩
abbrev cX1_drop : ByteArray := prog_1_method_28_code
def yX1_drop : MethodName := ⟨RX1, "drop", "(I)Z"⟩
abbrev cX1_restore : ByteArray := prog_1_method_29_code
def yX1_restore : MethodName := ⟨RX1, "restore", "(I)I"⟩
abbrev cX1_differ : ByteArray := prog_1_method_30_code
def yX1_differ : MethodName := ⟨RX1, "differ", "(II)I"⟩
abbrev cX1_total : ByteArray := prog_1_method_35_code
def yX1_total : MethodName := ⟨RX1, "total", "(I)I"⟩
theorem q29 : (Jvm.Cond.initialized "LazyPages") ∈ lw_all := lw_g (lw_at lw_m1 1 rfl) rfl
theorem q50 : (Jvm.Cond.instantiable "LazyPages" (12 : Nat)) ∈ lw_all := lw_g (lw_at lw_m1 22 rfl) rfl
theorem q52 : (Jvm.Cond.instanceMethod ({ cls := "LazyPages", name := "<init>", desc := "()V" } : Jvm.MethodName)) ∈ lw_all := lw_g (lw_at lw_m1 24 rfl) rfl
theorem q53 : (Jvm.Cond.code ({ cls := "LazyPages", name := "<init>", desc := "()V" } : Jvm.MethodName) prog_1_method_1_code (1 : Nat) (Option.none : Option Jvm.ClassFile.FieldType)) ∈ lw_all := lw_g (lw_at lw_m1 25 rfl) rfl
theorem q54 : (Jvm.Cond.methodLink "LazyPages" (3 : Nat) ({ cls := "java/lang/Object", name := "<init>", desc := "()V" } : Jvm.MethodName)) ∈ lw_all := lw_g (lw_at lw_m1 26 rfl) rfl
theorem q57 : (Jvm.Cond.classLink "LazyPages" (9 : Nat) "LazyPages$Leaf") ∈ lw_all := lw_g (lw_at lw_m1 29 rfl) rfl
theorem q59 : (Jvm.Cond.classLink "LazyPages" (11 : Nat) "LazyPages$Row") ∈ lw_all := lw_g (lw_at lw_m1 31 rfl) rfl
theorem q61 : (Jvm.Cond.methodLinkNest "LazyPages" (13 : Nat) ({ cls := "LazyPages$Row", name := "<init>", desc := "()V" } : Jvm.MethodName) "LazyPages") ∈ lw_tbl := lw_at lw_m1 33 rfl
theorem q68 : (Jvm.Cond.fieldLink "LazyPages" (200 : Nat) "LazyPages$Row" "keys" "[I") ∈ lw_all := lw_g (lw_at lw_m1 40 rfl) rfl
theorem q72 : (Jvm.Cond.fieldLink "LazyPages" (196 : Nat) "LazyPages$Row" "values" "[J") ∈ lw_all := lw_g (lw_at lw_m1 44 rfl) rfl
theorem q76 : (Jvm.Cond.fieldLink "LazyPages" (77 : Nat) "LazyPages$Row" "many" "I") ∈ lw_all := lw_g (lw_at lw_m1 48 rfl) rfl
theorem q87 : (Jvm.Cond.methodLink "LazyPages" (14 : Nat) ({ cls := "LazyPages$Leaf", name := "<init>", desc := "(ILLazyPages$Row;)V" } : Jvm.MethodName)) ∈ lw_all := lw_g (lw_at lw_m1 59 rfl) rfl
theorem q105 : (Jvm.Cond.classLink "LazyPages" (23 : Nat) "LazyPages$Pair") ∈ lw_all := lw_g (lw_at lw_m1 77 rfl) rfl
theorem q107 : (Jvm.Cond.methodLinkNest "LazyPages" (25 : Nat) ({ cls := "LazyPages$Pair", name := "<init>", desc := "()V" } : Jvm.MethodName) "LazyPages") ∈ lw_tbl := lw_at lw_m1 79 rfl
theorem q113 : (Jvm.Cond.fieldLink "LazyPages" (147 : Nat) "LazyPages$Pair" "there" "Z") ∈ lw_all := lw_g (lw_at lw_m1 85 rfl) rfl
theorem q116 : (Jvm.Cond.fieldLink "LazyPages" (154 : Nat) "LazyPages$Pair" "value" "J") ∈ lw_all := lw_g (lw_at lw_m1 88 rfl) rfl
theorem q122 : (Jvm.Cond.classLink "LazyPages" (30 : Nat) "LazyPages$Page") ∈ lw_all := lw_g (lw_at lw_m1 94 rfl) rfl
theorem q124 : (Jvm.Cond.classLink "LazyPages" (39 : Nat) "LazyPages$Work") ∈ lw_all := lw_g (lw_at lw_m1 96 rfl) rfl
theorem q126 : (Jvm.Cond.methodLinkNest "LazyPages" (41 : Nat) ({ cls := "LazyPages$Work", name := "<init>", desc := "()V" } : Jvm.MethodName) "LazyPages") ∈ lw_tbl := lw_at lw_m1 98 rfl
theorem q149 : (Jvm.Cond.classLink "LazyPages" (46 : Nat) "LazyPages$Letters") ∈ lw_all := lw_g (lw_at lw_m1 121 rfl) rfl
theorem q151 : (Jvm.Cond.methodLinkNest "LazyPages" (48 : Nat) ({ cls := "LazyPages$Letters", name := "<init>", desc := "()V" } : Jvm.MethodName) "LazyPages") ∈ lw_tbl := lw_at lw_m1 123 rfl
theorem q160 : (Jvm.Cond.fieldLink "LazyPages" (177 : Nat) "LazyPages$Letters" "row" "[LLazyPages$Message;") ∈ lw_all := lw_g (lw_at lw_m1 132 rfl) rfl
theorem q165 : (Jvm.Cond.fieldLink "LazyPages" (112 : Nat) "LazyPages$Letters" "many" "I") ∈ lw_all := lw_g (lw_at lw_m1 137 rfl) rfl
theorem q171 : (Jvm.Cond.fieldLink "LazyPages" (17 : Nat) "LazyPages" "root" "LLazyPages$Page;") ∈ lw_all := lw_g (lw_at lw_m1 143 rfl) rfl
theorem q172 : (Jvm.Cond.fieldLink "LazyPages" (106 : Nat) "LazyPages" "owner" "I") ∈ lw_all := lw_g (lw_at lw_m1 144 rfl) rfl
theorem q173 : (Jvm.Cond.fieldLink "LazyPages" (141 : Nat) "LazyPages" "live" "I") ∈ lw_all := lw_g (lw_at lw_m1 145 rfl) rfl
theorem q174 : (Jvm.Cond.fieldLink "LazyPages" (26 : Nat) "LazyPages" "pair" "LLazyPages$Pair;") ∈ lw_all := lw_g (lw_at lw_m1 146 rfl) rfl
theorem q175 : (Jvm.Cond.fieldLink "LazyPages" (32 : Nat) "LazyPages" "views" "[LLazyPages$Page;") ∈ lw_all := lw_g (lw_at lw_m1 147 rfl) rfl
theorem q176 : (Jvm.Cond.fieldLink "LazyPages" (126 : Nat) "LazyPages" "accepted" "I") ∈ lw_all := lw_g (lw_at lw_m1 148 rfl) rfl
theorem q177 : (Jvm.Cond.fieldLink "LazyPages" (207 : Nat) "LazyPages" "kept" "I") ∈ lw_all := lw_g (lw_at lw_m1 149 rfl) rfl
theorem q178 : (Jvm.Cond.fieldLink "LazyPages" (36 : Nat) "LazyPages" "base" "LLazyPages$Page;") ∈ lw_all := lw_g (lw_at lw_m1 150 rfl) rfl
theorem q179 : (Jvm.Cond.fieldLink "LazyPages" (42 : Nat) "LazyPages" "work" "LLazyPages$Work;") ∈ lw_all := lw_g (lw_at lw_m1 151 rfl) rfl
theorem q180 : (Jvm.Cond.fieldLink "LazyPages" (49 : Nat) "LazyPages" "puts" "LLazyPages$Letters;") ∈ lw_all := lw_g (lw_at lw_m1 152 rfl) rfl
theorem q181 : (Jvm.Cond.fieldLink "LazyPages" (53 : Nat) "LazyPages" "answer" "LLazyPages$Row;") ∈ lw_all := lw_g (lw_at lw_m1 153 rfl) rfl
theorem q182 : (Jvm.Cond.fieldLink "LazyPages" (57 : Nat) "LazyPages" "other" "LLazyPages$Row;") ∈ lw_all := lw_g (lw_at lw_m1 154 rfl) rfl
theorem q183 : (Jvm.Cond.lays "LazyPages" "LazyPages" "root" "LLazyPages$Page;") ∈ lw_all := lw_g (lw_at lw_m1 155 rfl) rfl
theorem q184 : (Jvm.Cond.soleField "LazyPages" "root") ∈ lw_all := lw_g (lw_at lw_m1 156 rfl) rfl
theorem q185 : (Jvm.Cond.lays "LazyPages" "LazyPages" "owner" "I") ∈ lw_all := lw_g (lw_at lw_m1 157 rfl) rfl
theorem q186 : (Jvm.Cond.soleField "LazyPages" "owner") ∈ lw_all := lw_g (lw_at lw_m1 158 rfl) rfl
theorem q187 : (Jvm.Cond.lays "LazyPages" "LazyPages" "live" "I") ∈ lw_all := lw_g (lw_at lw_m1 159 rfl) rfl
theorem q188 : (Jvm.Cond.soleField "LazyPages" "live") ∈ lw_all := lw_g (lw_at lw_m1 160 rfl) rfl
theorem q189 : (Jvm.Cond.laysFinal "LazyPages" "LazyPages" "pair" "LLazyPages$Pair;") ∈ lw_all := lw_g (lw_at lw_m1 161 rfl) rfl
theorem q190 : (Jvm.Cond.soleField "LazyPages" "pair") ∈ lw_all := lw_g (lw_at lw_m1 162 rfl) rfl
theorem q191 : (Jvm.Cond.laysFinal "LazyPages" "LazyPages" "views" "[LLazyPages$Page;") ∈ lw_all := lw_g (lw_at lw_m1 163 rfl) rfl
theorem q192 : (Jvm.Cond.soleField "LazyPages" "views") ∈ lw_all := lw_g (lw_at lw_m1 164 rfl) rfl
theorem q193 : (Jvm.Cond.lays "LazyPages" "LazyPages" "accepted" "I") ∈ lw_all := lw_g (lw_at lw_m1 165 rfl) rfl
theorem q194 : (Jvm.Cond.soleField "LazyPages" "accepted") ∈ lw_all := lw_g (lw_at lw_m1 166 rfl) rfl
theorem q195 : (Jvm.Cond.lays "LazyPages" "LazyPages" "kept" "I") ∈ lw_all := lw_g (lw_at lw_m1 167 rfl) rfl
theorem q196 : (Jvm.Cond.soleField "LazyPages" "kept") ∈ lw_all := lw_g (lw_at lw_m1 168 rfl) rfl
theorem q197 : (Jvm.Cond.lays "LazyPages" "LazyPages" "base" "LLazyPages$Page;") ∈ lw_all := lw_g (lw_at lw_m1 169 rfl) rfl
theorem q198 : (Jvm.Cond.soleField "LazyPages" "base") ∈ lw_all := lw_g (lw_at lw_m1 170 rfl) rfl
theorem q199 : (Jvm.Cond.laysFinal "LazyPages" "LazyPages" "work" "LLazyPages$Work;") ∈ lw_all := lw_g (lw_at lw_m1 171 rfl) rfl
theorem q200 : (Jvm.Cond.soleField "LazyPages" "work") ∈ lw_all := lw_g (lw_at lw_m1 172 rfl) rfl
theorem q201 : (Jvm.Cond.laysFinal "LazyPages" "LazyPages" "puts" "LLazyPages$Letters;") ∈ lw_all := lw_g (lw_at lw_m1 173 rfl) rfl
theorem q202 : (Jvm.Cond.soleField "LazyPages" "puts") ∈ lw_all := lw_g (lw_at lw_m1 174 rfl) rfl
theorem q203 : (Jvm.Cond.laysFinal "LazyPages" "LazyPages" "answer" "LLazyPages$Row;") ∈ lw_all := lw_g (lw_at lw_m1 175 rfl) rfl
theorem q204 : (Jvm.Cond.soleField "LazyPages" "answer") ∈ lw_all := lw_g (lw_at lw_m1 176 rfl) rfl
theorem q205 : (Jvm.Cond.laysFinal "LazyPages" "LazyPages" "other" "LLazyPages$Row;") ∈ lw_all := lw_g (lw_at lw_m1 177 rfl) rfl
theorem q206 : (Jvm.Cond.soleField "LazyPages" "other") ∈ lw_all := lw_g (lw_at lw_m1 178 rfl) rfl
theorem q207 : (Jvm.Cond.superclass "LazyPages" "java/lang/Object") ∈ lw_all := lw_g (lw_at lw_m1 179 rfl) rfl
theorem q209 : (Jvm.Cond.instanceMethod ({ cls := "LazyPages", name := "settle", desc := "()V" } : Jvm.MethodName)) ∈ lw_all := lw_g (lw_at lw_m1 181 rfl) rfl
theorem q210 : (Jvm.Cond.selects "LazyPages" ({ cls := "LazyPages", name := "settle", desc := "()V" } : Jvm.MethodName) ({ cls := "LazyPages", name := "settle", desc := "()V" } : Jvm.MethodName)) ∈ lw_all := lw_g (lw_at lw_m1 182 rfl) rfl
theorem q211 : (Jvm.Cond.code ({ cls := "LazyPages", name := "settle", desc := "()V" } : Jvm.MethodName) prog_1_method_31_code (1 : Nat) (Option.none : Option Jvm.ClassFile.FieldType)) ∈ lw_all := lw_g (lw_at lw_m1 183 rfl) rfl
theorem q212 : (Jvm.Cond.constant "LazyPages" (116 : Nat) (-2147483648 : Int32)) ∈ lw_all := lw_g (lw_at lw_m1 184 rfl) rfl
theorem q213 : (Jvm.Cond.constant "LazyPages" (117 : Nat) (2147483647 : Int32)) ∈ lw_all := lw_g (lw_at lw_m1 185 rfl) rfl
theorem q214 : (Jvm.Cond.methodLink "LazyPages" (203 : Nat) ({ cls := "LazyPages$Page", name := "settle", desc := "(IIILLazyPages$Work;I)LLazyPages$Pages;" } : Jvm.MethodName)) ∈ lw_all := lw_g (lw_at lw_m1 186 rfl) rfl
theorem q243 : (Jvm.Cond.fieldLink "LazyPages" (93 : Nat) "LazyPages$Pages" "pages" "[LLazyPages$Page;") ∈ lw_all := lw_g (lw_at lw_m1 215 rfl) rfl
theorem q246 : (Jvm.Cond.fieldLink "LazyPages" (96 : Nat) "LazyPages$Pages" "lows" "[I") ∈ lw_all := lw_g (lw_at lw_m1 218 rfl) rfl
theorem q250 : (Jvm.Cond.fieldLink "LazyPages" (89 : Nat) "LazyPages$Pages" "many" "I") ∈ lw_all := lw_g (lw_at lw_m1 222 rfl) rfl
theorem q339 : (Jvm.Cond.fieldLink "LazyPages" (180 : Nat) "LazyPages$Message" "from" "I") ∈ lw_all := lw_g (lw_at lw_m2 71 rfl) rfl
theorem q424 : (Jvm.Cond.methodLink "LazyPages" (122 : Nat) ({ cls := "LazyPages", name := "plant", desc := "(LLazyPages$Pages;)V" } : Jvm.MethodName)) ∈ lw_all := lw_g (lw_at lw_m2 156 rfl) rfl
theorem q425 : (Jvm.Cond.privateMethod ({ cls := "LazyPages", name := "plant", desc := "(LLazyPages$Pages;)V" } : Jvm.MethodName)) ∈ lw_tbl := lw_at lw_m2 157 rfl
theorem q426 : (Jvm.Cond.instanceMethod ({ cls := "LazyPages", name := "plant", desc := "(LLazyPages$Pages;)V" } : Jvm.MethodName)) ∈ lw_all := lw_g (lw_at lw_m2 158 rfl) rfl
theorem q427 : (Jvm.Cond.code ({ cls := "LazyPages", name := "plant", desc := "(LLazyPages$Pages;)V" } : Jvm.MethodName) prog_1_method_7_code (7 : Nat) (Option.none : Option Jvm.ClassFile.FieldType)) ∈ lw_all := lw_g (lw_at lw_m2 159 rfl) rfl
theorem q428 : (Jvm.Cond.classLink "LazyPages" (90 : Nat) "LazyPages$Pages") ∈ lw_all := lw_g (lw_at lw_m2 160 rfl) rfl
theorem q429 : (Jvm.Cond.methodLinkNest "LazyPages" (92 : Nat) ({ cls := "LazyPages$Pages", name := "<init>", desc := "()V" } : Jvm.MethodName) "LazyPages") ∈ lw_tbl := lw_at lw_m2 161 rfl
theorem q430 : (Jvm.Cond.methodLink "LazyPages" (100 : Nat) ({ cls := "LazyPages$Pages", name := "add", desc := "(LLazyPages$Page;I)LLazyPages$Pages;" } : Jvm.MethodName)) ∈ lw_all := lw_g (lw_at lw_m2 162 rfl) rfl
theorem q431 : (Jvm.Cond.classLink "LazyPages" (104 : Nat) "LazyPages$Inner") ∈ lw_all := lw_g (lw_at lw_m2 163 rfl) rfl
theorem q432 : (Jvm.Cond.methodLink "LazyPages" (109 : Nat) ({ cls := "LazyPages$Inner", name := "<init>", desc := "(ILLazyPages$Pages;LLazyPages$Letters;)V" } : Jvm.MethodName)) ∈ lw_all := lw_g (lw_at lw_m2 164 rfl) rfl
theorem q434 : (Jvm.Cond.instanceMethod ({ cls := "LazyPages", name := "sync", desc := "()I" } : Jvm.MethodName)) ∈ lw_all := lw_g (lw_at lw_m2 166 rfl) rfl
theorem q435 : (Jvm.Cond.selects "LazyPages" ({ cls := "LazyPages", name := "sync", desc := "()I" } : Jvm.MethodName) ({ cls := "LazyPages", name := "sync", desc := "()I" } : Jvm.MethodName)) ∈ lw_all := lw_g (lw_at lw_m2 167 rfl) rfl
theorem q436 : (Jvm.Cond.code ({ cls := "LazyPages", name := "sync", desc := "()I" } : Jvm.MethodName) prog_1_method_32_code (2 : Nat) (Option.some Jvm.ClassFile.FieldType.int)) ∈ lw_all := lw_g (lw_at lw_m2 168 rfl) rfl
theorem q438 : (Jvm.Cond.instanceMethod ({ cls := "LazyPages", name := "checkpoint", desc := "()I" } : Jvm.MethodName)) ∈ lw_all := lw_g (lw_at lw_m2 170 rfl) rfl
theorem q439 : (Jvm.Cond.selects "LazyPages" ({ cls := "LazyPages", name := "checkpoint", desc := "()I" } : Jvm.MethodName) ({ cls := "LazyPages", name := "checkpoint", desc := "()I" } : Jvm.MethodName)) ∈ lw_all := lw_g (lw_at lw_m2 171 rfl) rfl
theorem q440 : (Jvm.Cond.code ({ cls := "LazyPages", name := "checkpoint", desc := "()I" } : Jvm.MethodName) prog_1_method_33_code (1 : Nat) (Option.some Jvm.ClassFile.FieldType.int)) ∈ lw_all := lw_g (lw_at lw_m2 172 rfl) rfl
theorem q441 : (Jvm.Cond.methodLink "LazyPages" (210 : Nat) ({ cls := "LazyPages", name := "settle", desc := "()V" } : Jvm.MethodName)) ∈ lw_all := lw_g (lw_at lw_m2 173 rfl) rfl
theorem q442 : (Jvm.Cond.methodLink "LazyPages" (212 : Nat) ({ cls := "LazyPages", name := "sync", desc := "()I" } : Jvm.MethodName)) ∈ lw_all := lw_g (lw_at lw_m2 174 rfl) rfl
theorem q444 : (Jvm.Cond.instanceMethod ({ cls := "LazyPages", name := "crash", desc := "()I" } : Jvm.MethodName)) ∈ lw_all := lw_g (lw_at lw_m2 176 rfl) rfl
theorem q445 : (Jvm.Cond.selects "LazyPages" ({ cls := "LazyPages", name := "crash", desc := "()I" } : Jvm.MethodName) ({ cls := "LazyPages", name := "crash", desc := "()I" } : Jvm.MethodName)) ∈ lw_all := lw_g (lw_at lw_m2 177 rfl) rfl
theorem q446 : (Jvm.Cond.code ({ cls := "LazyPages", name := "crash", desc := "()I" } : Jvm.MethodName) prog_1_method_34_code (3 : Nat) (Option.some Jvm.ClassFile.FieldType.int)) ∈ lw_all := lw_g (lw_at lw_m2 178 rfl) rfl
theorem q447 : (Jvm.Cond.methodLink "LazyPages" (173 : Nat) ({ cls := "LazyPages", name := "row", desc := "(LLazyPages$Page;II)LLazyPages$Row;" } : Jvm.MethodName)) ∈ lw_all := lw_g (lw_at lw_m2 179 rfl) rfl
theorem q448 : (Jvm.Cond.privateMethod ({ cls := "LazyPages", name := "row", desc := "(LLazyPages$Page;II)LLazyPages$Row;" } : Jvm.MethodName)) ∈ lw_tbl := lw_at lw_m2 180 rfl
theorem q449 : (Jvm.Cond.instanceMethod ({ cls := "LazyPages", name := "row", desc := "(LLazyPages$Page;II)LLazyPages$Row;" } : Jvm.MethodName)) ∈ lw_all := lw_g (lw_at lw_m2 181 rfl) rfl
theorem q450 : (Jvm.Cond.code ({ cls := "LazyPages", name := "row", desc := "(LLazyPages$Page;II)LLazyPages$Row;" } : Jvm.MethodName) prog_1_method_6_code (4 : Nat) (Option.some (Jvm.ClassFile.FieldType.object "LazyPages$Row"))) ∈ lw_all := lw_g (lw_at lw_m2 182 rfl) rfl
theorem q451 : (Jvm.Cond.methodLink "LazyPages" (85 : Nat) ({ cls := "LazyPages", name := "fill", desc := "(LLazyPages$Row;LLazyPages$Page;II)LLazyPages$Row;" } : Jvm.MethodName)) ∈ lw_all := lw_g (lw_at lw_m2 183 rfl) rfl
theorem q452 : (Jvm.Cond.privateMethod ({ cls := "LazyPages", name := "fill", desc := "(LLazyPages$Row;LLazyPages$Page;II)LLazyPages$Row;" } : Jvm.MethodName)) ∈ lw_tbl := lw_at lw_m2 184 rfl
theorem q453 : (Jvm.Cond.instanceMethod ({ cls := "LazyPages", name := "fill", desc := "(LLazyPages$Row;LLazyPages$Page;II)LLazyPages$Row;" } : Jvm.MethodName)) ∈ lw_all := lw_g (lw_at lw_m2 185 rfl) rfl
theorem q454 : (Jvm.Cond.code ({ cls := "LazyPages", name := "fill", desc := "(LLazyPages$Row;LLazyPages$Page;II)LLazyPages$Row;" } : Jvm.MethodName) prog_1_method_5_code (5 : Nat) (Option.some (Jvm.ClassFile.FieldType.object "LazyPages$Row"))) ∈ lw_all := lw_g (lw_at lw_m2 186 rfl) rfl
theorem q455 : (Jvm.Cond.methodLink "LazyPages" (81 : Nat) ({ cls := "LazyPages$Page", name := "collect", desc := "(IILLazyPages$Row;LLazyPages$Work;I)V" } : Jvm.MethodName)) ∈ lw_all := lw_g (lw_at lw_m2 187 rfl) rfl
theorem q476 : (Jvm.Cond.instanceMethod ({ cls := "LazyPages", name := "isSound", desc := "()Z" } : Jvm.MethodName)) ∈ lw_all := lw_g (lw_at lw_m2 208 rfl) rfl
theorem q477 : (Jvm.Cond.selects "LazyPages" ({ cls := "LazyPages", name := "isSound", desc := "()Z" } : Jvm.MethodName) ({ cls := "LazyPages", name := "isSound", desc := "()Z" } : Jvm.MethodName)) ∈ lw_all := lw_g (lw_at lw_m2 209 rfl) rfl
theorem q478 : (Jvm.Cond.code ({ cls := "LazyPages", name := "isSound", desc := "()Z" } : Jvm.MethodName) prog_1_method_36_code (1 : Nat) (Option.some Jvm.ClassFile.FieldType.boolean)) ∈ lw_all := lw_g (lw_at lw_m2 210 rfl) rfl
theorem q479 : (Jvm.Cond.methodLink "LazyPages" (216 : Nat) ({ cls := "LazyPages$Page", name := "isSound", desc := "(II)Z" } : Jvm.MethodName)) ∈ lw_all := lw_g (lw_at lw_m2 211 rfl) rfl
theorem q494 : (Jvm.Cond.instanceMethod ({ cls := "LazyPages", name := "put", desc := "(IJ)I" } : Jvm.MethodName)) ∈ lw_all := lw_g (lw_at lw_m2 226 rfl) rfl
theorem q495 : (Jvm.Cond.selects "LazyPages" ({ cls := "LazyPages", name := "put", desc := "(IJ)I" } : Jvm.MethodName) ({ cls := "LazyPages", name := "put", desc := "(IJ)I" } : Jvm.MethodName)) ∈ lw_all := lw_g (lw_at lw_m2 227 rfl) rfl
theorem q496 : (Jvm.Cond.code ({ cls := "LazyPages", name := "put", desc := "(IJ)I" } : Jvm.MethodName) prog_1_method_13_code (4 : Nat) (Option.some Jvm.ClassFile.FieldType.int)) ∈ lw_all := lw_g (lw_at lw_m2 228 rfl) rfl
theorem q497 : (Jvm.Cond.methodLink "LazyPages" (158 : Nat) ({ cls := "LazyPages", name := "isRoom", desc := "(I)Z" } : Jvm.MethodName)) ∈ lw_all := lw_g (lw_at lw_m2 229 rfl) rfl
theorem q498 : (Jvm.Cond.privateMethod ({ cls := "LazyPages", name := "isRoom", desc := "(I)Z" } : Jvm.MethodName)) ∈ lw_tbl := lw_at lw_m2 230 rfl
theorem q499 : (Jvm.Cond.instanceMethod ({ cls := "LazyPages", name := "isRoom", desc := "(I)Z" } : Jvm.MethodName)) ∈ lw_all := lw_g (lw_at lw_m2 231 rfl) rfl
theorem q500 : (Jvm.Cond.code ({ cls := "LazyPages", name := "isRoom", desc := "(I)Z" } : Jvm.MethodName) prog_1_method_11_code (2 : Nat) (Option.some Jvm.ClassFile.FieldType.boolean)) ∈ lw_all := lw_g (lw_at lw_m2 232 rfl) rfl
theorem q501 : (Jvm.Cond.methodLink "LazyPages" (144 : Nat) ({ cls := "LazyPages", name := "read", desc := "(LLazyPages$Page;I)LLazyPages$Pair;" } : Jvm.MethodName)) ∈ lw_all := lw_g (lw_at lw_m2 233 rfl) rfl
theorem q502 : (Jvm.Cond.privateMethod ({ cls := "LazyPages", name := "read", desc := "(LLazyPages$Page;I)LLazyPages$Pair;" } : Jvm.MethodName)) ∈ lw_tbl := lw_at lw_m2 234 rfl
theorem q503 : (Jvm.Cond.instanceMethod ({ cls := "LazyPages", name := "read", desc := "(LLazyPages$Page;I)LLazyPages$Pair;" } : Jvm.MethodName)) ∈ lw_all := lw_g (lw_at lw_m2 235 rfl) rfl
theorem q504 : (Jvm.Cond.code ({ cls := "LazyPages", name := "read", desc := "(LLazyPages$Page;I)LLazyPages$Pair;" } : Jvm.MethodName) prog_1_method_10_code (3 : Nat) (Option.some (Jvm.ClassFile.FieldType.object "LazyPages$Pair"))) ∈ lw_all := lw_g (lw_at lw_m2 236 rfl) rfl
theorem q505 : (Jvm.Cond.methodLink "LazyPages" (137 : Nat) ({ cls := "LazyPages$Page", name := "read", desc := "(ILLazyPages$Pair;)V" } : Jvm.MethodName)) ∈ lw_all := lw_g (lw_at lw_m2 237 rfl) rfl
theorem q520 : (Jvm.Cond.methodLink "LazyPages" (162 : Nat) ({ cls := "LazyPages", name := "room", desc := "(Z)V" } : Jvm.MethodName)) ∈ lw_all := lw_g (lw_at lw_m3 12 rfl) rfl
theorem q521 : (Jvm.Cond.static ({ cls := "LazyPages", name := "room", desc := "(Z)V" } : Jvm.MethodName)) ∈ lw_all := lw_g (lw_at lw_m3 13 rfl) rfl
theorem q522 : (Jvm.Cond.code ({ cls := "LazyPages", name := "room", desc := "(Z)V" } : Jvm.MethodName) prog_1_method_4_code (1 : Nat) (Option.none : Option Jvm.ClassFile.FieldType)) ∈ lw_all := lw_g (lw_at lw_m3 14 rfl) rfl
theorem q523 : (Jvm.Cond.classLink "LazyPages" (72 : Nat) "java/lang/UnsupportedOperationException") ∈ lw_all := lw_g (lw_at lw_m3 15 rfl) rfl
theorem q565 : (Jvm.Cond.stringRef "LazyPages" (74 : Nat) "too many") ∈ lw_tbl := lw_at lw_m3 57 rfl
theorem q566 : (Jvm.Cond.methodLink "LazyPages" (76 : Nat) ({ cls := "java/lang/UnsupportedOperationException", name := "<init>", desc := "(Ljava/lang/String;)V" } : Jvm.MethodName)) ∈ lw_all := lw_g (lw_at lw_m3 58 rfl) rfl
theorem q592 : (Jvm.Cond.methodLink "LazyPages" (166 : Nat) ({ cls := "LazyPages", name := "single", desc := "(IIJ)J" } : Jvm.MethodName)) ∈ lw_all := lw_g (lw_at lw_m3 84 rfl) rfl
theorem q593 : (Jvm.Cond.privateMethod ({ cls := "LazyPages", name := "single", desc := "(IIJ)J" } : Jvm.MethodName)) ∈ lw_tbl := lw_at lw_m3 85 rfl
theorem q594 : (Jvm.Cond.instanceMethod ({ cls := "LazyPages", name := "single", desc := "(IIJ)J" } : Jvm.MethodName)) ∈ lw_all := lw_g (lw_at lw_m3 86 rfl) rfl
theorem q595 : (Jvm.Cond.code ({ cls := "LazyPages", name := "single", desc := "(IIJ)J" } : Jvm.MethodName) prog_1_method_12_code (5 : Nat) (Option.some Jvm.ClassFile.FieldType.long)) ∈ lw_all := lw_g (lw_at lw_m3 87 rfl) rfl
theorem q596 : (Jvm.Cond.methodLink "LazyPages" (151 : Nat) ({ cls := "LazyPages", name := "accept", desc := "(IIIJ)V" } : Jvm.MethodName)) ∈ lw_all := lw_g (lw_at lw_m3 88 rfl) rfl
theorem q597 : (Jvm.Cond.privateMethod ({ cls := "LazyPages", name := "accept", desc := "(IIIJ)V" } : Jvm.MethodName)) ∈ lw_tbl := lw_at lw_m3 89 rfl
theorem q598 : (Jvm.Cond.instanceMethod ({ cls := "LazyPages", name := "accept", desc := "(IIIJ)V" } : Jvm.MethodName)) ∈ lw_all := lw_g (lw_at lw_m3 90 rfl) rfl
theorem q599 : (Jvm.Cond.code ({ cls := "LazyPages", name := "accept", desc := "(IIIJ)V" } : Jvm.MethodName) prog_1_method_9_code (6 : Nat) (Option.none : Option Jvm.ClassFile.FieldType)) ∈ lw_all := lw_g (lw_at lw_m3 91 rfl) rfl
theorem q600 : (Jvm.Cond.classLink "LazyPages" (129 : Nat) "LazyPages$Message") ∈ lw_all := lw_g (lw_at lw_m3 92 rfl) rfl
theorem q601 : (Jvm.Cond.methodLink "LazyPages" (131 : Nat) ({ cls := "LazyPages$Message", name := "<init>", desc := "(IIIJ)V" } : Jvm.MethodName)) ∈ lw_all := lw_g (lw_at lw_m3 93 rfl) rfl
theorem q602 : (Jvm.Cond.methodLink "LazyPages" (134 : Nat) ({ cls := "LazyPages", name := "send", desc := "(LLazyPages$Message;)V" } : Jvm.MethodName)) ∈ lw_all := lw_g (lw_at lw_m3 94 rfl) rfl
theorem q603 : (Jvm.Cond.privateMethod ({ cls := "LazyPages", name := "send", desc := "(LLazyPages$Message;)V" } : Jvm.MethodName)) ∈ lw_tbl := lw_at lw_m3 95 rfl
theorem q604 : (Jvm.Cond.instanceMethod ({ cls := "LazyPages", name := "send", desc := "(LLazyPages$Message;)V" } : Jvm.MethodName)) ∈ lw_all := lw_g (lw_at lw_m3 96 rfl) rfl
theorem q605 : (Jvm.Cond.code ({ cls := "LazyPages", name := "send", desc := "(LLazyPages$Message;)V" } : Jvm.MethodName) prog_1_method_8_code (2 : Nat) (Option.none : Option Jvm.ClassFile.FieldType)) ∈ lw_all := lw_g (lw_at lw_m3 97 rfl) rfl
theorem q606 : (Jvm.Cond.methodLink "LazyPages" (113 : Nat) ({ cls := "LazyPages$Letters", name := "add", desc := "(LLazyPages$Message;)V" } : Jvm.MethodName)) ∈ lw_all := lw_g (lw_at lw_m3 98 rfl) rfl
theorem q607 : (Jvm.Cond.methodLink "LazyPages" (118 : Nat) ({ cls := "LazyPages$Page", name := "take", desc := "(LLazyPages$Letters;IIILLazyPages$Work;I)LLazyPages$Pages;" } : Jvm.MethodName)) ∈ lw_all := lw_g (lw_at lw_m3 99 rfl) rfl
theorem q612 : (Jvm.Cond.instanceMethod ({ cls := "LazyPages", name := "add", desc := "(IJ)J" } : Jvm.MethodName)) ∈ lw_all := lw_g (lw_at lw_m3 104 rfl) rfl
theorem q613 : (Jvm.Cond.selects "LazyPages" ({ cls := "LazyPages", name := "add", desc := "(IJ)J" } : Jvm.MethodName) ({ cls := "LazyPages", name := "add", desc := "(IJ)J" } : Jvm.MethodName)) ∈ lw_all := lw_g (lw_at lw_m3 105 rfl) rfl
theorem q614 : (Jvm.Cond.code ({ cls := "LazyPages", name := "add", desc := "(IJ)J" } : Jvm.MethodName) prog_1_method_14_code (4 : Nat) (Option.some Jvm.ClassFile.FieldType.long)) ∈ lw_all := lw_g (lw_at lw_m3 106 rfl) rfl
theorem q619 : (Jvm.Cond.instanceMethod ({ cls := "LazyPages", name := "most", desc := "(IJ)J" } : Jvm.MethodName)) ∈ lw_all := lw_g (lw_at lw_m3 111 rfl) rfl
theorem q620 : (Jvm.Cond.selects "LazyPages" ({ cls := "LazyPages", name := "most", desc := "(IJ)J" } : Jvm.MethodName) ({ cls := "LazyPages", name := "most", desc := "(IJ)J" } : Jvm.MethodName)) ∈ lw_all := lw_g (lw_at lw_m3 112 rfl) rfl
theorem q621 : (Jvm.Cond.code ({ cls := "LazyPages", name := "most", desc := "(IJ)J" } : Jvm.MethodName) prog_1_method_15_code (4 : Nat) (Option.some Jvm.ClassFile.FieldType.long)) ∈ lw_all := lw_g (lw_at lw_m3 113 rfl) rfl
theorem q627 : (Jvm.Cond.instanceMethod ({ cls := "LazyPages", name := "delete", desc := "(II)I" } : Jvm.MethodName)) ∈ lw_all := lw_g (lw_at lw_m3 119 rfl) rfl
theorem q628 : (Jvm.Cond.selects "LazyPages" ({ cls := "LazyPages", name := "delete", desc := "(II)I" } : Jvm.MethodName) ({ cls := "LazyPages", name := "delete", desc := "(II)I" } : Jvm.MethodName)) ∈ lw_all := lw_g (lw_at lw_m3 120 rfl) rfl
theorem q629 : (Jvm.Cond.code ({ cls := "LazyPages", name := "delete", desc := "(II)I" } : Jvm.MethodName) prog_1_method_16_code (4 : Nat) (Option.some Jvm.ClassFile.FieldType.int)) ∈ lw_all := lw_g (lw_at lw_m3 121 rfl) rfl
theorem q630 : (Jvm.Cond.methodLink "LazyPages" (170 : Nat) ({ cls := "LazyPages", name := "need", desc := "(Z)V" } : Jvm.MethodName)) ∈ lw_all := lw_g (lw_at lw_m3 122 rfl) rfl
theorem q631 : (Jvm.Cond.static ({ cls := "LazyPages", name := "need", desc := "(Z)V" } : Jvm.MethodName)) ∈ lw_all := lw_g (lw_at lw_m3 123 rfl) rfl
theorem q632 : (Jvm.Cond.code ({ cls := "LazyPages", name := "need", desc := "(Z)V" } : Jvm.MethodName) prog_1_method_2_code (1 : Nat) (Option.none : Option Jvm.ClassFile.FieldType)) ∈ lw_all := lw_g (lw_at lw_m3 124 rfl) rfl
theorem q633 : (Jvm.Cond.classLink "LazyPages" (60 : Nat) "java/lang/IllegalArgumentException") ∈ lw_all := lw_g (lw_at lw_m3 125 rfl) rfl
theorem q642 : (Jvm.Cond.stringRef "LazyPages" (62 : Nat) "not as said") ∈ lw_tbl := lw_at lw_m3 134 rfl
theorem q643 : (Jvm.Cond.methodLink "LazyPages" (64 : Nat) ({ cls := "java/lang/IllegalArgumentException", name := "<init>", desc := "(Ljava/lang/String;)V" } : Jvm.MethodName)) ∈ lw_all := lw_g (lw_at lw_m3 135 rfl) rfl
theorem q653 : (Jvm.Cond.instanceMethod ({ cls := "LazyPages", name := "raise", desc := "(IIJ)I" } : Jvm.MethodName)) ∈ lw_all := lw_g (lw_at lw_m3 145 rfl) rfl
theorem q654 : (Jvm.Cond.selects "LazyPages" ({ cls := "LazyPages", name := "raise", desc := "(IIJ)I" } : Jvm.MethodName) ({ cls := "LazyPages", name := "raise", desc := "(IIJ)I" } : Jvm.MethodName)) ∈ lw_all := lw_g (lw_at lw_m3 146 rfl) rfl
theorem q655 : (Jvm.Cond.code ({ cls := "LazyPages", name := "raise", desc := "(IIJ)I" } : Jvm.MethodName) prog_1_method_17_code (5 : Nat) (Option.some Jvm.ClassFile.FieldType.int)) ∈ lw_all := lw_g (lw_at lw_m3 147 rfl) rfl
theorem q660 : (Jvm.Cond.instanceMethod ({ cls := "LazyPages", name := "putAll", desc := "(IIJJI)I" } : Jvm.MethodName)) ∈ lw_all := lw_g (lw_at lw_m3 152 rfl) rfl
theorem q661 : (Jvm.Cond.selects "LazyPages" ({ cls := "LazyPages", name := "putAll", desc := "(IIJJI)I" } : Jvm.MethodName) ({ cls := "LazyPages", name := "putAll", desc := "(IIJJI)I" } : Jvm.MethodName)) ∈ lw_all := lw_g (lw_at lw_m3 153 rfl) rfl
theorem q662 : (Jvm.Cond.code ({ cls := "LazyPages", name := "putAll", desc := "(IIJJI)I" } : Jvm.MethodName) prog_1_method_20_code (10 : Nat) (Option.some Jvm.ClassFile.FieldType.int)) ∈ lw_all := lw_g (lw_at lw_m3 154 rfl) rfl
theorem q663 : (Jvm.Cond.methodLink "LazyPages" (187 : Nat) ({ cls := "LazyPages", name := "isRoomBehind", desc := "(LLazyPages$Letters;I)Z" } : Jvm.MethodName)) ∈ lw_all := lw_g (lw_at lw_m3 155 rfl) rfl
theorem q664 : (Jvm.Cond.privateMethod ({ cls := "LazyPages", name := "isRoomBehind", desc := "(LLazyPages$Letters;I)Z" } : Jvm.MethodName)) ∈ lw_tbl := lw_at lw_m3 156 rfl
theorem q665 : (Jvm.Cond.instanceMethod ({ cls := "LazyPages", name := "isRoomBehind", desc := "(LLazyPages$Letters;I)Z" } : Jvm.MethodName)) ∈ lw_all := lw_g (lw_at lw_m3 157 rfl) rfl
theorem q666 : (Jvm.Cond.code ({ cls := "LazyPages", name := "isRoomBehind", desc := "(LLazyPages$Letters;I)Z" } : Jvm.MethodName) prog_1_method_19_code (3 : Nat) (Option.some Jvm.ClassFile.FieldType.boolean)) ∈ lw_all := lw_g (lw_at lw_m3 158 rfl) rfl
theorem q667 : (Jvm.Cond.methodLink "LazyPages" (183 : Nat) ({ cls := "LazyPages", name := "isThere", desc := "(LLazyPages$Letters;I)Z" } : Jvm.MethodName)) ∈ lw_all := lw_g (lw_at lw_m3 159 rfl) rfl
theorem q668 : (Jvm.Cond.privateMethod ({ cls := "LazyPages", name := "isThere", desc := "(LLazyPages$Letters;I)Z" } : Jvm.MethodName)) ∈ lw_tbl := lw_at lw_m3 160 rfl
theorem q669 : (Jvm.Cond.instanceMethod ({ cls := "LazyPages", name := "isThere", desc := "(LLazyPages$Letters;I)Z" } : Jvm.MethodName)) ∈ lw_all := lw_g (lw_at lw_m3 161 rfl) rfl
theorem q670 : (Jvm.Cond.code ({ cls := "LazyPages", name := "isThere", desc := "(LLazyPages$Letters;I)Z" } : Jvm.MethodName) prog_1_method_18_code (5 : Nat) (Option.some Jvm.ClassFile.FieldType.boolean)) ∈ lw_all := lw_g (lw_at lw_m3 162 rfl) rfl
theorem q699 : (Jvm.Cond.instanceMethod ({ cls := "LazyPages", name := "has", desc := "(II)Z" } : Jvm.MethodName)) ∈ lw_all := lw_g (lw_at lw_m3 191 rfl) rfl
theorem q700 : (Jvm.Cond.selects "LazyPages" ({ cls := "LazyPages", name := "has", desc := "(II)Z" } : Jvm.MethodName) ({ cls := "LazyPages", name := "has", desc := "(II)Z" } : Jvm.MethodName)) ∈ lw_all := lw_g (lw_at lw_m3 192 rfl) rfl
theorem q701 : (Jvm.Cond.code ({ cls := "LazyPages", name := "has", desc := "(II)Z" } : Jvm.MethodName) prog_1_method_22_code (3 : Nat) (Option.some Jvm.ClassFile.FieldType.boolean)) ∈ lw_all := lw_g (lw_at lw_m3 193 rfl) rfl
theorem q702 : (Jvm.Cond.methodLink "LazyPages" (192 : Nat) ({ cls := "LazyPages", name := "page", desc := "(I)LLazyPages$Page;" } : Jvm.MethodName)) ∈ lw_all := lw_g (lw_at lw_m3 194 rfl) rfl
theorem q703 : (Jvm.Cond.privateMethod ({ cls := "LazyPages", name := "page", desc := "(I)LLazyPages$Page;" } : Jvm.MethodName)) ∈ lw_tbl := lw_at lw_m3 195 rfl
theorem q704 : (Jvm.Cond.instanceMethod ({ cls := "LazyPages", name := "page", desc := "(I)LLazyPages$Page;" } : Jvm.MethodName)) ∈ lw_all := lw_g (lw_at lw_m3 196 rfl) rfl
theorem q705 : (Jvm.Cond.code ({ cls := "LazyPages", name := "page", desc := "(I)LLazyPages$Page;" } : Jvm.MethodName) prog_1_method_21_code (2 : Nat) (Option.some (Jvm.ClassFile.FieldType.object "LazyPages$Page"))) ∈ lw_all := lw_g (lw_at lw_m3 197 rfl) rfl
theorem q706 : (Jvm.Cond.methodLink "LazyPages" (190 : Nat) ({ cls := "LazyPages", name := "there", desc := "(Z)V" } : Jvm.MethodName)) ∈ lw_all := lw_g (lw_at lw_m3 198 rfl) rfl
theorem q707 : (Jvm.Cond.static ({ cls := "LazyPages", name := "there", desc := "(Z)V" } : Jvm.MethodName)) ∈ lw_all := lw_g (lw_at lw_m3 199 rfl) rfl
theorem q708 : (Jvm.Cond.code ({ cls := "LazyPages", name := "there", desc := "(Z)V" } : Jvm.MethodName) prog_1_method_3_code (1 : Nat) (Option.none : Option Jvm.ClassFile.FieldType)) ∈ lw_all := lw_g (lw_at lw_m3 200 rfl) rfl
theorem q709 : (Jvm.Cond.classLink "LazyPages" (67 : Nat) "java/lang/IndexOutOfBoundsException") ∈ lw_all := lw_g (lw_at lw_m3 201 rfl) rfl
theorem q718 : (Jvm.Cond.stringRef "LazyPages" (69 : Nat) "not there") ∈ lw_tbl := lw_at lw_m3 210 rfl
theorem q719 : (Jvm.Cond.methodLink "LazyPages" (71 : Nat) ({ cls := "java/lang/IndexOutOfBoundsException", name := "<init>", desc := "(Ljava/lang/String;)V" } : Jvm.MethodName)) ∈ lw_all := lw_g (lw_at lw_m3 211 rfl) rfl
theorem q726 : (Jvm.Cond.instanceMethod ({ cls := "LazyPages", name := "get", desc := "(II)J" } : Jvm.MethodName)) ∈ lw_all := lw_g (lw_at lw_m3 218 rfl) rfl
theorem q727 : (Jvm.Cond.selects "LazyPages" ({ cls := "LazyPages", name := "get", desc := "(II)J" } : Jvm.MethodName) ({ cls := "LazyPages", name := "get", desc := "(II)J" } : Jvm.MethodName)) ∈ lw_all := lw_g (lw_at lw_m3 219 rfl) rfl
theorem q728 : (Jvm.Cond.code ({ cls := "LazyPages", name := "get", desc := "(II)J" } : Jvm.MethodName) prog_1_method_23_code (4 : Nat) (Option.some Jvm.ClassFile.FieldType.long)) ∈ lw_all := lw_g (lw_at lw_m3 220 rfl) rfl
theorem q733 : (Jvm.Cond.instanceMethod ({ cls := "LazyPages", name := "count", desc := "(III)I" } : Jvm.MethodName)) ∈ lw_all := lw_g (lw_at lw_m3 225 rfl) rfl
theorem q734 : (Jvm.Cond.selects "LazyPages" ({ cls := "LazyPages", name := "count", desc := "(III)I" } : Jvm.MethodName) ({ cls := "LazyPages", name := "count", desc := "(III)I" } : Jvm.MethodName)) ∈ lw_all := lw_g (lw_at lw_m3 226 rfl) rfl
theorem q735 : (Jvm.Cond.code ({ cls := "LazyPages", name := "count", desc := "(III)I" } : Jvm.MethodName) prog_1_method_24_code (5 : Nat) (Option.some Jvm.ClassFile.FieldType.int)) ∈ lw_all := lw_g (lw_at lw_m3 227 rfl) rfl
theorem q740 : (Jvm.Cond.instanceMethod ({ cls := "LazyPages", name := "sum", desc := "(III)J" } : Jvm.MethodName)) ∈ lw_all := lw_g (lw_at lw_m3 232 rfl) rfl
theorem q741 : (Jvm.Cond.selects "LazyPages" ({ cls := "LazyPages", name := "sum", desc := "(III)J" } : Jvm.MethodName) ({ cls := "LazyPages", name := "sum", desc := "(III)J" } : Jvm.MethodName)) ∈ lw_all := lw_g (lw_at lw_m3 233 rfl) rfl
theorem q742 : (Jvm.Cond.code ({ cls := "LazyPages", name := "sum", desc := "(III)J" } : Jvm.MethodName) prog_1_method_25_code (9 : Nat) (Option.some Jvm.ClassFile.FieldType.long)) ∈ lw_all := lw_g (lw_at lw_m3 234 rfl) rfl
theorem q747 : (Jvm.Cond.instanceMethod ({ cls := "LazyPages", name := "key", desc := "(III)I" } : Jvm.MethodName)) ∈ lw_all := lw_g (lw_at lw_m3 239 rfl) rfl
theorem q748 : (Jvm.Cond.selects "LazyPages" ({ cls := "LazyPages", name := "key", desc := "(III)I" } : Jvm.MethodName) ({ cls := "LazyPages", name := "key", desc := "(III)I" } : Jvm.MethodName)) ∈ lw_all := lw_g (lw_at lw_m4 0 rfl) rfl
theorem q749 : (Jvm.Cond.code ({ cls := "LazyPages", name := "key", desc := "(III)I" } : Jvm.MethodName) prog_1_method_26_code (5 : Nat) (Option.some Jvm.ClassFile.FieldType.int)) ∈ lw_all := lw_g (lw_at lw_m4 1 rfl) rfl
theorem q754 : (Jvm.Cond.instanceMethod ({ cls := "LazyPages", name := "save", desc := "(I)V" } : Jvm.MethodName)) ∈ lw_all := lw_g (lw_at lw_m4 6 rfl) rfl
theorem q755 : (Jvm.Cond.selects "LazyPages" ({ cls := "LazyPages", name := "save", desc := "(I)V" } : Jvm.MethodName) ({ cls := "LazyPages", name := "save", desc := "(I)V" } : Jvm.MethodName)) ∈ lw_all := lw_g (lw_at lw_m4 7 rfl) rfl
theorem q756 : (Jvm.Cond.code ({ cls := "LazyPages", name := "save", desc := "(I)V" } : Jvm.MethodName) prog_1_method_27_code (2 : Nat) (Option.none : Option Jvm.ClassFile.FieldType)) ∈ lw_all := lw_g (lw_at lw_m4 8 rfl) rfl
theorem q761 : (Jvm.Cond.instanceMethod ({ cls := "LazyPages", name := "drop", desc := "(I)Z" } : Jvm.MethodName)) ∈ lw_all := lw_g (lw_at lw_m4 13 rfl) rfl
theorem q762 : (Jvm.Cond.selects "LazyPages" ({ cls := "LazyPages", name := "drop", desc := "(I)Z" } : Jvm.MethodName) ({ cls := "LazyPages", name := "drop", desc := "(I)Z" } : Jvm.MethodName)) ∈ lw_all := lw_g (lw_at lw_m4 14 rfl) rfl
theorem q763 : (Jvm.Cond.code ({ cls := "LazyPages", name := "drop", desc := "(I)Z" } : Jvm.MethodName) prog_1_method_28_code (3 : Nat) (Option.some Jvm.ClassFile.FieldType.boolean)) ∈ lw_all := lw_g (lw_at lw_m4 15 rfl) rfl
theorem q768 : (Jvm.Cond.instanceMethod ({ cls := "LazyPages", name := "restore", desc := "(I)I" } : Jvm.MethodName)) ∈ lw_all := lw_g (lw_at lw_m4 20 rfl) rfl
theorem q769 : (Jvm.Cond.selects "LazyPages" ({ cls := "LazyPages", name := "restore", desc := "(I)I" } : Jvm.MethodName) ({ cls := "LazyPages", name := "restore", desc := "(I)I" } : Jvm.MethodName)) ∈ lw_all := lw_g (lw_at lw_m4 21 rfl) rfl
theorem q770 : (Jvm.Cond.code ({ cls := "LazyPages", name := "restore", desc := "(I)I" } : Jvm.MethodName) prog_1_method_29_code (3 : Nat) (Option.some Jvm.ClassFile.FieldType.int)) ∈ lw_all := lw_g (lw_at lw_m4 22 rfl) rfl
theorem q775 : (Jvm.Cond.instanceMethod ({ cls := "LazyPages", name := "differ", desc := "(II)I" } : Jvm.MethodName)) ∈ lw_all := lw_g (lw_at lw_m4 27 rfl) rfl
theorem q776 : (Jvm.Cond.selects "LazyPages" ({ cls := "LazyPages", name := "differ", desc := "(II)I" } : Jvm.MethodName) ({ cls := "LazyPages", name := "differ", desc := "(II)I" } : Jvm.MethodName)) ∈ lw_all := lw_g (lw_at lw_m4 28 rfl) rfl
theorem q777 : (Jvm.Cond.code ({ cls := "LazyPages", name := "differ", desc := "(II)I" } : Jvm.MethodName) prog_1_method_30_code (10 : Nat) (Option.some Jvm.ClassFile.FieldType.int)) ∈ lw_all := lw_g (lw_at lw_m4 29 rfl) rfl
theorem q782 : (Jvm.Cond.instanceMethod ({ cls := "LazyPages", name := "total", desc := "(I)I" } : Jvm.MethodName)) ∈ lw_all := lw_g (lw_at lw_m4 34 rfl) rfl
theorem q783 : (Jvm.Cond.selects "LazyPages" ({ cls := "LazyPages", name := "total", desc := "(I)I" } : Jvm.MethodName) ({ cls := "LazyPages", name := "total", desc := "(I)I" } : Jvm.MethodName)) ∈ lw_all := lw_g (lw_at lw_m4 35 rfl) rfl
theorem q784 : (Jvm.Cond.code ({ cls := "LazyPages", name := "total", desc := "(I)I" } : Jvm.MethodName) prog_1_method_35_code (7 : Nat) (Option.some Jvm.ClassFile.FieldType.int)) ∈ lw_all := lw_g (lw_at lw_m4 36 rfl) rfl
theorem in_X1 : ∀ w ∈ wsX10, w ∈ lw_all := lw_in wsX10 [183, 185, 187, 189, 191, 193, 195, 197, 199, 201, 203, 205] (by decide +kernel) (by decide +kernel)
def RX10 : String := "LazyPages$Pages"
def TX10 : u_T := fun k => match k with
  | 0 => ("LazyPages$Pages", "pages", "[LLazyPages$Page;", false)
  | 1 => ("LazyPages$Pages", "lows", "[I", false)
  | _ => ("LazyPages$Pages", "many", "I", false)
def tyX10 : Nat → FieldType := fun k => match k with
  | 0 => .array (.object "LazyPages$Page")
  | 1 => .array .int
  | _ => .int
abbrev wsX100 : List Cond := u_ws RX10 TX10 3
theorem nmX10 : ∀ a, a < 3 → ∀ b, b < 3 → a ≠ b → (TX10 a).2.1 ≠ (TX10 b).2.1 := by decide +kernel
theorem tyX10_ok : ∀ k, k < 3 → parseFieldDescriptor (TX10 k).2.2.1 = some (tyX10 k) := by decide +kernel
abbrev cX10_init : ByteArray := prog_7_method_1_code
def yX10_init : MethodName := ⟨RX10, "<init>", "()V"⟩
abbrev cX10_add : ByteArray := prog_7_method_2_code
def yX10_add : MethodName := ⟨RX10, "add", "(LLazyPages$Page;I)LLazyPages$Pages;"⟩
abbrev cX10_high : ByteArray := prog_7_method_3_code
def yX10_high : MethodName := ⟨RX10, "high", "(II)I"⟩
abbrev cX10_put : ByteArray := prog_7_method_4_code
def yX10_put : MethodName := ⟨RX10, "put", "(ILLazyPages$Pages;)V"⟩
theorem q43 : (Jvm.Cond.initialized "LazyPages$Pages") ∈ lw_all := lw_g (lw_at lw_m1 15 rfl) rfl
theorem q235 : (Jvm.Cond.instantiable "LazyPages$Pages" (3 : Nat)) ∈ lw_all := lw_g (lw_at lw_m1 207 rfl) rfl
theorem q237 : (Jvm.Cond.instanceMethod ({ cls := "LazyPages$Pages", name := "<init>", desc := "()V" } : Jvm.MethodName)) ∈ lw_all := lw_g (lw_at lw_m1 209 rfl) rfl
theorem q238 : (Jvm.Cond.code ({ cls := "LazyPages$Pages", name := "<init>", desc := "()V" } : Jvm.MethodName) prog_7_method_1_code (1 : Nat) (Option.none : Option Jvm.ClassFile.FieldType)) ∈ lw_all := lw_g (lw_at lw_m1 210 rfl) rfl
theorem q239 : (Jvm.Cond.methodLink "LazyPages$Pages" (1 : Nat) ({ cls := "java/lang/Object", name := "<init>", desc := "()V" } : Jvm.MethodName)) ∈ lw_all := lw_g (lw_at lw_m1 211 rfl) rfl
theorem q240 : (Jvm.Cond.classLink "LazyPages$Pages" (7 : Nat) "LazyPages$Page") ∈ lw_all := lw_g (lw_at lw_m1 212 rfl) rfl
theorem q241 : (Jvm.Cond.fieldLink "LazyPages$Pages" (9 : Nat) "LazyPages$Pages" "pages" "[LLazyPages$Page;") ∈ lw_all := lw_g (lw_at lw_m1 213 rfl) rfl
theorem q244 : (Jvm.Cond.fieldLink "LazyPages$Pages" (15 : Nat) "LazyPages$Pages" "lows" "[I") ∈ lw_all := lw_g (lw_at lw_m1 216 rfl) rfl
theorem q247 : (Jvm.Cond.fieldLink "LazyPages$Pages" (19 : Nat) "LazyPages$Pages" "many" "I") ∈ lw_all := lw_g (lw_at lw_m1 219 rfl) rfl
theorem q251 : (Jvm.Cond.lays "LazyPages$Pages" "LazyPages$Pages" "pages" "[LLazyPages$Page;") ∈ lw_all := lw_g (lw_at lw_m1 223 rfl) rfl
theorem q252 : (Jvm.Cond.soleField "LazyPages$Pages" "pages") ∈ lw_all := lw_g (lw_at lw_m1 224 rfl) rfl
theorem q253 : (Jvm.Cond.lays "LazyPages$Pages" "LazyPages$Pages" "lows" "[I") ∈ lw_all := lw_g (lw_at lw_m1 225 rfl) rfl
theorem q254 : (Jvm.Cond.soleField "LazyPages$Pages" "lows") ∈ lw_all := lw_g (lw_at lw_m1 226 rfl) rfl
theorem q255 : (Jvm.Cond.lays "LazyPages$Pages" "LazyPages$Pages" "many" "I") ∈ lw_all := lw_g (lw_at lw_m1 227 rfl) rfl
theorem q256 : (Jvm.Cond.soleField "LazyPages$Pages" "many") ∈ lw_all := lw_g (lw_at lw_m1 228 rfl) rfl
theorem q257 : (Jvm.Cond.superclass "LazyPages$Pages" "java/lang/Object") ∈ lw_all := lw_g (lw_at lw_m1 229 rfl) rfl
theorem q259 : (Jvm.Cond.instanceMethod ({ cls := "LazyPages$Pages", name := "add", desc := "(LLazyPages$Page;I)LLazyPages$Pages;" } : Jvm.MethodName)) ∈ lw_all := lw_g (lw_at lw_m1 231 rfl) rfl
theorem q260 : (Jvm.Cond.selects "LazyPages$Pages" ({ cls := "LazyPages$Pages", name := "add", desc := "(LLazyPages$Page;I)LLazyPages$Pages;" } : Jvm.MethodName) ({ cls := "LazyPages$Pages", name := "add", desc := "(LLazyPages$Page;I)LLazyPages$Pages;" } : Jvm.MethodName)) ∈ lw_all := lw_g (lw_at lw_m1 232 rfl) rfl
theorem q261 : (Jvm.Cond.code ({ cls := "LazyPages$Pages", name := "add", desc := "(LLazyPages$Page;I)LLazyPages$Pages;" } : Jvm.MethodName) prog_7_method_2_code (6 : Nat) (Option.some (Jvm.ClassFile.FieldType.object "LazyPages$Pages"))) ∈ lw_all := lw_g (lw_at lw_m1 233 rfl) rfl
theorem q293 : (Jvm.Cond.instanceMethod ({ cls := "LazyPages$Pages", name := "high", desc := "(II)I" } : Jvm.MethodName)) ∈ lw_all := lw_g (lw_at lw_m2 25 rfl) rfl
theorem q294 : (Jvm.Cond.selects "LazyPages$Pages" ({ cls := "LazyPages$Pages", name := "high", desc := "(II)I" } : Jvm.MethodName) ({ cls := "LazyPages$Pages", name := "high", desc := "(II)I" } : Jvm.MethodName)) ∈ lw_all := lw_g (lw_at lw_m2 26 rfl) rfl
theorem q295 : (Jvm.Cond.code ({ cls := "LazyPages$Pages", name := "high", desc := "(II)I" } : Jvm.MethodName) prog_7_method_3_code (3 : Nat) (Option.some Jvm.ClassFile.FieldType.int)) ∈ lw_all := lw_g (lw_at lw_m2 27 rfl) rfl
theorem q416 : (Jvm.Cond.instanceMethod ({ cls := "LazyPages$Pages", name := "put", desc := "(ILLazyPages$Pages;)V" } : Jvm.MethodName)) ∈ lw_all := lw_g (lw_at lw_m2 148 rfl) rfl
theorem q417 : (Jvm.Cond.selects "LazyPages$Pages" ({ cls := "LazyPages$Pages", name := "put", desc := "(ILLazyPages$Pages;)V" } : Jvm.MethodName) ({ cls := "LazyPages$Pages", name := "put", desc := "(ILLazyPages$Pages;)V" } : Jvm.MethodName)) ∈ lw_all := lw_g (lw_at lw_m2 149 rfl) rfl
theorem q418 : (Jvm.Cond.code ({ cls := "LazyPages$Pages", name := "put", desc := "(ILLazyPages$Pages;)V" } : Jvm.MethodName) prog_7_method_4_code (5 : Nat) (Option.none : Option Jvm.ClassFile.FieldType)) ∈ lw_all := lw_g (lw_at lw_m2 150 rfl) rfl
theorem q419 : (Jvm.Cond.methodLink "LazyPages$Pages" (23 : Nat) ({ cls := "LazyPages$Pages", name := "add", desc := "(LLazyPages$Page;I)LLazyPages$Pages;" } : Jvm.MethodName)) ∈ lw_all := lw_g (lw_at lw_m2 151 rfl) rfl
theorem in_X10 : ∀ w ∈ wsX100, w ∈ lw_all := lw_in wsX100 [251, 253, 255] (by decide +kernel) (by decide +kernel)
def RX11 : String := "LazyPages$Inner"
def TX11 : u_T := fun k => match k with
  | 0 => ("LazyPages$Page", "owner", "I", true)
  | 1 => ("LazyPages$Inner", "children", "LLazyPages$Pages;", false)
  | _ => ("LazyPages$Inner", "letters", "LLazyPages$Letters;", false)
def tyX11 : Nat → FieldType := fun k => match k with
  | 0 => .int
  | 1 => .object "LazyPages$Pages"
  | _ => .object "LazyPages$Letters"
abbrev wsX110 : List Cond := u_ws RX11 TX11 3
theorem nmX11 : ∀ a, a < 3 → ∀ b, b < 3 → a ≠ b → (TX11 a).2.1 ≠ (TX11 b).2.1 := by decide +kernel
theorem tyX11_ok : ∀ k, k < 3 → parseFieldDescriptor (TX11 k).2.2.1 = some (tyX11 k) := by decide +kernel
abbrev cX11_settle : ByteArray := prog_2_method_7_code
def yX11_settle : MethodName := ⟨RX11, "settle", "(IIILLazyPages$Work;I)LLazyPages$Pages;"⟩
abbrev cX11_isQuiet : ByteArray := prog_2_method_6_code
def yX11_isQuiet : MethodName := ⟨RX11, "isQuiet", "()Z"⟩
abbrev cX11_mine : ByteArray := prog_2_method_4_code
def yX11_mine : MethodName := ⟨RX11, "mine", "(I)LLazyPages$Inner;"⟩
abbrev cX11_init : ByteArray := prog_2_method_1_code
def yX11_init : MethodName := ⟨RX11, "<init>", "(ILLazyPages$Pages;LLazyPages$Letters;)V"⟩
abbrev cX11_fullest : ByteArray := prog_2_method_8_code
def yX11_fullest : MethodName := ⟨RX11, "fullest", "(I)I"⟩
abbrev cX11_send : ByteArray := prog_2_method_9_code
def yX11_send : MethodName := ⟨RX11, "send", "(IIILLazyPages$Work;I)V"⟩
abbrev cX11_take : ByteArray := prog_2_method_5_code
def yX11_take : MethodName := ⟨RX11, "take", "(LLazyPages$Letters;IIILLazyPages$Work;I)LLazyPages$Pages;"⟩
abbrev cX11_parts : ByteArray := prog_2_method_10_code
def yX11_parts : MethodName := ⟨RX11, "parts", "(IIILLazyPages$Pages;)LLazyPages$Pages;"⟩
abbrev cX11_collect : ByteArray := prog_2_method_2_code
def yX11_collect : MethodName := ⟨RX11, "collect", "(IILLazyPages$Row;LLazyPages$Work;I)V"⟩
abbrev cX11_isSound : ByteArray := prog_2_method_11_code
def yX11_isSound : MethodName := ⟨RX11, "isSound", "(II)Z"⟩
abbrev cX11_read : ByteArray := prog_2_method_3_code
def yX11_read : MethodName := ⟨RX11, "read", "(ILLazyPages$Pair;)V"⟩
theorem q44 : (Jvm.Cond.initialized "LazyPages$Inner") ∈ lw_all := lw_g (lw_at lw_m1 16 rfl) rfl
theorem q67 : (Jvm.Cond.fieldLink "LazyPages$Inner" (72 : Nat) "LazyPages$Row" "keys" "[I") ∈ lw_all := lw_g (lw_at lw_m1 39 rfl) rfl
theorem q71 : (Jvm.Cond.fieldLink "LazyPages$Inner" (75 : Nat) "LazyPages$Row" "values" "[J") ∈ lw_all := lw_g (lw_at lw_m1 43 rfl) rfl
theorem q74 : (Jvm.Cond.fieldLink "LazyPages$Inner" (71 : Nat) "LazyPages$Row" "many" "I") ∈ lw_all := lw_g (lw_at lw_m1 46 rfl) rfl
theorem q96 : (Jvm.Cond.fieldLink "LazyPages$Inner" (90 : Nat) "LazyPages$Inner" "owner" "I") ∈ lw_all := lw_g (lw_at lw_m1 68 rfl) rfl
theorem q97 : (Jvm.Cond.sameField "LazyPages$Inner" "LazyPages$Page" "owner" "I") ∈ lw_all := lw_g (lw_at lw_m1 69 rfl) rfl
theorem q158 : (Jvm.Cond.fieldLink "LazyPages$Inner" (51 : Nat) "LazyPages$Letters" "row" "[LLazyPages$Message;") ∈ lw_all := lw_g (lw_at lw_m1 130 rfl) rfl
theorem q163 : (Jvm.Cond.fieldLink "LazyPages$Inner" (48 : Nat) "LazyPages$Letters" "many" "I") ∈ lw_all := lw_g (lw_at lw_m1 135 rfl) rfl
theorem q217 : (Jvm.Cond.selects "LazyPages$Inner" ({ cls := "LazyPages$Page", name := "settle", desc := "(IIILLazyPages$Work;I)LLazyPages$Pages;" } : Jvm.MethodName) ({ cls := "LazyPages$Inner", name := "settle", desc := "(IIILLazyPages$Work;I)LLazyPages$Pages;" } : Jvm.MethodName)) ∈ lw_all := lw_g (lw_at lw_m1 189 rfl) rfl
theorem q218 : (Jvm.Cond.instanceMethod ({ cls := "LazyPages$Inner", name := "settle", desc := "(IIILLazyPages$Work;I)LLazyPages$Pages;" } : Jvm.MethodName)) ∈ lw_all := lw_g (lw_at lw_m1 190 rfl) rfl
theorem q219 : (Jvm.Cond.code ({ cls := "LazyPages$Inner", name := "settle", desc := "(IIILLazyPages$Work;I)LLazyPages$Pages;" } : Jvm.MethodName) prog_2_method_7_code (9 : Nat) (Option.some (Jvm.ClassFile.FieldType.object "LazyPages$Pages"))) ∈ lw_all := lw_g (lw_at lw_m1 191 rfl) rfl
theorem q220 : (Jvm.Cond.methodLink "LazyPages$Inner" (129 : Nat) ({ cls := "LazyPages$Inner", name := "isQuiet", desc := "()Z" } : Jvm.MethodName)) ∈ lw_all := lw_g (lw_at lw_m1 192 rfl) rfl
theorem q221 : (Jvm.Cond.instanceMethod ({ cls := "LazyPages$Inner", name := "isQuiet", desc := "()Z" } : Jvm.MethodName)) ∈ lw_all := lw_g (lw_at lw_m1 193 rfl) rfl
theorem q222 : (Jvm.Cond.selects "LazyPages$Inner" ({ cls := "LazyPages$Inner", name := "isQuiet", desc := "()Z" } : Jvm.MethodName) ({ cls := "LazyPages$Inner", name := "isQuiet", desc := "()Z" } : Jvm.MethodName)) ∈ lw_all := lw_g (lw_at lw_m1 194 rfl) rfl
theorem q223 : (Jvm.Cond.code ({ cls := "LazyPages$Inner", name := "isQuiet", desc := "()Z" } : Jvm.MethodName) prog_2_method_6_code (3 : Nat) (Option.some Jvm.ClassFile.FieldType.boolean)) ∈ lw_all := lw_g (lw_at lw_m1 195 rfl) rfl
theorem q224 : (Jvm.Cond.methodLink "LazyPages$Inner" (125 : Nat) ({ cls := "LazyPages$Page", name := "isQuiet", desc := "()Z" } : Jvm.MethodName)) ∈ lw_all := lw_g (lw_at lw_m1 196 rfl) rfl
theorem q227 : (Jvm.Cond.selects "LazyPages$Inner" ({ cls := "LazyPages$Page", name := "isQuiet", desc := "()Z" } : Jvm.MethodName) ({ cls := "LazyPages$Inner", name := "isQuiet", desc := "()Z" } : Jvm.MethodName)) ∈ lw_all := lw_g (lw_at lw_m1 199 rfl) rfl
theorem q231 : (Jvm.Cond.methodLink "LazyPages$Inner" (117 : Nat) ({ cls := "LazyPages$Work", name := "made", desc := "(I)LLazyPages$Pages;" } : Jvm.MethodName)) ∈ lw_all := lw_g (lw_at lw_m1 203 rfl) rfl
theorem q242 : (Jvm.Cond.fieldLink "LazyPages$Inner" (40 : Nat) "LazyPages$Pages" "pages" "[LLazyPages$Page;") ∈ lw_all := lw_g (lw_at lw_m1 214 rfl) rfl
theorem q245 : (Jvm.Cond.fieldLink "LazyPages$Inner" (31 : Nat) "LazyPages$Pages" "lows" "[I") ∈ lw_all := lw_g (lw_at lw_m1 217 rfl) rfl
theorem q248 : (Jvm.Cond.fieldLink "LazyPages$Inner" (25 : Nat) "LazyPages$Pages" "many" "I") ∈ lw_all := lw_g (lw_at lw_m1 220 rfl) rfl
theorem q258 : (Jvm.Cond.methodLink "LazyPages$Inner" (96 : Nat) ({ cls := "LazyPages$Pages", name := "add", desc := "(LLazyPages$Page;I)LLazyPages$Pages;" } : Jvm.MethodName)) ∈ lw_all := lw_g (lw_at lw_m1 230 rfl) rfl
theorem q262 : (Jvm.Cond.methodLink "LazyPages$Inner" (105 : Nat) ({ cls := "LazyPages$Inner", name := "mine", desc := "(I)LLazyPages$Inner;" } : Jvm.MethodName)) ∈ lw_all := lw_g (lw_at lw_m1 234 rfl) rfl
theorem q263 : (Jvm.Cond.privateMethod ({ cls := "LazyPages$Inner", name := "mine", desc := "(I)LLazyPages$Inner;" } : Jvm.MethodName)) ∈ lw_tbl := lw_at lw_m1 235 rfl
theorem q264 : (Jvm.Cond.instanceMethod ({ cls := "LazyPages$Inner", name := "mine", desc := "(I)LLazyPages$Inner;" } : Jvm.MethodName)) ∈ lw_all := lw_g (lw_at lw_m1 236 rfl) rfl
theorem q265 : (Jvm.Cond.instantiable "LazyPages$Inner" (3 : Nat)) ∈ lw_all := lw_g (lw_at lw_m1 237 rfl) rfl
theorem q266 : (Jvm.Cond.code ({ cls := "LazyPages$Inner", name := "mine", desc := "(I)LLazyPages$Inner;" } : Jvm.MethodName) prog_2_method_4_code (5 : Nat) (Option.some (Jvm.ClassFile.FieldType.object "LazyPages$Inner"))) ∈ lw_all := lw_g (lw_at lw_m1 238 rfl) rfl
theorem q267 : (Jvm.Cond.classLink "LazyPages$Inner" (26 : Nat) "LazyPages$Pages") ∈ lw_all := lw_g (lw_at lw_m1 239 rfl) rfl
theorem q268 : (Jvm.Cond.methodLinkNest "LazyPages$Inner" (93 : Nat) ({ cls := "LazyPages$Pages", name := "<init>", desc := "()V" } : Jvm.MethodName) "LazyPages") ∈ lw_tbl := lw_at lw_m2 0 rfl
theorem q269 : (Jvm.Cond.classLink "LazyPages$Inner" (49 : Nat) "LazyPages$Letters") ∈ lw_all := lw_g (lw_at lw_m2 1 rfl) rfl
theorem q270 : (Jvm.Cond.methodLinkNest "LazyPages$Inner" (99 : Nat) ({ cls := "LazyPages$Letters", name := "<init>", desc := "()V" } : Jvm.MethodName) "LazyPages") ∈ lw_tbl := lw_at lw_m2 2 rfl
theorem q271 : (Jvm.Cond.methodLink "LazyPages$Inner" (100 : Nat) ({ cls := "LazyPages$Letters", name := "add", desc := "(LLazyPages$Message;)V" } : Jvm.MethodName)) ∈ lw_all := lw_g (lw_at lw_m2 3 rfl) rfl
theorem q275 : (Jvm.Cond.classLink "LazyPages$Inner" (10 : Nat) "LazyPages$Inner") ∈ lw_all := lw_g (lw_at lw_m2 7 rfl) rfl
theorem q276 : (Jvm.Cond.methodLink "LazyPages$Inner" (102 : Nat) ({ cls := "LazyPages$Inner", name := "<init>", desc := "(ILLazyPages$Pages;LLazyPages$Letters;)V" } : Jvm.MethodName)) ∈ lw_all := lw_g (lw_at lw_m2 8 rfl) rfl
theorem q277 : (Jvm.Cond.instanceMethod ({ cls := "LazyPages$Inner", name := "<init>", desc := "(ILLazyPages$Pages;LLazyPages$Letters;)V" } : Jvm.MethodName)) ∈ lw_all := lw_g (lw_at lw_m2 9 rfl) rfl
theorem q278 : (Jvm.Cond.code ({ cls := "LazyPages$Inner", name := "<init>", desc := "(ILLazyPages$Pages;LLazyPages$Letters;)V" } : Jvm.MethodName) prog_2_method_1_code (4 : Nat) (Option.none : Option Jvm.ClassFile.FieldType)) ∈ lw_all := lw_g (lw_at lw_m2 10 rfl) rfl
theorem q279 : (Jvm.Cond.methodLink "LazyPages$Inner" (3 : Nat) ({ cls := "LazyPages$Page", name := "<init>", desc := "(I)V" } : Jvm.MethodName)) ∈ lw_all := lw_g (lw_at lw_m2 11 rfl) rfl
theorem q280 : (Jvm.Cond.fieldLink "LazyPages$Inner" (9 : Nat) "LazyPages$Inner" "children" "LLazyPages$Pages;") ∈ lw_all := lw_g (lw_at lw_m2 12 rfl) rfl
theorem q281 : (Jvm.Cond.fieldLink "LazyPages$Inner" (15 : Nat) "LazyPages$Inner" "letters" "LLazyPages$Letters;") ∈ lw_all := lw_g (lw_at lw_m2 13 rfl) rfl
theorem q282 : (Jvm.Cond.lays "LazyPages$Inner" "LazyPages$Inner" "children" "LLazyPages$Pages;") ∈ lw_all := lw_g (lw_at lw_m2 14 rfl) rfl
theorem q283 : (Jvm.Cond.soleField "LazyPages$Inner" "children") ∈ lw_all := lw_g (lw_at lw_m2 15 rfl) rfl
theorem q284 : (Jvm.Cond.lays "LazyPages$Inner" "LazyPages$Inner" "letters" "LLazyPages$Letters;") ∈ lw_all := lw_g (lw_at lw_m2 16 rfl) rfl
theorem q285 : (Jvm.Cond.soleField "LazyPages$Inner" "letters") ∈ lw_all := lw_g (lw_at lw_m2 17 rfl) rfl
theorem q286 : (Jvm.Cond.laysFinal "LazyPages$Inner" "LazyPages$Page" "owner" "I") ∈ lw_all := lw_g (lw_at lw_m2 18 rfl) rfl
theorem q287 : (Jvm.Cond.superclass "LazyPages$Inner" "LazyPages$Page") ∈ lw_all := lw_g (lw_at lw_m2 19 rfl) rfl
theorem q288 : (Jvm.Cond.methodLink "LazyPages$Inner" (109 : Nat) ({ cls := "LazyPages$Inner", name := "fullest", desc := "(I)I" } : Jvm.MethodName)) ∈ lw_all := lw_g (lw_at lw_m2 20 rfl) rfl
theorem q289 : (Jvm.Cond.privateMethod ({ cls := "LazyPages$Inner", name := "fullest", desc := "(I)I" } : Jvm.MethodName)) ∈ lw_tbl := lw_at lw_m2 21 rfl
theorem q290 : (Jvm.Cond.instanceMethod ({ cls := "LazyPages$Inner", name := "fullest", desc := "(I)I" } : Jvm.MethodName)) ∈ lw_all := lw_g (lw_at lw_m2 22 rfl) rfl
theorem q291 : (Jvm.Cond.code ({ cls := "LazyPages$Inner", name := "fullest", desc := "(I)I" } : Jvm.MethodName) prog_2_method_8_code (7 : Nat) (Option.some Jvm.ClassFile.FieldType.int)) ∈ lw_all := lw_g (lw_at lw_m2 23 rfl) rfl
theorem q292 : (Jvm.Cond.methodLink "LazyPages$Inner" (36 : Nat) ({ cls := "LazyPages$Pages", name := "high", desc := "(II)I" } : Jvm.MethodName)) ∈ lw_all := lw_g (lw_at lw_m2 24 rfl) rfl
theorem q296 : (Jvm.Cond.methodLink "LazyPages$Inner" (55 : Nat) ({ cls := "LazyPages$Message", name := "isIn", desc := "(II)Z" } : Jvm.MethodName)) ∈ lw_all := lw_g (lw_at lw_m2 28 rfl) rfl
theorem q300 : (Jvm.Cond.methodLink "LazyPages$Inner" (138 : Nat) ({ cls := "java/lang/Math", name := "max", desc := "(II)I" } : Jvm.MethodName)) ∈ lw_all := lw_g (lw_at lw_m2 32 rfl) rfl
theorem q303 : (Jvm.Cond.methodLink "LazyPages$Inner" (113 : Nat) ({ cls := "LazyPages$Inner", name := "send", desc := "(IIILLazyPages$Work;I)V" } : Jvm.MethodName)) ∈ lw_all := lw_g (lw_at lw_m2 35 rfl) rfl
theorem q304 : (Jvm.Cond.privateMethod ({ cls := "LazyPages$Inner", name := "send", desc := "(IIILLazyPages$Work;I)V" } : Jvm.MethodName)) ∈ lw_tbl := lw_at lw_m2 36 rfl
theorem q305 : (Jvm.Cond.instanceMethod ({ cls := "LazyPages$Inner", name := "send", desc := "(IIILLazyPages$Work;I)V" } : Jvm.MethodName)) ∈ lw_all := lw_g (lw_at lw_m2 37 rfl) rfl
theorem q306 : (Jvm.Cond.code ({ cls := "LazyPages$Inner", name := "send", desc := "(IIILLazyPages$Work;I)V" } : Jvm.MethodName) prog_2_method_9_code (12 : Nat) (Option.none : Option Jvm.ClassFile.FieldType)) ∈ lw_all := lw_g (lw_at lw_m2 38 rfl) rfl
theorem q307 : (Jvm.Cond.methodLink "LazyPages$Inner" (143 : Nat) ({ cls := "LazyPages$Work", name := "go", desc := "(I)LLazyPages$Letters;" } : Jvm.MethodName)) ∈ lw_all := lw_g (lw_at lw_m2 39 rfl) rfl
theorem q315 : (Jvm.Cond.methodLink "LazyPages$Inner" (147 : Nat) ({ cls := "LazyPages$Work", name := "stay", desc := "(I)LLazyPages$Letters;" } : Jvm.MethodName)) ∈ lw_all := lw_g (lw_at lw_m2 47 rfl) rfl
theorem q319 : (Jvm.Cond.methodLink "LazyPages$Inner" (61 : Nat) ({ cls := "LazyPages$Message", name := "cut", desc := "(II)LLazyPages$Message;" } : Jvm.MethodName)) ∈ lw_all := lw_g (lw_at lw_m2 51 rfl) rfl
theorem q338 : (Jvm.Cond.fieldLink "LazyPages$Inner" (150 : Nat) "LazyPages$Message" "from" "I") ∈ lw_all := lw_g (lw_at lw_m2 70 rfl) rfl
theorem q342 : (Jvm.Cond.fieldLink "LazyPages$Inner" (153 : Nat) "LazyPages$Message" "to" "I") ∈ lw_all := lw_g (lw_at lw_m2 74 rfl) rfl
theorem q355 : (Jvm.Cond.methodLink "LazyPages$Inner" (156 : Nat) ({ cls := "LazyPages$Letters", name := "become", desc := "(LLazyPages$Letters;)V" } : Jvm.MethodName)) ∈ lw_all := lw_g (lw_at lw_m2 87 rfl) rfl
theorem q360 : (Jvm.Cond.methodLink "LazyPages$Inner" (160 : Nat) ({ cls := "LazyPages$Page", name := "take", desc := "(LLazyPages$Letters;IIILLazyPages$Work;I)LLazyPages$Pages;" } : Jvm.MethodName)) ∈ lw_all := lw_g (lw_at lw_m2 92 rfl) rfl
theorem q363 : (Jvm.Cond.selects "LazyPages$Inner" ({ cls := "LazyPages$Page", name := "take", desc := "(LLazyPages$Letters;IIILLazyPages$Work;I)LLazyPages$Pages;" } : Jvm.MethodName) ({ cls := "LazyPages$Inner", name := "take", desc := "(LLazyPages$Letters;IIILLazyPages$Work;I)LLazyPages$Pages;" } : Jvm.MethodName)) ∈ lw_all := lw_g (lw_at lw_m2 95 rfl) rfl
theorem q364 : (Jvm.Cond.instanceMethod ({ cls := "LazyPages$Inner", name := "take", desc := "(LLazyPages$Letters;IIILLazyPages$Work;I)LLazyPages$Pages;" } : Jvm.MethodName)) ∈ lw_all := lw_g (lw_at lw_m2 96 rfl) rfl
theorem q365 : (Jvm.Cond.code ({ cls := "LazyPages$Inner", name := "take", desc := "(LLazyPages$Letters;IIILLazyPages$Work;I)LLazyPages$Pages;" } : Jvm.MethodName) prog_2_method_5_code (9 : Nat) (Option.some (Jvm.ClassFile.FieldType.object "LazyPages$Pages"))) ∈ lw_all := lw_g (lw_at lw_m2 97 rfl) rfl
theorem q366 : (Jvm.Cond.methodLink "LazyPages$Inner" (121 : Nat) ({ cls := "LazyPages$Inner", name := "parts", desc := "(IIILLazyPages$Pages;)LLazyPages$Pages;" } : Jvm.MethodName)) ∈ lw_all := lw_g (lw_at lw_m2 98 rfl) rfl
theorem q367 : (Jvm.Cond.privateMethod ({ cls := "LazyPages$Inner", name := "parts", desc := "(IIILLazyPages$Pages;)LLazyPages$Pages;" } : Jvm.MethodName)) ∈ lw_tbl := lw_at lw_m2 99 rfl
theorem q368 : (Jvm.Cond.instanceMethod ({ cls := "LazyPages$Inner", name := "parts", desc := "(IIILLazyPages$Pages;)LLazyPages$Pages;" } : Jvm.MethodName)) ∈ lw_all := lw_g (lw_at lw_m2 100 rfl) rfl
theorem q369 : (Jvm.Cond.code ({ cls := "LazyPages$Inner", name := "parts", desc := "(IIILLazyPages$Pages;)LLazyPages$Pages;" } : Jvm.MethodName) prog_2_method_10_code (13 : Nat) (Option.some (Jvm.ClassFile.FieldType.object "LazyPages$Pages"))) ∈ lw_all := lw_g (lw_at lw_m2 101 rfl) rfl
theorem q415 : (Jvm.Cond.methodLink "LazyPages$Inner" (134 : Nat) ({ cls := "LazyPages$Pages", name := "put", desc := "(ILLazyPages$Pages;)V" } : Jvm.MethodName)) ∈ lw_all := lw_g (lw_at lw_m2 147 rfl) rfl
theorem q420 : (Jvm.Cond.methodLink "LazyPages$Inner" (130 : Nat) ({ cls := "LazyPages$Page", name := "settle", desc := "(IIILLazyPages$Work;I)LLazyPages$Pages;" } : Jvm.MethodName)) ∈ lw_all := lw_g (lw_at lw_m2 152 rfl) rfl
theorem q458 : (Jvm.Cond.selects "LazyPages$Inner" ({ cls := "LazyPages$Page", name := "collect", desc := "(IILLazyPages$Row;LLazyPages$Work;I)V" } : Jvm.MethodName) ({ cls := "LazyPages$Inner", name := "collect", desc := "(IILLazyPages$Row;LLazyPages$Work;I)V" } : Jvm.MethodName)) ∈ lw_all := lw_g (lw_at lw_m2 190 rfl) rfl
theorem q459 : (Jvm.Cond.instanceMethod ({ cls := "LazyPages$Inner", name := "collect", desc := "(IILLazyPages$Row;LLazyPages$Work;I)V" } : Jvm.MethodName)) ∈ lw_all := lw_g (lw_at lw_m2 191 rfl) rfl
theorem q460 : (Jvm.Cond.code ({ cls := "LazyPages$Inner", name := "collect", desc := "(IILLazyPages$Row;LLazyPages$Work;I)V" } : Jvm.MethodName) prog_2_method_2_code (8 : Nat) (Option.none : Option Jvm.ClassFile.FieldType)) ∈ lw_all := lw_g (lw_at lw_m2 192 rfl) rfl
theorem q461 : (Jvm.Cond.methodLink "LazyPages$Inner" (19 : Nat) ({ cls := "LazyPages$Work", name := "at", desc := "(I)LLazyPages$Row;" } : Jvm.MethodName)) ∈ lw_all := lw_g (lw_at lw_m2 193 rfl) rfl
theorem q466 : (Jvm.Cond.constant "LazyPages$Inner" (35 : Nat) (2147483647 : Int32)) ∈ lw_all := lw_g (lw_at lw_m2 198 rfl) rfl
theorem q467 : (Jvm.Cond.methodLink "LazyPages$Inner" (44 : Nat) ({ cls := "LazyPages$Page", name := "collect", desc := "(IILLazyPages$Row;LLazyPages$Work;I)V" } : Jvm.MethodName)) ∈ lw_all := lw_g (lw_at lw_m2 199 rfl) rfl
theorem q472 : (Jvm.Cond.methodLink "LazyPages$Inner" (65 : Nat) ({ cls := "LazyPages$Row", name := "take", desc := "(LLazyPages$Message;)V" } : Jvm.MethodName)) ∈ lw_all := lw_g (lw_at lw_m2 204 rfl) rfl
theorem q473 : (Jvm.Cond.methodLink "LazyPages$Inner" (79 : Nat) ({ cls := "LazyPages$Row", name := "add", desc := "(IJ)V" } : Jvm.MethodName)) ∈ lw_all := lw_g (lw_at lw_m2 205 rfl) rfl
theorem q482 : (Jvm.Cond.selects "LazyPages$Inner" ({ cls := "LazyPages$Page", name := "isSound", desc := "(II)Z" } : Jvm.MethodName) ({ cls := "LazyPages$Inner", name := "isSound", desc := "(II)Z" } : Jvm.MethodName)) ∈ lw_all := lw_g (lw_at lw_m2 214 rfl) rfl
theorem q483 : (Jvm.Cond.instanceMethod ({ cls := "LazyPages$Inner", name := "isSound", desc := "(II)Z" } : Jvm.MethodName)) ∈ lw_all := lw_g (lw_at lw_m2 215 rfl) rfl
theorem q484 : (Jvm.Cond.code ({ cls := "LazyPages$Inner", name := "isSound", desc := "(II)Z" } : Jvm.MethodName) prog_2_method_11_code (6 : Nat) (Option.some Jvm.ClassFile.FieldType.boolean)) ∈ lw_all := lw_g (lw_at lw_m2 216 rfl) rfl
theorem q485 : (Jvm.Cond.methodLink "LazyPages$Inner" (163 : Nat) ({ cls := "LazyPages$Page", name := "isSound", desc := "(II)Z" } : Jvm.MethodName)) ∈ lw_all := lw_g (lw_at lw_m2 217 rfl) rfl
theorem q508 : (Jvm.Cond.selects "LazyPages$Inner" ({ cls := "LazyPages$Page", name := "read", desc := "(ILLazyPages$Pair;)V" } : Jvm.MethodName) ({ cls := "LazyPages$Inner", name := "read", desc := "(ILLazyPages$Pair;)V" } : Jvm.MethodName)) ∈ lw_all := lw_g (lw_at lw_m3 0 rfl) rfl
theorem q509 : (Jvm.Cond.instanceMethod ({ cls := "LazyPages$Inner", name := "read", desc := "(ILLazyPages$Pair;)V" } : Jvm.MethodName)) ∈ lw_all := lw_g (lw_at lw_m3 1 rfl) rfl
theorem q510 : (Jvm.Cond.code ({ cls := "LazyPages$Inner", name := "read", desc := "(ILLazyPages$Pair;)V" } : Jvm.MethodName) prog_2_method_3_code (5 : Nat) (Option.none : Option Jvm.ClassFile.FieldType)) ∈ lw_all := lw_g (lw_at lw_m3 2 rfl) rfl
theorem q511 : (Jvm.Cond.methodLink "LazyPages$Inner" (83 : Nat) ({ cls := "LazyPages$Page", name := "read", desc := "(ILLazyPages$Pair;)V" } : Jvm.MethodName)) ∈ lw_all := lw_g (lw_at lw_m3 3 rfl) rfl
theorem q514 : (Jvm.Cond.methodLink "LazyPages$Inner" (87 : Nat) ({ cls := "LazyPages$Pair", name := "take", desc := "(LLazyPages$Message;)V" } : Jvm.MethodName)) ∈ lw_all := lw_g (lw_at lw_m3 6 rfl) rfl
theorem q964 : (Jvm.Cond.castable "LazyPages$Inner" "LazyPages$Page") ∈ lw_tbl := lw_at lw_m4 216 rfl
theorem in_X11 : ∀ w ∈ wsX110, w ∈ lw_all := lw_in wsX110 [286, 282, 284] (by decide +kernel) (by decide +kernel)
def RX2 : String := "LazyPages$Page"
abbrev cX2_init : ByteArray := prog_6_method_1_code
def yX2_init : MethodName := ⟨RX2, "<init>", "(I)V"⟩
theorem q30 : (Jvm.Cond.initialized "LazyPages$Page") ∈ lw_all := lw_g (lw_at lw_m1 2 rfl) rfl
theorem q91 : (Jvm.Cond.instanceMethod ({ cls := "LazyPages$Page", name := "<init>", desc := "(I)V" } : Jvm.MethodName)) ∈ lw_all := lw_g (lw_at lw_m1 63 rfl) rfl
theorem q92 : (Jvm.Cond.code ({ cls := "LazyPages$Page", name := "<init>", desc := "(I)V" } : Jvm.MethodName) prog_6_method_1_code (2 : Nat) (Option.none : Option Jvm.ClassFile.FieldType)) ∈ lw_all := lw_g (lw_at lw_m1 64 rfl) rfl
theorem q93 : (Jvm.Cond.methodLink "LazyPages$Page" (1 : Nat) ({ cls := "java/lang/Object", name := "<init>", desc := "()V" } : Jvm.MethodName)) ∈ lw_all := lw_g (lw_at lw_m1 65 rfl) rfl
theorem q95 : (Jvm.Cond.fieldLink "LazyPages$Page" (7 : Nat) "LazyPages$Page" "owner" "I") ∈ lw_all := lw_g (lw_at lw_m1 67 rfl) rfl
theorem q103 : (Jvm.Cond.soleField "LazyPages$Page" "owner") ∈ lw_all := lw_g (lw_at lw_m1 75 rfl) rfl
theorem q215 : (Jvm.Cond.declares ({ cls := "LazyPages$Page", name := "settle", desc := "(IIILLazyPages$Work;I)LLazyPages$Pages;" } : Jvm.MethodName)) ∈ lw_tbl := lw_at lw_m1 187 rfl
theorem q216 : (Jvm.Cond.sameMethod "LazyPages$Page" "LazyPages$Page" "settle" "(IIILLazyPages$Work;I)LLazyPages$Pages;") ∈ lw_all := lw_g (lw_at lw_m1 188 rfl) rfl
theorem q225 : (Jvm.Cond.declares ({ cls := "LazyPages$Page", name := "isQuiet", desc := "()Z" } : Jvm.MethodName)) ∈ lw_tbl := lw_at lw_m1 197 rfl
theorem q226 : (Jvm.Cond.sameMethod "LazyPages$Page" "LazyPages$Page" "isQuiet" "()Z") ∈ lw_all := lw_g (lw_at lw_m1 198 rfl) rfl
theorem q361 : (Jvm.Cond.declares ({ cls := "LazyPages$Page", name := "take", desc := "(LLazyPages$Letters;IIILLazyPages$Work;I)LLazyPages$Pages;" } : Jvm.MethodName)) ∈ lw_tbl := lw_at lw_m2 93 rfl
theorem q362 : (Jvm.Cond.sameMethod "LazyPages$Page" "LazyPages$Page" "take" "(LLazyPages$Letters;IIILLazyPages$Work;I)LLazyPages$Pages;") ∈ lw_all := lw_g (lw_at lw_m2 94 rfl) rfl
theorem q456 : (Jvm.Cond.declares ({ cls := "LazyPages$Page", name := "collect", desc := "(IILLazyPages$Row;LLazyPages$Work;I)V" } : Jvm.MethodName)) ∈ lw_tbl := lw_at lw_m2 188 rfl
theorem q457 : (Jvm.Cond.sameMethod "LazyPages$Page" "LazyPages$Page" "collect" "(IILLazyPages$Row;LLazyPages$Work;I)V") ∈ lw_all := lw_g (lw_at lw_m2 189 rfl) rfl
theorem q480 : (Jvm.Cond.declares ({ cls := "LazyPages$Page", name := "isSound", desc := "(II)Z" } : Jvm.MethodName)) ∈ lw_tbl := lw_at lw_m2 212 rfl
theorem q481 : (Jvm.Cond.sameMethod "LazyPages$Page" "LazyPages$Page" "isSound" "(II)Z") ∈ lw_all := lw_g (lw_at lw_m2 213 rfl) rfl
theorem q506 : (Jvm.Cond.declares ({ cls := "LazyPages$Page", name := "read", desc := "(ILLazyPages$Pair;)V" } : Jvm.MethodName)) ∈ lw_tbl := lw_at lw_m2 238 rfl
theorem q507 : (Jvm.Cond.sameMethod "LazyPages$Page" "LazyPages$Page" "read" "(ILLazyPages$Pair;)V") ∈ lw_all := lw_g (lw_at lw_m2 239 rfl) rfl
def RX3 : String := "LazyPages$Leaf"
def TX3 : u_T := fun k => match k with
  | 0 => ("LazyPages$Page", "owner", "I", true)
  | _ => ("LazyPages$Leaf", "row", "LLazyPages$Row;", true)
def tyX3 : Nat → FieldType := fun k => match k with
  | 0 => .int
  | _ => .object "LazyPages$Row"
abbrev wsX30 : List Cond := u_ws RX3 TX3 2
theorem nmX3 : ∀ a, a < 2 → ∀ b, b < 2 → a ≠ b → (TX3 a).2.1 ≠ (TX3 b).2.1 := by decide +kernel
theorem tyX3_ok : ∀ k, k < 2 → parseFieldDescriptor (TX3 k).2.2.1 = some (tyX3 k) := by decide +kernel
abbrev cX3_init : ByteArray := prog_3_method_1_code
def yX3_init : MethodName := ⟨RX3, "<init>", "(ILLazyPages$Row;)V"⟩
abbrev cX3_isQuiet : ByteArray := prog_3_method_6_code
def yX3_isQuiet : MethodName := ⟨RX3, "isQuiet", "()Z"⟩
abbrev cX3_take : ByteArray := prog_3_method_4_code
def yX3_take : MethodName := ⟨RX3, "take", "(LLazyPages$Letters;IIILLazyPages$Work;I)LLazyPages$Pages;"⟩
abbrev cX3_parts : ByteArray := prog_3_method_5_code
def yX3_parts : MethodName := ⟨RX3, "parts", "(LLazyPages$Row;IILLazyPages$Pages;)LLazyPages$Pages;"⟩
abbrev cX3_settle : ByteArray := prog_3_method_7_code
def yX3_settle : MethodName := ⟨RX3, "settle", "(IIILLazyPages$Work;I)LLazyPages$Pages;"⟩
abbrev cX3_collect : ByteArray := prog_3_method_2_code
def yX3_collect : MethodName := ⟨RX3, "collect", "(IILLazyPages$Row;LLazyPages$Work;I)V"⟩
abbrev cX3_isSound : ByteArray := prog_3_method_8_code
def yX3_isSound : MethodName := ⟨RX3, "isSound", "(II)Z"⟩
abbrev cX3_read : ByteArray := prog_3_method_3_code
def yX3_read : MethodName := ⟨RX3, "read", "(ILLazyPages$Pair;)V"⟩
theorem q31 : (Jvm.Cond.initialized "LazyPages$Leaf") ∈ lw_all := lw_g (lw_at lw_m1 3 rfl) rfl
theorem q58 : (Jvm.Cond.instantiable "LazyPages$Leaf" (2 : Nat)) ∈ lw_all := lw_g (lw_at lw_m1 30 rfl) rfl
theorem q66 : (Jvm.Cond.fieldLink "LazyPages$Leaf" (24 : Nat) "LazyPages$Row" "keys" "[I") ∈ lw_all := lw_g (lw_at lw_m1 38 rfl) rfl
theorem q70 : (Jvm.Cond.fieldLink "LazyPages$Leaf" (28 : Nat) "LazyPages$Row" "values" "[J") ∈ lw_all := lw_g (lw_at lw_m1 42 rfl) rfl
theorem q75 : (Jvm.Cond.fieldLink "LazyPages$Leaf" (36 : Nat) "LazyPages$Row" "many" "I") ∈ lw_all := lw_g (lw_at lw_m1 47 rfl) rfl
theorem q88 : (Jvm.Cond.instanceMethod ({ cls := "LazyPages$Leaf", name := "<init>", desc := "(ILLazyPages$Row;)V" } : Jvm.MethodName)) ∈ lw_all := lw_g (lw_at lw_m1 60 rfl) rfl
theorem q89 : (Jvm.Cond.code ({ cls := "LazyPages$Leaf", name := "<init>", desc := "(ILLazyPages$Row;)V" } : Jvm.MethodName) prog_3_method_1_code (3 : Nat) (Option.none : Option Jvm.ClassFile.FieldType)) ∈ lw_all := lw_g (lw_at lw_m1 61 rfl) rfl
theorem q90 : (Jvm.Cond.methodLink "LazyPages$Leaf" (3 : Nat) ({ cls := "LazyPages$Page", name := "<init>", desc := "(I)V" } : Jvm.MethodName)) ∈ lw_all := lw_g (lw_at lw_m1 62 rfl) rfl
theorem q94 : (Jvm.Cond.fieldLink "LazyPages$Leaf" (9 : Nat) "LazyPages$Leaf" "row" "LLazyPages$Row;") ∈ lw_all := lw_g (lw_at lw_m1 66 rfl) rfl
theorem q98 : (Jvm.Cond.fieldLink "LazyPages$Leaf" (50 : Nat) "LazyPages$Leaf" "owner" "I") ∈ lw_all := lw_g (lw_at lw_m1 70 rfl) rfl
theorem q99 : (Jvm.Cond.sameField "LazyPages$Leaf" "LazyPages$Page" "owner" "I") ∈ lw_all := lw_g (lw_at lw_m1 71 rfl) rfl
theorem q100 : (Jvm.Cond.laysFinal "LazyPages$Leaf" "LazyPages$Leaf" "row" "LLazyPages$Row;") ∈ lw_all := lw_g (lw_at lw_m1 72 rfl) rfl
theorem q101 : (Jvm.Cond.soleField "LazyPages$Leaf" "row") ∈ lw_all := lw_g (lw_at lw_m1 73 rfl) rfl
theorem q102 : (Jvm.Cond.laysFinal "LazyPages$Leaf" "LazyPages$Page" "owner" "I") ∈ lw_all := lw_g (lw_at lw_m1 74 rfl) rfl
theorem q104 : (Jvm.Cond.superclass "LazyPages$Leaf" "LazyPages$Page") ∈ lw_all := lw_g (lw_at lw_m1 76 rfl) rfl
theorem q112 : (Jvm.Cond.fieldLink "LazyPages$Leaf" (40 : Nat) "LazyPages$Pair" "there" "Z") ∈ lw_all := lw_g (lw_at lw_m1 84 rfl) rfl
theorem q115 : (Jvm.Cond.fieldLink "LazyPages$Leaf" (46 : Nat) "LazyPages$Pair" "value" "J") ∈ lw_all := lw_g (lw_at lw_m1 87 rfl) rfl
theorem q159 : (Jvm.Cond.fieldLink "LazyPages$Leaf" (59 : Nat) "LazyPages$Letters" "row" "[LLazyPages$Message;") ∈ lw_all := lw_g (lw_at lw_m1 131 rfl) rfl
theorem q164 : (Jvm.Cond.fieldLink "LazyPages$Leaf" (56 : Nat) "LazyPages$Letters" "many" "I") ∈ lw_all := lw_g (lw_at lw_m1 136 rfl) rfl
theorem q228 : (Jvm.Cond.selects "LazyPages$Leaf" ({ cls := "LazyPages$Page", name := "isQuiet", desc := "()Z" } : Jvm.MethodName) ({ cls := "LazyPages$Leaf", name := "isQuiet", desc := "()Z" } : Jvm.MethodName)) ∈ lw_all := lw_g (lw_at lw_m1 200 rfl) rfl
theorem q229 : (Jvm.Cond.instanceMethod ({ cls := "LazyPages$Leaf", name := "isQuiet", desc := "()Z" } : Jvm.MethodName)) ∈ lw_all := lw_g (lw_at lw_m1 201 rfl) rfl
theorem q230 : (Jvm.Cond.code ({ cls := "LazyPages$Leaf", name := "isQuiet", desc := "()Z" } : Jvm.MethodName) prog_3_method_6_code (1 : Nat) (Option.some Jvm.ClassFile.FieldType.boolean)) ∈ lw_all := lw_g (lw_at lw_m1 202 rfl) rfl
theorem q370 : (Jvm.Cond.selects "LazyPages$Leaf" ({ cls := "LazyPages$Page", name := "take", desc := "(LLazyPages$Letters;IIILLazyPages$Work;I)LLazyPages$Pages;" } : Jvm.MethodName) ({ cls := "LazyPages$Leaf", name := "take", desc := "(LLazyPages$Letters;IIILLazyPages$Work;I)LLazyPages$Pages;" } : Jvm.MethodName)) ∈ lw_all := lw_g (lw_at lw_m2 102 rfl) rfl
theorem q371 : (Jvm.Cond.instanceMethod ({ cls := "LazyPages$Leaf", name := "take", desc := "(LLazyPages$Letters;IIILLazyPages$Work;I)LLazyPages$Pages;" } : Jvm.MethodName)) ∈ lw_all := lw_g (lw_at lw_m2 103 rfl) rfl
theorem q372 : (Jvm.Cond.code ({ cls := "LazyPages$Leaf", name := "take", desc := "(LLazyPages$Letters;IIILLazyPages$Work;I)LLazyPages$Pages;" } : Jvm.MethodName) prog_3_method_4_code (9 : Nat) (Option.some (Jvm.ClassFile.FieldType.object "LazyPages$Pages"))) ∈ lw_all := lw_g (lw_at lw_m2 104 rfl) rfl
theorem q373 : (Jvm.Cond.classLink "LazyPages$Leaf" (16 : Nat) "LazyPages$Row") ∈ lw_all := lw_g (lw_at lw_m2 105 rfl) rfl
theorem q374 : (Jvm.Cond.methodLinkNest "LazyPages$Leaf" (53 : Nat) ({ cls := "LazyPages$Row", name := "<init>", desc := "()V" } : Jvm.MethodName) "LazyPages") ∈ lw_tbl := lw_at lw_m2 106 rfl
theorem q375 : (Jvm.Cond.methodLink "LazyPages$Leaf" (32 : Nat) ({ cls := "LazyPages$Row", name := "add", desc := "(IJ)V" } : Jvm.MethodName)) ∈ lw_all := lw_g (lw_at lw_m2 107 rfl) rfl
theorem q383 : (Jvm.Cond.methodLink "LazyPages$Leaf" (62 : Nat) ({ cls := "LazyPages$Row", name := "take", desc := "(LLazyPages$Message;)V" } : Jvm.MethodName)) ∈ lw_all := lw_g (lw_at lw_m2 115 rfl) rfl
theorem q408 : (Jvm.Cond.methodLink "LazyPages$Leaf" (66 : Nat) ({ cls := "LazyPages$Work", name := "made", desc := "(I)LLazyPages$Pages;" } : Jvm.MethodName)) ∈ lw_all := lw_g (lw_at lw_m2 140 rfl) rfl
theorem q409 : (Jvm.Cond.methodLink "LazyPages$Leaf" (72 : Nat) ({ cls := "LazyPages$Pages", name := "add", desc := "(LLazyPages$Page;I)LLazyPages$Pages;" } : Jvm.MethodName)) ∈ lw_all := lw_g (lw_at lw_m2 141 rfl) rfl
theorem q410 : (Jvm.Cond.methodLink "LazyPages$Leaf" (77 : Nat) ({ cls := "LazyPages$Leaf", name := "parts", desc := "(LLazyPages$Row;IILLazyPages$Pages;)LLazyPages$Pages;" } : Jvm.MethodName)) ∈ lw_all := lw_g (lw_at lw_m2 142 rfl) rfl
theorem q411 : (Jvm.Cond.static ({ cls := "LazyPages$Leaf", name := "parts", desc := "(LLazyPages$Row;IILLazyPages$Pages;)LLazyPages$Pages;" } : Jvm.MethodName)) ∈ lw_all := lw_g (lw_at lw_m2 143 rfl) rfl
theorem q412 : (Jvm.Cond.code ({ cls := "LazyPages$Leaf", name := "parts", desc := "(LLazyPages$Row;IILLazyPages$Pages;)LLazyPages$Pages;" } : Jvm.MethodName) prog_3_method_5_code (10 : Nat) (Option.some (Jvm.ClassFile.FieldType.object "LazyPages$Pages"))) ∈ lw_all := lw_g (lw_at lw_m2 144 rfl) rfl
theorem q413 : (Jvm.Cond.classLink "LazyPages$Leaf" (10 : Nat) "LazyPages$Leaf") ∈ lw_all := lw_g (lw_at lw_m2 145 rfl) rfl
theorem q414 : (Jvm.Cond.methodLink "LazyPages$Leaf" (81 : Nat) ({ cls := "LazyPages$Leaf", name := "<init>", desc := "(ILLazyPages$Row;)V" } : Jvm.MethodName)) ∈ lw_all := lw_g (lw_at lw_m2 146 rfl) rfl
theorem q421 : (Jvm.Cond.instanceMethod ({ cls := "LazyPages$Leaf", name := "settle", desc := "(IIILLazyPages$Work;I)LLazyPages$Pages;" } : Jvm.MethodName)) ∈ lw_all := lw_g (lw_at lw_m2 153 rfl) rfl
theorem q422 : (Jvm.Cond.code ({ cls := "LazyPages$Leaf", name := "settle", desc := "(IIILLazyPages$Work;I)LLazyPages$Pages;" } : Jvm.MethodName) prog_3_method_7_code (6 : Nat) (Option.some (Jvm.ClassFile.FieldType.object "LazyPages$Pages"))) ∈ lw_all := lw_g (lw_at lw_m2 154 rfl) rfl
theorem q423 : (Jvm.Cond.selects "LazyPages$Leaf" ({ cls := "LazyPages$Page", name := "settle", desc := "(IIILLazyPages$Work;I)LLazyPages$Pages;" } : Jvm.MethodName) ({ cls := "LazyPages$Leaf", name := "settle", desc := "(IIILLazyPages$Work;I)LLazyPages$Pages;" } : Jvm.MethodName)) ∈ lw_all := lw_g (lw_at lw_m2 155 rfl) rfl
theorem q468 : (Jvm.Cond.instanceMethod ({ cls := "LazyPages$Leaf", name := "collect", desc := "(IILLazyPages$Row;LLazyPages$Work;I)V" } : Jvm.MethodName)) ∈ lw_all := lw_g (lw_at lw_m2 200 rfl) rfl
theorem q469 : (Jvm.Cond.code ({ cls := "LazyPages$Leaf", name := "collect", desc := "(IILLazyPages$Row;LLazyPages$Work;I)V" } : Jvm.MethodName) prog_3_method_2_code (8 : Nat) (Option.none : Option Jvm.ClassFile.FieldType)) ∈ lw_all := lw_g (lw_at lw_m2 201 rfl) rfl
theorem q470 : (Jvm.Cond.methodLink "LazyPages$Leaf" (15 : Nat) ({ cls := "LazyPages$Row", name := "upTo", desc := "(I)I" } : Jvm.MethodName)) ∈ lw_all := lw_g (lw_at lw_m2 202 rfl) rfl
theorem q471 : (Jvm.Cond.methodLink "LazyPages$Leaf" (21 : Nat) ({ cls := "LazyPages$Row", name := "below", desc := "(I)I" } : Jvm.MethodName)) ∈ lw_all := lw_g (lw_at lw_m2 203 rfl) rfl
theorem q474 : (Jvm.Cond.selects "LazyPages$Leaf" ({ cls := "LazyPages$Page", name := "collect", desc := "(IILLazyPages$Row;LLazyPages$Work;I)V" } : Jvm.MethodName) ({ cls := "LazyPages$Leaf", name := "collect", desc := "(IILLazyPages$Row;LLazyPages$Work;I)V" } : Jvm.MethodName)) ∈ lw_all := lw_g (lw_at lw_m2 206 rfl) rfl
theorem q486 : (Jvm.Cond.instanceMethod ({ cls := "LazyPages$Leaf", name := "isSound", desc := "(II)Z" } : Jvm.MethodName)) ∈ lw_all := lw_g (lw_at lw_m2 218 rfl) rfl
theorem q487 : (Jvm.Cond.code ({ cls := "LazyPages$Leaf", name := "isSound", desc := "(II)Z" } : Jvm.MethodName) prog_3_method_8_code (5 : Nat) (Option.some Jvm.ClassFile.FieldType.boolean)) ∈ lw_all := lw_g (lw_at lw_m2 219 rfl) rfl
theorem q488 : (Jvm.Cond.selects "LazyPages$Leaf" ({ cls := "LazyPages$Page", name := "isSound", desc := "(II)Z" } : Jvm.MethodName) ({ cls := "LazyPages$Leaf", name := "isSound", desc := "(II)Z" } : Jvm.MethodName)) ∈ lw_all := lw_g (lw_at lw_m2 220 rfl) rfl
theorem q512 : (Jvm.Cond.instanceMethod ({ cls := "LazyPages$Leaf", name := "read", desc := "(ILLazyPages$Pair;)V" } : Jvm.MethodName)) ∈ lw_all := lw_g (lw_at lw_m3 4 rfl) rfl
theorem q513 : (Jvm.Cond.code ({ cls := "LazyPages$Leaf", name := "read", desc := "(ILLazyPages$Pair;)V" } : Jvm.MethodName) prog_3_method_3_code (4 : Nat) (Option.none : Option Jvm.ClassFile.FieldType)) ∈ lw_all := lw_g (lw_at lw_m3 5 rfl) rfl
theorem q519 : (Jvm.Cond.selects "LazyPages$Leaf" ({ cls := "LazyPages$Page", name := "read", desc := "(ILLazyPages$Pair;)V" } : Jvm.MethodName) ({ cls := "LazyPages$Leaf", name := "read", desc := "(ILLazyPages$Pair;)V" } : Jvm.MethodName)) ∈ lw_all := lw_g (lw_at lw_m3 11 rfl) rfl
theorem q963 : (Jvm.Cond.castable "LazyPages$Leaf" "LazyPages$Page") ∈ lw_tbl := lw_at lw_m4 215 rfl
theorem in_X3 : ∀ w ∈ wsX30, w ∈ lw_all := lw_in wsX30 [102, 100] (by decide +kernel) (by decide +kernel)
def RX4 : String := "LazyPages$Row"
def TX4 : u_T := fun k => match k with
  | 0 => ("LazyPages$Row", "keys", "[I", false)
  | 1 => ("LazyPages$Row", "values", "[J", false)
  | _ => ("LazyPages$Row", "many", "I", false)
def tyX4 : Nat → FieldType := fun k => match k with
  | 0 => .array .int
  | 1 => .array .long
  | _ => .int
abbrev wsX40 : List Cond := u_ws RX4 TX4 3
theorem nmX4 : ∀ a, a < 3 → ∀ b, b < 3 → a ≠ b → (TX4 a).2.1 ≠ (TX4 b).2.1 := by decide +kernel
theorem tyX4_ok : ∀ k, k < 3 → parseFieldDescriptor (TX4 k).2.2.1 = some (tyX4 k) := by decide +kernel
abbrev cX4_init : ByteArray := prog_9_method_1_code
def yX4_init : MethodName := ⟨RX4, "<init>", "()V"⟩
abbrev cX4_add : ByteArray := prog_9_method_4_code
def yX4_add : MethodName := ⟨RX4, "add", "(IJ)V"⟩
abbrev cX4_insert : ByteArray := prog_9_method_5_code
def yX4_insert : MethodName := ⟨RX4, "insert", "(IIJ)V"⟩
abbrev cX4_take : ByteArray := prog_9_method_6_code
def yX4_take : MethodName := ⟨RX4, "take", "(LLazyPages$Message;)V"⟩
abbrev cX4_below : ByteArray := prog_9_method_2_code
def yX4_below : MethodName := ⟨RX4, "below", "(I)I"⟩
abbrev cX4_upTo : ByteArray := prog_9_method_7_code
def yX4_upTo : MethodName := ⟨RX4, "upTo", "(I)I"⟩
abbrev cX4_delete : ByteArray := prog_9_method_8_code
def yX4_delete : MethodName := ⟨RX4, "delete", "(II)V"⟩
abbrev cX4_has : ByteArray := prog_9_method_3_code
def yX4_has : MethodName := ⟨RX4, "has", "(I)Z"⟩
theorem q32 : (Jvm.Cond.initialized "LazyPages$Row") ∈ lw_all := lw_g (lw_at lw_m1 4 rfl) rfl
theorem q60 : (Jvm.Cond.instantiable "LazyPages$Row" (3 : Nat)) ∈ lw_all := lw_g (lw_at lw_m1 32 rfl) rfl
theorem q62 : (Jvm.Cond.instanceMethod ({ cls := "LazyPages$Row", name := "<init>", desc := "()V" } : Jvm.MethodName)) ∈ lw_all := lw_g (lw_at lw_m1 34 rfl) rfl
theorem q63 : (Jvm.Cond.code ({ cls := "LazyPages$Row", name := "<init>", desc := "()V" } : Jvm.MethodName) prog_9_method_1_code (1 : Nat) (Option.none : Option Jvm.ClassFile.FieldType)) ∈ lw_all := lw_g (lw_at lw_m1 35 rfl) rfl
theorem q64 : (Jvm.Cond.methodLink "LazyPages$Row" (3 : Nat) ({ cls := "java/lang/Object", name := "<init>", desc := "()V" } : Jvm.MethodName)) ∈ lw_all := lw_g (lw_at lw_m1 36 rfl) rfl
theorem q65 : (Jvm.Cond.fieldLink "LazyPages$Row" (9 : Nat) "LazyPages$Row" "keys" "[I") ∈ lw_all := lw_g (lw_at lw_m1 37 rfl) rfl
theorem q69 : (Jvm.Cond.fieldLink "LazyPages$Row" (15 : Nat) "LazyPages$Row" "values" "[J") ∈ lw_all := lw_g (lw_at lw_m1 41 rfl) rfl
theorem q73 : (Jvm.Cond.fieldLink "LazyPages$Row" (19 : Nat) "LazyPages$Row" "many" "I") ∈ lw_all := lw_g (lw_at lw_m1 45 rfl) rfl
theorem q78 : (Jvm.Cond.lays "LazyPages$Row" "LazyPages$Row" "keys" "[I") ∈ lw_all := lw_g (lw_at lw_m1 50 rfl) rfl
theorem q79 : (Jvm.Cond.soleField "LazyPages$Row" "keys") ∈ lw_all := lw_g (lw_at lw_m1 51 rfl) rfl
theorem q80 : (Jvm.Cond.lays "LazyPages$Row" "LazyPages$Row" "values" "[J") ∈ lw_all := lw_g (lw_at lw_m1 52 rfl) rfl
theorem q81 : (Jvm.Cond.soleField "LazyPages$Row" "values") ∈ lw_all := lw_g (lw_at lw_m1 53 rfl) rfl
theorem q82 : (Jvm.Cond.lays "LazyPages$Row" "LazyPages$Row" "many" "I") ∈ lw_all := lw_g (lw_at lw_m1 54 rfl) rfl
theorem q83 : (Jvm.Cond.soleField "LazyPages$Row" "many") ∈ lw_all := lw_g (lw_at lw_m1 55 rfl) rfl
theorem q84 : (Jvm.Cond.superclass "LazyPages$Row" "java/lang/Object") ∈ lw_all := lw_g (lw_at lw_m1 56 rfl) rfl
theorem q335 : (Jvm.Cond.fieldLink "LazyPages$Row" (36 : Nat) "LazyPages$Message" "kind" "I") ∈ lw_all := lw_g (lw_at lw_m2 67 rfl) rfl
theorem q337 : (Jvm.Cond.fieldLink "LazyPages$Row" (31 : Nat) "LazyPages$Message" "from" "I") ∈ lw_all := lw_g (lw_at lw_m2 69 rfl) rfl
theorem q341 : (Jvm.Cond.fieldLink "LazyPages$Row" (39 : Nat) "LazyPages$Message" "to" "I") ∈ lw_all := lw_g (lw_at lw_m2 73 rfl) rfl
theorem q345 : (Jvm.Cond.fieldLink "LazyPages$Row" (49 : Nat) "LazyPages$Message" "value" "J") ∈ lw_all := lw_g (lw_at lw_m2 77 rfl) rfl
theorem q376 : (Jvm.Cond.instanceMethod ({ cls := "LazyPages$Row", name := "add", desc := "(IJ)V" } : Jvm.MethodName)) ∈ lw_all := lw_g (lw_at lw_m2 108 rfl) rfl
theorem q377 : (Jvm.Cond.selects "LazyPages$Row" ({ cls := "LazyPages$Row", name := "add", desc := "(IJ)V" } : Jvm.MethodName) ({ cls := "LazyPages$Row", name := "add", desc := "(IJ)V" } : Jvm.MethodName)) ∈ lw_all := lw_g (lw_at lw_m2 109 rfl) rfl
theorem q378 : (Jvm.Cond.code ({ cls := "LazyPages$Row", name := "add", desc := "(IJ)V" } : Jvm.MethodName) prog_9_method_4_code (4 : Nat) (Option.none : Option Jvm.ClassFile.FieldType)) ∈ lw_all := lw_g (lw_at lw_m2 110 rfl) rfl
theorem q379 : (Jvm.Cond.methodLink "LazyPages$Row" (27 : Nat) ({ cls := "LazyPages$Row", name := "insert", desc := "(IIJ)V" } : Jvm.MethodName)) ∈ lw_all := lw_g (lw_at lw_m2 111 rfl) rfl
theorem q380 : (Jvm.Cond.privateMethod ({ cls := "LazyPages$Row", name := "insert", desc := "(IIJ)V" } : Jvm.MethodName)) ∈ lw_tbl := lw_at lw_m2 112 rfl
theorem q381 : (Jvm.Cond.instanceMethod ({ cls := "LazyPages$Row", name := "insert", desc := "(IIJ)V" } : Jvm.MethodName)) ∈ lw_all := lw_g (lw_at lw_m2 113 rfl) rfl
theorem q382 : (Jvm.Cond.code ({ cls := "LazyPages$Row", name := "insert", desc := "(IIJ)V" } : Jvm.MethodName) prog_9_method_5_code (8 : Nat) (Option.none : Option Jvm.ClassFile.FieldType)) ∈ lw_all := lw_g (lw_at lw_m2 114 rfl) rfl
theorem q384 : (Jvm.Cond.instanceMethod ({ cls := "LazyPages$Row", name := "take", desc := "(LLazyPages$Message;)V" } : Jvm.MethodName)) ∈ lw_all := lw_g (lw_at lw_m2 116 rfl) rfl
theorem q385 : (Jvm.Cond.selects "LazyPages$Row" ({ cls := "LazyPages$Row", name := "take", desc := "(LLazyPages$Message;)V" } : Jvm.MethodName) ({ cls := "LazyPages$Row", name := "take", desc := "(LLazyPages$Message;)V" } : Jvm.MethodName)) ∈ lw_all := lw_g (lw_at lw_m2 117 rfl) rfl
theorem q386 : (Jvm.Cond.code ({ cls := "LazyPages$Row", name := "take", desc := "(LLazyPages$Message;)V" } : Jvm.MethodName) prog_9_method_6_code (4 : Nat) (Option.none : Option Jvm.ClassFile.FieldType)) ∈ lw_all := lw_g (lw_at lw_m2 118 rfl) rfl
theorem q387 : (Jvm.Cond.methodLink "LazyPages$Row" (23 : Nat) ({ cls := "LazyPages$Row", name := "below", desc := "(I)I" } : Jvm.MethodName)) ∈ lw_all := lw_g (lw_at lw_m2 119 rfl) rfl
theorem q388 : (Jvm.Cond.instanceMethod ({ cls := "LazyPages$Row", name := "below", desc := "(I)I" } : Jvm.MethodName)) ∈ lw_all := lw_g (lw_at lw_m2 120 rfl) rfl
theorem q389 : (Jvm.Cond.selects "LazyPages$Row" ({ cls := "LazyPages$Row", name := "below", desc := "(I)I" } : Jvm.MethodName) ({ cls := "LazyPages$Row", name := "below", desc := "(I)I" } : Jvm.MethodName)) ∈ lw_all := lw_g (lw_at lw_m2 121 rfl) rfl
theorem q390 : (Jvm.Cond.code ({ cls := "LazyPages$Row", name := "below", desc := "(I)I" } : Jvm.MethodName) prog_9_method_2_code (5 : Nat) (Option.some Jvm.ClassFile.FieldType.int)) ∈ lw_all := lw_g (lw_at lw_m2 122 rfl) rfl
theorem q391 : (Jvm.Cond.methodLink "LazyPages$Row" (42 : Nat) ({ cls := "LazyPages$Row", name := "upTo", desc := "(I)I" } : Jvm.MethodName)) ∈ lw_all := lw_g (lw_at lw_m2 123 rfl) rfl
theorem q392 : (Jvm.Cond.instanceMethod ({ cls := "LazyPages$Row", name := "upTo", desc := "(I)I" } : Jvm.MethodName)) ∈ lw_all := lw_g (lw_at lw_m2 124 rfl) rfl
theorem q393 : (Jvm.Cond.selects "LazyPages$Row" ({ cls := "LazyPages$Row", name := "upTo", desc := "(I)I" } : Jvm.MethodName) ({ cls := "LazyPages$Row", name := "upTo", desc := "(I)I" } : Jvm.MethodName)) ∈ lw_all := lw_g (lw_at lw_m2 125 rfl) rfl
theorem q394 : (Jvm.Cond.code ({ cls := "LazyPages$Row", name := "upTo", desc := "(I)I" } : Jvm.MethodName) prog_9_method_7_code (2 : Nat) (Option.some Jvm.ClassFile.FieldType.int)) ∈ lw_all := lw_g (lw_at lw_m2 126 rfl) rfl
theorem q395 : (Jvm.Cond.constant "LazyPages$Row" (63 : Nat) (2147483647 : Int32)) ∈ lw_all := lw_g (lw_at lw_m2 127 rfl) rfl
theorem q396 : (Jvm.Cond.methodLink "LazyPages$Row" (45 : Nat) ({ cls := "LazyPages$Row", name := "delete", desc := "(II)V" } : Jvm.MethodName)) ∈ lw_all := lw_g (lw_at lw_m2 128 rfl) rfl
theorem q397 : (Jvm.Cond.privateMethod ({ cls := "LazyPages$Row", name := "delete", desc := "(II)V" } : Jvm.MethodName)) ∈ lw_tbl := lw_at lw_m2 129 rfl
theorem q398 : (Jvm.Cond.instanceMethod ({ cls := "LazyPages$Row", name := "delete", desc := "(II)V" } : Jvm.MethodName)) ∈ lw_all := lw_g (lw_at lw_m2 130 rfl) rfl
theorem q399 : (Jvm.Cond.code ({ cls := "LazyPages$Row", name := "delete", desc := "(II)V" } : Jvm.MethodName) prog_9_method_8_code (4 : Nat) (Option.none : Option Jvm.ClassFile.FieldType)) ∈ lw_all := lw_g (lw_at lw_m2 131 rfl) rfl
theorem q400 : (Jvm.Cond.methodLink "LazyPages$Row" (64 : Nat) ({ cls := "java/lang/Math", name := "max", desc := "(II)I" } : Jvm.MethodName)) ∈ lw_all := lw_g (lw_at lw_m2 132 rfl) rfl
theorem q401 : (Jvm.Cond.methodLink "LazyPages$Row" (53 : Nat) ({ cls := "LazyPages$Row", name := "has", desc := "(I)Z" } : Jvm.MethodName)) ∈ lw_all := lw_g (lw_at lw_m2 133 rfl) rfl
theorem q402 : (Jvm.Cond.instanceMethod ({ cls := "LazyPages$Row", name := "has", desc := "(I)Z" } : Jvm.MethodName)) ∈ lw_all := lw_g (lw_at lw_m2 134 rfl) rfl
theorem q403 : (Jvm.Cond.selects "LazyPages$Row" ({ cls := "LazyPages$Row", name := "has", desc := "(I)Z" } : Jvm.MethodName) ({ cls := "LazyPages$Row", name := "has", desc := "(I)Z" } : Jvm.MethodName)) ∈ lw_all := lw_g (lw_at lw_m2 135 rfl) rfl
theorem q404 : (Jvm.Cond.code ({ cls := "LazyPages$Row", name := "has", desc := "(I)Z" } : Jvm.MethodName) prog_9_method_3_code (3 : Nat) (Option.some Jvm.ClassFile.FieldType.boolean)) ∈ lw_all := lw_g (lw_at lw_m2 136 rfl) rfl
theorem q405 : (Jvm.Cond.methodLink "LazyPages$Row" (57 : Nat) ({ cls := "java/lang/Math", name := "max", desc := "(JJ)J" } : Jvm.MethodName)) ∈ lw_all := lw_g (lw_at lw_m2 137 rfl) rfl
theorem in_X4 : ∀ w ∈ wsX40, w ∈ lw_all := lw_in wsX40 [78, 80, 82] (by decide +kernel) (by decide +kernel)
def RX5 : String := "LazyPages$Pair"
def TX5 : u_T := fun k => match k with
  | 0 => ("LazyPages$Pair", "there", "Z", false)
  | _ => ("LazyPages$Pair", "value", "J", false)
def tyX5 : Nat → FieldType := fun k => match k with
  | 0 => .boolean
  | _ => .long
abbrev wsX50 : List Cond := u_ws RX5 TX5 2
theorem nmX5 : ∀ a, a < 2 → ∀ b, b < 2 → a ≠ b → (TX5 a).2.1 ≠ (TX5 b).2.1 := by decide +kernel
theorem tyX5_ok : ∀ k, k < 2 → parseFieldDescriptor (TX5 k).2.2.1 = some (tyX5 k) := by decide +kernel
abbrev cX5_init : ByteArray := prog_8_method_1_code
def yX5_init : MethodName := ⟨RX5, "<init>", "()V"⟩
abbrev cX5_take : ByteArray := prog_8_method_2_code
def yX5_take : MethodName := ⟨RX5, "take", "(LLazyPages$Message;)V"⟩
theorem q33 : (Jvm.Cond.initialized "LazyPages$Pair") ∈ lw_all := lw_g (lw_at lw_m1 5 rfl) rfl
theorem q106 : (Jvm.Cond.instantiable "LazyPages$Pair" (2 : Nat)) ∈ lw_all := lw_g (lw_at lw_m1 78 rfl) rfl
theorem q108 : (Jvm.Cond.instanceMethod ({ cls := "LazyPages$Pair", name := "<init>", desc := "()V" } : Jvm.MethodName)) ∈ lw_all := lw_g (lw_at lw_m1 80 rfl) rfl
theorem q109 : (Jvm.Cond.code ({ cls := "LazyPages$Pair", name := "<init>", desc := "()V" } : Jvm.MethodName) prog_8_method_1_code (1 : Nat) (Option.none : Option Jvm.ClassFile.FieldType)) ∈ lw_all := lw_g (lw_at lw_m1 81 rfl) rfl
theorem q110 : (Jvm.Cond.methodLink "LazyPages$Pair" (3 : Nat) ({ cls := "java/lang/Object", name := "<init>", desc := "()V" } : Jvm.MethodName)) ∈ lw_all := lw_g (lw_at lw_m1 82 rfl) rfl
theorem q111 : (Jvm.Cond.fieldLink "LazyPages$Pair" (15 : Nat) "LazyPages$Pair" "there" "Z") ∈ lw_all := lw_g (lw_at lw_m1 83 rfl) rfl
theorem q114 : (Jvm.Cond.fieldLink "LazyPages$Pair" (21 : Nat) "LazyPages$Pair" "value" "J") ∈ lw_all := lw_g (lw_at lw_m1 86 rfl) rfl
theorem q117 : (Jvm.Cond.lays "LazyPages$Pair" "LazyPages$Pair" "there" "Z") ∈ lw_all := lw_g (lw_at lw_m1 89 rfl) rfl
theorem q118 : (Jvm.Cond.soleField "LazyPages$Pair" "there") ∈ lw_all := lw_g (lw_at lw_m1 90 rfl) rfl
theorem q119 : (Jvm.Cond.lays "LazyPages$Pair" "LazyPages$Pair" "value" "J") ∈ lw_all := lw_g (lw_at lw_m1 91 rfl) rfl
theorem q120 : (Jvm.Cond.soleField "LazyPages$Pair" "value") ∈ lw_all := lw_g (lw_at lw_m1 92 rfl) rfl
theorem q121 : (Jvm.Cond.superclass "LazyPages$Pair" "java/lang/Object") ∈ lw_all := lw_g (lw_at lw_m1 93 rfl) rfl
theorem q334 : (Jvm.Cond.fieldLink "LazyPages$Pair" (9 : Nat) "LazyPages$Message" "kind" "I") ∈ lw_all := lw_g (lw_at lw_m2 66 rfl) rfl
theorem q344 : (Jvm.Cond.fieldLink "LazyPages$Pair" (25 : Nat) "LazyPages$Message" "value" "J") ∈ lw_all := lw_g (lw_at lw_m2 76 rfl) rfl
theorem q515 : (Jvm.Cond.instanceMethod ({ cls := "LazyPages$Pair", name := "take", desc := "(LLazyPages$Message;)V" } : Jvm.MethodName)) ∈ lw_all := lw_g (lw_at lw_m3 7 rfl) rfl
theorem q516 : (Jvm.Cond.selects "LazyPages$Pair" ({ cls := "LazyPages$Pair", name := "take", desc := "(LLazyPages$Message;)V" } : Jvm.MethodName) ({ cls := "LazyPages$Pair", name := "take", desc := "(LLazyPages$Message;)V" } : Jvm.MethodName)) ∈ lw_all := lw_g (lw_at lw_m3 8 rfl) rfl
theorem q517 : (Jvm.Cond.code ({ cls := "LazyPages$Pair", name := "take", desc := "(LLazyPages$Message;)V" } : Jvm.MethodName) prog_8_method_2_code (2 : Nat) (Option.none : Option Jvm.ClassFile.FieldType)) ∈ lw_all := lw_g (lw_at lw_m3 9 rfl) rfl
theorem q518 : (Jvm.Cond.methodLink "LazyPages$Pair" (26 : Nat) ({ cls := "java/lang/Math", name := "max", desc := "(JJ)J" } : Jvm.MethodName)) ∈ lw_all := lw_g (lw_at lw_m3 10 rfl) rfl
theorem in_X5 : ∀ w ∈ wsX50, w ∈ lw_all := lw_in wsX50 [117, 119] (by decide +kernel) (by decide +kernel)
def RX6 : String := "LazyPages$Work"
def TX6 : u_T := fun k => match k with
  | 0 => ("LazyPages$Work", "rows", "[LLazyPages$Row;", true)
  | 1 => ("LazyPages$Work", "gone", "[LLazyPages$Letters;", true)
  | 2 => ("LazyPages$Work", "left", "[LLazyPages$Letters;", true)
  | _ => ("LazyPages$Work", "come", "[LLazyPages$Pages;", true)
def tyX6 : Nat → FieldType := fun k => match k with
  | 0 => .array (.object "LazyPages$Row")
  | 1 => .array (.object "LazyPages$Letters")
  | 2 => .array (.object "LazyPages$Letters")
  | _ => .array (.object "LazyPages$Pages")
abbrev wsX60 : List Cond := u_ws RX6 TX6 4
theorem nmX6 : ∀ a, a < 4 → ∀ b, b < 4 → a ≠ b → (TX6 a).2.1 ≠ (TX6 b).2.1 := by decide +kernel
theorem tyX6_ok : ∀ k, k < 4 → parseFieldDescriptor (TX6 k).2.2.1 = some (tyX6 k) := by decide +kernel
abbrev cX6_init : ByteArray := prog_10_method_1_code
def yX6_init : MethodName := ⟨RX6, "<init>", "()V"⟩
abbrev cX6_made : ByteArray := prog_10_method_5_code
def yX6_made : MethodName := ⟨RX6, "made", "(I)LLazyPages$Pages;"⟩
abbrev cX6_go : ByteArray := prog_10_method_3_code
def yX6_go : MethodName := ⟨RX6, "go", "(I)LLazyPages$Letters;"⟩
abbrev cX6_empty : ByteArray := prog_10_method_2_code
def yX6_empty : MethodName := ⟨RX6, "empty", "([LLazyPages$Letters;I)LLazyPages$Letters;"⟩
abbrev cX6_stay : ByteArray := prog_10_method_4_code
def yX6_stay : MethodName := ⟨RX6, "stay", "(I)LLazyPages$Letters;"⟩
abbrev cX6_at : ByteArray := prog_10_method_6_code
def yX6_at : MethodName := ⟨RX6, "at", "(I)LLazyPages$Row;"⟩
theorem q34 : (Jvm.Cond.initialized "LazyPages$Work") ∈ lw_all := lw_g (lw_at lw_m1 6 rfl) rfl
theorem q77 : (Jvm.Cond.fieldLink "LazyPages$Work" (42 : Nat) "LazyPages$Row" "many" "I") ∈ lw_all := lw_g (lw_at lw_m1 49 rfl) rfl
theorem q125 : (Jvm.Cond.instantiable "LazyPages$Work" (4 : Nat)) ∈ lw_all := lw_g (lw_at lw_m1 97 rfl) rfl
theorem q127 : (Jvm.Cond.instanceMethod ({ cls := "LazyPages$Work", name := "<init>", desc := "()V" } : Jvm.MethodName)) ∈ lw_all := lw_g (lw_at lw_m1 99 rfl) rfl
theorem q128 : (Jvm.Cond.code ({ cls := "LazyPages$Work", name := "<init>", desc := "()V" } : Jvm.MethodName) prog_10_method_1_code (1 : Nat) (Option.none : Option Jvm.ClassFile.FieldType)) ∈ lw_all := lw_g (lw_at lw_m1 100 rfl) rfl
theorem q129 : (Jvm.Cond.methodLink "LazyPages$Work" (1 : Nat) ({ cls := "java/lang/Object", name := "<init>", desc := "()V" } : Jvm.MethodName)) ∈ lw_all := lw_g (lw_at lw_m1 101 rfl) rfl
theorem q130 : (Jvm.Cond.classLink "LazyPages$Work" (7 : Nat) "LazyPages$Row") ∈ lw_all := lw_g (lw_at lw_m1 102 rfl) rfl
theorem q132 : (Jvm.Cond.classLink "LazyPages$Work" (15 : Nat) "LazyPages$Letters") ∈ lw_all := lw_g (lw_at lw_m1 104 rfl) rfl
theorem q134 : (Jvm.Cond.classLink "LazyPages$Work" (24 : Nat) "LazyPages$Pages") ∈ lw_all := lw_g (lw_at lw_m1 106 rfl) rfl
theorem q136 : (Jvm.Cond.fieldLink "LazyPages$Work" (9 : Nat) "LazyPages$Work" "rows" "[LLazyPages$Row;") ∈ lw_all := lw_g (lw_at lw_m1 108 rfl) rfl
theorem q137 : (Jvm.Cond.fieldLink "LazyPages$Work" (17 : Nat) "LazyPages$Work" "gone" "[LLazyPages$Letters;") ∈ lw_all := lw_g (lw_at lw_m1 109 rfl) rfl
theorem q138 : (Jvm.Cond.fieldLink "LazyPages$Work" (21 : Nat) "LazyPages$Work" "left" "[LLazyPages$Letters;") ∈ lw_all := lw_g (lw_at lw_m1 110 rfl) rfl
theorem q139 : (Jvm.Cond.fieldLink "LazyPages$Work" (26 : Nat) "LazyPages$Work" "come" "[LLazyPages$Pages;") ∈ lw_all := lw_g (lw_at lw_m1 111 rfl) rfl
theorem q140 : (Jvm.Cond.laysFinal "LazyPages$Work" "LazyPages$Work" "rows" "[LLazyPages$Row;") ∈ lw_all := lw_g (lw_at lw_m1 112 rfl) rfl
theorem q141 : (Jvm.Cond.soleField "LazyPages$Work" "rows") ∈ lw_all := lw_g (lw_at lw_m1 113 rfl) rfl
theorem q142 : (Jvm.Cond.laysFinal "LazyPages$Work" "LazyPages$Work" "gone" "[LLazyPages$Letters;") ∈ lw_all := lw_g (lw_at lw_m1 114 rfl) rfl
theorem q143 : (Jvm.Cond.soleField "LazyPages$Work" "gone") ∈ lw_all := lw_g (lw_at lw_m1 115 rfl) rfl
theorem q144 : (Jvm.Cond.laysFinal "LazyPages$Work" "LazyPages$Work" "left" "[LLazyPages$Letters;") ∈ lw_all := lw_g (lw_at lw_m1 116 rfl) rfl
theorem q145 : (Jvm.Cond.soleField "LazyPages$Work" "left") ∈ lw_all := lw_g (lw_at lw_m1 117 rfl) rfl
theorem q146 : (Jvm.Cond.laysFinal "LazyPages$Work" "LazyPages$Work" "come" "[LLazyPages$Pages;") ∈ lw_all := lw_g (lw_at lw_m1 118 rfl) rfl
theorem q147 : (Jvm.Cond.soleField "LazyPages$Work" "come") ∈ lw_all := lw_g (lw_at lw_m1 119 rfl) rfl
theorem q148 : (Jvm.Cond.superclass "LazyPages$Work" "java/lang/Object") ∈ lw_all := lw_g (lw_at lw_m1 120 rfl) rfl
theorem q162 : (Jvm.Cond.fieldLink "LazyPages$Work" (31 : Nat) "LazyPages$Letters" "many" "I") ∈ lw_all := lw_g (lw_at lw_m1 134 rfl) rfl
theorem q232 : (Jvm.Cond.instanceMethod ({ cls := "LazyPages$Work", name := "made", desc := "(I)LLazyPages$Pages;" } : Jvm.MethodName)) ∈ lw_all := lw_g (lw_at lw_m1 204 rfl) rfl
theorem q233 : (Jvm.Cond.selects "LazyPages$Work" ({ cls := "LazyPages$Work", name := "made", desc := "(I)LLazyPages$Pages;" } : Jvm.MethodName) ({ cls := "LazyPages$Work", name := "made", desc := "(I)LLazyPages$Pages;" } : Jvm.MethodName)) ∈ lw_all := lw_g (lw_at lw_m1 205 rfl) rfl
theorem q234 : (Jvm.Cond.code ({ cls := "LazyPages$Work", name := "made", desc := "(I)LLazyPages$Pages;" } : Jvm.MethodName) prog_10_method_5_code (2 : Nat) (Option.some (Jvm.ClassFile.FieldType.object "LazyPages$Pages"))) ∈ lw_all := lw_g (lw_at lw_m1 206 rfl) rfl
theorem q236 : (Jvm.Cond.methodLinkNest "LazyPages$Work" (39 : Nat) ({ cls := "LazyPages$Pages", name := "<init>", desc := "()V" } : Jvm.MethodName) "LazyPages") ∈ lw_tbl := lw_at lw_m1 208 rfl
theorem q249 : (Jvm.Cond.fieldLink "LazyPages$Work" (40 : Nat) "LazyPages$Pages" "many" "I") ∈ lw_all := lw_g (lw_at lw_m1 221 rfl) rfl
theorem q308 : (Jvm.Cond.instanceMethod ({ cls := "LazyPages$Work", name := "go", desc := "(I)LLazyPages$Letters;" } : Jvm.MethodName)) ∈ lw_all := lw_g (lw_at lw_m2 40 rfl) rfl
theorem q309 : (Jvm.Cond.selects "LazyPages$Work" ({ cls := "LazyPages$Work", name := "go", desc := "(I)LLazyPages$Letters;" } : Jvm.MethodName) ({ cls := "LazyPages$Work", name := "go", desc := "(I)LLazyPages$Letters;" } : Jvm.MethodName)) ∈ lw_all := lw_g (lw_at lw_m2 41 rfl) rfl
theorem q310 : (Jvm.Cond.code ({ cls := "LazyPages$Work", name := "go", desc := "(I)LLazyPages$Letters;" } : Jvm.MethodName) prog_10_method_3_code (2 : Nat) (Option.some (Jvm.ClassFile.FieldType.object "LazyPages$Letters"))) ∈ lw_all := lw_g (lw_at lw_m2 42 rfl) rfl
theorem q311 : (Jvm.Cond.methodLink "LazyPages$Work" (35 : Nat) ({ cls := "LazyPages$Work", name := "empty", desc := "([LLazyPages$Letters;I)LLazyPages$Letters;" } : Jvm.MethodName)) ∈ lw_all := lw_g (lw_at lw_m2 43 rfl) rfl
theorem q312 : (Jvm.Cond.static ({ cls := "LazyPages$Work", name := "empty", desc := "([LLazyPages$Letters;I)LLazyPages$Letters;" } : Jvm.MethodName)) ∈ lw_all := lw_g (lw_at lw_m2 44 rfl) rfl
theorem q313 : (Jvm.Cond.code ({ cls := "LazyPages$Work", name := "empty", desc := "([LLazyPages$Letters;I)LLazyPages$Letters;" } : Jvm.MethodName) prog_10_method_2_code (2 : Nat) (Option.some (Jvm.ClassFile.FieldType.object "LazyPages$Letters"))) ∈ lw_all := lw_g (lw_at lw_m2 45 rfl) rfl
theorem q314 : (Jvm.Cond.methodLinkNest "LazyPages$Work" (30 : Nat) ({ cls := "LazyPages$Letters", name := "<init>", desc := "()V" } : Jvm.MethodName) "LazyPages") ∈ lw_tbl := lw_at lw_m2 46 rfl
theorem q316 : (Jvm.Cond.instanceMethod ({ cls := "LazyPages$Work", name := "stay", desc := "(I)LLazyPages$Letters;" } : Jvm.MethodName)) ∈ lw_all := lw_g (lw_at lw_m2 48 rfl) rfl
theorem q317 : (Jvm.Cond.selects "LazyPages$Work" ({ cls := "LazyPages$Work", name := "stay", desc := "(I)LLazyPages$Letters;" } : Jvm.MethodName) ({ cls := "LazyPages$Work", name := "stay", desc := "(I)LLazyPages$Letters;" } : Jvm.MethodName)) ∈ lw_all := lw_g (lw_at lw_m2 49 rfl) rfl
theorem q318 : (Jvm.Cond.code ({ cls := "LazyPages$Work", name := "stay", desc := "(I)LLazyPages$Letters;" } : Jvm.MethodName) prog_10_method_4_code (2 : Nat) (Option.some (Jvm.ClassFile.FieldType.object "LazyPages$Letters"))) ∈ lw_all := lw_g (lw_at lw_m2 50 rfl) rfl
theorem q462 : (Jvm.Cond.instanceMethod ({ cls := "LazyPages$Work", name := "at", desc := "(I)LLazyPages$Row;" } : Jvm.MethodName)) ∈ lw_all := lw_g (lw_at lw_m2 194 rfl) rfl
theorem q463 : (Jvm.Cond.selects "LazyPages$Work" ({ cls := "LazyPages$Work", name := "at", desc := "(I)LLazyPages$Row;" } : Jvm.MethodName) ({ cls := "LazyPages$Work", name := "at", desc := "(I)LLazyPages$Row;" } : Jvm.MethodName)) ∈ lw_all := lw_g (lw_at lw_m2 195 rfl) rfl
theorem q464 : (Jvm.Cond.code ({ cls := "LazyPages$Work", name := "at", desc := "(I)LLazyPages$Row;" } : Jvm.MethodName) prog_10_method_6_code (2 : Nat) (Option.some (Jvm.ClassFile.FieldType.object "LazyPages$Row"))) ∈ lw_all := lw_g (lw_at lw_m2 196 rfl) rfl
theorem q465 : (Jvm.Cond.methodLinkNest "LazyPages$Work" (41 : Nat) ({ cls := "LazyPages$Row", name := "<init>", desc := "()V" } : Jvm.MethodName) "LazyPages") ∈ lw_tbl := lw_at lw_m2 197 rfl
theorem in_X6 : ∀ w ∈ wsX60, w ∈ lw_all := lw_in wsX60 [140, 142, 144, 146] (by decide +kernel) (by decide +kernel)
def RX7 : String := "LazyPages$Letters"
def TX7 : u_T := fun k => match k with
  | 0 => ("LazyPages$Letters", "row", "[LLazyPages$Message;", false)
  | _ => ("LazyPages$Letters", "many", "I", false)
def tyX7 : Nat → FieldType := fun k => match k with
  | 0 => .array (.object "LazyPages$Message")
  | _ => .int
abbrev wsX70 : List Cond := u_ws RX7 TX7 2
theorem nmX7 : ∀ a, a < 2 → ∀ b, b < 2 → a ≠ b → (TX7 a).2.1 ≠ (TX7 b).2.1 := by decide +kernel
theorem tyX7_ok : ∀ k, k < 2 → parseFieldDescriptor (TX7 k).2.2.1 = some (tyX7 k) := by decide +kernel
abbrev cX7_init : ByteArray := prog_4_method_1_code
def yX7_init : MethodName := ⟨RX7, "<init>", "()V"⟩
abbrev cX7_add : ByteArray := prog_4_method_2_code
def yX7_add : MethodName := ⟨RX7, "add", "(LLazyPages$Message;)V"⟩
abbrev cX7_become : ByteArray := prog_4_method_3_code
def yX7_become : MethodName := ⟨RX7, "become", "(LLazyPages$Letters;)V"⟩
theorem q35 : (Jvm.Cond.initialized "LazyPages$Letters") ∈ lw_all := lw_g (lw_at lw_m1 7 rfl) rfl
theorem q150 : (Jvm.Cond.instantiable "LazyPages$Letters" (2 : Nat)) ∈ lw_all := lw_g (lw_at lw_m1 122 rfl) rfl
theorem q152 : (Jvm.Cond.instanceMethod ({ cls := "LazyPages$Letters", name := "<init>", desc := "()V" } : Jvm.MethodName)) ∈ lw_all := lw_g (lw_at lw_m1 124 rfl) rfl
theorem q153 : (Jvm.Cond.code ({ cls := "LazyPages$Letters", name := "<init>", desc := "()V" } : Jvm.MethodName) prog_4_method_1_code (1 : Nat) (Option.none : Option Jvm.ClassFile.FieldType)) ∈ lw_all := lw_g (lw_at lw_m1 125 rfl) rfl
theorem q154 : (Jvm.Cond.methodLink "LazyPages$Letters" (1 : Nat) ({ cls := "java/lang/Object", name := "<init>", desc := "()V" } : Jvm.MethodName)) ∈ lw_all := lw_g (lw_at lw_m1 126 rfl) rfl
theorem q155 : (Jvm.Cond.classLink "LazyPages$Letters" (7 : Nat) "LazyPages$Message") ∈ lw_all := lw_g (lw_at lw_m1 127 rfl) rfl
theorem q157 : (Jvm.Cond.fieldLink "LazyPages$Letters" (9 : Nat) "LazyPages$Letters" "row" "[LLazyPages$Message;") ∈ lw_all := lw_g (lw_at lw_m1 129 rfl) rfl
theorem q161 : (Jvm.Cond.fieldLink "LazyPages$Letters" (15 : Nat) "LazyPages$Letters" "many" "I") ∈ lw_all := lw_g (lw_at lw_m1 133 rfl) rfl
theorem q166 : (Jvm.Cond.lays "LazyPages$Letters" "LazyPages$Letters" "row" "[LLazyPages$Message;") ∈ lw_all := lw_g (lw_at lw_m1 138 rfl) rfl
theorem q167 : (Jvm.Cond.soleField "LazyPages$Letters" "row") ∈ lw_all := lw_g (lw_at lw_m1 139 rfl) rfl
theorem q168 : (Jvm.Cond.lays "LazyPages$Letters" "LazyPages$Letters" "many" "I") ∈ lw_all := lw_g (lw_at lw_m1 140 rfl) rfl
theorem q169 : (Jvm.Cond.soleField "LazyPages$Letters" "many") ∈ lw_all := lw_g (lw_at lw_m1 141 rfl) rfl
theorem q170 : (Jvm.Cond.superclass "LazyPages$Letters" "java/lang/Object") ∈ lw_all := lw_g (lw_at lw_m1 142 rfl) rfl
theorem q272 : (Jvm.Cond.instanceMethod ({ cls := "LazyPages$Letters", name := "add", desc := "(LLazyPages$Message;)V" } : Jvm.MethodName)) ∈ lw_all := lw_g (lw_at lw_m2 4 rfl) rfl
theorem q273 : (Jvm.Cond.selects "LazyPages$Letters" ({ cls := "LazyPages$Letters", name := "add", desc := "(LLazyPages$Message;)V" } : Jvm.MethodName) ({ cls := "LazyPages$Letters", name := "add", desc := "(LLazyPages$Message;)V" } : Jvm.MethodName)) ∈ lw_all := lw_g (lw_at lw_m2 5 rfl) rfl
theorem q274 : (Jvm.Cond.code ({ cls := "LazyPages$Letters", name := "add", desc := "(LLazyPages$Message;)V" } : Jvm.MethodName) prog_4_method_2_code (4 : Nat) (Option.none : Option Jvm.ClassFile.FieldType)) ∈ lw_all := lw_g (lw_at lw_m2 6 rfl) rfl
theorem q356 : (Jvm.Cond.instanceMethod ({ cls := "LazyPages$Letters", name := "become", desc := "(LLazyPages$Letters;)V" } : Jvm.MethodName)) ∈ lw_all := lw_g (lw_at lw_m2 88 rfl) rfl
theorem q357 : (Jvm.Cond.selects "LazyPages$Letters" ({ cls := "LazyPages$Letters", name := "become", desc := "(LLazyPages$Letters;)V" } : Jvm.MethodName) ({ cls := "LazyPages$Letters", name := "become", desc := "(LLazyPages$Letters;)V" } : Jvm.MethodName)) ∈ lw_all := lw_g (lw_at lw_m2 89 rfl) rfl
theorem q358 : (Jvm.Cond.code ({ cls := "LazyPages$Letters", name := "become", desc := "(LLazyPages$Letters;)V" } : Jvm.MethodName) prog_4_method_3_code (3 : Nat) (Option.none : Option Jvm.ClassFile.FieldType)) ∈ lw_all := lw_g (lw_at lw_m2 90 rfl) rfl
theorem q359 : (Jvm.Cond.methodLink "LazyPages$Letters" (19 : Nat) ({ cls := "LazyPages$Letters", name := "add", desc := "(LLazyPages$Message;)V" } : Jvm.MethodName)) ∈ lw_all := lw_g (lw_at lw_m2 91 rfl) rfl
theorem in_X7 : ∀ w ∈ wsX70, w ∈ lw_all := lw_in wsX70 [166, 168] (by decide +kernel) (by decide +kernel)
def RX8 : String := "LazyPagesModel"
def TX8 : u_T := fun k => match k with
  | 0 => ("LazyPagesModel", "thrown", "I", false)
  | 1 => ("LazyPagesModel", "keys", "[I", true)
  | 2 => ("LazyPagesModel", "values", "[J", true)
  | 3 => ("LazyPagesModel", "sizes", "[I", true)
  | 4 => ("LazyPagesModel", "saved", "[Z", true)
  | 5 => ("LazyPagesModel", "kinds", "[B", true)
  | 6 => ("LazyPagesModel", "firsts", "[I", true)
  | 7 => ("LazyPagesModel", "lasts", "[I", true)
  | 8 => ("LazyPagesModel", "amounts", "[J", true)
  | 9 => ("LazyPagesModel", "messages", "I", false)
  | _ => ("LazyPagesModel", "kept", "I", false)
def tyX8 : Nat → FieldType := fun k => match k with
  | 0 => .int
  | 1 => .array .int
  | 2 => .array .long
  | 3 => .array .int
  | 4 => .array .boolean
  | 5 => .array .byte
  | 6 => .array .int
  | 7 => .array .int
  | 8 => .array .long
  | 9 => .int
  | _ => .int
abbrev wsX80 : List Cond := u_ws RX8 TX8 11
theorem nmX8 : ∀ a, a < 11 → ∀ b, b < 11 → a ≠ b → (TX8 a).2.1 ≠ (TX8 b).2.1 := by decide +kernel
theorem tyX8_ok : ∀ k, k < 11 → parseFieldDescriptor (TX8 k).2.2.1 = some (tyX8 k) := by decide +kernel
abbrev cX8_init : ByteArray := prog_12_method_1_code
def yX8_init : MethodName := ⟨RX8, "<init>", "()V"⟩
abbrev cX8_thrown : ByteArray := prog_12_method_2_code
def yX8_thrown : MethodName := ⟨RX8, "thrown", "()I"⟩
abbrev cX8_put : ByteArray := prog_12_method_12_code
def yX8_put : MethodName := ⟨RX8, "put", "(IJ)I"⟩
abbrev cX8_isRefused : ByteArray := prog_12_method_11_code
def yX8_isRefused : MethodName := ⟨RX8, "isRefused", "(I)Z"⟩
abbrev cX8_isIn : ByteArray := prog_12_method_4_code
def yX8_isIn : MethodName := ⟨RX8, "isIn", "(II)Z"⟩
abbrev cX8_below : ByteArray := prog_12_method_3_code
def yX8_below : MethodName := ⟨RX8, "below", "(IJ)I"⟩
abbrev cX8_message : ByteArray := prog_12_method_10_code
def yX8_message : MethodName := ⟨RX8, "message", "(IIIJ)J"⟩
abbrev cX8_done : ByteArray := prog_12_method_9_code
def yX8_done : MethodName := ⟨RX8, "done", "(IIIJ)J"⟩
abbrev cX8_doDelete : ByteArray := prog_12_method_7_code
def yX8_doDelete : MethodName := ⟨RX8, "doDelete", "(II)I"⟩
abbrev cX8_doRaise : ByteArray := prog_12_method_8_code
def yX8_doRaise : MethodName := ⟨RX8, "doRaise", "(IIJ)I"⟩
abbrev cX8_valueIn : ByteArray := prog_12_method_5_code
def yX8_valueIn : MethodName := ⟨RX8, "valueIn", "(II)J"⟩
abbrev cX8_enter : ByteArray := prog_12_method_6_code
def yX8_enter : MethodName := ⟨RX8, "enter", "(IJ)V"⟩
abbrev cX8_add : ByteArray := prog_12_method_13_code
def yX8_add : MethodName := ⟨RX8, "add", "(IJ)J"⟩
abbrev cX8_most : ByteArray := prog_12_method_14_code
def yX8_most : MethodName := ⟨RX8, "most", "(IJ)J"⟩
abbrev cX8_delete : ByteArray := prog_12_method_15_code
def yX8_delete : MethodName := ⟨RX8, "delete", "(II)I"⟩
abbrev cX8_raise : ByteArray := prog_12_method_16_code
def yX8_raise : MethodName := ⟨RX8, "raise", "(IIJ)I"⟩
abbrev cX8_putAll : ByteArray := prog_12_method_17_code
def yX8_putAll : MethodName := ⟨RX8, "putAll", "(IIJJI)I"⟩
abbrev cX8_has : ByteArray := prog_12_method_19_code
def yX8_has : MethodName := ⟨RX8, "has", "(II)Z"⟩
abbrev cX8_rowOf : ByteArray := prog_12_method_18_code
def yX8_rowOf : MethodName := ⟨RX8, "rowOf", "(I)I"⟩
abbrev cX8_get : ByteArray := prog_12_method_20_code
def yX8_get : MethodName := ⟨RX8, "get", "(II)J"⟩
abbrev cX8_count : ByteArray := prog_12_method_21_code
def yX8_count : MethodName := ⟨RX8, "count", "(III)I"⟩
abbrev cX8_sum : ByteArray := prog_12_method_22_code
def yX8_sum : MethodName := ⟨RX8, "sum", "(III)J"⟩
abbrev cX8_key : ByteArray := prog_12_method_23_code
def yX8_key : MethodName := ⟨RX8, "key", "(III)I"⟩
abbrev cX8_save : ByteArray := prog_12_method_25_code
def yX8_save : MethodName := ⟨RX8, "save", "(I)V"⟩
abbrev cX8_isView : ByteArray := prog_12_method_24_code
def yX8_isView : MethodName := ⟨RX8, "isView", "(I)Z"⟩
abbrev cX8_drop : ByteArray := prog_12_method_26_code
def yX8_drop : MethodName := ⟨RX8, "drop", "(I)Z"⟩
abbrev cX8_restore : ByteArray := prog_12_method_27_code
def yX8_restore : MethodName := ⟨RX8, "restore", "(I)I"⟩
abbrev cX8_differ : ByteArray := prog_12_method_28_code
def yX8_differ : MethodName := ⟨RX8, "differ", "(II)I"⟩
abbrev cX8_settle : ByteArray := prog_12_method_29_code
def yX8_settle : MethodName := ⟨RX8, "settle", "()V"⟩
abbrev cX8_sync : ByteArray := prog_12_method_30_code
def yX8_sync : MethodName := ⟨RX8, "sync", "()I"⟩
abbrev cX8_checkpoint : ByteArray := prog_12_method_31_code
def yX8_checkpoint : MethodName := ⟨RX8, "checkpoint", "()I"⟩
abbrev cX8_crash : ByteArray := prog_12_method_32_code
def yX8_crash : MethodName := ⟨RX8, "crash", "()I"⟩
abbrev cX8_total : ByteArray := prog_12_method_33_code
def yX8_total : MethodName := ⟨RX8, "total", "(I)I"⟩
abbrev cX8_isSound : ByteArray := prog_12_method_34_code
def yX8_isSound : MethodName := ⟨RX8, "isSound", "()Z"⟩
theorem q36 : (Jvm.Cond.initialized "LazyPagesModel") ∈ lw_all := lw_g (lw_at lw_m1 8 rfl) rfl
theorem q786 : (Jvm.Cond.instantiable "LazyPagesModel" (11 : Nat)) ∈ lw_all := lw_g (lw_at lw_m4 38 rfl) rfl
theorem q788 : (Jvm.Cond.instanceMethod ({ cls := "LazyPagesModel", name := "<init>", desc := "()V" } : Jvm.MethodName)) ∈ lw_all := lw_g (lw_at lw_m4 40 rfl) rfl
theorem q789 : (Jvm.Cond.code ({ cls := "LazyPagesModel", name := "<init>", desc := "()V" } : Jvm.MethodName) prog_12_method_1_code (1 : Nat) (Option.none : Option Jvm.ClassFile.FieldType)) ∈ lw_all := lw_g (lw_at lw_m4 41 rfl) rfl
theorem q790 : (Jvm.Cond.methodLink "LazyPagesModel" (1 : Nat) ({ cls := "java/lang/Object", name := "<init>", desc := "()V" } : Jvm.MethodName)) ∈ lw_all := lw_g (lw_at lw_m4 42 rfl) rfl
theorem q791 : (Jvm.Cond.fieldLink "LazyPagesModel" (37 : Nat) "LazyPagesModel" "thrown" "I") ∈ lw_all := lw_g (lw_at lw_m4 43 rfl) rfl
theorem q792 : (Jvm.Cond.fieldLink "LazyPagesModel" (7 : Nat) "LazyPagesModel" "keys" "[I") ∈ lw_all := lw_g (lw_at lw_m4 44 rfl) rfl
theorem q793 : (Jvm.Cond.fieldLink "LazyPagesModel" (13 : Nat) "LazyPagesModel" "values" "[J") ∈ lw_all := lw_g (lw_at lw_m4 45 rfl) rfl
theorem q794 : (Jvm.Cond.fieldLink "LazyPagesModel" (17 : Nat) "LazyPagesModel" "sizes" "[I") ∈ lw_all := lw_g (lw_at lw_m4 46 rfl) rfl
theorem q795 : (Jvm.Cond.fieldLink "LazyPagesModel" (20 : Nat) "LazyPagesModel" "saved" "[Z") ∈ lw_all := lw_g (lw_at lw_m4 47 rfl) rfl
theorem q796 : (Jvm.Cond.fieldLink "LazyPagesModel" (24 : Nat) "LazyPagesModel" "kinds" "[B") ∈ lw_all := lw_g (lw_at lw_m4 48 rfl) rfl
theorem q797 : (Jvm.Cond.fieldLink "LazyPagesModel" (28 : Nat) "LazyPagesModel" "firsts" "[I") ∈ lw_all := lw_g (lw_at lw_m4 49 rfl) rfl
theorem q798 : (Jvm.Cond.fieldLink "LazyPagesModel" (31 : Nat) "LazyPagesModel" "lasts" "[I") ∈ lw_all := lw_g (lw_at lw_m4 50 rfl) rfl
theorem q799 : (Jvm.Cond.fieldLink "LazyPagesModel" (34 : Nat) "LazyPagesModel" "amounts" "[J") ∈ lw_all := lw_g (lw_at lw_m4 51 rfl) rfl
theorem q800 : (Jvm.Cond.fieldLink "LazyPagesModel" (65 : Nat) "LazyPagesModel" "messages" "I") ∈ lw_all := lw_g (lw_at lw_m4 52 rfl) rfl
theorem q801 : (Jvm.Cond.fieldLink "LazyPagesModel" (88 : Nat) "LazyPagesModel" "kept" "I") ∈ lw_all := lw_g (lw_at lw_m4 53 rfl) rfl
theorem q802 : (Jvm.Cond.lays "LazyPagesModel" "LazyPagesModel" "thrown" "I") ∈ lw_all := lw_g (lw_at lw_m4 54 rfl) rfl
theorem q803 : (Jvm.Cond.soleField "LazyPagesModel" "thrown") ∈ lw_all := lw_g (lw_at lw_m4 55 rfl) rfl
theorem q804 : (Jvm.Cond.laysFinal "LazyPagesModel" "LazyPagesModel" "keys" "[I") ∈ lw_all := lw_g (lw_at lw_m4 56 rfl) rfl
theorem q805 : (Jvm.Cond.soleField "LazyPagesModel" "keys") ∈ lw_all := lw_g (lw_at lw_m4 57 rfl) rfl
theorem q806 : (Jvm.Cond.laysFinal "LazyPagesModel" "LazyPagesModel" "values" "[J") ∈ lw_all := lw_g (lw_at lw_m4 58 rfl) rfl
theorem q807 : (Jvm.Cond.soleField "LazyPagesModel" "values") ∈ lw_all := lw_g (lw_at lw_m4 59 rfl) rfl
theorem q808 : (Jvm.Cond.laysFinal "LazyPagesModel" "LazyPagesModel" "sizes" "[I") ∈ lw_all := lw_g (lw_at lw_m4 60 rfl) rfl
theorem q809 : (Jvm.Cond.soleField "LazyPagesModel" "sizes") ∈ lw_all := lw_g (lw_at lw_m4 61 rfl) rfl
theorem q810 : (Jvm.Cond.laysFinal "LazyPagesModel" "LazyPagesModel" "saved" "[Z") ∈ lw_all := lw_g (lw_at lw_m4 62 rfl) rfl
theorem q811 : (Jvm.Cond.soleField "LazyPagesModel" "saved") ∈ lw_all := lw_g (lw_at lw_m4 63 rfl) rfl
theorem q812 : (Jvm.Cond.laysFinal "LazyPagesModel" "LazyPagesModel" "kinds" "[B") ∈ lw_all := lw_g (lw_at lw_m4 64 rfl) rfl
theorem q813 : (Jvm.Cond.soleField "LazyPagesModel" "kinds") ∈ lw_all := lw_g (lw_at lw_m4 65 rfl) rfl
theorem q814 : (Jvm.Cond.laysFinal "LazyPagesModel" "LazyPagesModel" "firsts" "[I") ∈ lw_all := lw_g (lw_at lw_m4 66 rfl) rfl
theorem q815 : (Jvm.Cond.soleField "LazyPagesModel" "firsts") ∈ lw_all := lw_g (lw_at lw_m4 67 rfl) rfl
theorem q816 : (Jvm.Cond.laysFinal "LazyPagesModel" "LazyPagesModel" "lasts" "[I") ∈ lw_all := lw_g (lw_at lw_m4 68 rfl) rfl
theorem q817 : (Jvm.Cond.soleField "LazyPagesModel" "lasts") ∈ lw_all := lw_g (lw_at lw_m4 69 rfl) rfl
theorem q818 : (Jvm.Cond.laysFinal "LazyPagesModel" "LazyPagesModel" "amounts" "[J") ∈ lw_all := lw_g (lw_at lw_m4 70 rfl) rfl
theorem q819 : (Jvm.Cond.soleField "LazyPagesModel" "amounts") ∈ lw_all := lw_g (lw_at lw_m4 71 rfl) rfl
theorem q820 : (Jvm.Cond.lays "LazyPagesModel" "LazyPagesModel" "messages" "I") ∈ lw_all := lw_g (lw_at lw_m4 72 rfl) rfl
theorem q821 : (Jvm.Cond.soleField "LazyPagesModel" "messages") ∈ lw_all := lw_g (lw_at lw_m4 73 rfl) rfl
theorem q822 : (Jvm.Cond.lays "LazyPagesModel" "LazyPagesModel" "kept" "I") ∈ lw_all := lw_g (lw_at lw_m4 74 rfl) rfl
theorem q823 : (Jvm.Cond.soleField "LazyPagesModel" "kept") ∈ lw_all := lw_g (lw_at lw_m4 75 rfl) rfl
theorem q824 : (Jvm.Cond.superclass "LazyPagesModel" "java/lang/Object") ∈ lw_all := lw_g (lw_at lw_m4 76 rfl) rfl
theorem q827 : (Jvm.Cond.instanceMethod ({ cls := "LazyPagesModel", name := "thrown", desc := "()I" } : Jvm.MethodName)) ∈ lw_all := lw_g (lw_at lw_m4 79 rfl) rfl
theorem q828 : (Jvm.Cond.selects "LazyPagesModel" ({ cls := "LazyPagesModel", name := "thrown", desc := "()I" } : Jvm.MethodName) ({ cls := "LazyPagesModel", name := "thrown", desc := "()I" } : Jvm.MethodName)) ∈ lw_all := lw_g (lw_at lw_m4 80 rfl) rfl
theorem q829 : (Jvm.Cond.code ({ cls := "LazyPagesModel", name := "thrown", desc := "()I" } : Jvm.MethodName) prog_12_method_2_code (1 : Nat) (Option.some Jvm.ClassFile.FieldType.int)) ∈ lw_all := lw_g (lw_at lw_m4 81 rfl) rfl
theorem q831 : (Jvm.Cond.instanceMethod ({ cls := "LazyPagesModel", name := "put", desc := "(IJ)I" } : Jvm.MethodName)) ∈ lw_all := lw_g (lw_at lw_m4 83 rfl) rfl
theorem q832 : (Jvm.Cond.selects "LazyPagesModel" ({ cls := "LazyPagesModel", name := "put", desc := "(IJ)I" } : Jvm.MethodName) ({ cls := "LazyPagesModel", name := "put", desc := "(IJ)I" } : Jvm.MethodName)) ∈ lw_all := lw_g (lw_at lw_m4 84 rfl) rfl
theorem q833 : (Jvm.Cond.code ({ cls := "LazyPagesModel", name := "put", desc := "(IJ)I" } : Jvm.MethodName) prog_12_method_12_code (4 : Nat) (Option.some Jvm.ClassFile.FieldType.int)) ∈ lw_all := lw_g (lw_at lw_m4 85 rfl) rfl
theorem q834 : (Jvm.Cond.methodLink "LazyPagesModel" (72 : Nat) ({ cls := "LazyPagesModel", name := "isRefused", desc := "(I)Z" } : Jvm.MethodName)) ∈ lw_all := lw_g (lw_at lw_m4 86 rfl) rfl
theorem q835 : (Jvm.Cond.privateMethod ({ cls := "LazyPagesModel", name := "isRefused", desc := "(I)Z" } : Jvm.MethodName)) ∈ lw_tbl := lw_at lw_m4 87 rfl
theorem q836 : (Jvm.Cond.instanceMethod ({ cls := "LazyPagesModel", name := "isRefused", desc := "(I)Z" } : Jvm.MethodName)) ∈ lw_all := lw_g (lw_at lw_m4 88 rfl) rfl
theorem q837 : (Jvm.Cond.code ({ cls := "LazyPagesModel", name := "isRefused", desc := "(I)Z" } : Jvm.MethodName) prog_12_method_11_code (2 : Nat) (Option.some Jvm.ClassFile.FieldType.boolean)) ∈ lw_all := lw_g (lw_at lw_m4 89 rfl) rfl
theorem q838 : (Jvm.Cond.methodLink "LazyPagesModel" (45 : Nat) ({ cls := "LazyPagesModel", name := "isIn", desc := "(II)Z" } : Jvm.MethodName)) ∈ lw_all := lw_g (lw_at lw_m4 90 rfl) rfl
theorem q839 : (Jvm.Cond.privateMethod ({ cls := "LazyPagesModel", name := "isIn", desc := "(II)Z" } : Jvm.MethodName)) ∈ lw_tbl := lw_at lw_m4 91 rfl
theorem q840 : (Jvm.Cond.instanceMethod ({ cls := "LazyPagesModel", name := "isIn", desc := "(II)Z" } : Jvm.MethodName)) ∈ lw_all := lw_g (lw_at lw_m4 92 rfl) rfl
theorem q841 : (Jvm.Cond.code ({ cls := "LazyPagesModel", name := "isIn", desc := "(II)Z" } : Jvm.MethodName) prog_12_method_4_code (4 : Nat) (Option.some Jvm.ClassFile.FieldType.boolean)) ∈ lw_all := lw_g (lw_at lw_m4 93 rfl) rfl
theorem q842 : (Jvm.Cond.methodLink "LazyPagesModel" (41 : Nat) ({ cls := "LazyPagesModel", name := "below", desc := "(IJ)I" } : Jvm.MethodName)) ∈ lw_all := lw_g (lw_at lw_m4 94 rfl) rfl
theorem q843 : (Jvm.Cond.privateMethod ({ cls := "LazyPagesModel", name := "below", desc := "(IJ)I" } : Jvm.MethodName)) ∈ lw_tbl := lw_at lw_m4 95 rfl
theorem q844 : (Jvm.Cond.instanceMethod ({ cls := "LazyPagesModel", name := "below", desc := "(IJ)I" } : Jvm.MethodName)) ∈ lw_all := lw_g (lw_at lw_m4 96 rfl) rfl
theorem q845 : (Jvm.Cond.code ({ cls := "LazyPagesModel", name := "below", desc := "(IJ)I" } : Jvm.MethodName) prog_12_method_3_code (5 : Nat) (Option.some Jvm.ClassFile.FieldType.int)) ∈ lw_all := lw_g (lw_at lw_m4 97 rfl) rfl
theorem q846 : (Jvm.Cond.methodLink "LazyPagesModel" (76 : Nat) ({ cls := "LazyPagesModel", name := "message", desc := "(IIIJ)J" } : Jvm.MethodName)) ∈ lw_all := lw_g (lw_at lw_m4 98 rfl) rfl
theorem q847 : (Jvm.Cond.privateMethod ({ cls := "LazyPagesModel", name := "message", desc := "(IIIJ)J" } : Jvm.MethodName)) ∈ lw_tbl := lw_at lw_m4 99 rfl
theorem q848 : (Jvm.Cond.instanceMethod ({ cls := "LazyPagesModel", name := "message", desc := "(IIIJ)J" } : Jvm.MethodName)) ∈ lw_all := lw_g (lw_at lw_m4 100 rfl) rfl
theorem q849 : (Jvm.Cond.code ({ cls := "LazyPagesModel", name := "message", desc := "(IIIJ)J" } : Jvm.MethodName) prog_12_method_10_code (6 : Nat) (Option.some Jvm.ClassFile.FieldType.long)) ∈ lw_all := lw_g (lw_at lw_m4 101 rfl) rfl
theorem q850 : (Jvm.Cond.methodLink "LazyPagesModel" (68 : Nat) ({ cls := "LazyPagesModel", name := "done", desc := "(IIIJ)J" } : Jvm.MethodName)) ∈ lw_all := lw_g (lw_at lw_m4 102 rfl) rfl
theorem q851 : (Jvm.Cond.privateMethod ({ cls := "LazyPagesModel", name := "done", desc := "(IIIJ)J" } : Jvm.MethodName)) ∈ lw_tbl := lw_at lw_m4 103 rfl
theorem q852 : (Jvm.Cond.instanceMethod ({ cls := "LazyPagesModel", name := "done", desc := "(IIIJ)J" } : Jvm.MethodName)) ∈ lw_all := lw_g (lw_at lw_m4 104 rfl) rfl
theorem q853 : (Jvm.Cond.code ({ cls := "LazyPagesModel", name := "done", desc := "(IIIJ)J" } : Jvm.MethodName) prog_12_method_9_code (10 : Nat) (Option.some Jvm.ClassFile.FieldType.long)) ∈ lw_all := lw_g (lw_at lw_m4 105 rfl) rfl
theorem q854 : (Jvm.Cond.methodLink "LazyPagesModel" (49 : Nat) ({ cls := "LazyPagesModel", name := "doDelete", desc := "(II)I" } : Jvm.MethodName)) ∈ lw_all := lw_g (lw_at lw_m4 106 rfl) rfl
theorem q855 : (Jvm.Cond.privateMethod ({ cls := "LazyPagesModel", name := "doDelete", desc := "(II)I" } : Jvm.MethodName)) ∈ lw_tbl := lw_at lw_m4 107 rfl
theorem q856 : (Jvm.Cond.instanceMethod ({ cls := "LazyPagesModel", name := "doDelete", desc := "(II)I" } : Jvm.MethodName)) ∈ lw_all := lw_g (lw_at lw_m4 108 rfl) rfl
theorem q857 : (Jvm.Cond.code ({ cls := "LazyPagesModel", name := "doDelete", desc := "(II)I" } : Jvm.MethodName) prog_12_method_7_code (6 : Nat) (Option.some Jvm.ClassFile.FieldType.int)) ∈ lw_all := lw_g (lw_at lw_m4 109 rfl) rfl
theorem q858 : (Jvm.Cond.methodLink "LazyPagesModel" (53 : Nat) ({ cls := "LazyPagesModel", name := "doRaise", desc := "(IIJ)I" } : Jvm.MethodName)) ∈ lw_all := lw_g (lw_at lw_m4 110 rfl) rfl
theorem q859 : (Jvm.Cond.privateMethod ({ cls := "LazyPagesModel", name := "doRaise", desc := "(IIJ)I" } : Jvm.MethodName)) ∈ lw_tbl := lw_at lw_m4 111 rfl
theorem q860 : (Jvm.Cond.instanceMethod ({ cls := "LazyPagesModel", name := "doRaise", desc := "(IIJ)I" } : Jvm.MethodName)) ∈ lw_all := lw_g (lw_at lw_m4 112 rfl) rfl
theorem q861 : (Jvm.Cond.code ({ cls := "LazyPagesModel", name := "doRaise", desc := "(IIJ)I" } : Jvm.MethodName) prog_12_method_8_code (8 : Nat) (Option.some Jvm.ClassFile.FieldType.int)) ∈ lw_all := lw_g (lw_at lw_m4 113 rfl) rfl
theorem q862 : (Jvm.Cond.methodLink "LazyPagesModel" (57 : Nat) ({ cls := "LazyPagesModel", name := "valueIn", desc := "(II)J" } : Jvm.MethodName)) ∈ lw_all := lw_g (lw_at lw_m4 114 rfl) rfl
theorem q863 : (Jvm.Cond.privateMethod ({ cls := "LazyPagesModel", name := "valueIn", desc := "(II)J" } : Jvm.MethodName)) ∈ lw_tbl := lw_at lw_m4 115 rfl
theorem q864 : (Jvm.Cond.instanceMethod ({ cls := "LazyPagesModel", name := "valueIn", desc := "(II)J" } : Jvm.MethodName)) ∈ lw_all := lw_g (lw_at lw_m4 116 rfl) rfl
theorem q865 : (Jvm.Cond.code ({ cls := "LazyPagesModel", name := "valueIn", desc := "(II)J" } : Jvm.MethodName) prog_12_method_5_code (3 : Nat) (Option.some Jvm.ClassFile.FieldType.long)) ∈ lw_all := lw_g (lw_at lw_m4 117 rfl) rfl
theorem q866 : (Jvm.Cond.methodLink "LazyPagesModel" (61 : Nat) ({ cls := "LazyPagesModel", name := "enter", desc := "(IJ)V" } : Jvm.MethodName)) ∈ lw_all := lw_g (lw_at lw_m4 118 rfl) rfl
theorem q867 : (Jvm.Cond.privateMethod ({ cls := "LazyPagesModel", name := "enter", desc := "(IJ)V" } : Jvm.MethodName)) ∈ lw_tbl := lw_at lw_m4 119 rfl
theorem q868 : (Jvm.Cond.instanceMethod ({ cls := "LazyPagesModel", name := "enter", desc := "(IJ)V" } : Jvm.MethodName)) ∈ lw_all := lw_g (lw_at lw_m4 120 rfl) rfl
theorem q869 : (Jvm.Cond.code ({ cls := "LazyPagesModel", name := "enter", desc := "(IJ)V" } : Jvm.MethodName) prog_12_method_6_code (6 : Nat) (Option.none : Option Jvm.ClassFile.FieldType)) ∈ lw_all := lw_g (lw_at lw_m4 121 rfl) rfl
theorem q871 : (Jvm.Cond.instanceMethod ({ cls := "LazyPagesModel", name := "add", desc := "(IJ)J" } : Jvm.MethodName)) ∈ lw_all := lw_g (lw_at lw_m4 123 rfl) rfl
theorem q872 : (Jvm.Cond.selects "LazyPagesModel" ({ cls := "LazyPagesModel", name := "add", desc := "(IJ)J" } : Jvm.MethodName) ({ cls := "LazyPagesModel", name := "add", desc := "(IJ)J" } : Jvm.MethodName)) ∈ lw_all := lw_g (lw_at lw_m4 124 rfl) rfl
theorem q873 : (Jvm.Cond.code ({ cls := "LazyPagesModel", name := "add", desc := "(IJ)J" } : Jvm.MethodName) prog_12_method_13_code (4 : Nat) (Option.some Jvm.ClassFile.FieldType.long)) ∈ lw_all := lw_g (lw_at lw_m4 125 rfl) rfl
theorem q875 : (Jvm.Cond.instanceMethod ({ cls := "LazyPagesModel", name := "most", desc := "(IJ)J" } : Jvm.MethodName)) ∈ lw_all := lw_g (lw_at lw_m4 127 rfl) rfl
theorem q876 : (Jvm.Cond.selects "LazyPagesModel" ({ cls := "LazyPagesModel", name := "most", desc := "(IJ)J" } : Jvm.MethodName) ({ cls := "LazyPagesModel", name := "most", desc := "(IJ)J" } : Jvm.MethodName)) ∈ lw_all := lw_g (lw_at lw_m4 128 rfl) rfl
theorem q877 : (Jvm.Cond.code ({ cls := "LazyPagesModel", name := "most", desc := "(IJ)J" } : Jvm.MethodName) prog_12_method_14_code (4 : Nat) (Option.some Jvm.ClassFile.FieldType.long)) ∈ lw_all := lw_g (lw_at lw_m4 129 rfl) rfl
theorem q879 : (Jvm.Cond.instanceMethod ({ cls := "LazyPagesModel", name := "delete", desc := "(II)I" } : Jvm.MethodName)) ∈ lw_all := lw_g (lw_at lw_m4 131 rfl) rfl
theorem q880 : (Jvm.Cond.selects "LazyPagesModel" ({ cls := "LazyPagesModel", name := "delete", desc := "(II)I" } : Jvm.MethodName) ({ cls := "LazyPagesModel", name := "delete", desc := "(II)I" } : Jvm.MethodName)) ∈ lw_all := lw_g (lw_at lw_m4 132 rfl) rfl
theorem q881 : (Jvm.Cond.code ({ cls := "LazyPagesModel", name := "delete", desc := "(II)I" } : Jvm.MethodName) prog_12_method_15_code (3 : Nat) (Option.some Jvm.ClassFile.FieldType.int)) ∈ lw_all := lw_g (lw_at lw_m4 133 rfl) rfl
theorem q883 : (Jvm.Cond.instanceMethod ({ cls := "LazyPagesModel", name := "raise", desc := "(IIJ)I" } : Jvm.MethodName)) ∈ lw_all := lw_g (lw_at lw_m4 135 rfl) rfl
theorem q884 : (Jvm.Cond.selects "LazyPagesModel" ({ cls := "LazyPagesModel", name := "raise", desc := "(IIJ)I" } : Jvm.MethodName) ({ cls := "LazyPagesModel", name := "raise", desc := "(IIJ)I" } : Jvm.MethodName)) ∈ lw_all := lw_g (lw_at lw_m4 136 rfl) rfl
theorem q885 : (Jvm.Cond.code ({ cls := "LazyPagesModel", name := "raise", desc := "(IIJ)I" } : Jvm.MethodName) prog_12_method_16_code (5 : Nat) (Option.some Jvm.ClassFile.FieldType.int)) ∈ lw_all := lw_g (lw_at lw_m4 137 rfl) rfl
theorem q887 : (Jvm.Cond.instanceMethod ({ cls := "LazyPagesModel", name := "putAll", desc := "(IIJJI)I" } : Jvm.MethodName)) ∈ lw_all := lw_g (lw_at lw_m4 139 rfl) rfl
theorem q888 : (Jvm.Cond.selects "LazyPagesModel" ({ cls := "LazyPagesModel", name := "putAll", desc := "(IIJJI)I" } : Jvm.MethodName) ({ cls := "LazyPagesModel", name := "putAll", desc := "(IIJJI)I" } : Jvm.MethodName)) ∈ lw_all := lw_g (lw_at lw_m4 140 rfl) rfl
theorem q889 : (Jvm.Cond.code ({ cls := "LazyPagesModel", name := "putAll", desc := "(IIJJI)I" } : Jvm.MethodName) prog_12_method_17_code (12 : Nat) (Option.some Jvm.ClassFile.FieldType.int)) ∈ lw_all := lw_g (lw_at lw_m4 141 rfl) rfl
theorem q891 : (Jvm.Cond.instanceMethod ({ cls := "LazyPagesModel", name := "has", desc := "(II)Z" } : Jvm.MethodName)) ∈ lw_all := lw_g (lw_at lw_m4 143 rfl) rfl
theorem q892 : (Jvm.Cond.selects "LazyPagesModel" ({ cls := "LazyPagesModel", name := "has", desc := "(II)Z" } : Jvm.MethodName) ({ cls := "LazyPagesModel", name := "has", desc := "(II)Z" } : Jvm.MethodName)) ∈ lw_all := lw_g (lw_at lw_m4 144 rfl) rfl
theorem q893 : (Jvm.Cond.code ({ cls := "LazyPagesModel", name := "has", desc := "(II)Z" } : Jvm.MethodName) prog_12_method_19_code (4 : Nat) (Option.some Jvm.ClassFile.FieldType.boolean)) ∈ lw_all := lw_g (lw_at lw_m4 145 rfl) rfl
theorem q894 : (Jvm.Cond.methodLink "LazyPagesModel" (79 : Nat) ({ cls := "LazyPagesModel", name := "rowOf", desc := "(I)I" } : Jvm.MethodName)) ∈ lw_all := lw_g (lw_at lw_m4 146 rfl) rfl
theorem q895 : (Jvm.Cond.privateMethod ({ cls := "LazyPagesModel", name := "rowOf", desc := "(I)I" } : Jvm.MethodName)) ∈ lw_tbl := lw_at lw_m4 147 rfl
theorem q896 : (Jvm.Cond.instanceMethod ({ cls := "LazyPagesModel", name := "rowOf", desc := "(I)I" } : Jvm.MethodName)) ∈ lw_all := lw_g (lw_at lw_m4 148 rfl) rfl
theorem q897 : (Jvm.Cond.code ({ cls := "LazyPagesModel", name := "rowOf", desc := "(I)I" } : Jvm.MethodName) prog_12_method_18_code (2 : Nat) (Option.some Jvm.ClassFile.FieldType.int)) ∈ lw_all := lw_g (lw_at lw_m4 149 rfl) rfl
theorem q899 : (Jvm.Cond.instanceMethod ({ cls := "LazyPagesModel", name := "get", desc := "(II)J" } : Jvm.MethodName)) ∈ lw_all := lw_g (lw_at lw_m4 151 rfl) rfl
theorem q900 : (Jvm.Cond.selects "LazyPagesModel" ({ cls := "LazyPagesModel", name := "get", desc := "(II)J" } : Jvm.MethodName) ({ cls := "LazyPagesModel", name := "get", desc := "(II)J" } : Jvm.MethodName)) ∈ lw_all := lw_g (lw_at lw_m4 152 rfl) rfl
theorem q901 : (Jvm.Cond.code ({ cls := "LazyPagesModel", name := "get", desc := "(II)J" } : Jvm.MethodName) prog_12_method_20_code (4 : Nat) (Option.some Jvm.ClassFile.FieldType.long)) ∈ lw_all := lw_g (lw_at lw_m4 153 rfl) rfl
theorem q903 : (Jvm.Cond.instanceMethod ({ cls := "LazyPagesModel", name := "count", desc := "(III)I" } : Jvm.MethodName)) ∈ lw_all := lw_g (lw_at lw_m4 155 rfl) rfl
theorem q904 : (Jvm.Cond.selects "LazyPagesModel" ({ cls := "LazyPagesModel", name := "count", desc := "(III)I" } : Jvm.MethodName) ({ cls := "LazyPagesModel", name := "count", desc := "(III)I" } : Jvm.MethodName)) ∈ lw_all := lw_g (lw_at lw_m4 156 rfl) rfl
theorem q905 : (Jvm.Cond.code ({ cls := "LazyPagesModel", name := "count", desc := "(III)I" } : Jvm.MethodName) prog_12_method_21_code (5 : Nat) (Option.some Jvm.ClassFile.FieldType.int)) ∈ lw_all := lw_g (lw_at lw_m4 157 rfl) rfl
theorem q907 : (Jvm.Cond.instanceMethod ({ cls := "LazyPagesModel", name := "sum", desc := "(III)J" } : Jvm.MethodName)) ∈ lw_all := lw_g (lw_at lw_m4 159 rfl) rfl
theorem q908 : (Jvm.Cond.selects "LazyPagesModel" ({ cls := "LazyPagesModel", name := "sum", desc := "(III)J" } : Jvm.MethodName) ({ cls := "LazyPagesModel", name := "sum", desc := "(III)J" } : Jvm.MethodName)) ∈ lw_all := lw_g (lw_at lw_m4 160 rfl) rfl
theorem q909 : (Jvm.Cond.code ({ cls := "LazyPagesModel", name := "sum", desc := "(III)J" } : Jvm.MethodName) prog_12_method_22_code (9 : Nat) (Option.some Jvm.ClassFile.FieldType.long)) ∈ lw_all := lw_g (lw_at lw_m4 161 rfl) rfl
theorem q911 : (Jvm.Cond.instanceMethod ({ cls := "LazyPagesModel", name := "key", desc := "(III)I" } : Jvm.MethodName)) ∈ lw_all := lw_g (lw_at lw_m4 163 rfl) rfl
theorem q912 : (Jvm.Cond.selects "LazyPagesModel" ({ cls := "LazyPagesModel", name := "key", desc := "(III)I" } : Jvm.MethodName) ({ cls := "LazyPagesModel", name := "key", desc := "(III)I" } : Jvm.MethodName)) ∈ lw_all := lw_g (lw_at lw_m4 164 rfl) rfl
theorem q913 : (Jvm.Cond.code ({ cls := "LazyPagesModel", name := "key", desc := "(III)I" } : Jvm.MethodName) prog_12_method_23_code (5 : Nat) (Option.some Jvm.ClassFile.FieldType.int)) ∈ lw_all := lw_g (lw_at lw_m4 165 rfl) rfl
theorem q915 : (Jvm.Cond.instanceMethod ({ cls := "LazyPagesModel", name := "save", desc := "(I)V" } : Jvm.MethodName)) ∈ lw_all := lw_g (lw_at lw_m4 167 rfl) rfl
theorem q916 : (Jvm.Cond.selects "LazyPagesModel" ({ cls := "LazyPagesModel", name := "save", desc := "(I)V" } : Jvm.MethodName) ({ cls := "LazyPagesModel", name := "save", desc := "(I)V" } : Jvm.MethodName)) ∈ lw_all := lw_g (lw_at lw_m4 168 rfl) rfl
theorem q917 : (Jvm.Cond.code ({ cls := "LazyPagesModel", name := "save", desc := "(I)V" } : Jvm.MethodName) prog_12_method_25_code (3 : Nat) (Option.none : Option Jvm.ClassFile.FieldType)) ∈ lw_all := lw_g (lw_at lw_m4 169 rfl) rfl
theorem q918 : (Jvm.Cond.methodLink "LazyPagesModel" (83 : Nat) ({ cls := "LazyPagesModel", name := "isView", desc := "(I)Z" } : Jvm.MethodName)) ∈ lw_all := lw_g (lw_at lw_m4 170 rfl) rfl
theorem q919 : (Jvm.Cond.static ({ cls := "LazyPagesModel", name := "isView", desc := "(I)Z" } : Jvm.MethodName)) ∈ lw_all := lw_g (lw_at lw_m4 171 rfl) rfl
theorem q920 : (Jvm.Cond.code ({ cls := "LazyPagesModel", name := "isView", desc := "(I)Z" } : Jvm.MethodName) prog_12_method_24_code (1 : Nat) (Option.some Jvm.ClassFile.FieldType.boolean)) ∈ lw_all := lw_g (lw_at lw_m4 172 rfl) rfl
theorem q922 : (Jvm.Cond.instanceMethod ({ cls := "LazyPagesModel", name := "drop", desc := "(I)Z" } : Jvm.MethodName)) ∈ lw_all := lw_g (lw_at lw_m4 174 rfl) rfl
theorem q923 : (Jvm.Cond.selects "LazyPagesModel" ({ cls := "LazyPagesModel", name := "drop", desc := "(I)Z" } : Jvm.MethodName) ({ cls := "LazyPagesModel", name := "drop", desc := "(I)Z" } : Jvm.MethodName)) ∈ lw_all := lw_g (lw_at lw_m4 175 rfl) rfl
theorem q924 : (Jvm.Cond.code ({ cls := "LazyPagesModel", name := "drop", desc := "(I)Z" } : Jvm.MethodName) prog_12_method_26_code (3 : Nat) (Option.some Jvm.ClassFile.FieldType.boolean)) ∈ lw_all := lw_g (lw_at lw_m4 176 rfl) rfl
theorem q926 : (Jvm.Cond.instanceMethod ({ cls := "LazyPagesModel", name := "restore", desc := "(I)I" } : Jvm.MethodName)) ∈ lw_all := lw_g (lw_at lw_m4 178 rfl) rfl
theorem q927 : (Jvm.Cond.selects "LazyPagesModel" ({ cls := "LazyPagesModel", name := "restore", desc := "(I)I" } : Jvm.MethodName) ({ cls := "LazyPagesModel", name := "restore", desc := "(I)I" } : Jvm.MethodName)) ∈ lw_all := lw_g (lw_at lw_m4 179 rfl) rfl
theorem q928 : (Jvm.Cond.code ({ cls := "LazyPagesModel", name := "restore", desc := "(I)I" } : Jvm.MethodName) prog_12_method_27_code (4 : Nat) (Option.some Jvm.ClassFile.FieldType.int)) ∈ lw_all := lw_g (lw_at lw_m4 180 rfl) rfl
theorem q929 : (Jvm.Cond.constant "LazyPagesModel" (86 : Nat) (-2147483648 : Int32)) ∈ lw_all := lw_g (lw_at lw_m4 181 rfl) rfl
theorem q930 : (Jvm.Cond.constant "LazyPagesModel" (87 : Nat) (2147483647 : Int32)) ∈ lw_all := lw_g (lw_at lw_m4 182 rfl) rfl
theorem q932 : (Jvm.Cond.instanceMethod ({ cls := "LazyPagesModel", name := "differ", desc := "(II)I" } : Jvm.MethodName)) ∈ lw_all := lw_g (lw_at lw_m4 184 rfl) rfl
theorem q933 : (Jvm.Cond.selects "LazyPagesModel" ({ cls := "LazyPagesModel", name := "differ", desc := "(II)I" } : Jvm.MethodName) ({ cls := "LazyPagesModel", name := "differ", desc := "(II)I" } : Jvm.MethodName)) ∈ lw_all := lw_g (lw_at lw_m4 185 rfl) rfl
theorem q934 : (Jvm.Cond.code ({ cls := "LazyPagesModel", name := "differ", desc := "(II)I" } : Jvm.MethodName) prog_12_method_28_code (8 : Nat) (Option.some Jvm.ClassFile.FieldType.int)) ∈ lw_all := lw_g (lw_at lw_m4 186 rfl) rfl
theorem q936 : (Jvm.Cond.instanceMethod ({ cls := "LazyPagesModel", name := "settle", desc := "()V" } : Jvm.MethodName)) ∈ lw_all := lw_g (lw_at lw_m4 188 rfl) rfl
theorem q937 : (Jvm.Cond.selects "LazyPagesModel" ({ cls := "LazyPagesModel", name := "settle", desc := "()V" } : Jvm.MethodName) ({ cls := "LazyPagesModel", name := "settle", desc := "()V" } : Jvm.MethodName)) ∈ lw_all := lw_g (lw_at lw_m4 189 rfl) rfl
theorem q938 : (Jvm.Cond.code ({ cls := "LazyPagesModel", name := "settle", desc := "()V" } : Jvm.MethodName) prog_12_method_29_code (1 : Nat) (Option.none : Option Jvm.ClassFile.FieldType)) ∈ lw_all := lw_g (lw_at lw_m4 190 rfl) rfl
theorem q940 : (Jvm.Cond.instanceMethod ({ cls := "LazyPagesModel", name := "sync", desc := "()I" } : Jvm.MethodName)) ∈ lw_all := lw_g (lw_at lw_m4 192 rfl) rfl
theorem q941 : (Jvm.Cond.selects "LazyPagesModel" ({ cls := "LazyPagesModel", name := "sync", desc := "()I" } : Jvm.MethodName) ({ cls := "LazyPagesModel", name := "sync", desc := "()I" } : Jvm.MethodName)) ∈ lw_all := lw_g (lw_at lw_m4 193 rfl) rfl
theorem q942 : (Jvm.Cond.code ({ cls := "LazyPagesModel", name := "sync", desc := "()I" } : Jvm.MethodName) prog_12_method_30_code (2 : Nat) (Option.some Jvm.ClassFile.FieldType.int)) ∈ lw_all := lw_g (lw_at lw_m4 194 rfl) rfl
theorem q944 : (Jvm.Cond.instanceMethod ({ cls := "LazyPagesModel", name := "checkpoint", desc := "()I" } : Jvm.MethodName)) ∈ lw_all := lw_g (lw_at lw_m4 196 rfl) rfl
theorem q945 : (Jvm.Cond.selects "LazyPagesModel" ({ cls := "LazyPagesModel", name := "checkpoint", desc := "()I" } : Jvm.MethodName) ({ cls := "LazyPagesModel", name := "checkpoint", desc := "()I" } : Jvm.MethodName)) ∈ lw_all := lw_g (lw_at lw_m4 197 rfl) rfl
theorem q946 : (Jvm.Cond.code ({ cls := "LazyPagesModel", name := "checkpoint", desc := "()I" } : Jvm.MethodName) prog_12_method_31_code (1 : Nat) (Option.some Jvm.ClassFile.FieldType.int)) ∈ lw_all := lw_g (lw_at lw_m4 198 rfl) rfl
theorem q947 : (Jvm.Cond.methodLink "LazyPagesModel" (91 : Nat) ({ cls := "LazyPagesModel", name := "sync", desc := "()I" } : Jvm.MethodName)) ∈ lw_all := lw_g (lw_at lw_m4 199 rfl) rfl
theorem q949 : (Jvm.Cond.instanceMethod ({ cls := "LazyPagesModel", name := "crash", desc := "()I" } : Jvm.MethodName)) ∈ lw_all := lw_g (lw_at lw_m4 201 rfl) rfl
theorem q950 : (Jvm.Cond.selects "LazyPagesModel" ({ cls := "LazyPagesModel", name := "crash", desc := "()I" } : Jvm.MethodName) ({ cls := "LazyPagesModel", name := "crash", desc := "()I" } : Jvm.MethodName)) ∈ lw_all := lw_g (lw_at lw_m4 202 rfl) rfl
theorem q951 : (Jvm.Cond.code ({ cls := "LazyPagesModel", name := "crash", desc := "()I" } : Jvm.MethodName) prog_12_method_32_code (3 : Nat) (Option.some Jvm.ClassFile.FieldType.int)) ∈ lw_all := lw_g (lw_at lw_m4 203 rfl) rfl
theorem q953 : (Jvm.Cond.instanceMethod ({ cls := "LazyPagesModel", name := "total", desc := "(I)I" } : Jvm.MethodName)) ∈ lw_all := lw_g (lw_at lw_m4 205 rfl) rfl
theorem q954 : (Jvm.Cond.selects "LazyPagesModel" ({ cls := "LazyPagesModel", name := "total", desc := "(I)I" } : Jvm.MethodName) ({ cls := "LazyPagesModel", name := "total", desc := "(I)I" } : Jvm.MethodName)) ∈ lw_all := lw_g (lw_at lw_m4 206 rfl) rfl
theorem q955 : (Jvm.Cond.code ({ cls := "LazyPagesModel", name := "total", desc := "(I)I" } : Jvm.MethodName) prog_12_method_33_code (4 : Nat) (Option.some Jvm.ClassFile.FieldType.int)) ∈ lw_all := lw_g (lw_at lw_m4 207 rfl) rfl
theorem q957 : (Jvm.Cond.instanceMethod ({ cls := "LazyPagesModel", name := "isSound", desc := "()Z" } : Jvm.MethodName)) ∈ lw_all := lw_g (lw_at lw_m4 209 rfl) rfl
theorem q958 : (Jvm.Cond.selects "LazyPagesModel" ({ cls := "LazyPagesModel", name := "isSound", desc := "()Z" } : Jvm.MethodName) ({ cls := "LazyPagesModel", name := "isSound", desc := "()Z" } : Jvm.MethodName)) ∈ lw_all := lw_g (lw_at lw_m4 210 rfl) rfl
theorem q959 : (Jvm.Cond.code ({ cls := "LazyPagesModel", name := "isSound", desc := "()Z" } : Jvm.MethodName) prog_12_method_34_code (1 : Nat) (Option.some Jvm.ClassFile.FieldType.boolean)) ∈ lw_all := lw_g (lw_at lw_m4 211 rfl) rfl
theorem in_X8 : ∀ w ∈ wsX80, w ∈ lw_all := lw_in wsX80 [802, 804, 806, 808, 810, 812, 814, 816, 818, 820, 822] (by decide +kernel) (by decide +kernel)
def RX9 : String := "LazyPages$Message"
def TX9 : u_T := fun k => match k with
  | 0 => ("LazyPages$Message", "kind", "I", true)
  | 1 => ("LazyPages$Message", "from", "I", true)
  | 2 => ("LazyPages$Message", "to", "I", true)
  | _ => ("LazyPages$Message", "value", "J", true)
def tyX9 : Nat → FieldType := fun k => match k with
  | 0 => .int
  | 1 => .int
  | 2 => .int
  | _ => .long
abbrev wsX90 : List Cond := u_ws RX9 TX9 4
theorem nmX9 : ∀ a, a < 4 → ∀ b, b < 4 → a ≠ b → (TX9 a).2.1 ≠ (TX9 b).2.1 := by decide +kernel
theorem tyX9_ok : ∀ k, k < 4 → parseFieldDescriptor (TX9 k).2.2.1 = some (tyX9 k) := by decide +kernel
abbrev cX9_isIn : ByteArray := prog_5_method_2_code
def yX9_isIn : MethodName := ⟨RX9, "isIn", "(II)Z"⟩
abbrev cX9_cut : ByteArray := prog_5_method_3_code
def yX9_cut : MethodName := ⟨RX9, "cut", "(II)LLazyPages$Message;"⟩
abbrev cX9_init : ByteArray := prog_5_method_1_code
def yX9_init : MethodName := ⟨RX9, "<init>", "(IIIJ)V"⟩
theorem q42 : (Jvm.Cond.initialized "LazyPages$Message") ∈ lw_all := lw_g (lw_at lw_m1 14 rfl) rfl
theorem q297 : (Jvm.Cond.instanceMethod ({ cls := "LazyPages$Message", name := "isIn", desc := "(II)Z" } : Jvm.MethodName)) ∈ lw_all := lw_g (lw_at lw_m2 29 rfl) rfl
theorem q298 : (Jvm.Cond.selects "LazyPages$Message" ({ cls := "LazyPages$Message", name := "isIn", desc := "(II)Z" } : Jvm.MethodName) ({ cls := "LazyPages$Message", name := "isIn", desc := "(II)Z" } : Jvm.MethodName)) ∈ lw_all := lw_g (lw_at lw_m2 30 rfl) rfl
theorem q299 : (Jvm.Cond.code ({ cls := "LazyPages$Message", name := "isIn", desc := "(II)Z" } : Jvm.MethodName) prog_5_method_2_code (3 : Nat) (Option.some Jvm.ClassFile.FieldType.boolean)) ∈ lw_all := lw_g (lw_at lw_m2 31 rfl) rfl
theorem q320 : (Jvm.Cond.instanceMethod ({ cls := "LazyPages$Message", name := "cut", desc := "(II)LLazyPages$Message;" } : Jvm.MethodName)) ∈ lw_all := lw_g (lw_at lw_m2 52 rfl) rfl
theorem q321 : (Jvm.Cond.selects "LazyPages$Message" ({ cls := "LazyPages$Message", name := "cut", desc := "(II)LLazyPages$Message;" } : Jvm.MethodName) ({ cls := "LazyPages$Message", name := "cut", desc := "(II)LLazyPages$Message;" } : Jvm.MethodName)) ∈ lw_all := lw_g (lw_at lw_m2 53 rfl) rfl
theorem q322 : (Jvm.Cond.code ({ cls := "LazyPages$Message", name := "cut", desc := "(II)LLazyPages$Message;" } : Jvm.MethodName) prog_5_method_3_code (3 : Nat) (Option.some (Jvm.ClassFile.FieldType.object "LazyPages$Message"))) ∈ lw_all := lw_g (lw_at lw_m2 54 rfl) rfl
theorem q323 : (Jvm.Cond.classLink "LazyPages$Message" (8 : Nat) "LazyPages$Message") ∈ lw_all := lw_g (lw_at lw_m2 55 rfl) rfl
theorem q324 : (Jvm.Cond.instantiable "LazyPages$Message" (4 : Nat)) ∈ lw_all := lw_g (lw_at lw_m2 56 rfl) rfl
theorem q325 : (Jvm.Cond.methodLink "LazyPages$Message" (23 : Nat) ({ cls := "java/lang/Math", name := "max", desc := "(II)I" } : Jvm.MethodName)) ∈ lw_all := lw_g (lw_at lw_m2 57 rfl) rfl
theorem q326 : (Jvm.Cond.methodLink "LazyPages$Message" (29 : Nat) ({ cls := "java/lang/Math", name := "min", desc := "(II)I" } : Jvm.MethodName)) ∈ lw_all := lw_g (lw_at lw_m2 58 rfl) rfl
theorem q329 : (Jvm.Cond.methodLink "LazyPages$Message" (32 : Nat) ({ cls := "LazyPages$Message", name := "<init>", desc := "(IIIJ)V" } : Jvm.MethodName)) ∈ lw_all := lw_g (lw_at lw_m2 61 rfl) rfl
theorem q330 : (Jvm.Cond.instanceMethod ({ cls := "LazyPages$Message", name := "<init>", desc := "(IIIJ)V" } : Jvm.MethodName)) ∈ lw_all := lw_g (lw_at lw_m2 62 rfl) rfl
theorem q331 : (Jvm.Cond.code ({ cls := "LazyPages$Message", name := "<init>", desc := "(IIIJ)V" } : Jvm.MethodName) prog_5_method_1_code (6 : Nat) (Option.none : Option Jvm.ClassFile.FieldType)) ∈ lw_all := lw_g (lw_at lw_m2 63 rfl) rfl
theorem q332 : (Jvm.Cond.methodLink "LazyPages$Message" (1 : Nat) ({ cls := "java/lang/Object", name := "<init>", desc := "()V" } : Jvm.MethodName)) ∈ lw_all := lw_g (lw_at lw_m2 64 rfl) rfl
theorem q333 : (Jvm.Cond.fieldLink "LazyPages$Message" (7 : Nat) "LazyPages$Message" "kind" "I") ∈ lw_all := lw_g (lw_at lw_m2 65 rfl) rfl
theorem q336 : (Jvm.Cond.fieldLink "LazyPages$Message" (13 : Nat) "LazyPages$Message" "from" "I") ∈ lw_all := lw_g (lw_at lw_m2 68 rfl) rfl
theorem q340 : (Jvm.Cond.fieldLink "LazyPages$Message" (16 : Nat) "LazyPages$Message" "to" "I") ∈ lw_all := lw_g (lw_at lw_m2 72 rfl) rfl
theorem q343 : (Jvm.Cond.fieldLink "LazyPages$Message" (19 : Nat) "LazyPages$Message" "value" "J") ∈ lw_all := lw_g (lw_at lw_m2 75 rfl) rfl
theorem q346 : (Jvm.Cond.laysFinal "LazyPages$Message" "LazyPages$Message" "kind" "I") ∈ lw_all := lw_g (lw_at lw_m2 78 rfl) rfl
theorem q347 : (Jvm.Cond.soleField "LazyPages$Message" "kind") ∈ lw_all := lw_g (lw_at lw_m2 79 rfl) rfl
theorem q348 : (Jvm.Cond.laysFinal "LazyPages$Message" "LazyPages$Message" "from" "I") ∈ lw_all := lw_g (lw_at lw_m2 80 rfl) rfl
theorem q349 : (Jvm.Cond.soleField "LazyPages$Message" "from") ∈ lw_all := lw_g (lw_at lw_m2 81 rfl) rfl
theorem q350 : (Jvm.Cond.laysFinal "LazyPages$Message" "LazyPages$Message" "to" "I") ∈ lw_all := lw_g (lw_at lw_m2 82 rfl) rfl
theorem q351 : (Jvm.Cond.soleField "LazyPages$Message" "to") ∈ lw_all := lw_g (lw_at lw_m2 83 rfl) rfl
theorem q352 : (Jvm.Cond.laysFinal "LazyPages$Message" "LazyPages$Message" "value" "J") ∈ lw_all := lw_g (lw_at lw_m2 84 rfl) rfl
theorem q353 : (Jvm.Cond.soleField "LazyPages$Message" "value") ∈ lw_all := lw_g (lw_at lw_m2 85 rfl) rfl
theorem q354 : (Jvm.Cond.superclass "LazyPages$Message" "java/lang/Object") ∈ lw_all := lw_g (lw_at lw_m2 86 rfl) rfl
theorem in_X9 : ∀ w ∈ wsX90, w ∈ lw_all := lw_in wsX90 [346, 348, 350, 352] (by decide +kernel) (by decide +kernel)
