set_option maxRecDepth 100000
theorem dJ5_min_10 : decode cJ5_min 10 = .ok (.ireturn, 1) := by decide +kernel
theorem q168 : (Jvm.Cond.initialized "java/lang/Math") ∈ lw_all := lw_g (lw_at lw_m1 9 rfl) rfl
theorem q391 : (Jvm.Cond.static ({ cls := "java/lang/Math", name := "max", desc := "(II)I" } : Jvm.MethodName)) ∈ lw_all := lw_g (lw_at lw_m1 232 rfl) rfl
theorem q392 : (Jvm.Cond.code ({ cls := "java/lang/Math", name := "max", desc := "(II)I" } : Jvm.MethodName) prog_36_method_65_code (2 : Nat) (Option.some Jvm.ClassFile.FieldType.int)) ∈ lw_all := lw_g (lw_at lw_m1 233 rfl) rfl
theorem q394 : (Jvm.Cond.static ({ cls := "java/lang/Math", name := "min", desc := "(II)I" } : Jvm.MethodName)) ∈ lw_all := lw_g (lw_at lw_m1 235 rfl) rfl
theorem q395 : (Jvm.Cond.code ({ cls := "java/lang/Math", name := "min", desc := "(II)I" } : Jvm.MethodName) prog_36_method_69_code (2 : Nat) (Option.some Jvm.ClassFile.FieldType.int)) ∈ lw_all := lw_g (lw_at lw_m1 236 rfl) rfl
/-! jdk/internal/util/Preconditions -/
def RJ7 : String := "jdk/internal/util/Preconditions"
abbrev cJ7_checkFromToIndex : ByteArray := prog_57_method_12_code
def yJ7_checkFromToIndex : MethodName := ⟨RJ7, "checkFromToIndex", "(IIILjava/util/function/BiFunction;)I"⟩
theorem dJ7_checkFromToIndex_0 : decode cJ7_checkFromToIndex 0 = .ok (.iload_n 0, 1) := by decide +kernel
theorem dJ7_checkFromToIndex_1 : decode cJ7_checkFromToIndex 1 = .ok (.ifCond .lt 13, 3) := by decide +kernel
theorem dJ7_checkFromToIndex_4 : decode cJ7_checkFromToIndex 4 = .ok (.iload_n 0, 1) := by decide +kernel
theorem dJ7_checkFromToIndex_5 : decode cJ7_checkFromToIndex 5 = .ok (.iload_n 1, 1) := by decide +kernel
theorem dJ7_checkFromToIndex_6 : decode cJ7_checkFromToIndex 6 = .ok (.if_icmp .gt 8, 3) := by decide +kernel
theorem dJ7_checkFromToIndex_9 : decode cJ7_checkFromToIndex 9 = .ok (.iload_n 1, 1) := by decide +kernel
theorem dJ7_checkFromToIndex_10 : decode cJ7_checkFromToIndex 10 = .ok (.iload_n 2, 1) := by decide +kernel
theorem dJ7_checkFromToIndex_11 : decode cJ7_checkFromToIndex 11 = .ok (.if_icmp .le 11, 3) := by decide +kernel
theorem dJ7_checkFromToIndex_14 : decode cJ7_checkFromToIndex 14 = .ok (.aload_n 3, 1) := by decide +kernel
theorem dJ7_checkFromToIndex_15 : decode cJ7_checkFromToIndex 15 = .ok (.iload_n 0, 1) := by decide +kernel
theorem dJ7_checkFromToIndex_16 : decode cJ7_checkFromToIndex 16 = .ok (.iload_n 1, 1) := by decide +kernel
theorem dJ7_checkFromToIndex_17 : decode cJ7_checkFromToIndex 17 = .ok (.iload_n 2, 1) := by decide +kernel
theorem dJ7_checkFromToIndex_18 : decode cJ7_checkFromToIndex 18 = .ok (.invokestatic 99, 3) := by decide +kernel
theorem dJ7_checkFromToIndex_21 : decode cJ7_checkFromToIndex 21 = .ok (.athrow, 1) := by decide +kernel
theorem dJ7_checkFromToIndex_22 : decode cJ7_checkFromToIndex 22 = .ok (.iload_n 0, 1) := by decide +kernel
theorem dJ7_checkFromToIndex_23 : decode cJ7_checkFromToIndex 23 = .ok (.ireturn, 1) := by decide +kernel
abbrev cJ7_checkIndex : ByteArray := prog_57_method_11_code
def yJ7_checkIndex : MethodName := ⟨RJ7, "checkIndex", "(IILjava/util/function/BiFunction;)I"⟩
theorem dJ7_checkIndex_0 : decode cJ7_checkIndex 0 = .ok (.iload_n 0, 1) := by decide +kernel
theorem dJ7_checkIndex_1 : decode cJ7_checkIndex 1 = .ok (.ifCond .lt 8, 3) := by decide +kernel
theorem dJ7_checkIndex_4 : decode cJ7_checkIndex 4 = .ok (.iload_n 0, 1) := by decide +kernel
theorem dJ7_checkIndex_5 : decode cJ7_checkIndex 5 = .ok (.iload_n 1, 1) := by decide +kernel
theorem dJ7_checkIndex_6 : decode cJ7_checkIndex 6 = .ok (.if_icmp .lt 10, 3) := by decide +kernel
theorem dJ7_checkIndex_9 : decode cJ7_checkIndex 9 = .ok (.aload_n 2, 1) := by decide +kernel
theorem dJ7_checkIndex_10 : decode cJ7_checkIndex 10 = .ok (.iload_n 0, 1) := by decide +kernel
theorem dJ7_checkIndex_11 : decode cJ7_checkIndex 11 = .ok (.iload_n 1, 1) := by decide +kernel
theorem dJ7_checkIndex_12 : decode cJ7_checkIndex 12 = .ok (.invokestatic 95, 3) := by decide +kernel
theorem dJ7_checkIndex_15 : decode cJ7_checkIndex 15 = .ok (.athrow, 1) := by decide +kernel
theorem dJ7_checkIndex_16 : decode cJ7_checkIndex 16 = .ok (.iload_n 0, 1) := by decide +kernel
theorem dJ7_checkIndex_17 : decode cJ7_checkIndex 17 = .ok (.ireturn, 1) := by decide +kernel
abbrev cJ7_checkFromIndexSize : ByteArray := prog_57_method_13_code
def yJ7_checkFromIndexSize : MethodName := ⟨RJ7, "checkFromIndexSize", "(IIILjava/util/function/BiFunction;)I"⟩
theorem dJ7_checkFromIndexSize_0 : decode cJ7_checkFromIndexSize 0 = .ok (.iload_n 2, 1) := by decide +kernel
theorem dJ7_checkFromIndexSize_1 : decode cJ7_checkFromIndexSize 1 = .ok (.iload_n 0, 1) := by decide +kernel
theorem dJ7_checkFromIndexSize_2 : decode cJ7_checkFromIndexSize 2 = .ok (.ior, 1) := by decide +kernel
theorem dJ7_checkFromIndexSize_3 : decode cJ7_checkFromIndexSize 3 = .ok (.iload_n 1, 1) := by decide +kernel
theorem dJ7_checkFromIndexSize_4 : decode cJ7_checkFromIndexSize 4 = .ok (.ior, 1) := by decide +kernel
theorem dJ7_checkFromIndexSize_5 : decode cJ7_checkFromIndexSize 5 = .ok (.ifCond .lt 10, 3) := by decide +kernel
theorem dJ7_checkFromIndexSize_8 : decode cJ7_checkFromIndexSize 8 = .ok (.iload_n 1, 1) := by decide +kernel
theorem dJ7_checkFromIndexSize_9 : decode cJ7_checkFromIndexSize 9 = .ok (.iload_n 2, 1) := by decide +kernel
theorem dJ7_checkFromIndexSize_10 : decode cJ7_checkFromIndexSize 10 = .ok (.iload_n 0, 1) := by decide +kernel
theorem dJ7_checkFromIndexSize_11 : decode cJ7_checkFromIndexSize 11 = .ok (.isub, 1) := by decide +kernel
theorem dJ7_checkFromIndexSize_12 : decode cJ7_checkFromIndexSize 12 = .ok (.if_icmp .le 11, 3) := by decide +kernel
theorem dJ7_checkFromIndexSize_15 : decode cJ7_checkFromIndexSize 15 = .ok (.aload_n 3, 1) := by decide +kernel
theorem dJ7_checkFromIndexSize_16 : decode cJ7_checkFromIndexSize 16 = .ok (.iload_n 0, 1) := by decide +kernel
theorem dJ7_checkFromIndexSize_17 : decode cJ7_checkFromIndexSize 17 = .ok (.iload_n 1, 1) := by decide +kernel
theorem dJ7_checkFromIndexSize_18 : decode cJ7_checkFromIndexSize 18 = .ok (.iload_n 2, 1) := by decide +kernel
theorem dJ7_checkFromIndexSize_19 : decode cJ7_checkFromIndexSize 19 = .ok (.invokestatic 103, 3) := by decide +kernel
theorem dJ7_checkFromIndexSize_22 : decode cJ7_checkFromIndexSize 22 = .ok (.athrow, 1) := by decide +kernel
theorem dJ7_checkFromIndexSize_23 : decode cJ7_checkFromIndexSize 23 = .ok (.iload_n 0, 1) := by decide +kernel
theorem dJ7_checkFromIndexSize_24 : decode cJ7_checkFromIndexSize 24 = .ok (.ireturn, 1) := by decide +kernel
theorem q170 : (Jvm.Cond.initialized "jdk/internal/util/Preconditions") ∈ lw_all := lw_g (lw_at lw_m1 11 rfl) rfl
theorem q418 : (Jvm.Cond.laysStatic "jdk/internal/util/Preconditions" "SIOOBE_FORMATTER" "Ljava/util/function/BiFunction;") ∈ lw_tbl := lw_at lw_m2 19 rfl
theorem q420 : (Jvm.Cond.static ({ cls := "jdk/internal/util/Preconditions", name := "checkFromToIndex", desc := "(IIILjava/util/function/BiFunction;)I" } : Jvm.MethodName)) ∈ lw_all := lw_g (lw_at lw_m2 21 rfl) rfl
theorem q421 : (Jvm.Cond.code ({ cls := "jdk/internal/util/Preconditions", name := "checkFromToIndex", desc := "(IIILjava/util/function/BiFunction;)I" } : Jvm.MethodName) prog_57_method_12_code (4 : Nat) (Option.some Jvm.ClassFile.FieldType.int)) ∈ lw_all := lw_g (lw_at lw_m2 22 rfl) rfl
theorem q471 : (Jvm.Cond.static ({ cls := "jdk/internal/util/Preconditions", name := "checkIndex", desc := "(IILjava/util/function/BiFunction;)I" } : Jvm.MethodName)) ∈ lw_all := lw_g (lw_at lw_m2 72 rfl) rfl
theorem q472 : (Jvm.Cond.code ({ cls := "jdk/internal/util/Preconditions", name := "checkIndex", desc := "(IILjava/util/function/BiFunction;)I" } : Jvm.MethodName) prog_57_method_11_code (3 : Nat) (Option.some Jvm.ClassFile.FieldType.int)) ∈ lw_all := lw_g (lw_at lw_m2 73 rfl) rfl
theorem q677 : (Jvm.Cond.static ({ cls := "jdk/internal/util/Preconditions", name := "checkFromIndexSize", desc := "(IIILjava/util/function/BiFunction;)I" } : Jvm.MethodName)) ∈ lw_all := lw_g (lw_at lw_m3 38 rfl) rfl
theorem q678 : (Jvm.Cond.code ({ cls := "jdk/internal/util/Preconditions", name := "checkFromIndexSize", desc := "(IIILjava/util/function/BiFunction;)I" } : Jvm.MethodName) prog_57_method_13_code (4 : Nat) (Option.some Jvm.ClassFile.FieldType.int)) ∈ lw_all := lw_g (lw_at lw_m3 39 rfl) rfl
/-! java/lang/Throwable -/
def RJ9 : String := "java/lang/Throwable"
def TJ9 : u_T := fun k => match k with
  | 0 => ("java/lang/Throwable", "cause", "Ljava/lang/Throwable;", false)
  | 1 => ("java/lang/Throwable", "stackTrace", "[Ljava/lang/StackTraceElement;", false)
  | 2 => ("java/lang/Throwable", "suppressedExceptions", "Ljava/util/List;", false)
  | 3 => ("java/lang/Throwable", "detailMessage", "Ljava/lang/String;", false)
  | _ => ("java/lang/Throwable", "backtrace", "Ljava/lang/Object;", false)
def tyJ9 : Nat → FieldType := fun k => match k with
  | 0 => .object "java/lang/Throwable"
  | 1 => .array (.object "java/lang/StackTraceElement")
  | 2 => .object "java/util/List"
  | 3 => .object "java/lang/String"
  | _ => .object "java/lang/Object"
abbrev wsJ90 : List Cond := u_ws RJ9 TJ9 5
theorem nmJ9 : ∀ a, a < 5 → ∀ b, b < 5 → a ≠ b → (TJ9 a).2.1 ≠ (TJ9 b).2.1 := by decide +kernel
theorem tyJ9_ok : ∀ k, k < 5 → parseFieldDescriptor (TJ9 k).2.2.1 = some (tyJ9 k) := by decide +kernel
abbrev cJ9_init : ByteArray := prog_44_method_1_code
def yJ9_init : MethodName := ⟨RJ9, "<init>", "()V"⟩
theorem dJ9_init_0 : decode cJ9_init 0 = .ok (.aload_n 0, 1) := by decide +kernel
theorem dJ9_init_1 : decode cJ9_init 1 = .ok (.invokespecial 1, 3) := by decide +kernel
theorem dJ9_init_4 : decode cJ9_init 4 = .ok (.aload_n 0, 1) := by decide +kernel
theorem dJ9_init_5 : decode cJ9_init 5 = .ok (.aload_n 0, 1) := by decide +kernel
theorem dJ9_init_6 : decode cJ9_init 6 = .ok (.putfield 7, 3) := by decide +kernel
theorem dJ9_init_9 : decode cJ9_init 9 = .ok (.aload_n 0, 1) := by decide +kernel
theorem dJ9_init_10 : decode cJ9_init 10 = .ok (.getstatic 13, 3) := by decide +kernel
theorem dJ9_init_13 : decode cJ9_init 13 = .ok (.putfield 17, 3) := by decide +kernel
theorem dJ9_init_16 : decode cJ9_init 16 = .ok (.aload_n 0, 1) := by decide +kernel
theorem dJ9_init_17 : decode cJ9_init 17 = .ok (.getstatic 20, 3) := by decide +kernel
theorem dJ9_init_20 : decode cJ9_init 20 = .ok (.putfield 24, 3) := by decide +kernel
theorem dJ9_init_23 : decode cJ9_init 23 = .ok (.aload_n 0, 1) := by decide +kernel
theorem dJ9_init_24 : decode cJ9_init 24 = .ok (.invokevirtual 27, 3) := by decide +kernel
theorem dJ9_init_27 : decode cJ9_init 27 = .ok (.pop, 1) := by decide +kernel
theorem dJ9_init_28 : decode cJ9_init 28 = .ok (.return_, 1) := by decide +kernel
abbrev cJ9_init_2 : ByteArray := prog_44_method_5_code
def yJ9_init_2 : MethodName := ⟨RJ9, "<init>", "(Ljava/lang/String;Ljava/lang/Throwable;ZZ)V"⟩
theorem dJ9_init_2_0 : decode cJ9_init_2 0 = .ok (.aload_n 0, 1) := by decide +kernel
theorem dJ9_init_2_1 : decode cJ9_init_2 1 = .ok (.invokespecial 1, 3) := by decide +kernel
theorem dJ9_init_2_4 : decode cJ9_init_2 4 = .ok (.aload_n 0, 1) := by decide +kernel
theorem dJ9_init_2_5 : decode cJ9_init_2 5 = .ok (.aload_n 0, 1) := by decide +kernel
theorem dJ9_init_2_6 : decode cJ9_init_2 6 = .ok (.putfield 7, 3) := by decide +kernel
theorem dJ9_init_2_9 : decode cJ9_init_2 9 = .ok (.aload_n 0, 1) := by decide +kernel
theorem dJ9_init_2_10 : decode cJ9_init_2 10 = .ok (.getstatic 13, 3) := by decide +kernel
theorem dJ9_init_2_13 : decode cJ9_init_2 13 = .ok (.putfield 17, 3) := by decide +kernel
theorem dJ9_init_2_16 : decode cJ9_init_2 16 = .ok (.aload_n 0, 1) := by decide +kernel
theorem dJ9_init_2_17 : decode cJ9_init_2 17 = .ok (.getstatic 20, 3) := by decide +kernel
theorem dJ9_init_2_20 : decode cJ9_init_2 20 = .ok (.putfield 24, 3) := by decide +kernel
theorem dJ9_init_2_23 : decode cJ9_init_2 23 = .ok (.iload 4, 2) := by decide +kernel
theorem dJ9_init_2_25 : decode cJ9_init_2 25 = .ok (.ifCond .eq 11, 3) := by decide +kernel
theorem dJ9_init_2_28 : decode cJ9_init_2 28 = .ok (.aload_n 0, 1) := by decide +kernel
theorem dJ9_init_2_29 : decode cJ9_init_2 29 = .ok (.invokevirtual 27, 3) := by decide +kernel
theorem dJ9_init_2_32 : decode cJ9_init_2 32 = .ok (.pop, 1) := by decide +kernel
theorem dJ9_init_2_33 : decode cJ9_init_2 33 = .ok (.goto 8, 3) := by decide +kernel
theorem dJ9_init_2_36 : decode cJ9_init_2 36 = .ok (.aload_n 0, 1) := by decide +kernel
theorem dJ9_init_2_37 : decode cJ9_init_2 37 = .ok (.aconst_null, 1) := by decide +kernel
theorem dJ9_init_2_38 : decode cJ9_init_2 38 = .ok (.putfield 17, 3) := by decide +kernel
theorem dJ9_init_2_41 : decode cJ9_init_2 41 = .ok (.aload_n 0, 1) := by decide +kernel
theorem dJ9_init_2_42 : decode cJ9_init_2 42 = .ok (.aload_n 1, 1) := by decide +kernel
theorem dJ9_init_2_43 : decode cJ9_init_2 43 = .ok (.putfield 31, 3) := by decide +kernel
theorem dJ9_init_2_46 : decode cJ9_init_2 46 = .ok (.aload_n 0, 1) := by decide +kernel
theorem dJ9_init_2_47 : decode cJ9_init_2 47 = .ok (.aload_n 2, 1) := by decide +kernel
theorem dJ9_init_2_48 : decode cJ9_init_2 48 = .ok (.putfield 7, 3) := by decide +kernel
theorem dJ9_init_2_51 : decode cJ9_init_2 51 = .ok (.iload_n 3, 1) := by decide +kernel
theorem dJ9_init_2_52 : decode cJ9_init_2 52 = .ok (.ifCond .ne 8, 3) := by decide +kernel
theorem dJ9_init_2_55 : decode cJ9_init_2 55 = .ok (.aload_n 0, 1) := by decide +kernel
theorem dJ9_init_2_56 : decode cJ9_init_2 56 = .ok (.aconst_null, 1) := by decide +kernel
theorem dJ9_init_2_57 : decode cJ9_init_2 57 = .ok (.putfield 24, 3) := by decide +kernel
theorem dJ9_init_2_60 : decode cJ9_init_2 60 = .ok (.return_, 1) := by decide +kernel
theorem q172 : (Jvm.Cond.initialized "java/lang/Throwable") ∈ lw_all := lw_g (lw_at lw_m1 13 rfl) rfl
theorem q500 : (Jvm.Cond.declares ({ cls := "java/lang/Throwable", name := "<init>", desc := "()V" } : Jvm.MethodName)) ∈ lw_tbl := lw_at lw_m2 101 rfl
theorem q501 : (Jvm.Cond.declares ({ cls := "java/lang/Throwable", name := "<init>", desc := "(Ljava/lang/String;)V" } : Jvm.MethodName)) ∈ lw_tbl := lw_at lw_m2 102 rfl
theorem q505 : (Jvm.Cond.lays "java/lang/Throwable" "java/lang/Throwable" "cause" "Ljava/lang/Throwable;") ∈ lw_all := lw_g (lw_at lw_m2 106 rfl) rfl
theorem q507 : (Jvm.Cond.lays "java/lang/Throwable" "java/lang/Throwable" "stackTrace" "[Ljava/lang/StackTraceElement;") ∈ lw_all := lw_g (lw_at lw_m2 108 rfl) rfl
theorem q509 : (Jvm.Cond.lays "java/lang/Throwable" "java/lang/Throwable" "suppressedExceptions" "Ljava/util/List;") ∈ lw_all := lw_g (lw_at lw_m2 110 rfl) rfl
theorem q511 : (Jvm.Cond.lays "java/lang/Throwable" "java/lang/Throwable" "detailMessage" "Ljava/lang/String;") ∈ lw_all := lw_g (lw_at lw_m2 112 rfl) rfl
theorem q513 : (Jvm.Cond.lays "java/lang/Throwable" "java/lang/Throwable" "backtrace" "Ljava/lang/Object;") ∈ lw_all := lw_g (lw_at lw_m2 114 rfl) rfl
theorem q514 : (Jvm.Cond.fieldLink "java/lang/Throwable" (198 : Nat) "java/lang/Throwable" "backtrace" "Ljava/lang/Object;") ∈ lw_all := lw_g (lw_at lw_m2 115 rfl) rfl
theorem q515 : (Jvm.Cond.superclass "java/lang/Throwable" "java/lang/Object") ∈ lw_all := lw_g (lw_at lw_m2 116 rfl) rfl
theorem q516 : (Jvm.Cond.instanceMethod ({ cls := "java/lang/Throwable", name := "<init>", desc := "()V" } : Jvm.MethodName)) ∈ lw_all := lw_g (lw_at lw_m2 117 rfl) rfl
theorem q517 : (Jvm.Cond.code ({ cls := "java/lang/Throwable", name := "<init>", desc := "()V" } : Jvm.MethodName) prog_44_method_1_code (1 : Nat) (Option.none : Option Jvm.ClassFile.FieldType)) ∈ lw_all := lw_g (lw_at lw_m2 118 rfl) rfl
theorem q518 : (Jvm.Cond.methodLink "java/lang/Throwable" (1 : Nat) ({ cls := "java/lang/Object", name := "<init>", desc := "()V" } : Jvm.MethodName)) ∈ lw_all := lw_g (lw_at lw_m2 119 rfl) rfl
theorem q519 : (Jvm.Cond.fieldLink "java/lang/Throwable" (13 : Nat) "java/lang/Throwable" "UNASSIGNED_STACK" "[Ljava/lang/StackTraceElement;") ∈ lw_all := lw_g (lw_at lw_m2 120 rfl) rfl
theorem q520 : (Jvm.Cond.laysStatic "java/lang/Throwable" "UNASSIGNED_STACK" "[Ljava/lang/StackTraceElement;") ∈ lw_tbl := lw_at lw_m2 121 rfl
theorem q521 : (Jvm.Cond.fieldLink "java/lang/Throwable" (20 : Nat) "java/lang/Throwable" "SUPPRESSED_SENTINEL" "Ljava/util/List;") ∈ lw_all := lw_g (lw_at lw_m2 122 rfl) rfl
theorem q522 : (Jvm.Cond.laysStatic "java/lang/Throwable" "SUPPRESSED_SENTINEL" "Ljava/util/List;") ∈ lw_tbl := lw_at lw_m2 123 rfl
theorem q523 : (Jvm.Cond.methodLink "java/lang/Throwable" (27 : Nat) ({ cls := "java/lang/Throwable", name := "fillInStackTrace", desc := "()Ljava/lang/Throwable;" } : Jvm.MethodName)) ∈ lw_all := lw_g (lw_at lw_m2 124 rfl) rfl
theorem q524 : (Jvm.Cond.instanceMethod ({ cls := "java/lang/Throwable", name := "fillInStackTrace", desc := "()Ljava/lang/Throwable;" } : Jvm.MethodName)) ∈ lw_all := lw_g (lw_at lw_m2 125 rfl) rfl
theorem q525 : (Jvm.Cond.sameMethod "java/lang/Throwable" "java/lang/Throwable" "fillInStackTrace" "()Ljava/lang/Throwable;") ∈ lw_all := lw_g (lw_at lw_m2 126 rfl) rfl
theorem q529 : (Jvm.Cond.codeSync ({ cls := "java/lang/Throwable", name := "fillInStackTrace", desc := "()Ljava/lang/Throwable;" } : Jvm.MethodName) prog_44_method_18_code (1 : Nat) (Option.some (Jvm.ClassFile.FieldType.object "java/lang/Throwable"))) ∈ lw_all := lw_g (lw_at lw_m2 130 rfl) rfl
theorem q530 : (Jvm.Cond.methodLink "java/lang/Throwable" (202 : Nat) ({ cls := "java/lang/Throwable", name := "fillInStackTrace", desc := "(I)Ljava/lang/Throwable;" } : Jvm.MethodName)) ∈ lw_all := lw_g (lw_at lw_m2 131 rfl) rfl
theorem q531 : (Jvm.Cond.privateMethod ({ cls := "java/lang/Throwable", name := "fillInStackTrace", desc := "(I)Ljava/lang/Throwable;" } : Jvm.MethodName)) ∈ lw_tbl := lw_at lw_m2 132 rfl
theorem q532 : (Jvm.Cond.instanceMethod ({ cls := "java/lang/Throwable", name := "fillInStackTrace", desc := "(I)Ljava/lang/Throwable;" } : Jvm.MethodName)) ∈ lw_all := lw_g (lw_at lw_m2 133 rfl) rfl
theorem q533 : (Jvm.Cond.instantiable "java/lang/Throwable" (6 : Nat)) ∈ lw_all := lw_g (lw_at lw_m2 134 rfl) rfl
theorem q534 : (Jvm.Cond.native ({ cls := "java/lang/Throwable", name := "fillInStackTrace", desc := "(I)Ljava/lang/Throwable;" } : Jvm.MethodName)) ∈ lw_all := lw_g (lw_at lw_m2 135 rfl) rfl
theorem q545 : (Jvm.Cond.instanceMethod ({ cls := "java/lang/Throwable", name := "<init>", desc := "(Ljava/lang/String;Ljava/lang/Throwable;ZZ)V" } : Jvm.MethodName)) ∈ lw_all := lw_g (lw_at lw_m2 146 rfl) rfl
theorem q546 : (Jvm.Cond.code ({ cls := "java/lang/Throwable", name := "<init>", desc := "(Ljava/lang/String;Ljava/lang/Throwable;ZZ)V" } : Jvm.MethodName) prog_44_method_5_code (5 : Nat) (Option.none : Option Jvm.ClassFile.FieldType)) ∈ lw_all := lw_g (lw_at lw_m2 147 rfl) rfl
theorem q551 : (Jvm.Cond.fieldLink "java/lang/Throwable" (198 : Nat) "java/lang/Throwable" "backtrace" "Ljava/lang/Object;") ∈ lw_all := lw_g (lw_at lw_m2 152 rfl) rfl
theorem q552 : (Jvm.Cond.fieldLink "java/lang/Throwable" (31 : Nat) "java/lang/Throwable" "detailMessage" "Ljava/lang/String;") ∈ lw_all := lw_g (lw_at lw_m2 153 rfl) rfl
theorem q553 : (Jvm.Cond.fieldLink "java/lang/Throwable" (7 : Nat) "java/lang/Throwable" "cause" "Ljava/lang/Throwable;") ∈ lw_all := lw_g (lw_at lw_m2 154 rfl) rfl
theorem q554 : (Jvm.Cond.fieldLink "java/lang/Throwable" (17 : Nat) "java/lang/Throwable" "stackTrace" "[Ljava/lang/StackTraceElement;") ∈ lw_all := lw_g (lw_at lw_m2 155 rfl) rfl
theorem q555 : (Jvm.Cond.fieldLink "java/lang/Throwable" (24 : Nat) "java/lang/Throwable" "suppressedExceptions" "Ljava/util/List;") ∈ lw_all := lw_g (lw_at lw_m2 156 rfl) rfl
theorem q560 : (Jvm.Cond.soleField "java/lang/Throwable" "backtrace") ∈ lw_all := lw_g (lw_at lw_m2 161 rfl) rfl
theorem q561 : (Jvm.Cond.soleField "java/lang/Throwable" "detailMessage") ∈ lw_all := lw_g (lw_at lw_m2 162 rfl) rfl
theorem q562 : (Jvm.Cond.soleField "java/lang/Throwable" "cause") ∈ lw_all := lw_g (lw_at lw_m2 163 rfl) rfl
theorem q563 : (Jvm.Cond.soleField "java/lang/Throwable" "stackTrace") ∈ lw_all := lw_g (lw_at lw_m2 164 rfl) rfl
theorem q565 : (Jvm.Cond.soleField "java/lang/Throwable" "depth") ∈ lw_all := lw_g (lw_at lw_m2 166 rfl) rfl
theorem q566 : (Jvm.Cond.soleField "java/lang/Throwable" "suppressedExceptions") ∈ lw_all := lw_g (lw_at lw_m2 167 rfl) rfl
theorem q2688 : (Jvm.Cond.sameMethod "java/lang/Throwable" "java/lang/Throwable" "fillInStackTrace" "(I)Ljava/lang/Throwable;") ∈ lw_all := lw_g (lw_at lw_m11 129 rfl) rfl
theorem q2720 : (Jvm.Cond.castable "java/lang/Throwable" "java/lang/Object") ∈ lw_tbl := lw_at lw_m11 161 rfl
theorem in_J9 : ∀ w ∈ wsJ90, w ∈ lw_all := lw_in wsJ90 [505, 507, 509, 511, 513] (by decide +kernel) (by decide +kernel)
/-! FeatherBench -/
def RX0 : String := "FeatherBench"
def TX0 : u_T := fun k => match k with
  | 0 => ("FeatherBench", "tape", "[B", true)
  | 1 => ("FeatherBench", "out", "[B", true)
  | 2 => ("FeatherBench", "taped", "I", false)
  | 3 => ("FeatherBench", "outMany", "I", false)
  | 4 => ("FeatherBench", "steps", "I", false)
  | 5 => ("FeatherBench", "all", "I", false)
  | 6 => ("FeatherBench", "most", "I", false)
  | 7 => ("FeatherBench", "deep", "I", false)
  | 8 => ("FeatherBench", "called", "I", false)
  | 9 => ("FeatherBench", "failedAt", "I", false)
  | 10 => ("FeatherBench", "reader", "LFeatherBench$Reader;", true)
  | 11 => ("FeatherBench", "types", "Ljava/util/ArrayList;", false)
  | 12 => ("FeatherBench", "funcs", "I", false)
  | 13 => ("FeatherBench", "main", "LFeatherBench$Exp;", false)
  | 14 => ("FeatherBench", "mainType", "LFeatherBench$Ty;", false)
  | 15 => ("FeatherBench", "value", "LFeatherBench$Thing;", false)
  | 16 => ("FeatherBench", "instances", "LFeatherBench$Instances;", false)
  | _ => ("FeatherBench", "wereMade", "Z", false)
def tyX0 : Nat → FieldType := fun k => match k with
  | 0 => .array .byte
  | 1 => .array .byte
  | 2 => .int
  | 3 => .int
  | 4 => .int
  | 5 => .int
  | 6 => .int
  | 7 => .int
  | 8 => .int
  | 9 => .int
  | 10 => .object "FeatherBench$Reader"
  | 11 => .object "java/util/ArrayList"
  | 12 => .int
  | 13 => .object "FeatherBench$Exp"
  | 14 => .object "FeatherBench$Ty"
  | 15 => .object "FeatherBench$Thing"
  | 16 => .object "FeatherBench$Instances"
  | _ => .boolean
abbrev wsX00 : List Cond := u_ws RX0 TX0 18
set_option maxRecDepth 100000 in
theorem nmX0 : ∀ a, a < 18 → ∀ b, b < 18 → a ≠ b → (TX0 a).2.1 ≠ (TX0 b).2.1 := by decide +kernel
set_option maxRecDepth 100000 in
theorem tyX0_ok : ∀ k, k < 18 → parseFieldDescriptor (TX0 k).2.2.1 = some (tyX0 k) := by decide +kernel
abbrev cX0_init : ByteArray := prog_1_method_11_code
def yX0_init : MethodName := ⟨RX0, "<init>", "()V"⟩
theorem dX0_init_0 : decode cX0_init 0 = .ok (.aload_n 0, 1) := by decide +kernel
theorem dX0_init_1 : decode cX0_init 1 = .ok (.invokespecial 159, 3) := by decide +kernel
theorem dX0_init_4 : decode cX0_init 4 = .ok (.aload_n 0, 1) := by decide +kernel
theorem dX0_init_5 : decode cX0_init 5 = .ok (.sipush 4000, 3) := by decide +kernel
theorem dX0_init_8 : decode cX0_init 8 = .ok (.newarray .byte, 2) := by decide +kernel
theorem dX0_init_10 : decode cX0_init 10 = .ok (.putfield 162, 3) := by decide +kernel
theorem dX0_init_13 : decode cX0_init 13 = .ok (.aload_n 0, 1) := by decide +kernel
theorem dX0_init_14 : decode cX0_init 14 = .ok (.sipush 2000, 3) := by decide +kernel
theorem dX0_init_17 : decode cX0_init 17 = .ok (.newarray .byte, 2) := by decide +kernel
theorem dX0_init_19 : decode cX0_init 19 = .ok (.putfield 166, 3) := by decide +kernel
theorem dX0_init_22 : decode cX0_init 22 = .ok (.aload_n 0, 1) := by decide +kernel
theorem dX0_init_23 : decode cX0_init 23 = .ok (.iconst (-1), 1) := by decide +kernel
theorem dX0_init_24 : decode cX0_init 24 = .ok (.putfield 169, 3) := by decide +kernel
theorem dX0_init_27 : decode cX0_init 27 = .ok (.aload_n 0, 1) := by decide +kernel
theorem dX0_init_28 : decode cX0_init 28 = .ok (.new 172, 3) := by decide +kernel
theorem dX0_init_31 : decode cX0_init 31 = .ok (.dup, 1) := by decide +kernel
theorem dX0_init_32 : decode cX0_init 32 = .ok (.invokespecial 174, 3) := by decide +kernel
theorem dX0_init_35 : decode cX0_init 35 = .ok (.putfield 175, 3) := by decide +kernel
theorem dX0_init_38 : decode cX0_init 38 = .ok (.aload_n 0, 1) := by decide +kernel
theorem dX0_init_39 : decode cX0_init 39 = .ok (.new 2, 3) := by decide +kernel
theorem dX0_init_42 : decode cX0_init 42 = .ok (.dup, 1) := by decide +kernel
theorem dX0_init_43 : decode cX0_init 43 = .ok (.iconst 1, 1) := by decide +kernel
theorem dX0_init_44 : decode cX0_init 44 = .ok (.invokespecial 179, 3) := by decide +kernel
theorem dX0_init_47 : decode cX0_init 47 = .ok (.putfield 182, 3) := by decide +kernel
theorem dX0_init_50 : decode cX0_init 50 = .ok (.return_, 1) := by decide +kernel
abbrev cX0_feed : ByteArray := prog_1_method_12_code
def yX0_feed : MethodName := ⟨RX0, "feed", "(JJJ)I"⟩
theorem dX0_feed_0 : decode cX0_feed 0 = .ok (.iconst 0, 1) := by decide +kernel
theorem dX0_feed_1 : decode cX0_feed 1 = .ok (.istore 7, 2) := by decide +kernel
theorem dX0_feed_3 : decode cX0_feed 3 = .ok (.iload 7, 2) := by decide +kernel
theorem dX0_feed_5 : decode cX0_feed 5 = .ok (.bipush 24, 2) := by decide +kernel
theorem dX0_feed_7 : decode cX0_feed 7 = .ok (.if_icmp .ge 102, 3) := by decide +kernel
theorem dX0_feed_10 : decode cX0_feed 10 = .ok (.iload 7, 2) := by decide +kernel
theorem dX0_feed_12 : decode cX0_feed 12 = .ok (.bipush 8, 2) := by decide +kernel
theorem dX0_feed_14 : decode cX0_feed 14 = .ok (.if_icmp .ge 7, 3) := by decide +kernel
theorem dX0_feed_17 : decode cX0_feed 17 = .ok (.lload_n 1, 1) := by decide +kernel
theorem dX0_feed_18 : decode cX0_feed 18 = .ok (.goto 16, 3) := by decide +kernel
theorem dX0_feed_21 : decode cX0_feed 21 = .ok (.iload 7, 2) := by decide +kernel
theorem dX0_feed_23 : decode cX0_feed 23 = .ok (.bipush 16, 2) := by decide +kernel
theorem dX0_feed_25 : decode cX0_feed 25 = .ok (.if_icmp .ge 7, 3) := by decide +kernel
theorem dX0_feed_28 : decode cX0_feed 28 = .ok (.lload_n 3, 1) := by decide +kernel
theorem dX0_feed_29 : decode cX0_feed 29 = .ok (.goto 5, 3) := by decide +kernel
theorem dX0_feed_32 : decode cX0_feed 32 = .ok (.lload 5, 2) := by decide +kernel
theorem dX0_feed_34 : decode cX0_feed 34 = .ok (.bipush 56, 2) := by decide +kernel
theorem dX0_feed_36 : decode cX0_feed 36 = .ok (.bipush 8, 2) := by decide +kernel
theorem dX0_feed_38 : decode cX0_feed 38 = .ok (.iload 7, 2) := by decide +kernel
theorem dX0_feed_40 : decode cX0_feed 40 = .ok (.bipush 8, 2) := by decide +kernel
theorem dX0_feed_42 : decode cX0_feed 42 = .ok (.irem, 1) := by decide +kernel
theorem dX0_feed_43 : decode cX0_feed 43 = .ok (.imul, 1) := by decide +kernel
theorem dX0_feed_44 : decode cX0_feed 44 = .ok (.isub, 1) := by decide +kernel
theorem dX0_feed_45 : decode cX0_feed 45 = .ok (.lshr, 1) := by decide +kernel
theorem dX0_feed_46 : decode cX0_feed 46 = .ok (.l2i, 1) := by decide +kernel
theorem dX0_feed_47 : decode cX0_feed 47 = .ok (.sipush 255, 3) := by decide +kernel
theorem dX0_feed_50 : decode cX0_feed 50 = .ok (.iand, 1) := by decide +kernel
theorem dX0_feed_51 : decode cX0_feed 51 = .ok (.istore 8, 2) := by decide +kernel
theorem dX0_feed_53 : decode cX0_feed 53 = .ok (.iload 8, 2) := by decide +kernel
theorem dX0_feed_55 : decode cX0_feed 55 = .ok (.bipush 10, 2) := by decide +kernel
theorem dX0_feed_57 : decode cX0_feed 57 = .ok (.if_icmp .eq 17, 3) := by decide +kernel
theorem dX0_feed_60 : decode cX0_feed 60 = .ok (.iload 8, 2) := by decide +kernel
theorem dX0_feed_62 : decode cX0_feed 62 = .ok (.bipush 32, 2) := by decide +kernel
theorem dX0_feed_64 : decode cX0_feed 64 = .ok (.if_icmp .lt 39, 3) := by decide +kernel
theorem dX0_feed_67 : decode cX0_feed 67 = .ok (.iload 8, 2) := by decide +kernel
theorem dX0_feed_69 : decode cX0_feed 69 = .ok (.bipush 126, 2) := by decide +kernel
theorem dX0_feed_71 : decode cX0_feed 71 = .ok (.if_icmp .gt 32, 3) := by decide +kernel
theorem dX0_feed_74 : decode cX0_feed 74 = .ok (.aload_n 0, 1) := by decide +kernel
theorem dX0_feed_75 : decode cX0_feed 75 = .ok (.getfield 185, 3) := by decide +kernel
theorem dX0_feed_78 : decode cX0_feed 78 = .ok (.sipush 4000, 3) := by decide +kernel
theorem dX0_feed_81 : decode cX0_feed 81 = .ok (.if_icmp .ge 22, 3) := by decide +kernel
theorem dX0_feed_84 : decode cX0_feed 84 = .ok (.aload_n 0, 1) := by decide +kernel
theorem dX0_feed_85 : decode cX0_feed 85 = .ok (.getfield 162, 3) := by decide +kernel
theorem dX0_feed_88 : decode cX0_feed 88 = .ok (.aload_n 0, 1) := by decide +kernel
theorem dX0_feed_89 : decode cX0_feed 89 = .ok (.dup, 1) := by decide +kernel
theorem dX0_feed_90 : decode cX0_feed 90 = .ok (.getfield 185, 3) := by decide +kernel
theorem dX0_feed_93 : decode cX0_feed 93 = .ok (.dup_x1, 1) := by decide +kernel
theorem dX0_feed_94 : decode cX0_feed 94 = .ok (.iconst 1, 1) := by decide +kernel
theorem dX0_feed_95 : decode cX0_feed 95 = .ok (.iadd, 1) := by decide +kernel
theorem dX0_feed_96 : decode cX0_feed 96 = .ok (.putfield 185, 3) := by decide +kernel
theorem dX0_feed_99 : decode cX0_feed 99 = .ok (.iload 8, 2) := by decide +kernel
theorem dX0_feed_101 : decode cX0_feed 101 = .ok (.i2b, 1) := by decide +kernel
theorem dX0_feed_102 : decode cX0_feed 102 = .ok (.bastore, 1) := by decide +kernel
theorem dX0_feed_103 : decode cX0_feed 103 = .ok (.iinc 7 1, 3) := by decide +kernel
theorem dX0_feed_106 : decode cX0_feed 106 = .ok (.goto (-103), 3) := by decide +kernel
theorem dX0_feed_109 : decode cX0_feed 109 = .ok (.aload_n 0, 1) := by decide +kernel
theorem dX0_feed_110 : decode cX0_feed 110 = .ok (.getfield 185, 3) := by decide +kernel
theorem dX0_feed_113 : decode cX0_feed 113 = .ok (.ireturn, 1) := by decide +kernel
abbrev cX0_program : ByteArray := prog_1_method_14_code
def yX0_program : MethodName := ⟨RX0, "program", "()I"⟩
theorem dX0_program_0 : decode cX0_program 0 = .ok (.aload_n 0, 1) := by decide +kernel
theorem dX0_program_1 : decode cX0_program 1 = .ok (.getfield 175, 3) := by decide +kernel
theorem dX0_program_4 : decode cX0_program 4 = .ok (.aload_n 0, 1) := by decide +kernel
theorem dX0_program_5 : decode cX0_program 5 = .ok (.getfield 162, 3) := by decide +kernel
theorem dX0_program_8 : decode cX0_program 8 = .ok (.aload_n 0, 1) := by decide +kernel
theorem dX0_program_9 : decode cX0_program 9 = .ok (.invokevirtual 188, 3) := by decide +kernel
theorem dX0_program_12 : decode cX0_program 12 = .ok (.invokevirtual 191, 3) := by decide +kernel
theorem dX0_program_15 : decode cX0_program 15 = .ok (.aload_n 0, 1) := by decide +kernel
theorem dX0_program_16 : decode cX0_program 16 = .ok (.getfield 175, 3) := by decide +kernel
theorem dX0_program_19 : decode cX0_program 19 = .ok (.invokevirtual 195, 3) := by decide +kernel
theorem dX0_program_22 : decode cX0_program 22 = .ok (.new 198, 3) := by decide +kernel
theorem dX0_program_25 : decode cX0_program 25 = .ok (.dup, 1) := by decide +kernel
theorem dX0_program_26 : decode cX0_program 26 = .ok (.aload_n 0, 1) := by decide +kernel
theorem dX0_program_27 : decode cX0_program 27 = .ok (.getfield 175, 3) := by decide +kernel
theorem dX0_program_30 : decode cX0_program 30 = .ok (.getfield 200, 3) := by decide +kernel
theorem dX0_program_33 : decode cX0_program 33 = .ok (.aload_n 0, 1) := by decide +kernel
theorem dX0_program_34 : decode cX0_program 34 = .ok (.getfield 175, 3) := by decide +kernel
theorem dX0_program_37 : decode cX0_program 37 = .ok (.getfield 201, 3) := by decide +kernel
theorem dX0_program_40 : decode cX0_program 40 = .ok (.invokespecial 202, 3) := by decide +kernel
theorem dX0_program_43 : decode cX0_program 43 = .ok (.aload_n 0, 1) := by decide +kernel
theorem dX0_program_44 : decode cX0_program 44 = .ok (.getfield 175, 3) := by decide +kernel
theorem dX0_program_47 : decode cX0_program 47 = .ok (.getfield 205, 3) := by decide +kernel
theorem dX0_program_50 : decode cX0_program 50 = .ok (.invokevirtual 209, 3) := by decide +kernel
theorem dX0_program_53 : decode cX0_program 53 = .ok (.astore_n 1, 1) := by decide +kernel
theorem dX0_program_54 : decode cX0_program 54 = .ok (.goto 17, 3) := by decide +kernel
theorem dX0_program_57 : decode cX0_program 57 = .ok (.astore_n 2, 1) := by decide +kernel
theorem dX0_program_58 : decode cX0_program 58 = .ok (.aload_n 2, 1) := by decide +kernel
theorem dX0_program_59 : decode cX0_program 59 = .ok (.getfield 214, 3) := by decide +kernel
theorem dX0_program_62 : decode cX0_program 62 = .ok (.bipush 16, 2) := by decide +kernel
theorem dX0_program_64 : decode cX0_program 64 = .ok (.aload_n 2, 1) := by decide +kernel
theorem dX0_program_65 : decode cX0_program 65 = .ok (.getfield 217, 3) := by decide +kernel
theorem dX0_program_68 : decode cX0_program 68 = .ok (.imul, 1) := by decide +kernel
theorem dX0_program_69 : decode cX0_program 69 = .ok (.iadd, 1) := by decide +kernel
theorem dX0_program_70 : decode cX0_program 70 = .ok (.ireturn, 1) := by decide +kernel
theorem dX0_program_71 : decode cX0_program 71 = .ok (.aload_n 0, 1) := by decide +kernel
theorem dX0_program_72 : decode cX0_program 72 = .ok (.aload_n 0, 1) := by decide +kernel
theorem dX0_program_73 : decode cX0_program 73 = .ok (.getfield 175, 3) := by decide +kernel
theorem dX0_program_76 : decode cX0_program 76 = .ok (.getfield 200, 3) := by decide +kernel
theorem dX0_program_79 : decode cX0_program 79 = .ok (.putfield 182, 3) := by decide +kernel
theorem dX0_program_82 : decode cX0_program 82 = .ok (.aload_n 0, 1) := by decide +kernel
theorem dX0_program_83 : decode cX0_program 83 = .ok (.aload_n 0, 1) := by decide +kernel
theorem dX0_program_84 : decode cX0_program 84 = .ok (.getfield 175, 3) := by decide +kernel
theorem dX0_program_87 : decode cX0_program 87 = .ok (.getfield 201, 3) := by decide +kernel
theorem dX0_program_90 : decode cX0_program 90 = .ok (.invokevirtual 1, 3) := by decide +kernel
theorem dX0_program_93 : decode cX0_program 93 = .ok (.putfield 220, 3) := by decide +kernel
theorem dX0_program_96 : decode cX0_program 96 = .ok (.aload_n 0, 1) := by decide +kernel
theorem dX0_program_97 : decode cX0_program 97 = .ok (.aload_n 0, 1) := by decide +kernel
theorem dX0_program_98 : decode cX0_program 98 = .ok (.getfield 175, 3) := by decide +kernel
theorem dX0_program_101 : decode cX0_program 101 = .ok (.getfield 205, 3) := by decide +kernel
theorem dX0_program_104 : decode cX0_program 104 = .ok (.putfield 222, 3) := by decide +kernel
theorem dX0_program_107 : decode cX0_program 107 = .ok (.aload_n 0, 1) := by decide +kernel
theorem dX0_program_108 : decode cX0_program 108 = .ok (.aload_n 1, 1) := by decide +kernel
theorem dX0_program_109 : decode cX0_program 109 = .ok (.putfield 223, 3) := by decide +kernel
theorem dX0_program_112 : decode cX0_program 112 = .ok (.aload_n 0, 1) := by decide +kernel
theorem dX0_program_113 : decode cX0_program 113 = .ok (.aconst_null, 1) := by decide +kernel
theorem dX0_program_114 : decode cX0_program 114 = .ok (.putfield 226, 3) := by decide +kernel
theorem dX0_program_117 : decode cX0_program 117 = .ok (.aload_n 0, 1) := by decide +kernel
theorem dX0_program_118 : decode cX0_program 118 = .ok (.aconst_null, 1) := by decide +kernel
theorem dX0_program_119 : decode cX0_program 119 = .ok (.putfield 230, 3) := by decide +kernel
theorem dX0_program_122 : decode cX0_program 122 = .ok (.aload_n 0, 1) := by decide +kernel
theorem dX0_program_123 : decode cX0_program 123 = .ok (.iconst 0, 1) := by decide +kernel
theorem dX0_program_124 : decode cX0_program 124 = .ok (.putfield 234, 3) := by decide +kernel
theorem dX0_program_127 : decode cX0_program 127 = .ok (.aload_n 0, 1) := by decide +kernel
theorem dX0_program_128 : decode cX0_program 128 = .ok (.iconst (-1), 1) := by decide +kernel
theorem dX0_program_129 : decode cX0_program 129 = .ok (.putfield 169, 3) := by decide +kernel
theorem dX0_program_132 : decode cX0_program 132 = .ok (.aload_n 0, 1) := by decide +kernel
theorem dX0_program_133 : decode cX0_program 133 = .ok (.iconst 0, 1) := by decide +kernel
theorem dX0_program_134 : decode cX0_program 134 = .ok (.putfield 237, 3) := by decide +kernel
theorem dX0_program_137 : decode cX0_program 137 = .ok (.aload_n 0, 1) := by decide +kernel
theorem dX0_program_138 : decode cX0_program 138 = .ok (.iconst 0, 1) := by decide +kernel
theorem dX0_program_139 : decode cX0_program 139 = .ok (.putfield 240, 3) := by decide +kernel
theorem dX0_program_142 : decode cX0_program 142 = .ok (.iconst 0, 1) := by decide +kernel
theorem dX0_program_143 : decode cX0_program 143 = .ok (.ireturn, 1) := by decide +kernel
abbrev cX0_take : ByteArray := prog_1_method_13_code
def yX0_take : MethodName := ⟨RX0, "take", "()I"⟩
theorem dX0_take_0 : decode cX0_take 0 = .ok (.aload_n 0, 1) := by decide +kernel
theorem dX0_take_1 : decode cX0_take 1 = .ok (.getfield 185, 3) := by decide +kernel
theorem dX0_take_4 : decode cX0_take 4 = .ok (.istore_n 1, 1) := by decide +kernel
theorem dX0_take_5 : decode cX0_take 5 = .ok (.aload_n 0, 1) := by decide +kernel
theorem dX0_take_6 : decode cX0_take 6 = .ok (.iconst 0, 1) := by decide +kernel
theorem dX0_take_7 : decode cX0_take 7 = .ok (.putfield 185, 3) := by decide +kernel
theorem dX0_take_10 : decode cX0_take 10 = .ok (.iload_n 1, 1) := by decide +kernel
theorem dX0_take_11 : decode cX0_take 11 = .ok (.ireturn, 1) := by decide +kernel
abbrev cX0_headOf : ByteArray := prog_1_method_1_code
def yX0_headOf : MethodName := ⟨RX0, "headOf", "(Ljava/util/ArrayList;Ljava/lang/String;)LFeatherBench$Head;"⟩
theorem dX0_headOf_0 : decode cX0_headOf 0 = .ok (.iconst 0, 1) := by decide +kernel
theorem dX0_headOf_1 : decode cX0_headOf 1 = .ok (.istore_n 2, 1) := by decide +kernel
theorem dX0_headOf_2 : decode cX0_headOf 2 = .ok (.iload_n 2, 1) := by decide +kernel
theorem dX0_headOf_3 : decode cX0_headOf 3 = .ok (.aload_n 0, 1) := by decide +kernel
theorem dX0_headOf_4 : decode cX0_headOf 4 = .ok (.invokevirtual 1, 3) := by decide +kernel
theorem dX0_headOf_7 : decode cX0_headOf 7 = .ok (.if_icmp .ge 36, 3) := by decide +kernel
theorem dX0_headOf_10 : decode cX0_headOf 10 = .ok (.aload_n 0, 1) := by decide +kernel
theorem dX0_headOf_11 : decode cX0_headOf 11 = .ok (.iload_n 2, 1) := by decide +kernel
theorem dX0_headOf_12 : decode cX0_headOf 12 = .ok (.invokevirtual 7, 3) := by decide +kernel
theorem dX0_headOf_15 : decode cX0_headOf 15 = .ok (.checkcast 11, 3) := by decide +kernel
theorem dX0_headOf_18 : decode cX0_headOf 18 = .ok (.getfield 13, 3) := by decide +kernel
theorem dX0_headOf_21 : decode cX0_headOf 21 = .ok (.aload_n 1, 1) := by decide +kernel
theorem dX0_headOf_22 : decode cX0_headOf 22 = .ok (.invokevirtual 17, 3) := by decide +kernel
theorem dX0_headOf_25 : decode cX0_headOf 25 = .ok (.ifCond .eq 12, 3) := by decide +kernel
theorem dX0_headOf_28 : decode cX0_headOf 28 = .ok (.aload_n 0, 1) := by decide +kernel
theorem dX0_headOf_29 : decode cX0_headOf 29 = .ok (.iload_n 2, 1) := by decide +kernel
theorem dX0_headOf_30 : decode cX0_headOf 30 = .ok (.invokevirtual 7, 3) := by decide +kernel
theorem dX0_headOf_33 : decode cX0_headOf 33 = .ok (.checkcast 11, 3) := by decide +kernel
theorem dX0_headOf_36 : decode cX0_headOf 36 = .ok (.areturn, 1) := by decide +kernel
theorem dX0_headOf_37 : decode cX0_headOf 37 = .ok (.iinc 2 1, 3) := by decide +kernel
theorem dX0_headOf_40 : decode cX0_headOf 40 = .ok (.goto (-38), 3) := by decide +kernel
theorem dX0_headOf_43 : decode cX0_headOf 43 = .ok (.aconst_null, 1) := by decide +kernel
theorem dX0_headOf_44 : decode cX0_headOf 44 = .ok (.areturn, 1) := by decide +kernel
abbrev cX0_meets : ByteArray := prog_1_method_3_code
def yX0_meets : MethodName := ⟨RX0, "meets", "(LFeatherBench$Ty;LFeatherBench$Ty;)Z"⟩
theorem dX0_meets_0 : decode cX0_meets 0 = .ok (.aload_n 1, 1) := by decide +kernel
theorem dX0_meets_1 : decode cX0_meets 1 = .ok (.invokevirtual 89, 3) := by decide +kernel
theorem dX0_meets_4 : decode cX0_meets 4 = .ok (.ifCond .ne 9, 3) := by decide +kernel
theorem dX0_meets_7 : decode cX0_meets 7 = .ok (.aload_n 0, 1) := by decide +kernel
theorem dX0_meets_8 : decode cX0_meets 8 = .ok (.aload_n 1, 1) := by decide +kernel
theorem dX0_meets_9 : decode cX0_meets 9 = .ok (.invokevirtual 92, 3) := by decide +kernel
theorem dX0_meets_12 : decode cX0_meets 12 = .ok (.ireturn, 1) := by decide +kernel
theorem dX0_meets_13 : decode cX0_meets 13 = .ok (.aload_n 0, 1) := by decide +kernel
theorem dX0_meets_14 : decode cX0_meets 14 = .ok (.astore_n 2, 1) := by decide +kernel
theorem dX0_meets_15 : decode cX0_meets 15 = .ok (.aload_n 2, 1) := by decide +kernel
theorem dX0_meets_16 : decode cX0_meets 16 = .ok (.getfield 23, 3) := by decide +kernel
theorem dX0_meets_19 : decode cX0_meets 19 = .ok (.ifnull 14, 3) := by decide +kernel
theorem dX0_meets_22 : decode cX0_meets 22 = .ok (.aload_n 2, 1) := by decide +kernel
theorem dX0_meets_23 : decode cX0_meets 23 = .ok (.getfield 23, 3) := by decide +kernel
theorem dX0_meets_26 : decode cX0_meets 26 = .ok (.getfield 29, 3) := by decide +kernel
theorem dX0_meets_29 : decode cX0_meets 29 = .ok (.astore_n 2, 1) := by decide +kernel
theorem dX0_meets_30 : decode cX0_meets 30 = .ok (.goto (-15), 3) := by decide +kernel
theorem dX0_meets_33 : decode cX0_meets 33 = .ok (.iconst 1, 1) := by decide +kernel
theorem dX0_meets_34 : decode cX0_meets 34 = .ok (.istore_n 3, 1) := by decide +kernel
theorem dX0_meets_35 : decode cX0_meets 35 = .ok (.iconst 0, 1) := by decide +kernel
theorem dX0_meets_36 : decode cX0_meets 36 = .ok (.istore 4, 2) := by decide +kernel
theorem dX0_meets_38 : decode cX0_meets 38 = .ok (.iload 4, 2) := by decide +kernel
theorem dX0_meets_40 : decode cX0_meets 40 = .ok (.aload_n 1, 1) := by decide +kernel
theorem dX0_meets_41 : decode cX0_meets 41 = .ok (.getfield 41, 3) := by decide +kernel
theorem dX0_meets_44 : decode cX0_meets 44 = .ok (.getfield 59, 3) := by decide +kernel
theorem dX0_meets_47 : decode cX0_meets 47 = .ok (.invokevirtual 1, 3) := by decide +kernel
theorem dX0_meets_50 : decode cX0_meets 50 = .ok (.if_icmp .ge 34, 3) := by decide +kernel
theorem dX0_meets_53 : decode cX0_meets 53 = .ok (.iload_n 3, 1) := by decide +kernel
theorem dX0_meets_54 : decode cX0_meets 54 = .ok (.ifCond .eq 30, 3) := by decide +kernel
theorem dX0_meets_57 : decode cX0_meets 57 = .ok (.aload_n 2, 1) := by decide +kernel
theorem dX0_meets_58 : decode cX0_meets 58 = .ok (.aload_n 1, 1) := by decide +kernel
theorem dX0_meets_59 : decode cX0_meets 59 = .ok (.getfield 41, 3) := by decide +kernel
theorem dX0_meets_62 : decode cX0_meets 62 = .ok (.getfield 59, 3) := by decide +kernel
theorem dX0_meets_65 : decode cX0_meets 65 = .ok (.iload 4, 2) := by decide +kernel
theorem dX0_meets_67 : decode cX0_meets 67 = .ok (.invokevirtual 7, 3) := by decide +kernel
theorem dX0_meets_70 : decode cX0_meets 70 = .ok (.checkcast 11, 3) := by decide +kernel
theorem dX0_meets_73 : decode cX0_meets 73 = .ok (.aload_n 1, 1) := by decide +kernel
theorem dX0_meets_74 : decode cX0_meets 74 = .ok (.invokestatic 96, 3) := by decide +kernel
theorem dX0_meets_77 : decode cX0_meets 77 = .ok (.istore_n 3, 1) := by decide +kernel
theorem dX0_meets_78 : decode cX0_meets 78 = .ok (.iinc 4 1, 3) := by decide +kernel
theorem dX0_meets_81 : decode cX0_meets 81 = .ok (.goto (-43), 3) := by decide +kernel
theorem dX0_meets_84 : decode cX0_meets 84 = .ok (.iload_n 3, 1) := by decide +kernel
theorem dX0_meets_85 : decode cX0_meets 85 = .ok (.ireturn, 1) := by decide +kernel
abbrev cX0_hasAlike : ByteArray := prog_1_method_4_code
def yX0_hasAlike : MethodName := ⟨RX0, "hasAlike", "(LFeatherBench$Ty;LFeatherBench$Head;LFeatherBench$Ty;)Z"⟩
theorem dX0_hasAlike_0 : decode cX0_hasAlike 0 = .ok (.aload_n 0, 1) := by decide +kernel
theorem dX0_hasAlike_1 : decode cX0_hasAlike 1 = .ok (.getfield 41, 3) := by decide +kernel
theorem dX0_hasAlike_4 : decode cX0_hasAlike 4 = .ok (.getfield 55, 3) := by decide +kernel
theorem dX0_hasAlike_7 : decode cX0_hasAlike 7 = .ok (.ifCond .ne 58, 3) := by decide +kernel
theorem dX0_hasAlike_10 : decode cX0_hasAlike 10 = .ok (.aload_n 0, 1) := by decide +kernel
theorem dX0_hasAlike_11 : decode cX0_hasAlike 11 = .ok (.getfield 41, 3) := by decide +kernel
theorem dX0_hasAlike_14 : decode cX0_hasAlike 14 = .ok (.getfield 59, 3) := by decide +kernel
theorem dX0_hasAlike_17 : decode cX0_hasAlike 17 = .ok (.aload_n 1, 1) := by decide +kernel
theorem dX0_hasAlike_18 : decode cX0_hasAlike 18 = .ok (.getfield 13, 3) := by decide +kernel
theorem dX0_hasAlike_21 : decode cX0_hasAlike 21 = .ok (.invokestatic 62, 3) := by decide +kernel
theorem dX0_hasAlike_24 : decode cX0_hasAlike 24 = .ok (.astore_n 3, 1) := by decide +kernel
theorem dX0_hasAlike_25 : decode cX0_hasAlike 25 = .ok (.aload_n 3, 1) := by decide +kernel
theorem dX0_hasAlike_26 : decode cX0_hasAlike 26 = .ok (.ifnull 37, 3) := by decide +kernel
theorem dX0_hasAlike_29 : decode cX0_hasAlike 29 = .ok (.aload_n 1, 1) := by decide +kernel
theorem dX0_hasAlike_30 : decode cX0_hasAlike 30 = .ok (.aload_n 2, 1) := by decide +kernel
theorem dX0_hasAlike_31 : decode cX0_hasAlike 31 = .ok (.getfield 41, 3) := by decide +kernel
theorem dX0_hasAlike_34 : decode cX0_hasAlike 34 = .ok (.getfield 45, 3) := by decide +kernel
theorem dX0_hasAlike_37 : decode cX0_hasAlike 37 = .ok (.aload_n 2, 1) := by decide +kernel
theorem dX0_hasAlike_38 : decode cX0_hasAlike 38 = .ok (.getfield 35, 3) := by decide +kernel
theorem dX0_hasAlike_41 : decode cX0_hasAlike 41 = .ok (.aload_n 3, 1) := by decide +kernel
theorem dX0_hasAlike_42 : decode cX0_hasAlike 42 = .ok (.aload_n 0, 1) := by decide +kernel
theorem dX0_hasAlike_43 : decode cX0_hasAlike 43 = .ok (.getfield 41, 3) := by decide +kernel
theorem dX0_hasAlike_46 : decode cX0_hasAlike 46 = .ok (.getfield 45, 3) := by decide +kernel
theorem dX0_hasAlike_49 : decode cX0_hasAlike 49 = .ok (.aload_n 0, 1) := by decide +kernel
theorem dX0_hasAlike_50 : decode cX0_hasAlike 50 = .ok (.getfield 35, 3) := by decide +kernel
theorem dX0_hasAlike_53 : decode cX0_hasAlike 53 = .ok (.invokestatic 100, 3) := by decide +kernel
theorem dX0_hasAlike_56 : decode cX0_hasAlike 56 = .ok (.ifCond .eq 7, 3) := by decide +kernel
theorem dX0_hasAlike_59 : decode cX0_hasAlike 59 = .ok (.iconst 1, 1) := by decide +kernel
theorem dX0_hasAlike_60 : decode cX0_hasAlike 60 = .ok (.goto 4, 3) := by decide +kernel
theorem dX0_hasAlike_63 : decode cX0_hasAlike 63 = .ok (.iconst 0, 1) := by decide +kernel
theorem dX0_hasAlike_64 : decode cX0_hasAlike 64 = .ok (.ireturn, 1) := by decide +kernel
theorem dX0_hasAlike_65 : decode cX0_hasAlike 65 = .ok (.iconst 0, 1) := by decide +kernel
theorem dX0_hasAlike_66 : decode cX0_hasAlike 66 = .ok (.istore_n 3, 1) := by decide +kernel
theorem dX0_hasAlike_67 : decode cX0_hasAlike 67 = .ok (.iload_n 3, 1) := by decide +kernel
theorem dX0_hasAlike_68 : decode cX0_hasAlike 68 = .ok (.aload_n 0, 1) := by decide +kernel
theorem dX0_hasAlike_69 : decode cX0_hasAlike 69 = .ok (.getfield 41, 3) := by decide +kernel
theorem dX0_hasAlike_72 : decode cX0_hasAlike 72 = .ok (.getfield 73, 3) := by decide +kernel
theorem dX0_hasAlike_75 : decode cX0_hasAlike 75 = .ok (.invokevirtual 1, 3) := by decide +kernel
theorem dX0_hasAlike_78 : decode cX0_hasAlike 78 = .ok (.if_icmp .ge 73, 3) := by decide +kernel
theorem dX0_hasAlike_81 : decode cX0_hasAlike 81 = .ok (.aload_n 0, 1) := by decide +kernel
theorem dX0_hasAlike_82 : decode cX0_hasAlike 82 = .ok (.getfield 41, 3) := by decide +kernel
theorem dX0_hasAlike_85 : decode cX0_hasAlike 85 = .ok (.getfield 73, 3) := by decide +kernel
theorem dX0_hasAlike_88 : decode cX0_hasAlike 88 = .ok (.iload_n 3, 1) := by decide +kernel
theorem dX0_hasAlike_89 : decode cX0_hasAlike 89 = .ok (.invokevirtual 7, 3) := by decide +kernel
theorem dX0_hasAlike_92 : decode cX0_hasAlike 92 = .ok (.checkcast 76, 3) := by decide +kernel
theorem dX0_hasAlike_95 : decode cX0_hasAlike 95 = .ok (.astore 4, 2) := by decide +kernel
theorem dX0_hasAlike_97 : decode cX0_hasAlike 97 = .ok (.aload 4, 2) := by decide +kernel
theorem dX0_hasAlike_99 : decode cX0_hasAlike 99 = .ok (.getfield 78, 3) := by decide +kernel
theorem dX0_hasAlike_102 : decode cX0_hasAlike 102 = .ok (.getfield 13, 3) := by decide +kernel
theorem dX0_hasAlike_105 : decode cX0_hasAlike 105 = .ok (.aload_n 1, 1) := by decide +kernel
theorem dX0_hasAlike_106 : decode cX0_hasAlike 106 = .ok (.getfield 13, 3) := by decide +kernel
theorem dX0_hasAlike_109 : decode cX0_hasAlike 109 = .ok (.invokevirtual 17, 3) := by decide +kernel
theorem dX0_hasAlike_112 : decode cX0_hasAlike 112 = .ok (.ifCond .eq 33, 3) := by decide +kernel
theorem dX0_hasAlike_115 : decode cX0_hasAlike 115 = .ok (.aload_n 1, 1) := by decide +kernel
theorem dX0_hasAlike_116 : decode cX0_hasAlike 116 = .ok (.aload_n 2, 1) := by decide +kernel
theorem dX0_hasAlike_117 : decode cX0_hasAlike 117 = .ok (.getfield 41, 3) := by decide +kernel
theorem dX0_hasAlike_120 : decode cX0_hasAlike 120 = .ok (.getfield 45, 3) := by decide +kernel
theorem dX0_hasAlike_123 : decode cX0_hasAlike 123 = .ok (.aload_n 2, 1) := by decide +kernel
theorem dX0_hasAlike_124 : decode cX0_hasAlike 124 = .ok (.getfield 35, 3) := by decide +kernel
theorem dX0_hasAlike_127 : decode cX0_hasAlike 127 = .ok (.aload 4, 2) := by decide +kernel
theorem dX0_hasAlike_129 : decode cX0_hasAlike 129 = .ok (.getfield 78, 3) := by decide +kernel
theorem dX0_hasAlike_132 : decode cX0_hasAlike 132 = .ok (.aload 4, 2) := by decide +kernel
theorem dX0_hasAlike_134 : decode cX0_hasAlike 134 = .ok (.getfield 82, 3) := by decide +kernel
theorem dX0_hasAlike_137 : decode cX0_hasAlike 137 = .ok (.aload_n 0, 1) := by decide +kernel
theorem dX0_hasAlike_138 : decode cX0_hasAlike 138 = .ok (.getfield 35, 3) := by decide +kernel
theorem dX0_hasAlike_141 : decode cX0_hasAlike 141 = .ok (.invokestatic 100, 3) := by decide +kernel
theorem dX0_hasAlike_144 : decode cX0_hasAlike 144 = .ok (.ireturn, 1) := by decide +kernel
theorem dX0_hasAlike_145 : decode cX0_hasAlike 145 = .ok (.iinc 3 1, 3) := by decide +kernel
theorem dX0_hasAlike_148 : decode cX0_hasAlike 148 = .ok (.goto (-81), 3) := by decide +kernel
theorem dX0_hasAlike_151 : decode cX0_hasAlike 151 = .ok (.iconst 0, 1) := by decide +kernel
theorem dX0_hasAlike_152 : decode cX0_hasAlike 152 = .ok (.ireturn, 1) := by decide +kernel
abbrev cX0_isAlike : ByteArray := prog_1_method_5_code
def yX0_isAlike : MethodName := ⟨RX0, "isAlike", "(LFeatherBench$Head;Ljava/util/ArrayList;[LFeatherBench$Ty;LFeatherBench$Head;Ljava/util/ArrayList;[LFeatherBench$Ty;)Z"⟩
theorem dX0_isAlike_0 : decode cX0_isAlike 0 = .ok (.aload_n 0, 1) := by decide +kernel
theorem dX0_isAlike_1 : decode cX0_isAlike 1 = .ok (.getfield 104, 3) := by decide +kernel
theorem dX0_isAlike_4 : decode cX0_isAlike 4 = .ok (.invokevirtual 1, 3) := by decide +kernel
theorem dX0_isAlike_7 : decode cX0_isAlike 7 = .ok (.aload_n 3, 1) := by decide +kernel
theorem dX0_isAlike_8 : decode cX0_isAlike 8 = .ok (.getfield 104, 3) := by decide +kernel
theorem dX0_isAlike_11 : decode cX0_isAlike 11 = .ok (.invokevirtual 1, 3) := by decide +kernel
theorem dX0_isAlike_14 : decode cX0_isAlike 14 = .ok (.if_icmp .eq 5, 3) := by decide +kernel
theorem dX0_isAlike_17 : decode cX0_isAlike 17 = .ok (.iconst 0, 1) := by decide +kernel
theorem dX0_isAlike_18 : decode cX0_isAlike 18 = .ok (.ireturn, 1) := by decide +kernel
theorem dX0_isAlike_19 : decode cX0_isAlike 19 = .ok (.iconst 0, 1) := by decide +kernel
theorem dX0_isAlike_20 : decode cX0_isAlike 20 = .ok (.istore 6, 2) := by decide +kernel
theorem dX0_isAlike_22 : decode cX0_isAlike 22 = .ok (.iload 6, 2) := by decide +kernel
theorem dX0_isAlike_24 : decode cX0_isAlike 24 = .ok (.aload_n 0, 1) := by decide +kernel
theorem dX0_isAlike_25 : decode cX0_isAlike 25 = .ok (.getfield 104, 3) := by decide +kernel
theorem dX0_isAlike_28 : decode cX0_isAlike 28 = .ok (.invokevirtual 1, 3) := by decide +kernel
theorem dX0_isAlike_31 : decode cX0_isAlike 31 = .ok (.if_icmp .ge 61, 3) := by decide +kernel
theorem dX0_isAlike_34 : decode cX0_isAlike 34 = .ok (.aload_n 0, 1) := by decide +kernel
theorem dX0_isAlike_35 : decode cX0_isAlike 35 = .ok (.getfield 104, 3) := by decide +kernel
theorem dX0_isAlike_38 : decode cX0_isAlike 38 = .ok (.iload 6, 2) := by decide +kernel
theorem dX0_isAlike_40 : decode cX0_isAlike 40 = .ok (.invokevirtual 7, 3) := by decide +kernel
theorem dX0_isAlike_43 : decode cX0_isAlike 43 = .ok (.checkcast 30, 3) := by decide +kernel
theorem dX0_isAlike_46 : decode cX0_isAlike 46 = .ok (.getfield 29, 3) := by decide +kernel
theorem dX0_isAlike_49 : decode cX0_isAlike 49 = .ok (.aload_n 0, 1) := by decide +kernel
theorem dX0_isAlike_50 : decode cX0_isAlike 50 = .ok (.getfield 104, 3) := by decide +kernel
theorem dX0_isAlike_53 : decode cX0_isAlike 53 = .ok (.aload_n 1, 1) := by decide +kernel
theorem dX0_isAlike_54 : decode cX0_isAlike 54 = .ok (.aload_n 2, 1) := by decide +kernel
theorem dX0_isAlike_55 : decode cX0_isAlike 55 = .ok (.aload_n 3, 1) := by decide +kernel
theorem dX0_isAlike_56 : decode cX0_isAlike 56 = .ok (.getfield 104, 3) := by decide +kernel
theorem dX0_isAlike_59 : decode cX0_isAlike 59 = .ok (.iload 6, 2) := by decide +kernel
theorem dX0_isAlike_61 : decode cX0_isAlike 61 = .ok (.invokevirtual 7, 3) := by decide +kernel
theorem dX0_isAlike_64 : decode cX0_isAlike 64 = .ok (.checkcast 30, 3) := by decide +kernel
theorem dX0_isAlike_67 : decode cX0_isAlike 67 = .ok (.getfield 29, 3) := by decide +kernel
theorem dX0_isAlike_70 : decode cX0_isAlike 70 = .ok (.aload_n 3, 1) := by decide +kernel
theorem dX0_isAlike_71 : decode cX0_isAlike 71 = .ok (.getfield 104, 3) := by decide +kernel
theorem dX0_isAlike_74 : decode cX0_isAlike 74 = .ok (.aload 4, 2) := by decide +kernel
theorem dX0_isAlike_76 : decode cX0_isAlike 76 = .ok (.aload 5, 2) := by decide +kernel
theorem dX0_isAlike_78 : decode cX0_isAlike 78 = .ok (.invokestatic 105, 3) := by decide +kernel
theorem dX0_isAlike_81 : decode cX0_isAlike 81 = .ok (.ifCond .ne 5, 3) := by decide +kernel
theorem dX0_isAlike_84 : decode cX0_isAlike 84 = .ok (.iconst 0, 1) := by decide +kernel
theorem dX0_isAlike_85 : decode cX0_isAlike 85 = .ok (.ireturn, 1) := by decide +kernel
theorem dX0_isAlike_86 : decode cX0_isAlike 86 = .ok (.iinc 6 1, 3) := by decide +kernel
theorem dX0_isAlike_89 : decode cX0_isAlike 89 = .ok (.goto (-67), 3) := by decide +kernel
theorem dX0_isAlike_92 : decode cX0_isAlike 92 = .ok (.aload_n 0, 1) := by decide +kernel
theorem dX0_isAlike_93 : decode cX0_isAlike 93 = .ok (.getfield 108, 3) := by decide +kernel
theorem dX0_isAlike_96 : decode cX0_isAlike 96 = .ok (.invokevirtual 1, 3) := by decide +kernel
theorem dX0_isAlike_99 : decode cX0_isAlike 99 = .ok (.aload_n 3, 1) := by decide +kernel
theorem dX0_isAlike_100 : decode cX0_isAlike 100 = .ok (.getfield 108, 3) := by decide +kernel
theorem dX0_isAlike_103 : decode cX0_isAlike 103 = .ok (.invokevirtual 1, 3) := by decide +kernel
theorem dX0_isAlike_106 : decode cX0_isAlike 106 = .ok (.if_icmp .eq 5, 3) := by decide +kernel
theorem dX0_isAlike_109 : decode cX0_isAlike 109 = .ok (.iconst 0, 1) := by decide +kernel
theorem dX0_isAlike_110 : decode cX0_isAlike 110 = .ok (.ireturn, 1) := by decide +kernel
theorem dX0_isAlike_111 : decode cX0_isAlike 111 = .ok (.iconst 0, 1) := by decide +kernel
theorem dX0_isAlike_112 : decode cX0_isAlike 112 = .ok (.istore 6, 2) := by decide +kernel
theorem dX0_isAlike_114 : decode cX0_isAlike 114 = .ok (.iload 6, 2) := by decide +kernel
theorem dX0_isAlike_116 : decode cX0_isAlike 116 = .ok (.aload_n 0, 1) := by decide +kernel
theorem dX0_isAlike_117 : decode cX0_isAlike 117 = .ok (.getfield 108, 3) := by decide +kernel
theorem dX0_isAlike_120 : decode cX0_isAlike 120 = .ok (.invokevirtual 1, 3) := by decide +kernel
theorem dX0_isAlike_123 : decode cX0_isAlike 123 = .ok (.if_icmp .ge 61, 3) := by decide +kernel
theorem dX0_isAlike_126 : decode cX0_isAlike 126 = .ok (.aload_n 0, 1) := by decide +kernel
theorem dX0_isAlike_127 : decode cX0_isAlike 127 = .ok (.getfield 108, 3) := by decide +kernel
theorem dX0_isAlike_130 : decode cX0_isAlike 130 = .ok (.iload 6, 2) := by decide +kernel
theorem dX0_isAlike_132 : decode cX0_isAlike 132 = .ok (.invokevirtual 7, 3) := by decide +kernel
theorem dX0_isAlike_135 : decode cX0_isAlike 135 = .ok (.checkcast 111, 3) := by decide +kernel
theorem dX0_isAlike_138 : decode cX0_isAlike 138 = .ok (.getfield 113, 3) := by decide +kernel
theorem dX0_isAlike_141 : decode cX0_isAlike 141 = .ok (.aload_n 0, 1) := by decide +kernel
theorem dX0_isAlike_142 : decode cX0_isAlike 142 = .ok (.getfield 104, 3) := by decide +kernel
theorem dX0_isAlike_145 : decode cX0_isAlike 145 = .ok (.aload_n 1, 1) := by decide +kernel
theorem dX0_isAlike_146 : decode cX0_isAlike 146 = .ok (.aload_n 2, 1) := by decide +kernel
theorem dX0_isAlike_147 : decode cX0_isAlike 147 = .ok (.aload_n 3, 1) := by decide +kernel
theorem dX0_isAlike_148 : decode cX0_isAlike 148 = .ok (.getfield 108, 3) := by decide +kernel
theorem dX0_isAlike_151 : decode cX0_isAlike 151 = .ok (.iload 6, 2) := by decide +kernel
theorem dX0_isAlike_153 : decode cX0_isAlike 153 = .ok (.invokevirtual 7, 3) := by decide +kernel
theorem dX0_isAlike_156 : decode cX0_isAlike 156 = .ok (.checkcast 111, 3) := by decide +kernel
theorem dX0_isAlike_159 : decode cX0_isAlike 159 = .ok (.getfield 113, 3) := by decide +kernel
theorem dX0_isAlike_162 : decode cX0_isAlike 162 = .ok (.aload_n 3, 1) := by decide +kernel
theorem dX0_isAlike_163 : decode cX0_isAlike 163 = .ok (.getfield 104, 3) := by decide +kernel
theorem dX0_isAlike_166 : decode cX0_isAlike 166 = .ok (.aload 4, 2) := by decide +kernel
theorem dX0_isAlike_168 : decode cX0_isAlike 168 = .ok (.aload 5, 2) := by decide +kernel
theorem dX0_isAlike_170 : decode cX0_isAlike 170 = .ok (.invokestatic 105, 3) := by decide +kernel
theorem dX0_isAlike_173 : decode cX0_isAlike 173 = .ok (.ifCond .ne 5, 3) := by decide +kernel
theorem dX0_isAlike_176 : decode cX0_isAlike 176 = .ok (.iconst 0, 1) := by decide +kernel
theorem dX0_isAlike_177 : decode cX0_isAlike 177 = .ok (.ireturn, 1) := by decide +kernel
theorem dX0_isAlike_178 : decode cX0_isAlike 178 = .ok (.iinc 6 1, 3) := by decide +kernel
theorem dX0_isAlike_181 : decode cX0_isAlike 181 = .ok (.goto (-67), 3) := by decide +kernel
theorem dX0_isAlike_184 : decode cX0_isAlike 184 = .ok (.aload_n 0, 1) := by decide +kernel
theorem dX0_isAlike_185 : decode cX0_isAlike 185 = .ok (.getfield 116, 3) := by decide +kernel
theorem dX0_isAlike_188 : decode cX0_isAlike 188 = .ok (.getfield 120, 3) := by decide +kernel
theorem dX0_isAlike_191 : decode cX0_isAlike 191 = .ok (.aload_n 0, 1) := by decide +kernel
theorem dX0_isAlike_192 : decode cX0_isAlike 192 = .ok (.getfield 104, 3) := by decide +kernel
theorem dX0_isAlike_195 : decode cX0_isAlike 195 = .ok (.aload_n 1, 1) := by decide +kernel
theorem dX0_isAlike_196 : decode cX0_isAlike 196 = .ok (.aload_n 2, 1) := by decide +kernel
theorem dX0_isAlike_197 : decode cX0_isAlike 197 = .ok (.aload_n 3, 1) := by decide +kernel
theorem dX0_isAlike_198 : decode cX0_isAlike 198 = .ok (.getfield 116, 3) := by decide +kernel
theorem dX0_isAlike_201 : decode cX0_isAlike 201 = .ok (.getfield 120, 3) := by decide +kernel
theorem dX0_isAlike_204 : decode cX0_isAlike 204 = .ok (.aload_n 3, 1) := by decide +kernel
theorem dX0_isAlike_205 : decode cX0_isAlike 205 = .ok (.getfield 104, 3) := by decide +kernel
theorem dX0_isAlike_208 : decode cX0_isAlike 208 = .ok (.aload 4, 2) := by decide +kernel
theorem dX0_isAlike_210 : decode cX0_isAlike 210 = .ok (.aload 5, 2) := by decide +kernel
theorem dX0_isAlike_212 : decode cX0_isAlike 212 = .ok (.invokestatic 105, 3) := by decide +kernel
theorem dX0_isAlike_215 : decode cX0_isAlike 215 = .ok (.ireturn, 1) := by decide +kernel
abbrev cX0_isOne : ByteArray := prog_1_method_6_code
def yX0_isOne : MethodName := ⟨RX0, "isOne", "(LFeatherBench$Ty;Ljava/util/ArrayList;Ljava/util/ArrayList;[LFeatherBench$Ty;LFeatherBench$Ty;Ljava/util/ArrayList;Ljava/util/ArrayList;[LFeatherBench$Ty;)Z"⟩
theorem dX0_isOne_0 : decode cX0_isOne 0 = .ok (.aload_n 0, 1) := by decide +kernel
theorem dX0_isOne_1 : decode cX0_isOne 1 = .ok (.aload_n 1, 1) := by decide +kernel
theorem dX0_isOne_2 : decode cX0_isOne 2 = .ok (.aload_n 2, 1) := by decide +kernel
theorem dX0_isOne_3 : decode cX0_isOne 3 = .ok (.aload_n 3, 1) := by decide +kernel
theorem dX0_isOne_4 : decode cX0_isOne 4 = .ok (.invokestatic 123, 3) := by decide +kernel
theorem dX0_isOne_7 : decode cX0_isOne 7 = .ok (.bipush 60, 2) := by decide +kernel
theorem dX0_isOne_9 : decode cX0_isOne 9 = .ok (.if_icmp .gt 19, 3) := by decide +kernel
theorem dX0_isOne_12 : decode cX0_isOne 12 = .ok (.aload 4, 2) := by decide +kernel
theorem dX0_isOne_14 : decode cX0_isOne 14 = .ok (.aload 5, 2) := by decide +kernel
theorem dX0_isOne_16 : decode cX0_isOne 16 = .ok (.aload 6, 2) := by decide +kernel
theorem dX0_isOne_18 : decode cX0_isOne 18 = .ok (.aload 7, 2) := by decide +kernel
theorem dX0_isOne_20 : decode cX0_isOne 20 = .ok (.invokestatic 123, 3) := by decide +kernel
theorem dX0_isOne_23 : decode cX0_isOne 23 = .ok (.bipush 60, 2) := by decide +kernel
theorem dX0_isOne_25 : decode cX0_isOne 25 = .ok (.if_icmp .le 11, 3) := by decide +kernel
theorem dX0_isOne_28 : decode cX0_isOne 28 = .ok (.new 127, 3) := by decide +kernel
theorem dX0_isOne_31 : decode cX0_isOne 31 = .ok (.dup, 1) := by decide +kernel
theorem dX0_isOne_32 : decode cX0_isOne 32 = .ok (.invokespecial 129, 3) := by decide +kernel
theorem dX0_isOne_35 : decode cX0_isOne 35 = .ok (.athrow, 1) := by decide +kernel
theorem dX0_isOne_36 : decode cX0_isOne 36 = .ok (.aload_n 0, 1) := by decide +kernel
theorem dX0_isOne_37 : decode cX0_isOne 37 = .ok (.aload_n 1, 1) := by decide +kernel
theorem dX0_isOne_38 : decode cX0_isOne 38 = .ok (.aload_n 2, 1) := by decide +kernel
theorem dX0_isOne_39 : decode cX0_isOne 39 = .ok (.aload_n 3, 1) := by decide +kernel
theorem dX0_isOne_40 : decode cX0_isOne 40 = .ok (.aload 4, 2) := by decide +kernel
theorem dX0_isOne_42 : decode cX0_isOne 42 = .ok (.aload 5, 2) := by decide +kernel
theorem dX0_isOne_44 : decode cX0_isOne 44 = .ok (.aload 6, 2) := by decide +kernel
theorem dX0_isOne_46 : decode cX0_isOne 46 = .ok (.aload 7, 2) := by decide +kernel
theorem dX0_isOne_48 : decode cX0_isOne 48 = .ok (.invokestatic 132, 3) := by decide +kernel
theorem dX0_isOne_51 : decode cX0_isOne 51 = .ok (.ireturn, 1) := by decide +kernel
abbrev cX0_words : ByteArray := prog_1_method_7_code
def yX0_words : MethodName := ⟨RX0, "words", "(LFeatherBench$Ty;Ljava/util/ArrayList;Ljava/util/ArrayList;[LFeatherBench$Ty;)I"⟩
theorem dX0_words_0 : decode cX0_words 0 = .ok (.aload_n 0, 1) := by decide +kernel
theorem dX0_words_1 : decode cX0_words 1 = .ok (.getfield 135, 3) := by decide +kernel
theorem dX0_words_4 : decode cX0_words 4 = .ok (.ifCond .ne 8, 3) := by decide +kernel
theorem dX0_words_7 : decode cX0_words 7 = .ok (.aload_n 0, 1) := by decide +kernel
theorem dX0_words_8 : decode cX0_words 8 = .ok (.getfield 138, 3) := by decide +kernel
theorem dX0_words_11 : decode cX0_words 11 = .ok (.ireturn, 1) := by decide +kernel
theorem dX0_words_12 : decode cX0_words 12 = .ok (.aload_n 0, 1) := by decide +kernel
theorem dX0_words_13 : decode cX0_words 13 = .ok (.getfield 23, 3) := by decide +kernel
theorem dX0_words_16 : decode cX0_words 16 = .ok (.ifnull 43, 3) := by decide +kernel
theorem dX0_words_19 : decode cX0_words 19 = .ok (.aload_n 1, 1) := by decide +kernel
theorem dX0_words_20 : decode cX0_words 20 = .ok (.aload_n 0, 1) := by decide +kernel
theorem dX0_words_21 : decode cX0_words 21 = .ok (.getfield 23, 3) := by decide +kernel
theorem dX0_words_24 : decode cX0_words 24 = .ok (.invokevirtual 141, 3) := by decide +kernel
theorem dX0_words_27 : decode cX0_words 27 = .ok (.ifCond .ne 14, 3) := by decide +kernel
theorem dX0_words_30 : decode cX0_words 30 = .ok (.aload_n 2, 1) := by decide +kernel
theorem dX0_words_31 : decode cX0_words 31 = .ok (.aload_n 0, 1) := by decide +kernel
theorem dX0_words_32 : decode cX0_words 32 = .ok (.getfield 23, 3) := by decide +kernel
theorem dX0_words_35 : decode cX0_words 35 = .ok (.invokevirtual 141, 3) := by decide +kernel
theorem dX0_words_38 : decode cX0_words 38 = .ok (.ifCond .ne 7, 3) := by decide +kernel
theorem dX0_words_41 : decode cX0_words 41 = .ok (.iconst 1, 1) := by decide +kernel
theorem dX0_words_42 : decode cX0_words 42 = .ok (.goto 16, 3) := by decide +kernel
theorem dX0_words_45 : decode cX0_words 45 = .ok (.aload_n 3, 1) := by decide +kernel
theorem dX0_words_46 : decode cX0_words 46 = .ok (.aload_n 2, 1) := by decide +kernel
theorem dX0_words_47 : decode cX0_words 47 = .ok (.aload_n 0, 1) := by decide +kernel
theorem dX0_words_48 : decode cX0_words 48 = .ok (.getfield 23, 3) := by decide +kernel
theorem dX0_words_51 : decode cX0_words 51 = .ok (.invokevirtual 144, 3) := by decide +kernel
theorem dX0_words_54 : decode cX0_words 54 = .ok (.aaload, 1) := by decide +kernel
theorem dX0_words_55 : decode cX0_words 55 = .ok (.getfield 138, 3) := by decide +kernel
theorem dX0_words_58 : decode cX0_words 58 = .ok (.ireturn, 1) := by decide +kernel
theorem dX0_words_59 : decode cX0_words 59 = .ok (.iconst 1, 1) := by decide +kernel
theorem dX0_words_60 : decode cX0_words 60 = .ok (.istore 4, 2) := by decide +kernel
theorem dX0_words_62 : decode cX0_words 62 = .ok (.iconst 0, 1) := by decide +kernel
theorem dX0_words_63 : decode cX0_words 63 = .ok (.istore 5, 2) := by decide +kernel
theorem dX0_words_65 : decode cX0_words 65 = .ok (.iload 5, 2) := by decide +kernel
theorem dX0_words_67 : decode cX0_words 67 = .ok (.aload_n 0, 1) := by decide +kernel
theorem dX0_words_68 : decode cX0_words 68 = .ok (.getfield 35, 3) := by decide +kernel
theorem dX0_words_71 : decode cX0_words 71 = .ok (.arraylength, 1) := by decide +kernel
theorem dX0_words_72 : decode cX0_words 72 = .ok (.if_icmp .ge 27, 3) := by decide +kernel
theorem dX0_words_75 : decode cX0_words 75 = .ok (.iload 4, 2) := by decide +kernel
theorem dX0_words_77 : decode cX0_words 77 = .ok (.aload_n 0, 1) := by decide +kernel
theorem dX0_words_78 : decode cX0_words 78 = .ok (.getfield 35, 3) := by decide +kernel
theorem dX0_words_81 : decode cX0_words 81 = .ok (.iload 5, 2) := by decide +kernel
theorem dX0_words_83 : decode cX0_words 83 = .ok (.aaload, 1) := by decide +kernel
theorem dX0_words_84 : decode cX0_words 84 = .ok (.aload_n 1, 1) := by decide +kernel
theorem dX0_words_85 : decode cX0_words 85 = .ok (.aload_n 2, 1) := by decide +kernel
theorem dX0_words_86 : decode cX0_words 86 = .ok (.aload_n 3, 1) := by decide +kernel
theorem dX0_words_87 : decode cX0_words 87 = .ok (.invokestatic 123, 3) := by decide +kernel
theorem dX0_words_90 : decode cX0_words 90 = .ok (.iadd, 1) := by decide +kernel
theorem dX0_words_91 : decode cX0_words 91 = .ok (.istore 4, 2) := by decide +kernel
theorem dX0_words_93 : decode cX0_words 93 = .ok (.iinc 5 1, 3) := by decide +kernel
theorem dX0_words_96 : decode cX0_words 96 = .ok (.goto (-31), 3) := by decide +kernel
theorem dX0_words_99 : decode cX0_words 99 = .ok (.iload 4, 2) := by decide +kernel
theorem dX0_words_101 : decode cX0_words 101 = .ok (.ireturn, 1) := by decide +kernel
abbrev cX0_isSame : ByteArray := prog_1_method_8_code
def yX0_isSame : MethodName := ⟨RX0, "isSame", "(LFeatherBench$Ty;Ljava/util/ArrayList;Ljava/util/ArrayList;[LFeatherBench$Ty;LFeatherBench$Ty;Ljava/util/ArrayList;Ljava/util/ArrayList;[LFeatherBench$Ty;)Z"⟩
theorem dX0_isSame_0 : decode cX0_isSame 0 = .ok (.aload_n 0, 1) := by decide +kernel
theorem dX0_isSame_1 : decode cX0_isSame 1 = .ok (.getfield 23, 3) := by decide +kernel
theorem dX0_isSame_4 : decode cX0_isSame 4 = .ok (.ifnonnull 7, 3) := by decide +kernel
theorem dX0_isSame_7 : decode cX0_isSame 7 = .ok (.iconst (-1), 1) := by decide +kernel
theorem dX0_isSame_8 : decode cX0_isSame 8 = .ok (.goto 11, 3) := by decide +kernel
theorem dX0_isSame_11 : decode cX0_isSame 11 = .ok (.aload_n 1, 1) := by decide +kernel
theorem dX0_isSame_12 : decode cX0_isSame 12 = .ok (.aload_n 0, 1) := by decide +kernel
theorem dX0_isSame_13 : decode cX0_isSame 13 = .ok (.getfield 23, 3) := by decide +kernel
theorem dX0_isSame_16 : decode cX0_isSame 16 = .ok (.invokevirtual 144, 3) := by decide +kernel
theorem dX0_isSame_19 : decode cX0_isSame 19 = .ok (.istore 8, 2) := by decide +kernel
theorem dX0_isSame_21 : decode cX0_isSame 21 = .ok (.aload 4, 2) := by decide +kernel
theorem dX0_isSame_23 : decode cX0_isSame 23 = .ok (.getfield 23, 3) := by decide +kernel
theorem dX0_isSame_26 : decode cX0_isSame 26 = .ok (.ifnonnull 7, 3) := by decide +kernel
theorem dX0_isSame_29 : decode cX0_isSame 29 = .ok (.iconst (-1), 1) := by decide +kernel
theorem dX0_isSame_30 : decode cX0_isSame 30 = .ok (.goto 13, 3) := by decide +kernel
theorem dX0_isSame_33 : decode cX0_isSame 33 = .ok (.aload 5, 2) := by decide +kernel
theorem dX0_isSame_35 : decode cX0_isSame 35 = .ok (.aload 4, 2) := by decide +kernel
theorem dX0_isSame_37 : decode cX0_isSame 37 = .ok (.getfield 23, 3) := by decide +kernel
theorem dX0_isSame_40 : decode cX0_isSame 40 = .ok (.invokevirtual 144, 3) := by decide +kernel
theorem dX0_isSame_43 : decode cX0_isSame 43 = .ok (.istore 9, 2) := by decide +kernel
theorem dX0_isSame_45 : decode cX0_isSame 45 = .ok (.iload 8, 2) := by decide +kernel
theorem dX0_isSame_47 : decode cX0_isSame 47 = .ok (.ifCond .ge 8, 3) := by decide +kernel
theorem dX0_isSame_50 : decode cX0_isSame 50 = .ok (.iload 9, 2) := by decide +kernel
theorem dX0_isSame_52 : decode cX0_isSame 52 = .ok (.ifCond .lt 16, 3) := by decide +kernel
theorem dX0_isSame_55 : decode cX0_isSame 55 = .ok (.iload 8, 2) := by decide +kernel
theorem dX0_isSame_57 : decode cX0_isSame 57 = .ok (.iload 9, 2) := by decide +kernel
theorem dX0_isSame_59 : decode cX0_isSame 59 = .ok (.if_icmp .ne 7, 3) := by decide +kernel
theorem dX0_isSame_62 : decode cX0_isSame 62 = .ok (.iconst 1, 1) := by decide +kernel
theorem dX0_isSame_63 : decode cX0_isSame 63 = .ok (.goto 4, 3) := by decide +kernel
theorem dX0_isSame_66 : decode cX0_isSame 66 = .ok (.iconst 0, 1) := by decide +kernel
theorem dX0_isSame_67 : decode cX0_isSame 67 = .ok (.ireturn, 1) := by decide +kernel
theorem dX0_isSame_68 : decode cX0_isSame 68 = .ok (.aload_n 0, 1) := by decide +kernel
theorem dX0_isSame_69 : decode cX0_isSame 69 = .ok (.getfield 23, 3) := by decide +kernel
theorem dX0_isSame_72 : decode cX0_isSame 72 = .ok (.ifnonnull 7, 3) := by decide +kernel
theorem dX0_isSame_75 : decode cX0_isSame 75 = .ok (.iconst (-1), 1) := by decide +kernel
theorem dX0_isSame_76 : decode cX0_isSame 76 = .ok (.goto 11, 3) := by decide +kernel
theorem dX0_isSame_79 : decode cX0_isSame 79 = .ok (.aload_n 2, 1) := by decide +kernel
theorem dX0_isSame_80 : decode cX0_isSame 80 = .ok (.aload_n 0, 1) := by decide +kernel
theorem dX0_isSame_81 : decode cX0_isSame 81 = .ok (.getfield 23, 3) := by decide +kernel
theorem dX0_isSame_84 : decode cX0_isSame 84 = .ok (.invokevirtual 144, 3) := by decide +kernel
theorem dX0_isSame_87 : decode cX0_isSame 87 = .ok (.istore 10, 2) := by decide +kernel
theorem dX0_isSame_89 : decode cX0_isSame 89 = .ok (.aload 4, 2) := by decide +kernel
theorem dX0_isSame_91 : decode cX0_isSame 91 = .ok (.getfield 23, 3) := by decide +kernel
theorem dX0_isSame_94 : decode cX0_isSame 94 = .ok (.ifnonnull 7, 3) := by decide +kernel
theorem dX0_isSame_97 : decode cX0_isSame 97 = .ok (.iconst (-1), 1) := by decide +kernel
theorem dX0_isSame_98 : decode cX0_isSame 98 = .ok (.goto 13, 3) := by decide +kernel
theorem dX0_isSame_101 : decode cX0_isSame 101 = .ok (.aload 6, 2) := by decide +kernel
theorem dX0_isSame_103 : decode cX0_isSame 103 = .ok (.aload 4, 2) := by decide +kernel
theorem dX0_isSame_105 : decode cX0_isSame 105 = .ok (.getfield 23, 3) := by decide +kernel
theorem dX0_isSame_108 : decode cX0_isSame 108 = .ok (.invokevirtual 144, 3) := by decide +kernel
theorem dX0_isSame_111 : decode cX0_isSame 111 = .ok (.istore 11, 2) := by decide +kernel
theorem dX0_isSame_113 : decode cX0_isSame 113 = .ok (.iload 10, 2) := by decide +kernel
theorem dX0_isSame_115 : decode cX0_isSame 115 = .ok (.ifCond .lt 39, 3) := by decide +kernel
theorem dX0_isSame_118 : decode cX0_isSame 118 = .ok (.iload 11, 2) := by decide +kernel
theorem dX0_isSame_120 : decode cX0_isSame 120 = .ok (.ifCond .lt 18, 3) := by decide +kernel
theorem dX0_isSame_123 : decode cX0_isSame 123 = .ok (.aload_n 3, 1) := by decide +kernel
theorem dX0_isSame_124 : decode cX0_isSame 124 = .ok (.iload 10, 2) := by decide +kernel
theorem dX0_isSame_126 : decode cX0_isSame 126 = .ok (.aaload, 1) := by decide +kernel
theorem dX0_isSame_127 : decode cX0_isSame 127 = .ok (.aload 7, 2) := by decide +kernel
theorem dX0_isSame_129 : decode cX0_isSame 129 = .ok (.iload 11, 2) := by decide +kernel
theorem dX0_isSame_131 : decode cX0_isSame 131 = .ok (.aaload, 1) := by decide +kernel
theorem dX0_isSame_132 : decode cX0_isSame 132 = .ok (.invokevirtual 92, 3) := by decide +kernel
theorem dX0_isSame_135 : decode cX0_isSame 135 = .ok (.goto 18, 3) := by decide +kernel
theorem dX0_isSame_138 : decode cX0_isSame 138 = .ok (.aload_n 3, 1) := by decide +kernel
theorem dX0_isSame_139 : decode cX0_isSame 139 = .ok (.iload 10, 2) := by decide +kernel
theorem dX0_isSame_141 : decode cX0_isSame 141 = .ok (.aaload, 1) := by decide +kernel
theorem dX0_isSame_142 : decode cX0_isSame 142 = .ok (.aload 4, 2) := by decide +kernel
theorem dX0_isSame_144 : decode cX0_isSame 144 = .ok (.aload 5, 2) := by decide +kernel
theorem dX0_isSame_146 : decode cX0_isSame 146 = .ok (.aload 6, 2) := by decide +kernel
theorem dX0_isSame_148 : decode cX0_isSame 148 = .ok (.aload 7, 2) := by decide +kernel
theorem dX0_isSame_150 : decode cX0_isSame 150 = .ok (.invokestatic 148, 3) := by decide +kernel
theorem dX0_isSame_153 : decode cX0_isSame 153 = .ok (.ireturn, 1) := by decide +kernel
theorem dX0_isSame_154 : decode cX0_isSame 154 = .ok (.iload 11, 2) := by decide +kernel
theorem dX0_isSame_156 : decode cX0_isSame 156 = .ok (.ifCond .lt 16, 3) := by decide +kernel
theorem dX0_isSame_159 : decode cX0_isSame 159 = .ok (.aload 7, 2) := by decide +kernel
theorem dX0_isSame_161 : decode cX0_isSame 161 = .ok (.iload 11, 2) := by decide +kernel
theorem dX0_isSame_163 : decode cX0_isSame 163 = .ok (.aaload, 1) := by decide +kernel
theorem dX0_isSame_164 : decode cX0_isSame 164 = .ok (.aload_n 0, 1) := by decide +kernel
theorem dX0_isSame_165 : decode cX0_isSame 165 = .ok (.aload_n 1, 1) := by decide +kernel
theorem dX0_isSame_166 : decode cX0_isSame 166 = .ok (.aload_n 2, 1) := by decide +kernel
theorem dX0_isSame_167 : decode cX0_isSame 167 = .ok (.aload_n 3, 1) := by decide +kernel
theorem dX0_isSame_168 : decode cX0_isSame 168 = .ok (.invokestatic 148, 3) := by decide +kernel
theorem dX0_isSame_171 : decode cX0_isSame 171 = .ok (.ireturn, 1) := by decide +kernel
theorem dX0_isSame_172 : decode cX0_isSame 172 = .ok (.aload_n 0, 1) := by decide +kernel
theorem dX0_isSame_173 : decode cX0_isSame 173 = .ok (.getfield 23, 3) := by decide +kernel
theorem dX0_isSame_176 : decode cX0_isSame 176 = .ok (.aload 4, 2) := by decide +kernel
theorem dX0_isSame_178 : decode cX0_isSame 178 = .ok (.getfield 23, 3) := by decide +kernel
theorem dX0_isSame_181 : decode cX0_isSame 181 = .ok (.if_acmp .ne 15, 3) := by decide +kernel
theorem dX0_isSame_184 : decode cX0_isSame 184 = .ok (.aload_n 0, 1) := by decide +kernel
theorem dX0_isSame_185 : decode cX0_isSame 185 = .ok (.getfield 41, 3) := by decide +kernel
theorem dX0_isSame_188 : decode cX0_isSame 188 = .ok (.aload 4, 2) := by decide +kernel
theorem dX0_isSame_190 : decode cX0_isSame 190 = .ok (.getfield 41, 3) := by decide +kernel
theorem dX0_isSame_193 : decode cX0_isSame 193 = .ok (.if_acmp .eq 5, 3) := by decide +kernel
theorem dX0_isSame_196 : decode cX0_isSame 196 = .ok (.iconst 0, 1) := by decide +kernel
theorem dX0_isSame_197 : decode cX0_isSame 197 = .ok (.ireturn, 1) := by decide +kernel
theorem dX0_isSame_198 : decode cX0_isSame 198 = .ok (.iconst 0, 1) := by decide +kernel
theorem dX0_isSame_199 : decode cX0_isSame 199 = .ok (.istore 12, 2) := by decide +kernel
theorem dX0_isSame_201 : decode cX0_isSame 201 = .ok (.iload 12, 2) := by decide +kernel
theorem dX0_isSame_203 : decode cX0_isSame 203 = .ok (.aload_n 0, 1) := by decide +kernel
theorem dX0_isSame_204 : decode cX0_isSame 204 = .ok (.getfield 35, 3) := by decide +kernel
theorem dX0_isSame_207 : decode cX0_isSame 207 = .ok (.arraylength, 1) := by decide +kernel
theorem dX0_isSame_208 : decode cX0_isSame 208 = .ok (.if_icmp .ge 41, 3) := by decide +kernel
theorem dX0_isSame_211 : decode cX0_isSame 211 = .ok (.aload_n 0, 1) := by decide +kernel
theorem dX0_isSame_212 : decode cX0_isSame 212 = .ok (.getfield 35, 3) := by decide +kernel
theorem dX0_isSame_215 : decode cX0_isSame 215 = .ok (.iload 12, 2) := by decide +kernel
theorem dX0_isSame_217 : decode cX0_isSame 217 = .ok (.aaload, 1) := by decide +kernel
theorem dX0_isSame_218 : decode cX0_isSame 218 = .ok (.aload_n 1, 1) := by decide +kernel
theorem dX0_isSame_219 : decode cX0_isSame 219 = .ok (.aload_n 2, 1) := by decide +kernel
theorem dX0_isSame_220 : decode cX0_isSame 220 = .ok (.aload_n 3, 1) := by decide +kernel
theorem dX0_isSame_221 : decode cX0_isSame 221 = .ok (.aload 4, 2) := by decide +kernel
theorem dX0_isSame_223 : decode cX0_isSame 223 = .ok (.getfield 35, 3) := by decide +kernel
theorem dX0_isSame_226 : decode cX0_isSame 226 = .ok (.iload 12, 2) := by decide +kernel
theorem dX0_isSame_228 : decode cX0_isSame 228 = .ok (.aaload, 1) := by decide +kernel
theorem dX0_isSame_229 : decode cX0_isSame 229 = .ok (.aload 5, 2) := by decide +kernel
theorem dX0_isSame_231 : decode cX0_isSame 231 = .ok (.aload 6, 2) := by decide +kernel
theorem dX0_isSame_233 : decode cX0_isSame 233 = .ok (.aload 7, 2) := by decide +kernel
theorem dX0_isSame_235 : decode cX0_isSame 235 = .ok (.invokestatic 132, 3) := by decide +kernel
theorem dX0_isSame_238 : decode cX0_isSame 238 = .ok (.ifCond .ne 5, 3) := by decide +kernel
theorem dX0_isSame_241 : decode cX0_isSame 241 = .ok (.iconst 0, 1) := by decide +kernel
theorem dX0_isSame_242 : decode cX0_isSame 242 = .ok (.ireturn, 1) := by decide +kernel
theorem dX0_isSame_243 : decode cX0_isSame 243 = .ok (.iinc 12 1, 3) := by decide +kernel
theorem dX0_isSame_246 : decode cX0_isSame 246 = .ok (.goto (-45), 3) := by decide +kernel
theorem dX0_isSame_249 : decode cX0_isSame 249 = .ok (.iconst 1, 1) := by decide +kernel
theorem dX0_isSame_250 : decode cX0_isSame 250 = .ok (.ireturn, 1) := by decide +kernel
abbrev cX0_isPut : ByteArray := prog_1_method_9_code
def yX0_isPut : MethodName := ⟨RX0, "isPut", "(LFeatherBench$Ty;LFeatherBench$Ty;Ljava/util/ArrayList;Ljava/util/ArrayList;[LFeatherBench$Ty;)Z"⟩
theorem dX0_isPut_0 : decode cX0_isPut 0 = .ok (.aload_n 1, 1) := by decide +kernel
theorem dX0_isPut_1 : decode cX0_isPut 1 = .ok (.getfield 23, 3) := by decide +kernel
theorem dX0_isPut_4 : decode cX0_isPut 4 = .ok (.ifnull 49, 3) := by decide +kernel
theorem dX0_isPut_7 : decode cX0_isPut 7 = .ok (.aload_n 2, 1) := by decide +kernel
theorem dX0_isPut_8 : decode cX0_isPut 8 = .ok (.aload_n 1, 1) := by decide +kernel
theorem dX0_isPut_9 : decode cX0_isPut 9 = .ok (.getfield 23, 3) := by decide +kernel
theorem dX0_isPut_12 : decode cX0_isPut 12 = .ok (.invokevirtual 141, 3) := by decide +kernel
theorem dX0_isPut_15 : decode cX0_isPut 15 = .ok (.ifCond .eq 5, 3) := by decide +kernel
theorem dX0_isPut_18 : decode cX0_isPut 18 = .ok (.iconst 0, 1) := by decide +kernel
theorem dX0_isPut_19 : decode cX0_isPut 19 = .ok (.ireturn, 1) := by decide +kernel
theorem dX0_isPut_20 : decode cX0_isPut 20 = .ok (.aload_n 3, 1) := by decide +kernel
theorem dX0_isPut_21 : decode cX0_isPut 21 = .ok (.aload_n 1, 1) := by decide +kernel
theorem dX0_isPut_22 : decode cX0_isPut 22 = .ok (.getfield 23, 3) := by decide +kernel
theorem dX0_isPut_25 : decode cX0_isPut 25 = .ok (.invokevirtual 144, 3) := by decide +kernel
theorem dX0_isPut_28 : decode cX0_isPut 28 = .ok (.istore 5, 2) := by decide +kernel
theorem dX0_isPut_30 : decode cX0_isPut 30 = .ok (.iload 5, 2) := by decide +kernel
theorem dX0_isPut_32 : decode cX0_isPut 32 = .ok (.ifCond .lt 15, 3) := by decide +kernel
theorem dX0_isPut_35 : decode cX0_isPut 35 = .ok (.aload_n 0, 1) := by decide +kernel
theorem dX0_isPut_36 : decode cX0_isPut 36 = .ok (.aload 4, 2) := by decide +kernel
theorem dX0_isPut_38 : decode cX0_isPut 38 = .ok (.iload 5, 2) := by decide +kernel
theorem dX0_isPut_40 : decode cX0_isPut 40 = .ok (.aaload, 1) := by decide +kernel
theorem dX0_isPut_41 : decode cX0_isPut 41 = .ok (.invokevirtual 92, 3) := by decide +kernel
theorem dX0_isPut_44 : decode cX0_isPut 44 = .ok (.goto 8, 3) := by decide +kernel
theorem dX0_isPut_47 : decode cX0_isPut 47 = .ok (.aload_n 0, 1) := by decide +kernel
theorem dX0_isPut_48 : decode cX0_isPut 48 = .ok (.aload_n 1, 1) := by decide +kernel
theorem dX0_isPut_49 : decode cX0_isPut 49 = .ok (.invokevirtual 92, 3) := by decide +kernel
theorem dX0_isPut_52 : decode cX0_isPut 52 = .ok (.ireturn, 1) := by decide +kernel
theorem dX0_isPut_53 : decode cX0_isPut 53 = .ok (.aload_n 0, 1) := by decide +kernel
theorem dX0_isPut_54 : decode cX0_isPut 54 = .ok (.getfield 23, 3) := by decide +kernel
theorem dX0_isPut_57 : decode cX0_isPut 57 = .ok (.ifnonnull 14, 3) := by decide +kernel
theorem dX0_isPut_60 : decode cX0_isPut 60 = .ok (.aload_n 0, 1) := by decide +kernel
theorem dX0_isPut_61 : decode cX0_isPut 61 = .ok (.getfield 41, 3) := by decide +kernel
theorem dX0_isPut_64 : decode cX0_isPut 64 = .ok (.aload_n 1, 1) := by decide +kernel
theorem dX0_isPut_65 : decode cX0_isPut 65 = .ok (.getfield 41, 3) := by decide +kernel
theorem dX0_isPut_68 : decode cX0_isPut 68 = .ok (.if_acmp .eq 5, 3) := by decide +kernel
theorem dX0_isPut_71 : decode cX0_isPut 71 = .ok (.iconst 0, 1) := by decide +kernel
theorem dX0_isPut_72 : decode cX0_isPut 72 = .ok (.ireturn, 1) := by decide +kernel
theorem dX0_isPut_73 : decode cX0_isPut 73 = .ok (.iconst 0, 1) := by decide +kernel
theorem dX0_isPut_74 : decode cX0_isPut 74 = .ok (.istore 5, 2) := by decide +kernel
theorem dX0_isPut_76 : decode cX0_isPut 76 = .ok (.iload 5, 2) := by decide +kernel
theorem dX0_isPut_78 : decode cX0_isPut 78 = .ok (.aload_n 0, 1) := by decide +kernel
theorem dX0_isPut_79 : decode cX0_isPut 79 = .ok (.getfield 35, 3) := by decide +kernel
theorem dX0_isPut_82 : decode cX0_isPut 82 = .ok (.arraylength, 1) := by decide +kernel
theorem dX0_isPut_83 : decode cX0_isPut 83 = .ok (.if_icmp .ge 35, 3) := by decide +kernel
theorem dX0_isPut_86 : decode cX0_isPut 86 = .ok (.aload_n 0, 1) := by decide +kernel
theorem dX0_isPut_87 : decode cX0_isPut 87 = .ok (.getfield 35, 3) := by decide +kernel
theorem dX0_isPut_90 : decode cX0_isPut 90 = .ok (.iload 5, 2) := by decide +kernel
theorem dX0_isPut_92 : decode cX0_isPut 92 = .ok (.aaload, 1) := by decide +kernel
theorem dX0_isPut_93 : decode cX0_isPut 93 = .ok (.aload_n 1, 1) := by decide +kernel
theorem dX0_isPut_94 : decode cX0_isPut 94 = .ok (.getfield 35, 3) := by decide +kernel
theorem dX0_isPut_97 : decode cX0_isPut 97 = .ok (.iload 5, 2) := by decide +kernel
theorem dX0_isPut_99 : decode cX0_isPut 99 = .ok (.aaload, 1) := by decide +kernel
theorem dX0_isPut_100 : decode cX0_isPut 100 = .ok (.aload_n 2, 1) := by decide +kernel
theorem dX0_isPut_101 : decode cX0_isPut 101 = .ok (.aload_n 3, 1) := by decide +kernel
theorem dX0_isPut_102 : decode cX0_isPut 102 = .ok (.aload 4, 2) := by decide +kernel
theorem dX0_isPut_104 : decode cX0_isPut 104 = .ok (.invokestatic 148, 3) := by decide +kernel
theorem dX0_isPut_107 : decode cX0_isPut 107 = .ok (.ifCond .ne 5, 3) := by decide +kernel
theorem dX0_isPut_110 : decode cX0_isPut 110 = .ok (.iconst 0, 1) := by decide +kernel
theorem dX0_isPut_111 : decode cX0_isPut 111 = .ok (.ireturn, 1) := by decide +kernel
theorem dX0_isPut_112 : decode cX0_isPut 112 = .ok (.iinc 5 1, 3) := by decide +kernel
theorem dX0_isPut_115 : decode cX0_isPut 115 = .ok (.goto (-39), 3) := by decide +kernel
theorem dX0_isPut_118 : decode cX0_isPut 118 = .ok (.iconst 1, 1) := by decide +kernel
theorem dX0_isPut_119 : decode cX0_isPut 119 = .ok (.ireturn, 1) := by decide +kernel
abbrev cX0_methodOf : ByteArray := prog_1_method_2_code
def yX0_methodOf : MethodName := ⟨RX0, "methodOf", "(LFeatherBench$Ty;Ljava/lang/String;)LFeatherBench$Method;"⟩
theorem dX0_methodOf_0 : decode cX0_methodOf 0 = .ok (.aload_n 0, 1) := by decide +kernel
theorem dX0_methodOf_1 : decode cX0_methodOf 1 = .ok (.astore_n 2, 1) := by decide +kernel
theorem dX0_methodOf_2 : decode cX0_methodOf 2 = .ok (.aload_n 2, 1) := by decide +kernel
theorem dX0_methodOf_3 : decode cX0_methodOf 3 = .ok (.getfield 23, 3) := by decide +kernel
theorem dX0_methodOf_6 : decode cX0_methodOf 6 = .ok (.ifnull 14, 3) := by decide +kernel
theorem dX0_methodOf_9 : decode cX0_methodOf 9 = .ok (.aload_n 2, 1) := by decide +kernel
theorem dX0_methodOf_10 : decode cX0_methodOf 10 = .ok (.getfield 23, 3) := by decide +kernel
theorem dX0_methodOf_13 : decode cX0_methodOf 13 = .ok (.getfield 29, 3) := by decide +kernel
theorem dX0_methodOf_16 : decode cX0_methodOf 16 = .ok (.astore_n 2, 1) := by decide +kernel
theorem dX0_methodOf_17 : decode cX0_methodOf 17 = .ok (.goto (-15), 3) := by decide +kernel
theorem dX0_methodOf_20 : decode cX0_methodOf 20 = .ok (.aload_n 2, 1) := by decide +kernel
theorem dX0_methodOf_21 : decode cX0_methodOf 21 = .ok (.getfield 35, 3) := by decide +kernel
theorem dX0_methodOf_24 : decode cX0_methodOf 24 = .ok (.arraylength, 1) := by decide +kernel
theorem dX0_methodOf_25 : decode cX0_methodOf 25 = .ok (.ifCond .ne 7, 3) := by decide +kernel
theorem dX0_methodOf_28 : decode cX0_methodOf 28 = .ok (.aconst_null, 1) := by decide +kernel
theorem dX0_methodOf_29 : decode cX0_methodOf 29 = .ok (.goto 22, 3) := by decide +kernel
theorem dX0_methodOf_32 : decode cX0_methodOf 32 = .ok (.new 39, 3) := by decide +kernel
theorem dX0_methodOf_35 : decode cX0_methodOf 35 = .ok (.dup, 1) := by decide +kernel
theorem dX0_methodOf_36 : decode cX0_methodOf 36 = .ok (.aload_n 2, 1) := by decide +kernel
theorem dX0_methodOf_37 : decode cX0_methodOf 37 = .ok (.getfield 41, 3) := by decide +kernel
theorem dX0_methodOf_40 : decode cX0_methodOf 40 = .ok (.getfield 45, 3) := by decide +kernel
theorem dX0_methodOf_43 : decode cX0_methodOf 43 = .ok (.aload_n 2, 1) := by decide +kernel
theorem dX0_methodOf_44 : decode cX0_methodOf 44 = .ok (.getfield 35, 3) := by decide +kernel
theorem dX0_methodOf_47 : decode cX0_methodOf 47 = .ok (.aconst_null, 1) := by decide +kernel
theorem dX0_methodOf_48 : decode cX0_methodOf 48 = .ok (.invokespecial 51, 3) := by decide +kernel
theorem dX0_methodOf_51 : decode cX0_methodOf 51 = .ok (.astore_n 3, 1) := by decide +kernel
theorem dX0_methodOf_52 : decode cX0_methodOf 52 = .ok (.aload_n 2, 1) := by decide +kernel
theorem dX0_methodOf_53 : decode cX0_methodOf 53 = .ok (.getfield 41, 3) := by decide +kernel
theorem dX0_methodOf_56 : decode cX0_methodOf 56 = .ok (.getfield 55, 3) := by decide +kernel
theorem dX0_methodOf_59 : decode cX0_methodOf 59 = .ok (.ifCond .ne 37, 3) := by decide +kernel
theorem dX0_methodOf_62 : decode cX0_methodOf 62 = .ok (.aload_n 2, 1) := by decide +kernel
theorem dX0_methodOf_63 : decode cX0_methodOf 63 = .ok (.getfield 41, 3) := by decide +kernel
theorem dX0_methodOf_66 : decode cX0_methodOf 66 = .ok (.getfield 59, 3) := by decide +kernel
theorem dX0_methodOf_69 : decode cX0_methodOf 69 = .ok (.aload_n 1, 1) := by decide +kernel
theorem dX0_methodOf_70 : decode cX0_methodOf 70 = .ok (.invokestatic 62, 3) := by decide +kernel
theorem dX0_methodOf_73 : decode cX0_methodOf 73 = .ok (.astore 4, 2) := by decide +kernel
theorem dX0_methodOf_75 : decode cX0_methodOf 75 = .ok (.aload 4, 2) := by decide +kernel
theorem dX0_methodOf_77 : decode cX0_methodOf 77 = .ok (.ifnonnull 7, 3) := by decide +kernel
theorem dX0_methodOf_80 : decode cX0_methodOf 80 = .ok (.aconst_null, 1) := by decide +kernel
theorem dX0_methodOf_81 : decode cX0_methodOf 81 = .ok (.goto 14, 3) := by decide +kernel
theorem dX0_methodOf_84 : decode cX0_methodOf 84 = .ok (.new 68, 3) := by decide +kernel
theorem dX0_methodOf_87 : decode cX0_methodOf 87 = .ok (.dup, 1) := by decide +kernel
theorem dX0_methodOf_88 : decode cX0_methodOf 88 = .ok (.aload 4, 2) := by decide +kernel
theorem dX0_methodOf_90 : decode cX0_methodOf 90 = .ok (.aconst_null, 1) := by decide +kernel
theorem dX0_methodOf_91 : decode cX0_methodOf 91 = .ok (.aload_n 3, 1) := by decide +kernel
theorem dX0_methodOf_92 : decode cX0_methodOf 92 = .ok (.invokespecial 70, 3) := by decide +kernel
theorem dX0_methodOf_95 : decode cX0_methodOf 95 = .ok (.areturn, 1) := by decide +kernel
theorem dX0_methodOf_96 : decode cX0_methodOf 96 = .ok (.iconst 0, 1) := by decide +kernel
theorem dX0_methodOf_97 : decode cX0_methodOf 97 = .ok (.istore 4, 2) := by decide +kernel
theorem dX0_methodOf_99 : decode cX0_methodOf 99 = .ok (.iload 4, 2) := by decide +kernel
theorem dX0_methodOf_101 : decode cX0_methodOf 101 = .ok (.aload_n 2, 1) := by decide +kernel
theorem dX0_methodOf_102 : decode cX0_methodOf 102 = .ok (.getfield 41, 3) := by decide +kernel
theorem dX0_methodOf_105 : decode cX0_methodOf 105 = .ok (.getfield 73, 3) := by decide +kernel
theorem dX0_methodOf_108 : decode cX0_methodOf 108 = .ok (.invokevirtual 1, 3) := by decide +kernel
theorem dX0_methodOf_111 : decode cX0_methodOf 111 = .ok (.if_icmp .ge 88, 3) := by decide +kernel
theorem dX0_methodOf_114 : decode cX0_methodOf 114 = .ok (.aload_n 2, 1) := by decide +kernel
theorem dX0_methodOf_115 : decode cX0_methodOf 115 = .ok (.getfield 41, 3) := by decide +kernel
theorem dX0_methodOf_118 : decode cX0_methodOf 118 = .ok (.getfield 73, 3) := by decide +kernel
theorem dX0_methodOf_121 : decode cX0_methodOf 121 = .ok (.iload 4, 2) := by decide +kernel
theorem dX0_methodOf_123 : decode cX0_methodOf 123 = .ok (.invokevirtual 7, 3) := by decide +kernel
theorem dX0_methodOf_126 : decode cX0_methodOf 126 = .ok (.checkcast 76, 3) := by decide +kernel
theorem dX0_methodOf_129 : decode cX0_methodOf 129 = .ok (.astore 5, 2) := by decide +kernel
theorem dX0_methodOf_131 : decode cX0_methodOf 131 = .ok (.aload 5, 2) := by decide +kernel
theorem dX0_methodOf_133 : decode cX0_methodOf 133 = .ok (.getfield 78, 3) := by decide +kernel
theorem dX0_methodOf_136 : decode cX0_methodOf 136 = .ok (.getfield 13, 3) := by decide +kernel
theorem dX0_methodOf_139 : decode cX0_methodOf 139 = .ok (.aload_n 1, 1) := by decide +kernel
theorem dX0_methodOf_140 : decode cX0_methodOf 140 = .ok (.invokevirtual 17, 3) := by decide +kernel
theorem dX0_methodOf_143 : decode cX0_methodOf 143 = .ok (.ifCond .eq 50, 3) := by decide +kernel
theorem dX0_methodOf_146 : decode cX0_methodOf 146 = .ok (.new 68, 3) := by decide +kernel
theorem dX0_methodOf_149 : decode cX0_methodOf 149 = .ok (.dup, 1) := by decide +kernel
theorem dX0_methodOf_150 : decode cX0_methodOf 150 = .ok (.aload 5, 2) := by decide +kernel
theorem dX0_methodOf_152 : decode cX0_methodOf 152 = .ok (.getfield 78, 3) := by decide +kernel
theorem dX0_methodOf_155 : decode cX0_methodOf 155 = .ok (.aload 5, 2) := by decide +kernel
theorem dX0_methodOf_157 : decode cX0_methodOf 157 = .ok (.aload 5, 2) := by decide +kernel
theorem dX0_methodOf_159 : decode cX0_methodOf 159 = .ok (.getfield 82, 3) := by decide +kernel
theorem dX0_methodOf_162 : decode cX0_methodOf 162 = .ok (.invokevirtual 85, 3) := by decide +kernel
theorem dX0_methodOf_165 : decode cX0_methodOf 165 = .ok (.ifCond .eq 7, 3) := by decide +kernel
theorem dX0_methodOf_168 : decode cX0_methodOf 168 = .ok (.aconst_null, 1) := by decide +kernel
theorem dX0_methodOf_169 : decode cX0_methodOf 169 = .ok (.goto 20, 3) := by decide +kernel
theorem dX0_methodOf_172 : decode cX0_methodOf 172 = .ok (.new 39, 3) := by decide +kernel
theorem dX0_methodOf_175 : decode cX0_methodOf 175 = .ok (.dup, 1) := by decide +kernel
theorem dX0_methodOf_176 : decode cX0_methodOf 176 = .ok (.aload 5, 2) := by decide +kernel
theorem dX0_methodOf_178 : decode cX0_methodOf 178 = .ok (.getfield 82, 3) := by decide +kernel
theorem dX0_methodOf_181 : decode cX0_methodOf 181 = .ok (.aload_n 2, 1) := by decide +kernel
theorem dX0_methodOf_182 : decode cX0_methodOf 182 = .ok (.getfield 35, 3) := by decide +kernel
theorem dX0_methodOf_185 : decode cX0_methodOf 185 = .ok (.aconst_null, 1) := by decide +kernel
theorem dX0_methodOf_186 : decode cX0_methodOf 186 = .ok (.invokespecial 51, 3) := by decide +kernel
theorem dX0_methodOf_189 : decode cX0_methodOf 189 = .ok (.invokespecial 70, 3) := by decide +kernel
theorem dX0_methodOf_192 : decode cX0_methodOf 192 = .ok (.areturn, 1) := by decide +kernel
theorem dX0_methodOf_193 : decode cX0_methodOf 193 = .ok (.iinc 4 1, 3) := by decide +kernel
theorem dX0_methodOf_196 : decode cX0_methodOf 196 = .ok (.goto (-97), 3) := by decide +kernel
theorem dX0_methodOf_199 : decode cX0_methodOf 199 = .ok (.aconst_null, 1) := by decide +kernel
theorem dX0_methodOf_200 : decode cX0_methodOf 200 = .ok (.areturn, 1) := by decide +kernel
abbrev cX0_implementing : ByteArray := prog_1_method_17_code
def yX0_implementing : MethodName := ⟨RX0, "implementing", "()I"⟩
theorem dX0_implementing_0 : decode cX0_implementing 0 = .ok (.aload_n 0, 1) := by decide +kernel
theorem dX0_implementing_1 : decode cX0_implementing 1 = .ok (.iconst 2, 1) := by decide +kernel
theorem dX0_implementing_2 : decode cX0_implementing 2 = .ok (.invokevirtual 264, 3) := by decide +kernel
theorem dX0_implementing_5 : decode cX0_implementing 5 = .ok (.astore_n 1, 1) := by decide +kernel
theorem dX0_implementing_6 : decode cX0_implementing 6 = .ok (.aload_n 1, 1) := by decide +kernel
theorem dX0_implementing_7 : decode cX0_implementing 7 = .ok (.ifnull 10, 3) := by decide +kernel
theorem dX0_implementing_10 : decode cX0_implementing 10 = .ok (.aload_n 0, 1) := by decide +kernel
theorem dX0_implementing_11 : decode cX0_implementing 11 = .ok (.getfield 222, 3) := by decide +kernel
theorem dX0_implementing_14 : decode cX0_implementing 14 = .ok (.ifnonnull 5, 3) := by decide +kernel
theorem dX0_implementing_17 : decode cX0_implementing 17 = .ok (.iconst (-1), 1) := by decide +kernel
theorem dX0_implementing_18 : decode cX0_implementing 18 = .ok (.ireturn, 1) := by decide +kernel
theorem dX0_implementing_19 : decode cX0_implementing 19 = .ok (.aload_n 0, 1) := by decide +kernel
theorem dX0_implementing_20 : decode cX0_implementing 20 = .ok (.aload_n 1, 1) := by decide +kernel
theorem dX0_implementing_21 : decode cX0_implementing 21 = .ok (.invokevirtual 268, 3) := by decide +kernel
theorem dX0_implementing_24 : decode cX0_implementing 24 = .ok (.ifCond .ne 6, 3) := by decide +kernel
theorem dX0_implementing_27 : decode cX0_implementing 27 = .ok (.bipush (-2), 2) := by decide +kernel
theorem dX0_implementing_29 : decode cX0_implementing 29 = .ok (.ireturn, 1) := by decide +kernel
theorem dX0_implementing_30 : decode cX0_implementing 30 = .ok (.aload_n 1, 1) := by decide +kernel
theorem dX0_implementing_31 : decode cX0_implementing 31 = .ok (.iconst 0, 1) := by decide +kernel
theorem dX0_implementing_32 : decode cX0_implementing 32 = .ok (.invokevirtual 7, 3) := by decide +kernel
theorem dX0_implementing_35 : decode cX0_implementing 35 = .ok (.checkcast 121, 3) := by decide +kernel
theorem dX0_implementing_38 : decode cX0_implementing 38 = .ok (.getfield 120, 3) := by decide +kernel
theorem dX0_implementing_41 : decode cX0_implementing 41 = .ok (.aload_n 1, 1) := by decide +kernel
theorem dX0_implementing_42 : decode cX0_implementing 42 = .ok (.iconst 1, 1) := by decide +kernel
theorem dX0_implementing_43 : decode cX0_implementing 43 = .ok (.invokevirtual 7, 3) := by decide +kernel
theorem dX0_implementing_46 : decode cX0_implementing 46 = .ok (.checkcast 121, 3) := by decide +kernel
theorem dX0_implementing_49 : decode cX0_implementing 49 = .ok (.getfield 120, 3) := by decide +kernel
theorem dX0_implementing_52 : decode cX0_implementing 52 = .ok (.invokestatic 272, 3) := by decide +kernel
theorem dX0_implementing_55 : decode cX0_implementing 55 = .ok (.ifCond .eq 7, 3) := by decide +kernel
theorem dX0_implementing_58 : decode cX0_implementing 58 = .ok (.iconst 1, 1) := by decide +kernel
theorem dX0_implementing_59 : decode cX0_implementing 59 = .ok (.goto 4, 3) := by decide +kernel
theorem dX0_implementing_62 : decode cX0_implementing 62 = .ok (.iconst 0, 1) := by decide +kernel
theorem dX0_implementing_63 : decode cX0_implementing 63 = .ok (.ireturn, 1) := by decide +kernel
theorem dX0_implementing_64 : decode cX0_implementing 64 = .ok (.astore_n 2, 1) := by decide +kernel
theorem dX0_implementing_65 : decode cX0_implementing 65 = .ok (.bipush (-2), 2) := by decide +kernel
theorem dX0_implementing_67 : decode cX0_implementing 67 = .ok (.ireturn, 1) := by decide +kernel
abbrev cX0_told : ByteArray := prog_1_method_15_code
def yX0_told : MethodName := ⟨RX0, "told", "(I)Ljava/util/ArrayList;"⟩
theorem dX0_told_0 : decode cX0_told 0 = .ok (.aload_n 0, 1) := by decide +kernel
theorem dX0_told_1 : decode cX0_told 1 = .ok (.getfield 175, 3) := by decide +kernel
theorem dX0_told_4 : decode cX0_told 4 = .ok (.aload_n 0, 1) := by decide +kernel
theorem dX0_told_5 : decode cX0_told 5 = .ok (.getfield 162, 3) := by decide +kernel
theorem dX0_told_8 : decode cX0_told 8 = .ok (.aload_n 0, 1) := by decide +kernel
theorem dX0_told_9 : decode cX0_told 9 = .ok (.invokevirtual 188, 3) := by decide +kernel
theorem dX0_told_12 : decode cX0_told 12 = .ok (.invokevirtual 191, 3) := by decide +kernel
theorem dX0_told_15 : decode cX0_told 15 = .ok (.new 2, 3) := by decide +kernel
theorem dX0_told_18 : decode cX0_told 18 = .ok (.dup, 1) := by decide +kernel
theorem dX0_told_19 : decode cX0_told 19 = .ok (.iconst 2, 1) := by decide +kernel
theorem dX0_told_20 : decode cX0_told 20 = .ok (.invokespecial 179, 3) := by decide +kernel
theorem dX0_told_23 : decode cX0_told 23 = .ok (.astore_n 2, 1) := by decide +kernel
theorem dX0_told_24 : decode cX0_told 24 = .ok (.iconst 0, 1) := by decide +kernel
theorem dX0_told_25 : decode cX0_told 25 = .ok (.istore_n 3, 1) := by decide +kernel
theorem dX0_told_26 : decode cX0_told 26 = .ok (.iload_n 3, 1) := by decide +kernel
theorem dX0_told_27 : decode cX0_told 27 = .ok (.iload_n 1, 1) := by decide +kernel
theorem dX0_told_28 : decode cX0_told 28 = .ok (.if_icmp .ge 34, 3) := by decide +kernel
theorem dX0_told_31 : decode cX0_told 31 = .ok (.iload_n 3, 1) := by decide +kernel
theorem dX0_told_32 : decode cX0_told 32 = .ok (.ifCond .le 12, 3) := by decide +kernel
theorem dX0_told_35 : decode cX0_told 35 = .ok (.aload_n 0, 1) := by decide +kernel
theorem dX0_told_36 : decode cX0_told 36 = .ok (.getfield 175, 3) := by decide +kernel
theorem dX0_told_39 : decode cX0_told 39 = .ok (.bipush 59, 2) := by decide +kernel
theorem dX0_told_41 : decode cX0_told 41 = .ok (.invokevirtual 243, 3) := by decide +kernel
theorem dX0_told_44 : decode cX0_told 44 = .ok (.aload_n 2, 1) := by decide +kernel
theorem dX0_told_45 : decode cX0_told 45 = .ok (.aload_n 0, 1) := by decide +kernel
theorem dX0_told_46 : decode cX0_told 46 = .ok (.getfield 175, 3) := by decide +kernel
theorem dX0_told_49 : decode cX0_told 49 = .ok (.invokevirtual 247, 3) := by decide +kernel
theorem dX0_told_52 : decode cX0_told 52 = .ok (.invokevirtual 251, 3) := by decide +kernel
theorem dX0_told_55 : decode cX0_told 55 = .ok (.pop, 1) := by decide +kernel
theorem dX0_told_56 : decode cX0_told 56 = .ok (.iinc 3 1, 3) := by decide +kernel
theorem dX0_told_59 : decode cX0_told 59 = .ok (.goto (-33), 3) := by decide +kernel
theorem dX0_told_62 : decode cX0_told 62 = .ok (.goto 30, 3) := by decide +kernel
theorem dX0_told_65 : decode cX0_told 65 = .ok (.astore_n 3, 1) := by decide +kernel
theorem dX0_told_66 : decode cX0_told 66 = .ok (.aload_n 3, 1) := by decide +kernel
theorem dX0_told_67 : decode cX0_told 67 = .ok (.getfield 214, 3) := by decide +kernel
theorem dX0_told_70 : decode cX0_told 70 = .ok (.iconst 5, 1) := by decide +kernel
theorem dX0_told_71 : decode cX0_told 71 = .ok (.if_icmp .ne 7, 3) := by decide +kernel
theorem dX0_told_74 : decode cX0_told 74 = .ok (.aload_n 2, 1) := by decide +kernel
theorem dX0_told_75 : decode cX0_told 75 = .ok (.invokevirtual 254, 3) := by decide +kernel
theorem dX0_told_78 : decode cX0_told 78 = .ok (.aload_n 3, 1) := by decide +kernel
theorem dX0_told_79 : decode cX0_told 79 = .ok (.getfield 214, 3) := by decide +kernel
theorem dX0_told_82 : decode cX0_told 82 = .ok (.iconst 5, 1) := by decide +kernel
theorem dX0_told_83 : decode cX0_told 83 = .ok (.if_icmp .ne 7, 3) := by decide +kernel
theorem dX0_told_86 : decode cX0_told 86 = .ok (.aload_n 2, 1) := by decide +kernel
theorem dX0_told_87 : decode cX0_told 87 = .ok (.goto 4, 3) := by decide +kernel
theorem dX0_told_90 : decode cX0_told 90 = .ok (.aconst_null, 1) := by decide +kernel
theorem dX0_told_91 : decode cX0_told 91 = .ok (.areturn, 1) := by decide +kernel
theorem dX0_told_92 : decode cX0_told 92 = .ok (.aload_n 0, 1) := by decide +kernel
theorem dX0_told_93 : decode cX0_told 93 = .ok (.getfield 175, 3) := by decide +kernel
theorem dX0_told_96 : decode cX0_told 96 = .ok (.invokevirtual 257, 3) := by decide +kernel
theorem dX0_told_99 : decode cX0_told 99 = .ok (.ifCond .eq 7, 3) := by decide +kernel
theorem dX0_told_102 : decode cX0_told 102 = .ok (.aload_n 2, 1) := by decide +kernel
theorem dX0_told_103 : decode cX0_told 103 = .ok (.goto 4, 3) := by decide +kernel
theorem dX0_told_106 : decode cX0_told 106 = .ok (.aconst_null, 1) := by decide +kernel
theorem dX0_told_107 : decode cX0_told 107 = .ok (.areturn, 1) := by decide +kernel
abbrev cX0_isWell : ByteArray := prog_1_method_16_code
def yX0_isWell : MethodName := ⟨RX0, "isWell", "(Ljava/util/ArrayList;)Z"⟩
theorem dX0_isWell_0 : decode cX0_isWell 0 = .ok (.new 198, 3) := by decide +kernel
theorem dX0_isWell_3 : decode cX0_isWell 3 = .ok (.dup, 1) := by decide +kernel
theorem dX0_isWell_4 : decode cX0_isWell 4 = .ok (.aload_n 0, 1) := by decide +kernel
theorem dX0_isWell_5 : decode cX0_isWell 5 = .ok (.getfield 182, 3) := by decide +kernel
theorem dX0_isWell_8 : decode cX0_isWell 8 = .ok (.new 2, 3) := by decide +kernel
theorem dX0_isWell_11 : decode cX0_isWell 11 = .ok (.dup, 1) := by decide +kernel
theorem dX0_isWell_12 : decode cX0_isWell 12 = .ok (.iconst 1, 1) := by decide +kernel
theorem dX0_isWell_13 : decode cX0_isWell 13 = .ok (.invokespecial 179, 3) := by decide +kernel
theorem dX0_isWell_16 : decode cX0_isWell 16 = .ok (.invokespecial 202, 3) := by decide +kernel
theorem dX0_isWell_19 : decode cX0_isWell 19 = .ok (.astore_n 2, 1) := by decide +kernel
theorem dX0_isWell_20 : decode cX0_isWell 20 = .ok (.iconst 0, 1) := by decide +kernel
theorem dX0_isWell_21 : decode cX0_isWell 21 = .ok (.istore_n 3, 1) := by decide +kernel
theorem dX0_isWell_22 : decode cX0_isWell 22 = .ok (.iload_n 3, 1) := by decide +kernel
theorem dX0_isWell_23 : decode cX0_isWell 23 = .ok (.aload_n 1, 1) := by decide +kernel
theorem dX0_isWell_24 : decode cX0_isWell 24 = .ok (.invokevirtual 1, 3) := by decide +kernel
theorem dX0_isWell_27 : decode cX0_isWell 27 = .ok (.if_icmp .ge 22, 3) := by decide +kernel
theorem dX0_isWell_30 : decode cX0_isWell 30 = .ok (.aload_n 2, 1) := by decide +kernel
theorem dX0_isWell_31 : decode cX0_isWell 31 = .ok (.aload_n 1, 1) := by decide +kernel
theorem dX0_isWell_32 : decode cX0_isWell 32 = .ok (.iload_n 3, 1) := by decide +kernel
theorem dX0_isWell_33 : decode cX0_isWell 33 = .ok (.invokevirtual 7, 3) := by decide +kernel
theorem dX0_isWell_36 : decode cX0_isWell 36 = .ok (.checkcast 121, 3) := by decide +kernel
theorem dX0_isWell_39 : decode cX0_isWell 39 = .ok (.invokevirtual 260, 3) := by decide +kernel
theorem dX0_isWell_42 : decode cX0_isWell 42 = .ok (.pop, 1) := by decide +kernel
theorem dX0_isWell_43 : decode cX0_isWell 43 = .ok (.iinc 3 1, 3) := by decide +kernel
theorem dX0_isWell_46 : decode cX0_isWell 46 = .ok (.goto (-24), 3) := by decide +kernel
theorem dX0_isWell_49 : decode cX0_isWell 49 = .ok (.goto 6, 3) := by decide +kernel
theorem dX0_isWell_52 : decode cX0_isWell 52 = .ok (.astore_n 3, 1) := by decide +kernel
theorem dX0_isWell_53 : decode cX0_isWell 53 = .ok (.iconst 0, 1) := by decide +kernel
theorem dX0_isWell_54 : decode cX0_isWell 54 = .ok (.ireturn, 1) := by decide +kernel
theorem dX0_isWell_55 : decode cX0_isWell 55 = .ok (.aload_n 1, 1) := by decide +kernel
theorem dX0_isWell_56 : decode cX0_isWell 56 = .ok (.invokevirtual 85, 3) := by decide +kernel
theorem dX0_isWell_59 : decode cX0_isWell 59 = .ok (.ifCond .ne 7, 3) := by decide +kernel
theorem dX0_isWell_62 : decode cX0_isWell 62 = .ok (.iconst 1, 1) := by decide +kernel
theorem dX0_isWell_63 : decode cX0_isWell 63 = .ok (.goto 4, 3) := by decide +kernel
theorem dX0_isWell_66 : decode cX0_isWell 66 = .ok (.iconst 0, 1) := by decide +kernel
theorem dX0_isWell_67 : decode cX0_isWell 67 = .ok (.ireturn, 1) := by decide +kernel
abbrev cX0_run : ByteArray := prog_1_method_20_code
def yX0_run : MethodName := ⟨RX0, "run", "(I)I"⟩
theorem dX0_run_0 : decode cX0_run 0 = .ok (.aload_n 0, 1) := by decide +kernel
theorem dX0_run_1 : decode cX0_run 1 = .ok (.getfield 222, 3) := by decide +kernel
theorem dX0_run_4 : decode cX0_run 4 = .ok (.ifnull 15, 3) := by decide +kernel
theorem dX0_run_7 : decode cX0_run 7 = .ok (.iload_n 1, 1) := by decide +kernel
theorem dX0_run_8 : decode cX0_run 8 = .ok (.iconst 1, 1) := by decide +kernel
theorem dX0_run_9 : decode cX0_run 9 = .ok (.if_icmp .lt 10, 3) := by decide +kernel
theorem dX0_run_12 : decode cX0_run 12 = .ok (.iload_n 1, 1) := by decide +kernel
theorem dX0_run_13 : decode cX0_run 13 = .ok (.sipush 5000, 3) := by decide +kernel
theorem dX0_run_16 : decode cX0_run 16 = .ok (.if_icmp .le 5, 3) := by decide +kernel
theorem dX0_run_19 : decode cX0_run 19 = .ok (.iconst (-1), 1) := by decide +kernel
theorem dX0_run_20 : decode cX0_run 20 = .ok (.ireturn, 1) := by decide +kernel
theorem dX0_run_21 : decode cX0_run 21 = .ok (.aload_n 0, 1) := by decide +kernel
theorem dX0_run_22 : decode cX0_run 22 = .ok (.iconst 0, 1) := by decide +kernel
theorem dX0_run_23 : decode cX0_run 23 = .ok (.putfield 237, 3) := by decide +kernel
theorem dX0_run_26 : decode cX0_run 26 = .ok (.aload_n 0, 1) := by decide +kernel
theorem dX0_run_27 : decode cX0_run 27 = .ok (.iload_n 1, 1) := by decide +kernel
theorem dX0_run_28 : decode cX0_run 28 = .ok (.ldc_w 293, 3) := by decide +kernel
theorem dX0_run_31 : decode cX0_run 31 = .ok (.aload_n 0, 1) := by decide +kernel
theorem dX0_run_32 : decode cX0_run 32 = .ok (.getfield 279, 3) := by decide +kernel
theorem dX0_run_35 : decode cX0_run 35 = .ok (.isub, 1) := by decide +kernel
theorem dX0_run_36 : decode cX0_run 36 = .ok (.invokestatic 294, 3) := by decide +kernel
theorem dX0_run_39 : decode cX0_run 39 = .ok (.putfield 276, 3) := by decide +kernel
theorem dX0_run_42 : decode cX0_run 42 = .ok (.aload_n 0, 1) := by decide +kernel
theorem dX0_run_43 : decode cX0_run 43 = .ok (.iconst 0, 1) := by decide +kernel
theorem dX0_run_44 : decode cX0_run 44 = .ok (.putfield 300, 3) := by decide +kernel
theorem dX0_run_47 : decode cX0_run 47 = .ok (.aload_n 0, 1) := by decide +kernel
theorem dX0_run_48 : decode cX0_run 48 = .ok (.iconst 0, 1) := by decide +kernel
theorem dX0_run_49 : decode cX0_run 49 = .ok (.putfield 240, 3) := by decide +kernel
theorem dX0_run_52 : decode cX0_run 52 = .ok (.aload_n 0, 1) := by decide +kernel
theorem dX0_run_53 : decode cX0_run 53 = .ok (.iconst (-1), 1) := by decide +kernel
theorem dX0_run_54 : decode cX0_run 54 = .ok (.putfield 169, 3) := by decide +kernel
theorem dX0_run_57 : decode cX0_run 57 = .ok (.aload_n 0, 1) := by decide +kernel
theorem dX0_run_58 : decode cX0_run 58 = .ok (.aconst_null, 1) := by decide +kernel
theorem dX0_run_59 : decode cX0_run 59 = .ok (.putfield 226, 3) := by decide +kernel
theorem dX0_run_62 : decode cX0_run 62 = .ok (.aload_n 0, 1) := by decide +kernel
theorem dX0_run_63 : decode cX0_run 63 = .ok (.aload_n 0, 1) := by decide +kernel
theorem dX0_run_64 : decode cX0_run 64 = .ok (.aload_n 0, 1) := by decide +kernel
theorem dX0_run_65 : decode cX0_run 65 = .ok (.getfield 222, 3) := by decide +kernel
theorem dX0_run_68 : decode cX0_run 68 = .ok (.new 303, 3) := by decide +kernel
theorem dX0_run_71 : decode cX0_run 71 = .ok (.dup, 1) := by decide +kernel
theorem dX0_run_72 : decode cX0_run 72 = .ok (.iconst 0, 1) := by decide +kernel
theorem dX0_run_73 : decode cX0_run 73 = .ok (.anewarray 305, 3) := by decide +kernel
theorem dX0_run_76 : decode cX0_run 76 = .ok (.aconst_null, 1) := by decide +kernel
theorem dX0_run_77 : decode cX0_run 77 = .ok (.invokespecial 307, 3) := by decide +kernel
theorem dX0_run_80 : decode cX0_run 80 = .ok (.invokevirtual 310, 3) := by decide +kernel
theorem dX0_run_83 : decode cX0_run 83 = .ok (.putfield 226, 3) := by decide +kernel
theorem dX0_run_86 : decode cX0_run 86 = .ok (.goto 12, 3) := by decide +kernel
theorem dX0_run_89 : decode cX0_run 89 = .ok (.astore_n 2, 1) := by decide +kernel
theorem dX0_run_90 : decode cX0_run 90 = .ok (.aload_n 2, 1) := by decide +kernel
theorem dX0_run_91 : decode cX0_run 91 = .ok (.getfield 314, 3) := by decide +kernel
theorem dX0_run_94 : decode cX0_run 94 = .ok (.ireturn, 1) := by decide +kernel
theorem dX0_run_95 : decode cX0_run 95 = .ok (.astore_n 2, 1) := by decide +kernel
theorem dX0_run_96 : decode cX0_run 96 = .ok (.iconst 4, 1) := by decide +kernel
theorem dX0_run_97 : decode cX0_run 97 = .ok (.ireturn, 1) := by decide +kernel
theorem dX0_run_98 : decode cX0_run 98 = .ok (.iconst 0, 1) := by decide +kernel
theorem dX0_run_99 : decode cX0_run 99 = .ok (.ireturn, 1) := by decide +kernel
abbrev cX0_worked : ByteArray := prog_1_method_21_code
def yX0_worked : MethodName := ⟨RX0, "worked", "(LFeatherBench$Exp;LFeatherBench$Frame;)LFeatherBench$Thing;"⟩
theorem dX0_worked_0 : decode cX0_worked 0 = .ok (.aload_n 1, 1) := by decide +kernel
theorem dX0_worked_1 : decode cX0_worked 1 = .ok (.getfield 317, 3) := by decide +kernel
theorem dX0_worked_4 : decode cX0_worked 4 = .ok (.ifnull 15, 3) := by decide +kernel
theorem dX0_worked_7 : decode cX0_worked 7 = .ok (.aload_n 2, 1) := by decide +kernel
theorem dX0_worked_8 : decode cX0_worked 8 = .ok (.getfield 322, 3) := by decide +kernel
theorem dX0_worked_11 : decode cX0_worked 11 = .ok (.aload_n 1, 1) := by decide +kernel
theorem dX0_worked_12 : decode cX0_worked 12 = .ok (.getfield 325, 3) := by decide +kernel
theorem dX0_worked_15 : decode cX0_worked 15 = .ok (.aaload, 1) := by decide +kernel
theorem dX0_worked_16 : decode cX0_worked 16 = .ok (.goto 9, 3) := by decide +kernel
theorem dX0_worked_19 : decode cX0_worked 19 = .ok (.aload_n 0, 1) := by decide +kernel
theorem dX0_worked_20 : decode cX0_worked 20 = .ok (.aload_n 1, 1) := by decide +kernel
theorem dX0_worked_21 : decode cX0_worked 21 = .ok (.aload_n 2, 1) := by decide +kernel
theorem dX0_worked_22 : decode cX0_worked 22 = .ok (.invokevirtual 328, 3) := by decide +kernel
theorem dX0_worked_25 : decode cX0_worked 25 = .ok (.astore_n 3, 1) := by decide +kernel
theorem dX0_worked_26 : decode cX0_worked 26 = .ok (.iconst 0, 1) := by decide +kernel
theorem dX0_worked_27 : decode cX0_worked 27 = .ok (.istore 4, 2) := by decide +kernel
theorem dX0_worked_29 : decode cX0_worked 29 = .ok (.iload 4, 2) := by decide +kernel
theorem dX0_worked_31 : decode cX0_worked 31 = .ok (.aload_n 1, 1) := by decide +kernel
theorem dX0_worked_32 : decode cX0_worked 32 = .ok (.getfield 331, 3) := by decide +kernel
theorem dX0_worked_35 : decode cX0_worked 35 = .ok (.invokevirtual 1, 3) := by decide +kernel
theorem dX0_worked_38 : decode cX0_worked 38 = .ok (.if_icmp .ge 124, 3) := by decide +kernel
theorem dX0_worked_41 : decode cX0_worked 41 = .ok (.aload_n 1, 1) := by decide +kernel
theorem dX0_worked_42 : decode cX0_worked 42 = .ok (.getfield 331, 3) := by decide +kernel
theorem dX0_worked_45 : decode cX0_worked 45 = .ok (.iload 4, 2) := by decide +kernel
theorem dX0_worked_47 : decode cX0_worked 47 = .ok (.invokevirtual 7, 3) := by decide +kernel
theorem dX0_worked_50 : decode cX0_worked 50 = .ok (.checkcast 334, 3) := by decide +kernel
theorem dX0_worked_53 : decode cX0_worked 53 = .ok (.astore 5, 2) := by decide +kernel
theorem dX0_worked_55 : decode cX0_worked 55 = .ok (.aload 5, 2) := by decide +kernel
theorem dX0_worked_57 : decode cX0_worked 57 = .ok (.getfield 336, 3) := by decide +kernel
theorem dX0_worked_60 : decode cX0_worked 60 = .ok (.ifCond .ne 22, 3) := by decide +kernel
theorem dX0_worked_63 : decode cX0_worked 63 = .ok (.aload_n 0, 1) := by decide +kernel
theorem dX0_worked_64 : decode cX0_worked 64 = .ok (.iconst 1, 1) := by decide +kernel
theorem dX0_worked_65 : decode cX0_worked 65 = .ok (.invokevirtual 287, 3) := by decide +kernel
theorem dX0_worked_68 : decode cX0_worked 68 = .ok (.aload_n 3, 1) := by decide +kernel
theorem dX0_worked_69 : decode cX0_worked 69 = .ok (.getfield 337, 3) := by decide +kernel
theorem dX0_worked_72 : decode cX0_worked 72 = .ok (.aload 5, 2) := by decide +kernel
theorem dX0_worked_74 : decode cX0_worked 74 = .ok (.getfield 340, 3) := by decide +kernel
theorem dX0_worked_77 : decode cX0_worked 77 = .ok (.aaload, 1) := by decide +kernel
theorem dX0_worked_78 : decode cX0_worked 78 = .ok (.astore_n 3, 1) := by decide +kernel
theorem dX0_worked_79 : decode cX0_worked 79 = .ok (.goto 77, 3) := by decide +kernel
theorem dX0_worked_82 : decode cX0_worked 82 = .ok (.aload 5, 2) := by decide +kernel
theorem dX0_worked_84 : decode cX0_worked 84 = .ok (.getfield 336, 3) := by decide +kernel
theorem dX0_worked_87 : decode cX0_worked 87 = .ok (.iconst 2, 1) := by decide +kernel
theorem dX0_worked_88 : decode cX0_worked 88 = .ok (.if_icmp .ne 59, 3) := by decide +kernel
theorem dX0_worked_91 : decode cX0_worked 91 = .ok (.aload_n 3, 1) := by decide +kernel
theorem dX0_worked_92 : decode cX0_worked 92 = .ok (.getfield 343, 3) := by decide +kernel
theorem dX0_worked_95 : decode cX0_worked 95 = .ok (.aload_n 0, 1) := by decide +kernel
theorem dX0_worked_96 : decode cX0_worked 96 = .ok (.aload 5, 2) := by decide +kernel
theorem dX0_worked_98 : decode cX0_worked 98 = .ok (.getfield 346, 3) := by decide +kernel
theorem dX0_worked_101 : decode cX0_worked 101 = .ok (.getfield 120, 3) := by decide +kernel
theorem dX0_worked_104 : decode cX0_worked 104 = .ok (.aload_n 2, 1) := by decide +kernel
theorem dX0_worked_105 : decode cX0_worked 105 = .ok (.getfield 348, 3) := by decide +kernel
theorem dX0_worked_108 : decode cX0_worked 108 = .ok (.invokevirtual 351, 3) := by decide +kernel
theorem dX0_worked_111 : decode cX0_worked 111 = .ok (.invokestatic 272, 3) := by decide +kernel
theorem dX0_worked_114 : decode cX0_worked 114 = .ok (.istore 6, 2) := by decide +kernel
theorem dX0_worked_116 : decode cX0_worked 116 = .ok (.aload_n 0, 1) := by decide +kernel
theorem dX0_worked_117 : decode cX0_worked 117 = .ok (.iconst 1, 1) := by decide +kernel
theorem dX0_worked_118 : decode cX0_worked 118 = .ok (.invokevirtual 287, 3) := by decide +kernel
theorem dX0_worked_121 : decode cX0_worked 121 = .ok (.iload 6, 2) := by decide +kernel
theorem dX0_worked_123 : decode cX0_worked 123 = .ok (.ifCond .ne 21, 3) := by decide +kernel
theorem dX0_worked_126 : decode cX0_worked 126 = .ok (.aload_n 0, 1) := by decide +kernel
theorem dX0_worked_127 : decode cX0_worked 127 = .ok (.aload 5, 2) := by decide +kernel
theorem dX0_worked_129 : decode cX0_worked 129 = .ok (.getfield 354, 3) := by decide +kernel
theorem dX0_worked_132 : decode cX0_worked 132 = .ok (.putfield 169, 3) := by decide +kernel
theorem dX0_worked_135 : decode cX0_worked 135 = .ok (.new 281, 3) := by decide +kernel
theorem dX0_worked_138 : decode cX0_worked 138 = .ok (.dup, 1) := by decide +kernel
theorem dX0_worked_139 : decode cX0_worked 139 = .ok (.iconst 1, 1) := by decide +kernel
theorem dX0_worked_140 : decode cX0_worked 140 = .ok (.invokespecial 283, 3) := by decide +kernel
theorem dX0_worked_143 : decode cX0_worked 143 = .ok (.athrow, 1) := by decide +kernel
theorem dX0_worked_144 : decode cX0_worked 144 = .ok (.goto 12, 3) := by decide +kernel
theorem dX0_worked_147 : decode cX0_worked 147 = .ok (.aload_n 0, 1) := by decide +kernel
theorem dX0_worked_148 : decode cX0_worked 148 = .ok (.aload 5, 2) := by decide +kernel
theorem dX0_worked_150 : decode cX0_worked 150 = .ok (.aload_n 3, 1) := by decide +kernel
theorem dX0_worked_151 : decode cX0_worked 151 = .ok (.aload_n 2, 1) := by decide +kernel
theorem dX0_worked_152 : decode cX0_worked 152 = .ok (.invokevirtual 357, 3) := by decide +kernel
theorem dX0_worked_155 : decode cX0_worked 155 = .ok (.astore_n 3, 1) := by decide +kernel
theorem dX0_worked_156 : decode cX0_worked 156 = .ok (.iinc 4 1, 3) := by decide +kernel
theorem dX0_worked_159 : decode cX0_worked 159 = .ok (.goto (-130), 3) := by decide +kernel
theorem dX0_worked_162 : decode cX0_worked 162 = .ok (.aload_n 3, 1) := by decide +kernel
theorem dX0_worked_163 : decode cX0_worked 163 = .ok (.areturn, 1) := by decide +kernel
abbrev cX0_literal : ByteArray := prog_1_method_22_code
def yX0_literal : MethodName := ⟨RX0, "literal", "(LFeatherBench$Exp;LFeatherBench$Frame;)LFeatherBench$Thing;"⟩
theorem dX0_literal_0 : decode cX0_literal 0 = .ok (.aload_n 0, 1) := by decide +kernel
theorem dX0_literal_1 : decode cX0_literal 1 = .ok (.aload_n 1, 1) := by decide +kernel
theorem dX0_literal_2 : decode cX0_literal 2 = .ok (.getfield 360, 3) := by decide +kernel
theorem dX0_literal_5 : decode cX0_literal 5 = .ok (.getfield 120, 3) := by decide +kernel
theorem dX0_literal_8 : decode cX0_literal 8 = .ok (.aload_n 2, 1) := by decide +kernel
theorem dX0_literal_9 : decode cX0_literal 9 = .ok (.getfield 348, 3) := by decide +kernel
theorem dX0_literal_12 : decode cX0_literal 12 = .ok (.invokevirtual 351, 3) := by decide +kernel
theorem dX0_literal_15 : decode cX0_literal 15 = .ok (.astore_n 3, 1) := by decide +kernel
theorem dX0_literal_16 : decode cX0_literal 16 = .ok (.aload_n 1, 1) := by decide +kernel
theorem dX0_literal_17 : decode cX0_literal 17 = .ok (.getfield 361, 3) := by decide +kernel
theorem dX0_literal_20 : decode cX0_literal 20 = .ok (.invokevirtual 1, 3) := by decide +kernel
theorem dX0_literal_23 : decode cX0_literal 23 = .ok (.anewarray 305, 3) := by decide +kernel
theorem dX0_literal_26 : decode cX0_literal 26 = .ok (.astore 4, 2) := by decide +kernel
theorem dX0_literal_28 : decode cX0_literal 28 = .ok (.iconst 0, 1) := by decide +kernel
theorem dX0_literal_29 : decode cX0_literal 29 = .ok (.istore 5, 2) := by decide +kernel
theorem dX0_literal_31 : decode cX0_literal 31 = .ok (.iload 5, 2) := by decide +kernel
theorem dX0_literal_33 : decode cX0_literal 33 = .ok (.aload 4, 2) := by decide +kernel
theorem dX0_literal_35 : decode cX0_literal 35 = .ok (.arraylength, 1) := by decide +kernel
theorem dX0_literal_36 : decode cX0_literal 36 = .ok (.if_icmp .ge 31, 3) := by decide +kernel
theorem dX0_literal_39 : decode cX0_literal 39 = .ok (.aload 4, 2) := by decide +kernel
theorem dX0_literal_41 : decode cX0_literal 41 = .ok (.iload 5, 2) := by decide +kernel
theorem dX0_literal_43 : decode cX0_literal 43 = .ok (.aload_n 0, 1) := by decide +kernel
theorem dX0_literal_44 : decode cX0_literal 44 = .ok (.aload_n 1, 1) := by decide +kernel
theorem dX0_literal_45 : decode cX0_literal 45 = .ok (.getfield 361, 3) := by decide +kernel
theorem dX0_literal_48 : decode cX0_literal 48 = .ok (.iload 5, 2) := by decide +kernel
theorem dX0_literal_50 : decode cX0_literal 50 = .ok (.invokevirtual 7, 3) := by decide +kernel
theorem dX0_literal_53 : decode cX0_literal 53 = .ok (.checkcast 318, 3) := by decide +kernel
theorem dX0_literal_56 : decode cX0_literal 56 = .ok (.aload_n 2, 1) := by decide +kernel
theorem dX0_literal_57 : decode cX0_literal 57 = .ok (.invokevirtual 310, 3) := by decide +kernel
theorem dX0_literal_60 : decode cX0_literal 60 = .ok (.aastore, 1) := by decide +kernel
theorem dX0_literal_61 : decode cX0_literal 61 = .ok (.iinc 5 1, 3) := by decide +kernel
theorem dX0_literal_64 : decode cX0_literal 64 = .ok (.goto (-33), 3) := by decide +kernel
theorem dX0_literal_67 : decode cX0_literal 67 = .ok (.aload_n 0, 1) := by decide +kernel
theorem dX0_literal_68 : decode cX0_literal 68 = .ok (.iconst 1, 1) := by decide +kernel
theorem dX0_literal_69 : decode cX0_literal 69 = .ok (.invokevirtual 287, 3) := by decide +kernel
theorem dX0_literal_72 : decode cX0_literal 72 = .ok (.new 305, 3) := by decide +kernel
theorem dX0_literal_75 : decode cX0_literal 75 = .ok (.dup, 1) := by decide +kernel
theorem dX0_literal_76 : decode cX0_literal 76 = .ok (.aload_n 3, 1) := by decide +kernel
theorem dX0_literal_77 : decode cX0_literal 77 = .ok (.aload 4, 2) := by decide +kernel
theorem dX0_literal_79 : decode cX0_literal 79 = .ok (.invokespecial 364, 3) := by decide +kernel
theorem dX0_literal_82 : decode cX0_literal 82 = .ok (.areturn, 1) := by decide +kernel
abbrev cX0_put : ByteArray := prog_1_method_19_code
def yX0_put : MethodName := ⟨RX0, "put", "(LFeatherBench$Ty;LFeatherBench$Put;)LFeatherBench$Ty;"⟩
theorem dX0_put_0 : decode cX0_put 0 = .ok (.aload_n 1, 1) := by decide +kernel
theorem dX0_put_1 : decode cX0_put 1 = .ok (.getfield 135, 3) := by decide +kernel
theorem dX0_put_4 : decode cX0_put 4 = .ok (.ifCond .ne 5, 3) := by decide +kernel
theorem dX0_put_7 : decode cX0_put 7 = .ok (.aload_n 1, 1) := by decide +kernel
theorem dX0_put_8 : decode cX0_put 8 = .ok (.areturn, 1) := by decide +kernel
theorem dX0_put_9 : decode cX0_put 9 = .ok (.aload_n 1, 1) := by decide +kernel
theorem dX0_put_10 : decode cX0_put 10 = .ok (.aload_n 2, 1) := by decide +kernel
theorem dX0_put_11 : decode cX0_put 11 = .ok (.invokevirtual 284, 3) := by decide +kernel
theorem dX0_put_14 : decode cX0_put 14 = .ok (.istore_n 3, 1) := by decide +kernel
theorem dX0_put_15 : decode cX0_put 15 = .ok (.iload_n 3, 1) := by decide +kernel
theorem dX0_put_16 : decode cX0_put 16 = .ok (.bipush 60, 2) := by decide +kernel
theorem dX0_put_18 : decode cX0_put 18 = .ok (.if_icmp .le 11, 3) := by decide +kernel
theorem dX0_put_21 : decode cX0_put 21 = .ok (.new 127, 3) := by decide +kernel
theorem dX0_put_24 : decode cX0_put 24 = .ok (.dup, 1) := by decide +kernel
theorem dX0_put_25 : decode cX0_put 25 = .ok (.invokespecial 129, 3) := by decide +kernel
theorem dX0_put_28 : decode cX0_put 28 = .ok (.athrow, 1) := by decide +kernel
theorem dX0_put_29 : decode cX0_put 29 = .ok (.aload_n 0, 1) := by decide +kernel
theorem dX0_put_30 : decode cX0_put 30 = .ok (.iload_n 3, 1) := by decide +kernel
theorem dX0_put_31 : decode cX0_put 31 = .ok (.invokevirtual 287, 3) := by decide +kernel
theorem dX0_put_34 : decode cX0_put 34 = .ok (.aload_n 1, 1) := by decide +kernel
theorem dX0_put_35 : decode cX0_put 35 = .ok (.aload_n 2, 1) := by decide +kernel
theorem dX0_put_36 : decode cX0_put 36 = .ok (.invokevirtual 289, 3) := by decide +kernel
theorem dX0_put_39 : decode cX0_put 39 = .ok (.areturn, 1) := by decide +kernel
abbrev cX0_steps : ByteArray := prog_1_method_18_code
def yX0_steps : MethodName := ⟨RX0, "steps", "(I)V"⟩
theorem dX0_steps_0 : decode cX0_steps 0 = .ok (.iload_n 1, 1) := by decide +kernel
theorem dX0_steps_1 : decode cX0_steps 1 = .ok (.aload_n 0, 1) := by decide +kernel
theorem dX0_steps_2 : decode cX0_steps 2 = .ok (.getfield 276, 3) := by decide +kernel
theorem dX0_steps_5 : decode cX0_steps 5 = .ok (.aload_n 0, 1) := by decide +kernel
theorem dX0_steps_6 : decode cX0_steps 6 = .ok (.getfield 237, 3) := by decide +kernel
theorem dX0_steps_9 : decode cX0_steps 9 = .ok (.isub, 1) := by decide +kernel
theorem dX0_steps_10 : decode cX0_steps 10 = .ok (.if_icmp .le 38, 3) := by decide +kernel
theorem dX0_steps_13 : decode cX0_steps 13 = .ok (.aload_n 0, 1) := by decide +kernel
theorem dX0_steps_14 : decode cX0_steps 14 = .ok (.dup, 1) := by decide +kernel
theorem dX0_steps_15 : decode cX0_steps 15 = .ok (.getfield 279, 3) := by decide +kernel
theorem dX0_steps_18 : decode cX0_steps 18 = .ok (.aload_n 0, 1) := by decide +kernel
theorem dX0_steps_19 : decode cX0_steps 19 = .ok (.getfield 276, 3) := by decide +kernel
theorem dX0_steps_22 : decode cX0_steps 22 = .ok (.aload_n 0, 1) := by decide +kernel
theorem dX0_steps_23 : decode cX0_steps 23 = .ok (.getfield 237, 3) := by decide +kernel
theorem dX0_steps_26 : decode cX0_steps 26 = .ok (.isub, 1) := by decide +kernel
theorem dX0_steps_27 : decode cX0_steps 27 = .ok (.iadd, 1) := by decide +kernel
theorem dX0_steps_28 : decode cX0_steps 28 = .ok (.putfield 279, 3) := by decide +kernel
theorem dX0_steps_31 : decode cX0_steps 31 = .ok (.aload_n 0, 1) := by decide +kernel
theorem dX0_steps_32 : decode cX0_steps 32 = .ok (.aload_n 0, 1) := by decide +kernel
theorem dX0_steps_33 : decode cX0_steps 33 = .ok (.getfield 276, 3) := by decide +kernel
theorem dX0_steps_36 : decode cX0_steps 36 = .ok (.putfield 237, 3) := by decide +kernel
theorem dX0_steps_39 : decode cX0_steps 39 = .ok (.new 281, 3) := by decide +kernel
theorem dX0_steps_42 : decode cX0_steps 42 = .ok (.dup, 1) := by decide +kernel
theorem dX0_steps_43 : decode cX0_steps 43 = .ok (.iconst 2, 1) := by decide +kernel
theorem dX0_steps_44 : decode cX0_steps 44 = .ok (.invokespecial 283, 3) := by decide +kernel
theorem dX0_steps_47 : decode cX0_steps 47 = .ok (.athrow, 1) := by decide +kernel
theorem dX0_steps_48 : decode cX0_steps 48 = .ok (.aload_n 0, 1) := by decide +kernel
theorem dX0_steps_49 : decode cX0_steps 49 = .ok (.dup, 1) := by decide +kernel
theorem dX0_steps_50 : decode cX0_steps 50 = .ok (.getfield 237, 3) := by decide +kernel
theorem dX0_steps_53 : decode cX0_steps 53 = .ok (.iload_n 1, 1) := by decide +kernel
theorem dX0_steps_54 : decode cX0_steps 54 = .ok (.iadd, 1) := by decide +kernel
theorem dX0_steps_55 : decode cX0_steps 55 = .ok (.putfield 237, 3) := by decide +kernel
theorem dX0_steps_58 : decode cX0_steps 58 = .ok (.aload_n 0, 1) := by decide +kernel
theorem dX0_steps_59 : decode cX0_steps 59 = .ok (.dup, 1) := by decide +kernel
theorem dX0_steps_60 : decode cX0_steps 60 = .ok (.getfield 279, 3) := by decide +kernel
theorem dX0_steps_63 : decode cX0_steps 63 = .ok (.iload_n 1, 1) := by decide +kernel
theorem dX0_steps_64 : decode cX0_steps 64 = .ok (.iadd, 1) := by decide +kernel
theorem dX0_steps_65 : decode cX0_steps 65 = .ok (.putfield 279, 3) := by decide +kernel
theorem dX0_steps_68 : decode cX0_steps 68 = .ok (.return_, 1) := by decide +kernel
abbrev cX0_called : ByteArray := prog_1_method_23_code
def yX0_called : MethodName := ⟨RX0, "called", "(LFeatherBench$Dot;LFeatherBench$Thing;LFeatherBench$Frame;)LFeatherBench$Thing;"⟩
theorem dX0_called_0 : decode cX0_called 0 = .ok (.aload_n 1, 1) := by decide +kernel
theorem dX0_called_1 : decode cX0_called 1 = .ok (.getfield 367, 3) := by decide +kernel
theorem dX0_called_4 : decode cX0_called 4 = .ok (.invokevirtual 1, 3) := by decide +kernel
theorem dX0_called_7 : decode cX0_called 7 = .ok (.iconst 1, 1) := by decide +kernel
theorem dX0_called_8 : decode cX0_called 8 = .ok (.iadd, 1) := by decide +kernel
theorem dX0_called_9 : decode cX0_called 9 = .ok (.anewarray 305, 3) := by decide +kernel
theorem dX0_called_12 : decode cX0_called 12 = .ok (.astore 4, 2) := by decide +kernel
theorem dX0_called_14 : decode cX0_called 14 = .ok (.aload 4, 2) := by decide +kernel
theorem dX0_called_16 : decode cX0_called 16 = .ok (.iconst 0, 1) := by decide +kernel
theorem dX0_called_17 : decode cX0_called 17 = .ok (.aload_n 2, 1) := by decide +kernel
theorem dX0_called_18 : decode cX0_called 18 = .ok (.aastore, 1) := by decide +kernel
theorem dX0_called_19 : decode cX0_called 19 = .ok (.iconst 1, 1) := by decide +kernel
theorem dX0_called_20 : decode cX0_called 20 = .ok (.istore 5, 2) := by decide +kernel
theorem dX0_called_22 : decode cX0_called 22 = .ok (.iload 5, 2) := by decide +kernel
theorem dX0_called_24 : decode cX0_called 24 = .ok (.aload 4, 2) := by decide +kernel
theorem dX0_called_26 : decode cX0_called 26 = .ok (.arraylength, 1) := by decide +kernel
theorem dX0_called_27 : decode cX0_called 27 = .ok (.if_icmp .ge 33, 3) := by decide +kernel
theorem dX0_called_30 : decode cX0_called 30 = .ok (.aload 4, 2) := by decide +kernel
theorem dX0_called_32 : decode cX0_called 32 = .ok (.iload 5, 2) := by decide +kernel
theorem dX0_called_34 : decode cX0_called 34 = .ok (.aload_n 0, 1) := by decide +kernel
theorem dX0_called_35 : decode cX0_called 35 = .ok (.aload_n 1, 1) := by decide +kernel
theorem dX0_called_36 : decode cX0_called 36 = .ok (.getfield 367, 3) := by decide +kernel
theorem dX0_called_39 : decode cX0_called 39 = .ok (.iload 5, 2) := by decide +kernel
theorem dX0_called_41 : decode cX0_called 41 = .ok (.iconst 1, 1) := by decide +kernel
theorem dX0_called_42 : decode cX0_called 42 = .ok (.isub, 1) := by decide +kernel
theorem dX0_called_43 : decode cX0_called 43 = .ok (.invokevirtual 7, 3) := by decide +kernel
theorem dX0_called_46 : decode cX0_called 46 = .ok (.checkcast 318, 3) := by decide +kernel
theorem dX0_called_49 : decode cX0_called 49 = .ok (.aload_n 3, 1) := by decide +kernel
theorem dX0_called_50 : decode cX0_called 50 = .ok (.invokevirtual 310, 3) := by decide +kernel
theorem dX0_called_53 : decode cX0_called 53 = .ok (.aastore, 1) := by decide +kernel
theorem dX0_called_54 : decode cX0_called 54 = .ok (.iinc 5 1, 3) := by decide +kernel
theorem dX0_called_57 : decode cX0_called 57 = .ok (.goto (-35), 3) := by decide +kernel
theorem dX0_called_60 : decode cX0_called 60 = .ok (.aload_n 1, 1) := by decide +kernel
theorem dX0_called_61 : decode cX0_called 61 = .ok (.getfield 369, 3) := by decide +kernel
theorem dX0_called_64 : decode cX0_called 64 = .ok (.invokevirtual 1, 3) := by decide +kernel
theorem dX0_called_67 : decode cX0_called 67 = .ok (.anewarray 24, 3) := by decide +kernel
theorem dX0_called_70 : decode cX0_called 70 = .ok (.astore 5, 2) := by decide +kernel
theorem dX0_called_72 : decode cX0_called 72 = .ok (.iconst 0, 1) := by decide +kernel
theorem dX0_called_73 : decode cX0_called 73 = .ok (.istore 6, 2) := by decide +kernel
theorem dX0_called_75 : decode cX0_called 75 = .ok (.iload 6, 2) := by decide +kernel
theorem dX0_called_77 : decode cX0_called 77 = .ok (.aload 5, 2) := by decide +kernel
theorem dX0_called_79 : decode cX0_called 79 = .ok (.arraylength, 1) := by decide +kernel
theorem dX0_called_80 : decode cX0_called 80 = .ok (.if_icmp .ge 37, 3) := by decide +kernel
theorem dX0_called_83 : decode cX0_called 83 = .ok (.aload 5, 2) := by decide +kernel
theorem dX0_called_85 : decode cX0_called 85 = .ok (.iload 6, 2) := by decide +kernel
theorem dX0_called_87 : decode cX0_called 87 = .ok (.aload_n 0, 1) := by decide +kernel
theorem dX0_called_88 : decode cX0_called 88 = .ok (.aload_n 1, 1) := by decide +kernel
theorem dX0_called_89 : decode cX0_called 89 = .ok (.getfield 369, 3) := by decide +kernel
theorem dX0_called_92 : decode cX0_called 92 = .ok (.iload 6, 2) := by decide +kernel
theorem dX0_called_94 : decode cX0_called 94 = .ok (.invokevirtual 7, 3) := by decide +kernel
theorem dX0_called_97 : decode cX0_called 97 = .ok (.checkcast 121, 3) := by decide +kernel
theorem dX0_called_100 : decode cX0_called 100 = .ok (.getfield 120, 3) := by decide +kernel
theorem dX0_called_103 : decode cX0_called 103 = .ok (.aload_n 3, 1) := by decide +kernel
theorem dX0_called_104 : decode cX0_called 104 = .ok (.getfield 348, 3) := by decide +kernel
theorem dX0_called_107 : decode cX0_called 107 = .ok (.invokevirtual 351, 3) := by decide +kernel
theorem dX0_called_110 : decode cX0_called 110 = .ok (.aastore, 1) := by decide +kernel
theorem dX0_called_111 : decode cX0_called 111 = .ok (.iinc 6 1, 3) := by decide +kernel
theorem dX0_called_114 : decode cX0_called 114 = .ok (.goto (-39), 3) := by decide +kernel
theorem dX0_called_117 : decode cX0_called 117 = .ok (.aload_n 0, 1) := by decide +kernel
theorem dX0_called_118 : decode cX0_called 118 = .ok (.iconst 1, 1) := by decide +kernel
theorem dX0_called_119 : decode cX0_called 119 = .ok (.invokevirtual 287, 3) := by decide +kernel
theorem dX0_called_122 : decode cX0_called 122 = .ok (.aload_n 0, 1) := by decide +kernel
theorem dX0_called_123 : decode cX0_called 123 = .ok (.getfield 300, 3) := by decide +kernel
theorem dX0_called_126 : decode cX0_called 126 = .ok (.bipush 40, 2) := by decide +kernel
theorem dX0_called_128 : decode cX0_called 128 = .ok (.if_icmp .ne 12, 3) := by decide +kernel
theorem dX0_called_131 : decode cX0_called 131 = .ok (.new 281, 3) := by decide +kernel
theorem dX0_called_134 : decode cX0_called 134 = .ok (.dup, 1) := by decide +kernel
theorem dX0_called_135 : decode cX0_called 135 = .ok (.iconst 3, 1) := by decide +kernel
theorem dX0_called_136 : decode cX0_called 136 = .ok (.invokespecial 283, 3) := by decide +kernel
theorem dX0_called_139 : decode cX0_called 139 = .ok (.athrow, 1) := by decide +kernel
theorem dX0_called_140 : decode cX0_called 140 = .ok (.aload_n 0, 1) := by decide +kernel
theorem dX0_called_141 : decode cX0_called 141 = .ok (.dup, 1) := by decide +kernel
theorem dX0_called_142 : decode cX0_called 142 = .ok (.getfield 300, 3) := by decide +kernel
theorem dX0_called_145 : decode cX0_called 145 = .ok (.iconst 1, 1) := by decide +kernel
theorem dX0_called_146 : decode cX0_called 146 = .ok (.iadd, 1) := by decide +kernel
theorem dX0_called_147 : decode cX0_called 147 = .ok (.putfield 300, 3) := by decide +kernel
theorem dX0_called_150 : decode cX0_called 150 = .ok (.aload_n 0, 1) := by decide +kernel
theorem dX0_called_151 : decode cX0_called 151 = .ok (.dup, 1) := by decide +kernel
theorem dX0_called_152 : decode cX0_called 152 = .ok (.getfield 240, 3) := by decide +kernel
theorem dX0_called_155 : decode cX0_called 155 = .ok (.iconst 1, 1) := by decide +kernel
theorem dX0_called_156 : decode cX0_called 156 = .ok (.iadd, 1) := by decide +kernel
theorem dX0_called_157 : decode cX0_called 157 = .ok (.putfield 240, 3) := by decide +kernel
theorem dX0_called_160 : decode cX0_called 160 = .ok (.aload_n 2, 1) := by decide +kernel
theorem dX0_called_161 : decode cX0_called 161 = .ok (.getfield 343, 3) := by decide +kernel
theorem dX0_called_164 : decode cX0_called 164 = .ok (.aload_n 1, 1) := by decide +kernel
theorem dX0_called_165 : decode cX0_called 165 = .ok (.getfield 370, 3) := by decide +kernel
theorem dX0_called_168 : decode cX0_called 168 = .ok (.invokestatic 373, 3) := by decide +kernel
theorem dX0_called_171 : decode cX0_called 171 = .ok (.astore 6, 2) := by decide +kernel
theorem dX0_called_173 : decode cX0_called 173 = .ok (.aload_n 0, 1) := by decide +kernel
theorem dX0_called_174 : decode cX0_called 174 = .ok (.aload 6, 2) := by decide +kernel
theorem dX0_called_176 : decode cX0_called 176 = .ok (.getfield 377, 3) := by decide +kernel
theorem dX0_called_179 : decode cX0_called 179 = .ok (.getfield 381, 3) := by decide +kernel
theorem dX0_called_182 : decode cX0_called 182 = .ok (.new 303, 3) := by decide +kernel
theorem dX0_called_185 : decode cX0_called 185 = .ok (.dup, 1) := by decide +kernel
theorem dX0_called_186 : decode cX0_called 186 = .ok (.aload 4, 2) := by decide +kernel
theorem dX0_called_188 : decode cX0_called 188 = .ok (.new 39, 3) := by decide +kernel
theorem dX0_called_191 : decode cX0_called 191 = .ok (.dup, 1) := by decide +kernel
theorem dX0_called_192 : decode cX0_called 192 = .ok (.aload 6, 2) := by decide +kernel
theorem dX0_called_194 : decode cX0_called 194 = .ok (.getfield 384, 3) := by decide +kernel
theorem dX0_called_197 : decode cX0_called 197 = .ok (.getfield 104, 3) := by decide +kernel
theorem dX0_called_200 : decode cX0_called 200 = .ok (.aload 5, 2) := by decide +kernel
theorem dX0_called_202 : decode cX0_called 202 = .ok (.aload 6, 2) := by decide +kernel
theorem dX0_called_204 : decode cX0_called 204 = .ok (.getfield 385, 3) := by decide +kernel
theorem dX0_called_207 : decode cX0_called 207 = .ok (.invokespecial 51, 3) := by decide +kernel
