set_option maxRecDepth 100000
theorem q159 : (Jvm.Cond.initialized "FeatherBenchLaw") ∈ lw_all := lw_g (lw_at lw_m1 0 rfl) rfl
theorem q204 : (Jvm.Cond.classLink "FeatherBenchLaw" (7 : Nat) "FeatherBench") ∈ lw_all := lw_g (lw_at lw_m1 45 rfl) rfl
theorem q206 : (Jvm.Cond.methodLink "FeatherBenchLaw" (9 : Nat) ({ cls := "FeatherBench", name := "<init>", desc := "()V" } : Jvm.MethodName)) ∈ lw_all := lw_g (lw_at lw_m1 47 rfl) rfl
theorem q333 : (Jvm.Cond.methodLink "FeatherBenchLaw" (15 : Nat) ({ cls := "FeatherBench", name := "feed", desc := "(JJJ)I" } : Jvm.MethodName)) ∈ lw_all := lw_g (lw_at lw_m1 174 rfl) rfl
theorem q337 : (Jvm.Cond.methodLink "FeatherBenchLaw" (20 : Nat) ({ cls := "FeatherBench", name := "program", desc := "()I" } : Jvm.MethodName)) ∈ lw_all := lw_g (lw_at lw_m1 178 rfl) rfl
theorem q1561 : (Jvm.Cond.methodLink "FeatherBenchLaw" (25 : Nat) ({ cls := "FeatherBench", name := "implementing", desc := "()I" } : Jvm.MethodName)) ∈ lw_all := lw_g (lw_at lw_m6 202 rfl) rfl
theorem q1587 : (Jvm.Cond.methodLink "FeatherBenchLaw" (29 : Nat) ({ cls := "FeatherBench", name := "run", desc := "(I)I" } : Jvm.MethodName)) ∈ lw_all := lw_g (lw_at lw_m6 228 rfl) rfl
theorem q1673 : (Jvm.Cond.methodLink "FeatherBenchLaw" (34 : Nat) ({ cls := "FeatherBench", name := "failed", desc := "()I" } : Jvm.MethodName)) ∈ lw_all := lw_g (lw_at lw_m7 74 rfl) rfl
theorem q1677 : (Jvm.Cond.methodLink "FeatherBenchLaw" (38 : Nat) ({ cls := "FeatherBench", name := "calls", desc := "()I" } : Jvm.MethodName)) ∈ lw_all := lw_g (lw_at lw_m7 78 rfl) rfl
theorem q1681 : (Jvm.Cond.methodLink "FeatherBenchLaw" (42 : Nat) ({ cls := "FeatherBench", name := "instances", desc := "()I" } : Jvm.MethodName)) ∈ lw_all := lw_g (lw_at lw_m7 82 rfl) rfl
theorem q1800 : (Jvm.Cond.methodLink "FeatherBenchLaw" (46 : Nat) ({ cls := "FeatherBench", name := "made", desc := "(I)I" } : Jvm.MethodName)) ∈ lw_all := lw_g (lw_at lw_m7 201 rfl) rfl
theorem q1804 : (Jvm.Cond.methodLink "FeatherBenchLaw" (50 : Nat) ({ cls := "FeatherBench", name := "isMade", desc := "()I" } : Jvm.MethodName)) ∈ lw_all := lw_g (lw_at lw_m7 205 rfl) rfl
theorem q1809 : (Jvm.Cond.methodLink "FeatherBenchLaw" (54 : Nat) ({ cls := "FeatherBench", name := "print", desc := "(I)I" } : Jvm.MethodName)) ∈ lw_all := lw_g (lw_at lw_m7 210 rfl) rfl
theorem q1827 : (Jvm.Cond.methodLink "FeatherBenchLaw" (58 : Nat) ({ cls := "FeatherBench", name := "out", desc := "(I)I" } : Jvm.MethodName)) ∈ lw_all := lw_g (lw_at lw_m7 228 rfl) rfl
theorem q1831 : (Jvm.Cond.methodLink "FeatherBenchLaw" (62 : Nat) ({ cls := "FeatherBench", name := "count", desc := "(I)I" } : Jvm.MethodName)) ∈ lw_all := lw_g (lw_at lw_m7 232 rfl) rfl
theorem q1835 : (Jvm.Cond.classLink "FeatherBenchLaw" (10 : Nat) "FeatherBenchModel") ∈ lw_all := lw_g (lw_at lw_m7 236 rfl) rfl
theorem q1837 : (Jvm.Cond.methodLink "FeatherBenchLaw" (12 : Nat) ({ cls := "FeatherBenchModel", name := "<init>", desc := "()V" } : Jvm.MethodName)) ∈ lw_all := lw_g (lw_at lw_m7 238 rfl) rfl
theorem q2220 : (Jvm.Cond.methodLink "FeatherBenchLaw" (19 : Nat) ({ cls := "FeatherBenchModel", name := "feed", desc := "(JJJ)I" } : Jvm.MethodName)) ∈ lw_all := lw_g (lw_at lw_m9 141 rfl) rfl
theorem q2228 : (Jvm.Cond.methodLink "FeatherBenchLaw" (24 : Nat) ({ cls := "FeatherBenchModel", name := "program", desc := "()I" } : Jvm.MethodName)) ∈ lw_all := lw_g (lw_at lw_m9 149 rfl) rfl
theorem q2536 : (Jvm.Cond.methodLink "FeatherBenchLaw" (28 : Nat) ({ cls := "FeatherBenchModel", name := "implementing", desc := "()I" } : Jvm.MethodName)) ∈ lw_all := lw_g (lw_at lw_m10 217 rfl) rfl
theorem q2552 : (Jvm.Cond.methodLink "FeatherBenchLaw" (33 : Nat) ({ cls := "FeatherBenchModel", name := "run", desc := "(I)I" } : Jvm.MethodName)) ∈ lw_all := lw_g (lw_at lw_m10 233 rfl) rfl
theorem q2596 : (Jvm.Cond.methodLink "FeatherBenchLaw" (37 : Nat) ({ cls := "FeatherBenchModel", name := "failed", desc := "()I" } : Jvm.MethodName)) ∈ lw_all := lw_g (lw_at lw_m11 37 rfl) rfl
theorem q2600 : (Jvm.Cond.methodLink "FeatherBenchLaw" (41 : Nat) ({ cls := "FeatherBenchModel", name := "calls", desc := "()I" } : Jvm.MethodName)) ∈ lw_all := lw_g (lw_at lw_m11 41 rfl) rfl
theorem q2604 : (Jvm.Cond.methodLink "FeatherBenchLaw" (45 : Nat) ({ cls := "FeatherBenchModel", name := "instances", desc := "()I" } : Jvm.MethodName)) ∈ lw_all := lw_g (lw_at lw_m11 45 rfl) rfl
theorem q2640 : (Jvm.Cond.methodLink "FeatherBenchLaw" (49 : Nat) ({ cls := "FeatherBenchModel", name := "made", desc := "(I)I" } : Jvm.MethodName)) ∈ lw_all := lw_g (lw_at lw_m11 81 rfl) rfl
theorem q2644 : (Jvm.Cond.methodLink "FeatherBenchLaw" (53 : Nat) ({ cls := "FeatherBenchModel", name := "isMade", desc := "()I" } : Jvm.MethodName)) ∈ lw_all := lw_g (lw_at lw_m11 85 rfl) rfl
theorem q2648 : (Jvm.Cond.methodLink "FeatherBenchLaw" (57 : Nat) ({ cls := "FeatherBenchModel", name := "print", desc := "(I)I" } : Jvm.MethodName)) ∈ lw_all := lw_g (lw_at lw_m11 89 rfl) rfl
theorem q2679 : (Jvm.Cond.methodLink "FeatherBenchLaw" (61 : Nat) ({ cls := "FeatherBenchModel", name := "out", desc := "(I)I" } : Jvm.MethodName)) ∈ lw_all := lw_g (lw_at lw_m11 120 rfl) rfl
theorem q2683 : (Jvm.Cond.methodLink "FeatherBenchLaw" (65 : Nat) ({ cls := "FeatherBenchModel", name := "count", desc := "(I)I" } : Jvm.MethodName)) ∈ lw_all := lw_g (lw_at lw_m11 124 rfl) rfl
theorem q2687 : (Jvm.Cond.constantLong "FeatherBenchLaw" (13 : Nat) (4294967295 : Int64)) ∈ lw_all := lw_g (lw_at lw_m11 128 rfl) rfl
theorem q642 : (Jvm.Cond.sameMethod "[B" "java/lang/Object" "clone" "()Ljava/lang/Object;") ∈ lw_all := lw_g (lw_at lw_m3 3 rfl) rfl
theorem q645 : (Jvm.Cond.selects "[B" ({ cls := "[B", name := "clone", desc := "()Ljava/lang/Object;" } : Jvm.MethodName) ({ cls := "java/lang/Object", name := "clone", desc := "()Ljava/lang/Object;" } : Jvm.MethodName)) ∈ lw_all := lw_g (lw_at lw_m3 6 rfl) rfl
theorem q646 : (Jvm.Cond.castable "[B" "java/lang/Cloneable") ∈ lw_tbl := lw_at lw_m3 7 rfl
theorem q2724 : (Jvm.Cond.castable "[B" "java/lang/Object") ∈ lw_tbl := lw_at lw_m11 165 rfl
theorem q2729 : (Jvm.Cond.castable "[I" "java/lang/Object") ∈ lw_tbl := lw_at lw_m11 170 rfl
theorem q2730 : (Jvm.Cond.castable "[J" "java/lang/Object") ∈ lw_tbl := lw_at lw_m11 171 rfl
theorem q2728 : (Jvm.Cond.castable "[LFeatherBench$Thing;" "java/lang/Object") ∈ lw_tbl := lw_at lw_m11 169 rfl
theorem q2726 : (Jvm.Cond.castable "[LFeatherBench$Ty;" "java/lang/Object") ∈ lw_tbl := lw_at lw_m11 167 rfl
theorem q2721 : (Jvm.Cond.sameMethod "[Ljava/lang/Object;" "java/lang/Object" "getClass" "()Ljava/lang/Class;") ∈ lw_all := lw_g (lw_at lw_m11 162 rfl) rfl
theorem q2722 : (Jvm.Cond.selects "[Ljava/lang/Object;" ({ cls := "java/lang/Object", name := "getClass", desc := "()Ljava/lang/Class;" } : Jvm.MethodName) ({ cls := "java/lang/Object", name := "getClass", desc := "()Ljava/lang/Class;" } : Jvm.MethodName)) ∈ lw_all := lw_g (lw_at lw_m11 163 rfl) rfl
theorem q2725 : (Jvm.Cond.castable "[Ljava/lang/Object;" "java/lang/Object") ∈ lw_tbl := lw_at lw_m11 166 rfl
theorem q2727 : (Jvm.Cond.castable "[Z" "java/lang/Object") ∈ lw_tbl := lw_at lw_m11 168 rfl
theorem q193 : (Jvm.Cond.initialized "java/lang/Integer$IntegerCache") ∈ lw_all := lw_g (lw_at lw_m1 34 rfl) rfl
theorem q1218 : (Jvm.Cond.laysStatic "java/lang/Integer$IntegerCache" "high" "I") ∈ lw_tbl := lw_at lw_m5 99 rfl
theorem q1220 : (Jvm.Cond.laysStatic "java/lang/Integer$IntegerCache" "cache" "[Ljava/lang/Integer;") ∈ lw_tbl := lw_at lw_m5 101 rfl
theorem q181 : (Jvm.Cond.initialized "java/lang/System") ∈ lw_all := lw_g (lw_at lw_m1 22 rfl) rfl
theorem q650 : (Jvm.Cond.static ({ cls := "java/lang/System", name := "arraycopy", desc := "(Ljava/lang/Object;ILjava/lang/Object;II)V" } : Jvm.MethodName)) ∈ lw_all := lw_g (lw_at lw_m3 11 rfl) rfl
theorem q651 : (Jvm.Cond.native ({ cls := "java/lang/System", name := "arraycopy", desc := "(Ljava/lang/Object;ILjava/lang/Object;II)V" } : Jvm.MethodName)) ∈ lw_all := lw_g (lw_at lw_m3 12 rfl) rfl
theorem q249 : (Jvm.Cond.arrayClass Jvm.ClassFile.FieldType.byte) ∈ lw_all := lw_g (lw_at lw_m1 90 rfl) rfl
theorem q263 : (Jvm.Cond.arrayOver (Jvm.ClassFile.FieldType.object "java/lang/Object")) ∈ lw_tbl := lw_at lw_m1 104 rfl
theorem q1289 : (Jvm.Cond.arrayOver (Jvm.ClassFile.FieldType.object "FeatherBench$Ty")) ∈ lw_tbl := lw_at lw_m5 170 rfl
theorem q1552 : (Jvm.Cond.arrayClass Jvm.ClassFile.FieldType.boolean) ∈ lw_all := lw_g (lw_at lw_m6 193 rfl) rfl
theorem q1597 : (Jvm.Cond.arrayOver (Jvm.ClassFile.FieldType.object "FeatherBench$Thing")) ∈ lw_tbl := lw_at lw_m6 238 rfl
theorem q2218 : (Jvm.Cond.arrayClass Jvm.ClassFile.FieldType.int) ∈ lw_all := lw_g (lw_at lw_m9 139 rfl) rfl
theorem q2219 : (Jvm.Cond.arrayClass Jvm.ClassFile.FieldType.long) ∈ lw_all := lw_g (lw_at lw_m9 140 rfl) rfl
/-! java/util/AbstractCollection -/
def RJ0 : String := "java/util/AbstractCollection"
abbrev cJ0_init : ByteArray := prog_47_method_1_code
def yJ0_init : MethodName := ⟨RJ0, "<init>", "()V"⟩
theorem dJ0_init_0 : decode cJ0_init 0 = .ok (.aload_n 0, 1) := by decide +kernel
theorem dJ0_init_1 : decode cJ0_init 1 = .ok (.invokespecial 1, 3) := by decide +kernel
theorem dJ0_init_4 : decode cJ0_init 4 = .ok (.return_, 1) := by decide +kernel
theorem q162 : (Jvm.Cond.initialized "java/util/AbstractCollection") ∈ lw_all := lw_g (lw_at lw_m1 3 rfl) rfl
theorem q259 : (Jvm.Cond.instanceMethod ({ cls := "java/util/AbstractCollection", name := "<init>", desc := "()V" } : Jvm.MethodName)) ∈ lw_all := lw_g (lw_at lw_m1 100 rfl) rfl
theorem q260 : (Jvm.Cond.code ({ cls := "java/util/AbstractCollection", name := "<init>", desc := "()V" } : Jvm.MethodName) prog_47_method_1_code (1 : Nat) (Option.none : Option Jvm.ClassFile.FieldType)) ∈ lw_all := lw_g (lw_at lw_m1 101 rfl) rfl
theorem q261 : (Jvm.Cond.methodLink "java/util/AbstractCollection" (1 : Nat) ({ cls := "java/lang/Object", name := "<init>", desc := "()V" } : Jvm.MethodName)) ∈ lw_all := lw_g (lw_at lw_m1 102 rfl) rfl
/-! java/util/AbstractList -/
def RJ1 : String := "java/util/AbstractList"
abbrev cJ1_init : ByteArray := prog_48_method_1_code
def yJ1_init : MethodName := ⟨RJ1, "<init>", "()V"⟩
theorem dJ1_init_0 : decode cJ1_init 0 = .ok (.aload_n 0, 1) := by decide +kernel
theorem dJ1_init_1 : decode cJ1_init 1 = .ok (.invokespecial 1, 3) := by decide +kernel
theorem dJ1_init_4 : decode cJ1_init 4 = .ok (.aload_n 0, 1) := by decide +kernel
theorem dJ1_init_5 : decode cJ1_init 5 = .ok (.iconst 0, 1) := by decide +kernel
theorem dJ1_init_6 : decode cJ1_init 6 = .ok (.putfield 7, 3) := by decide +kernel
theorem dJ1_init_9 : decode cJ1_init 9 = .ok (.return_, 1) := by decide +kernel
theorem q163 : (Jvm.Cond.initialized "java/util/AbstractList") ∈ lw_all := lw_g (lw_at lw_m1 4 rfl) rfl
theorem q256 : (Jvm.Cond.instanceMethod ({ cls := "java/util/AbstractList", name := "<init>", desc := "()V" } : Jvm.MethodName)) ∈ lw_all := lw_g (lw_at lw_m1 97 rfl) rfl
theorem q257 : (Jvm.Cond.code ({ cls := "java/util/AbstractList", name := "<init>", desc := "()V" } : Jvm.MethodName) prog_48_method_1_code (1 : Nat) (Option.none : Option Jvm.ClassFile.FieldType)) ∈ lw_all := lw_g (lw_at lw_m1 98 rfl) rfl
theorem q258 : (Jvm.Cond.methodLink "java/util/AbstractList" (1 : Nat) ({ cls := "java/util/AbstractCollection", name := "<init>", desc := "()V" } : Jvm.MethodName)) ∈ lw_all := lw_g (lw_at lw_m1 99 rfl) rfl
theorem q268 : (Jvm.Cond.fieldLink "java/util/AbstractList" (7 : Nat) "java/util/AbstractList" "modCount" "I") ∈ lw_all := lw_g (lw_at lw_m1 109 rfl) rfl
theorem q276 : (Jvm.Cond.soleField "java/util/AbstractList" "modCount") ∈ lw_all := lw_g (lw_at lw_m1 117 rfl) rfl
/-! java/lang/Exception -/
def RJ10 : String := "java/lang/Exception"
abbrev cJ10_init : ByteArray := prog_32_method_5_code
def yJ10_init : MethodName := ⟨RJ10, "<init>", "(Ljava/lang/String;Ljava/lang/Throwable;ZZ)V"⟩
theorem dJ10_init_0 : decode cJ10_init 0 = .ok (.aload_n 0, 1) := by decide +kernel
theorem dJ10_init_1 : decode cJ10_init 1 = .ok (.aload_n 1, 1) := by decide +kernel
theorem dJ10_init_2 : decode cJ10_init 2 = .ok (.aload_n 2, 1) := by decide +kernel
theorem dJ10_init_3 : decode cJ10_init 3 = .ok (.iload_n 3, 1) := by decide +kernel
theorem dJ10_init_4 : decode cJ10_init 4 = .ok (.iload 4, 2) := by decide +kernel
theorem dJ10_init_6 : decode cJ10_init 6 = .ok (.invokespecial 16, 3) := by decide +kernel
theorem dJ10_init_9 : decode cJ10_init 9 = .ok (.return_, 1) := by decide +kernel
theorem q173 : (Jvm.Cond.initialized "java/lang/Exception") ∈ lw_all := lw_g (lw_at lw_m1 14 rfl) rfl
theorem q498 : (Jvm.Cond.declares ({ cls := "java/lang/Exception", name := "<init>", desc := "()V" } : Jvm.MethodName)) ∈ lw_tbl := lw_at lw_m2 99 rfl
theorem q499 : (Jvm.Cond.declares ({ cls := "java/lang/Exception", name := "<init>", desc := "(Ljava/lang/String;)V" } : Jvm.MethodName)) ∈ lw_tbl := lw_at lw_m2 100 rfl
theorem q542 : (Jvm.Cond.instanceMethod ({ cls := "java/lang/Exception", name := "<init>", desc := "(Ljava/lang/String;Ljava/lang/Throwable;ZZ)V" } : Jvm.MethodName)) ∈ lw_all := lw_g (lw_at lw_m2 143 rfl) rfl
theorem q543 : (Jvm.Cond.code ({ cls := "java/lang/Exception", name := "<init>", desc := "(Ljava/lang/String;Ljava/lang/Throwable;ZZ)V" } : Jvm.MethodName) prog_32_method_5_code (5 : Nat) (Option.none : Option Jvm.ClassFile.FieldType)) ∈ lw_all := lw_g (lw_at lw_m2 144 rfl) rfl
theorem q544 : (Jvm.Cond.methodLink "java/lang/Exception" (16 : Nat) ({ cls := "java/lang/Throwable", name := "<init>", desc := "(Ljava/lang/String;Ljava/lang/Throwable;ZZ)V" } : Jvm.MethodName)) ∈ lw_all := lw_g (lw_at lw_m2 145 rfl) rfl
/-! java/lang/RuntimeException -/
def RJ11 : String := "java/lang/RuntimeException"
abbrev cJ11_init : ByteArray := prog_38_method_5_code
def yJ11_init : MethodName := ⟨RJ11, "<init>", "(Ljava/lang/String;Ljava/lang/Throwable;ZZ)V"⟩
theorem dJ11_init_0 : decode cJ11_init 0 = .ok (.aload_n 0, 1) := by decide +kernel
theorem dJ11_init_1 : decode cJ11_init 1 = .ok (.aload_n 1, 1) := by decide +kernel
theorem dJ11_init_2 : decode cJ11_init 2 = .ok (.aload_n 2, 1) := by decide +kernel
theorem dJ11_init_3 : decode cJ11_init 3 = .ok (.iload_n 3, 1) := by decide +kernel
theorem dJ11_init_4 : decode cJ11_init 4 = .ok (.iload 4, 2) := by decide +kernel
theorem dJ11_init_6 : decode cJ11_init 6 = .ok (.invokespecial 16, 3) := by decide +kernel
theorem dJ11_init_9 : decode cJ11_init 9 = .ok (.return_, 1) := by decide +kernel
theorem q174 : (Jvm.Cond.initialized "java/lang/RuntimeException") ∈ lw_all := lw_g (lw_at lw_m1 15 rfl) rfl
theorem q496 : (Jvm.Cond.declares ({ cls := "java/lang/RuntimeException", name := "<init>", desc := "()V" } : Jvm.MethodName)) ∈ lw_tbl := lw_at lw_m2 97 rfl
theorem q497 : (Jvm.Cond.declares ({ cls := "java/lang/RuntimeException", name := "<init>", desc := "(Ljava/lang/String;)V" } : Jvm.MethodName)) ∈ lw_tbl := lw_at lw_m2 98 rfl
theorem q539 : (Jvm.Cond.instanceMethod ({ cls := "java/lang/RuntimeException", name := "<init>", desc := "(Ljava/lang/String;Ljava/lang/Throwable;ZZ)V" } : Jvm.MethodName)) ∈ lw_all := lw_g (lw_at lw_m2 140 rfl) rfl
theorem q540 : (Jvm.Cond.code ({ cls := "java/lang/RuntimeException", name := "<init>", desc := "(Ljava/lang/String;Ljava/lang/Throwable;ZZ)V" } : Jvm.MethodName) prog_38_method_5_code (5 : Nat) (Option.none : Option Jvm.ClassFile.FieldType)) ∈ lw_all := lw_g (lw_at lw_m2 141 rfl) rfl
theorem q541 : (Jvm.Cond.methodLink "java/lang/RuntimeException" (16 : Nat) ({ cls := "java/lang/Exception", name := "<init>", desc := "(Ljava/lang/String;Ljava/lang/Throwable;ZZ)V" } : Jvm.MethodName)) ∈ lw_all := lw_g (lw_at lw_m2 142 rfl) rfl
/-! java/lang/AbstractStringBuilder -/
def RJ12 : String := "java/lang/AbstractStringBuilder"
abbrev cJ12_init : ByteArray := prog_26_method_2_code
def yJ12_init : MethodName := ⟨RJ12, "<init>", "(I)V"⟩
theorem dJ12_init_0 : decode cJ12_init 0 = .ok (.aload_n 0, 1) := by decide +kernel
theorem dJ12_init_1 : decode cJ12_init 1 = .ok (.invokespecial 3, 3) := by decide +kernel
theorem dJ12_init_4 : decode cJ12_init 4 = .ok (.getstatic 18, 3) := by decide +kernel
theorem dJ12_init_7 : decode cJ12_init 7 = .ok (.ifCond .eq 18, 3) := by decide +kernel
theorem dJ12_init_10 : decode cJ12_init 10 = .ok (.aload_n 0, 1) := by decide +kernel
theorem dJ12_init_11 : decode cJ12_init 11 = .ok (.iload_n 1, 1) := by decide +kernel
theorem dJ12_init_12 : decode cJ12_init 12 = .ok (.newarray .byte, 2) := by decide +kernel
theorem dJ12_init_14 : decode cJ12_init 14 = .ok (.putfield 15, 3) := by decide +kernel
theorem dJ12_init_17 : decode cJ12_init 17 = .ok (.aload_n 0, 1) := by decide +kernel
theorem dJ12_init_18 : decode cJ12_init 18 = .ok (.iconst 0, 1) := by decide +kernel
theorem dJ12_init_19 : decode cJ12_init 19 = .ok (.putfield 22, 3) := by decide +kernel
theorem dJ12_init_22 : decode cJ12_init 22 = .ok (.goto 16, 3) := by decide +kernel
theorem dJ12_init_25 : decode cJ12_init 25 = .ok (.aload_n 0, 1) := by decide +kernel
theorem dJ12_init_26 : decode cJ12_init 26 = .ok (.iload_n 1, 1) := by decide +kernel
theorem dJ12_init_27 : decode cJ12_init 27 = .ok (.invokestatic 26, 3) := by decide +kernel
theorem dJ12_init_30 : decode cJ12_init 30 = .ok (.putfield 15, 3) := by decide +kernel
theorem dJ12_init_33 : decode cJ12_init 33 = .ok (.aload_n 0, 1) := by decide +kernel
theorem dJ12_init_34 : decode cJ12_init 34 = .ok (.iconst 1, 1) := by decide +kernel
theorem dJ12_init_35 : decode cJ12_init 35 = .ok (.putfield 22, 3) := by decide +kernel
theorem dJ12_init_38 : decode cJ12_init 38 = .ok (.return_, 1) := by decide +kernel
abbrev cJ12_append : ByteArray := prog_26_method_31_code
def yJ12_append : MethodName := ⟨RJ12, "append", "(C)Ljava/lang/AbstractStringBuilder;"⟩
theorem dJ12_append_0 : decode cJ12_append 0 = .ok (.aload_n 0, 1) := by decide +kernel
theorem dJ12_append_1 : decode cJ12_append 1 = .ok (.aload_n 0, 1) := by decide +kernel
theorem dJ12_append_2 : decode cJ12_append 2 = .ok (.getfield 79, 3) := by decide +kernel
theorem dJ12_append_5 : decode cJ12_append 5 = .ok (.iconst 1, 1) := by decide +kernel
theorem dJ12_append_6 : decode cJ12_append 6 = .ok (.iadd, 1) := by decide +kernel
theorem dJ12_append_7 : decode cJ12_append 7 = .ok (.invokevirtual 100, 3) := by decide +kernel
theorem dJ12_append_10 : decode cJ12_append 10 = .ok (.aload_n 0, 1) := by decide +kernel
theorem dJ12_append_11 : decode cJ12_append 11 = .ok (.invokevirtual 83, 3) := by decide +kernel
theorem dJ12_append_14 : decode cJ12_append 14 = .ok (.ifCond .eq 31, 3) := by decide +kernel
theorem dJ12_append_17 : decode cJ12_append 17 = .ok (.iload_n 1, 1) := by decide +kernel
theorem dJ12_append_18 : decode cJ12_append 18 = .ok (.invokestatic 191, 3) := by decide +kernel
theorem dJ12_append_21 : decode cJ12_append 21 = .ok (.ifCond .eq 24, 3) := by decide +kernel
theorem dJ12_append_24 : decode cJ12_append 24 = .ok (.aload_n 0, 1) := by decide +kernel
theorem dJ12_append_25 : decode cJ12_append 25 = .ok (.getfield 15, 3) := by decide +kernel
theorem dJ12_append_28 : decode cJ12_append 28 = .ok (.aload_n 0, 1) := by decide +kernel
theorem dJ12_append_29 : decode cJ12_append 29 = .ok (.dup, 1) := by decide +kernel
theorem dJ12_append_30 : decode cJ12_append 30 = .ok (.getfield 79, 3) := by decide +kernel
theorem dJ12_append_33 : decode cJ12_append 33 = .ok (.dup_x1, 1) := by decide +kernel
theorem dJ12_append_34 : decode cJ12_append 34 = .ok (.iconst 1, 1) := by decide +kernel
theorem dJ12_append_35 : decode cJ12_append 35 = .ok (.iadd, 1) := by decide +kernel
theorem dJ12_append_36 : decode cJ12_append 36 = .ok (.putfield 79, 3) := by decide +kernel
theorem dJ12_append_39 : decode cJ12_append 39 = .ok (.iload_n 1, 1) := by decide +kernel
theorem dJ12_append_40 : decode cJ12_append 40 = .ok (.i2b, 1) := by decide +kernel
theorem dJ12_append_41 : decode cJ12_append 41 = .ok (.bastore, 1) := by decide +kernel
theorem dJ12_append_42 : decode cJ12_append 42 = .ok (.goto 33, 3) := by decide +kernel
theorem dJ12_append_45 : decode cJ12_append 45 = .ok (.aload_n 0, 1) := by decide +kernel
theorem dJ12_append_46 : decode cJ12_append 46 = .ok (.invokevirtual 83, 3) := by decide +kernel
theorem dJ12_append_49 : decode cJ12_append 49 = .ok (.ifCond .eq 7, 3) := by decide +kernel
theorem dJ12_append_52 : decode cJ12_append 52 = .ok (.aload_n 0, 1) := by decide +kernel
theorem dJ12_append_53 : decode cJ12_append 53 = .ok (.invokevirtual 195, 3) := by decide +kernel
theorem dJ12_append_56 : decode cJ12_append 56 = .ok (.aload_n 0, 1) := by decide +kernel
theorem dJ12_append_57 : decode cJ12_append 57 = .ok (.getfield 15, 3) := by decide +kernel
theorem dJ12_append_60 : decode cJ12_append 60 = .ok (.aload_n 0, 1) := by decide +kernel
theorem dJ12_append_61 : decode cJ12_append 61 = .ok (.dup, 1) := by decide +kernel
theorem dJ12_append_62 : decode cJ12_append 62 = .ok (.getfield 79, 3) := by decide +kernel
theorem dJ12_append_65 : decode cJ12_append 65 = .ok (.dup_x1, 1) := by decide +kernel
theorem dJ12_append_66 : decode cJ12_append 66 = .ok (.iconst 1, 1) := by decide +kernel
theorem dJ12_append_67 : decode cJ12_append 67 = .ok (.iadd, 1) := by decide +kernel
theorem dJ12_append_68 : decode cJ12_append 68 = .ok (.putfield 79, 3) := by decide +kernel
theorem dJ12_append_71 : decode cJ12_append 71 = .ok (.iload_n 1, 1) := by decide +kernel
theorem dJ12_append_72 : decode cJ12_append 72 = .ok (.invokestatic 197, 3) := by decide +kernel
theorem dJ12_append_75 : decode cJ12_append 75 = .ok (.aload_n 0, 1) := by decide +kernel
theorem dJ12_append_76 : decode cJ12_append 76 = .ok (.areturn, 1) := by decide +kernel
abbrev cJ12_ensureCapacityInternal : ByteArray := prog_26_method_9_code
def yJ12_ensureCapacityInternal : MethodName := ⟨RJ12, "ensureCapacityInternal", "(I)V"⟩
theorem dJ12_ensureCapacityInternal_0 : decode cJ12_ensureCapacityInternal 0 = .ok (.aload_n 0, 1) := by decide +kernel
theorem dJ12_ensureCapacityInternal_1 : decode cJ12_ensureCapacityInternal 1 = .ok (.getfield 15, 3) := by decide +kernel
theorem dJ12_ensureCapacityInternal_4 : decode cJ12_ensureCapacityInternal 4 = .ok (.arraylength, 1) := by decide +kernel
theorem dJ12_ensureCapacityInternal_5 : decode cJ12_ensureCapacityInternal 5 = .ok (.aload_n 0, 1) := by decide +kernel
theorem dJ12_ensureCapacityInternal_6 : decode cJ12_ensureCapacityInternal 6 = .ok (.getfield 22, 3) := by decide +kernel
theorem dJ12_ensureCapacityInternal_9 : decode cJ12_ensureCapacityInternal 9 = .ok (.ishr, 1) := by decide +kernel
theorem dJ12_ensureCapacityInternal_10 : decode cJ12_ensureCapacityInternal 10 = .ok (.istore_n 2, 1) := by decide +kernel
theorem dJ12_ensureCapacityInternal_11 : decode cJ12_ensureCapacityInternal 11 = .ok (.iload_n 1, 1) := by decide +kernel
theorem dJ12_ensureCapacityInternal_12 : decode cJ12_ensureCapacityInternal 12 = .ok (.iload_n 2, 1) := by decide +kernel
theorem dJ12_ensureCapacityInternal_13 : decode cJ12_ensureCapacityInternal 13 = .ok (.isub, 1) := by decide +kernel
theorem dJ12_ensureCapacityInternal_14 : decode cJ12_ensureCapacityInternal 14 = .ok (.ifCond .le 24, 3) := by decide +kernel
theorem dJ12_ensureCapacityInternal_17 : decode cJ12_ensureCapacityInternal 17 = .ok (.aload_n 0, 1) := by decide +kernel
theorem dJ12_ensureCapacityInternal_18 : decode cJ12_ensureCapacityInternal 18 = .ok (.aload_n 0, 1) := by decide +kernel
theorem dJ12_ensureCapacityInternal_19 : decode cJ12_ensureCapacityInternal 19 = .ok (.getfield 15, 3) := by decide +kernel
theorem dJ12_ensureCapacityInternal_22 : decode cJ12_ensureCapacityInternal 22 = .ok (.aload_n 0, 1) := by decide +kernel
theorem dJ12_ensureCapacityInternal_23 : decode cJ12_ensureCapacityInternal 23 = .ok (.iload_n 1, 1) := by decide +kernel
theorem dJ12_ensureCapacityInternal_24 : decode cJ12_ensureCapacityInternal 24 = .ok (.invokevirtual 104, 3) := by decide +kernel
theorem dJ12_ensureCapacityInternal_27 : decode cJ12_ensureCapacityInternal 27 = .ok (.aload_n 0, 1) := by decide +kernel
theorem dJ12_ensureCapacityInternal_28 : decode cJ12_ensureCapacityInternal 28 = .ok (.getfield 22, 3) := by decide +kernel
theorem dJ12_ensureCapacityInternal_31 : decode cJ12_ensureCapacityInternal 31 = .ok (.ishl, 1) := by decide +kernel
theorem dJ12_ensureCapacityInternal_32 : decode cJ12_ensureCapacityInternal 32 = .ok (.invokestatic 108, 3) := by decide +kernel
theorem dJ12_ensureCapacityInternal_35 : decode cJ12_ensureCapacityInternal 35 = .ok (.putfield 15, 3) := by decide +kernel
theorem dJ12_ensureCapacityInternal_38 : decode cJ12_ensureCapacityInternal 38 = .ok (.return_, 1) := by decide +kernel
abbrev cJ12_newCapacity : ByteArray := prog_26_method_10_code
def yJ12_newCapacity : MethodName := ⟨RJ12, "newCapacity", "(I)I"⟩
theorem dJ12_newCapacity_0 : decode cJ12_newCapacity 0 = .ok (.aload_n 0, 1) := by decide +kernel
theorem dJ12_newCapacity_1 : decode cJ12_newCapacity 1 = .ok (.getfield 15, 3) := by decide +kernel
theorem dJ12_newCapacity_4 : decode cJ12_newCapacity 4 = .ok (.arraylength, 1) := by decide +kernel
theorem dJ12_newCapacity_5 : decode cJ12_newCapacity 5 = .ok (.istore_n 2, 1) := by decide +kernel
theorem dJ12_newCapacity_6 : decode cJ12_newCapacity 6 = .ok (.iload_n 1, 1) := by decide +kernel
theorem dJ12_newCapacity_7 : decode cJ12_newCapacity 7 = .ok (.aload_n 0, 1) := by decide +kernel
theorem dJ12_newCapacity_8 : decode cJ12_newCapacity 8 = .ok (.getfield 22, 3) := by decide +kernel
theorem dJ12_newCapacity_11 : decode cJ12_newCapacity 11 = .ok (.ishl, 1) := by decide +kernel
theorem dJ12_newCapacity_12 : decode cJ12_newCapacity 12 = .ok (.istore_n 3, 1) := by decide +kernel
theorem dJ12_newCapacity_13 : decode cJ12_newCapacity 13 = .ok (.iload_n 3, 1) := by decide +kernel
theorem dJ12_newCapacity_14 : decode cJ12_newCapacity 14 = .ok (.iload_n 2, 1) := by decide +kernel
theorem dJ12_newCapacity_15 : decode cJ12_newCapacity 15 = .ok (.isub, 1) := by decide +kernel
theorem dJ12_newCapacity_16 : decode cJ12_newCapacity 16 = .ok (.istore 4, 2) := by decide +kernel
theorem dJ12_newCapacity_18 : decode cJ12_newCapacity 18 = .ok (.iload_n 2, 1) := by decide +kernel
theorem dJ12_newCapacity_19 : decode cJ12_newCapacity 19 = .ok (.iload 4, 2) := by decide +kernel
theorem dJ12_newCapacity_21 : decode cJ12_newCapacity 21 = .ok (.iload_n 2, 1) := by decide +kernel
theorem dJ12_newCapacity_22 : decode cJ12_newCapacity 22 = .ok (.iconst 2, 1) := by decide +kernel
theorem dJ12_newCapacity_23 : decode cJ12_newCapacity 23 = .ok (.aload_n 0, 1) := by decide +kernel
theorem dJ12_newCapacity_24 : decode cJ12_newCapacity 24 = .ok (.getfield 22, 3) := by decide +kernel
theorem dJ12_newCapacity_27 : decode cJ12_newCapacity 27 = .ok (.ishl, 1) := by decide +kernel
theorem dJ12_newCapacity_28 : decode cJ12_newCapacity 28 = .ok (.iadd, 1) := by decide +kernel
theorem dJ12_newCapacity_29 : decode cJ12_newCapacity 29 = .ok (.invokestatic 114, 3) := by decide +kernel
theorem dJ12_newCapacity_32 : decode cJ12_newCapacity 32 = .ok (.istore 5, 2) := by decide +kernel
theorem dJ12_newCapacity_34 : decode cJ12_newCapacity 34 = .ok (.iload 5, 2) := by decide +kernel
theorem dJ12_newCapacity_36 : decode cJ12_newCapacity 36 = .ok (.ldc 39, 2) := by decide +kernel
theorem dJ12_newCapacity_38 : decode cJ12_newCapacity 38 = .ok (.if_icmp .ne 13, 3) := by decide +kernel
theorem dJ12_newCapacity_41 : decode cJ12_newCapacity 41 = .ok (.new 120, 3) := by decide +kernel
theorem dJ12_newCapacity_44 : decode cJ12_newCapacity 44 = .ok (.dup, 1) := by decide +kernel
theorem dJ12_newCapacity_45 : decode cJ12_newCapacity 45 = .ok (.ldc 122, 2) := by decide +kernel
theorem dJ12_newCapacity_47 : decode cJ12_newCapacity 47 = .ok (.invokespecial 124, 3) := by decide +kernel
theorem dJ12_newCapacity_50 : decode cJ12_newCapacity 50 = .ok (.athrow, 1) := by decide +kernel
theorem dJ12_newCapacity_51 : decode cJ12_newCapacity 51 = .ok (.iload 5, 2) := by decide +kernel
theorem dJ12_newCapacity_53 : decode cJ12_newCapacity 53 = .ok (.aload_n 0, 1) := by decide +kernel
theorem dJ12_newCapacity_54 : decode cJ12_newCapacity 54 = .ok (.getfield 22, 3) := by decide +kernel
theorem dJ12_newCapacity_57 : decode cJ12_newCapacity 57 = .ok (.ishr, 1) := by decide +kernel
theorem dJ12_newCapacity_58 : decode cJ12_newCapacity 58 = .ok (.ireturn, 1) := by decide +kernel
abbrev cJ12_isLatin1 : ByteArray := prog_26_method_68_code
def yJ12_isLatin1 : MethodName := ⟨RJ12, "isLatin1", "()Z"⟩
theorem dJ12_isLatin1_0 : decode cJ12_isLatin1 0 = .ok (.getstatic 18, 3) := by decide +kernel
theorem dJ12_isLatin1_3 : decode cJ12_isLatin1 3 = .ok (.ifCond .eq 14, 3) := by decide +kernel
theorem dJ12_isLatin1_6 : decode cJ12_isLatin1 6 = .ok (.aload_n 0, 1) := by decide +kernel
theorem dJ12_isLatin1_7 : decode cJ12_isLatin1 7 = .ok (.getfield 22, 3) := by decide +kernel
theorem dJ12_isLatin1_10 : decode cJ12_isLatin1 10 = .ok (.ifCond .ne 7, 3) := by decide +kernel
theorem dJ12_isLatin1_13 : decode cJ12_isLatin1 13 = .ok (.iconst 1, 1) := by decide +kernel
theorem dJ12_isLatin1_14 : decode cJ12_isLatin1 14 = .ok (.goto 4, 3) := by decide +kernel
theorem dJ12_isLatin1_17 : decode cJ12_isLatin1 17 = .ok (.iconst 0, 1) := by decide +kernel
theorem dJ12_isLatin1_18 : decode cJ12_isLatin1 18 = .ok (.ireturn, 1) := by decide +kernel
abbrev cJ12_inflate : ByteArray := prog_26_method_11_code
def yJ12_inflate : MethodName := ⟨RJ12, "inflate", "()V"⟩
theorem dJ12_inflate_0 : decode cJ12_inflate 0 = .ok (.aload_n 0, 1) := by decide +kernel
theorem dJ12_inflate_1 : decode cJ12_inflate 1 = .ok (.invokevirtual 83, 3) := by decide +kernel
theorem dJ12_inflate_4 : decode cJ12_inflate 4 = .ok (.ifCond .ne 4, 3) := by decide +kernel
theorem dJ12_inflate_7 : decode cJ12_inflate 7 = .ok (.return_, 1) := by decide +kernel
theorem dJ12_inflate_8 : decode cJ12_inflate 8 = .ok (.aload_n 0, 1) := by decide +kernel
theorem dJ12_inflate_9 : decode cJ12_inflate 9 = .ok (.getfield 15, 3) := by decide +kernel
theorem dJ12_inflate_12 : decode cJ12_inflate 12 = .ok (.arraylength, 1) := by decide +kernel
theorem dJ12_inflate_13 : decode cJ12_inflate 13 = .ok (.invokestatic 26, 3) := by decide +kernel
theorem dJ12_inflate_16 : decode cJ12_inflate 16 = .ok (.astore_n 1, 1) := by decide +kernel
theorem dJ12_inflate_17 : decode cJ12_inflate 17 = .ok (.aload_n 0, 1) := by decide +kernel
theorem dJ12_inflate_18 : decode cJ12_inflate 18 = .ok (.getfield 15, 3) := by decide +kernel
theorem dJ12_inflate_21 : decode cJ12_inflate 21 = .ok (.iconst 0, 1) := by decide +kernel
theorem dJ12_inflate_22 : decode cJ12_inflate 22 = .ok (.aload_n 1, 1) := by decide +kernel
theorem dJ12_inflate_23 : decode cJ12_inflate 23 = .ok (.iconst 0, 1) := by decide +kernel
theorem dJ12_inflate_24 : decode cJ12_inflate 24 = .ok (.aload_n 0, 1) := by decide +kernel
theorem dJ12_inflate_25 : decode cJ12_inflate 25 = .ok (.getfield 79, 3) := by decide +kernel
theorem dJ12_inflate_28 : decode cJ12_inflate 28 = .ok (.invokestatic 125, 3) := by decide +kernel
theorem dJ12_inflate_31 : decode cJ12_inflate 31 = .ok (.aload_n 0, 1) := by decide +kernel
theorem dJ12_inflate_32 : decode cJ12_inflate 32 = .ok (.aload_n 1, 1) := by decide +kernel
theorem dJ12_inflate_33 : decode cJ12_inflate 33 = .ok (.putfield 15, 3) := by decide +kernel
theorem dJ12_inflate_36 : decode cJ12_inflate 36 = .ok (.aload_n 0, 1) := by decide +kernel
theorem dJ12_inflate_37 : decode cJ12_inflate 37 = .ok (.iconst 1, 1) := by decide +kernel
theorem dJ12_inflate_38 : decode cJ12_inflate 38 = .ok (.putfield 22, 3) := by decide +kernel
theorem dJ12_inflate_41 : decode cJ12_inflate 41 = .ok (.return_, 1) := by decide +kernel
abbrev cJ12_getValue : ByteArray := prog_26_method_64_code
def yJ12_getValue : MethodName := ⟨RJ12, "getValue", "()[B"⟩
theorem dJ12_getValue_0 : decode cJ12_getValue 0 = .ok (.aload_n 0, 1) := by decide +kernel
theorem dJ12_getValue_1 : decode cJ12_getValue 1 = .ok (.getfield 15, 3) := by decide +kernel
theorem dJ12_getValue_4 : decode cJ12_getValue 4 = .ok (.areturn, 1) := by decide +kernel
abbrev cJ12_length : ByteArray := prog_26_method_6_code
def yJ12_length : MethodName := ⟨RJ12, "length", "()I"⟩
theorem dJ12_length_0 : decode cJ12_length 0 = .ok (.aload_n 0, 1) := by decide +kernel
theorem dJ12_length_1 : decode cJ12_length 1 = .ok (.getfield 79, 3) := by decide +kernel
theorem dJ12_length_4 : decode cJ12_length 4 = .ok (.ireturn, 1) := by decide +kernel
theorem q177 : (Jvm.Cond.initialized "java/lang/AbstractStringBuilder") ∈ lw_all := lw_g (lw_at lw_m1 18 rfl) rfl
theorem q590 : (Jvm.Cond.instanceMethod ({ cls := "java/lang/AbstractStringBuilder", name := "<init>", desc := "(I)V" } : Jvm.MethodName)) ∈ lw_all := lw_g (lw_at lw_m2 191 rfl) rfl
theorem q591 : (Jvm.Cond.code ({ cls := "java/lang/AbstractStringBuilder", name := "<init>", desc := "(I)V" } : Jvm.MethodName) prog_26_method_2_code (2 : Nat) (Option.none : Option Jvm.ClassFile.FieldType)) ∈ lw_all := lw_g (lw_at lw_m2 192 rfl) rfl
theorem q592 : (Jvm.Cond.methodLink "java/lang/AbstractStringBuilder" (3 : Nat) ({ cls := "java/lang/Object", name := "<init>", desc := "()V" } : Jvm.MethodName)) ∈ lw_all := lw_g (lw_at lw_m2 193 rfl) rfl
theorem q593 : (Jvm.Cond.fieldLink "java/lang/AbstractStringBuilder" (18 : Nat) "java/lang/String" "COMPACT_STRINGS" "Z") ∈ lw_all := lw_g (lw_at lw_m2 194 rfl) rfl
theorem q594 : (Jvm.Cond.methodLink "java/lang/AbstractStringBuilder" (26 : Nat) ({ cls := "java/lang/StringUTF16", name := "newBytesFor", desc := "(I)[B" } : Jvm.MethodName)) ∈ lw_all := lw_g (lw_at lw_m2 195 rfl) rfl
theorem q601 : (Jvm.Cond.fieldLink "java/lang/AbstractStringBuilder" (15 : Nat) "java/lang/AbstractStringBuilder" "value" "[B") ∈ lw_all := lw_g (lw_at lw_m2 202 rfl) rfl
theorem q602 : (Jvm.Cond.fieldLink "java/lang/AbstractStringBuilder" (22 : Nat) "java/lang/AbstractStringBuilder" "coder" "B") ∈ lw_all := lw_g (lw_at lw_m2 203 rfl) rfl
theorem q604 : (Jvm.Cond.fieldLink "java/lang/AbstractStringBuilder" (79 : Nat) "java/lang/AbstractStringBuilder" "count" "I") ∈ lw_all := lw_g (lw_at lw_m2 205 rfl) rfl
theorem q606 : (Jvm.Cond.soleField "java/lang/AbstractStringBuilder" "value") ∈ lw_all := lw_g (lw_at lw_m2 207 rfl) rfl
theorem q608 : (Jvm.Cond.soleField "java/lang/AbstractStringBuilder" "coder") ∈ lw_all := lw_g (lw_at lw_m2 209 rfl) rfl
theorem q610 : (Jvm.Cond.soleField "java/lang/AbstractStringBuilder" "maybeLatin1") ∈ lw_all := lw_g (lw_at lw_m2 211 rfl) rfl
theorem q612 : (Jvm.Cond.soleField "java/lang/AbstractStringBuilder" "count") ∈ lw_all := lw_g (lw_at lw_m2 213 rfl) rfl
theorem q619 : (Jvm.Cond.instanceMethod ({ cls := "java/lang/AbstractStringBuilder", name := "append", desc := "(C)Ljava/lang/AbstractStringBuilder;" } : Jvm.MethodName)) ∈ lw_all := lw_g (lw_at lw_m2 220 rfl) rfl
theorem q620 : (Jvm.Cond.code ({ cls := "java/lang/AbstractStringBuilder", name := "append", desc := "(C)Ljava/lang/AbstractStringBuilder;" } : Jvm.MethodName) prog_26_method_31_code (2 : Nat) (Option.some (Jvm.ClassFile.FieldType.object "java/lang/AbstractStringBuilder"))) ∈ lw_all := lw_g (lw_at lw_m2 221 rfl) rfl
theorem q621 : (Jvm.Cond.methodLink "java/lang/AbstractStringBuilder" (100 : Nat) ({ cls := "java/lang/AbstractStringBuilder", name := "ensureCapacityInternal", desc := "(I)V" } : Jvm.MethodName)) ∈ lw_all := lw_g (lw_at lw_m2 222 rfl) rfl
theorem q622 : (Jvm.Cond.privateMethod ({ cls := "java/lang/AbstractStringBuilder", name := "ensureCapacityInternal", desc := "(I)V" } : Jvm.MethodName)) ∈ lw_tbl := lw_at lw_m2 223 rfl
theorem q623 : (Jvm.Cond.instanceMethod ({ cls := "java/lang/AbstractStringBuilder", name := "ensureCapacityInternal", desc := "(I)V" } : Jvm.MethodName)) ∈ lw_all := lw_g (lw_at lw_m2 224 rfl) rfl
theorem q624 : (Jvm.Cond.code ({ cls := "java/lang/AbstractStringBuilder", name := "ensureCapacityInternal", desc := "(I)V" } : Jvm.MethodName) prog_26_method_9_code (3 : Nat) (Option.none : Option Jvm.ClassFile.FieldType)) ∈ lw_all := lw_g (lw_at lw_m2 225 rfl) rfl
theorem q625 : (Jvm.Cond.methodLink "java/lang/AbstractStringBuilder" (104 : Nat) ({ cls := "java/lang/AbstractStringBuilder", name := "newCapacity", desc := "(I)I" } : Jvm.MethodName)) ∈ lw_all := lw_g (lw_at lw_m2 226 rfl) rfl
theorem q626 : (Jvm.Cond.privateMethod ({ cls := "java/lang/AbstractStringBuilder", name := "newCapacity", desc := "(I)I" } : Jvm.MethodName)) ∈ lw_tbl := lw_at lw_m2 227 rfl
theorem q627 : (Jvm.Cond.instanceMethod ({ cls := "java/lang/AbstractStringBuilder", name := "newCapacity", desc := "(I)I" } : Jvm.MethodName)) ∈ lw_all := lw_g (lw_at lw_m2 228 rfl) rfl
theorem q628 : (Jvm.Cond.code ({ cls := "java/lang/AbstractStringBuilder", name := "newCapacity", desc := "(I)I" } : Jvm.MethodName) prog_26_method_10_code (6 : Nat) (Option.some Jvm.ClassFile.FieldType.int)) ∈ lw_all := lw_g (lw_at lw_m2 229 rfl) rfl
theorem q629 : (Jvm.Cond.methodLink "java/lang/AbstractStringBuilder" (114 : Nat) ({ cls := "jdk/internal/util/ArraysSupport", name := "newLength", desc := "(III)I" } : Jvm.MethodName)) ∈ lw_all := lw_g (lw_at lw_m2 230 rfl) rfl
theorem q637 : (Jvm.Cond.constant "java/lang/AbstractStringBuilder" (39 : Nat) (2147483647 : Int32)) ∈ lw_all := lw_g (lw_at lw_m2 238 rfl) rfl
theorem q638 : (Jvm.Cond.methodLink "java/lang/AbstractStringBuilder" (108 : Nat) ({ cls := "java/util/Arrays", name := "copyOf", desc := "([BI)[B" } : Jvm.MethodName)) ∈ lw_all := lw_g (lw_at lw_m2 239 rfl) rfl
theorem q652 : (Jvm.Cond.methodLink "java/lang/AbstractStringBuilder" (83 : Nat) ({ cls := "java/lang/AbstractStringBuilder", name := "isLatin1", desc := "()Z" } : Jvm.MethodName)) ∈ lw_all := lw_g (lw_at lw_m3 13 rfl) rfl
theorem q653 : (Jvm.Cond.instanceMethod ({ cls := "java/lang/AbstractStringBuilder", name := "isLatin1", desc := "()Z" } : Jvm.MethodName)) ∈ lw_all := lw_g (lw_at lw_m3 14 rfl) rfl
theorem q654 : (Jvm.Cond.sameMethod "java/lang/AbstractStringBuilder" "java/lang/AbstractStringBuilder" "isLatin1" "()Z") ∈ lw_all := lw_g (lw_at lw_m3 15 rfl) rfl
theorem q656 : (Jvm.Cond.code ({ cls := "java/lang/AbstractStringBuilder", name := "isLatin1", desc := "()Z" } : Jvm.MethodName) prog_26_method_68_code (1 : Nat) (Option.some Jvm.ClassFile.FieldType.boolean)) ∈ lw_all := lw_g (lw_at lw_m3 17 rfl) rfl
theorem q657 : (Jvm.Cond.methodLink "java/lang/AbstractStringBuilder" (191 : Nat) ({ cls := "java/lang/StringLatin1", name := "canEncode", desc := "(C)Z" } : Jvm.MethodName)) ∈ lw_all := lw_g (lw_at lw_m3 18 rfl) rfl
theorem q660 : (Jvm.Cond.methodLink "java/lang/AbstractStringBuilder" (195 : Nat) ({ cls := "java/lang/AbstractStringBuilder", name := "inflate", desc := "()V" } : Jvm.MethodName)) ∈ lw_all := lw_g (lw_at lw_m3 21 rfl) rfl
theorem q661 : (Jvm.Cond.privateMethod ({ cls := "java/lang/AbstractStringBuilder", name := "inflate", desc := "()V" } : Jvm.MethodName)) ∈ lw_tbl := lw_at lw_m3 22 rfl
theorem q662 : (Jvm.Cond.instanceMethod ({ cls := "java/lang/AbstractStringBuilder", name := "inflate", desc := "()V" } : Jvm.MethodName)) ∈ lw_all := lw_g (lw_at lw_m3 23 rfl) rfl
theorem q663 : (Jvm.Cond.code ({ cls := "java/lang/AbstractStringBuilder", name := "inflate", desc := "()V" } : Jvm.MethodName) prog_26_method_11_code (2 : Nat) (Option.none : Option Jvm.ClassFile.FieldType)) ∈ lw_all := lw_g (lw_at lw_m3 24 rfl) rfl
theorem q664 : (Jvm.Cond.methodLink "java/lang/AbstractStringBuilder" (125 : Nat) ({ cls := "java/lang/StringLatin1", name := "inflate", desc := "([BI[BII)V" } : Jvm.MethodName)) ∈ lw_all := lw_g (lw_at lw_m3 25 rfl) rfl
theorem q682 : (Jvm.Cond.methodLink "java/lang/AbstractStringBuilder" (197 : Nat) ({ cls := "java/lang/StringUTF16", name := "putCharSB", desc := "([BII)V" } : Jvm.MethodName)) ∈ lw_all := lw_g (lw_at lw_m3 43 rfl) rfl
theorem q699 : (Jvm.Cond.instanceMethod ({ cls := "java/lang/AbstractStringBuilder", name := "getValue", desc := "()[B" } : Jvm.MethodName)) ∈ lw_all := lw_g (lw_at lw_m3 60 rfl) rfl
theorem q700 : (Jvm.Cond.sameMethod "java/lang/AbstractStringBuilder" "java/lang/AbstractStringBuilder" "getValue" "()[B") ∈ lw_all := lw_g (lw_at lw_m3 61 rfl) rfl
theorem q702 : (Jvm.Cond.code ({ cls := "java/lang/AbstractStringBuilder", name := "getValue", desc := "()[B" } : Jvm.MethodName) prog_26_method_64_code (1 : Nat) (Option.some (Jvm.ClassFile.FieldType.array Jvm.ClassFile.FieldType.byte))) ∈ lw_all := lw_g (lw_at lw_m3 63 rfl) rfl
theorem q704 : (Jvm.Cond.instanceMethod ({ cls := "java/lang/AbstractStringBuilder", name := "length", desc := "()I" } : Jvm.MethodName)) ∈ lw_all := lw_g (lw_at lw_m3 65 rfl) rfl
theorem q705 : (Jvm.Cond.sameMethod "java/lang/AbstractStringBuilder" "java/lang/AbstractStringBuilder" "length" "()I") ∈ lw_all := lw_g (lw_at lw_m3 66 rfl) rfl
theorem q710 : (Jvm.Cond.code ({ cls := "java/lang/AbstractStringBuilder", name := "length", desc := "()I" } : Jvm.MethodName) prog_26_method_6_code (1 : Nat) (Option.some Jvm.ClassFile.FieldType.int)) ∈ lw_all := lw_g (lw_at lw_m3 71 rfl) rfl
theorem q2689 : (Jvm.Cond.sameMethod "java/lang/AbstractStringBuilder" "java/lang/AbstractStringBuilder" "append" "(C)Ljava/lang/AbstractStringBuilder;") ∈ lw_all := lw_g (lw_at lw_m11 130 rfl) rfl
theorem q2690 : (Jvm.Cond.sameMethod "java/lang/AbstractStringBuilder" "java/lang/AbstractStringBuilder" "ensureCapacityInternal" "(I)V") ∈ lw_all := lw_g (lw_at lw_m11 131 rfl) rfl
theorem q2691 : (Jvm.Cond.sameMethod "java/lang/AbstractStringBuilder" "java/lang/AbstractStringBuilder" "newCapacity" "(I)I") ∈ lw_all := lw_g (lw_at lw_m11 132 rfl) rfl
theorem q2692 : (Jvm.Cond.sameMethod "java/lang/AbstractStringBuilder" "java/lang/AbstractStringBuilder" "inflate" "()V") ∈ lw_all := lw_g (lw_at lw_m11 133 rfl) rfl
/-! java/lang/StringBuilder -/
def RJ13 : String := "java/lang/StringBuilder"
def TJ13 : u_T := fun k => match k with
  | 0 => ("java/lang/AbstractStringBuilder", "value", "[B", false)
  | 1 => ("java/lang/AbstractStringBuilder", "coder", "B", false)
  | 2 => ("java/lang/AbstractStringBuilder", "maybeLatin1", "Z", false)
  | _ => ("java/lang/AbstractStringBuilder", "count", "I", false)
def tyJ13 : Nat → FieldType := fun k => match k with
  | 0 => .array .byte
  | 1 => .byte
  | 2 => .boolean
  | _ => .int
abbrev wsJ130 : List Cond := u_ws RJ13 TJ13 4
theorem nmJ13 : ∀ a, a < 4 → ∀ b, b < 4 → a ≠ b → (TJ13 a).2.1 ≠ (TJ13 b).2.1 := by decide +kernel
theorem tyJ13_ok : ∀ k, k < 4 → parseFieldDescriptor (TJ13 k).2.2.1 = some (tyJ13 k) := by decide +kernel
abbrev cJ13_init : ByteArray := prog_40_method_2_code
def yJ13_init : MethodName := ⟨RJ13, "<init>", "(I)V"⟩
theorem dJ13_init_0 : decode cJ13_init 0 = .ok (.aload_n 0, 1) := by decide +kernel
theorem dJ13_init_1 : decode cJ13_init 1 = .ok (.iload_n 1, 1) := by decide +kernel
theorem dJ13_init_2 : decode cJ13_init 2 = .ok (.invokespecial 1, 3) := by decide +kernel
theorem dJ13_init_5 : decode cJ13_init 5 = .ok (.return_, 1) := by decide +kernel
abbrev cJ13_append : ByteArray := prog_40_method_14_code
def yJ13_append : MethodName := ⟨RJ13, "append", "(C)Ljava/lang/StringBuilder;"⟩
theorem dJ13_append_0 : decode cJ13_append 0 = .ok (.aload_n 0, 1) := by decide +kernel
theorem dJ13_append_1 : decode cJ13_append 1 = .ok (.iload_n 1, 1) := by decide +kernel
theorem dJ13_append_2 : decode cJ13_append 2 = .ok (.invokespecial 50, 3) := by decide +kernel
theorem dJ13_append_5 : decode cJ13_append 5 = .ok (.pop, 1) := by decide +kernel
theorem dJ13_append_6 : decode cJ13_append 6 = .ok (.aload_n 0, 1) := by decide +kernel
theorem dJ13_append_7 : decode cJ13_append 7 = .ok (.areturn, 1) := by decide +kernel
abbrev cJ13_toString : ByteArray := prog_40_method_42_code
def yJ13_toString : MethodName := ⟨RJ13, "toString", "()Ljava/lang/String;"⟩
theorem dJ13_toString_0 : decode cJ13_toString 0 = .ok (.new 18, 3) := by decide +kernel
theorem dJ13_toString_3 : decode cJ13_toString 3 = .ok (.dup, 1) := by decide +kernel
theorem dJ13_toString_4 : decode cJ13_toString 4 = .ok (.aload_n 0, 1) := by decide +kernel
theorem dJ13_toString_5 : decode cJ13_toString 5 = .ok (.invokespecial 137, 3) := by decide +kernel
theorem dJ13_toString_8 : decode cJ13_toString 8 = .ok (.areturn, 1) := by decide +kernel
abbrev cJ13_length : ByteArray := prog_40_method_93_code
def yJ13_length : MethodName := ⟨RJ13, "length", "()I"⟩
theorem dJ13_length_0 : decode cJ13_length 0 = .ok (.aload_n 0, 1) := by decide +kernel
theorem dJ13_length_1 : decode cJ13_length 1 = .ok (.invokespecial 343, 3) := by decide +kernel
theorem dJ13_length_4 : decode cJ13_length 4 = .ok (.ireturn, 1) := by decide +kernel
theorem q178 : (Jvm.Cond.initialized "java/lang/StringBuilder") ∈ lw_all := lw_g (lw_at lw_m1 19 rfl) rfl
theorem q585 : (Jvm.Cond.instantiable "java/lang/StringBuilder" (4 : Nat)) ∈ lw_all := lw_g (lw_at lw_m2 186 rfl) rfl
theorem q587 : (Jvm.Cond.instanceMethod ({ cls := "java/lang/StringBuilder", name := "<init>", desc := "(I)V" } : Jvm.MethodName)) ∈ lw_all := lw_g (lw_at lw_m2 188 rfl) rfl
theorem q588 : (Jvm.Cond.code ({ cls := "java/lang/StringBuilder", name := "<init>", desc := "(I)V" } : Jvm.MethodName) prog_40_method_2_code (2 : Nat) (Option.none : Option Jvm.ClassFile.FieldType)) ∈ lw_all := lw_g (lw_at lw_m2 189 rfl) rfl
theorem q589 : (Jvm.Cond.methodLink "java/lang/StringBuilder" (1 : Nat) ({ cls := "java/lang/AbstractStringBuilder", name := "<init>", desc := "(I)V" } : Jvm.MethodName)) ∈ lw_all := lw_g (lw_at lw_m2 190 rfl) rfl
theorem q605 : (Jvm.Cond.lays "java/lang/StringBuilder" "java/lang/AbstractStringBuilder" "value" "[B") ∈ lw_all := lw_g (lw_at lw_m2 206 rfl) rfl
theorem q607 : (Jvm.Cond.lays "java/lang/StringBuilder" "java/lang/AbstractStringBuilder" "coder" "B") ∈ lw_all := lw_g (lw_at lw_m2 208 rfl) rfl
theorem q609 : (Jvm.Cond.lays "java/lang/StringBuilder" "java/lang/AbstractStringBuilder" "maybeLatin1" "Z") ∈ lw_all := lw_g (lw_at lw_m2 210 rfl) rfl
theorem q611 : (Jvm.Cond.lays "java/lang/StringBuilder" "java/lang/AbstractStringBuilder" "count" "I") ∈ lw_all := lw_g (lw_at lw_m2 212 rfl) rfl
theorem q613 : (Jvm.Cond.superclass "java/lang/StringBuilder" "java/lang/AbstractStringBuilder") ∈ lw_all := lw_g (lw_at lw_m2 214 rfl) rfl
theorem q615 : (Jvm.Cond.instanceMethod ({ cls := "java/lang/StringBuilder", name := "append", desc := "(C)Ljava/lang/StringBuilder;" } : Jvm.MethodName)) ∈ lw_all := lw_g (lw_at lw_m2 216 rfl) rfl
theorem q616 : (Jvm.Cond.selects "java/lang/StringBuilder" ({ cls := "java/lang/StringBuilder", name := "append", desc := "(C)Ljava/lang/StringBuilder;" } : Jvm.MethodName) ({ cls := "java/lang/StringBuilder", name := "append", desc := "(C)Ljava/lang/StringBuilder;" } : Jvm.MethodName)) ∈ lw_all := lw_g (lw_at lw_m2 217 rfl) rfl
theorem q617 : (Jvm.Cond.code ({ cls := "java/lang/StringBuilder", name := "append", desc := "(C)Ljava/lang/StringBuilder;" } : Jvm.MethodName) prog_40_method_14_code (2 : Nat) (Option.some (Jvm.ClassFile.FieldType.object "java/lang/StringBuilder"))) ∈ lw_all := lw_g (lw_at lw_m2 218 rfl) rfl
theorem q618 : (Jvm.Cond.methodLink "java/lang/StringBuilder" (50 : Nat) ({ cls := "java/lang/AbstractStringBuilder", name := "append", desc := "(C)Ljava/lang/AbstractStringBuilder;" } : Jvm.MethodName)) ∈ lw_all := lw_g (lw_at lw_m2 219 rfl) rfl
theorem q655 : (Jvm.Cond.selects "java/lang/StringBuilder" ({ cls := "java/lang/AbstractStringBuilder", name := "isLatin1", desc := "()Z" } : Jvm.MethodName) ({ cls := "java/lang/AbstractStringBuilder", name := "isLatin1", desc := "()Z" } : Jvm.MethodName)) ∈ lw_all := lw_g (lw_at lw_m3 16 rfl) rfl
theorem q686 : (Jvm.Cond.instanceMethod ({ cls := "java/lang/StringBuilder", name := "toString", desc := "()Ljava/lang/String;" } : Jvm.MethodName)) ∈ lw_all := lw_g (lw_at lw_m3 47 rfl) rfl
theorem q687 : (Jvm.Cond.selects "java/lang/StringBuilder" ({ cls := "java/lang/StringBuilder", name := "toString", desc := "()Ljava/lang/String;" } : Jvm.MethodName) ({ cls := "java/lang/StringBuilder", name := "toString", desc := "()Ljava/lang/String;" } : Jvm.MethodName)) ∈ lw_all := lw_g (lw_at lw_m3 48 rfl) rfl
theorem q688 : (Jvm.Cond.code ({ cls := "java/lang/StringBuilder", name := "toString", desc := "()Ljava/lang/String;" } : Jvm.MethodName) prog_40_method_42_code (1 : Nat) (Option.some (Jvm.ClassFile.FieldType.object "java/lang/String"))) ∈ lw_all := lw_g (lw_at lw_m3 49 rfl) rfl
theorem q689 : (Jvm.Cond.classLink "java/lang/StringBuilder" (18 : Nat) "java/lang/String") ∈ lw_all := lw_g (lw_at lw_m3 50 rfl) rfl
theorem q691 : (Jvm.Cond.methodLink "java/lang/StringBuilder" (137 : Nat) ({ cls := "java/lang/String", name := "<init>", desc := "(Ljava/lang/StringBuilder;)V" } : Jvm.MethodName)) ∈ lw_all := lw_g (lw_at lw_m3 52 rfl) rfl
theorem q701 : (Jvm.Cond.selects "java/lang/StringBuilder" ({ cls := "java/lang/AbstractStringBuilder", name := "getValue", desc := "()[B" } : Jvm.MethodName) ({ cls := "java/lang/AbstractStringBuilder", name := "getValue", desc := "()[B" } : Jvm.MethodName)) ∈ lw_all := lw_g (lw_at lw_m3 62 rfl) rfl
theorem q706 : (Jvm.Cond.selects "java/lang/StringBuilder" ({ cls := "java/lang/AbstractStringBuilder", name := "length", desc := "()I" } : Jvm.MethodName) ({ cls := "java/lang/StringBuilder", name := "length", desc := "()I" } : Jvm.MethodName)) ∈ lw_all := lw_g (lw_at lw_m3 67 rfl) rfl
theorem q707 : (Jvm.Cond.instanceMethod ({ cls := "java/lang/StringBuilder", name := "length", desc := "()I" } : Jvm.MethodName)) ∈ lw_all := lw_g (lw_at lw_m3 68 rfl) rfl
theorem q708 : (Jvm.Cond.code ({ cls := "java/lang/StringBuilder", name := "length", desc := "()I" } : Jvm.MethodName) prog_40_method_93_code (1 : Nat) (Option.some Jvm.ClassFile.FieldType.int)) ∈ lw_all := lw_g (lw_at lw_m3 69 rfl) rfl
theorem q709 : (Jvm.Cond.methodLink "java/lang/StringBuilder" (343 : Nat) ({ cls := "java/lang/AbstractStringBuilder", name := "length", desc := "()I" } : Jvm.MethodName)) ∈ lw_all := lw_g (lw_at lw_m3 70 rfl) rfl
theorem q926 : (Jvm.Cond.selects "java/lang/StringBuilder" ({ cls := "java/lang/Object", name := "getClass", desc := "()Ljava/lang/Class;" } : Jvm.MethodName) ({ cls := "java/lang/Object", name := "getClass", desc := "()Ljava/lang/Class;" } : Jvm.MethodName)) ∈ lw_all := lw_g (lw_at lw_m4 47 rfl) rfl
theorem q1429 : (Jvm.Cond.selects "java/lang/StringBuilder" ({ cls := "java/lang/Object", name := "equals", desc := "(Ljava/lang/Object;)Z" } : Jvm.MethodName) ({ cls := "java/lang/Object", name := "equals", desc := "(Ljava/lang/Object;)Z" } : Jvm.MethodName)) ∈ lw_all := lw_g (lw_at lw_m6 70 rfl) rfl
theorem q2701 : (Jvm.Cond.castable "java/lang/StringBuilder" "java/lang/Object") ∈ lw_tbl := lw_at lw_m11 142 rfl
theorem in_J13 : ∀ w ∈ wsJ130, w ∈ lw_all := lw_in wsJ130 [605, 607, 609, 611] (by decide +kernel) (by decide +kernel)
/-! jdk/internal/util/ArraysSupport -/
def RJ14 : String := "jdk/internal/util/ArraysSupport"
abbrev cJ14_newLength : ByteArray := prog_56_method_27_code
def yJ14_newLength : MethodName := ⟨RJ14, "newLength", "(III)I"⟩
theorem dJ14_newLength_0 : decode cJ14_newLength 0 = .ok (.iload_n 0, 1) := by decide +kernel
theorem dJ14_newLength_1 : decode cJ14_newLength 1 = .ok (.iload_n 1, 1) := by decide +kernel
theorem dJ14_newLength_2 : decode cJ14_newLength 2 = .ok (.iload_n 2, 1) := by decide +kernel
theorem dJ14_newLength_3 : decode cJ14_newLength 3 = .ok (.invokestatic 194, 3) := by decide +kernel
theorem dJ14_newLength_6 : decode cJ14_newLength 6 = .ok (.iadd, 1) := by decide +kernel
theorem dJ14_newLength_7 : decode cJ14_newLength 7 = .ok (.istore_n 3, 1) := by decide +kernel
theorem dJ14_newLength_8 : decode cJ14_newLength 8 = .ok (.iconst 0, 1) := by decide +kernel
theorem dJ14_newLength_9 : decode cJ14_newLength 9 = .ok (.iload_n 3, 1) := by decide +kernel
theorem dJ14_newLength_10 : decode cJ14_newLength 10 = .ok (.if_icmp .ge 11, 3) := by decide +kernel
theorem dJ14_newLength_13 : decode cJ14_newLength 13 = .ok (.iload_n 3, 1) := by decide +kernel
theorem dJ14_newLength_14 : decode cJ14_newLength 14 = .ok (.ldc 200, 2) := by decide +kernel
theorem dJ14_newLength_16 : decode cJ14_newLength 16 = .ok (.if_icmp .gt 5, 3) := by decide +kernel
theorem dJ14_newLength_19 : decode cJ14_newLength 19 = .ok (.iload_n 3, 1) := by decide +kernel
theorem dJ14_newLength_20 : decode cJ14_newLength 20 = .ok (.ireturn, 1) := by decide +kernel
theorem dJ14_newLength_21 : decode cJ14_newLength 21 = .ok (.iload_n 0, 1) := by decide +kernel
theorem dJ14_newLength_22 : decode cJ14_newLength 22 = .ok (.iload_n 1, 1) := by decide +kernel
theorem dJ14_newLength_23 : decode cJ14_newLength 23 = .ok (.invokestatic 201, 3) := by decide +kernel
theorem dJ14_newLength_26 : decode cJ14_newLength 26 = .ok (.ireturn, 1) := by decide +kernel
abbrev cJ14_hugeLength : ByteArray := prog_56_method_28_code
def yJ14_hugeLength : MethodName := ⟨RJ14, "hugeLength", "(II)I"⟩
theorem dJ14_hugeLength_0 : decode cJ14_hugeLength 0 = .ok (.iload_n 0, 1) := by decide +kernel
theorem dJ14_hugeLength_1 : decode cJ14_hugeLength 1 = .ok (.iload_n 1, 1) := by decide +kernel
theorem dJ14_hugeLength_2 : decode cJ14_hugeLength 2 = .ok (.iadd, 1) := by decide +kernel
theorem dJ14_hugeLength_3 : decode cJ14_hugeLength 3 = .ok (.istore_n 2, 1) := by decide +kernel
theorem dJ14_hugeLength_4 : decode cJ14_hugeLength 4 = .ok (.iload_n 2, 1) := by decide +kernel
theorem dJ14_hugeLength_5 : decode cJ14_hugeLength 5 = .ok (.ifCond .ge 44, 3) := by decide +kernel
theorem dJ14_hugeLength_8 : decode cJ14_hugeLength 8 = .ok (.new 204, 3) := by decide +kernel
theorem dJ14_hugeLength_11 : decode cJ14_hugeLength 11 = .ok (.dup, 1) := by decide +kernel
theorem dJ14_hugeLength_12 : decode cJ14_hugeLength 12 = .ok (.new 89, 3) := by decide +kernel
theorem dJ14_hugeLength_15 : decode cJ14_hugeLength 15 = .ok (.dup, 1) := by decide +kernel
theorem dJ14_hugeLength_16 : decode cJ14_hugeLength 16 = .ok (.invokespecial 91, 3) := by decide +kernel
theorem dJ14_hugeLength_19 : decode cJ14_hugeLength 19 = .ok (.ldc 206, 2) := by decide +kernel
theorem dJ14_hugeLength_21 : decode cJ14_hugeLength 21 = .ok (.invokevirtual 94, 3) := by decide +kernel
theorem dJ14_hugeLength_24 : decode cJ14_hugeLength 24 = .ok (.iload_n 0, 1) := by decide +kernel
theorem dJ14_hugeLength_25 : decode cJ14_hugeLength 25 = .ok (.invokevirtual 98, 3) := by decide +kernel
theorem dJ14_hugeLength_28 : decode cJ14_hugeLength 28 = .ok (.ldc 208, 2) := by decide +kernel
theorem dJ14_hugeLength_30 : decode cJ14_hugeLength 30 = .ok (.invokevirtual 94, 3) := by decide +kernel
theorem dJ14_hugeLength_33 : decode cJ14_hugeLength 33 = .ok (.iload_n 1, 1) := by decide +kernel
theorem dJ14_hugeLength_34 : decode cJ14_hugeLength 34 = .ok (.invokevirtual 98, 3) := by decide +kernel
theorem dJ14_hugeLength_37 : decode cJ14_hugeLength 37 = .ok (.ldc 210, 2) := by decide +kernel
theorem dJ14_hugeLength_39 : decode cJ14_hugeLength 39 = .ok (.invokevirtual 94, 3) := by decide +kernel
theorem dJ14_hugeLength_42 : decode cJ14_hugeLength 42 = .ok (.invokevirtual 101, 3) := by decide +kernel
theorem dJ14_hugeLength_45 : decode cJ14_hugeLength 45 = .ok (.invokespecial 212, 3) := by decide +kernel
theorem dJ14_hugeLength_48 : decode cJ14_hugeLength 48 = .ok (.athrow, 1) := by decide +kernel
theorem dJ14_hugeLength_49 : decode cJ14_hugeLength 49 = .ok (.iload_n 2, 1) := by decide +kernel
theorem dJ14_hugeLength_50 : decode cJ14_hugeLength 50 = .ok (.ldc 200, 2) := by decide +kernel
theorem dJ14_hugeLength_52 : decode cJ14_hugeLength 52 = .ok (.if_icmp .gt 6, 3) := by decide +kernel
theorem dJ14_hugeLength_55 : decode cJ14_hugeLength 55 = .ok (.ldc 200, 2) := by decide +kernel
theorem dJ14_hugeLength_57 : decode cJ14_hugeLength 57 = .ok (.ireturn, 1) := by decide +kernel
theorem dJ14_hugeLength_58 : decode cJ14_hugeLength 58 = .ok (.iload_n 2, 1) := by decide +kernel
theorem dJ14_hugeLength_59 : decode cJ14_hugeLength 59 = .ok (.ireturn, 1) := by decide +kernel
theorem q179 : (Jvm.Cond.initialized "jdk/internal/util/ArraysSupport") ∈ lw_all := lw_g (lw_at lw_m1 20 rfl) rfl
theorem q630 : (Jvm.Cond.static ({ cls := "jdk/internal/util/ArraysSupport", name := "newLength", desc := "(III)I" } : Jvm.MethodName)) ∈ lw_all := lw_g (lw_at lw_m2 231 rfl) rfl
theorem q631 : (Jvm.Cond.code ({ cls := "jdk/internal/util/ArraysSupport", name := "newLength", desc := "(III)I" } : Jvm.MethodName) prog_56_method_27_code (4 : Nat) (Option.some Jvm.ClassFile.FieldType.int)) ∈ lw_all := lw_g (lw_at lw_m2 232 rfl) rfl
theorem q632 : (Jvm.Cond.methodLink "jdk/internal/util/ArraysSupport" (194 : Nat) ({ cls := "java/lang/Math", name := "max", desc := "(II)I" } : Jvm.MethodName)) ∈ lw_all := lw_g (lw_at lw_m2 233 rfl) rfl
theorem q633 : (Jvm.Cond.constant "jdk/internal/util/ArraysSupport" (200 : Nat) (2147483639 : Int32)) ∈ lw_all := lw_g (lw_at lw_m2 234 rfl) rfl
theorem q634 : (Jvm.Cond.methodLink "jdk/internal/util/ArraysSupport" (201 : Nat) ({ cls := "jdk/internal/util/ArraysSupport", name := "hugeLength", desc := "(II)I" } : Jvm.MethodName)) ∈ lw_all := lw_g (lw_at lw_m2 235 rfl) rfl
theorem q635 : (Jvm.Cond.static ({ cls := "jdk/internal/util/ArraysSupport", name := "hugeLength", desc := "(II)I" } : Jvm.MethodName)) ∈ lw_all := lw_g (lw_at lw_m2 236 rfl) rfl
theorem q636 : (Jvm.Cond.code ({ cls := "jdk/internal/util/ArraysSupport", name := "hugeLength", desc := "(II)I" } : Jvm.MethodName) prog_56_method_28_code (3 : Nat) (Option.some Jvm.ClassFile.FieldType.int)) ∈ lw_all := lw_g (lw_at lw_m2 237 rfl) rfl
/-! java/util/Arrays -/
def RJ15 : String := "java/util/Arrays"
abbrev cJ15_copyOf : ByteArray := prog_50_method_121_code
def yJ15_copyOf : MethodName := ⟨RJ15, "copyOf", "([BI)[B"⟩
theorem dJ15_copyOf_0 : decode cJ15_copyOf 0 = .ok (.iload_n 1, 1) := by decide +kernel
theorem dJ15_copyOf_1 : decode cJ15_copyOf 1 = .ok (.aload_n 0, 1) := by decide +kernel
theorem dJ15_copyOf_2 : decode cJ15_copyOf 2 = .ok (.arraylength, 1) := by decide +kernel
theorem dJ15_copyOf_3 : decode cJ15_copyOf 3 = .ok (.if_icmp .ne 11, 3) := by decide +kernel
theorem dJ15_copyOf_6 : decode cJ15_copyOf 6 = .ok (.aload_n 0, 1) := by decide +kernel
theorem dJ15_copyOf_7 : decode cJ15_copyOf 7 = .ok (.invokevirtual 310, 3) := by decide +kernel
theorem dJ15_copyOf_10 : decode cJ15_copyOf 10 = .ok (.checkcast 311, 3) := by decide +kernel
theorem dJ15_copyOf_13 : decode cJ15_copyOf 13 = .ok (.areturn, 1) := by decide +kernel
theorem dJ15_copyOf_14 : decode cJ15_copyOf 14 = .ok (.iload_n 1, 1) := by decide +kernel
theorem dJ15_copyOf_15 : decode cJ15_copyOf 15 = .ok (.newarray .byte, 2) := by decide +kernel
theorem dJ15_copyOf_17 : decode cJ15_copyOf 17 = .ok (.astore_n 2, 1) := by decide +kernel
theorem dJ15_copyOf_18 : decode cJ15_copyOf 18 = .ok (.aload_n 0, 1) := by decide +kernel
theorem dJ15_copyOf_19 : decode cJ15_copyOf 19 = .ok (.iconst 0, 1) := by decide +kernel
theorem dJ15_copyOf_20 : decode cJ15_copyOf 20 = .ok (.aload_n 2, 1) := by decide +kernel
theorem dJ15_copyOf_21 : decode cJ15_copyOf 21 = .ok (.iconst 0, 1) := by decide +kernel
theorem dJ15_copyOf_22 : decode cJ15_copyOf 22 = .ok (.aload_n 0, 1) := by decide +kernel
theorem dJ15_copyOf_23 : decode cJ15_copyOf 23 = .ok (.arraylength, 1) := by decide +kernel
theorem dJ15_copyOf_24 : decode cJ15_copyOf 24 = .ok (.iload_n 1, 1) := by decide +kernel
theorem dJ15_copyOf_25 : decode cJ15_copyOf 25 = .ok (.invokestatic 304, 3) := by decide +kernel
theorem dJ15_copyOf_28 : decode cJ15_copyOf 28 = .ok (.invokestatic 150, 3) := by decide +kernel
theorem dJ15_copyOf_31 : decode cJ15_copyOf 31 = .ok (.aload_n 2, 1) := by decide +kernel
theorem dJ15_copyOf_32 : decode cJ15_copyOf 32 = .ok (.areturn, 1) := by decide +kernel
abbrev cJ15_copyOfRange : ByteArray := prog_50_method_132_code
def yJ15_copyOfRange : MethodName := ⟨RJ15, "copyOfRange", "([BII)[B"⟩
theorem dJ15_copyOfRange_0 : decode cJ15_copyOfRange 0 = .ok (.iload_n 1, 1) := by decide +kernel
theorem dJ15_copyOfRange_1 : decode cJ15_copyOfRange 1 = .ok (.ifCond .ne 9, 3) := by decide +kernel
theorem dJ15_copyOfRange_4 : decode cJ15_copyOfRange 4 = .ok (.iload_n 2, 1) := by decide +kernel
theorem dJ15_copyOfRange_5 : decode cJ15_copyOfRange 5 = .ok (.aload_n 0, 1) := by decide +kernel
theorem dJ15_copyOfRange_6 : decode cJ15_copyOfRange 6 = .ok (.arraylength, 1) := by decide +kernel
theorem dJ15_copyOfRange_7 : decode cJ15_copyOfRange 7 = .ok (.if_icmp .eq 10, 3) := by decide +kernel
theorem dJ15_copyOfRange_10 : decode cJ15_copyOfRange 10 = .ok (.aload_n 0, 1) := by decide +kernel
theorem dJ15_copyOfRange_11 : decode cJ15_copyOfRange 11 = .ok (.iload_n 1, 1) := by decide +kernel
theorem dJ15_copyOfRange_12 : decode cJ15_copyOfRange 12 = .ok (.iload_n 2, 1) := by decide +kernel
theorem dJ15_copyOfRange_13 : decode cJ15_copyOfRange 13 = .ok (.invokestatic 339, 3) := by decide +kernel
theorem dJ15_copyOfRange_16 : decode cJ15_copyOfRange 16 = .ok (.areturn, 1) := by decide +kernel
theorem dJ15_copyOfRange_17 : decode cJ15_copyOfRange 17 = .ok (.aload_n 0, 1) := by decide +kernel
theorem dJ15_copyOfRange_18 : decode cJ15_copyOfRange 18 = .ok (.invokevirtual 310, 3) := by decide +kernel
theorem dJ15_copyOfRange_21 : decode cJ15_copyOfRange 21 = .ok (.checkcast 311, 3) := by decide +kernel
theorem dJ15_copyOfRange_24 : decode cJ15_copyOfRange 24 = .ok (.areturn, 1) := by decide +kernel
abbrev cJ15_copyOfRangeByte : ByteArray := prog_50_method_133_code
def yJ15_copyOfRangeByte : MethodName := ⟨RJ15, "copyOfRangeByte", "([BII)[B"⟩
theorem dJ15_copyOfRangeByte_0 : decode cJ15_copyOfRangeByte 0 = .ok (.iload_n 1, 1) := by decide +kernel
theorem dJ15_copyOfRangeByte_1 : decode cJ15_copyOfRangeByte 1 = .ok (.iload_n 2, 1) := by decide +kernel
theorem dJ15_copyOfRangeByte_2 : decode cJ15_copyOfRangeByte 2 = .ok (.invokestatic 343, 3) := by decide +kernel
theorem dJ15_copyOfRangeByte_5 : decode cJ15_copyOfRangeByte 5 = .ok (.iload_n 2, 1) := by decide +kernel
theorem dJ15_copyOfRangeByte_6 : decode cJ15_copyOfRangeByte 6 = .ok (.iload_n 1, 1) := by decide +kernel
theorem dJ15_copyOfRangeByte_7 : decode cJ15_copyOfRangeByte 7 = .ok (.isub, 1) := by decide +kernel
theorem dJ15_copyOfRangeByte_8 : decode cJ15_copyOfRangeByte 8 = .ok (.istore_n 3, 1) := by decide +kernel
theorem dJ15_copyOfRangeByte_9 : decode cJ15_copyOfRangeByte 9 = .ok (.iload_n 3, 1) := by decide +kernel
theorem dJ15_copyOfRangeByte_10 : decode cJ15_copyOfRangeByte 10 = .ok (.newarray .byte, 2) := by decide +kernel
theorem dJ15_copyOfRangeByte_12 : decode cJ15_copyOfRangeByte 12 = .ok (.astore 4, 2) := by decide +kernel
theorem dJ15_copyOfRangeByte_14 : decode cJ15_copyOfRangeByte 14 = .ok (.aload_n 0, 1) := by decide +kernel
theorem dJ15_copyOfRangeByte_15 : decode cJ15_copyOfRangeByte 15 = .ok (.iload_n 1, 1) := by decide +kernel
theorem dJ15_copyOfRangeByte_16 : decode cJ15_copyOfRangeByte 16 = .ok (.aload 4, 2) := by decide +kernel
theorem dJ15_copyOfRangeByte_18 : decode cJ15_copyOfRangeByte 18 = .ok (.iconst 0, 1) := by decide +kernel
theorem dJ15_copyOfRangeByte_19 : decode cJ15_copyOfRangeByte 19 = .ok (.aload_n 0, 1) := by decide +kernel
theorem dJ15_copyOfRangeByte_20 : decode cJ15_copyOfRangeByte 20 = .ok (.arraylength, 1) := by decide +kernel
theorem dJ15_copyOfRangeByte_21 : decode cJ15_copyOfRangeByte 21 = .ok (.iload_n 1, 1) := by decide +kernel
theorem dJ15_copyOfRangeByte_22 : decode cJ15_copyOfRangeByte 22 = .ok (.isub, 1) := by decide +kernel
theorem dJ15_copyOfRangeByte_23 : decode cJ15_copyOfRangeByte 23 = .ok (.iload_n 3, 1) := by decide +kernel
theorem dJ15_copyOfRangeByte_24 : decode cJ15_copyOfRangeByte 24 = .ok (.invokestatic 304, 3) := by decide +kernel
theorem dJ15_copyOfRangeByte_27 : decode cJ15_copyOfRangeByte 27 = .ok (.invokestatic 150, 3) := by decide +kernel
theorem dJ15_copyOfRangeByte_30 : decode cJ15_copyOfRangeByte 30 = .ok (.aload 4, 2) := by decide +kernel
theorem dJ15_copyOfRangeByte_32 : decode cJ15_copyOfRangeByte 32 = .ok (.areturn, 1) := by decide +kernel
abbrev cJ15_checkLength : ByteArray := prog_50_method_131_code
def yJ15_checkLength : MethodName := ⟨RJ15, "checkLength", "(II)V"⟩
theorem dJ15_checkLength_0 : decode cJ15_checkLength 0 = .ok (.iload_n 1, 1) := by decide +kernel
theorem dJ15_checkLength_1 : decode cJ15_checkLength 1 = .ok (.iload_n 0, 1) := by decide +kernel
theorem dJ15_checkLength_2 : decode cJ15_checkLength 2 = .ok (.if_icmp .ge 35, 3) := by decide +kernel
theorem dJ15_checkLength_5 : decode cJ15_checkLength 5 = .ok (.new 43, 3) := by decide +kernel
theorem dJ15_checkLength_8 : decode cJ15_checkLength 8 = .ok (.dup, 1) := by decide +kernel
theorem dJ15_checkLength_9 : decode cJ15_checkLength 9 = .ok (.new 45, 3) := by decide +kernel
theorem dJ15_checkLength_12 : decode cJ15_checkLength 12 = .ok (.dup, 1) := by decide +kernel
theorem dJ15_checkLength_13 : decode cJ15_checkLength 13 = .ok (.invokespecial 47, 3) := by decide +kernel
theorem dJ15_checkLength_16 : decode cJ15_checkLength 16 = .ok (.iload_n 0, 1) := by decide +kernel
theorem dJ15_checkLength_17 : decode cJ15_checkLength 17 = .ok (.invokevirtual 54, 3) := by decide +kernel
theorem dJ15_checkLength_20 : decode cJ15_checkLength 20 = .ok (.ldc_w 337, 3) := by decide +kernel
theorem dJ15_checkLength_23 : decode cJ15_checkLength 23 = .ok (.invokevirtual 50, 3) := by decide +kernel
theorem dJ15_checkLength_26 : decode cJ15_checkLength 26 = .ok (.iload_n 1, 1) := by decide +kernel
theorem dJ15_checkLength_27 : decode cJ15_checkLength 27 = .ok (.invokevirtual 54, 3) := by decide +kernel
theorem dJ15_checkLength_30 : decode cJ15_checkLength 30 = .ok (.invokevirtual 61, 3) := by decide +kernel
theorem dJ15_checkLength_33 : decode cJ15_checkLength 33 = .ok (.invokespecial 65, 3) := by decide +kernel
theorem dJ15_checkLength_36 : decode cJ15_checkLength 36 = .ok (.athrow, 1) := by decide +kernel
theorem dJ15_checkLength_37 : decode cJ15_checkLength 37 = .ok (.return_, 1) := by decide +kernel
abbrev cJ15_copyOf_2 : ByteArray := prog_50_method_119_code
def yJ15_copyOf_2 : MethodName := ⟨RJ15, "copyOf", "([Ljava/lang/Object;I)[Ljava/lang/Object;"⟩
theorem dJ15_copyOf_2_0 : decode cJ15_copyOf_2 0 = .ok (.aload_n 0, 1) := by decide +kernel
theorem dJ15_copyOf_2_1 : decode cJ15_copyOf_2 1 = .ok (.iload_n 1, 1) := by decide +kernel
theorem dJ15_copyOf_2_2 : decode cJ15_copyOf_2 2 = .ok (.aload_n 0, 1) := by decide +kernel
theorem dJ15_copyOf_2_3 : decode cJ15_copyOf_2 3 = .ok (.invokevirtual 86, 3) := by decide +kernel
theorem dJ15_copyOf_2_6 : decode cJ15_copyOf_2 6 = .ok (.invokestatic 300, 3) := by decide +kernel
theorem dJ15_copyOf_2_9 : decode cJ15_copyOf_2 9 = .ok (.areturn, 1) := by decide +kernel
abbrev cJ15_copyOf_3 : ByteArray := prog_50_method_120_code
def yJ15_copyOf_3 : MethodName := ⟨RJ15, "copyOf", "([Ljava/lang/Object;ILjava/lang/Class;)[Ljava/lang/Object;"⟩
theorem dJ15_copyOf_3_0 : decode cJ15_copyOf_3 0 = .ok (.aload_n 2, 1) := by decide +kernel
theorem dJ15_copyOf_3_1 : decode cJ15_copyOf_3 1 = .ok (.ldc 110, 2) := by decide +kernel
theorem dJ15_copyOf_3_3 : decode cJ15_copyOf_3 3 = .ok (.if_acmp .ne 10, 3) := by decide +kernel
theorem dJ15_copyOf_3_6 : decode cJ15_copyOf_3 6 = .ok (.iload_n 1, 1) := by decide +kernel
theorem dJ15_copyOf_3_7 : decode cJ15_copyOf_3 7 = .ok (.anewarray 2, 3) := by decide +kernel
theorem dJ15_copyOf_3_10 : decode cJ15_copyOf_3 10 = .ok (.goto 14, 3) := by decide +kernel
theorem dJ15_copyOf_3_13 : decode cJ15_copyOf_3 13 = .ok (.aload_n 2, 1) := by decide +kernel
theorem dJ15_copyOf_3_14 : decode cJ15_copyOf_3 14 = .ok (.invokevirtual 90, 3) := by decide +kernel
theorem dJ15_copyOf_3_17 : decode cJ15_copyOf_3 17 = .ok (.iload_n 1, 1) := by decide +kernel
theorem dJ15_copyOf_3_18 : decode cJ15_copyOf_3 18 = .ok (.invokestatic 95, 3) := by decide +kernel
theorem dJ15_copyOf_3_21 : decode cJ15_copyOf_3 21 = .ok (.checkcast 110, 3) := by decide +kernel
theorem dJ15_copyOf_3_24 : decode cJ15_copyOf_3 24 = .ok (.astore_n 3, 1) := by decide +kernel
theorem dJ15_copyOf_3_25 : decode cJ15_copyOf_3 25 = .ok (.aload_n 0, 1) := by decide +kernel
theorem dJ15_copyOf_3_26 : decode cJ15_copyOf_3 26 = .ok (.iconst 0, 1) := by decide +kernel
theorem dJ15_copyOf_3_27 : decode cJ15_copyOf_3 27 = .ok (.aload_n 3, 1) := by decide +kernel
theorem dJ15_copyOf_3_28 : decode cJ15_copyOf_3 28 = .ok (.iconst 0, 1) := by decide +kernel
theorem dJ15_copyOf_3_29 : decode cJ15_copyOf_3 29 = .ok (.aload_n 0, 1) := by decide +kernel
theorem dJ15_copyOf_3_30 : decode cJ15_copyOf_3 30 = .ok (.arraylength, 1) := by decide +kernel
theorem dJ15_copyOf_3_31 : decode cJ15_copyOf_3 31 = .ok (.iload_n 1, 1) := by decide +kernel
theorem dJ15_copyOf_3_32 : decode cJ15_copyOf_3 32 = .ok (.invokestatic 304, 3) := by decide +kernel
theorem dJ15_copyOf_3_35 : decode cJ15_copyOf_3 35 = .ok (.invokestatic 150, 3) := by decide +kernel
theorem dJ15_copyOf_3_38 : decode cJ15_copyOf_3 38 = .ok (.aload_n 3, 1) := by decide +kernel
theorem dJ15_copyOf_3_39 : decode cJ15_copyOf_3 39 = .ok (.areturn, 1) := by decide +kernel
theorem q180 : (Jvm.Cond.initialized "java/util/Arrays") ∈ lw_all := lw_g (lw_at lw_m1 21 rfl) rfl
theorem q639 : (Jvm.Cond.static ({ cls := "java/util/Arrays", name := "copyOf", desc := "([BI)[B" } : Jvm.MethodName)) ∈ lw_all := lw_g (lw_at lw_m3 0 rfl) rfl
theorem q640 : (Jvm.Cond.code ({ cls := "java/util/Arrays", name := "copyOf", desc := "([BI)[B" } : Jvm.MethodName) prog_50_method_121_code (3 : Nat) (Option.some (Jvm.ClassFile.FieldType.array Jvm.ClassFile.FieldType.byte))) ∈ lw_all := lw_g (lw_at lw_m3 1 rfl) rfl
theorem q641 : (Jvm.Cond.methodLink "java/util/Arrays" (310 : Nat) ({ cls := "[B", name := "clone", desc := "()Ljava/lang/Object;" } : Jvm.MethodName)) ∈ lw_all := lw_g (lw_at lw_m3 2 rfl) rfl
theorem q647 : (Jvm.Cond.classLink "java/util/Arrays" (311 : Nat) "[B") ∈ lw_all := lw_g (lw_at lw_m3 8 rfl) rfl
theorem q648 : (Jvm.Cond.methodLink "java/util/Arrays" (304 : Nat) ({ cls := "java/lang/Math", name := "min", desc := "(II)I" } : Jvm.MethodName)) ∈ lw_all := lw_g (lw_at lw_m3 9 rfl) rfl
theorem q649 : (Jvm.Cond.methodLink "java/util/Arrays" (150 : Nat) ({ cls := "java/lang/System", name := "arraycopy", desc := "(Ljava/lang/Object;ILjava/lang/Object;II)V" } : Jvm.MethodName)) ∈ lw_all := lw_g (lw_at lw_m3 10 rfl) rfl
theorem q713 : (Jvm.Cond.static ({ cls := "java/util/Arrays", name := "copyOfRange", desc := "([BII)[B" } : Jvm.MethodName)) ∈ lw_all := lw_g (lw_at lw_m3 74 rfl) rfl
theorem q714 : (Jvm.Cond.code ({ cls := "java/util/Arrays", name := "copyOfRange", desc := "([BII)[B" } : Jvm.MethodName) prog_50_method_132_code (3 : Nat) (Option.some (Jvm.ClassFile.FieldType.array Jvm.ClassFile.FieldType.byte))) ∈ lw_all := lw_g (lw_at lw_m3 75 rfl) rfl
theorem q715 : (Jvm.Cond.methodLink "java/util/Arrays" (339 : Nat) ({ cls := "java/util/Arrays", name := "copyOfRangeByte", desc := "([BII)[B" } : Jvm.MethodName)) ∈ lw_all := lw_g (lw_at lw_m3 76 rfl) rfl
theorem q716 : (Jvm.Cond.static ({ cls := "java/util/Arrays", name := "copyOfRangeByte", desc := "([BII)[B" } : Jvm.MethodName)) ∈ lw_all := lw_g (lw_at lw_m3 77 rfl) rfl
theorem q717 : (Jvm.Cond.code ({ cls := "java/util/Arrays", name := "copyOfRangeByte", desc := "([BII)[B" } : Jvm.MethodName) prog_50_method_133_code (5 : Nat) (Option.some (Jvm.ClassFile.FieldType.array Jvm.ClassFile.FieldType.byte))) ∈ lw_all := lw_g (lw_at lw_m3 78 rfl) rfl
theorem q718 : (Jvm.Cond.methodLink "java/util/Arrays" (343 : Nat) ({ cls := "java/util/Arrays", name := "checkLength", desc := "(II)V" } : Jvm.MethodName)) ∈ lw_all := lw_g (lw_at lw_m3 79 rfl) rfl
theorem q719 : (Jvm.Cond.static ({ cls := "java/util/Arrays", name := "checkLength", desc := "(II)V" } : Jvm.MethodName)) ∈ lw_all := lw_g (lw_at lw_m3 80 rfl) rfl
theorem q720 : (Jvm.Cond.code ({ cls := "java/util/Arrays", name := "checkLength", desc := "(II)V" } : Jvm.MethodName) prog_50_method_131_code (2 : Nat) (Option.none : Option Jvm.ClassFile.FieldType)) ∈ lw_all := lw_g (lw_at lw_m3 81 rfl) rfl
theorem q896 : (Jvm.Cond.static ({ cls := "java/util/Arrays", name := "copyOf", desc := "([Ljava/lang/Object;I)[Ljava/lang/Object;" } : Jvm.MethodName)) ∈ lw_all := lw_g (lw_at lw_m4 17 rfl) rfl
theorem q897 : (Jvm.Cond.code ({ cls := "java/util/Arrays", name := "copyOf", desc := "([Ljava/lang/Object;I)[Ljava/lang/Object;" } : Jvm.MethodName) prog_50_method_119_code (2 : Nat) (Option.some (Jvm.ClassFile.FieldType.array (Jvm.ClassFile.FieldType.object "java/lang/Object")))) ∈ lw_all := lw_g (lw_at lw_m4 18 rfl) rfl
theorem q898 : (Jvm.Cond.methodLink "java/util/Arrays" (86 : Nat) ({ cls := "java/lang/Object", name := "getClass", desc := "()Ljava/lang/Class;" } : Jvm.MethodName)) ∈ lw_all := lw_g (lw_at lw_m4 19 rfl) rfl
theorem q929 : (Jvm.Cond.methodLink "java/util/Arrays" (300 : Nat) ({ cls := "java/util/Arrays", name := "copyOf", desc := "([Ljava/lang/Object;ILjava/lang/Class;)[Ljava/lang/Object;" } : Jvm.MethodName)) ∈ lw_all := lw_g (lw_at lw_m4 50 rfl) rfl
theorem q930 : (Jvm.Cond.static ({ cls := "java/util/Arrays", name := "copyOf", desc := "([Ljava/lang/Object;ILjava/lang/Class;)[Ljava/lang/Object;" } : Jvm.MethodName)) ∈ lw_all := lw_g (lw_at lw_m4 51 rfl) rfl
theorem q931 : (Jvm.Cond.code ({ cls := "java/util/Arrays", name := "copyOf", desc := "([Ljava/lang/Object;ILjava/lang/Class;)[Ljava/lang/Object;" } : Jvm.MethodName) prog_50_method_120_code (4 : Nat) (Option.some (Jvm.ClassFile.FieldType.array (Jvm.ClassFile.FieldType.object "java/lang/Object")))) ∈ lw_all := lw_g (lw_at lw_m4 52 rfl) rfl
theorem q932 : (Jvm.Cond.classLink "java/util/Arrays" (110 : Nat) "[Ljava/lang/Object;") ∈ lw_all := lw_g (lw_at lw_m4 53 rfl) rfl
theorem q933 : (Jvm.Cond.classLink "java/util/Arrays" (2 : Nat) "java/lang/Object") ∈ lw_all := lw_g (lw_at lw_m4 54 rfl) rfl
/-! java/util/Objects -/
def RJ16 : String := "java/util/Objects"
abbrev cJ16_checkIndex : ByteArray := prog_53_method_17_code
def yJ16_checkIndex : MethodName := ⟨RJ16, "checkIndex", "(II)I"⟩
theorem dJ16_checkIndex_0 : decode cJ16_checkIndex 0 = .ok (.iload_n 0, 1) := by decide +kernel
theorem dJ16_checkIndex_1 : decode cJ16_checkIndex 1 = .ok (.iload_n 1, 1) := by decide +kernel
theorem dJ16_checkIndex_2 : decode cJ16_checkIndex 2 = .ok (.aconst_null, 1) := by decide +kernel
theorem dJ16_checkIndex_3 : decode cJ16_checkIndex 3 = .ok (.invokestatic 105, 3) := by decide +kernel
theorem dJ16_checkIndex_6 : decode cJ16_checkIndex 6 = .ok (.ireturn, 1) := by decide +kernel
theorem q190 : (Jvm.Cond.initialized "java/util/Objects") ∈ lw_all := lw_g (lw_at lw_m1 31 rfl) rfl
theorem q1205 : (Jvm.Cond.static ({ cls := "java/util/Objects", name := "checkIndex", desc := "(II)I" } : Jvm.MethodName)) ∈ lw_all := lw_g (lw_at lw_m5 86 rfl) rfl
theorem q1206 : (Jvm.Cond.code ({ cls := "java/util/Objects", name := "checkIndex", desc := "(II)I" } : Jvm.MethodName) prog_53_method_17_code (2 : Nat) (Option.some Jvm.ClassFile.FieldType.int)) ∈ lw_all := lw_g (lw_at lw_m5 87 rfl) rfl
theorem q1207 : (Jvm.Cond.methodLink "java/util/Objects" (105 : Nat) ({ cls := "jdk/internal/util/Preconditions", name := "checkIndex", desc := "(IILjava/util/function/BiFunction;)I" } : Jvm.MethodName)) ∈ lw_all := lw_g (lw_at lw_m5 88 rfl) rfl
/-! java/lang/Number -/
def RJ17 : String := "java/lang/Number"
abbrev cJ17_init : ByteArray := prog_37_method_1_code
def yJ17_init : MethodName := ⟨RJ17, "<init>", "()V"⟩
theorem dJ17_init_0 : decode cJ17_init 0 = .ok (.aload_n 0, 1) := by decide +kernel
theorem dJ17_init_1 : decode cJ17_init 1 = .ok (.invokespecial 1, 3) := by decide +kernel
theorem dJ17_init_4 : decode cJ17_init 4 = .ok (.return_, 1) := by decide +kernel
theorem q191 : (Jvm.Cond.initialized "java/lang/Number") ∈ lw_all := lw_g (lw_at lw_m1 32 rfl) rfl
theorem q1227 : (Jvm.Cond.instanceMethod ({ cls := "java/lang/Number", name := "<init>", desc := "()V" } : Jvm.MethodName)) ∈ lw_all := lw_g (lw_at lw_m5 108 rfl) rfl
theorem q1228 : (Jvm.Cond.code ({ cls := "java/lang/Number", name := "<init>", desc := "()V" } : Jvm.MethodName) prog_37_method_1_code (1 : Nat) (Option.none : Option Jvm.ClassFile.FieldType)) ∈ lw_all := lw_g (lw_at lw_m5 109 rfl) rfl
theorem q1229 : (Jvm.Cond.methodLink "java/lang/Number" (1 : Nat) ({ cls := "java/lang/Object", name := "<init>", desc := "()V" } : Jvm.MethodName)) ∈ lw_all := lw_g (lw_at lw_m5 110 rfl) rfl
/-! java/lang/Integer -/
def RJ18 : String := "java/lang/Integer"
def TJ18 : u_T := fun k => match k with
  | _ => ("java/lang/Integer", "value", "I", true)
def tyJ18 : Nat → FieldType := fun k => match k with
  | _ => .int
abbrev wsJ180 : List Cond := u_ws RJ18 TJ18 1
theorem nmJ18 : ∀ a, a < 1 → ∀ b, b < 1 → a ≠ b → (TJ18 a).2.1 ≠ (TJ18 b).2.1 := by decide +kernel
theorem tyJ18_ok : ∀ k, k < 1 → parseFieldDescriptor (TJ18 k).2.2.1 = some (tyJ18 k) := by decide +kernel
abbrev cJ18_valueOf : ByteArray := prog_33_method_22_code
def yJ18_valueOf : MethodName := ⟨RJ18, "valueOf", "(I)Ljava/lang/Integer;"⟩
theorem dJ18_valueOf_0 : decode cJ18_valueOf 0 = .ok (.iload_n 0, 1) := by decide +kernel
theorem dJ18_valueOf_1 : decode cJ18_valueOf 1 = .ok (.bipush (-128), 2) := by decide +kernel
theorem dJ18_valueOf_3 : decode cJ18_valueOf 3 = .ok (.if_icmp .lt 20, 3) := by decide +kernel
theorem dJ18_valueOf_6 : decode cJ18_valueOf 6 = .ok (.iload_n 0, 1) := by decide +kernel
theorem dJ18_valueOf_7 : decode cJ18_valueOf 7 = .ok (.getstatic 191, 3) := by decide +kernel
theorem dJ18_valueOf_10 : decode cJ18_valueOf 10 = .ok (.if_icmp .gt 13, 3) := by decide +kernel
theorem dJ18_valueOf_13 : decode cJ18_valueOf 13 = .ok (.getstatic 195, 3) := by decide +kernel
theorem dJ18_valueOf_16 : decode cJ18_valueOf 16 = .ok (.iload_n 0, 1) := by decide +kernel
theorem dJ18_valueOf_17 : decode cJ18_valueOf 17 = .ok (.sipush 128, 3) := by decide +kernel
theorem dJ18_valueOf_20 : decode cJ18_valueOf 20 = .ok (.iadd, 1) := by decide +kernel
theorem dJ18_valueOf_21 : decode cJ18_valueOf 21 = .ok (.aaload, 1) := by decide +kernel
theorem dJ18_valueOf_22 : decode cJ18_valueOf 22 = .ok (.areturn, 1) := by decide +kernel
theorem dJ18_valueOf_23 : decode cJ18_valueOf 23 = .ok (.new 1, 3) := by decide +kernel
theorem dJ18_valueOf_26 : decode cJ18_valueOf 26 = .ok (.dup, 1) := by decide +kernel
theorem dJ18_valueOf_27 : decode cJ18_valueOf 27 = .ok (.iload_n 0, 1) := by decide +kernel
theorem dJ18_valueOf_28 : decode cJ18_valueOf 28 = .ok (.invokespecial 199, 3) := by decide +kernel
theorem dJ18_valueOf_31 : decode cJ18_valueOf 31 = .ok (.areturn, 1) := by decide +kernel
abbrev cJ18_init : ByteArray := prog_33_method_23_code
def yJ18_init : MethodName := ⟨RJ18, "<init>", "(I)V"⟩
theorem dJ18_init_0 : decode cJ18_init 0 = .ok (.aload_n 0, 1) := by decide +kernel
theorem dJ18_init_1 : decode cJ18_init 1 = .ok (.invokespecial 202, 3) := by decide +kernel
theorem dJ18_init_4 : decode cJ18_init 4 = .ok (.aload_n 0, 1) := by decide +kernel
theorem dJ18_init_5 : decode cJ18_init 5 = .ok (.iload_n 1, 1) := by decide +kernel
theorem dJ18_init_6 : decode cJ18_init 6 = .ok (.putfield 205, 3) := by decide +kernel
theorem dJ18_init_9 : decode cJ18_init 9 = .ok (.return_, 1) := by decide +kernel
abbrev cJ18_intValue : ByteArray := prog_33_method_27_code
def yJ18_intValue : MethodName := ⟨RJ18, "intValue", "()I"⟩
theorem dJ18_intValue_0 : decode cJ18_intValue 0 = .ok (.aload_n 0, 1) := by decide +kernel
theorem dJ18_intValue_1 : decode cJ18_intValue 1 = .ok (.getfield 205, 3) := by decide +kernel
theorem dJ18_intValue_4 : decode cJ18_intValue 4 = .ok (.ireturn, 1) := by decide +kernel
abbrev cJ18_equals : ByteArray := prog_33_method_34_code
def yJ18_equals : MethodName := ⟨RJ18, "equals", "(Ljava/lang/Object;)Z"⟩
theorem dJ18_equals_0 : decode cJ18_equals 0 = .ok (.aload_n 1, 1) := by decide +kernel
theorem dJ18_equals_1 : decode cJ18_equals 1 = .ok (.instanceof 1, 3) := by decide +kernel
theorem dJ18_equals_4 : decode cJ18_equals 4 = .ok (.ifCond .eq 23, 3) := by decide +kernel
theorem dJ18_equals_7 : decode cJ18_equals 7 = .ok (.aload_n 0, 1) := by decide +kernel
theorem dJ18_equals_8 : decode cJ18_equals 8 = .ok (.getfield 205, 3) := by decide +kernel
theorem dJ18_equals_11 : decode cJ18_equals 11 = .ok (.aload_n 1, 1) := by decide +kernel
theorem dJ18_equals_12 : decode cJ18_equals 12 = .ok (.checkcast 1, 3) := by decide +kernel
theorem dJ18_equals_15 : decode cJ18_equals 15 = .ok (.invokevirtual 211, 3) := by decide +kernel
theorem dJ18_equals_18 : decode cJ18_equals 18 = .ok (.if_icmp .ne 7, 3) := by decide +kernel
theorem dJ18_equals_21 : decode cJ18_equals 21 = .ok (.iconst 1, 1) := by decide +kernel
theorem dJ18_equals_22 : decode cJ18_equals 22 = .ok (.goto 4, 3) := by decide +kernel
theorem dJ18_equals_25 : decode cJ18_equals 25 = .ok (.iconst 0, 1) := by decide +kernel
theorem dJ18_equals_26 : decode cJ18_equals 26 = .ok (.ireturn, 1) := by decide +kernel
theorem dJ18_equals_27 : decode cJ18_equals 27 = .ok (.iconst 0, 1) := by decide +kernel
theorem dJ18_equals_28 : decode cJ18_equals 28 = .ok (.ireturn, 1) := by decide +kernel
theorem q192 : (Jvm.Cond.initialized "java/lang/Integer") ∈ lw_all := lw_g (lw_at lw_m1 33 rfl) rfl
theorem q924 : (Jvm.Cond.selects "java/lang/Integer" ({ cls := "java/lang/Object", name := "getClass", desc := "()Ljava/lang/Class;" } : Jvm.MethodName) ({ cls := "java/lang/Object", name := "getClass", desc := "()Ljava/lang/Class;" } : Jvm.MethodName)) ∈ lw_all := lw_g (lw_at lw_m4 45 rfl) rfl
theorem q1215 : (Jvm.Cond.static ({ cls := "java/lang/Integer", name := "valueOf", desc := "(I)Ljava/lang/Integer;" } : Jvm.MethodName)) ∈ lw_all := lw_g (lw_at lw_m5 96 rfl) rfl
theorem q1216 : (Jvm.Cond.code ({ cls := "java/lang/Integer", name := "valueOf", desc := "(I)Ljava/lang/Integer;" } : Jvm.MethodName) prog_33_method_22_code (1 : Nat) (Option.some (Jvm.ClassFile.FieldType.object "java/lang/Integer"))) ∈ lw_all := lw_g (lw_at lw_m5 97 rfl) rfl
theorem q1217 : (Jvm.Cond.fieldLink "java/lang/Integer" (191 : Nat) "java/lang/Integer$IntegerCache" "high" "I") ∈ lw_all := lw_g (lw_at lw_m5 98 rfl) rfl
theorem q1219 : (Jvm.Cond.fieldLink "java/lang/Integer" (195 : Nat) "java/lang/Integer$IntegerCache" "cache" "[Ljava/lang/Integer;") ∈ lw_all := lw_g (lw_at lw_m5 100 rfl) rfl
theorem q1221 : (Jvm.Cond.classLink "java/lang/Integer" (1 : Nat) "java/lang/Integer") ∈ lw_all := lw_g (lw_at lw_m5 102 rfl) rfl
theorem q1222 : (Jvm.Cond.instantiable "java/lang/Integer" (1 : Nat)) ∈ lw_all := lw_g (lw_at lw_m5 103 rfl) rfl
theorem q1223 : (Jvm.Cond.methodLink "java/lang/Integer" (199 : Nat) ({ cls := "java/lang/Integer", name := "<init>", desc := "(I)V" } : Jvm.MethodName)) ∈ lw_all := lw_g (lw_at lw_m5 104 rfl) rfl
theorem q1224 : (Jvm.Cond.instanceMethod ({ cls := "java/lang/Integer", name := "<init>", desc := "(I)V" } : Jvm.MethodName)) ∈ lw_all := lw_g (lw_at lw_m5 105 rfl) rfl
theorem q1225 : (Jvm.Cond.code ({ cls := "java/lang/Integer", name := "<init>", desc := "(I)V" } : Jvm.MethodName) prog_33_method_23_code (2 : Nat) (Option.none : Option Jvm.ClassFile.FieldType)) ∈ lw_all := lw_g (lw_at lw_m5 106 rfl) rfl
theorem q1226 : (Jvm.Cond.methodLink "java/lang/Integer" (202 : Nat) ({ cls := "java/lang/Number", name := "<init>", desc := "()V" } : Jvm.MethodName)) ∈ lw_all := lw_g (lw_at lw_m5 107 rfl) rfl
theorem q1230 : (Jvm.Cond.fieldLink "java/lang/Integer" (205 : Nat) "java/lang/Integer" "value" "I") ∈ lw_all := lw_g (lw_at lw_m5 111 rfl) rfl
theorem q1231 : (Jvm.Cond.laysFinal "java/lang/Integer" "java/lang/Integer" "value" "I") ∈ lw_all := lw_g (lw_at lw_m5 112 rfl) rfl
theorem q1232 : (Jvm.Cond.soleField "java/lang/Integer" "value") ∈ lw_all := lw_g (lw_at lw_m5 113 rfl) rfl
theorem q1233 : (Jvm.Cond.superclass "java/lang/Integer" "java/lang/Number") ∈ lw_all := lw_g (lw_at lw_m5 114 rfl) rfl
theorem q1237 : (Jvm.Cond.instanceMethod ({ cls := "java/lang/Integer", name := "intValue", desc := "()I" } : Jvm.MethodName)) ∈ lw_all := lw_g (lw_at lw_m5 118 rfl) rfl
theorem q1238 : (Jvm.Cond.selects "java/lang/Integer" ({ cls := "java/lang/Integer", name := "intValue", desc := "()I" } : Jvm.MethodName) ({ cls := "java/lang/Integer", name := "intValue", desc := "()I" } : Jvm.MethodName)) ∈ lw_all := lw_g (lw_at lw_m5 119 rfl) rfl
theorem q1239 : (Jvm.Cond.code ({ cls := "java/lang/Integer", name := "intValue", desc := "()I" } : Jvm.MethodName) prog_33_method_27_code (1 : Nat) (Option.some Jvm.ClassFile.FieldType.int)) ∈ lw_all := lw_g (lw_at lw_m5 120 rfl) rfl
theorem q1424 : (Jvm.Cond.selects "java/lang/Integer" ({ cls := "java/lang/Object", name := "equals", desc := "(Ljava/lang/Object;)Z" } : Jvm.MethodName) ({ cls := "java/lang/Integer", name := "equals", desc := "(Ljava/lang/Object;)Z" } : Jvm.MethodName)) ∈ lw_all := lw_g (lw_at lw_m6 65 rfl) rfl
theorem q1425 : (Jvm.Cond.instanceMethod ({ cls := "java/lang/Integer", name := "equals", desc := "(Ljava/lang/Object;)Z" } : Jvm.MethodName)) ∈ lw_all := lw_g (lw_at lw_m6 66 rfl) rfl
theorem q1426 : (Jvm.Cond.code ({ cls := "java/lang/Integer", name := "equals", desc := "(Ljava/lang/Object;)Z" } : Jvm.MethodName) prog_33_method_34_code (2 : Nat) (Option.some Jvm.ClassFile.FieldType.boolean)) ∈ lw_all := lw_g (lw_at lw_m6 67 rfl) rfl
theorem q1427 : (Jvm.Cond.methodLink "java/lang/Integer" (211 : Nat) ({ cls := "java/lang/Integer", name := "intValue", desc := "()I" } : Jvm.MethodName)) ∈ lw_all := lw_g (lw_at lw_m6 68 rfl) rfl
theorem q2711 : (Jvm.Cond.castable "java/lang/Integer" "java/lang/Object") ∈ lw_tbl := lw_at lw_m11 152 rfl
theorem in_J18 : ∀ w ∈ wsJ180, w ∈ lw_all := lw_in wsJ180 [1231] (by decide +kernel) (by decide +kernel)
/-! java/lang/Object -/
def RJ19 : String := "java/lang/Object"
abbrev cJ19_init : ByteArray := object_method_1_code
def yJ19_init : MethodName := ⟨RJ19, "<init>", "()V"⟩
theorem dJ19_init_0 : decode cJ19_init 0 = .ok (.return_, 1) := by decide +kernel
abbrev cJ19_equals : ByteArray := object_method_4_code
def yJ19_equals : MethodName := ⟨RJ19, "equals", "(Ljava/lang/Object;)Z"⟩
theorem dJ19_equals_0 : decode cJ19_equals 0 = .ok (.aload_n 0, 1) := by decide +kernel
theorem dJ19_equals_1 : decode cJ19_equals 1 = .ok (.aload_n 1, 1) := by decide +kernel
theorem dJ19_equals_2 : decode cJ19_equals 2 = .ok (.if_acmp .ne 7, 3) := by decide +kernel
theorem dJ19_equals_5 : decode cJ19_equals 5 = .ok (.iconst 1, 1) := by decide +kernel
theorem dJ19_equals_6 : decode cJ19_equals 6 = .ok (.goto 4, 3) := by decide +kernel
theorem dJ19_equals_9 : decode cJ19_equals 9 = .ok (.iconst 0, 1) := by decide +kernel
theorem dJ19_equals_10 : decode cJ19_equals 10 = .ok (.ireturn, 1) := by decide +kernel
theorem q210 : (Jvm.Cond.instanceMethod ({ cls := "java/lang/Object", name := "<init>", desc := "()V" } : Jvm.MethodName)) ∈ lw_all := lw_g (lw_at lw_m1 51 rfl) rfl
theorem q211 : (Jvm.Cond.code ({ cls := "java/lang/Object", name := "<init>", desc := "()V" } : Jvm.MethodName) object_method_1_code (1 : Nat) (Option.none : Option Jvm.ClassFile.FieldType)) ∈ lw_all := lw_g (lw_at lw_m1 52 rfl) rfl
theorem q643 : (Jvm.Cond.native ({ cls := "java/lang/Object", name := "clone", desc := "()Ljava/lang/Object;" } : Jvm.MethodName)) ∈ lw_all := lw_g (lw_at lw_m3 4 rfl) rfl
theorem q644 : (Jvm.Cond.instanceMethod ({ cls := "java/lang/Object", name := "clone", desc := "()Ljava/lang/Object;" } : Jvm.MethodName)) ∈ lw_all := lw_g (lw_at lw_m3 5 rfl) rfl
theorem q899 : (Jvm.Cond.instanceMethod ({ cls := "java/lang/Object", name := "getClass", desc := "()Ljava/lang/Class;" } : Jvm.MethodName)) ∈ lw_all := lw_g (lw_at lw_m4 20 rfl) rfl
theorem q900 : (Jvm.Cond.sameMethod "java/lang/Object" "java/lang/Object" "getClass" "()Ljava/lang/Class;") ∈ lw_all := lw_g (lw_at lw_m4 21 rfl) rfl
theorem q928 : (Jvm.Cond.native ({ cls := "java/lang/Object", name := "getClass", desc := "()Ljava/lang/Class;" } : Jvm.MethodName)) ∈ lw_all := lw_g (lw_at lw_m4 49 rfl) rfl
theorem q1397 : (Jvm.Cond.declares ({ cls := "java/lang/Object", name := "equals", desc := "(Ljava/lang/Object;)Z" } : Jvm.MethodName)) ∈ lw_tbl := lw_at lw_m6 38 rfl
theorem q1399 : (Jvm.Cond.instanceMethod ({ cls := "java/lang/Object", name := "equals", desc := "(Ljava/lang/Object;)Z" } : Jvm.MethodName)) ∈ lw_all := lw_g (lw_at lw_m6 40 rfl) rfl
theorem q1400 : (Jvm.Cond.sameMethod "java/lang/Object" "java/lang/Object" "equals" "(Ljava/lang/Object;)Z") ∈ lw_all := lw_g (lw_at lw_m6 41 rfl) rfl
theorem q1430 : (Jvm.Cond.code ({ cls := "java/lang/Object", name := "equals", desc := "(Ljava/lang/Object;)Z" } : Jvm.MethodName) object_method_4_code (2 : Nat) (Option.some Jvm.ClassFile.FieldType.boolean)) ∈ lw_all := lw_g (lw_at lw_m6 71 rfl) rfl
theorem q2723 : (Jvm.Cond.declares ({ cls := "java/lang/Object", name := "getClass", desc := "()Ljava/lang/Class;" } : Jvm.MethodName)) ∈ lw_tbl := lw_at lw_m11 164 rfl
/-! java/util/ArrayList -/
def RJ2 : String := "java/util/ArrayList"
def TJ2 : u_T := fun k => match k with
  | 0 => ("java/util/AbstractList", "modCount", "I", false)
  | 1 => ("java/util/ArrayList", "elementData", "[Ljava/lang/Object;", false)
  | _ => ("java/util/ArrayList", "size", "I", false)
def tyJ2 : Nat → FieldType := fun k => match k with
  | 0 => .int
  | 1 => .array (.object "java/lang/Object")
  | _ => .int
abbrev wsJ20 : List Cond := u_ws RJ2 TJ2 3
theorem nmJ2 : ∀ a, a < 3 → ∀ b, b < 3 → a ≠ b → (TJ2 a).2.1 ≠ (TJ2 b).2.1 := by decide +kernel
theorem tyJ2_ok : ∀ k, k < 3 → parseFieldDescriptor (TJ2 k).2.2.1 = some (tyJ2 k) := by decide +kernel
abbrev cJ2_init : ByteArray := prog_49_method_1_code
def yJ2_init : MethodName := ⟨RJ2, "<init>", "(I)V"⟩
theorem dJ2_init_0 : decode cJ2_init 0 = .ok (.aload_n 0, 1) := by decide +kernel
theorem dJ2_init_1 : decode cJ2_init 1 = .ok (.invokespecial 1, 3) := by decide +kernel
theorem dJ2_init_4 : decode cJ2_init 4 = .ok (.iload_n 1, 1) := by decide +kernel
theorem dJ2_init_5 : decode cJ2_init 5 = .ok (.ifCond .le 14, 3) := by decide +kernel
theorem dJ2_init_8 : decode cJ2_init 8 = .ok (.aload_n 0, 1) := by decide +kernel
theorem dJ2_init_9 : decode cJ2_init 9 = .ok (.iload_n 1, 1) := by decide +kernel
theorem dJ2_init_10 : decode cJ2_init 10 = .ok (.anewarray 7, 3) := by decide +kernel
theorem dJ2_init_13 : decode cJ2_init 13 = .ok (.putfield 9, 3) := by decide +kernel
theorem dJ2_init_16 : decode cJ2_init 16 = .ok (.goto 44, 3) := by decide +kernel
theorem dJ2_init_19 : decode cJ2_init 19 = .ok (.iload_n 1, 1) := by decide +kernel
theorem dJ2_init_20 : decode cJ2_init 20 = .ok (.ifCond .ne 13, 3) := by decide +kernel
theorem dJ2_init_23 : decode cJ2_init 23 = .ok (.aload_n 0, 1) := by decide +kernel
theorem dJ2_init_24 : decode cJ2_init 24 = .ok (.getstatic 15, 3) := by decide +kernel
theorem dJ2_init_27 : decode cJ2_init 27 = .ok (.putfield 9, 3) := by decide +kernel
theorem dJ2_init_30 : decode cJ2_init 30 = .ok (.goto 30, 3) := by decide +kernel
theorem dJ2_init_33 : decode cJ2_init 33 = .ok (.new 18, 3) := by decide +kernel
theorem dJ2_init_36 : decode cJ2_init 36 = .ok (.dup, 1) := by decide +kernel
theorem dJ2_init_37 : decode cJ2_init 37 = .ok (.new 20, 3) := by decide +kernel
theorem dJ2_init_40 : decode cJ2_init 40 = .ok (.dup, 1) := by decide +kernel
theorem dJ2_init_41 : decode cJ2_init 41 = .ok (.invokespecial 22, 3) := by decide +kernel
theorem dJ2_init_44 : decode cJ2_init 44 = .ok (.ldc 23, 2) := by decide +kernel
theorem dJ2_init_46 : decode cJ2_init 46 = .ok (.invokevirtual 25, 3) := by decide +kernel
theorem dJ2_init_49 : decode cJ2_init 49 = .ok (.iload_n 1, 1) := by decide +kernel
theorem dJ2_init_50 : decode cJ2_init 50 = .ok (.invokevirtual 29, 3) := by decide +kernel
theorem dJ2_init_53 : decode cJ2_init 53 = .ok (.invokevirtual 32, 3) := by decide +kernel
theorem dJ2_init_56 : decode cJ2_init 56 = .ok (.invokespecial 36, 3) := by decide +kernel
theorem dJ2_init_59 : decode cJ2_init 59 = .ok (.athrow, 1) := by decide +kernel
theorem dJ2_init_60 : decode cJ2_init 60 = .ok (.return_, 1) := by decide +kernel
abbrev cJ2_size : ByteArray := prog_49_method_8_code
def yJ2_size : MethodName := ⟨RJ2, "size", "()I"⟩
theorem dJ2_size_0 : decode cJ2_size 0 = .ok (.aload_n 0, 1) := by decide +kernel
theorem dJ2_size_1 : decode cJ2_size 1 = .ok (.getfield 48, 3) := by decide +kernel
theorem dJ2_size_4 : decode cJ2_size 4 = .ok (.ireturn, 1) := by decide +kernel
abbrev cJ2_add : ByteArray := prog_49_method_25_code
def yJ2_add : MethodName := ⟨RJ2, "add", "(Ljava/lang/Object;)Z"⟩
theorem dJ2_add_0 : decode cJ2_add 0 = .ok (.aload_n 0, 1) := by decide +kernel
theorem dJ2_add_1 : decode cJ2_add 1 = .ok (.dup, 1) := by decide +kernel
theorem dJ2_add_2 : decode cJ2_add 2 = .ok (.getfield 63, 3) := by decide +kernel
theorem dJ2_add_5 : decode cJ2_add 5 = .ok (.iconst 1, 1) := by decide +kernel
theorem dJ2_add_6 : decode cJ2_add 6 = .ok (.iadd, 1) := by decide +kernel
theorem dJ2_add_7 : decode cJ2_add 7 = .ok (.putfield 63, 3) := by decide +kernel
theorem dJ2_add_10 : decode cJ2_add 10 = .ok (.aload_n 0, 1) := by decide +kernel
theorem dJ2_add_11 : decode cJ2_add 11 = .ok (.aload_n 1, 1) := by decide +kernel
theorem dJ2_add_12 : decode cJ2_add 12 = .ok (.aload_n 0, 1) := by decide +kernel
theorem dJ2_add_13 : decode cJ2_add 13 = .ok (.getfield 9, 3) := by decide +kernel
theorem dJ2_add_16 : decode cJ2_add 16 = .ok (.aload_n 0, 1) := by decide +kernel
theorem dJ2_add_17 : decode cJ2_add 17 = .ok (.getfield 48, 3) := by decide +kernel
theorem dJ2_add_20 : decode cJ2_add 20 = .ok (.invokevirtual 131, 3) := by decide +kernel
theorem dJ2_add_23 : decode cJ2_add 23 = .ok (.iconst 1, 1) := by decide +kernel
theorem dJ2_add_24 : decode cJ2_add 24 = .ok (.ireturn, 1) := by decide +kernel
abbrev cJ2_add_2 : ByteArray := prog_49_method_24_code
def yJ2_add_2 : MethodName := ⟨RJ2, "add", "(Ljava/lang/Object;[Ljava/lang/Object;I)V"⟩
theorem dJ2_add_2_0 : decode cJ2_add_2 0 = .ok (.iload_n 3, 1) := by decide +kernel
theorem dJ2_add_2_1 : decode cJ2_add_2 1 = .ok (.aload_n 2, 1) := by decide +kernel
theorem dJ2_add_2_2 : decode cJ2_add_2 2 = .ok (.arraylength, 1) := by decide +kernel
theorem dJ2_add_2_3 : decode cJ2_add_2 3 = .ok (.if_icmp .ne 8, 3) := by decide +kernel
theorem dJ2_add_2_6 : decode cJ2_add_2 6 = .ok (.aload_n 0, 1) := by decide +kernel
theorem dJ2_add_2_7 : decode cJ2_add_2 7 = .ok (.invokevirtual 129, 3) := by decide +kernel
theorem dJ2_add_2_10 : decode cJ2_add_2 10 = .ok (.astore_n 2, 1) := by decide +kernel
theorem dJ2_add_2_11 : decode cJ2_add_2 11 = .ok (.aload_n 2, 1) := by decide +kernel
theorem dJ2_add_2_12 : decode cJ2_add_2 12 = .ok (.iload_n 3, 1) := by decide +kernel
theorem dJ2_add_2_13 : decode cJ2_add_2 13 = .ok (.aload_n 1, 1) := by decide +kernel
theorem dJ2_add_2_14 : decode cJ2_add_2 14 = .ok (.aastore, 1) := by decide +kernel
theorem dJ2_add_2_15 : decode cJ2_add_2 15 = .ok (.aload_n 0, 1) := by decide +kernel
theorem dJ2_add_2_16 : decode cJ2_add_2 16 = .ok (.iload_n 3, 1) := by decide +kernel
theorem dJ2_add_2_17 : decode cJ2_add_2 17 = .ok (.iconst 1, 1) := by decide +kernel
theorem dJ2_add_2_18 : decode cJ2_add_2 18 = .ok (.iadd, 1) := by decide +kernel
theorem dJ2_add_2_19 : decode cJ2_add_2 19 = .ok (.putfield 48, 3) := by decide +kernel
theorem dJ2_add_2_22 : decode cJ2_add_2 22 = .ok (.return_, 1) := by decide +kernel
abbrev cJ2_grow : ByteArray := prog_49_method_7_code
def yJ2_grow : MethodName := ⟨RJ2, "grow", "()[Ljava/lang/Object;"⟩
theorem dJ2_grow_0 : decode cJ2_grow 0 = .ok (.aload_n 0, 1) := by decide +kernel
theorem dJ2_grow_1 : decode cJ2_grow 1 = .ok (.aload_n 0, 1) := by decide +kernel
theorem dJ2_grow_2 : decode cJ2_grow 2 = .ok (.getfield 48, 3) := by decide +kernel
theorem dJ2_grow_5 : decode cJ2_grow 5 = .ok (.iconst 1, 1) := by decide +kernel
theorem dJ2_grow_6 : decode cJ2_grow 6 = .ok (.iadd, 1) := by decide +kernel
theorem dJ2_grow_7 : decode cJ2_grow 7 = .ok (.invokevirtual 69, 3) := by decide +kernel
theorem dJ2_grow_10 : decode cJ2_grow 10 = .ok (.areturn, 1) := by decide +kernel
abbrev cJ2_grow_2 : ByteArray := prog_49_method_6_code
def yJ2_grow_2 : MethodName := ⟨RJ2, "grow", "(I)[Ljava/lang/Object;"⟩
theorem dJ2_grow_2_0 : decode cJ2_grow_2 0 = .ok (.aload_n 0, 1) := by decide +kernel
theorem dJ2_grow_2_1 : decode cJ2_grow_2 1 = .ok (.getfield 9, 3) := by decide +kernel
theorem dJ2_grow_2_4 : decode cJ2_grow_2 4 = .ok (.arraylength, 1) := by decide +kernel
theorem dJ2_grow_2_5 : decode cJ2_grow_2 5 = .ok (.istore_n 2, 1) := by decide +kernel
theorem dJ2_grow_2_6 : decode cJ2_grow_2 6 = .ok (.iload_n 2, 1) := by decide +kernel
theorem dJ2_grow_2_7 : decode cJ2_grow_2 7 = .ok (.ifCond .gt 13, 3) := by decide +kernel
theorem dJ2_grow_2_10 : decode cJ2_grow_2 10 = .ok (.aload_n 0, 1) := by decide +kernel
theorem dJ2_grow_2_11 : decode cJ2_grow_2 11 = .ok (.getfield 9, 3) := by decide +kernel
theorem dJ2_grow_2_14 : decode cJ2_grow_2 14 = .ok (.getstatic 39, 3) := by decide +kernel
theorem dJ2_grow_2_17 : decode cJ2_grow_2 17 = .ok (.if_acmp .eq 28, 3) := by decide +kernel
theorem dJ2_grow_2_20 : decode cJ2_grow_2 20 = .ok (.iload_n 2, 1) := by decide +kernel
theorem dJ2_grow_2_21 : decode cJ2_grow_2 21 = .ok (.iload_n 1, 1) := by decide +kernel
theorem dJ2_grow_2_22 : decode cJ2_grow_2 22 = .ok (.iload_n 2, 1) := by decide +kernel
theorem dJ2_grow_2_23 : decode cJ2_grow_2 23 = .ok (.isub, 1) := by decide +kernel
theorem dJ2_grow_2_24 : decode cJ2_grow_2 24 = .ok (.iload_n 2, 1) := by decide +kernel
theorem dJ2_grow_2_25 : decode cJ2_grow_2 25 = .ok (.iconst 1, 1) := by decide +kernel
theorem dJ2_grow_2_26 : decode cJ2_grow_2 26 = .ok (.ishr, 1) := by decide +kernel
theorem dJ2_grow_2_27 : decode cJ2_grow_2 27 = .ok (.invokestatic 73, 3) := by decide +kernel
theorem dJ2_grow_2_30 : decode cJ2_grow_2 30 = .ok (.istore_n 3, 1) := by decide +kernel
theorem dJ2_grow_2_31 : decode cJ2_grow_2 31 = .ok (.aload_n 0, 1) := by decide +kernel
theorem dJ2_grow_2_32 : decode cJ2_grow_2 32 = .ok (.aload_n 0, 1) := by decide +kernel
theorem dJ2_grow_2_33 : decode cJ2_grow_2 33 = .ok (.getfield 9, 3) := by decide +kernel
theorem dJ2_grow_2_36 : decode cJ2_grow_2 36 = .ok (.iload_n 3, 1) := by decide +kernel
theorem dJ2_grow_2_37 : decode cJ2_grow_2 37 = .ok (.invokestatic 66, 3) := by decide +kernel
theorem dJ2_grow_2_40 : decode cJ2_grow_2 40 = .ok (.dup_x1, 1) := by decide +kernel
theorem dJ2_grow_2_41 : decode cJ2_grow_2 41 = .ok (.putfield 9, 3) := by decide +kernel
theorem dJ2_grow_2_44 : decode cJ2_grow_2 44 = .ok (.areturn, 1) := by decide +kernel
theorem dJ2_grow_2_45 : decode cJ2_grow_2 45 = .ok (.aload_n 0, 1) := by decide +kernel
theorem dJ2_grow_2_46 : decode cJ2_grow_2 46 = .ok (.bipush 10, 2) := by decide +kernel
theorem dJ2_grow_2_48 : decode cJ2_grow_2 48 = .ok (.iload_n 1, 1) := by decide +kernel
theorem dJ2_grow_2_49 : decode cJ2_grow_2 49 = .ok (.invokestatic 79, 3) := by decide +kernel
theorem dJ2_grow_2_52 : decode cJ2_grow_2 52 = .ok (.anewarray 7, 3) := by decide +kernel
theorem dJ2_grow_2_55 : decode cJ2_grow_2 55 = .ok (.dup_x1, 1) := by decide +kernel
theorem dJ2_grow_2_56 : decode cJ2_grow_2 56 = .ok (.putfield 9, 3) := by decide +kernel
theorem dJ2_grow_2_59 : decode cJ2_grow_2 59 = .ok (.areturn, 1) := by decide +kernel
abbrev cJ2_get : ByteArray := prog_49_method_20_code
def yJ2_get : MethodName := ⟨RJ2, "get", "(I)Ljava/lang/Object;"⟩
theorem dJ2_get_0 : decode cJ2_get 0 = .ok (.iload_n 1, 1) := by decide +kernel
theorem dJ2_get_1 : decode cJ2_get 1 = .ok (.aload_n 0, 1) := by decide +kernel
theorem dJ2_get_2 : decode cJ2_get 2 = .ok (.getfield 48, 3) := by decide +kernel
theorem dJ2_get_5 : decode cJ2_get 5 = .ok (.invokestatic 118, 3) := by decide +kernel
theorem dJ2_get_8 : decode cJ2_get 8 = .ok (.pop, 1) := by decide +kernel
theorem dJ2_get_9 : decode cJ2_get 9 = .ok (.aload_n 0, 1) := by decide +kernel
theorem dJ2_get_10 : decode cJ2_get 10 = .ok (.iload_n 1, 1) := by decide +kernel
theorem dJ2_get_11 : decode cJ2_get 11 = .ok (.invokevirtual 123, 3) := by decide +kernel
theorem dJ2_get_14 : decode cJ2_get 14 = .ok (.areturn, 1) := by decide +kernel
abbrev cJ2_elementData : ByteArray := prog_49_method_18_code
def yJ2_elementData : MethodName := ⟨RJ2, "elementData", "(I)Ljava/lang/Object;"⟩
theorem dJ2_elementData_0 : decode cJ2_elementData 0 = .ok (.aload_n 0, 1) := by decide +kernel
theorem dJ2_elementData_1 : decode cJ2_elementData 1 = .ok (.getfield 9, 3) := by decide +kernel
theorem dJ2_elementData_4 : decode cJ2_elementData 4 = .ok (.iload_n 1, 1) := by decide +kernel
theorem dJ2_elementData_5 : decode cJ2_elementData 5 = .ok (.aaload, 1) := by decide +kernel
theorem dJ2_elementData_6 : decode cJ2_elementData 6 = .ok (.areturn, 1) := by decide +kernel
abbrev cJ2_indexOf : ByteArray := prog_49_method_11_code
def yJ2_indexOf : MethodName := ⟨RJ2, "indexOf", "(Ljava/lang/Object;)I"⟩
theorem dJ2_indexOf_0 : decode cJ2_indexOf 0 = .ok (.aload_n 0, 1) := by decide +kernel
theorem dJ2_indexOf_1 : decode cJ2_indexOf 1 = .ok (.aload_n 1, 1) := by decide +kernel
theorem dJ2_indexOf_2 : decode cJ2_indexOf 2 = .ok (.iconst 0, 1) := by decide +kernel
theorem dJ2_indexOf_3 : decode cJ2_indexOf 3 = .ok (.aload_n 0, 1) := by decide +kernel
theorem dJ2_indexOf_4 : decode cJ2_indexOf 4 = .ok (.getfield 48, 3) := by decide +kernel
theorem dJ2_indexOf_7 : decode cJ2_indexOf 7 = .ok (.invokevirtual 89, 3) := by decide +kernel
theorem dJ2_indexOf_10 : decode cJ2_indexOf 10 = .ok (.ireturn, 1) := by decide +kernel
abbrev cJ2_indexOfRange : ByteArray := prog_49_method_12_code
def yJ2_indexOfRange : MethodName := ⟨RJ2, "indexOfRange", "(Ljava/lang/Object;II)I"⟩
theorem dJ2_indexOfRange_0 : decode cJ2_indexOfRange 0 = .ok (.aload_n 0, 1) := by decide +kernel
theorem dJ2_indexOfRange_1 : decode cJ2_indexOfRange 1 = .ok (.getfield 9, 3) := by decide +kernel
theorem dJ2_indexOfRange_4 : decode cJ2_indexOfRange 4 = .ok (.astore 4, 2) := by decide +kernel
theorem dJ2_indexOfRange_6 : decode cJ2_indexOfRange 6 = .ok (.aload_n 1, 1) := by decide +kernel
theorem dJ2_indexOfRange_7 : decode cJ2_indexOfRange 7 = .ok (.ifnonnull 32, 3) := by decide +kernel
theorem dJ2_indexOfRange_10 : decode cJ2_indexOfRange 10 = .ok (.iload_n 2, 1) := by decide +kernel
theorem dJ2_indexOfRange_11 : decode cJ2_indexOfRange 11 = .ok (.istore 5, 2) := by decide +kernel
theorem dJ2_indexOfRange_13 : decode cJ2_indexOfRange 13 = .ok (.iload 5, 2) := by decide +kernel
theorem dJ2_indexOfRange_15 : decode cJ2_indexOfRange 15 = .ok (.iload_n 3, 1) := by decide +kernel
theorem dJ2_indexOfRange_16 : decode cJ2_indexOfRange 16 = .ok (.if_icmp .ge 20, 3) := by decide +kernel
theorem dJ2_indexOfRange_19 : decode cJ2_indexOfRange 19 = .ok (.aload 4, 2) := by decide +kernel
theorem dJ2_indexOfRange_21 : decode cJ2_indexOfRange 21 = .ok (.iload 5, 2) := by decide +kernel
theorem dJ2_indexOfRange_23 : decode cJ2_indexOfRange 23 = .ok (.aaload, 1) := by decide +kernel
theorem dJ2_indexOfRange_24 : decode cJ2_indexOfRange 24 = .ok (.ifnonnull 6, 3) := by decide +kernel
theorem dJ2_indexOfRange_27 : decode cJ2_indexOfRange 27 = .ok (.iload 5, 2) := by decide +kernel
theorem dJ2_indexOfRange_29 : decode cJ2_indexOfRange 29 = .ok (.ireturn, 1) := by decide +kernel
theorem dJ2_indexOfRange_30 : decode cJ2_indexOfRange 30 = .ok (.iinc 5 1, 3) := by decide +kernel
theorem dJ2_indexOfRange_33 : decode cJ2_indexOfRange 33 = .ok (.goto (-20), 3) := by decide +kernel
theorem dJ2_indexOfRange_36 : decode cJ2_indexOfRange 36 = .ok (.goto 33, 3) := by decide +kernel
theorem dJ2_indexOfRange_39 : decode cJ2_indexOfRange 39 = .ok (.iload_n 2, 1) := by decide +kernel
theorem dJ2_indexOfRange_40 : decode cJ2_indexOfRange 40 = .ok (.istore 5, 2) := by decide +kernel
theorem dJ2_indexOfRange_42 : decode cJ2_indexOfRange 42 = .ok (.iload 5, 2) := by decide +kernel
theorem dJ2_indexOfRange_44 : decode cJ2_indexOfRange 44 = .ok (.iload_n 3, 1) := by decide +kernel
theorem dJ2_indexOfRange_45 : decode cJ2_indexOfRange 45 = .ok (.if_icmp .ge 24, 3) := by decide +kernel
theorem dJ2_indexOfRange_48 : decode cJ2_indexOfRange 48 = .ok (.aload_n 1, 1) := by decide +kernel
theorem dJ2_indexOfRange_49 : decode cJ2_indexOfRange 49 = .ok (.aload 4, 2) := by decide +kernel
theorem dJ2_indexOfRange_51 : decode cJ2_indexOfRange 51 = .ok (.iload 5, 2) := by decide +kernel
theorem dJ2_indexOfRange_53 : decode cJ2_indexOfRange 53 = .ok (.aaload, 1) := by decide +kernel
theorem dJ2_indexOfRange_54 : decode cJ2_indexOfRange 54 = .ok (.invokevirtual 93, 3) := by decide +kernel
theorem dJ2_indexOfRange_57 : decode cJ2_indexOfRange 57 = .ok (.ifCond .eq 6, 3) := by decide +kernel
theorem dJ2_indexOfRange_60 : decode cJ2_indexOfRange 60 = .ok (.iload 5, 2) := by decide +kernel
theorem dJ2_indexOfRange_62 : decode cJ2_indexOfRange 62 = .ok (.ireturn, 1) := by decide +kernel
theorem dJ2_indexOfRange_63 : decode cJ2_indexOfRange 63 = .ok (.iinc 5 1, 3) := by decide +kernel
theorem dJ2_indexOfRange_66 : decode cJ2_indexOfRange 66 = .ok (.goto (-24), 3) := by decide +kernel
theorem dJ2_indexOfRange_69 : decode cJ2_indexOfRange 69 = .ok (.iconst (-1), 1) := by decide +kernel
theorem dJ2_indexOfRange_70 : decode cJ2_indexOfRange 70 = .ok (.ireturn, 1) := by decide +kernel
abbrev cJ2_contains : ByteArray := prog_49_method_10_code
def yJ2_contains : MethodName := ⟨RJ2, "contains", "(Ljava/lang/Object;)Z"⟩
theorem dJ2_contains_0 : decode cJ2_contains 0 = .ok (.aload_n 0, 1) := by decide +kernel
theorem dJ2_contains_1 : decode cJ2_contains 1 = .ok (.aload_n 1, 1) := by decide +kernel
theorem dJ2_contains_2 : decode cJ2_contains 2 = .ok (.invokevirtual 85, 3) := by decide +kernel
theorem dJ2_contains_5 : decode cJ2_contains 5 = .ok (.ifCond .lt 7, 3) := by decide +kernel
theorem dJ2_contains_8 : decode cJ2_contains 8 = .ok (.iconst 1, 1) := by decide +kernel
theorem dJ2_contains_9 : decode cJ2_contains 9 = .ok (.goto 4, 3) := by decide +kernel
theorem dJ2_contains_12 : decode cJ2_contains 12 = .ok (.iconst 0, 1) := by decide +kernel
theorem dJ2_contains_13 : decode cJ2_contains 13 = .ok (.ireturn, 1) := by decide +kernel
abbrev cJ2_isEmpty : ByteArray := prog_49_method_9_code
def yJ2_isEmpty : MethodName := ⟨RJ2, "isEmpty", "()Z"⟩
theorem dJ2_isEmpty_0 : decode cJ2_isEmpty 0 = .ok (.aload_n 0, 1) := by decide +kernel
theorem dJ2_isEmpty_1 : decode cJ2_isEmpty 1 = .ok (.getfield 48, 3) := by decide +kernel
theorem dJ2_isEmpty_4 : decode cJ2_isEmpty 4 = .ok (.ifCond .ne 7, 3) := by decide +kernel
theorem dJ2_isEmpty_7 : decode cJ2_isEmpty 7 = .ok (.iconst 1, 1) := by decide +kernel
theorem dJ2_isEmpty_8 : decode cJ2_isEmpty 8 = .ok (.goto 4, 3) := by decide +kernel
theorem dJ2_isEmpty_11 : decode cJ2_isEmpty 11 = .ok (.iconst 0, 1) := by decide +kernel
theorem dJ2_isEmpty_12 : decode cJ2_isEmpty 12 = .ok (.ireturn, 1) := by decide +kernel
abbrev cJ2_clear : ByteArray := prog_49_method_40_code
def yJ2_clear : MethodName := ⟨RJ2, "clear", "()V"⟩
theorem dJ2_clear_0 : decode cJ2_clear 0 = .ok (.aload_n 0, 1) := by decide +kernel
theorem dJ2_clear_1 : decode cJ2_clear 1 = .ok (.dup, 1) := by decide +kernel
theorem dJ2_clear_2 : decode cJ2_clear 2 = .ok (.getfield 63, 3) := by decide +kernel
theorem dJ2_clear_5 : decode cJ2_clear 5 = .ok (.iconst 1, 1) := by decide +kernel
theorem dJ2_clear_6 : decode cJ2_clear 6 = .ok (.iadd, 1) := by decide +kernel
theorem dJ2_clear_7 : decode cJ2_clear 7 = .ok (.putfield 63, 3) := by decide +kernel
theorem dJ2_clear_10 : decode cJ2_clear 10 = .ok (.aload_n 0, 1) := by decide +kernel
theorem dJ2_clear_11 : decode cJ2_clear 11 = .ok (.getfield 9, 3) := by decide +kernel
theorem dJ2_clear_14 : decode cJ2_clear 14 = .ok (.astore_n 1, 1) := by decide +kernel
theorem dJ2_clear_15 : decode cJ2_clear 15 = .ok (.aload_n 0, 1) := by decide +kernel
theorem dJ2_clear_16 : decode cJ2_clear 16 = .ok (.getfield 48, 3) := by decide +kernel
theorem dJ2_clear_19 : decode cJ2_clear 19 = .ok (.istore_n 2, 1) := by decide +kernel
theorem dJ2_clear_20 : decode cJ2_clear 20 = .ok (.aload_n 0, 1) := by decide +kernel
theorem dJ2_clear_21 : decode cJ2_clear 21 = .ok (.iconst 0, 1) := by decide +kernel
theorem dJ2_clear_22 : decode cJ2_clear 22 = .ok (.dup_x1, 1) := by decide +kernel
theorem dJ2_clear_23 : decode cJ2_clear 23 = .ok (.putfield 48, 3) := by decide +kernel
theorem dJ2_clear_26 : decode cJ2_clear 26 = .ok (.istore_n 3, 1) := by decide +kernel
theorem dJ2_clear_27 : decode cJ2_clear 27 = .ok (.iload_n 3, 1) := by decide +kernel
theorem dJ2_clear_28 : decode cJ2_clear 28 = .ok (.iload_n 2, 1) := by decide +kernel
theorem dJ2_clear_29 : decode cJ2_clear 29 = .ok (.if_icmp .ge 13, 3) := by decide +kernel
theorem dJ2_clear_32 : decode cJ2_clear 32 = .ok (.aload_n 1, 1) := by decide +kernel
theorem dJ2_clear_33 : decode cJ2_clear 33 = .ok (.iload_n 3, 1) := by decide +kernel
theorem dJ2_clear_34 : decode cJ2_clear 34 = .ok (.aconst_null, 1) := by decide +kernel
theorem dJ2_clear_35 : decode cJ2_clear 35 = .ok (.aastore, 1) := by decide +kernel
theorem dJ2_clear_36 : decode cJ2_clear 36 = .ok (.iinc 3 1, 3) := by decide +kernel
theorem dJ2_clear_39 : decode cJ2_clear 39 = .ok (.goto (-12), 3) := by decide +kernel
theorem dJ2_clear_42 : decode cJ2_clear 42 = .ok (.return_, 1) := by decide +kernel
theorem q164 : (Jvm.Cond.initialized "java/util/ArrayList") ∈ lw_all := lw_g (lw_at lw_m1 5 rfl) rfl
theorem q251 : (Jvm.Cond.instantiable "java/util/ArrayList" (3 : Nat)) ∈ lw_all := lw_g (lw_at lw_m1 92 rfl) rfl
theorem q253 : (Jvm.Cond.instanceMethod ({ cls := "java/util/ArrayList", name := "<init>", desc := "(I)V" } : Jvm.MethodName)) ∈ lw_all := lw_g (lw_at lw_m1 94 rfl) rfl
theorem q254 : (Jvm.Cond.code ({ cls := "java/util/ArrayList", name := "<init>", desc := "(I)V" } : Jvm.MethodName) prog_49_method_1_code (2 : Nat) (Option.none : Option Jvm.ClassFile.FieldType)) ∈ lw_all := lw_g (lw_at lw_m1 95 rfl) rfl
theorem q255 : (Jvm.Cond.methodLink "java/util/ArrayList" (1 : Nat) ({ cls := "java/util/AbstractList", name := "<init>", desc := "()V" } : Jvm.MethodName)) ∈ lw_all := lw_g (lw_at lw_m1 96 rfl) rfl
theorem q262 : (Jvm.Cond.classLink "java/util/ArrayList" (7 : Nat) "java/lang/Object") ∈ lw_all := lw_g (lw_at lw_m1 103 rfl) rfl
theorem q264 : (Jvm.Cond.fieldLink "java/util/ArrayList" (15 : Nat) "java/util/ArrayList" "EMPTY_ELEMENTDATA" "[Ljava/lang/Object;") ∈ lw_all := lw_g (lw_at lw_m1 105 rfl) rfl
theorem q265 : (Jvm.Cond.laysStatic "java/util/ArrayList" "EMPTY_ELEMENTDATA" "[Ljava/lang/Object;") ∈ lw_tbl := lw_at lw_m1 106 rfl
theorem q266 : (Jvm.Cond.fieldLink "java/util/ArrayList" (9 : Nat) "java/util/ArrayList" "elementData" "[Ljava/lang/Object;") ∈ lw_all := lw_g (lw_at lw_m1 107 rfl) rfl
theorem q267 : (Jvm.Cond.fieldLink "java/util/ArrayList" (48 : Nat) "java/util/ArrayList" "size" "I") ∈ lw_all := lw_g (lw_at lw_m1 108 rfl) rfl
theorem q269 : (Jvm.Cond.fieldLink "java/util/ArrayList" (63 : Nat) "java/util/ArrayList" "modCount" "I") ∈ lw_all := lw_g (lw_at lw_m1 110 rfl) rfl
theorem q270 : (Jvm.Cond.sameField "java/util/ArrayList" "java/util/AbstractList" "modCount" "I") ∈ lw_all := lw_g (lw_at lw_m1 111 rfl) rfl
theorem q271 : (Jvm.Cond.lays "java/util/ArrayList" "java/util/ArrayList" "elementData" "[Ljava/lang/Object;") ∈ lw_all := lw_g (lw_at lw_m1 112 rfl) rfl
theorem q272 : (Jvm.Cond.soleField "java/util/ArrayList" "elementData") ∈ lw_all := lw_g (lw_at lw_m1 113 rfl) rfl
theorem q273 : (Jvm.Cond.lays "java/util/ArrayList" "java/util/ArrayList" "size" "I") ∈ lw_all := lw_g (lw_at lw_m1 114 rfl) rfl
theorem q274 : (Jvm.Cond.soleField "java/util/ArrayList" "size") ∈ lw_all := lw_g (lw_at lw_m1 115 rfl) rfl
theorem q275 : (Jvm.Cond.lays "java/util/ArrayList" "java/util/AbstractList" "modCount" "I") ∈ lw_all := lw_g (lw_at lw_m1 116 rfl) rfl
theorem q277 : (Jvm.Cond.superclass "java/util/ArrayList" "java/util/AbstractList") ∈ lw_all := lw_g (lw_at lw_m1 118 rfl) rfl
theorem q486 : (Jvm.Cond.instanceMethod ({ cls := "java/util/ArrayList", name := "size", desc := "()I" } : Jvm.MethodName)) ∈ lw_all := lw_g (lw_at lw_m2 87 rfl) rfl
theorem q487 : (Jvm.Cond.selects "java/util/ArrayList" ({ cls := "java/util/ArrayList", name := "size", desc := "()I" } : Jvm.MethodName) ({ cls := "java/util/ArrayList", name := "size", desc := "()I" } : Jvm.MethodName)) ∈ lw_all := lw_g (lw_at lw_m2 88 rfl) rfl
theorem q488 : (Jvm.Cond.code ({ cls := "java/util/ArrayList", name := "size", desc := "()I" } : Jvm.MethodName) prog_49_method_8_code (1 : Nat) (Option.some Jvm.ClassFile.FieldType.int)) ∈ lw_all := lw_g (lw_at lw_m2 89 rfl) rfl
theorem q877 : (Jvm.Cond.instanceMethod ({ cls := "java/util/ArrayList", name := "add", desc := "(Ljava/lang/Object;)Z" } : Jvm.MethodName)) ∈ lw_all := lw_g (lw_at lw_m3 238 rfl) rfl
theorem q878 : (Jvm.Cond.selects "java/util/ArrayList" ({ cls := "java/util/ArrayList", name := "add", desc := "(Ljava/lang/Object;)Z" } : Jvm.MethodName) ({ cls := "java/util/ArrayList", name := "add", desc := "(Ljava/lang/Object;)Z" } : Jvm.MethodName)) ∈ lw_all := lw_g (lw_at lw_m3 239 rfl) rfl
theorem q879 : (Jvm.Cond.code ({ cls := "java/util/ArrayList", name := "add", desc := "(Ljava/lang/Object;)Z" } : Jvm.MethodName) prog_49_method_25_code (2 : Nat) (Option.some Jvm.ClassFile.FieldType.boolean)) ∈ lw_all := lw_g (lw_at lw_m4 0 rfl) rfl
theorem q880 : (Jvm.Cond.methodLink "java/util/ArrayList" (131 : Nat) ({ cls := "java/util/ArrayList", name := "add", desc := "(Ljava/lang/Object;[Ljava/lang/Object;I)V" } : Jvm.MethodName)) ∈ lw_all := lw_g (lw_at lw_m4 1 rfl) rfl
theorem q881 : (Jvm.Cond.privateMethod ({ cls := "java/util/ArrayList", name := "add", desc := "(Ljava/lang/Object;[Ljava/lang/Object;I)V" } : Jvm.MethodName)) ∈ lw_tbl := lw_at lw_m4 2 rfl
theorem q882 : (Jvm.Cond.instanceMethod ({ cls := "java/util/ArrayList", name := "add", desc := "(Ljava/lang/Object;[Ljava/lang/Object;I)V" } : Jvm.MethodName)) ∈ lw_all := lw_g (lw_at lw_m4 3 rfl) rfl
theorem q883 : (Jvm.Cond.code ({ cls := "java/util/ArrayList", name := "add", desc := "(Ljava/lang/Object;[Ljava/lang/Object;I)V" } : Jvm.MethodName) prog_49_method_24_code (4 : Nat) (Option.none : Option Jvm.ClassFile.FieldType)) ∈ lw_all := lw_g (lw_at lw_m4 4 rfl) rfl
theorem q884 : (Jvm.Cond.methodLink "java/util/ArrayList" (129 : Nat) ({ cls := "java/util/ArrayList", name := "grow", desc := "()[Ljava/lang/Object;" } : Jvm.MethodName)) ∈ lw_all := lw_g (lw_at lw_m4 5 rfl) rfl
theorem q885 : (Jvm.Cond.privateMethod ({ cls := "java/util/ArrayList", name := "grow", desc := "()[Ljava/lang/Object;" } : Jvm.MethodName)) ∈ lw_tbl := lw_at lw_m4 6 rfl
theorem q886 : (Jvm.Cond.instanceMethod ({ cls := "java/util/ArrayList", name := "grow", desc := "()[Ljava/lang/Object;" } : Jvm.MethodName)) ∈ lw_all := lw_g (lw_at lw_m4 7 rfl) rfl
theorem q887 : (Jvm.Cond.code ({ cls := "java/util/ArrayList", name := "grow", desc := "()[Ljava/lang/Object;" } : Jvm.MethodName) prog_49_method_7_code (1 : Nat) (Option.some (Jvm.ClassFile.FieldType.array (Jvm.ClassFile.FieldType.object "java/lang/Object")))) ∈ lw_all := lw_g (lw_at lw_m4 8 rfl) rfl
theorem q888 : (Jvm.Cond.methodLink "java/util/ArrayList" (69 : Nat) ({ cls := "java/util/ArrayList", name := "grow", desc := "(I)[Ljava/lang/Object;" } : Jvm.MethodName)) ∈ lw_all := lw_g (lw_at lw_m4 9 rfl) rfl
theorem q889 : (Jvm.Cond.privateMethod ({ cls := "java/util/ArrayList", name := "grow", desc := "(I)[Ljava/lang/Object;" } : Jvm.MethodName)) ∈ lw_tbl := lw_at lw_m4 10 rfl
theorem q890 : (Jvm.Cond.instanceMethod ({ cls := "java/util/ArrayList", name := "grow", desc := "(I)[Ljava/lang/Object;" } : Jvm.MethodName)) ∈ lw_all := lw_g (lw_at lw_m4 11 rfl) rfl
theorem q891 : (Jvm.Cond.code ({ cls := "java/util/ArrayList", name := "grow", desc := "(I)[Ljava/lang/Object;" } : Jvm.MethodName) prog_49_method_6_code (4 : Nat) (Option.some (Jvm.ClassFile.FieldType.array (Jvm.ClassFile.FieldType.object "java/lang/Object")))) ∈ lw_all := lw_g (lw_at lw_m4 12 rfl) rfl
theorem q892 : (Jvm.Cond.fieldLink "java/util/ArrayList" (39 : Nat) "java/util/ArrayList" "DEFAULTCAPACITY_EMPTY_ELEMENTDATA" "[Ljava/lang/Object;") ∈ lw_all := lw_g (lw_at lw_m4 13 rfl) rfl
theorem q893 : (Jvm.Cond.laysStatic "java/util/ArrayList" "DEFAULTCAPACITY_EMPTY_ELEMENTDATA" "[Ljava/lang/Object;") ∈ lw_tbl := lw_at lw_m4 14 rfl
theorem q894 : (Jvm.Cond.methodLink "java/util/ArrayList" (73 : Nat) ({ cls := "jdk/internal/util/ArraysSupport", name := "newLength", desc := "(III)I" } : Jvm.MethodName)) ∈ lw_all := lw_g (lw_at lw_m4 15 rfl) rfl
theorem q895 : (Jvm.Cond.methodLink "java/util/ArrayList" (66 : Nat) ({ cls := "java/util/Arrays", name := "copyOf", desc := "([Ljava/lang/Object;I)[Ljava/lang/Object;" } : Jvm.MethodName)) ∈ lw_all := lw_g (lw_at lw_m4 16 rfl) rfl
theorem q927 : (Jvm.Cond.selects "java/util/ArrayList" ({ cls := "java/lang/Object", name := "getClass", desc := "()Ljava/lang/Class;" } : Jvm.MethodName) ({ cls := "java/lang/Object", name := "getClass", desc := "()Ljava/lang/Class;" } : Jvm.MethodName)) ∈ lw_all := lw_g (lw_at lw_m4 48 rfl) rfl
theorem q934 : (Jvm.Cond.methodLink "java/util/ArrayList" (79 : Nat) ({ cls := "java/lang/Math", name := "max", desc := "(II)I" } : Jvm.MethodName)) ∈ lw_all := lw_g (lw_at lw_m4 55 rfl) rfl
theorem q1201 : (Jvm.Cond.instanceMethod ({ cls := "java/util/ArrayList", name := "get", desc := "(I)Ljava/lang/Object;" } : Jvm.MethodName)) ∈ lw_all := lw_g (lw_at lw_m5 82 rfl) rfl
theorem q1202 : (Jvm.Cond.selects "java/util/ArrayList" ({ cls := "java/util/ArrayList", name := "get", desc := "(I)Ljava/lang/Object;" } : Jvm.MethodName) ({ cls := "java/util/ArrayList", name := "get", desc := "(I)Ljava/lang/Object;" } : Jvm.MethodName)) ∈ lw_all := lw_g (lw_at lw_m5 83 rfl) rfl
theorem q1203 : (Jvm.Cond.code ({ cls := "java/util/ArrayList", name := "get", desc := "(I)Ljava/lang/Object;" } : Jvm.MethodName) prog_49_method_20_code (2 : Nat) (Option.some (Jvm.ClassFile.FieldType.object "java/lang/Object"))) ∈ lw_all := lw_g (lw_at lw_m5 84 rfl) rfl
theorem q1204 : (Jvm.Cond.methodLink "java/util/ArrayList" (118 : Nat) ({ cls := "java/util/Objects", name := "checkIndex", desc := "(II)I" } : Jvm.MethodName)) ∈ lw_all := lw_g (lw_at lw_m5 85 rfl) rfl
theorem q1208 : (Jvm.Cond.methodLink "java/util/ArrayList" (123 : Nat) ({ cls := "java/util/ArrayList", name := "elementData", desc := "(I)Ljava/lang/Object;" } : Jvm.MethodName)) ∈ lw_all := lw_g (lw_at lw_m5 89 rfl) rfl
theorem q1209 : (Jvm.Cond.instanceMethod ({ cls := "java/util/ArrayList", name := "elementData", desc := "(I)Ljava/lang/Object;" } : Jvm.MethodName)) ∈ lw_all := lw_g (lw_at lw_m5 90 rfl) rfl
theorem q1210 : (Jvm.Cond.selects "java/util/ArrayList" ({ cls := "java/util/ArrayList", name := "elementData", desc := "(I)Ljava/lang/Object;" } : Jvm.MethodName) ({ cls := "java/util/ArrayList", name := "elementData", desc := "(I)Ljava/lang/Object;" } : Jvm.MethodName)) ∈ lw_all := lw_g (lw_at lw_m5 91 rfl) rfl
theorem q1211 : (Jvm.Cond.code ({ cls := "java/util/ArrayList", name := "elementData", desc := "(I)Ljava/lang/Object;" } : Jvm.MethodName) prog_49_method_18_code (2 : Nat) (Option.some (Jvm.ClassFile.FieldType.object "java/lang/Object"))) ∈ lw_all := lw_g (lw_at lw_m5 92 rfl) rfl
theorem q1390 : (Jvm.Cond.instanceMethod ({ cls := "java/util/ArrayList", name := "indexOf", desc := "(Ljava/lang/Object;)I" } : Jvm.MethodName)) ∈ lw_all := lw_g (lw_at lw_m6 31 rfl) rfl
theorem q1391 : (Jvm.Cond.selects "java/util/ArrayList" ({ cls := "java/util/ArrayList", name := "indexOf", desc := "(Ljava/lang/Object;)I" } : Jvm.MethodName) ({ cls := "java/util/ArrayList", name := "indexOf", desc := "(Ljava/lang/Object;)I" } : Jvm.MethodName)) ∈ lw_all := lw_g (lw_at lw_m6 32 rfl) rfl
theorem q1392 : (Jvm.Cond.code ({ cls := "java/util/ArrayList", name := "indexOf", desc := "(Ljava/lang/Object;)I" } : Jvm.MethodName) prog_49_method_11_code (2 : Nat) (Option.some Jvm.ClassFile.FieldType.int)) ∈ lw_all := lw_g (lw_at lw_m6 33 rfl) rfl
theorem q1393 : (Jvm.Cond.methodLink "java/util/ArrayList" (89 : Nat) ({ cls := "java/util/ArrayList", name := "indexOfRange", desc := "(Ljava/lang/Object;II)I" } : Jvm.MethodName)) ∈ lw_all := lw_g (lw_at lw_m6 34 rfl) rfl
theorem q1394 : (Jvm.Cond.instanceMethod ({ cls := "java/util/ArrayList", name := "indexOfRange", desc := "(Ljava/lang/Object;II)I" } : Jvm.MethodName)) ∈ lw_all := lw_g (lw_at lw_m6 35 rfl) rfl
theorem q1395 : (Jvm.Cond.selects "java/util/ArrayList" ({ cls := "java/util/ArrayList", name := "indexOfRange", desc := "(Ljava/lang/Object;II)I" } : Jvm.MethodName) ({ cls := "java/util/ArrayList", name := "indexOfRange", desc := "(Ljava/lang/Object;II)I" } : Jvm.MethodName)) ∈ lw_all := lw_g (lw_at lw_m6 36 rfl) rfl
theorem q1396 : (Jvm.Cond.code ({ cls := "java/util/ArrayList", name := "indexOfRange", desc := "(Ljava/lang/Object;II)I" } : Jvm.MethodName) prog_49_method_12_code (6 : Nat) (Option.some Jvm.ClassFile.FieldType.int)) ∈ lw_all := lw_g (lw_at lw_m6 37 rfl) rfl
theorem q1398 : (Jvm.Cond.methodLink "java/util/ArrayList" (93 : Nat) ({ cls := "java/lang/Object", name := "equals", desc := "(Ljava/lang/Object;)Z" } : Jvm.MethodName)) ∈ lw_all := lw_g (lw_at lw_m6 39 rfl) rfl
theorem q1460 : (Jvm.Cond.instanceMethod ({ cls := "java/util/ArrayList", name := "contains", desc := "(Ljava/lang/Object;)Z" } : Jvm.MethodName)) ∈ lw_all := lw_g (lw_at lw_m6 101 rfl) rfl
theorem q1461 : (Jvm.Cond.selects "java/util/ArrayList" ({ cls := "java/util/ArrayList", name := "contains", desc := "(Ljava/lang/Object;)Z" } : Jvm.MethodName) ({ cls := "java/util/ArrayList", name := "contains", desc := "(Ljava/lang/Object;)Z" } : Jvm.MethodName)) ∈ lw_all := lw_g (lw_at lw_m6 102 rfl) rfl
theorem q1462 : (Jvm.Cond.code ({ cls := "java/util/ArrayList", name := "contains", desc := "(Ljava/lang/Object;)Z" } : Jvm.MethodName) prog_49_method_10_code (2 : Nat) (Option.some Jvm.ClassFile.FieldType.boolean)) ∈ lw_all := lw_g (lw_at lw_m6 103 rfl) rfl
theorem q1463 : (Jvm.Cond.methodLink "java/util/ArrayList" (85 : Nat) ({ cls := "java/util/ArrayList", name := "indexOf", desc := "(Ljava/lang/Object;)I" } : Jvm.MethodName)) ∈ lw_all := lw_g (lw_at lw_m6 104 rfl) rfl
theorem q1554 : (Jvm.Cond.instanceMethod ({ cls := "java/util/ArrayList", name := "isEmpty", desc := "()Z" } : Jvm.MethodName)) ∈ lw_all := lw_g (lw_at lw_m6 195 rfl) rfl
theorem q1555 : (Jvm.Cond.selects "java/util/ArrayList" ({ cls := "java/util/ArrayList", name := "isEmpty", desc := "()Z" } : Jvm.MethodName) ({ cls := "java/util/ArrayList", name := "isEmpty", desc := "()Z" } : Jvm.MethodName)) ∈ lw_all := lw_g (lw_at lw_m6 196 rfl) rfl
theorem q1556 : (Jvm.Cond.code ({ cls := "java/util/ArrayList", name := "isEmpty", desc := "()Z" } : Jvm.MethodName) prog_49_method_9_code (1 : Nat) (Option.some Jvm.ClassFile.FieldType.boolean)) ∈ lw_all := lw_g (lw_at lw_m6 197 rfl) rfl
theorem q1573 : (Jvm.Cond.instanceMethod ({ cls := "java/util/ArrayList", name := "clear", desc := "()V" } : Jvm.MethodName)) ∈ lw_all := lw_g (lw_at lw_m6 214 rfl) rfl
theorem q1574 : (Jvm.Cond.selects "java/util/ArrayList" ({ cls := "java/util/ArrayList", name := "clear", desc := "()V" } : Jvm.MethodName) ({ cls := "java/util/ArrayList", name := "clear", desc := "()V" } : Jvm.MethodName)) ∈ lw_all := lw_g (lw_at lw_m6 215 rfl) rfl
theorem q1575 : (Jvm.Cond.code ({ cls := "java/util/ArrayList", name := "clear", desc := "()V" } : Jvm.MethodName) prog_49_method_40_code (4 : Nat) (Option.none : Option Jvm.ClassFile.FieldType)) ∈ lw_all := lw_g (lw_at lw_m6 216 rfl) rfl
theorem q2697 : (Jvm.Cond.castable "java/util/ArrayList" "java/lang/Object") ∈ lw_tbl := lw_at lw_m11 138 rfl
theorem in_J2 : ∀ w ∈ wsJ20, w ∈ lw_all := lw_in wsJ20 [275, 271, 273] (by decide +kernel) (by decide +kernel)
/-! java/lang/String -/
def RJ3 : String := "java/lang/String"
def TJ3 : u_T := fun k => match k with
  | 0 => ("java/lang/String", "value", "[B", true)
  | 1 => ("java/lang/String", "coder", "B", true)
  | 2 => ("java/lang/String", "hash", "I", false)
  | _ => ("java/lang/String", "hashIsZero", "Z", false)
def tyJ3 : Nat → FieldType := fun k => match k with
  | 0 => .array .byte
  | 1 => .byte
  | 2 => .int
  | _ => .boolean
abbrev wsJ30 : List Cond := u_ws RJ3 TJ3 4
theorem nmJ3 : ∀ a, a < 4 → ∀ b, b < 4 → a ≠ b → (TJ3 a).2.1 ≠ (TJ3 b).2.1 := by decide +kernel
theorem tyJ3_ok : ∀ k, k < 4 → parseFieldDescriptor (TJ3 k).2.2.1 = some (tyJ3 k) := by decide +kernel
abbrev cJ3_indexOf : ByteArray := prog_39_method_79_code
def yJ3_indexOf : MethodName := ⟨RJ3, "indexOf", "(I)I"⟩
theorem dJ3_indexOf_0 : decode cJ3_indexOf 0 = .ok (.aload_n 0, 1) := by decide +kernel
theorem dJ3_indexOf_1 : decode cJ3_indexOf 1 = .ok (.iload_n 1, 1) := by decide +kernel
theorem dJ3_indexOf_2 : decode cJ3_indexOf 2 = .ok (.iconst 0, 1) := by decide +kernel
theorem dJ3_indexOf_3 : decode cJ3_indexOf 3 = .ok (.invokevirtual 633, 3) := by decide +kernel
theorem dJ3_indexOf_6 : decode cJ3_indexOf 6 = .ok (.ireturn, 1) := by decide +kernel
abbrev cJ3_indexOf_2 : ByteArray := prog_39_method_80_code
def yJ3_indexOf_2 : MethodName := ⟨RJ3, "indexOf", "(II)I"⟩
theorem dJ3_indexOf_2_0 : decode cJ3_indexOf_2 0 = .ok (.aload_n 0, 1) := by decide +kernel
theorem dJ3_indexOf_2_1 : decode cJ3_indexOf_2 1 = .ok (.invokevirtual 492, 3) := by decide +kernel
theorem dJ3_indexOf_2_4 : decode cJ3_indexOf_2 4 = .ok (.ifCond .eq 19, 3) := by decide +kernel
theorem dJ3_indexOf_2_7 : decode cJ3_indexOf_2 7 = .ok (.aload_n 0, 1) := by decide +kernel
theorem dJ3_indexOf_2_8 : decode cJ3_indexOf_2 8 = .ok (.getfield 9, 3) := by decide +kernel
theorem dJ3_indexOf_2_11 : decode cJ3_indexOf_2 11 = .ok (.iload_n 1, 1) := by decide +kernel
theorem dJ3_indexOf_2_12 : decode cJ3_indexOf_2 12 = .ok (.iload_n 2, 1) := by decide +kernel
theorem dJ3_indexOf_2_13 : decode cJ3_indexOf_2 13 = .ok (.aload_n 0, 1) := by decide +kernel
theorem dJ3_indexOf_2_14 : decode cJ3_indexOf_2 14 = .ok (.invokevirtual 505, 3) := by decide +kernel
theorem dJ3_indexOf_2_17 : decode cJ3_indexOf_2 17 = .ok (.invokestatic 637, 3) := by decide +kernel
theorem dJ3_indexOf_2_20 : decode cJ3_indexOf_2 20 = .ok (.goto 16, 3) := by decide +kernel
theorem dJ3_indexOf_2_23 : decode cJ3_indexOf_2 23 = .ok (.aload_n 0, 1) := by decide +kernel
theorem dJ3_indexOf_2_24 : decode cJ3_indexOf_2 24 = .ok (.getfield 9, 3) := by decide +kernel
theorem dJ3_indexOf_2_27 : decode cJ3_indexOf_2 27 = .ok (.iload_n 1, 1) := by decide +kernel
theorem dJ3_indexOf_2_28 : decode cJ3_indexOf_2 28 = .ok (.iload_n 2, 1) := by decide +kernel
theorem dJ3_indexOf_2_29 : decode cJ3_indexOf_2 29 = .ok (.aload_n 0, 1) := by decide +kernel
theorem dJ3_indexOf_2_30 : decode cJ3_indexOf_2 30 = .ok (.invokevirtual 505, 3) := by decide +kernel
theorem dJ3_indexOf_2_33 : decode cJ3_indexOf_2 33 = .ok (.invokestatic 640, 3) := by decide +kernel
theorem dJ3_indexOf_2_36 : decode cJ3_indexOf_2 36 = .ok (.ireturn, 1) := by decide +kernel
abbrev cJ3_isLatin1 : ByteArray := prog_39_method_154_code
def yJ3_isLatin1 : MethodName := ⟨RJ3, "isLatin1", "()Z"⟩
theorem dJ3_isLatin1_0 : decode cJ3_isLatin1 0 = .ok (.getstatic 38, 3) := by decide +kernel
theorem dJ3_isLatin1_3 : decode cJ3_isLatin1 3 = .ok (.ifCond .eq 14, 3) := by decide +kernel
theorem dJ3_isLatin1_6 : decode cJ3_isLatin1 6 = .ok (.aload_n 0, 1) := by decide +kernel
theorem dJ3_isLatin1_7 : decode cJ3_isLatin1 7 = .ok (.getfield 15, 3) := by decide +kernel
theorem dJ3_isLatin1_10 : decode cJ3_isLatin1 10 = .ok (.ifCond .ne 7, 3) := by decide +kernel
theorem dJ3_isLatin1_13 : decode cJ3_isLatin1 13 = .ok (.iconst 1, 1) := by decide +kernel
theorem dJ3_isLatin1_14 : decode cJ3_isLatin1 14 = .ok (.goto 4, 3) := by decide +kernel
theorem dJ3_isLatin1_17 : decode cJ3_isLatin1 17 = .ok (.iconst 0, 1) := by decide +kernel
theorem dJ3_isLatin1_18 : decode cJ3_isLatin1 18 = .ok (.ireturn, 1) := by decide +kernel
abbrev cJ3_length : ByteArray := prog_39_method_54_code
def yJ3_length : MethodName := ⟨RJ3, "length", "()I"⟩
theorem dJ3_length_0 : decode cJ3_length 0 = .ok (.aload_n 0, 1) := by decide +kernel
theorem dJ3_length_1 : decode cJ3_length 1 = .ok (.getfield 9, 3) := by decide +kernel
theorem dJ3_length_4 : decode cJ3_length 4 = .ok (.arraylength, 1) := by decide +kernel
theorem dJ3_length_5 : decode cJ3_length 5 = .ok (.aload_n 0, 1) := by decide +kernel
theorem dJ3_length_6 : decode cJ3_length 6 = .ok (.invokevirtual 335, 3) := by decide +kernel
theorem dJ3_length_9 : decode cJ3_length 9 = .ok (.ishr, 1) := by decide +kernel
theorem dJ3_length_10 : decode cJ3_length 10 = .ok (.ireturn, 1) := by decide +kernel
abbrev cJ3_coder : ByteArray := prog_39_method_152_code
def yJ3_coder : MethodName := ⟨RJ3, "coder", "()B"⟩
theorem dJ3_coder_0 : decode cJ3_coder 0 = .ok (.getstatic 38, 3) := by decide +kernel
theorem dJ3_coder_3 : decode cJ3_coder 3 = .ok (.ifCond .eq 10, 3) := by decide +kernel
theorem dJ3_coder_6 : decode cJ3_coder 6 = .ok (.aload_n 0, 1) := by decide +kernel
theorem dJ3_coder_7 : decode cJ3_coder 7 = .ok (.getfield 15, 3) := by decide +kernel
theorem dJ3_coder_10 : decode cJ3_coder 10 = .ok (.goto 4, 3) := by decide +kernel
theorem dJ3_coder_13 : decode cJ3_coder 13 = .ok (.iconst 1, 1) := by decide +kernel
theorem dJ3_coder_14 : decode cJ3_coder 14 = .ok (.ireturn, 1) := by decide +kernel
abbrev cJ3_checkBoundsBeginEnd : ByteArray := prog_39_method_158_code
def yJ3_checkBoundsBeginEnd : MethodName := ⟨RJ3, "checkBoundsBeginEnd", "(III)V"⟩
theorem dJ3_checkBoundsBeginEnd_0 : decode cJ3_checkBoundsBeginEnd 0 = .ok (.iload_n 0, 1) := by decide +kernel
theorem dJ3_checkBoundsBeginEnd_1 : decode cJ3_checkBoundsBeginEnd 1 = .ok (.iload_n 1, 1) := by decide +kernel
theorem dJ3_checkBoundsBeginEnd_2 : decode cJ3_checkBoundsBeginEnd 2 = .ok (.iload_n 2, 1) := by decide +kernel
theorem dJ3_checkBoundsBeginEnd_3 : decode cJ3_checkBoundsBeginEnd 3 = .ok (.getstatic 1053, 3) := by decide +kernel
theorem dJ3_checkBoundsBeginEnd_6 : decode cJ3_checkBoundsBeginEnd 6 = .ok (.invokestatic 1062, 3) := by decide +kernel
theorem dJ3_checkBoundsBeginEnd_9 : decode cJ3_checkBoundsBeginEnd 9 = .ok (.pop, 1) := by decide +kernel
theorem dJ3_checkBoundsBeginEnd_10 : decode cJ3_checkBoundsBeginEnd 10 = .ok (.return_, 1) := by decide +kernel
abbrev cJ3_charAt : ByteArray := prog_39_method_56_code
def yJ3_charAt : MethodName := ⟨RJ3, "charAt", "(I)C"⟩
theorem dJ3_charAt_0 : decode cJ3_charAt 0 = .ok (.aload_n 0, 1) := by decide +kernel
theorem dJ3_charAt_1 : decode cJ3_charAt 1 = .ok (.invokevirtual 492, 3) := by decide +kernel
theorem dJ3_charAt_4 : decode cJ3_charAt 4 = .ok (.ifCond .eq 12, 3) := by decide +kernel
theorem dJ3_charAt_7 : decode cJ3_charAt 7 = .ok (.aload_n 0, 1) := by decide +kernel
theorem dJ3_charAt_8 : decode cJ3_charAt 8 = .ok (.getfield 9, 3) := by decide +kernel
theorem dJ3_charAt_11 : decode cJ3_charAt 11 = .ok (.iload_n 1, 1) := by decide +kernel
theorem dJ3_charAt_12 : decode cJ3_charAt 12 = .ok (.invokestatic 495, 3) := by decide +kernel
theorem dJ3_charAt_15 : decode cJ3_charAt 15 = .ok (.ireturn, 1) := by decide +kernel
theorem dJ3_charAt_16 : decode cJ3_charAt 16 = .ok (.aload_n 0, 1) := by decide +kernel
theorem dJ3_charAt_17 : decode cJ3_charAt 17 = .ok (.getfield 9, 3) := by decide +kernel
theorem dJ3_charAt_20 : decode cJ3_charAt 20 = .ok (.iload_n 1, 1) := by decide +kernel
theorem dJ3_charAt_21 : decode cJ3_charAt 21 = .ok (.invokestatic 498, 3) := by decide +kernel
theorem dJ3_charAt_24 : decode cJ3_charAt 24 = .ok (.ireturn, 1) := by decide +kernel
abbrev cJ3_checkIndex : ByteArray := prog_39_method_155_code
def yJ3_checkIndex : MethodName := ⟨RJ3, "checkIndex", "(II)V"⟩
theorem dJ3_checkIndex_0 : decode cJ3_checkIndex 0 = .ok (.iload_n 0, 1) := by decide +kernel
theorem dJ3_checkIndex_1 : decode cJ3_checkIndex 1 = .ok (.iload_n 1, 1) := by decide +kernel
theorem dJ3_checkIndex_2 : decode cJ3_checkIndex 2 = .ok (.getstatic 1053, 3) := by decide +kernel
theorem dJ3_checkIndex_5 : decode cJ3_checkIndex 5 = .ok (.invokestatic 1059, 3) := by decide +kernel
theorem dJ3_checkIndex_8 : decode cJ3_checkIndex 8 = .ok (.pop, 1) := by decide +kernel
theorem dJ3_checkIndex_9 : decode cJ3_checkIndex 9 = .ok (.return_, 1) := by decide +kernel
abbrev cJ3_checkBoundsOffCount : ByteArray := prog_39_method_157_code
def yJ3_checkBoundsOffCount : MethodName := ⟨RJ3, "checkBoundsOffCount", "(III)I"⟩
theorem dJ3_checkBoundsOffCount_0 : decode cJ3_checkBoundsOffCount 0 = .ok (.iload_n 0, 1) := by decide +kernel
theorem dJ3_checkBoundsOffCount_1 : decode cJ3_checkBoundsOffCount 1 = .ok (.iload_n 1, 1) := by decide +kernel
theorem dJ3_checkBoundsOffCount_2 : decode cJ3_checkBoundsOffCount 2 = .ok (.iload_n 2, 1) := by decide +kernel
theorem dJ3_checkBoundsOffCount_3 : decode cJ3_checkBoundsOffCount 3 = .ok (.getstatic 1053, 3) := by decide +kernel
theorem dJ3_checkBoundsOffCount_6 : decode cJ3_checkBoundsOffCount 6 = .ok (.invokestatic 1065, 3) := by decide +kernel
theorem dJ3_checkBoundsOffCount_9 : decode cJ3_checkBoundsOffCount 9 = .ok (.ireturn, 1) := by decide +kernel
abbrev cJ3_init : ByteArray := prog_39_method_53_code
def yJ3_init : MethodName := ⟨RJ3, "<init>", "(Ljava/lang/StringBuilder;)V"⟩
theorem dJ3_init_0 : decode cJ3_init 0 = .ok (.aload_n 0, 1) := by decide +kernel
theorem dJ3_init_1 : decode cJ3_init 1 = .ok (.aload_n 1, 1) := by decide +kernel
theorem dJ3_init_2 : decode cJ3_init 2 = .ok (.aconst_null, 1) := by decide +kernel
theorem dJ3_init_3 : decode cJ3_init 3 = .ok (.invokespecial 489, 3) := by decide +kernel
theorem dJ3_init_6 : decode cJ3_init 6 = .ok (.return_, 1) := by decide +kernel
abbrev cJ3_init_2 : ByteArray := prog_39_method_150_code
def yJ3_init_2 : MethodName := ⟨RJ3, "<init>", "(Ljava/lang/AbstractStringBuilder;Ljava/lang/Void;)V"⟩
theorem dJ3_init_2_0 : decode cJ3_init_2 0 = .ok (.aload_n 0, 1) := by decide +kernel
theorem dJ3_init_2_1 : decode cJ3_init_2 1 = .ok (.invokespecial 1, 3) := by decide +kernel
theorem dJ3_init_2_4 : decode cJ3_init_2 4 = .ok (.aload_n 1, 1) := by decide +kernel
theorem dJ3_init_2_5 : decode cJ3_init_2 5 = .ok (.invokevirtual 552, 3) := by decide +kernel
theorem dJ3_init_2_8 : decode cJ3_init_2 8 = .ok (.astore_n 3, 1) := by decide +kernel
theorem dJ3_init_2_9 : decode cJ3_init_2 9 = .ok (.aload_n 1, 1) := by decide +kernel
theorem dJ3_init_2_10 : decode cJ3_init_2 10 = .ok (.invokevirtual 549, 3) := by decide +kernel
theorem dJ3_init_2_13 : decode cJ3_init_2 13 = .ok (.istore 4, 2) := by decide +kernel
theorem dJ3_init_2_15 : decode cJ3_init_2 15 = .ok (.aload_n 1, 1) := by decide +kernel
theorem dJ3_init_2_16 : decode cJ3_init_2 16 = .ok (.invokevirtual 1047, 3) := by decide +kernel
theorem dJ3_init_2_19 : decode cJ3_init_2 19 = .ok (.ifCond .eq 22, 3) := by decide +kernel
theorem dJ3_init_2_22 : decode cJ3_init_2 22 = .ok (.aload_n 0, 1) := by decide +kernel
theorem dJ3_init_2_23 : decode cJ3_init_2 23 = .ok (.iconst 0, 1) := by decide +kernel
theorem dJ3_init_2_24 : decode cJ3_init_2 24 = .ok (.putfield 15, 3) := by decide +kernel
theorem dJ3_init_2_27 : decode cJ3_init_2 27 = .ok (.aload_n 0, 1) := by decide +kernel
theorem dJ3_init_2_28 : decode cJ3_init_2 28 = .ok (.aload_n 3, 1) := by decide +kernel
theorem dJ3_init_2_29 : decode cJ3_init_2 29 = .ok (.iconst 0, 1) := by decide +kernel
theorem dJ3_init_2_30 : decode cJ3_init_2 30 = .ok (.iload 4, 2) := by decide +kernel
theorem dJ3_init_2_32 : decode cJ3_init_2 32 = .ok (.invokestatic 54, 3) := by decide +kernel
theorem dJ3_init_2_35 : decode cJ3_init_2 35 = .ok (.putfield 9, 3) := by decide +kernel
theorem dJ3_init_2_38 : decode cJ3_init_2 38 = .ok (.goto 59, 3) := by decide +kernel
theorem dJ3_init_2_41 : decode cJ3_init_2 41 = .ok (.getstatic 38, 3) := by decide +kernel
theorem dJ3_init_2_44 : decode cJ3_init_2 44 = .ok (.ifCond .eq 35, 3) := by decide +kernel
theorem dJ3_init_2_47 : decode cJ3_init_2 47 = .ok (.aload_n 1, 1) := by decide +kernel
theorem dJ3_init_2_48 : decode cJ3_init_2 48 = .ok (.getfield 1048, 3) := by decide +kernel
theorem dJ3_init_2_51 : decode cJ3_init_2 51 = .ok (.ifCond .eq 28, 3) := by decide +kernel
theorem dJ3_init_2_54 : decode cJ3_init_2 54 = .ok (.aload_n 0, 1) := by decide +kernel
theorem dJ3_init_2_55 : decode cJ3_init_2 55 = .ok (.aload_n 3, 1) := by decide +kernel
theorem dJ3_init_2_56 : decode cJ3_init_2 56 = .ok (.iconst 0, 1) := by decide +kernel
theorem dJ3_init_2_57 : decode cJ3_init_2 57 = .ok (.iload 4, 2) := by decide +kernel
theorem dJ3_init_2_59 : decode cJ3_init_2 59 = .ok (.invokestatic 1051, 3) := by decide +kernel
theorem dJ3_init_2_62 : decode cJ3_init_2 62 = .ok (.putfield 9, 3) := by decide +kernel
theorem dJ3_init_2_65 : decode cJ3_init_2 65 = .ok (.aload_n 0, 1) := by decide +kernel
theorem dJ3_init_2_66 : decode cJ3_init_2 66 = .ok (.aload_n 0, 1) := by decide +kernel
theorem dJ3_init_2_67 : decode cJ3_init_2 67 = .ok (.getfield 9, 3) := by decide +kernel
theorem dJ3_init_2_70 : decode cJ3_init_2 70 = .ok (.iload 4, 2) := by decide +kernel
theorem dJ3_init_2_72 : decode cJ3_init_2 72 = .ok (.invokestatic 47, 3) := by decide +kernel
theorem dJ3_init_2_75 : decode cJ3_init_2 75 = .ok (.putfield 15, 3) := by decide +kernel
theorem dJ3_init_2_78 : decode cJ3_init_2 78 = .ok (.return_, 1) := by decide +kernel
theorem dJ3_init_2_79 : decode cJ3_init_2 79 = .ok (.aload_n 0, 1) := by decide +kernel
theorem dJ3_init_2_80 : decode cJ3_init_2 80 = .ok (.iconst 1, 1) := by decide +kernel
theorem dJ3_init_2_81 : decode cJ3_init_2 81 = .ok (.putfield 15, 3) := by decide +kernel
theorem dJ3_init_2_84 : decode cJ3_init_2 84 = .ok (.aload_n 0, 1) := by decide +kernel
theorem dJ3_init_2_85 : decode cJ3_init_2 85 = .ok (.aload_n 3, 1) := by decide +kernel
theorem dJ3_init_2_86 : decode cJ3_init_2 86 = .ok (.iconst 0, 1) := by decide +kernel
theorem dJ3_init_2_87 : decode cJ3_init_2 87 = .ok (.iload 4, 2) := by decide +kernel
theorem dJ3_init_2_89 : decode cJ3_init_2 89 = .ok (.iconst 1, 1) := by decide +kernel
theorem dJ3_init_2_90 : decode cJ3_init_2 90 = .ok (.ishl, 1) := by decide +kernel
theorem dJ3_init_2_91 : decode cJ3_init_2 91 = .ok (.invokestatic 54, 3) := by decide +kernel
theorem dJ3_init_2_94 : decode cJ3_init_2 94 = .ok (.putfield 9, 3) := by decide +kernel
theorem dJ3_init_2_97 : decode cJ3_init_2 97 = .ok (.return_, 1) := by decide +kernel
abbrev cJ3_equals : ByteArray := prog_39_method_66_code
def yJ3_equals : MethodName := ⟨RJ3, "equals", "(Ljava/lang/Object;)Z"⟩
theorem dJ3_equals_0 : decode cJ3_equals 0 = .ok (.aload_n 0, 1) := by decide +kernel
theorem dJ3_equals_1 : decode cJ3_equals 1 = .ok (.aload_n 1, 1) := by decide +kernel
theorem dJ3_equals_2 : decode cJ3_equals 2 = .ok (.if_acmp .ne 5, 3) := by decide +kernel
theorem dJ3_equals_5 : decode cJ3_equals 5 = .ok (.iconst 1, 1) := by decide +kernel
theorem dJ3_equals_6 : decode cJ3_equals 6 = .ok (.ireturn, 1) := by decide +kernel
theorem dJ3_equals_7 : decode cJ3_equals 7 = .ok (.aload_n 1, 1) := by decide +kernel
theorem dJ3_equals_8 : decode cJ3_equals 8 = .ok (.instanceof 10, 3) := by decide +kernel
theorem dJ3_equals_11 : decode cJ3_equals 11 = .ok (.ifCond .eq 43, 3) := by decide +kernel
theorem dJ3_equals_14 : decode cJ3_equals 14 = .ok (.aload_n 1, 1) := by decide +kernel
theorem dJ3_equals_15 : decode cJ3_equals 15 = .ok (.checkcast 10, 3) := by decide +kernel
theorem dJ3_equals_18 : decode cJ3_equals 18 = .ok (.astore_n 2, 1) := by decide +kernel
theorem dJ3_equals_19 : decode cJ3_equals 19 = .ok (.getstatic 38, 3) := by decide +kernel
theorem dJ3_equals_22 : decode cJ3_equals 22 = .ok (.ifCond .eq 14, 3) := by decide +kernel
theorem dJ3_equals_25 : decode cJ3_equals 25 = .ok (.aload_n 0, 1) := by decide +kernel
theorem dJ3_equals_26 : decode cJ3_equals 26 = .ok (.getfield 15, 3) := by decide +kernel
theorem dJ3_equals_29 : decode cJ3_equals 29 = .ok (.aload_n 2, 1) := by decide +kernel
theorem dJ3_equals_30 : decode cJ3_equals 30 = .ok (.getfield 15, 3) := by decide +kernel
theorem dJ3_equals_33 : decode cJ3_equals 33 = .ok (.if_icmp .ne 21, 3) := by decide +kernel
theorem dJ3_equals_36 : decode cJ3_equals 36 = .ok (.aload_n 0, 1) := by decide +kernel
theorem dJ3_equals_37 : decode cJ3_equals 37 = .ok (.getfield 9, 3) := by decide +kernel
theorem dJ3_equals_40 : decode cJ3_equals 40 = .ok (.aload_n 2, 1) := by decide +kernel
theorem dJ3_equals_41 : decode cJ3_equals 41 = .ok (.getfield 9, 3) := by decide +kernel
theorem dJ3_equals_44 : decode cJ3_equals 44 = .ok (.invokestatic 541, 3) := by decide +kernel
theorem dJ3_equals_47 : decode cJ3_equals 47 = .ok (.ifCond .eq 7, 3) := by decide +kernel
theorem dJ3_equals_50 : decode cJ3_equals 50 = .ok (.iconst 1, 1) := by decide +kernel
theorem dJ3_equals_51 : decode cJ3_equals 51 = .ok (.goto 4, 3) := by decide +kernel
theorem dJ3_equals_54 : decode cJ3_equals 54 = .ok (.iconst 0, 1) := by decide +kernel
theorem dJ3_equals_55 : decode cJ3_equals 55 = .ok (.ireturn, 1) := by decide +kernel
theorem q166 : (Jvm.Cond.initialized "java/lang/String") ∈ lw_all := lw_g (lw_at lw_m1 7 rfl) rfl
theorem q363 : (Jvm.Cond.instanceMethod ({ cls := "java/lang/String", name := "indexOf", desc := "(I)I" } : Jvm.MethodName)) ∈ lw_all := lw_g (lw_at lw_m1 204 rfl) rfl
theorem q364 : (Jvm.Cond.selects "java/lang/String" ({ cls := "java/lang/String", name := "indexOf", desc := "(I)I" } : Jvm.MethodName) ({ cls := "java/lang/String", name := "indexOf", desc := "(I)I" } : Jvm.MethodName)) ∈ lw_all := lw_g (lw_at lw_m1 205 rfl) rfl
theorem q365 : (Jvm.Cond.code ({ cls := "java/lang/String", name := "indexOf", desc := "(I)I" } : Jvm.MethodName) prog_39_method_79_code (2 : Nat) (Option.some Jvm.ClassFile.FieldType.int)) ∈ lw_all := lw_g (lw_at lw_m1 206 rfl) rfl
theorem q366 : (Jvm.Cond.methodLink "java/lang/String" (633 : Nat) ({ cls := "java/lang/String", name := "indexOf", desc := "(II)I" } : Jvm.MethodName)) ∈ lw_all := lw_g (lw_at lw_m1 207 rfl) rfl
theorem q367 : (Jvm.Cond.instanceMethod ({ cls := "java/lang/String", name := "indexOf", desc := "(II)I" } : Jvm.MethodName)) ∈ lw_all := lw_g (lw_at lw_m1 208 rfl) rfl
theorem q368 : (Jvm.Cond.selects "java/lang/String" ({ cls := "java/lang/String", name := "indexOf", desc := "(II)I" } : Jvm.MethodName) ({ cls := "java/lang/String", name := "indexOf", desc := "(II)I" } : Jvm.MethodName)) ∈ lw_all := lw_g (lw_at lw_m1 209 rfl) rfl
theorem q369 : (Jvm.Cond.code ({ cls := "java/lang/String", name := "indexOf", desc := "(II)I" } : Jvm.MethodName) prog_39_method_80_code (3 : Nat) (Option.some Jvm.ClassFile.FieldType.int)) ∈ lw_all := lw_g (lw_at lw_m1 210 rfl) rfl
theorem q370 : (Jvm.Cond.methodLink "java/lang/String" (492 : Nat) ({ cls := "java/lang/String", name := "isLatin1", desc := "()Z" } : Jvm.MethodName)) ∈ lw_all := lw_g (lw_at lw_m1 211 rfl) rfl
theorem q371 : (Jvm.Cond.instanceMethod ({ cls := "java/lang/String", name := "isLatin1", desc := "()Z" } : Jvm.MethodName)) ∈ lw_all := lw_g (lw_at lw_m1 212 rfl) rfl
theorem q372 : (Jvm.Cond.selects "java/lang/String" ({ cls := "java/lang/String", name := "isLatin1", desc := "()Z" } : Jvm.MethodName) ({ cls := "java/lang/String", name := "isLatin1", desc := "()Z" } : Jvm.MethodName)) ∈ lw_all := lw_g (lw_at lw_m1 213 rfl) rfl
theorem q373 : (Jvm.Cond.code ({ cls := "java/lang/String", name := "isLatin1", desc := "()Z" } : Jvm.MethodName) prog_39_method_154_code (1 : Nat) (Option.some Jvm.ClassFile.FieldType.boolean)) ∈ lw_all := lw_g (lw_at lw_m1 214 rfl) rfl
theorem q374 : (Jvm.Cond.fieldLink "java/lang/String" (38 : Nat) "java/lang/String" "COMPACT_STRINGS" "Z") ∈ lw_all := lw_g (lw_at lw_m1 215 rfl) rfl
theorem q375 : (Jvm.Cond.laysStatic "java/lang/String" "COMPACT_STRINGS" "Z") ∈ lw_tbl := lw_at lw_m1 216 rfl
theorem q376 : (Jvm.Cond.methodLink "java/lang/String" (505 : Nat) ({ cls := "java/lang/String", name := "length", desc := "()I" } : Jvm.MethodName)) ∈ lw_all := lw_g (lw_at lw_m1 217 rfl) rfl
theorem q377 : (Jvm.Cond.instanceMethod ({ cls := "java/lang/String", name := "length", desc := "()I" } : Jvm.MethodName)) ∈ lw_all := lw_g (lw_at lw_m1 218 rfl) rfl
theorem q378 : (Jvm.Cond.selects "java/lang/String" ({ cls := "java/lang/String", name := "length", desc := "()I" } : Jvm.MethodName) ({ cls := "java/lang/String", name := "length", desc := "()I" } : Jvm.MethodName)) ∈ lw_all := lw_g (lw_at lw_m1 219 rfl) rfl
theorem q379 : (Jvm.Cond.code ({ cls := "java/lang/String", name := "length", desc := "()I" } : Jvm.MethodName) prog_39_method_54_code (1 : Nat) (Option.some Jvm.ClassFile.FieldType.int)) ∈ lw_all := lw_g (lw_at lw_m1 220 rfl) rfl
theorem q380 : (Jvm.Cond.methodLink "java/lang/String" (335 : Nat) ({ cls := "java/lang/String", name := "coder", desc := "()B" } : Jvm.MethodName)) ∈ lw_all := lw_g (lw_at lw_m1 221 rfl) rfl
theorem q381 : (Jvm.Cond.instanceMethod ({ cls := "java/lang/String", name := "coder", desc := "()B" } : Jvm.MethodName)) ∈ lw_all := lw_g (lw_at lw_m1 222 rfl) rfl
theorem q382 : (Jvm.Cond.selects "java/lang/String" ({ cls := "java/lang/String", name := "coder", desc := "()B" } : Jvm.MethodName) ({ cls := "java/lang/String", name := "coder", desc := "()B" } : Jvm.MethodName)) ∈ lw_all := lw_g (lw_at lw_m1 223 rfl) rfl
theorem q383 : (Jvm.Cond.code ({ cls := "java/lang/String", name := "coder", desc := "()B" } : Jvm.MethodName) prog_39_method_152_code (1 : Nat) (Option.some Jvm.ClassFile.FieldType.byte)) ∈ lw_all := lw_g (lw_at lw_m1 224 rfl) rfl
theorem q384 : (Jvm.Cond.methodLink "java/lang/String" (637 : Nat) ({ cls := "java/lang/StringLatin1", name := "indexOf", desc := "([BIII)I" } : Jvm.MethodName)) ∈ lw_all := lw_g (lw_at lw_m1 225 rfl) rfl
theorem q399 : (Jvm.Cond.methodLink "java/lang/String" (640 : Nat) ({ cls := "java/lang/StringUTF16", name := "indexOf", desc := "([BIII)I" } : Jvm.MethodName)) ∈ lw_all := lw_g (lw_at lw_m2 0 rfl) rfl
theorem q415 : (Jvm.Cond.static ({ cls := "java/lang/String", name := "checkBoundsBeginEnd", desc := "(III)V" } : Jvm.MethodName)) ∈ lw_all := lw_g (lw_at lw_m2 16 rfl) rfl
theorem q416 : (Jvm.Cond.code ({ cls := "java/lang/String", name := "checkBoundsBeginEnd", desc := "(III)V" } : Jvm.MethodName) prog_39_method_158_code (3 : Nat) (Option.none : Option Jvm.ClassFile.FieldType)) ∈ lw_all := lw_g (lw_at lw_m2 17 rfl) rfl
theorem q417 : (Jvm.Cond.fieldLink "java/lang/String" (1053 : Nat) "jdk/internal/util/Preconditions" "SIOOBE_FORMATTER" "Ljava/util/function/BiFunction;") ∈ lw_all := lw_g (lw_at lw_m2 18 rfl) rfl
theorem q419 : (Jvm.Cond.methodLink "java/lang/String" (1062 : Nat) ({ cls := "jdk/internal/util/Preconditions", name := "checkFromToIndex", desc := "(IIILjava/util/function/BiFunction;)I" } : Jvm.MethodName)) ∈ lw_all := lw_g (lw_at lw_m2 20 rfl) rfl
theorem q461 : (Jvm.Cond.instanceMethod ({ cls := "java/lang/String", name := "charAt", desc := "(I)C" } : Jvm.MethodName)) ∈ lw_all := lw_g (lw_at lw_m2 62 rfl) rfl
theorem q462 : (Jvm.Cond.selects "java/lang/String" ({ cls := "java/lang/String", name := "charAt", desc := "(I)C" } : Jvm.MethodName) ({ cls := "java/lang/String", name := "charAt", desc := "(I)C" } : Jvm.MethodName)) ∈ lw_all := lw_g (lw_at lw_m2 63 rfl) rfl
theorem q463 : (Jvm.Cond.code ({ cls := "java/lang/String", name := "charAt", desc := "(I)C" } : Jvm.MethodName) prog_39_method_56_code (2 : Nat) (Option.some Jvm.ClassFile.FieldType.char)) ∈ lw_all := lw_g (lw_at lw_m2 64 rfl) rfl
theorem q464 : (Jvm.Cond.methodLink "java/lang/String" (495 : Nat) ({ cls := "java/lang/StringLatin1", name := "charAt", desc := "([BI)C" } : Jvm.MethodName)) ∈ lw_all := lw_g (lw_at lw_m2 65 rfl) rfl
theorem q468 : (Jvm.Cond.static ({ cls := "java/lang/String", name := "checkIndex", desc := "(II)V" } : Jvm.MethodName)) ∈ lw_all := lw_g (lw_at lw_m2 69 rfl) rfl
theorem q469 : (Jvm.Cond.code ({ cls := "java/lang/String", name := "checkIndex", desc := "(II)V" } : Jvm.MethodName) prog_39_method_155_code (2 : Nat) (Option.none : Option Jvm.ClassFile.FieldType)) ∈ lw_all := lw_g (lw_at lw_m2 70 rfl) rfl
theorem q470 : (Jvm.Cond.methodLink "java/lang/String" (1059 : Nat) ({ cls := "jdk/internal/util/Preconditions", name := "checkIndex", desc := "(IILjava/util/function/BiFunction;)I" } : Jvm.MethodName)) ∈ lw_all := lw_g (lw_at lw_m2 71 rfl) rfl
theorem q473 : (Jvm.Cond.methodLink "java/lang/String" (498 : Nat) ({ cls := "java/lang/StringUTF16", name := "charAt", desc := "([BI)C" } : Jvm.MethodName)) ∈ lw_all := lw_g (lw_at lw_m2 74 rfl) rfl
theorem q603 : (Jvm.Cond.fieldLink "java/lang/String" (1048 : Nat) "java/lang/AbstractStringBuilder" "maybeLatin1" "Z") ∈ lw_all := lw_g (lw_at lw_m2 204 rfl) rfl
theorem q674 : (Jvm.Cond.static ({ cls := "java/lang/String", name := "checkBoundsOffCount", desc := "(III)I" } : Jvm.MethodName)) ∈ lw_all := lw_g (lw_at lw_m3 35 rfl) rfl
theorem q675 : (Jvm.Cond.code ({ cls := "java/lang/String", name := "checkBoundsOffCount", desc := "(III)I" } : Jvm.MethodName) prog_39_method_157_code (3 : Nat) (Option.some Jvm.ClassFile.FieldType.int)) ∈ lw_all := lw_g (lw_at lw_m3 36 rfl) rfl
theorem q676 : (Jvm.Cond.methodLink "java/lang/String" (1065 : Nat) ({ cls := "jdk/internal/util/Preconditions", name := "checkFromIndexSize", desc := "(IIILjava/util/function/BiFunction;)I" } : Jvm.MethodName)) ∈ lw_all := lw_g (lw_at lw_m3 37 rfl) rfl
theorem q690 : (Jvm.Cond.instantiable "java/lang/String" (4 : Nat)) ∈ lw_all := lw_g (lw_at lw_m3 51 rfl) rfl
theorem q692 : (Jvm.Cond.instanceMethod ({ cls := "java/lang/String", name := "<init>", desc := "(Ljava/lang/StringBuilder;)V" } : Jvm.MethodName)) ∈ lw_all := lw_g (lw_at lw_m3 53 rfl) rfl
theorem q693 : (Jvm.Cond.code ({ cls := "java/lang/String", name := "<init>", desc := "(Ljava/lang/StringBuilder;)V" } : Jvm.MethodName) prog_39_method_53_code (2 : Nat) (Option.none : Option Jvm.ClassFile.FieldType)) ∈ lw_all := lw_g (lw_at lw_m3 54 rfl) rfl
theorem q694 : (Jvm.Cond.methodLink "java/lang/String" (489 : Nat) ({ cls := "java/lang/String", name := "<init>", desc := "(Ljava/lang/AbstractStringBuilder;Ljava/lang/Void;)V" } : Jvm.MethodName)) ∈ lw_all := lw_g (lw_at lw_m3 55 rfl) rfl
theorem q695 : (Jvm.Cond.instanceMethod ({ cls := "java/lang/String", name := "<init>", desc := "(Ljava/lang/AbstractStringBuilder;Ljava/lang/Void;)V" } : Jvm.MethodName)) ∈ lw_all := lw_g (lw_at lw_m3 56 rfl) rfl
theorem q696 : (Jvm.Cond.code ({ cls := "java/lang/String", name := "<init>", desc := "(Ljava/lang/AbstractStringBuilder;Ljava/lang/Void;)V" } : Jvm.MethodName) prog_39_method_150_code (5 : Nat) (Option.none : Option Jvm.ClassFile.FieldType)) ∈ lw_all := lw_g (lw_at lw_m3 57 rfl) rfl
theorem q697 : (Jvm.Cond.methodLink "java/lang/String" (1 : Nat) ({ cls := "java/lang/Object", name := "<init>", desc := "()V" } : Jvm.MethodName)) ∈ lw_all := lw_g (lw_at lw_m3 58 rfl) rfl
theorem q698 : (Jvm.Cond.methodLink "java/lang/String" (552 : Nat) ({ cls := "java/lang/AbstractStringBuilder", name := "getValue", desc := "()[B" } : Jvm.MethodName)) ∈ lw_all := lw_g (lw_at lw_m3 59 rfl) rfl
theorem q703 : (Jvm.Cond.methodLink "java/lang/String" (549 : Nat) ({ cls := "java/lang/AbstractStringBuilder", name := "length", desc := "()I" } : Jvm.MethodName)) ∈ lw_all := lw_g (lw_at lw_m3 64 rfl) rfl
theorem q711 : (Jvm.Cond.methodLink "java/lang/String" (1047 : Nat) ({ cls := "java/lang/AbstractStringBuilder", name := "isLatin1", desc := "()Z" } : Jvm.MethodName)) ∈ lw_all := lw_g (lw_at lw_m3 72 rfl) rfl
theorem q712 : (Jvm.Cond.methodLink "java/lang/String" (54 : Nat) ({ cls := "java/util/Arrays", name := "copyOfRange", desc := "([BII)[B" } : Jvm.MethodName)) ∈ lw_all := lw_g (lw_at lw_m3 73 rfl) rfl
theorem q721 : (Jvm.Cond.methodLink "java/lang/String" (1051 : Nat) ({ cls := "java/lang/StringUTF16", name := "compress", desc := "([BII)[B" } : Jvm.MethodName)) ∈ lw_all := lw_g (lw_at lw_m3 82 rfl) rfl
theorem q728 : (Jvm.Cond.methodLink "java/lang/String" (47 : Nat) ({ cls := "java/lang/StringUTF16", name := "coderFromArrayLen", desc := "([BI)B" } : Jvm.MethodName)) ∈ lw_all := lw_g (lw_at lw_m3 89 rfl) rfl
theorem q731 : (Jvm.Cond.fieldLink "java/lang/String" (9 : Nat) "java/lang/String" "value" "[B") ∈ lw_all := lw_g (lw_at lw_m3 92 rfl) rfl
theorem q732 : (Jvm.Cond.fieldLink "java/lang/String" (15 : Nat) "java/lang/String" "coder" "B") ∈ lw_all := lw_g (lw_at lw_m3 93 rfl) rfl
theorem q733 : (Jvm.Cond.laysFinal "java/lang/String" "java/lang/String" "value" "[B") ∈ lw_all := lw_g (lw_at lw_m3 94 rfl) rfl
theorem q734 : (Jvm.Cond.soleField "java/lang/String" "value") ∈ lw_all := lw_g (lw_at lw_m3 95 rfl) rfl
theorem q735 : (Jvm.Cond.laysFinal "java/lang/String" "java/lang/String" "coder" "B") ∈ lw_all := lw_g (lw_at lw_m3 96 rfl) rfl
theorem q736 : (Jvm.Cond.soleField "java/lang/String" "coder") ∈ lw_all := lw_g (lw_at lw_m3 97 rfl) rfl
theorem q737 : (Jvm.Cond.lays "java/lang/String" "java/lang/String" "hash" "I") ∈ lw_all := lw_g (lw_at lw_m3 98 rfl) rfl
theorem q738 : (Jvm.Cond.soleField "java/lang/String" "hash") ∈ lw_all := lw_g (lw_at lw_m3 99 rfl) rfl
theorem q739 : (Jvm.Cond.lays "java/lang/String" "java/lang/String" "hashIsZero" "Z") ∈ lw_all := lw_g (lw_at lw_m3 100 rfl) rfl
theorem q740 : (Jvm.Cond.soleField "java/lang/String" "hashIsZero") ∈ lw_all := lw_g (lw_at lw_m3 101 rfl) rfl
theorem q741 : (Jvm.Cond.superclass "java/lang/String" "java/lang/Object") ∈ lw_all := lw_g (lw_at lw_m3 102 rfl) rfl
theorem q925 : (Jvm.Cond.selects "java/lang/String" ({ cls := "java/lang/Object", name := "getClass", desc := "()Ljava/lang/Class;" } : Jvm.MethodName) ({ cls := "java/lang/Object", name := "getClass", desc := "()Ljava/lang/Class;" } : Jvm.MethodName)) ∈ lw_all := lw_g (lw_at lw_m4 46 rfl) rfl
theorem q1252 : (Jvm.Cond.instanceMethod ({ cls := "java/lang/String", name := "equals", desc := "(Ljava/lang/Object;)Z" } : Jvm.MethodName)) ∈ lw_all := lw_g (lw_at lw_m5 133 rfl) rfl
theorem q1253 : (Jvm.Cond.selects "java/lang/String" ({ cls := "java/lang/String", name := "equals", desc := "(Ljava/lang/Object;)Z" } : Jvm.MethodName) ({ cls := "java/lang/String", name := "equals", desc := "(Ljava/lang/Object;)Z" } : Jvm.MethodName)) ∈ lw_all := lw_g (lw_at lw_m5 134 rfl) rfl
theorem q1254 : (Jvm.Cond.code ({ cls := "java/lang/String", name := "equals", desc := "(Ljava/lang/Object;)Z" } : Jvm.MethodName) prog_39_method_66_code (3 : Nat) (Option.some Jvm.ClassFile.FieldType.boolean)) ∈ lw_all := lw_g (lw_at lw_m5 135 rfl) rfl
theorem q1255 : (Jvm.Cond.classLink "java/lang/String" (10 : Nat) "java/lang/String") ∈ lw_all := lw_g (lw_at lw_m5 136 rfl) rfl
theorem q1256 : (Jvm.Cond.methodLink "java/lang/String" (541 : Nat) ({ cls := "java/lang/StringLatin1", name := "equals", desc := "([B[B)Z" } : Jvm.MethodName)) ∈ lw_all := lw_g (lw_at lw_m5 137 rfl) rfl
theorem q1428 : (Jvm.Cond.selects "java/lang/String" ({ cls := "java/lang/Object", name := "equals", desc := "(Ljava/lang/Object;)Z" } : Jvm.MethodName) ({ cls := "java/lang/String", name := "equals", desc := "(Ljava/lang/Object;)Z" } : Jvm.MethodName)) ∈ lw_all := lw_g (lw_at lw_m6 69 rfl) rfl
theorem q2702 : (Jvm.Cond.castable "java/lang/String" "java/lang/Object") ∈ lw_tbl := lw_at lw_m11 143 rfl
theorem in_J3 : ∀ w ∈ wsJ30, w ∈ lw_all := lw_in wsJ30 [733, 735, 737, 739] (by decide +kernel) (by decide +kernel)
/-! java/lang/StringLatin1 -/
def RJ4 : String := "java/lang/StringLatin1"
abbrev cJ4_indexOf : ByteArray := prog_41_method_22_code
def yJ4_indexOf : MethodName := ⟨RJ4, "indexOf", "([BIII)I"⟩
theorem dJ4_indexOf_0 : decode cJ4_indexOf 0 = .ok (.iload_n 1, 1) := by decide +kernel
theorem dJ4_indexOf_1 : decode cJ4_indexOf 1 = .ok (.invokestatic 88, 3) := by decide +kernel
theorem dJ4_indexOf_4 : decode cJ4_indexOf 4 = .ok (.ifCond .ne 5, 3) := by decide +kernel
theorem dJ4_indexOf_7 : decode cJ4_indexOf 7 = .ok (.iconst (-1), 1) := by decide +kernel
theorem dJ4_indexOf_8 : decode cJ4_indexOf 8 = .ok (.ireturn, 1) := by decide +kernel
theorem dJ4_indexOf_9 : decode cJ4_indexOf 9 = .ok (.iload_n 2, 1) := by decide +kernel
theorem dJ4_indexOf_10 : decode cJ4_indexOf 10 = .ok (.iconst 0, 1) := by decide +kernel
theorem dJ4_indexOf_11 : decode cJ4_indexOf 11 = .ok (.invokestatic 92, 3) := by decide +kernel
theorem dJ4_indexOf_14 : decode cJ4_indexOf 14 = .ok (.istore_n 2, 1) := by decide +kernel
theorem dJ4_indexOf_15 : decode cJ4_indexOf 15 = .ok (.iload_n 3, 1) := by decide +kernel
theorem dJ4_indexOf_16 : decode cJ4_indexOf 16 = .ok (.aload_n 0, 1) := by decide +kernel
theorem dJ4_indexOf_17 : decode cJ4_indexOf 17 = .ok (.arraylength, 1) := by decide +kernel
theorem dJ4_indexOf_18 : decode cJ4_indexOf 18 = .ok (.invokestatic 38, 3) := by decide +kernel
theorem dJ4_indexOf_21 : decode cJ4_indexOf 21 = .ok (.istore_n 3, 1) := by decide +kernel
theorem dJ4_indexOf_22 : decode cJ4_indexOf 22 = .ok (.iload_n 2, 1) := by decide +kernel
theorem dJ4_indexOf_23 : decode cJ4_indexOf 23 = .ok (.iload_n 3, 1) := by decide +kernel
theorem dJ4_indexOf_24 : decode cJ4_indexOf 24 = .ok (.if_icmp .lt 5, 3) := by decide +kernel
theorem dJ4_indexOf_27 : decode cJ4_indexOf 27 = .ok (.iconst (-1), 1) := by decide +kernel
theorem dJ4_indexOf_28 : decode cJ4_indexOf 28 = .ok (.ireturn, 1) := by decide +kernel
theorem dJ4_indexOf_29 : decode cJ4_indexOf 29 = .ok (.aload_n 0, 1) := by decide +kernel
theorem dJ4_indexOf_30 : decode cJ4_indexOf 30 = .ok (.iload_n 1, 1) := by decide +kernel
theorem dJ4_indexOf_31 : decode cJ4_indexOf 31 = .ok (.iload_n 2, 1) := by decide +kernel
theorem dJ4_indexOf_32 : decode cJ4_indexOf 32 = .ok (.iload_n 3, 1) := by decide +kernel
theorem dJ4_indexOf_33 : decode cJ4_indexOf 33 = .ok (.invokestatic 95, 3) := by decide +kernel
theorem dJ4_indexOf_36 : decode cJ4_indexOf 36 = .ok (.ireturn, 1) := by decide +kernel
abbrev cJ4_canEncode : ByteArray := prog_41_method_4_code
def yJ4_canEncode : MethodName := ⟨RJ4, "canEncode", "(I)Z"⟩
theorem dJ4_canEncode_0 : decode cJ4_canEncode 0 = .ok (.iload_n 0, 1) := by decide +kernel
theorem dJ4_canEncode_1 : decode cJ4_canEncode 1 = .ok (.ifCond .lt 14, 3) := by decide +kernel
theorem dJ4_canEncode_4 : decode cJ4_canEncode 4 = .ok (.iload_n 0, 1) := by decide +kernel
theorem dJ4_canEncode_5 : decode cJ4_canEncode 5 = .ok (.sipush 255, 3) := by decide +kernel
theorem dJ4_canEncode_8 : decode cJ4_canEncode 8 = .ok (.if_icmp .gt 7, 3) := by decide +kernel
theorem dJ4_canEncode_11 : decode cJ4_canEncode 11 = .ok (.iconst 1, 1) := by decide +kernel
theorem dJ4_canEncode_12 : decode cJ4_canEncode 12 = .ok (.goto 4, 3) := by decide +kernel
theorem dJ4_canEncode_15 : decode cJ4_canEncode 15 = .ok (.iconst 0, 1) := by decide +kernel
theorem dJ4_canEncode_16 : decode cJ4_canEncode 16 = .ok (.ireturn, 1) := by decide +kernel
abbrev cJ4_indexOfChar : ByteArray := prog_41_method_23_code
def yJ4_indexOfChar : MethodName := ⟨RJ4, "indexOfChar", "([BIII)I"⟩
theorem dJ4_indexOfChar_0 : decode cJ4_indexOfChar 0 = .ok (.iload_n 1, 1) := by decide +kernel
theorem dJ4_indexOfChar_1 : decode cJ4_indexOfChar 1 = .ok (.i2b, 1) := by decide +kernel
theorem dJ4_indexOfChar_2 : decode cJ4_indexOfChar 2 = .ok (.istore 4, 2) := by decide +kernel
theorem dJ4_indexOfChar_4 : decode cJ4_indexOfChar 4 = .ok (.iload_n 2, 1) := by decide +kernel
theorem dJ4_indexOfChar_5 : decode cJ4_indexOfChar 5 = .ok (.istore 5, 2) := by decide +kernel
theorem dJ4_indexOfChar_7 : decode cJ4_indexOfChar 7 = .ok (.iload 5, 2) := by decide +kernel
theorem dJ4_indexOfChar_9 : decode cJ4_indexOfChar 9 = .ok (.iload_n 3, 1) := by decide +kernel
theorem dJ4_indexOfChar_10 : decode cJ4_indexOfChar 10 = .ok (.if_icmp .ge 21, 3) := by decide +kernel
theorem dJ4_indexOfChar_13 : decode cJ4_indexOfChar 13 = .ok (.aload_n 0, 1) := by decide +kernel
theorem dJ4_indexOfChar_14 : decode cJ4_indexOfChar 14 = .ok (.iload 5, 2) := by decide +kernel
theorem dJ4_indexOfChar_16 : decode cJ4_indexOfChar 16 = .ok (.baload, 1) := by decide +kernel
theorem dJ4_indexOfChar_17 : decode cJ4_indexOfChar 17 = .ok (.iload 4, 2) := by decide +kernel
theorem dJ4_indexOfChar_19 : decode cJ4_indexOfChar 19 = .ok (.if_icmp .ne 6, 3) := by decide +kernel
theorem dJ4_indexOfChar_22 : decode cJ4_indexOfChar 22 = .ok (.iload 5, 2) := by decide +kernel
theorem dJ4_indexOfChar_24 : decode cJ4_indexOfChar 24 = .ok (.ireturn, 1) := by decide +kernel
theorem dJ4_indexOfChar_25 : decode cJ4_indexOfChar 25 = .ok (.iinc 5 1, 3) := by decide +kernel
theorem dJ4_indexOfChar_28 : decode cJ4_indexOfChar 28 = .ok (.goto (-21), 3) := by decide +kernel
theorem dJ4_indexOfChar_31 : decode cJ4_indexOfChar 31 = .ok (.iconst (-1), 1) := by decide +kernel
theorem dJ4_indexOfChar_32 : decode cJ4_indexOfChar 32 = .ok (.ireturn, 1) := by decide +kernel
abbrev cJ4_charAt : ByteArray := prog_41_method_2_code
def yJ4_charAt : MethodName := ⟨RJ4, "charAt", "([BI)C"⟩
theorem dJ4_charAt_0 : decode cJ4_charAt 0 = .ok (.iload_n 1, 1) := by decide +kernel
theorem dJ4_charAt_1 : decode cJ4_charAt 1 = .ok (.aload_n 0, 1) := by decide +kernel
theorem dJ4_charAt_2 : decode cJ4_charAt 2 = .ok (.arraylength, 1) := by decide +kernel
theorem dJ4_charAt_3 : decode cJ4_charAt 3 = .ok (.invokestatic 9, 3) := by decide +kernel
theorem dJ4_charAt_6 : decode cJ4_charAt 6 = .ok (.aload_n 0, 1) := by decide +kernel
theorem dJ4_charAt_7 : decode cJ4_charAt 7 = .ok (.iload_n 1, 1) := by decide +kernel
theorem dJ4_charAt_8 : decode cJ4_charAt 8 = .ok (.baload, 1) := by decide +kernel
theorem dJ4_charAt_9 : decode cJ4_charAt 9 = .ok (.sipush 255, 3) := by decide +kernel
theorem dJ4_charAt_12 : decode cJ4_charAt 12 = .ok (.iand, 1) := by decide +kernel
theorem dJ4_charAt_13 : decode cJ4_charAt 13 = .ok (.i2c, 1) := by decide +kernel
theorem dJ4_charAt_14 : decode cJ4_charAt 14 = .ok (.ireturn, 1) := by decide +kernel
abbrev cJ4_canEncode_2 : ByteArray := prog_41_method_3_code
def yJ4_canEncode_2 : MethodName := ⟨RJ4, "canEncode", "(C)Z"⟩
theorem dJ4_canEncode_2_0 : decode cJ4_canEncode_2 0 = .ok (.iload_n 0, 1) := by decide +kernel
theorem dJ4_canEncode_2_1 : decode cJ4_canEncode_2 1 = .ok (.sipush 255, 3) := by decide +kernel
theorem dJ4_canEncode_2_4 : decode cJ4_canEncode_2 4 = .ok (.if_icmp .gt 7, 3) := by decide +kernel
theorem dJ4_canEncode_2_7 : decode cJ4_canEncode_2 7 = .ok (.iconst 1, 1) := by decide +kernel
theorem dJ4_canEncode_2_8 : decode cJ4_canEncode_2 8 = .ok (.goto 4, 3) := by decide +kernel
theorem dJ4_canEncode_2_11 : decode cJ4_canEncode_2 11 = .ok (.iconst 0, 1) := by decide +kernel
theorem dJ4_canEncode_2_12 : decode cJ4_canEncode_2 12 = .ok (.ireturn, 1) := by decide +kernel
abbrev cJ4_inflate : ByteArray := prog_41_method_50_code
def yJ4_inflate : MethodName := ⟨RJ4, "inflate", "([BI[BII)V"⟩
theorem dJ4_inflate_0 : decode cJ4_inflate 0 = .ok (.aload_n 0, 1) := by decide +kernel
theorem dJ4_inflate_1 : decode cJ4_inflate 1 = .ok (.iload_n 1, 1) := by decide +kernel
theorem dJ4_inflate_2 : decode cJ4_inflate 2 = .ok (.aload_n 2, 1) := by decide +kernel
theorem dJ4_inflate_3 : decode cJ4_inflate 3 = .ok (.iload_n 3, 1) := by decide +kernel
theorem dJ4_inflate_4 : decode cJ4_inflate 4 = .ok (.iload 4, 2) := by decide +kernel
theorem dJ4_inflate_6 : decode cJ4_inflate 6 = .ok (.invokestatic 240, 3) := by decide +kernel
theorem dJ4_inflate_9 : decode cJ4_inflate 9 = .ok (.return_, 1) := by decide +kernel
abbrev cJ4_equals : ByteArray := prog_41_method_13_code
def yJ4_equals : MethodName := ⟨RJ4, "equals", "([B[B)Z"⟩
theorem dJ4_equals_0 : decode cJ4_equals 0 = .ok (.aload_n 0, 1) := by decide +kernel
theorem dJ4_equals_1 : decode cJ4_equals 1 = .ok (.arraylength, 1) := by decide +kernel
theorem dJ4_equals_2 : decode cJ4_equals 2 = .ok (.aload_n 1, 1) := by decide +kernel
theorem dJ4_equals_3 : decode cJ4_equals 3 = .ok (.arraylength, 1) := by decide +kernel
theorem dJ4_equals_4 : decode cJ4_equals 4 = .ok (.if_icmp .ne 30, 3) := by decide +kernel
theorem dJ4_equals_7 : decode cJ4_equals 7 = .ok (.iconst 0, 1) := by decide +kernel
theorem dJ4_equals_8 : decode cJ4_equals 8 = .ok (.istore_n 2, 1) := by decide +kernel
theorem dJ4_equals_9 : decode cJ4_equals 9 = .ok (.iload_n 2, 1) := by decide +kernel
theorem dJ4_equals_10 : decode cJ4_equals 10 = .ok (.aload_n 0, 1) := by decide +kernel
theorem dJ4_equals_11 : decode cJ4_equals 11 = .ok (.arraylength, 1) := by decide +kernel
theorem dJ4_equals_12 : decode cJ4_equals 12 = .ok (.if_icmp .ge 20, 3) := by decide +kernel
theorem dJ4_equals_15 : decode cJ4_equals 15 = .ok (.aload_n 0, 1) := by decide +kernel
theorem dJ4_equals_16 : decode cJ4_equals 16 = .ok (.iload_n 2, 1) := by decide +kernel
theorem dJ4_equals_17 : decode cJ4_equals 17 = .ok (.baload, 1) := by decide +kernel
theorem dJ4_equals_18 : decode cJ4_equals 18 = .ok (.aload_n 1, 1) := by decide +kernel
theorem dJ4_equals_19 : decode cJ4_equals 19 = .ok (.iload_n 2, 1) := by decide +kernel
theorem dJ4_equals_20 : decode cJ4_equals 20 = .ok (.baload, 1) := by decide +kernel
theorem dJ4_equals_21 : decode cJ4_equals 21 = .ok (.if_icmp .eq 5, 3) := by decide +kernel
theorem dJ4_equals_24 : decode cJ4_equals 24 = .ok (.iconst 0, 1) := by decide +kernel
theorem dJ4_equals_25 : decode cJ4_equals 25 = .ok (.ireturn, 1) := by decide +kernel
theorem dJ4_equals_26 : decode cJ4_equals 26 = .ok (.iinc 2 1, 3) := by decide +kernel
theorem dJ4_equals_29 : decode cJ4_equals 29 = .ok (.goto (-20), 3) := by decide +kernel
theorem dJ4_equals_32 : decode cJ4_equals 32 = .ok (.iconst 1, 1) := by decide +kernel
theorem dJ4_equals_33 : decode cJ4_equals 33 = .ok (.ireturn, 1) := by decide +kernel
theorem dJ4_equals_34 : decode cJ4_equals 34 = .ok (.iconst 0, 1) := by decide +kernel
theorem dJ4_equals_35 : decode cJ4_equals 35 = .ok (.ireturn, 1) := by decide +kernel
theorem q167 : (Jvm.Cond.initialized "java/lang/StringLatin1") ∈ lw_all := lw_g (lw_at lw_m1 8 rfl) rfl
theorem q385 : (Jvm.Cond.static ({ cls := "java/lang/StringLatin1", name := "indexOf", desc := "([BIII)I" } : Jvm.MethodName)) ∈ lw_all := lw_g (lw_at lw_m1 226 rfl) rfl
theorem q386 : (Jvm.Cond.code ({ cls := "java/lang/StringLatin1", name := "indexOf", desc := "([BIII)I" } : Jvm.MethodName) prog_41_method_22_code (4 : Nat) (Option.some Jvm.ClassFile.FieldType.int)) ∈ lw_all := lw_g (lw_at lw_m1 227 rfl) rfl
theorem q387 : (Jvm.Cond.methodLink "java/lang/StringLatin1" (88 : Nat) ({ cls := "java/lang/StringLatin1", name := "canEncode", desc := "(I)Z" } : Jvm.MethodName)) ∈ lw_all := lw_g (lw_at lw_m1 228 rfl) rfl
theorem q388 : (Jvm.Cond.static ({ cls := "java/lang/StringLatin1", name := "canEncode", desc := "(I)Z" } : Jvm.MethodName)) ∈ lw_all := lw_g (lw_at lw_m1 229 rfl) rfl
theorem q389 : (Jvm.Cond.code ({ cls := "java/lang/StringLatin1", name := "canEncode", desc := "(I)Z" } : Jvm.MethodName) prog_41_method_4_code (1 : Nat) (Option.some Jvm.ClassFile.FieldType.boolean)) ∈ lw_all := lw_g (lw_at lw_m1 230 rfl) rfl
theorem q390 : (Jvm.Cond.methodLink "java/lang/StringLatin1" (92 : Nat) ({ cls := "java/lang/Math", name := "max", desc := "(II)I" } : Jvm.MethodName)) ∈ lw_all := lw_g (lw_at lw_m1 231 rfl) rfl
theorem q393 : (Jvm.Cond.methodLink "java/lang/StringLatin1" (38 : Nat) ({ cls := "java/lang/Math", name := "min", desc := "(II)I" } : Jvm.MethodName)) ∈ lw_all := lw_g (lw_at lw_m1 234 rfl) rfl
theorem q396 : (Jvm.Cond.methodLink "java/lang/StringLatin1" (95 : Nat) ({ cls := "java/lang/StringLatin1", name := "indexOfChar", desc := "([BIII)I" } : Jvm.MethodName)) ∈ lw_all := lw_g (lw_at lw_m1 237 rfl) rfl
theorem q397 : (Jvm.Cond.static ({ cls := "java/lang/StringLatin1", name := "indexOfChar", desc := "([BIII)I" } : Jvm.MethodName)) ∈ lw_all := lw_g (lw_at lw_m1 238 rfl) rfl
theorem q398 : (Jvm.Cond.code ({ cls := "java/lang/StringLatin1", name := "indexOfChar", desc := "([BIII)I" } : Jvm.MethodName) prog_41_method_23_code (6 : Nat) (Option.some Jvm.ClassFile.FieldType.int)) ∈ lw_all := lw_g (lw_at lw_m1 239 rfl) rfl
theorem q465 : (Jvm.Cond.static ({ cls := "java/lang/StringLatin1", name := "charAt", desc := "([BI)C" } : Jvm.MethodName)) ∈ lw_all := lw_g (lw_at lw_m2 66 rfl) rfl
theorem q466 : (Jvm.Cond.code ({ cls := "java/lang/StringLatin1", name := "charAt", desc := "([BI)C" } : Jvm.MethodName) prog_41_method_2_code (2 : Nat) (Option.some Jvm.ClassFile.FieldType.char)) ∈ lw_all := lw_g (lw_at lw_m2 67 rfl) rfl
theorem q467 : (Jvm.Cond.methodLink "java/lang/StringLatin1" (9 : Nat) ({ cls := "java/lang/String", name := "checkIndex", desc := "(II)V" } : Jvm.MethodName)) ∈ lw_all := lw_g (lw_at lw_m2 68 rfl) rfl
theorem q658 : (Jvm.Cond.static ({ cls := "java/lang/StringLatin1", name := "canEncode", desc := "(C)Z" } : Jvm.MethodName)) ∈ lw_all := lw_g (lw_at lw_m3 19 rfl) rfl
theorem q659 : (Jvm.Cond.code ({ cls := "java/lang/StringLatin1", name := "canEncode", desc := "(C)Z" } : Jvm.MethodName) prog_41_method_3_code (1 : Nat) (Option.some Jvm.ClassFile.FieldType.boolean)) ∈ lw_all := lw_g (lw_at lw_m3 20 rfl) rfl
theorem q665 : (Jvm.Cond.static ({ cls := "java/lang/StringLatin1", name := "inflate", desc := "([BI[BII)V" } : Jvm.MethodName)) ∈ lw_all := lw_g (lw_at lw_m3 26 rfl) rfl
theorem q666 : (Jvm.Cond.code ({ cls := "java/lang/StringLatin1", name := "inflate", desc := "([BI[BII)V" } : Jvm.MethodName) prog_41_method_50_code (5 : Nat) (Option.none : Option Jvm.ClassFile.FieldType)) ∈ lw_all := lw_g (lw_at lw_m3 27 rfl) rfl
theorem q667 : (Jvm.Cond.methodLink "java/lang/StringLatin1" (240 : Nat) ({ cls := "java/lang/StringUTF16", name := "inflate", desc := "([BI[BII)V" } : Jvm.MethodName)) ∈ lw_all := lw_g (lw_at lw_m3 28 rfl) rfl
theorem q1257 : (Jvm.Cond.static ({ cls := "java/lang/StringLatin1", name := "equals", desc := "([B[B)Z" } : Jvm.MethodName)) ∈ lw_all := lw_g (lw_at lw_m5 138 rfl) rfl
theorem q1258 : (Jvm.Cond.code ({ cls := "java/lang/StringLatin1", name := "equals", desc := "([B[B)Z" } : Jvm.MethodName) prog_41_method_13_code (3 : Nat) (Option.some Jvm.ClassFile.FieldType.boolean)) ∈ lw_all := lw_g (lw_at lw_m5 139 rfl) rfl
/-! java/lang/Math -/
def RJ5 : String := "java/lang/Math"
abbrev cJ5_max : ByteArray := prog_36_method_65_code
def yJ5_max : MethodName := ⟨RJ5, "max", "(II)I"⟩
theorem dJ5_max_0 : decode cJ5_max 0 = .ok (.iload_n 0, 1) := by decide +kernel
theorem dJ5_max_1 : decode cJ5_max 1 = .ok (.iload_n 1, 1) := by decide +kernel
theorem dJ5_max_2 : decode cJ5_max 2 = .ok (.if_icmp .lt 7, 3) := by decide +kernel
theorem dJ5_max_5 : decode cJ5_max 5 = .ok (.iload_n 0, 1) := by decide +kernel
theorem dJ5_max_6 : decode cJ5_max 6 = .ok (.goto 4, 3) := by decide +kernel
theorem dJ5_max_9 : decode cJ5_max 9 = .ok (.iload_n 1, 1) := by decide +kernel
theorem dJ5_max_10 : decode cJ5_max 10 = .ok (.ireturn, 1) := by decide +kernel
abbrev cJ5_min : ByteArray := prog_36_method_69_code
def yJ5_min : MethodName := ⟨RJ5, "min", "(II)I"⟩
theorem dJ5_min_0 : decode cJ5_min 0 = .ok (.iload_n 0, 1) := by decide +kernel
theorem dJ5_min_1 : decode cJ5_min 1 = .ok (.iload_n 1, 1) := by decide +kernel
theorem dJ5_min_2 : decode cJ5_min 2 = .ok (.if_icmp .gt 7, 3) := by decide +kernel
theorem dJ5_min_5 : decode cJ5_min 5 = .ok (.iload_n 0, 1) := by decide +kernel
theorem dJ5_min_6 : decode cJ5_min 6 = .ok (.goto 4, 3) := by decide +kernel
theorem dJ5_min_9 : decode cJ5_min 9 = .ok (.iload_n 1, 1) := by decide +kernel
