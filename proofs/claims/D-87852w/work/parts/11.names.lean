set_option maxRecDepth 100000
theorem dX2_signOf_31 : decode cX2_signOf 31 = .ok (.bipush 48, 2) := by decide +kernel
theorem dX2_signOf_33 : decode cX2_signOf 33 = .ok (.iload_n 0, 1) := by decide +kernel
theorem dX2_signOf_34 : decode cX2_signOf 34 = .ok (.iadd, 1) := by decide +kernel
theorem dX2_signOf_35 : decode cX2_signOf 35 = .ok (.bipush 53, 2) := by decide +kernel
theorem dX2_signOf_37 : decode cX2_signOf 37 = .ok (.isub, 1) := by decide +kernel
theorem dX2_signOf_38 : decode cX2_signOf 38 = .ok (.ireturn, 1) := by decide +kernel
abbrev cX2_say : ByteArray := prog_24_method_110_code
def yX2_say : MethodName := ⟨RX2, "say", "(I)V"⟩
theorem dX2_say_0 : decode cX2_say 0 = .ok (.aload_n 0, 1) := by decide +kernel
theorem dX2_say_1 : decode cX2_say 1 = .ok (.getfield 710, 3) := by decide +kernel
theorem dX2_say_4 : decode cX2_say 4 = .ok (.sipush 2000, 3) := by decide +kernel
theorem dX2_say_7 : decode cX2_say 7 = .ok (.if_icmp .ge 23, 3) := by decide +kernel
theorem dX2_say_10 : decode cX2_say 10 = .ok (.aload_n 0, 1) := by decide +kernel
theorem dX2_say_11 : decode cX2_say 11 = .ok (.getfield 240, 3) := by decide +kernel
theorem dX2_say_14 : decode cX2_say 14 = .ok (.aload_n 0, 1) := by decide +kernel
theorem dX2_say_15 : decode cX2_say 15 = .ok (.getfield 710, 3) := by decide +kernel
theorem dX2_say_18 : decode cX2_say 18 = .ok (.iload_n 1, 1) := by decide +kernel
theorem dX2_say_19 : decode cX2_say 19 = .ok (.iastore, 1) := by decide +kernel
theorem dX2_say_20 : decode cX2_say 20 = .ok (.aload_n 0, 1) := by decide +kernel
theorem dX2_say_21 : decode cX2_say 21 = .ok (.dup, 1) := by decide +kernel
theorem dX2_say_22 : decode cX2_say 22 = .ok (.getfield 710, 3) := by decide +kernel
theorem dX2_say_25 : decode cX2_say 25 = .ok (.iconst 1, 1) := by decide +kernel
theorem dX2_say_26 : decode cX2_say 26 = .ok (.iadd, 1) := by decide +kernel
theorem dX2_say_27 : decode cX2_say 27 = .ok (.putfield 710, 3) := by decide +kernel
theorem dX2_say_30 : decode cX2_say 30 = .ok (.return_, 1) := by decide +kernel
abbrev cX2_out : ByteArray := prog_24_method_118_code
def yX2_out : MethodName := ⟨RX2, "out", "(I)I"⟩
theorem dX2_out_0 : decode cX2_out 0 = .ok (.aload_n 0, 1) := by decide +kernel
theorem dX2_out_1 : decode cX2_out 1 = .ok (.iconst 0, 1) := by decide +kernel
theorem dX2_out_2 : decode cX2_out 2 = .ok (.putfield 252, 3) := by decide +kernel
theorem dX2_out_5 : decode cX2_out 5 = .ok (.iload_n 1, 1) := by decide +kernel
theorem dX2_out_6 : decode cX2_out 6 = .ok (.ifCond .lt 11, 3) := by decide +kernel
theorem dX2_out_9 : decode cX2_out 9 = .ok (.iload_n 1, 1) := by decide +kernel
theorem dX2_out_10 : decode cX2_out 10 = .ok (.aload_n 0, 1) := by decide +kernel
theorem dX2_out_11 : decode cX2_out 11 = .ok (.getfield 710, 3) := by decide +kernel
theorem dX2_out_14 : decode cX2_out 14 = .ok (.if_icmp .lt 7, 3) := by decide +kernel
theorem dX2_out_17 : decode cX2_out 17 = .ok (.iconst (-1), 1) := by decide +kernel
theorem dX2_out_18 : decode cX2_out 18 = .ok (.goto 9, 3) := by decide +kernel
theorem dX2_out_21 : decode cX2_out 21 = .ok (.aload_n 0, 1) := by decide +kernel
theorem dX2_out_22 : decode cX2_out 22 = .ok (.getfield 240, 3) := by decide +kernel
theorem dX2_out_25 : decode cX2_out 25 = .ok (.iload_n 1, 1) := by decide +kernel
theorem dX2_out_26 : decode cX2_out 26 = .ok (.iaload, 1) := by decide +kernel
theorem dX2_out_27 : decode cX2_out 27 = .ok (.ireturn, 1) := by decide +kernel
abbrev cX2_count : ByteArray := prog_24_method_119_code
def yX2_count : MethodName := ⟨RX2, "count", "(I)I"⟩
theorem dX2_count_0 : decode cX2_count 0 = .ok (.aload_n 0, 1) := by decide +kernel
theorem dX2_count_1 : decode cX2_count 1 = .ok (.iconst 0, 1) := by decide +kernel
theorem dX2_count_2 : decode cX2_count 2 = .ok (.putfield 252, 3) := by decide +kernel
theorem dX2_count_5 : decode cX2_count 5 = .ok (.iload_n 1, 1) := by decide +kernel
theorem dX2_count_6 : decode cX2_count 6 = .ok (.tableswitch 86 0 5 #[38, 48, 58, 63, 68, 73], 38) := by decide +kernel
theorem dX2_count_44 : decode cX2_count 44 = .ok (.aload_n 0, 1) := by decide +kernel
theorem dX2_count_45 : decode cX2_count 45 = .ok (.getfield 74, 3) := by decide +kernel
theorem dX2_count_48 : decode cX2_count 48 = .ok (.aload_n 0, 1) := by decide +kernel
theorem dX2_count_49 : decode cX2_count 49 = .ok (.getfield 481, 3) := by decide +kernel
theorem dX2_count_52 : decode cX2_count 52 = .ok (.iaload, 1) := by decide +kernel
theorem dX2_count_53 : decode cX2_count 53 = .ok (.ireturn, 1) := by decide +kernel
theorem dX2_count_54 : decode cX2_count 54 = .ok (.aload_n 0, 1) := by decide +kernel
theorem dX2_count_55 : decode cX2_count 55 = .ok (.getfield 132, 3) := by decide +kernel
theorem dX2_count_58 : decode cX2_count 58 = .ok (.aload_n 0, 1) := by decide +kernel
theorem dX2_count_59 : decode cX2_count 59 = .ok (.getfield 481, 3) := by decide +kernel
theorem dX2_count_62 : decode cX2_count 62 = .ok (.iaload, 1) := by decide +kernel
theorem dX2_count_63 : decode cX2_count 63 = .ok (.ireturn, 1) := by decide +kernel
theorem dX2_count_64 : decode cX2_count 64 = .ok (.aload_n 0, 1) := by decide +kernel
theorem dX2_count_65 : decode cX2_count 65 = .ok (.getfield 619, 3) := by decide +kernel
theorem dX2_count_68 : decode cX2_count 68 = .ok (.ireturn, 1) := by decide +kernel
theorem dX2_count_69 : decode cX2_count 69 = .ok (.aload_n 0, 1) := by decide +kernel
theorem dX2_count_70 : decode cX2_count 70 = .ok (.getfield 601, 3) := by decide +kernel
theorem dX2_count_73 : decode cX2_count 73 = .ok (.ireturn, 1) := by decide +kernel
theorem dX2_count_74 : decode cX2_count 74 = .ok (.aload_n 0, 1) := by decide +kernel
theorem dX2_count_75 : decode cX2_count 75 = .ok (.getfield 259, 3) := by decide +kernel
theorem dX2_count_78 : decode cX2_count 78 = .ok (.ireturn, 1) := by decide +kernel
theorem dX2_count_79 : decode cX2_count 79 = .ok (.aload_n 0, 1) := by decide +kernel
theorem dX2_count_80 : decode cX2_count 80 = .ok (.getfield 594, 3) := by decide +kernel
theorem dX2_count_83 : decode cX2_count 83 = .ok (.ifCond .eq 7, 3) := by decide +kernel
theorem dX2_count_86 : decode cX2_count 86 = .ok (.iconst 1, 1) := by decide +kernel
theorem dX2_count_87 : decode cX2_count 87 = .ok (.goto 4, 3) := by decide +kernel
theorem dX2_count_90 : decode cX2_count 90 = .ok (.iconst 0, 1) := by decide +kernel
theorem dX2_count_91 : decode cX2_count 91 = .ok (.ireturn, 1) := by decide +kernel
theorem dX2_count_92 : decode cX2_count 92 = .ok (.iconst (-1), 1) := by decide +kernel
theorem dX2_count_93 : decode cX2_count 93 = .ok (.ireturn, 1) := by decide +kernel
theorem q165 : (Jvm.Cond.initialized "FeatherBenchModel") ∈ lw_all := lw_g (lw_at lw_m1 6 rfl) rfl
theorem q923 : (Jvm.Cond.selects "FeatherBenchModel" ({ cls := "java/lang/Object", name := "getClass", desc := "()Ljava/lang/Class;" } : Jvm.MethodName) ({ cls := "java/lang/Object", name := "getClass", desc := "()Ljava/lang/Class;" } : Jvm.MethodName)) ∈ lw_all := lw_g (lw_at lw_m4 44 rfl) rfl
theorem q1423 : (Jvm.Cond.selects "FeatherBenchModel" ({ cls := "java/lang/Object", name := "equals", desc := "(Ljava/lang/Object;)Z" } : Jvm.MethodName) ({ cls := "java/lang/Object", name := "equals", desc := "(Ljava/lang/Object;)Z" } : Jvm.MethodName)) ∈ lw_all := lw_g (lw_at lw_m6 64 rfl) rfl
theorem q1836 : (Jvm.Cond.instantiable "FeatherBenchModel" (125 : Nat)) ∈ lw_all := lw_g (lw_at lw_m7 237 rfl) rfl
theorem q1838 : (Jvm.Cond.instanceMethod ({ cls := "FeatherBenchModel", name := "<init>", desc := "()V" } : Jvm.MethodName)) ∈ lw_all := lw_g (lw_at lw_m7 239 rfl) rfl
theorem q1839 : (Jvm.Cond.code ({ cls := "FeatherBenchModel", name := "<init>", desc := "()V" } : Jvm.MethodName) prog_24_method_1_code (1 : Nat) (Option.none : Option Jvm.ClassFile.FieldType)) ∈ lw_all := lw_g (lw_at lw_m8 0 rfl) rfl
theorem q1840 : (Jvm.Cond.methodLink "FeatherBenchModel" (1 : Nat) ({ cls := "java/lang/Object", name := "<init>", desc := "()V" } : Jvm.MethodName)) ∈ lw_all := lw_g (lw_at lw_m8 1 rfl) rfl
theorem q1841 : (Jvm.Cond.stringRef "FeatherBenchModel" (32 : Nat) "type struct interface func return main ") ∈ lw_tbl := lw_at lw_m8 2 rfl
theorem q1842 : (Jvm.Cond.constant "FeatherBenchModel" (168 : Nat) (200000 : Int32)) ∈ lw_all := lw_g (lw_at lw_m8 3 rfl) rfl
theorem q1843 : (Jvm.Cond.constant "FeatherBenchModel" (187 : Nat) (120000 : Int32)) ∈ lw_all := lw_g (lw_at lw_m8 4 rfl) rfl
theorem q1844 : (Jvm.Cond.fieldLink "FeatherBenchModel" (252 : Nat) "FeatherBenchModel" "thrown" "I") ∈ lw_all := lw_g (lw_at lw_m8 5 rfl) rfl
theorem q1845 : (Jvm.Cond.fieldLink "FeatherBenchModel" (7 : Nat) "FeatherBenchModel" "tape" "[I") ∈ lw_all := lw_g (lw_at lw_m8 6 rfl) rfl
theorem q1846 : (Jvm.Cond.fieldLink "FeatherBenchModel" (259 : Nat) "FeatherBenchModel" "taped" "I") ∈ lw_all := lw_g (lw_at lw_m8 7 rfl) rfl
theorem q1847 : (Jvm.Cond.fieldLink "FeatherBenchModel" (284 : Nat) "FeatherBenchModel" "size" "I") ∈ lw_all := lw_g (lw_at lw_m8 8 rfl) rfl
theorem q1848 : (Jvm.Cond.fieldLink "FeatherBenchModel" (13 : Nat) "FeatherBenchModel" "sort" "[I") ∈ lw_all := lw_g (lw_at lw_m8 9 rfl) rfl
theorem q1849 : (Jvm.Cond.fieldLink "FeatherBenchModel" (16 : Nat) "FeatherBenchModel" "place" "[I") ∈ lw_all := lw_g (lw_at lw_m8 10 rfl) rfl
theorem q1850 : (Jvm.Cond.fieldLink "FeatherBenchModel" (19 : Nat) "FeatherBenchModel" "word" "[I") ∈ lw_all := lw_g (lw_at lw_m8 11 rfl) rfl
theorem q1851 : (Jvm.Cond.fieldLink "FeatherBenchModel" (297 : Nat) "FeatherBenchModel" "at" "I") ∈ lw_all := lw_g (lw_at lw_m8 12 rfl) rfl
theorem q1852 : (Jvm.Cond.fieldLink "FeatherBenchModel" (300 : Nat) "FeatherBenchModel" "fault" "I") ∈ lw_all := lw_g (lw_at lw_m8 13 rfl) rfl
theorem q1853 : (Jvm.Cond.fieldLink "FeatherBenchModel" (262 : Nat) "FeatherBenchModel" "bank" "I") ∈ lw_all := lw_g (lw_at lw_m8 14 rfl) rfl
theorem q1854 : (Jvm.Cond.fieldLink "FeatherBenchModel" (22 : Nat) "FeatherBenchModel" "wordA" "[J") ∈ lw_all := lw_g (lw_at lw_m8 15 rfl) rfl
theorem q1855 : (Jvm.Cond.fieldLink "FeatherBenchModel" (26 : Nat) "FeatherBenchModel" "wordB" "[J") ∈ lw_all := lw_g (lw_at lw_m8 16 rfl) rfl
theorem q1856 : (Jvm.Cond.fieldLink "FeatherBenchModel" (29 : Nat) "FeatherBenchModel" "words" "[I") ∈ lw_all := lw_g (lw_at lw_m8 17 rfl) rfl
theorem q1857 : (Jvm.Cond.fieldLink "FeatherBenchModel" (34 : Nat) "FeatherBenchModel" "keys" "Ljava/lang/String;") ∈ lw_all := lw_g (lw_at lw_m8 18 rfl) rfl
theorem q1858 : (Jvm.Cond.fieldLink "FeatherBenchModel" (38 : Nat) "FeatherBenchModel" "what" "[I") ∈ lw_all := lw_g (lw_at lw_m8 19 rfl) rfl
theorem q1859 : (Jvm.Cond.fieldLink "FeatherBenchModel" (41 : Nat) "FeatherBenchModel" "token" "[I") ∈ lw_all := lw_g (lw_at lw_m8 20 rfl) rfl
theorem q1860 : (Jvm.Cond.fieldLink "FeatherBenchModel" (44 : Nat) "FeatherBenchModel" "point" "[I") ∈ lw_all := lw_g (lw_at lw_m8 21 rfl) rfl
theorem q1861 : (Jvm.Cond.fieldLink "FeatherBenchModel" (47 : Nat) "FeatherBenchModel" "first" "[I") ∈ lw_all := lw_g (lw_at lw_m8 22 rfl) rfl
theorem q1862 : (Jvm.Cond.fieldLink "FeatherBenchModel" (50 : Nat) "FeatherBenchModel" "beside" "[I") ∈ lw_all := lw_g (lw_at lw_m8 23 rfl) rfl
theorem q1863 : (Jvm.Cond.fieldLink "FeatherBenchModel" (53 : Nat) "FeatherBenchModel" "many" "[I") ∈ lw_all := lw_g (lw_at lw_m8 24 rfl) rfl
theorem q1864 : (Jvm.Cond.fieldLink "FeatherBenchModel" (56 : Nat) "FeatherBenchModel" "ahead" "[I") ∈ lw_all := lw_g (lw_at lw_m8 25 rfl) rfl
theorem q1865 : (Jvm.Cond.fieldLink "FeatherBenchModel" (59 : Nat) "FeatherBenchModel" "behindIt" "[I") ∈ lw_all := lw_g (lw_at lw_m8 26 rfl) rfl
theorem q1866 : (Jvm.Cond.fieldLink "FeatherBenchModel" (62 : Nat) "FeatherBenchModel" "typeOf" "[I") ∈ lw_all := lw_g (lw_at lw_m8 27 rfl) rfl
theorem q1867 : (Jvm.Cond.fieldLink "FeatherBenchModel" (65 : Nat) "FeatherBenchModel" "typesMany" "[I") ∈ lw_all := lw_g (lw_at lw_m8 28 rfl) rfl
theorem q1868 : (Jvm.Cond.fieldLink "FeatherBenchModel" (68 : Nat) "FeatherBenchModel" "start" "[I") ∈ lw_all := lw_g (lw_at lw_m8 29 rfl) rfl
theorem q1869 : (Jvm.Cond.fieldLink "FeatherBenchModel" (71 : Nat) "FeatherBenchModel" "length" "[I") ∈ lw_all := lw_g (lw_at lw_m8 30 rfl) rfl
theorem q1870 : (Jvm.Cond.fieldLink "FeatherBenchModel" (317 : Nat) "FeatherBenchModel" "nodes" "I") ∈ lw_all := lw_g (lw_at lw_m8 31 rfl) rfl
theorem q1871 : (Jvm.Cond.fieldLink "FeatherBenchModel" (320 : Nat) "FeatherBenchModel" "deep" "I") ∈ lw_all := lw_g (lw_at lw_m8 32 rfl) rfl
theorem q1872 : (Jvm.Cond.fieldLink "FeatherBenchModel" (333 : Nat) "FeatherBenchModel" "listMany" "I") ∈ lw_all := lw_g (lw_at lw_m8 33 rfl) rfl
theorem q1873 : (Jvm.Cond.fieldLink "FeatherBenchModel" (481 : Nat) "FeatherBenchModel" "now" "I") ∈ lw_all := lw_g (lw_at lw_m8 34 rfl) rfl
theorem q1874 : (Jvm.Cond.fieldLink "FeatherBenchModel" (364 : Nat) "FeatherBenchModel" "next" "I") ∈ lw_all := lw_g (lw_at lw_m8 35 rfl) rfl
theorem q1875 : (Jvm.Cond.fieldLink "FeatherBenchModel" (74 : Nat) "FeatherBenchModel" "types" "[I") ∈ lw_all := lw_g (lw_at lw_m8 36 rfl) rfl
theorem q1876 : (Jvm.Cond.fieldLink "FeatherBenchModel" (77 : Nat) "FeatherBenchModel" "typeToken" "[I") ∈ lw_all := lw_g (lw_at lw_m8 37 rfl) rfl
theorem q1877 : (Jvm.Cond.fieldLink "FeatherBenchModel" (80 : Nat) "FeatherBenchModel" "isStruct" "[Z") ∈ lw_all := lw_g (lw_at lw_m8 38 rfl) rfl
theorem q1878 : (Jvm.Cond.fieldLink "FeatherBenchModel" (84 : Nat) "FeatherBenchModel" "formals" "[I") ∈ lw_all := lw_g (lw_at lw_m8 39 rfl) rfl
theorem q1879 : (Jvm.Cond.fieldLink "FeatherBenchModel" (87 : Nat) "FeatherBenchModel" "formalToken" "[I") ∈ lw_all := lw_g (lw_at lw_m8 40 rfl) rfl
theorem q1880 : (Jvm.Cond.fieldLink "FeatherBenchModel" (90 : Nat) "FeatherBenchModel" "formalBound" "[I") ∈ lw_all := lw_g (lw_at lw_m8 41 rfl) rfl
theorem q1881 : (Jvm.Cond.fieldLink "FeatherBenchModel" (93 : Nat) "FeatherBenchModel" "fields" "[I") ∈ lw_all := lw_g (lw_at lw_m8 42 rfl) rfl
theorem q1882 : (Jvm.Cond.fieldLink "FeatherBenchModel" (96 : Nat) "FeatherBenchModel" "fieldToken" "[I") ∈ lw_all := lw_g (lw_at lw_m8 43 rfl) rfl
theorem q1883 : (Jvm.Cond.fieldLink "FeatherBenchModel" (99 : Nat) "FeatherBenchModel" "fieldType" "[I") ∈ lw_all := lw_g (lw_at lw_m8 44 rfl) rfl
theorem q1884 : (Jvm.Cond.fieldLink "FeatherBenchModel" (102 : Nat) "FeatherBenchModel" "headsFrom" "[I") ∈ lw_all := lw_g (lw_at lw_m8 45 rfl) rfl
theorem q1885 : (Jvm.Cond.fieldLink "FeatherBenchModel" (105 : Nat) "FeatherBenchModel" "headsMany" "[I") ∈ lw_all := lw_g (lw_at lw_m8 46 rfl) rfl
theorem q1886 : (Jvm.Cond.fieldLink "FeatherBenchModel" (370 : Nat) "FeatherBenchModel" "heads" "I") ∈ lw_all := lw_g (lw_at lw_m8 47 rfl) rfl
theorem q1887 : (Jvm.Cond.fieldLink "FeatherBenchModel" (108 : Nat) "FeatherBenchModel" "headToken" "[I") ∈ lw_all := lw_g (lw_at lw_m8 48 rfl) rfl
theorem q1888 : (Jvm.Cond.fieldLink "FeatherBenchModel" (111 : Nat) "FeatherBenchModel" "headFormals" "[I") ∈ lw_all := lw_g (lw_at lw_m8 49 rfl) rfl
theorem q1889 : (Jvm.Cond.fieldLink "FeatherBenchModel" (114 : Nat) "FeatherBenchModel" "headFormalToken" "[I") ∈ lw_all := lw_g (lw_at lw_m8 50 rfl) rfl
theorem q1890 : (Jvm.Cond.fieldLink "FeatherBenchModel" (117 : Nat) "FeatherBenchModel" "headBound" "[I") ∈ lw_all := lw_g (lw_at lw_m8 51 rfl) rfl
theorem q1891 : (Jvm.Cond.fieldLink "FeatherBenchModel" (120 : Nat) "FeatherBenchModel" "vars" "[I") ∈ lw_all := lw_g (lw_at lw_m8 52 rfl) rfl
theorem q1892 : (Jvm.Cond.fieldLink "FeatherBenchModel" (123 : Nat) "FeatherBenchModel" "varToken" "[I") ∈ lw_all := lw_g (lw_at lw_m8 53 rfl) rfl
theorem q1893 : (Jvm.Cond.fieldLink "FeatherBenchModel" (126 : Nat) "FeatherBenchModel" "varType" "[I") ∈ lw_all := lw_g (lw_at lw_m8 54 rfl) rfl
theorem q1894 : (Jvm.Cond.fieldLink "FeatherBenchModel" (129 : Nat) "FeatherBenchModel" "headType" "[I") ∈ lw_all := lw_g (lw_at lw_m8 55 rfl) rfl
theorem q1895 : (Jvm.Cond.fieldLink "FeatherBenchModel" (132 : Nat) "FeatherBenchModel" "funcs" "[I") ∈ lw_all := lw_g (lw_at lw_m8 56 rfl) rfl
theorem q1896 : (Jvm.Cond.fieldLink "FeatherBenchModel" (135 : Nat) "FeatherBenchModel" "funcVar" "[I") ∈ lw_all := lw_g (lw_at lw_m8 57 rfl) rfl
theorem q1897 : (Jvm.Cond.fieldLink "FeatherBenchModel" (138 : Nat) "FeatherBenchModel" "funcName" "[I") ∈ lw_all := lw_g (lw_at lw_m8 58 rfl) rfl
theorem q1898 : (Jvm.Cond.fieldLink "FeatherBenchModel" (141 : Nat) "FeatherBenchModel" "funcParams" "[I") ∈ lw_all := lw_g (lw_at lw_m8 59 rfl) rfl
theorem q1899 : (Jvm.Cond.fieldLink "FeatherBenchModel" (144 : Nat) "FeatherBenchModel" "funcParam" "[I") ∈ lw_all := lw_g (lw_at lw_m8 60 rfl) rfl
theorem q1900 : (Jvm.Cond.fieldLink "FeatherBenchModel" (147 : Nat) "FeatherBenchModel" "funcHead" "[I") ∈ lw_all := lw_g (lw_at lw_m8 61 rfl) rfl
theorem q1901 : (Jvm.Cond.fieldLink "FeatherBenchModel" (150 : Nat) "FeatherBenchModel" "funcE" "[I") ∈ lw_all := lw_g (lw_at lw_m8 62 rfl) rfl
theorem q1902 : (Jvm.Cond.fieldLink "FeatherBenchModel" (153 : Nat) "FeatherBenchModel" "mainE" "[I") ∈ lw_all := lw_g (lw_at lw_m8 63 rfl) rfl
theorem q1903 : (Jvm.Cond.fieldLink "FeatherBenchModel" (156 : Nat) "FeatherBenchModel" "hasProgram" "[Z") ∈ lw_all := lw_g (lw_at lw_m8 64 rfl) rfl
theorem q1904 : (Jvm.Cond.fieldLink "FeatherBenchModel" (159 : Nat) "FeatherBenchModel" "structOf" "[I") ∈ lw_all := lw_g (lw_at lw_m8 65 rfl) rfl
theorem q1905 : (Jvm.Cond.fieldLink "FeatherBenchModel" (162 : Nat) "FeatherBenchModel" "declared" "[I") ∈ lw_all := lw_g (lw_at lw_m8 66 rfl) rfl
theorem q1906 : (Jvm.Cond.fieldLink "FeatherBenchModel" (165 : Nat) "FeatherBenchModel" "declaredMany" "[I") ∈ lw_all := lw_g (lw_at lw_m8 67 rfl) rfl
theorem q1907 : (Jvm.Cond.fieldLink "FeatherBenchModel" (169 : Nat) "FeatherBenchModel" "ty" "[I") ∈ lw_all := lw_g (lw_at lw_m8 68 rfl) rfl
theorem q1908 : (Jvm.Cond.fieldLink "FeatherBenchModel" (389 : Nat) "FeatherBenchModel" "top" "I") ∈ lw_all := lw_g (lw_at lw_m8 69 rfl) rfl
theorem q1909 : (Jvm.Cond.fieldLink "FeatherBenchModel" (474 : Nat) "FeatherBenchModel" "statics" "I") ∈ lw_all := lw_g (lw_at lw_m8 70 rfl) rfl
theorem q1910 : (Jvm.Cond.fieldLink "FeatherBenchModel" (172 : Nat) "FeatherBenchModel" "groupCode" "[I") ∈ lw_all := lw_g (lw_at lw_m8 71 rfl) rfl
theorem q1911 : (Jvm.Cond.fieldLink "FeatherBenchModel" (175 : Nat) "FeatherBenchModel" "groupMany" "[I") ∈ lw_all := lw_g (lw_at lw_m8 72 rfl) rfl
theorem q1912 : (Jvm.Cond.fieldLink "FeatherBenchModel" (178 : Nat) "FeatherBenchModel" "given" "[I") ∈ lw_all := lw_g (lw_at lw_m8 73 rfl) rfl
theorem q1913 : (Jvm.Cond.fieldLink "FeatherBenchModel" (181 : Nat) "FeatherBenchModel" "givenLong" "[I") ∈ lw_all := lw_g (lw_at lw_m8 74 rfl) rfl
theorem q1914 : (Jvm.Cond.fieldLink "FeatherBenchModel" (383 : Nat) "FeatherBenchModel" "envs" "I") ∈ lw_all := lw_g (lw_at lw_m8 75 rfl) rfl
theorem q1915 : (Jvm.Cond.fieldLink "FeatherBenchModel" (399 : Nat) "FeatherBenchModel" "putAt" "I") ∈ lw_all := lw_g (lw_at lw_m8 76 rfl) rfl
theorem q1916 : (Jvm.Cond.fieldLink "FeatherBenchModel" (402 : Nat) "FeatherBenchModel" "putLong" "I") ∈ lw_all := lw_g (lw_at lw_m8 77 rfl) rfl
theorem q1917 : (Jvm.Cond.fieldLink "FeatherBenchModel" (408 : Nat) "FeatherBenchModel" "headAt" "I") ∈ lw_all := lw_g (lw_at lw_m8 78 rfl) rfl
theorem q1918 : (Jvm.Cond.fieldLink "FeatherBenchModel" (411 : Nat) "FeatherBenchModel" "headCode" "I") ∈ lw_all := lw_g (lw_at lw_m8 79 rfl) rfl
theorem q1919 : (Jvm.Cond.fieldLink "FeatherBenchModel" (405 : Nat) "FeatherBenchModel" "now0" "I") ∈ lw_all := lw_g (lw_at lw_m8 80 rfl) rfl
theorem q1920 : (Jvm.Cond.fieldLink "FeatherBenchModel" (462 : Nat) "FeatherBenchModel" "inType" "I") ∈ lw_all := lw_g (lw_at lw_m8 81 rfl) rfl
theorem q1921 : (Jvm.Cond.fieldLink "FeatherBenchModel" (459 : Nat) "FeatherBenchModel" "inHead" "I") ∈ lw_all := lw_g (lw_at lw_m8 82 rfl) rfl
theorem q1922 : (Jvm.Cond.fieldLink "FeatherBenchModel" (465 : Nat) "FeatherBenchModel" "inFunc" "I") ∈ lw_all := lw_g (lw_at lw_m8 83 rfl) rfl
theorem q1923 : (Jvm.Cond.fieldLink "FeatherBenchModel" (184 : Nat) "FeatherBenchModel" "holds" "[Z") ∈ lw_all := lw_g (lw_at lw_m8 84 rfl) rfl
theorem q1924 : (Jvm.Cond.fieldLink "FeatherBenchModel" (505 : Nat) "FeatherBenchModel" "isAt" "I") ∈ lw_all := lw_g (lw_at lw_m8 85 rfl) rfl
theorem q1925 : (Jvm.Cond.fieldLink "FeatherBenchModel" (508 : Nat) "FeatherBenchModel" "isLong" "I") ∈ lw_all := lw_g (lw_at lw_m8 86 rfl) rfl
theorem q1926 : (Jvm.Cond.fieldLink "FeatherBenchModel" (188 : Nat) "FeatherBenchModel" "openTypes" "[I") ∈ lw_all := lw_g (lw_at lw_m8 87 rfl) rfl
theorem q1927 : (Jvm.Cond.fieldLink "FeatherBenchModel" (191 : Nat) "FeatherBenchModel" "openAt" "[I") ∈ lw_all := lw_g (lw_at lw_m8 88 rfl) rfl
theorem q1928 : (Jvm.Cond.fieldLink "FeatherBenchModel" (194 : Nat) "FeatherBenchModel" "openLong" "[I") ∈ lw_all := lw_g (lw_at lw_m8 89 rfl) rfl
theorem q1929 : (Jvm.Cond.fieldLink "FeatherBenchModel" (547 : Nat) "FeatherBenchModel" "opens" "I") ∈ lw_all := lw_g (lw_at lw_m8 90 rfl) rfl
theorem q1930 : (Jvm.Cond.fieldLink "FeatherBenchModel" (197 : Nat) "FeatherBenchModel" "mainType" "[I") ∈ lw_all := lw_g (lw_at lw_m8 91 rfl) rfl
theorem q1931 : (Jvm.Cond.fieldLink "FeatherBenchModel" (200 : Nat) "FeatherBenchModel" "mainTypeLong" "[I") ∈ lw_all := lw_g (lw_at lw_m8 92 rfl) rfl
theorem q1932 : (Jvm.Cond.fieldLink "FeatherBenchModel" (594 : Nat) "FeatherBenchModel" "isThere" "Z") ∈ lw_all := lw_g (lw_at lw_m8 93 rfl) rfl
theorem q1933 : (Jvm.Cond.fieldLink "FeatherBenchModel" (203 : Nat) "FeatherBenchModel" "hasRun" "I") ∈ lw_all := lw_g (lw_at lw_m8 94 rfl) rfl
theorem q1934 : (Jvm.Cond.fieldLink "FeatherBenchModel" (207 : Nat) "FeatherBenchModel" "failedAt" "I") ∈ lw_all := lw_g (lw_at lw_m8 95 rfl) rfl
theorem q1935 : (Jvm.Cond.fieldLink "FeatherBenchModel" (598 : Nat) "FeatherBenchModel" "callMany" "I") ∈ lw_all := lw_g (lw_at lw_m8 96 rfl) rfl
theorem q1936 : (Jvm.Cond.fieldLink "FeatherBenchModel" (619 : Nat) "FeatherBenchModel" "steps" "I") ∈ lw_all := lw_g (lw_at lw_m8 97 rfl) rfl
theorem q1937 : (Jvm.Cond.fieldLink "FeatherBenchModel" (601 : Nat) "FeatherBenchModel" "latest" "I") ∈ lw_all := lw_g (lw_at lw_m8 98 rfl) rfl
theorem q1938 : (Jvm.Cond.fieldLink "FeatherBenchModel" (616 : Nat) "FeatherBenchModel" "limit" "I") ∈ lw_all := lw_g (lw_at lw_m8 99 rfl) rfl
theorem q1939 : (Jvm.Cond.fieldLink "FeatherBenchModel" (634 : Nat) "FeatherBenchModel" "valueTop" "I") ∈ lw_all := lw_g (lw_at lw_m8 100 rfl) rfl
theorem q1940 : (Jvm.Cond.fieldLink "FeatherBenchModel" (662 : Nat) "FeatherBenchModel" "values" "I") ∈ lw_all := lw_g (lw_at lw_m8 101 rfl) rfl
theorem q1941 : (Jvm.Cond.fieldLink "FeatherBenchModel" (210 : Nat) "FeatherBenchModel" "valueAt" "[I") ∈ lw_all := lw_g (lw_at lw_m8 102 rfl) rfl
theorem q1942 : (Jvm.Cond.fieldLink "FeatherBenchModel" (213 : Nat) "FeatherBenchModel" "valueLong" "[I") ∈ lw_all := lw_g (lw_at lw_m8 103 rfl) rfl
theorem q1943 : (Jvm.Cond.fieldLink "FeatherBenchModel" (216 : Nat) "FeatherBenchModel" "part" "[I") ∈ lw_all := lw_g (lw_at lw_m8 104 rfl) rfl
theorem q1944 : (Jvm.Cond.fieldLink "FeatherBenchModel" (637 : Nat) "FeatherBenchModel" "got" "I") ∈ lw_all := lw_g (lw_at lw_m8 105 rfl) rfl
theorem q1945 : (Jvm.Cond.fieldLink "FeatherBenchModel" (674 : Nat) "FeatherBenchModel" "result" "I") ∈ lw_all := lw_g (lw_at lw_m8 106 rfl) rfl
theorem q1946 : (Jvm.Cond.fieldLink "FeatherBenchModel" (219 : Nat) "FeatherBenchModel" "pile" "[I") ∈ lw_all := lw_g (lw_at lw_m8 107 rfl) rfl
theorem q1947 : (Jvm.Cond.fieldLink "FeatherBenchModel" (656 : Nat) "FeatherBenchModel" "piled" "I") ∈ lw_all := lw_g (lw_at lw_m8 108 rfl) rfl
theorem q1948 : (Jvm.Cond.fieldLink "FeatherBenchModel" (665 : Nat) "FeatherBenchModel" "callsIn" "I") ∈ lw_all := lw_g (lw_at lw_m8 109 rfl) rfl
theorem q1949 : (Jvm.Cond.fieldLink "FeatherBenchModel" (622 : Nat) "FeatherBenchModel" "runAt" "I") ∈ lw_all := lw_g (lw_at lw_m8 110 rfl) rfl
theorem q1950 : (Jvm.Cond.fieldLink "FeatherBenchModel" (625 : Nat) "FeatherBenchModel" "runLong" "I") ∈ lw_all := lw_g (lw_at lw_m8 111 rfl) rfl
theorem q1951 : (Jvm.Cond.fieldLink "FeatherBenchModel" (222 : Nat) "FeatherBenchModel" "madeMany" "I") ∈ lw_all := lw_g (lw_at lw_m8 112 rfl) rfl
theorem q1952 : (Jvm.Cond.fieldLink "FeatherBenchModel" (604 : Nat) "FeatherBenchModel" "wasMade" "Z") ∈ lw_all := lw_g (lw_at lw_m8 113 rfl) rfl
theorem q1953 : (Jvm.Cond.fieldLink "FeatherBenchModel" (680 : Nat) "FeatherBenchModel" "isFit" "Z") ∈ lw_all := lw_g (lw_at lw_m8 114 rfl) rfl
theorem q1954 : (Jvm.Cond.fieldLink "FeatherBenchModel" (677 : Nat) "FeatherBenchModel" "rows" "I") ∈ lw_all := lw_g (lw_at lw_m8 115 rfl) rfl
theorem q1955 : (Jvm.Cond.fieldLink "FeatherBenchModel" (225 : Nat) "FeatherBenchModel" "rowSort" "[I") ∈ lw_all := lw_g (lw_at lw_m8 116 rfl) rfl
theorem q1956 : (Jvm.Cond.fieldLink "FeatherBenchModel" (228 : Nat) "FeatherBenchModel" "rowWord" "[I") ∈ lw_all := lw_g (lw_at lw_m8 117 rfl) rfl
theorem q1957 : (Jvm.Cond.fieldLink "FeatherBenchModel" (231 : Nat) "FeatherBenchModel" "rowMany" "[I") ∈ lw_all := lw_g (lw_at lw_m8 118 rfl) rfl
theorem q1958 : (Jvm.Cond.fieldLink "FeatherBenchModel" (234 : Nat) "FeatherBenchModel" "rowAt" "[I") ∈ lw_all := lw_g (lw_at lw_m8 119 rfl) rfl
theorem q1959 : (Jvm.Cond.fieldLink "FeatherBenchModel" (237 : Nat) "FeatherBenchModel" "rowLong" "[I") ∈ lw_all := lw_g (lw_at lw_m8 120 rfl) rfl
theorem q1960 : (Jvm.Cond.fieldLink "FeatherBenchModel" (683 : Nat) "FeatherBenchModel" "madeTop" "I") ∈ lw_all := lw_g (lw_at lw_m8 121 rfl) rfl
theorem q1961 : (Jvm.Cond.fieldLink "FeatherBenchModel" (240 : Nat) "FeatherBenchModel" "out" "[I") ∈ lw_all := lw_g (lw_at lw_m8 122 rfl) rfl
theorem q1962 : (Jvm.Cond.fieldLink "FeatherBenchModel" (710 : Nat) "FeatherBenchModel" "outs" "I") ∈ lw_all := lw_g (lw_at lw_m8 123 rfl) rfl
theorem q1963 : (Jvm.Cond.fieldLink "FeatherBenchModel" (243 : Nat) "FeatherBenchModel" "saidRow" "[I") ∈ lw_all := lw_g (lw_at lw_m8 124 rfl) rfl
theorem q1964 : (Jvm.Cond.fieldLink "FeatherBenchModel" (246 : Nat) "FeatherBenchModel" "saidValue" "[I") ∈ lw_all := lw_g (lw_at lw_m8 125 rfl) rfl
theorem q1965 : (Jvm.Cond.fieldLink "FeatherBenchModel" (249 : Nat) "FeatherBenchModel" "saidMany" "[I") ∈ lw_all := lw_g (lw_at lw_m8 126 rfl) rfl
theorem q1966 : (Jvm.Cond.fieldLink "FeatherBenchModel" (728 : Nat) "FeatherBenchModel" "saids" "I") ∈ lw_all := lw_g (lw_at lw_m8 127 rfl) rfl
theorem q1967 : (Jvm.Cond.lays "FeatherBenchModel" "FeatherBenchModel" "thrown" "I") ∈ lw_all := lw_g (lw_at lw_m8 128 rfl) rfl
theorem q1968 : (Jvm.Cond.soleField "FeatherBenchModel" "thrown") ∈ lw_all := lw_g (lw_at lw_m8 129 rfl) rfl
theorem q1969 : (Jvm.Cond.laysFinal "FeatherBenchModel" "FeatherBenchModel" "tape" "[I") ∈ lw_all := lw_g (lw_at lw_m8 130 rfl) rfl
theorem q1970 : (Jvm.Cond.soleField "FeatherBenchModel" "tape") ∈ lw_all := lw_g (lw_at lw_m8 131 rfl) rfl
theorem q1971 : (Jvm.Cond.lays "FeatherBenchModel" "FeatherBenchModel" "taped" "I") ∈ lw_all := lw_g (lw_at lw_m8 132 rfl) rfl
theorem q1972 : (Jvm.Cond.soleField "FeatherBenchModel" "taped") ∈ lw_all := lw_g (lw_at lw_m8 133 rfl) rfl
theorem q1973 : (Jvm.Cond.lays "FeatherBenchModel" "FeatherBenchModel" "size" "I") ∈ lw_all := lw_g (lw_at lw_m8 134 rfl) rfl
theorem q1974 : (Jvm.Cond.soleField "FeatherBenchModel" "size") ∈ lw_all := lw_g (lw_at lw_m8 135 rfl) rfl
theorem q1975 : (Jvm.Cond.laysFinal "FeatherBenchModel" "FeatherBenchModel" "sort" "[I") ∈ lw_all := lw_g (lw_at lw_m8 136 rfl) rfl
theorem q1976 : (Jvm.Cond.soleField "FeatherBenchModel" "sort") ∈ lw_all := lw_g (lw_at lw_m8 137 rfl) rfl
theorem q1977 : (Jvm.Cond.laysFinal "FeatherBenchModel" "FeatherBenchModel" "place" "[I") ∈ lw_all := lw_g (lw_at lw_m8 138 rfl) rfl
theorem q1978 : (Jvm.Cond.soleField "FeatherBenchModel" "place") ∈ lw_all := lw_g (lw_at lw_m8 139 rfl) rfl
theorem q1979 : (Jvm.Cond.laysFinal "FeatherBenchModel" "FeatherBenchModel" "word" "[I") ∈ lw_all := lw_g (lw_at lw_m8 140 rfl) rfl
theorem q1980 : (Jvm.Cond.soleField "FeatherBenchModel" "word") ∈ lw_all := lw_g (lw_at lw_m8 141 rfl) rfl
theorem q1981 : (Jvm.Cond.lays "FeatherBenchModel" "FeatherBenchModel" "at" "I") ∈ lw_all := lw_g (lw_at lw_m8 142 rfl) rfl
theorem q1982 : (Jvm.Cond.soleField "FeatherBenchModel" "at") ∈ lw_all := lw_g (lw_at lw_m8 143 rfl) rfl
theorem q1983 : (Jvm.Cond.lays "FeatherBenchModel" "FeatherBenchModel" "fault" "I") ∈ lw_all := lw_g (lw_at lw_m8 144 rfl) rfl
theorem q1984 : (Jvm.Cond.soleField "FeatherBenchModel" "fault") ∈ lw_all := lw_g (lw_at lw_m8 145 rfl) rfl
theorem q1985 : (Jvm.Cond.lays "FeatherBenchModel" "FeatherBenchModel" "bank" "I") ∈ lw_all := lw_g (lw_at lw_m8 146 rfl) rfl
theorem q1986 : (Jvm.Cond.soleField "FeatherBenchModel" "bank") ∈ lw_all := lw_g (lw_at lw_m8 147 rfl) rfl
theorem q1987 : (Jvm.Cond.laysFinal "FeatherBenchModel" "FeatherBenchModel" "wordA" "[J") ∈ lw_all := lw_g (lw_at lw_m8 148 rfl) rfl
theorem q1988 : (Jvm.Cond.soleField "FeatherBenchModel" "wordA") ∈ lw_all := lw_g (lw_at lw_m8 149 rfl) rfl
theorem q1989 : (Jvm.Cond.laysFinal "FeatherBenchModel" "FeatherBenchModel" "wordB" "[J") ∈ lw_all := lw_g (lw_at lw_m8 150 rfl) rfl
theorem q1990 : (Jvm.Cond.soleField "FeatherBenchModel" "wordB") ∈ lw_all := lw_g (lw_at lw_m8 151 rfl) rfl
theorem q1991 : (Jvm.Cond.laysFinal "FeatherBenchModel" "FeatherBenchModel" "words" "[I") ∈ lw_all := lw_g (lw_at lw_m8 152 rfl) rfl
theorem q1992 : (Jvm.Cond.soleField "FeatherBenchModel" "words") ∈ lw_all := lw_g (lw_at lw_m8 153 rfl) rfl
theorem q1993 : (Jvm.Cond.laysFinal "FeatherBenchModel" "FeatherBenchModel" "keys" "Ljava/lang/String;") ∈ lw_all := lw_g (lw_at lw_m8 154 rfl) rfl
theorem q1994 : (Jvm.Cond.soleField "FeatherBenchModel" "keys") ∈ lw_all := lw_g (lw_at lw_m8 155 rfl) rfl
theorem q1995 : (Jvm.Cond.laysFinal "FeatherBenchModel" "FeatherBenchModel" "what" "[I") ∈ lw_all := lw_g (lw_at lw_m8 156 rfl) rfl
theorem q1996 : (Jvm.Cond.soleField "FeatherBenchModel" "what") ∈ lw_all := lw_g (lw_at lw_m8 157 rfl) rfl
theorem q1997 : (Jvm.Cond.laysFinal "FeatherBenchModel" "FeatherBenchModel" "token" "[I") ∈ lw_all := lw_g (lw_at lw_m8 158 rfl) rfl
theorem q1998 : (Jvm.Cond.soleField "FeatherBenchModel" "token") ∈ lw_all := lw_g (lw_at lw_m8 159 rfl) rfl
theorem q1999 : (Jvm.Cond.laysFinal "FeatherBenchModel" "FeatherBenchModel" "point" "[I") ∈ lw_all := lw_g (lw_at lw_m8 160 rfl) rfl
theorem q2000 : (Jvm.Cond.soleField "FeatherBenchModel" "point") ∈ lw_all := lw_g (lw_at lw_m8 161 rfl) rfl
theorem q2001 : (Jvm.Cond.laysFinal "FeatherBenchModel" "FeatherBenchModel" "first" "[I") ∈ lw_all := lw_g (lw_at lw_m8 162 rfl) rfl
theorem q2002 : (Jvm.Cond.soleField "FeatherBenchModel" "first") ∈ lw_all := lw_g (lw_at lw_m8 163 rfl) rfl
theorem q2003 : (Jvm.Cond.laysFinal "FeatherBenchModel" "FeatherBenchModel" "beside" "[I") ∈ lw_all := lw_g (lw_at lw_m8 164 rfl) rfl
theorem q2004 : (Jvm.Cond.soleField "FeatherBenchModel" "beside") ∈ lw_all := lw_g (lw_at lw_m8 165 rfl) rfl
theorem q2005 : (Jvm.Cond.laysFinal "FeatherBenchModel" "FeatherBenchModel" "many" "[I") ∈ lw_all := lw_g (lw_at lw_m8 166 rfl) rfl
theorem q2006 : (Jvm.Cond.soleField "FeatherBenchModel" "many") ∈ lw_all := lw_g (lw_at lw_m8 167 rfl) rfl
theorem q2007 : (Jvm.Cond.laysFinal "FeatherBenchModel" "FeatherBenchModel" "ahead" "[I") ∈ lw_all := lw_g (lw_at lw_m8 168 rfl) rfl
theorem q2008 : (Jvm.Cond.soleField "FeatherBenchModel" "ahead") ∈ lw_all := lw_g (lw_at lw_m8 169 rfl) rfl
theorem q2009 : (Jvm.Cond.laysFinal "FeatherBenchModel" "FeatherBenchModel" "behindIt" "[I") ∈ lw_all := lw_g (lw_at lw_m8 170 rfl) rfl
theorem q2010 : (Jvm.Cond.soleField "FeatherBenchModel" "behindIt") ∈ lw_all := lw_g (lw_at lw_m8 171 rfl) rfl
theorem q2011 : (Jvm.Cond.laysFinal "FeatherBenchModel" "FeatherBenchModel" "typeOf" "[I") ∈ lw_all := lw_g (lw_at lw_m8 172 rfl) rfl
theorem q2012 : (Jvm.Cond.soleField "FeatherBenchModel" "typeOf") ∈ lw_all := lw_g (lw_at lw_m8 173 rfl) rfl
theorem q2013 : (Jvm.Cond.laysFinal "FeatherBenchModel" "FeatherBenchModel" "typesMany" "[I") ∈ lw_all := lw_g (lw_at lw_m8 174 rfl) rfl
theorem q2014 : (Jvm.Cond.soleField "FeatherBenchModel" "typesMany") ∈ lw_all := lw_g (lw_at lw_m8 175 rfl) rfl
theorem q2015 : (Jvm.Cond.laysFinal "FeatherBenchModel" "FeatherBenchModel" "start" "[I") ∈ lw_all := lw_g (lw_at lw_m8 176 rfl) rfl
theorem q2016 : (Jvm.Cond.soleField "FeatherBenchModel" "start") ∈ lw_all := lw_g (lw_at lw_m8 177 rfl) rfl
theorem q2017 : (Jvm.Cond.laysFinal "FeatherBenchModel" "FeatherBenchModel" "length" "[I") ∈ lw_all := lw_g (lw_at lw_m8 178 rfl) rfl
theorem q2018 : (Jvm.Cond.soleField "FeatherBenchModel" "length") ∈ lw_all := lw_g (lw_at lw_m8 179 rfl) rfl
theorem q2019 : (Jvm.Cond.lays "FeatherBenchModel" "FeatherBenchModel" "nodes" "I") ∈ lw_all := lw_g (lw_at lw_m8 180 rfl) rfl
theorem q2020 : (Jvm.Cond.soleField "FeatherBenchModel" "nodes") ∈ lw_all := lw_g (lw_at lw_m8 181 rfl) rfl
theorem q2021 : (Jvm.Cond.lays "FeatherBenchModel" "FeatherBenchModel" "deep" "I") ∈ lw_all := lw_g (lw_at lw_m8 182 rfl) rfl
theorem q2022 : (Jvm.Cond.soleField "FeatherBenchModel" "deep") ∈ lw_all := lw_g (lw_at lw_m8 183 rfl) rfl
theorem q2023 : (Jvm.Cond.lays "FeatherBenchModel" "FeatherBenchModel" "listMany" "I") ∈ lw_all := lw_g (lw_at lw_m8 184 rfl) rfl
theorem q2024 : (Jvm.Cond.soleField "FeatherBenchModel" "listMany") ∈ lw_all := lw_g (lw_at lw_m8 185 rfl) rfl
theorem q2025 : (Jvm.Cond.lays "FeatherBenchModel" "FeatherBenchModel" "now" "I") ∈ lw_all := lw_g (lw_at lw_m8 186 rfl) rfl
theorem q2026 : (Jvm.Cond.soleField "FeatherBenchModel" "now") ∈ lw_all := lw_g (lw_at lw_m8 187 rfl) rfl
theorem q2027 : (Jvm.Cond.lays "FeatherBenchModel" "FeatherBenchModel" "next" "I") ∈ lw_all := lw_g (lw_at lw_m8 188 rfl) rfl
theorem q2028 : (Jvm.Cond.soleField "FeatherBenchModel" "next") ∈ lw_all := lw_g (lw_at lw_m8 189 rfl) rfl
theorem q2029 : (Jvm.Cond.laysFinal "FeatherBenchModel" "FeatherBenchModel" "types" "[I") ∈ lw_all := lw_g (lw_at lw_m8 190 rfl) rfl
theorem q2030 : (Jvm.Cond.soleField "FeatherBenchModel" "types") ∈ lw_all := lw_g (lw_at lw_m8 191 rfl) rfl
theorem q2031 : (Jvm.Cond.laysFinal "FeatherBenchModel" "FeatherBenchModel" "typeToken" "[I") ∈ lw_all := lw_g (lw_at lw_m8 192 rfl) rfl
theorem q2032 : (Jvm.Cond.soleField "FeatherBenchModel" "typeToken") ∈ lw_all := lw_g (lw_at lw_m8 193 rfl) rfl
theorem q2033 : (Jvm.Cond.laysFinal "FeatherBenchModel" "FeatherBenchModel" "isStruct" "[Z") ∈ lw_all := lw_g (lw_at lw_m8 194 rfl) rfl
theorem q2034 : (Jvm.Cond.soleField "FeatherBenchModel" "isStruct") ∈ lw_all := lw_g (lw_at lw_m8 195 rfl) rfl
theorem q2035 : (Jvm.Cond.laysFinal "FeatherBenchModel" "FeatherBenchModel" "formals" "[I") ∈ lw_all := lw_g (lw_at lw_m8 196 rfl) rfl
theorem q2036 : (Jvm.Cond.soleField "FeatherBenchModel" "formals") ∈ lw_all := lw_g (lw_at lw_m8 197 rfl) rfl
theorem q2037 : (Jvm.Cond.laysFinal "FeatherBenchModel" "FeatherBenchModel" "formalToken" "[I") ∈ lw_all := lw_g (lw_at lw_m8 198 rfl) rfl
theorem q2038 : (Jvm.Cond.soleField "FeatherBenchModel" "formalToken") ∈ lw_all := lw_g (lw_at lw_m8 199 rfl) rfl
theorem q2039 : (Jvm.Cond.laysFinal "FeatherBenchModel" "FeatherBenchModel" "formalBound" "[I") ∈ lw_all := lw_g (lw_at lw_m8 200 rfl) rfl
theorem q2040 : (Jvm.Cond.soleField "FeatherBenchModel" "formalBound") ∈ lw_all := lw_g (lw_at lw_m8 201 rfl) rfl
theorem q2041 : (Jvm.Cond.laysFinal "FeatherBenchModel" "FeatherBenchModel" "fields" "[I") ∈ lw_all := lw_g (lw_at lw_m8 202 rfl) rfl
theorem q2042 : (Jvm.Cond.soleField "FeatherBenchModel" "fields") ∈ lw_all := lw_g (lw_at lw_m8 203 rfl) rfl
theorem q2043 : (Jvm.Cond.laysFinal "FeatherBenchModel" "FeatherBenchModel" "fieldToken" "[I") ∈ lw_all := lw_g (lw_at lw_m8 204 rfl) rfl
theorem q2044 : (Jvm.Cond.soleField "FeatherBenchModel" "fieldToken") ∈ lw_all := lw_g (lw_at lw_m8 205 rfl) rfl
theorem q2045 : (Jvm.Cond.laysFinal "FeatherBenchModel" "FeatherBenchModel" "fieldType" "[I") ∈ lw_all := lw_g (lw_at lw_m8 206 rfl) rfl
theorem q2046 : (Jvm.Cond.soleField "FeatherBenchModel" "fieldType") ∈ lw_all := lw_g (lw_at lw_m8 207 rfl) rfl
theorem q2047 : (Jvm.Cond.laysFinal "FeatherBenchModel" "FeatherBenchModel" "headsFrom" "[I") ∈ lw_all := lw_g (lw_at lw_m8 208 rfl) rfl
theorem q2048 : (Jvm.Cond.soleField "FeatherBenchModel" "headsFrom") ∈ lw_all := lw_g (lw_at lw_m8 209 rfl) rfl
theorem q2049 : (Jvm.Cond.laysFinal "FeatherBenchModel" "FeatherBenchModel" "headsMany" "[I") ∈ lw_all := lw_g (lw_at lw_m8 210 rfl) rfl
theorem q2050 : (Jvm.Cond.soleField "FeatherBenchModel" "headsMany") ∈ lw_all := lw_g (lw_at lw_m8 211 rfl) rfl
theorem q2051 : (Jvm.Cond.lays "FeatherBenchModel" "FeatherBenchModel" "heads" "I") ∈ lw_all := lw_g (lw_at lw_m8 212 rfl) rfl
theorem q2052 : (Jvm.Cond.soleField "FeatherBenchModel" "heads") ∈ lw_all := lw_g (lw_at lw_m8 213 rfl) rfl
theorem q2053 : (Jvm.Cond.laysFinal "FeatherBenchModel" "FeatherBenchModel" "headToken" "[I") ∈ lw_all := lw_g (lw_at lw_m8 214 rfl) rfl
theorem q2054 : (Jvm.Cond.soleField "FeatherBenchModel" "headToken") ∈ lw_all := lw_g (lw_at lw_m8 215 rfl) rfl
theorem q2055 : (Jvm.Cond.laysFinal "FeatherBenchModel" "FeatherBenchModel" "headFormals" "[I") ∈ lw_all := lw_g (lw_at lw_m8 216 rfl) rfl
theorem q2056 : (Jvm.Cond.soleField "FeatherBenchModel" "headFormals") ∈ lw_all := lw_g (lw_at lw_m8 217 rfl) rfl
theorem q2057 : (Jvm.Cond.laysFinal "FeatherBenchModel" "FeatherBenchModel" "headFormalToken" "[I") ∈ lw_all := lw_g (lw_at lw_m8 218 rfl) rfl
theorem q2058 : (Jvm.Cond.soleField "FeatherBenchModel" "headFormalToken") ∈ lw_all := lw_g (lw_at lw_m8 219 rfl) rfl
theorem q2059 : (Jvm.Cond.laysFinal "FeatherBenchModel" "FeatherBenchModel" "headBound" "[I") ∈ lw_all := lw_g (lw_at lw_m8 220 rfl) rfl
theorem q2060 : (Jvm.Cond.soleField "FeatherBenchModel" "headBound") ∈ lw_all := lw_g (lw_at lw_m8 221 rfl) rfl
theorem q2061 : (Jvm.Cond.laysFinal "FeatherBenchModel" "FeatherBenchModel" "vars" "[I") ∈ lw_all := lw_g (lw_at lw_m8 222 rfl) rfl
theorem q2062 : (Jvm.Cond.soleField "FeatherBenchModel" "vars") ∈ lw_all := lw_g (lw_at lw_m8 223 rfl) rfl
theorem q2063 : (Jvm.Cond.laysFinal "FeatherBenchModel" "FeatherBenchModel" "varToken" "[I") ∈ lw_all := lw_g (lw_at lw_m8 224 rfl) rfl
theorem q2064 : (Jvm.Cond.soleField "FeatherBenchModel" "varToken") ∈ lw_all := lw_g (lw_at lw_m8 225 rfl) rfl
theorem q2065 : (Jvm.Cond.laysFinal "FeatherBenchModel" "FeatherBenchModel" "varType" "[I") ∈ lw_all := lw_g (lw_at lw_m8 226 rfl) rfl
theorem q2066 : (Jvm.Cond.soleField "FeatherBenchModel" "varType") ∈ lw_all := lw_g (lw_at lw_m8 227 rfl) rfl
theorem q2067 : (Jvm.Cond.laysFinal "FeatherBenchModel" "FeatherBenchModel" "headType" "[I") ∈ lw_all := lw_g (lw_at lw_m8 228 rfl) rfl
theorem q2068 : (Jvm.Cond.soleField "FeatherBenchModel" "headType") ∈ lw_all := lw_g (lw_at lw_m8 229 rfl) rfl
theorem q2069 : (Jvm.Cond.laysFinal "FeatherBenchModel" "FeatherBenchModel" "funcs" "[I") ∈ lw_all := lw_g (lw_at lw_m8 230 rfl) rfl
theorem q2070 : (Jvm.Cond.soleField "FeatherBenchModel" "funcs") ∈ lw_all := lw_g (lw_at lw_m8 231 rfl) rfl
theorem q2071 : (Jvm.Cond.laysFinal "FeatherBenchModel" "FeatherBenchModel" "funcVar" "[I") ∈ lw_all := lw_g (lw_at lw_m8 232 rfl) rfl
theorem q2072 : (Jvm.Cond.soleField "FeatherBenchModel" "funcVar") ∈ lw_all := lw_g (lw_at lw_m8 233 rfl) rfl
theorem q2073 : (Jvm.Cond.laysFinal "FeatherBenchModel" "FeatherBenchModel" "funcName" "[I") ∈ lw_all := lw_g (lw_at lw_m8 234 rfl) rfl
theorem q2074 : (Jvm.Cond.soleField "FeatherBenchModel" "funcName") ∈ lw_all := lw_g (lw_at lw_m8 235 rfl) rfl
theorem q2075 : (Jvm.Cond.laysFinal "FeatherBenchModel" "FeatherBenchModel" "funcParams" "[I") ∈ lw_all := lw_g (lw_at lw_m8 236 rfl) rfl
theorem q2076 : (Jvm.Cond.soleField "FeatherBenchModel" "funcParams") ∈ lw_all := lw_g (lw_at lw_m8 237 rfl) rfl
theorem q2077 : (Jvm.Cond.laysFinal "FeatherBenchModel" "FeatherBenchModel" "funcParam" "[I") ∈ lw_all := lw_g (lw_at lw_m8 238 rfl) rfl
theorem q2078 : (Jvm.Cond.soleField "FeatherBenchModel" "funcParam") ∈ lw_all := lw_g (lw_at lw_m8 239 rfl) rfl
theorem q2079 : (Jvm.Cond.laysFinal "FeatherBenchModel" "FeatherBenchModel" "funcHead" "[I") ∈ lw_all := lw_g (lw_at lw_m9 0 rfl) rfl
theorem q2080 : (Jvm.Cond.soleField "FeatherBenchModel" "funcHead") ∈ lw_all := lw_g (lw_at lw_m9 1 rfl) rfl
theorem q2081 : (Jvm.Cond.laysFinal "FeatherBenchModel" "FeatherBenchModel" "funcE" "[I") ∈ lw_all := lw_g (lw_at lw_m9 2 rfl) rfl
theorem q2082 : (Jvm.Cond.soleField "FeatherBenchModel" "funcE") ∈ lw_all := lw_g (lw_at lw_m9 3 rfl) rfl
theorem q2083 : (Jvm.Cond.laysFinal "FeatherBenchModel" "FeatherBenchModel" "mainE" "[I") ∈ lw_all := lw_g (lw_at lw_m9 4 rfl) rfl
theorem q2084 : (Jvm.Cond.soleField "FeatherBenchModel" "mainE") ∈ lw_all := lw_g (lw_at lw_m9 5 rfl) rfl
theorem q2085 : (Jvm.Cond.laysFinal "FeatherBenchModel" "FeatherBenchModel" "hasProgram" "[Z") ∈ lw_all := lw_g (lw_at lw_m9 6 rfl) rfl
theorem q2086 : (Jvm.Cond.soleField "FeatherBenchModel" "hasProgram") ∈ lw_all := lw_g (lw_at lw_m9 7 rfl) rfl
theorem q2087 : (Jvm.Cond.laysFinal "FeatherBenchModel" "FeatherBenchModel" "structOf" "[I") ∈ lw_all := lw_g (lw_at lw_m9 8 rfl) rfl
theorem q2088 : (Jvm.Cond.soleField "FeatherBenchModel" "structOf") ∈ lw_all := lw_g (lw_at lw_m9 9 rfl) rfl
theorem q2089 : (Jvm.Cond.laysFinal "FeatherBenchModel" "FeatherBenchModel" "declared" "[I") ∈ lw_all := lw_g (lw_at lw_m9 10 rfl) rfl
theorem q2090 : (Jvm.Cond.soleField "FeatherBenchModel" "declared") ∈ lw_all := lw_g (lw_at lw_m9 11 rfl) rfl
theorem q2091 : (Jvm.Cond.laysFinal "FeatherBenchModel" "FeatherBenchModel" "declaredMany" "[I") ∈ lw_all := lw_g (lw_at lw_m9 12 rfl) rfl
theorem q2092 : (Jvm.Cond.soleField "FeatherBenchModel" "declaredMany") ∈ lw_all := lw_g (lw_at lw_m9 13 rfl) rfl
theorem q2093 : (Jvm.Cond.laysFinal "FeatherBenchModel" "FeatherBenchModel" "ty" "[I") ∈ lw_all := lw_g (lw_at lw_m9 14 rfl) rfl
theorem q2094 : (Jvm.Cond.soleField "FeatherBenchModel" "ty") ∈ lw_all := lw_g (lw_at lw_m9 15 rfl) rfl
theorem q2095 : (Jvm.Cond.lays "FeatherBenchModel" "FeatherBenchModel" "top" "I") ∈ lw_all := lw_g (lw_at lw_m9 16 rfl) rfl
theorem q2096 : (Jvm.Cond.soleField "FeatherBenchModel" "top") ∈ lw_all := lw_g (lw_at lw_m9 17 rfl) rfl
theorem q2097 : (Jvm.Cond.lays "FeatherBenchModel" "FeatherBenchModel" "statics" "I") ∈ lw_all := lw_g (lw_at lw_m9 18 rfl) rfl
theorem q2098 : (Jvm.Cond.soleField "FeatherBenchModel" "statics") ∈ lw_all := lw_g (lw_at lw_m9 19 rfl) rfl
theorem q2099 : (Jvm.Cond.laysFinal "FeatherBenchModel" "FeatherBenchModel" "groupCode" "[I") ∈ lw_all := lw_g (lw_at lw_m9 20 rfl) rfl
theorem q2100 : (Jvm.Cond.soleField "FeatherBenchModel" "groupCode") ∈ lw_all := lw_g (lw_at lw_m9 21 rfl) rfl
theorem q2101 : (Jvm.Cond.laysFinal "FeatherBenchModel" "FeatherBenchModel" "groupMany" "[I") ∈ lw_all := lw_g (lw_at lw_m9 22 rfl) rfl
theorem q2102 : (Jvm.Cond.soleField "FeatherBenchModel" "groupMany") ∈ lw_all := lw_g (lw_at lw_m9 23 rfl) rfl
theorem q2103 : (Jvm.Cond.laysFinal "FeatherBenchModel" "FeatherBenchModel" "given" "[I") ∈ lw_all := lw_g (lw_at lw_m9 24 rfl) rfl
theorem q2104 : (Jvm.Cond.soleField "FeatherBenchModel" "given") ∈ lw_all := lw_g (lw_at lw_m9 25 rfl) rfl
theorem q2105 : (Jvm.Cond.laysFinal "FeatherBenchModel" "FeatherBenchModel" "givenLong" "[I") ∈ lw_all := lw_g (lw_at lw_m9 26 rfl) rfl
theorem q2106 : (Jvm.Cond.soleField "FeatherBenchModel" "givenLong") ∈ lw_all := lw_g (lw_at lw_m9 27 rfl) rfl
theorem q2107 : (Jvm.Cond.lays "FeatherBenchModel" "FeatherBenchModel" "envs" "I") ∈ lw_all := lw_g (lw_at lw_m9 28 rfl) rfl
theorem q2108 : (Jvm.Cond.soleField "FeatherBenchModel" "envs") ∈ lw_all := lw_g (lw_at lw_m9 29 rfl) rfl
theorem q2109 : (Jvm.Cond.lays "FeatherBenchModel" "FeatherBenchModel" "putAt" "I") ∈ lw_all := lw_g (lw_at lw_m9 30 rfl) rfl
theorem q2110 : (Jvm.Cond.soleField "FeatherBenchModel" "putAt") ∈ lw_all := lw_g (lw_at lw_m9 31 rfl) rfl
theorem q2111 : (Jvm.Cond.lays "FeatherBenchModel" "FeatherBenchModel" "putLong" "I") ∈ lw_all := lw_g (lw_at lw_m9 32 rfl) rfl
theorem q2112 : (Jvm.Cond.soleField "FeatherBenchModel" "putLong") ∈ lw_all := lw_g (lw_at lw_m9 33 rfl) rfl
theorem q2113 : (Jvm.Cond.lays "FeatherBenchModel" "FeatherBenchModel" "headAt" "I") ∈ lw_all := lw_g (lw_at lw_m9 34 rfl) rfl
theorem q2114 : (Jvm.Cond.soleField "FeatherBenchModel" "headAt") ∈ lw_all := lw_g (lw_at lw_m9 35 rfl) rfl
theorem q2115 : (Jvm.Cond.lays "FeatherBenchModel" "FeatherBenchModel" "headCode" "I") ∈ lw_all := lw_g (lw_at lw_m9 36 rfl) rfl
theorem q2116 : (Jvm.Cond.soleField "FeatherBenchModel" "headCode") ∈ lw_all := lw_g (lw_at lw_m9 37 rfl) rfl
theorem q2117 : (Jvm.Cond.lays "FeatherBenchModel" "FeatherBenchModel" "now0" "I") ∈ lw_all := lw_g (lw_at lw_m9 38 rfl) rfl
theorem q2118 : (Jvm.Cond.soleField "FeatherBenchModel" "now0") ∈ lw_all := lw_g (lw_at lw_m9 39 rfl) rfl
theorem q2119 : (Jvm.Cond.lays "FeatherBenchModel" "FeatherBenchModel" "inType" "I") ∈ lw_all := lw_g (lw_at lw_m9 40 rfl) rfl
theorem q2120 : (Jvm.Cond.soleField "FeatherBenchModel" "inType") ∈ lw_all := lw_g (lw_at lw_m9 41 rfl) rfl
theorem q2121 : (Jvm.Cond.lays "FeatherBenchModel" "FeatherBenchModel" "inHead" "I") ∈ lw_all := lw_g (lw_at lw_m9 42 rfl) rfl
theorem q2122 : (Jvm.Cond.soleField "FeatherBenchModel" "inHead") ∈ lw_all := lw_g (lw_at lw_m9 43 rfl) rfl
theorem q2123 : (Jvm.Cond.lays "FeatherBenchModel" "FeatherBenchModel" "inFunc" "I") ∈ lw_all := lw_g (lw_at lw_m9 44 rfl) rfl
theorem q2124 : (Jvm.Cond.soleField "FeatherBenchModel" "inFunc") ∈ lw_all := lw_g (lw_at lw_m9 45 rfl) rfl
theorem q2125 : (Jvm.Cond.laysFinal "FeatherBenchModel" "FeatherBenchModel" "holds" "[Z") ∈ lw_all := lw_g (lw_at lw_m9 46 rfl) rfl
theorem q2126 : (Jvm.Cond.soleField "FeatherBenchModel" "holds") ∈ lw_all := lw_g (lw_at lw_m9 47 rfl) rfl
theorem q2127 : (Jvm.Cond.lays "FeatherBenchModel" "FeatherBenchModel" "isAt" "I") ∈ lw_all := lw_g (lw_at lw_m9 48 rfl) rfl
theorem q2128 : (Jvm.Cond.soleField "FeatherBenchModel" "isAt") ∈ lw_all := lw_g (lw_at lw_m9 49 rfl) rfl
theorem q2129 : (Jvm.Cond.lays "FeatherBenchModel" "FeatherBenchModel" "isLong" "I") ∈ lw_all := lw_g (lw_at lw_m9 50 rfl) rfl
theorem q2130 : (Jvm.Cond.soleField "FeatherBenchModel" "isLong") ∈ lw_all := lw_g (lw_at lw_m9 51 rfl) rfl
theorem q2131 : (Jvm.Cond.laysFinal "FeatherBenchModel" "FeatherBenchModel" "openTypes" "[I") ∈ lw_all := lw_g (lw_at lw_m9 52 rfl) rfl
theorem q2132 : (Jvm.Cond.soleField "FeatherBenchModel" "openTypes") ∈ lw_all := lw_g (lw_at lw_m9 53 rfl) rfl
theorem q2133 : (Jvm.Cond.laysFinal "FeatherBenchModel" "FeatherBenchModel" "openAt" "[I") ∈ lw_all := lw_g (lw_at lw_m9 54 rfl) rfl
theorem q2134 : (Jvm.Cond.soleField "FeatherBenchModel" "openAt") ∈ lw_all := lw_g (lw_at lw_m9 55 rfl) rfl
theorem q2135 : (Jvm.Cond.laysFinal "FeatherBenchModel" "FeatherBenchModel" "openLong" "[I") ∈ lw_all := lw_g (lw_at lw_m9 56 rfl) rfl
theorem q2136 : (Jvm.Cond.soleField "FeatherBenchModel" "openLong") ∈ lw_all := lw_g (lw_at lw_m9 57 rfl) rfl
theorem q2137 : (Jvm.Cond.lays "FeatherBenchModel" "FeatherBenchModel" "opens" "I") ∈ lw_all := lw_g (lw_at lw_m9 58 rfl) rfl
theorem q2138 : (Jvm.Cond.soleField "FeatherBenchModel" "opens") ∈ lw_all := lw_g (lw_at lw_m9 59 rfl) rfl
theorem q2139 : (Jvm.Cond.lays "FeatherBenchModel" "FeatherBenchModel" "mainAt" "I") ∈ lw_all := lw_g (lw_at lw_m9 60 rfl) rfl
theorem q2140 : (Jvm.Cond.soleField "FeatherBenchModel" "mainAt") ∈ lw_all := lw_g (lw_at lw_m9 61 rfl) rfl
theorem q2141 : (Jvm.Cond.lays "FeatherBenchModel" "FeatherBenchModel" "mainLong" "I") ∈ lw_all := lw_g (lw_at lw_m9 62 rfl) rfl
theorem q2142 : (Jvm.Cond.soleField "FeatherBenchModel" "mainLong") ∈ lw_all := lw_g (lw_at lw_m9 63 rfl) rfl
theorem q2143 : (Jvm.Cond.laysFinal "FeatherBenchModel" "FeatherBenchModel" "mainType" "[I") ∈ lw_all := lw_g (lw_at lw_m9 64 rfl) rfl
theorem q2144 : (Jvm.Cond.soleField "FeatherBenchModel" "mainType") ∈ lw_all := lw_g (lw_at lw_m9 65 rfl) rfl
theorem q2145 : (Jvm.Cond.laysFinal "FeatherBenchModel" "FeatherBenchModel" "mainTypeLong" "[I") ∈ lw_all := lw_g (lw_at lw_m9 66 rfl) rfl
theorem q2146 : (Jvm.Cond.soleField "FeatherBenchModel" "mainTypeLong") ∈ lw_all := lw_g (lw_at lw_m9 67 rfl) rfl
theorem q2147 : (Jvm.Cond.lays "FeatherBenchModel" "FeatherBenchModel" "isThere" "Z") ∈ lw_all := lw_g (lw_at lw_m9 68 rfl) rfl
theorem q2148 : (Jvm.Cond.soleField "FeatherBenchModel" "isThere") ∈ lw_all := lw_g (lw_at lw_m9 69 rfl) rfl
theorem q2149 : (Jvm.Cond.lays "FeatherBenchModel" "FeatherBenchModel" "hasRun" "I") ∈ lw_all := lw_g (lw_at lw_m9 70 rfl) rfl
theorem q2150 : (Jvm.Cond.soleField "FeatherBenchModel" "hasRun") ∈ lw_all := lw_g (lw_at lw_m9 71 rfl) rfl
theorem q2151 : (Jvm.Cond.lays "FeatherBenchModel" "FeatherBenchModel" "failedAt" "I") ∈ lw_all := lw_g (lw_at lw_m9 72 rfl) rfl
theorem q2152 : (Jvm.Cond.soleField "FeatherBenchModel" "failedAt") ∈ lw_all := lw_g (lw_at lw_m9 73 rfl) rfl
theorem q2153 : (Jvm.Cond.lays "FeatherBenchModel" "FeatherBenchModel" "callMany" "I") ∈ lw_all := lw_g (lw_at lw_m9 74 rfl) rfl
theorem q2154 : (Jvm.Cond.soleField "FeatherBenchModel" "callMany") ∈ lw_all := lw_g (lw_at lw_m9 75 rfl) rfl
theorem q2155 : (Jvm.Cond.lays "FeatherBenchModel" "FeatherBenchModel" "steps" "I") ∈ lw_all := lw_g (lw_at lw_m9 76 rfl) rfl
theorem q2156 : (Jvm.Cond.soleField "FeatherBenchModel" "steps") ∈ lw_all := lw_g (lw_at lw_m9 77 rfl) rfl
theorem q2157 : (Jvm.Cond.lays "FeatherBenchModel" "FeatherBenchModel" "latest" "I") ∈ lw_all := lw_g (lw_at lw_m9 78 rfl) rfl
theorem q2158 : (Jvm.Cond.soleField "FeatherBenchModel" "latest") ∈ lw_all := lw_g (lw_at lw_m9 79 rfl) rfl
theorem q2159 : (Jvm.Cond.lays "FeatherBenchModel" "FeatherBenchModel" "limit" "I") ∈ lw_all := lw_g (lw_at lw_m9 80 rfl) rfl
theorem q2160 : (Jvm.Cond.soleField "FeatherBenchModel" "limit") ∈ lw_all := lw_g (lw_at lw_m9 81 rfl) rfl
theorem q2161 : (Jvm.Cond.lays "FeatherBenchModel" "FeatherBenchModel" "valueTop" "I") ∈ lw_all := lw_g (lw_at lw_m9 82 rfl) rfl
theorem q2162 : (Jvm.Cond.soleField "FeatherBenchModel" "valueTop") ∈ lw_all := lw_g (lw_at lw_m9 83 rfl) rfl
theorem q2163 : (Jvm.Cond.lays "FeatherBenchModel" "FeatherBenchModel" "values" "I") ∈ lw_all := lw_g (lw_at lw_m9 84 rfl) rfl
theorem q2164 : (Jvm.Cond.soleField "FeatherBenchModel" "values") ∈ lw_all := lw_g (lw_at lw_m9 85 rfl) rfl
theorem q2165 : (Jvm.Cond.laysFinal "FeatherBenchModel" "FeatherBenchModel" "valueAt" "[I") ∈ lw_all := lw_g (lw_at lw_m9 86 rfl) rfl
theorem q2166 : (Jvm.Cond.soleField "FeatherBenchModel" "valueAt") ∈ lw_all := lw_g (lw_at lw_m9 87 rfl) rfl
theorem q2167 : (Jvm.Cond.laysFinal "FeatherBenchModel" "FeatherBenchModel" "valueLong" "[I") ∈ lw_all := lw_g (lw_at lw_m9 88 rfl) rfl
theorem q2168 : (Jvm.Cond.soleField "FeatherBenchModel" "valueLong") ∈ lw_all := lw_g (lw_at lw_m9 89 rfl) rfl
theorem q2169 : (Jvm.Cond.laysFinal "FeatherBenchModel" "FeatherBenchModel" "part" "[I") ∈ lw_all := lw_g (lw_at lw_m9 90 rfl) rfl
theorem q2170 : (Jvm.Cond.soleField "FeatherBenchModel" "part") ∈ lw_all := lw_g (lw_at lw_m9 91 rfl) rfl
theorem q2171 : (Jvm.Cond.lays "FeatherBenchModel" "FeatherBenchModel" "got" "I") ∈ lw_all := lw_g (lw_at lw_m9 92 rfl) rfl
theorem q2172 : (Jvm.Cond.soleField "FeatherBenchModel" "got") ∈ lw_all := lw_g (lw_at lw_m9 93 rfl) rfl
theorem q2173 : (Jvm.Cond.lays "FeatherBenchModel" "FeatherBenchModel" "result" "I") ∈ lw_all := lw_g (lw_at lw_m9 94 rfl) rfl
theorem q2174 : (Jvm.Cond.soleField "FeatherBenchModel" "result") ∈ lw_all := lw_g (lw_at lw_m9 95 rfl) rfl
theorem q2175 : (Jvm.Cond.laysFinal "FeatherBenchModel" "FeatherBenchModel" "pile" "[I") ∈ lw_all := lw_g (lw_at lw_m9 96 rfl) rfl
theorem q2176 : (Jvm.Cond.soleField "FeatherBenchModel" "pile") ∈ lw_all := lw_g (lw_at lw_m9 97 rfl) rfl
theorem q2177 : (Jvm.Cond.lays "FeatherBenchModel" "FeatherBenchModel" "piled" "I") ∈ lw_all := lw_g (lw_at lw_m9 98 rfl) rfl
theorem q2178 : (Jvm.Cond.soleField "FeatherBenchModel" "piled") ∈ lw_all := lw_g (lw_at lw_m9 99 rfl) rfl
theorem q2179 : (Jvm.Cond.lays "FeatherBenchModel" "FeatherBenchModel" "callsIn" "I") ∈ lw_all := lw_g (lw_at lw_m9 100 rfl) rfl
theorem q2180 : (Jvm.Cond.soleField "FeatherBenchModel" "callsIn") ∈ lw_all := lw_g (lw_at lw_m9 101 rfl) rfl
theorem q2181 : (Jvm.Cond.lays "FeatherBenchModel" "FeatherBenchModel" "runAt" "I") ∈ lw_all := lw_g (lw_at lw_m9 102 rfl) rfl
theorem q2182 : (Jvm.Cond.soleField "FeatherBenchModel" "runAt") ∈ lw_all := lw_g (lw_at lw_m9 103 rfl) rfl
theorem q2183 : (Jvm.Cond.lays "FeatherBenchModel" "FeatherBenchModel" "runLong" "I") ∈ lw_all := lw_g (lw_at lw_m9 104 rfl) rfl
theorem q2184 : (Jvm.Cond.soleField "FeatherBenchModel" "runLong") ∈ lw_all := lw_g (lw_at lw_m9 105 rfl) rfl
theorem q2185 : (Jvm.Cond.lays "FeatherBenchModel" "FeatherBenchModel" "madeMany" "I") ∈ lw_all := lw_g (lw_at lw_m9 106 rfl) rfl
theorem q2186 : (Jvm.Cond.soleField "FeatherBenchModel" "madeMany") ∈ lw_all := lw_g (lw_at lw_m9 107 rfl) rfl
theorem q2187 : (Jvm.Cond.lays "FeatherBenchModel" "FeatherBenchModel" "wasMade" "Z") ∈ lw_all := lw_g (lw_at lw_m9 108 rfl) rfl
theorem q2188 : (Jvm.Cond.soleField "FeatherBenchModel" "wasMade") ∈ lw_all := lw_g (lw_at lw_m9 109 rfl) rfl
theorem q2189 : (Jvm.Cond.lays "FeatherBenchModel" "FeatherBenchModel" "isFit" "Z") ∈ lw_all := lw_g (lw_at lw_m9 110 rfl) rfl
theorem q2190 : (Jvm.Cond.soleField "FeatherBenchModel" "isFit") ∈ lw_all := lw_g (lw_at lw_m9 111 rfl) rfl
theorem q2191 : (Jvm.Cond.lays "FeatherBenchModel" "FeatherBenchModel" "rows" "I") ∈ lw_all := lw_g (lw_at lw_m9 112 rfl) rfl
theorem q2192 : (Jvm.Cond.soleField "FeatherBenchModel" "rows") ∈ lw_all := lw_g (lw_at lw_m9 113 rfl) rfl
theorem q2193 : (Jvm.Cond.laysFinal "FeatherBenchModel" "FeatherBenchModel" "rowSort" "[I") ∈ lw_all := lw_g (lw_at lw_m9 114 rfl) rfl
theorem q2194 : (Jvm.Cond.soleField "FeatherBenchModel" "rowSort") ∈ lw_all := lw_g (lw_at lw_m9 115 rfl) rfl
theorem q2195 : (Jvm.Cond.laysFinal "FeatherBenchModel" "FeatherBenchModel" "rowWord" "[I") ∈ lw_all := lw_g (lw_at lw_m9 116 rfl) rfl
theorem q2196 : (Jvm.Cond.soleField "FeatherBenchModel" "rowWord") ∈ lw_all := lw_g (lw_at lw_m9 117 rfl) rfl
theorem q2197 : (Jvm.Cond.laysFinal "FeatherBenchModel" "FeatherBenchModel" "rowMany" "[I") ∈ lw_all := lw_g (lw_at lw_m9 118 rfl) rfl
theorem q2198 : (Jvm.Cond.soleField "FeatherBenchModel" "rowMany") ∈ lw_all := lw_g (lw_at lw_m9 119 rfl) rfl
theorem q2199 : (Jvm.Cond.laysFinal "FeatherBenchModel" "FeatherBenchModel" "rowAt" "[I") ∈ lw_all := lw_g (lw_at lw_m9 120 rfl) rfl
theorem q2200 : (Jvm.Cond.soleField "FeatherBenchModel" "rowAt") ∈ lw_all := lw_g (lw_at lw_m9 121 rfl) rfl
theorem q2201 : (Jvm.Cond.laysFinal "FeatherBenchModel" "FeatherBenchModel" "rowLong" "[I") ∈ lw_all := lw_g (lw_at lw_m9 122 rfl) rfl
theorem q2202 : (Jvm.Cond.soleField "FeatherBenchModel" "rowLong") ∈ lw_all := lw_g (lw_at lw_m9 123 rfl) rfl
theorem q2203 : (Jvm.Cond.lays "FeatherBenchModel" "FeatherBenchModel" "madeTop" "I") ∈ lw_all := lw_g (lw_at lw_m9 124 rfl) rfl
theorem q2204 : (Jvm.Cond.soleField "FeatherBenchModel" "madeTop") ∈ lw_all := lw_g (lw_at lw_m9 125 rfl) rfl
theorem q2205 : (Jvm.Cond.laysFinal "FeatherBenchModel" "FeatherBenchModel" "out" "[I") ∈ lw_all := lw_g (lw_at lw_m9 126 rfl) rfl
theorem q2206 : (Jvm.Cond.soleField "FeatherBenchModel" "out") ∈ lw_all := lw_g (lw_at lw_m9 127 rfl) rfl
theorem q2207 : (Jvm.Cond.lays "FeatherBenchModel" "FeatherBenchModel" "outs" "I") ∈ lw_all := lw_g (lw_at lw_m9 128 rfl) rfl
theorem q2208 : (Jvm.Cond.soleField "FeatherBenchModel" "outs") ∈ lw_all := lw_g (lw_at lw_m9 129 rfl) rfl
theorem q2209 : (Jvm.Cond.laysFinal "FeatherBenchModel" "FeatherBenchModel" "saidRow" "[I") ∈ lw_all := lw_g (lw_at lw_m9 130 rfl) rfl
theorem q2210 : (Jvm.Cond.soleField "FeatherBenchModel" "saidRow") ∈ lw_all := lw_g (lw_at lw_m9 131 rfl) rfl
theorem q2211 : (Jvm.Cond.laysFinal "FeatherBenchModel" "FeatherBenchModel" "saidValue" "[I") ∈ lw_all := lw_g (lw_at lw_m9 132 rfl) rfl
theorem q2212 : (Jvm.Cond.soleField "FeatherBenchModel" "saidValue") ∈ lw_all := lw_g (lw_at lw_m9 133 rfl) rfl
theorem q2213 : (Jvm.Cond.laysFinal "FeatherBenchModel" "FeatherBenchModel" "saidMany" "[I") ∈ lw_all := lw_g (lw_at lw_m9 134 rfl) rfl
theorem q2214 : (Jvm.Cond.soleField "FeatherBenchModel" "saidMany") ∈ lw_all := lw_g (lw_at lw_m9 135 rfl) rfl
theorem q2215 : (Jvm.Cond.lays "FeatherBenchModel" "FeatherBenchModel" "saids" "I") ∈ lw_all := lw_g (lw_at lw_m9 136 rfl) rfl
theorem q2216 : (Jvm.Cond.soleField "FeatherBenchModel" "saids") ∈ lw_all := lw_g (lw_at lw_m9 137 rfl) rfl
theorem q2217 : (Jvm.Cond.superclass "FeatherBenchModel" "java/lang/Object") ∈ lw_all := lw_g (lw_at lw_m9 138 rfl) rfl
theorem q2221 : (Jvm.Cond.instanceMethod ({ cls := "FeatherBenchModel", name := "feed", desc := "(JJJ)I" } : Jvm.MethodName)) ∈ lw_all := lw_g (lw_at lw_m9 142 rfl) rfl
theorem q2222 : (Jvm.Cond.selects "FeatherBenchModel" ({ cls := "FeatherBenchModel", name := "feed", desc := "(JJJ)I" } : Jvm.MethodName) ({ cls := "FeatherBenchModel", name := "feed", desc := "(JJJ)I" } : Jvm.MethodName)) ∈ lw_all := lw_g (lw_at lw_m9 143 rfl) rfl
theorem q2223 : (Jvm.Cond.code ({ cls := "FeatherBenchModel", name := "feed", desc := "(JJJ)I" } : Jvm.MethodName) prog_24_method_3_code (7 : Nat) (Option.some Jvm.ClassFile.FieldType.int)) ∈ lw_all := lw_g (lw_at lw_m9 144 rfl) rfl
theorem q2224 : (Jvm.Cond.methodLink "FeatherBenchModel" (255 : Nat) ({ cls := "FeatherBenchModel", name := "lay", desc := "(J)V" } : Jvm.MethodName)) ∈ lw_all := lw_g (lw_at lw_m9 145 rfl) rfl
theorem q2225 : (Jvm.Cond.privateMethod ({ cls := "FeatherBenchModel", name := "lay", desc := "(J)V" } : Jvm.MethodName)) ∈ lw_tbl := lw_at lw_m9 146 rfl
theorem q2226 : (Jvm.Cond.instanceMethod ({ cls := "FeatherBenchModel", name := "lay", desc := "(J)V" } : Jvm.MethodName)) ∈ lw_all := lw_g (lw_at lw_m9 147 rfl) rfl
theorem q2227 : (Jvm.Cond.code ({ cls := "FeatherBenchModel", name := "lay", desc := "(J)V" } : Jvm.MethodName) prog_24_method_4_code (5 : Nat) (Option.none : Option Jvm.ClassFile.FieldType)) ∈ lw_all := lw_g (lw_at lw_m9 148 rfl) rfl
theorem q2229 : (Jvm.Cond.instanceMethod ({ cls := "FeatherBenchModel", name := "program", desc := "()I" } : Jvm.MethodName)) ∈ lw_all := lw_g (lw_at lw_m9 150 rfl) rfl
theorem q2230 : (Jvm.Cond.selects "FeatherBenchModel" ({ cls := "FeatherBenchModel", name := "program", desc := "()I" } : Jvm.MethodName) ({ cls := "FeatherBenchModel", name := "program", desc := "()I" } : Jvm.MethodName)) ∈ lw_all := lw_g (lw_at lw_m9 151 rfl) rfl
theorem q2231 : (Jvm.Cond.code ({ cls := "FeatherBenchModel", name := "program", desc := "()I" } : Jvm.MethodName) prog_24_method_79_code (3 : Nat) (Option.some Jvm.ClassFile.FieldType.int)) ∈ lw_all := lw_g (lw_at lw_m9 152 rfl) rfl
theorem q2232 : (Jvm.Cond.methodLink "FeatherBenchModel" (557 : Nat) ({ cls := "FeatherBenchModel", name := "keptWords", desc := "()V" } : Jvm.MethodName)) ∈ lw_all := lw_g (lw_at lw_m9 153 rfl) rfl
theorem q2233 : (Jvm.Cond.privateMethod ({ cls := "FeatherBenchModel", name := "keptWords", desc := "()V" } : Jvm.MethodName)) ∈ lw_tbl := lw_at lw_m9 154 rfl
theorem q2234 : (Jvm.Cond.instanceMethod ({ cls := "FeatherBenchModel", name := "keptWords", desc := "()V" } : Jvm.MethodName)) ∈ lw_all := lw_g (lw_at lw_m9 155 rfl) rfl
theorem q2235 : (Jvm.Cond.code ({ cls := "FeatherBenchModel", name := "keptWords", desc := "()V" } : Jvm.MethodName) prog_24_method_10_code (6 : Nat) (Option.none : Option Jvm.ClassFile.FieldType)) ∈ lw_all := lw_g (lw_at lw_m9 156 rfl) rfl
theorem q2236 : (Jvm.Cond.methodLink "FeatherBenchModel" (265 : Nat) ({ cls := "java/lang/String", name := "length", desc := "()I" } : Jvm.MethodName)) ∈ lw_all := lw_g (lw_at lw_m9 157 rfl) rfl
theorem q2237 : (Jvm.Cond.methodLink "FeatherBenchModel" (270 : Nat) ({ cls := "java/lang/String", name := "charAt", desc := "(I)C" } : Jvm.MethodName)) ∈ lw_all := lw_g (lw_at lw_m9 158 rfl) rfl
theorem q2238 : (Jvm.Cond.methodLink "FeatherBenchModel" (274 : Nat) ({ cls := "FeatherBenchModel", name := "wordOf", desc := "(JJ)I" } : Jvm.MethodName)) ∈ lw_all := lw_g (lw_at lw_m9 159 rfl) rfl
theorem q2239 : (Jvm.Cond.privateMethod ({ cls := "FeatherBenchModel", name := "wordOf", desc := "(JJ)I" } : Jvm.MethodName)) ∈ lw_tbl := lw_at lw_m9 160 rfl
theorem q2240 : (Jvm.Cond.instanceMethod ({ cls := "FeatherBenchModel", name := "wordOf", desc := "(JJ)I" } : Jvm.MethodName)) ∈ lw_all := lw_g (lw_at lw_m9 161 rfl) rfl
theorem q2241 : (Jvm.Cond.code ({ cls := "FeatherBenchModel", name := "wordOf", desc := "(JJ)I" } : Jvm.MethodName) prog_24_method_9_code (7 : Nat) (Option.some Jvm.ClassFile.FieldType.int)) ∈ lw_all := lw_g (lw_at lw_m9 162 rfl) rfl
theorem q2242 : (Jvm.Cond.constantLong "FeatherBenchModel" (278 : Nat) (64 : Int64)) ∈ lw_all := lw_g (lw_at lw_m9 163 rfl) rfl
theorem q2243 : (Jvm.Cond.methodLink "FeatherBenchModel" (280 : Nat) ({ cls := "FeatherBenchModel", name := "rank", desc := "(I)I" } : Jvm.MethodName)) ∈ lw_all := lw_g (lw_at lw_m9 164 rfl) rfl
theorem q2244 : (Jvm.Cond.static ({ cls := "FeatherBenchModel", name := "rank", desc := "(I)I" } : Jvm.MethodName)) ∈ lw_all := lw_g (lw_at lw_m9 165 rfl) rfl
theorem q2245 : (Jvm.Cond.code ({ cls := "FeatherBenchModel", name := "rank", desc := "(I)I" } : Jvm.MethodName) prog_24_method_7_code (1 : Nat) (Option.some Jvm.ClassFile.FieldType.int)) ∈ lw_all := lw_g (lw_at lw_m9 166 rfl) rfl
theorem q2246 : (Jvm.Cond.methodLink "FeatherBenchModel" (560 : Nat) ({ cls := "FeatherBenchModel", name := "cutAll", desc := "()V" } : Jvm.MethodName)) ∈ lw_all := lw_g (lw_at lw_m9 167 rfl) rfl
theorem q2247 : (Jvm.Cond.privateMethod ({ cls := "FeatherBenchModel", name := "cutAll", desc := "()V" } : Jvm.MethodName)) ∈ lw_tbl := lw_at lw_m9 168 rfl
theorem q2248 : (Jvm.Cond.instanceMethod ({ cls := "FeatherBenchModel", name := "cutAll", desc := "()V" } : Jvm.MethodName)) ∈ lw_all := lw_g (lw_at lw_m9 169 rfl) rfl
theorem q2249 : (Jvm.Cond.code ({ cls := "FeatherBenchModel", name := "cutAll", desc := "()V" } : Jvm.MethodName) prog_24_method_11_code (10 : Nat) (Option.none : Option Jvm.ClassFile.FieldType)) ∈ lw_all := lw_g (lw_at lw_m9 170 rfl) rfl
theorem q2250 : (Jvm.Cond.methodLink "FeatherBenchModel" (287 : Nat) ({ cls := "FeatherBenchModel", name := "isLetter", desc := "(I)Z" } : Jvm.MethodName)) ∈ lw_all := lw_g (lw_at lw_m9 171 rfl) rfl
theorem q2251 : (Jvm.Cond.static ({ cls := "FeatherBenchModel", name := "isLetter", desc := "(I)Z" } : Jvm.MethodName)) ∈ lw_all := lw_g (lw_at lw_m9 172 rfl) rfl
theorem q2252 : (Jvm.Cond.code ({ cls := "FeatherBenchModel", name := "isLetter", desc := "(I)Z" } : Jvm.MethodName) prog_24_method_5_code (1 : Nat) (Option.some Jvm.ClassFile.FieldType.boolean)) ∈ lw_all := lw_g (lw_at lw_m9 173 rfl) rfl
theorem q2253 : (Jvm.Cond.methodLink "FeatherBenchModel" (291 : Nat) ({ cls := "FeatherBenchModel", name := "isDigit", desc := "(I)Z" } : Jvm.MethodName)) ∈ lw_all := lw_g (lw_at lw_m9 174 rfl) rfl
theorem q2254 : (Jvm.Cond.static ({ cls := "FeatherBenchModel", name := "isDigit", desc := "(I)Z" } : Jvm.MethodName)) ∈ lw_all := lw_g (lw_at lw_m9 175 rfl) rfl
theorem q2255 : (Jvm.Cond.code ({ cls := "FeatherBenchModel", name := "isDigit", desc := "(I)Z" } : Jvm.MethodName) prog_24_method_6_code (1 : Nat) (Option.some Jvm.ClassFile.FieldType.boolean)) ∈ lw_all := lw_g (lw_at lw_m9 176 rfl) rfl
theorem q2256 : (Jvm.Cond.methodLink "FeatherBenchModel" (294 : Nat) ({ cls := "FeatherBenchModel", name := "isSignOf", desc := "(I)Z" } : Jvm.MethodName)) ∈ lw_all := lw_g (lw_at lw_m9 177 rfl) rfl
theorem q2257 : (Jvm.Cond.static ({ cls := "FeatherBenchModel", name := "isSignOf", desc := "(I)Z" } : Jvm.MethodName)) ∈ lw_all := lw_g (lw_at lw_m9 178 rfl) rfl
theorem q2258 : (Jvm.Cond.code ({ cls := "FeatherBenchModel", name := "isSignOf", desc := "(I)Z" } : Jvm.MethodName) prog_24_method_8_code (1 : Nat) (Option.some Jvm.ClassFile.FieldType.boolean)) ∈ lw_all := lw_g (lw_at lw_m9 179 rfl) rfl
theorem q2259 : (Jvm.Cond.methodLink "FeatherBenchModel" (563 : Nat) ({ cls := "FeatherBenchModel", name := "readAll", desc := "()V" } : Jvm.MethodName)) ∈ lw_all := lw_g (lw_at lw_m9 180 rfl) rfl
theorem q2260 : (Jvm.Cond.privateMethod ({ cls := "FeatherBenchModel", name := "readAll", desc := "()V" } : Jvm.MethodName)) ∈ lw_tbl := lw_at lw_m9 181 rfl
theorem q2261 : (Jvm.Cond.instanceMethod ({ cls := "FeatherBenchModel", name := "readAll", desc := "()V" } : Jvm.MethodName)) ∈ lw_all := lw_g (lw_at lw_m9 182 rfl) rfl
theorem q2262 : (Jvm.Cond.code ({ cls := "FeatherBenchModel", name := "readAll", desc := "()V" } : Jvm.MethodName) prog_24_method_28_code (1 : Nat) (Option.none : Option Jvm.ClassFile.FieldType)) ∈ lw_all := lw_g (lw_at lw_m9 183 rfl) rfl
theorem q2263 : (Jvm.Cond.methodLink "FeatherBenchModel" (310 : Nat) ({ cls := "FeatherBenchModel", name := "isWord", desc := "(I)Z" } : Jvm.MethodName)) ∈ lw_all := lw_g (lw_at lw_m9 184 rfl) rfl
theorem q2264 : (Jvm.Cond.privateMethod ({ cls := "FeatherBenchModel", name := "isWord", desc := "(I)Z" } : Jvm.MethodName)) ∈ lw_tbl := lw_at lw_m9 185 rfl
theorem q2265 : (Jvm.Cond.instanceMethod ({ cls := "FeatherBenchModel", name := "isWord", desc := "(I)Z" } : Jvm.MethodName)) ∈ lw_all := lw_g (lw_at lw_m9 186 rfl) rfl
theorem q2266 : (Jvm.Cond.code ({ cls := "FeatherBenchModel", name := "isWord", desc := "(I)Z" } : Jvm.MethodName) prog_24_method_14_code (2 : Nat) (Option.some Jvm.ClassFile.FieldType.boolean)) ∈ lw_all := lw_g (lw_at lw_m9 187 rfl) rfl
theorem q2267 : (Jvm.Cond.methodLink "FeatherBenchModel" (355 : Nat) ({ cls := "FeatherBenchModel", name := "readType", desc := "()V" } : Jvm.MethodName)) ∈ lw_all := lw_g (lw_at lw_m9 188 rfl) rfl
theorem q2268 : (Jvm.Cond.privateMethod ({ cls := "FeatherBenchModel", name := "readType", desc := "()V" } : Jvm.MethodName)) ∈ lw_tbl := lw_at lw_m9 189 rfl
theorem q2269 : (Jvm.Cond.instanceMethod ({ cls := "FeatherBenchModel", name := "readType", desc := "()V" } : Jvm.MethodName)) ∈ lw_all := lw_g (lw_at lw_m9 190 rfl) rfl
theorem q2270 : (Jvm.Cond.code ({ cls := "FeatherBenchModel", name := "readType", desc := "()V" } : Jvm.MethodName) prog_24_method_29_code (2 : Nat) (Option.none : Option Jvm.ClassFile.FieldType)) ∈ lw_all := lw_g (lw_at lw_m9 191 rfl) rfl
theorem q2271 : (Jvm.Cond.methodLink "FeatherBenchModel" (306 : Nat) ({ cls := "FeatherBenchModel", name := "wrong", desc := "(II)V" } : Jvm.MethodName)) ∈ lw_all := lw_g (lw_at lw_m9 192 rfl) rfl
theorem q2272 : (Jvm.Cond.privateMethod ({ cls := "FeatherBenchModel", name := "wrong", desc := "(II)V" } : Jvm.MethodName)) ∈ lw_tbl := lw_at lw_m9 193 rfl
theorem q2273 : (Jvm.Cond.instanceMethod ({ cls := "FeatherBenchModel", name := "wrong", desc := "(II)V" } : Jvm.MethodName)) ∈ lw_all := lw_g (lw_at lw_m9 194 rfl) rfl
theorem q2274 : (Jvm.Cond.code ({ cls := "FeatherBenchModel", name := "wrong", desc := "(II)V" } : Jvm.MethodName) prog_24_method_12_code (3 : Nat) (Option.none : Option Jvm.ClassFile.FieldType)) ∈ lw_all := lw_g (lw_at lw_m9 195 rfl) rfl
theorem q2275 : (Jvm.Cond.methodLink "FeatherBenchModel" (367 : Nat) ({ cls := "FeatherBenchModel", name := "takeName", desc := "()I" } : Jvm.MethodName)) ∈ lw_all := lw_g (lw_at lw_m9 196 rfl) rfl
theorem q2276 : (Jvm.Cond.privateMethod ({ cls := "FeatherBenchModel", name := "takeName", desc := "()I" } : Jvm.MethodName)) ∈ lw_tbl := lw_at lw_m9 197 rfl
theorem q2277 : (Jvm.Cond.instanceMethod ({ cls := "FeatherBenchModel", name := "takeName", desc := "()I" } : Jvm.MethodName)) ∈ lw_all := lw_g (lw_at lw_m9 198 rfl) rfl
theorem q2278 : (Jvm.Cond.code ({ cls := "FeatherBenchModel", name := "takeName", desc := "()I" } : Jvm.MethodName) prog_24_method_19_code (1 : Nat) (Option.some Jvm.ClassFile.FieldType.int)) ∈ lw_all := lw_g (lw_at lw_m9 199 rfl) rfl
theorem q2279 : (Jvm.Cond.methodLink "FeatherBenchModel" (313 : Nat) ({ cls := "FeatherBenchModel", name := "isName", desc := "()Z" } : Jvm.MethodName)) ∈ lw_all := lw_g (lw_at lw_m9 200 rfl) rfl
theorem q2280 : (Jvm.Cond.privateMethod ({ cls := "FeatherBenchModel", name := "isName", desc := "()Z" } : Jvm.MethodName)) ∈ lw_tbl := lw_at lw_m9 201 rfl
theorem q2281 : (Jvm.Cond.instanceMethod ({ cls := "FeatherBenchModel", name := "isName", desc := "()Z" } : Jvm.MethodName)) ∈ lw_all := lw_g (lw_at lw_m9 202 rfl) rfl
theorem q2282 : (Jvm.Cond.code ({ cls := "FeatherBenchModel", name := "isName", desc := "()Z" } : Jvm.MethodName) prog_24_method_15_code (1 : Nat) (Option.some Jvm.ClassFile.FieldType.boolean)) ∈ lw_all := lw_g (lw_at lw_m9 203 rfl) rfl
theorem q2283 : (Jvm.Cond.methodLink "FeatherBenchModel" (303 : Nat) ({ cls := "FeatherBenchModel", name := "isSign", desc := "(I)Z" } : Jvm.MethodName)) ∈ lw_all := lw_g (lw_at lw_m9 204 rfl) rfl
theorem q2284 : (Jvm.Cond.privateMethod ({ cls := "FeatherBenchModel", name := "isSign", desc := "(I)Z" } : Jvm.MethodName)) ∈ lw_tbl := lw_at lw_m9 205 rfl
theorem q2285 : (Jvm.Cond.instanceMethod ({ cls := "FeatherBenchModel", name := "isSign", desc := "(I)Z" } : Jvm.MethodName)) ∈ lw_all := lw_g (lw_at lw_m9 206 rfl) rfl
theorem q2286 : (Jvm.Cond.code ({ cls := "FeatherBenchModel", name := "isSign", desc := "(I)Z" } : Jvm.MethodName) prog_24_method_13_code (2 : Nat) (Option.some Jvm.ClassFile.FieldType.boolean)) ∈ lw_all := lw_g (lw_at lw_m9 207 rfl) rfl
theorem q2287 : (Jvm.Cond.methodLink "FeatherBenchModel" (373 : Nat) ({ cls := "FeatherBenchModel", name := "readFormals", desc := "([I[II)I" } : Jvm.MethodName)) ∈ lw_all := lw_g (lw_at lw_m9 208 rfl) rfl
theorem q2288 : (Jvm.Cond.privateMethod ({ cls := "FeatherBenchModel", name := "readFormals", desc := "([I[II)I" } : Jvm.MethodName)) ∈ lw_tbl := lw_at lw_m9 209 rfl
theorem q2289 : (Jvm.Cond.instanceMethod ({ cls := "FeatherBenchModel", name := "readFormals", desc := "([I[II)I" } : Jvm.MethodName)) ∈ lw_all := lw_g (lw_at lw_m9 210 rfl) rfl
theorem q2290 : (Jvm.Cond.code ({ cls := "FeatherBenchModel", name := "readFormals", desc := "([I[II)I" } : Jvm.MethodName) prog_24_method_30_code (8 : Nat) (Option.some Jvm.ClassFile.FieldType.int)) ∈ lw_all := lw_g (lw_at lw_m9 211 rfl) rfl
theorem q2291 : (Jvm.Cond.methodLink "FeatherBenchModel" (336 : Nat) ({ cls := "FeatherBenchModel", name := "takeSign", desc := "(I)V" } : Jvm.MethodName)) ∈ lw_all := lw_g (lw_at lw_m9 212 rfl) rfl
theorem q2292 : (Jvm.Cond.privateMethod ({ cls := "FeatherBenchModel", name := "takeSign", desc := "(I)V" } : Jvm.MethodName)) ∈ lw_tbl := lw_at lw_m9 213 rfl
theorem q2293 : (Jvm.Cond.instanceMethod ({ cls := "FeatherBenchModel", name := "takeSign", desc := "(I)V" } : Jvm.MethodName)) ∈ lw_all := lw_g (lw_at lw_m9 214 rfl) rfl
theorem q2294 : (Jvm.Cond.code ({ cls := "FeatherBenchModel", name := "takeSign", desc := "(I)V" } : Jvm.MethodName) prog_24_method_16_code (2 : Nat) (Option.none : Option Jvm.ClassFile.FieldType)) ∈ lw_all := lw_g (lw_at lw_m9 215 rfl) rfl
theorem q2295 : (Jvm.Cond.methodLink "FeatherBenchModel" (340 : Nat) ({ cls := "FeatherBenchModel", name := "takeType", desc := "()I" } : Jvm.MethodName)) ∈ lw_all := lw_g (lw_at lw_m9 216 rfl) rfl
theorem q2296 : (Jvm.Cond.privateMethod ({ cls := "FeatherBenchModel", name := "takeType", desc := "()I" } : Jvm.MethodName)) ∈ lw_tbl := lw_at lw_m9 217 rfl
theorem q2297 : (Jvm.Cond.instanceMethod ({ cls := "FeatherBenchModel", name := "takeType", desc := "()I" } : Jvm.MethodName)) ∈ lw_all := lw_g (lw_at lw_m9 218 rfl) rfl
theorem q2298 : (Jvm.Cond.code ({ cls := "FeatherBenchModel", name := "takeType", desc := "()I" } : Jvm.MethodName) prog_24_method_22_code (2 : Nat) (Option.some Jvm.ClassFile.FieldType.int)) ∈ lw_all := lw_g (lw_at lw_m9 219 rfl) rfl
theorem q2299 : (Jvm.Cond.methodLink "FeatherBenchModel" (323 : Nat) ({ cls := "FeatherBenchModel", name := "within", desc := "(Z)V" } : Jvm.MethodName)) ∈ lw_all := lw_g (lw_at lw_m9 220 rfl) rfl
theorem q2300 : (Jvm.Cond.privateMethod ({ cls := "FeatherBenchModel", name := "within", desc := "(Z)V" } : Jvm.MethodName)) ∈ lw_tbl := lw_at lw_m9 221 rfl
theorem q2301 : (Jvm.Cond.instanceMethod ({ cls := "FeatherBenchModel", name := "within", desc := "(Z)V" } : Jvm.MethodName)) ∈ lw_all := lw_g (lw_at lw_m9 222 rfl) rfl
theorem q2302 : (Jvm.Cond.code ({ cls := "FeatherBenchModel", name := "within", desc := "(Z)V" } : Jvm.MethodName) prog_24_method_21_code (2 : Nat) (Option.none : Option Jvm.ClassFile.FieldType)) ∈ lw_all := lw_g (lw_at lw_m9 223 rfl) rfl
theorem q2303 : (Jvm.Cond.methodLink "FeatherBenchModel" (327 : Nat) ({ cls := "FeatherBenchModel", name := "node", desc := "(I)I" } : Jvm.MethodName)) ∈ lw_all := lw_g (lw_at lw_m9 224 rfl) rfl
theorem q2304 : (Jvm.Cond.privateMethod ({ cls := "FeatherBenchModel", name := "node", desc := "(I)I" } : Jvm.MethodName)) ∈ lw_tbl := lw_at lw_m9 225 rfl
theorem q2305 : (Jvm.Cond.instanceMethod ({ cls := "FeatherBenchModel", name := "node", desc := "(I)I" } : Jvm.MethodName)) ∈ lw_all := lw_g (lw_at lw_m9 226 rfl) rfl
theorem q2306 : (Jvm.Cond.code ({ cls := "FeatherBenchModel", name := "node", desc := "(I)I" } : Jvm.MethodName) prog_24_method_20_code (2 : Nat) (Option.some Jvm.ClassFile.FieldType.int)) ∈ lw_all := lw_g (lw_at lw_m9 227 rfl) rfl
theorem q2307 : (Jvm.Cond.methodLink "FeatherBenchModel" (330 : Nat) ({ cls := "FeatherBenchModel", name := "takeTypes", desc := "()I" } : Jvm.MethodName)) ∈ lw_all := lw_g (lw_at lw_m9 228 rfl) rfl
theorem q2308 : (Jvm.Cond.privateMethod ({ cls := "FeatherBenchModel", name := "takeTypes", desc := "()I" } : Jvm.MethodName)) ∈ lw_tbl := lw_at lw_m9 229 rfl
theorem q2309 : (Jvm.Cond.instanceMethod ({ cls := "FeatherBenchModel", name := "takeTypes", desc := "()I" } : Jvm.MethodName)) ∈ lw_all := lw_g (lw_at lw_m9 230 rfl) rfl
theorem q2310 : (Jvm.Cond.code ({ cls := "FeatherBenchModel", name := "takeTypes", desc := "()I" } : Jvm.MethodName) prog_24_method_23_code (5 : Nat) (Option.some Jvm.ClassFile.FieldType.int)) ∈ lw_all := lw_g (lw_at lw_m9 231 rfl) rfl
theorem q2311 : (Jvm.Cond.methodLink "FeatherBenchModel" (343 : Nat) ({ cls := "FeatherBenchModel", name := "hasSign", desc := "(I)Z" } : Jvm.MethodName)) ∈ lw_all := lw_g (lw_at lw_m9 232 rfl) rfl
theorem q2312 : (Jvm.Cond.privateMethod ({ cls := "FeatherBenchModel", name := "hasSign", desc := "(I)Z" } : Jvm.MethodName)) ∈ lw_tbl := lw_at lw_m9 233 rfl
theorem q2313 : (Jvm.Cond.instanceMethod ({ cls := "FeatherBenchModel", name := "hasSign", desc := "(I)Z" } : Jvm.MethodName)) ∈ lw_all := lw_g (lw_at lw_m9 234 rfl) rfl
theorem q2314 : (Jvm.Cond.code ({ cls := "FeatherBenchModel", name := "hasSign", desc := "(I)Z" } : Jvm.MethodName) prog_24_method_17_code (3 : Nat) (Option.some Jvm.ClassFile.FieldType.boolean)) ∈ lw_all := lw_g (lw_at lw_m9 235 rfl) rfl
theorem q2315 : (Jvm.Cond.methodLink "FeatherBenchModel" (361 : Nat) ({ cls := "FeatherBenchModel", name := "takeWord", desc := "(I)V" } : Jvm.MethodName)) ∈ lw_all := lw_g (lw_at lw_m9 236 rfl) rfl
theorem q2316 : (Jvm.Cond.privateMethod ({ cls := "FeatherBenchModel", name := "takeWord", desc := "(I)V" } : Jvm.MethodName)) ∈ lw_tbl := lw_at lw_m9 237 rfl
theorem q2317 : (Jvm.Cond.instanceMethod ({ cls := "FeatherBenchModel", name := "takeWord", desc := "(I)V" } : Jvm.MethodName)) ∈ lw_all := lw_g (lw_at lw_m9 238 rfl) rfl
theorem q2318 : (Jvm.Cond.code ({ cls := "FeatherBenchModel", name := "takeWord", desc := "(I)V" } : Jvm.MethodName) prog_24_method_18_code (2 : Nat) (Option.none : Option Jvm.ClassFile.FieldType)) ∈ lw_all := lw_g (lw_at lw_m9 239 rfl) rfl
theorem q2319 : (Jvm.Cond.methodLink "FeatherBenchModel" (377 : Nat) ({ cls := "FeatherBenchModel", name := "readField", desc := "(I)V" } : Jvm.MethodName)) ∈ lw_all := lw_g (lw_at lw_m10 0 rfl) rfl
theorem q2320 : (Jvm.Cond.privateMethod ({ cls := "FeatherBenchModel", name := "readField", desc := "(I)V" } : Jvm.MethodName)) ∈ lw_tbl := lw_at lw_m10 1 rfl
theorem q2321 : (Jvm.Cond.instanceMethod ({ cls := "FeatherBenchModel", name := "readField", desc := "(I)V" } : Jvm.MethodName)) ∈ lw_all := lw_g (lw_at lw_m10 2 rfl) rfl
theorem q2322 : (Jvm.Cond.code ({ cls := "FeatherBenchModel", name := "readField", desc := "(I)V" } : Jvm.MethodName) prog_24_method_31_code (4 : Nat) (Option.none : Option Jvm.ClassFile.FieldType)) ∈ lw_all := lw_g (lw_at lw_m10 3 rfl) rfl
theorem q2323 : (Jvm.Cond.methodLink "FeatherBenchModel" (380 : Nat) ({ cls := "FeatherBenchModel", name := "readHead", desc := "()V" } : Jvm.MethodName)) ∈ lw_all := lw_g (lw_at lw_m10 4 rfl) rfl
theorem q2324 : (Jvm.Cond.privateMethod ({ cls := "FeatherBenchModel", name := "readHead", desc := "()V" } : Jvm.MethodName)) ∈ lw_tbl := lw_at lw_m10 5 rfl
theorem q2325 : (Jvm.Cond.instanceMethod ({ cls := "FeatherBenchModel", name := "readHead", desc := "()V" } : Jvm.MethodName)) ∈ lw_all := lw_g (lw_at lw_m10 6 rfl) rfl
theorem q2326 : (Jvm.Cond.code ({ cls := "FeatherBenchModel", name := "readHead", desc := "()V" } : Jvm.MethodName) prog_24_method_32_code (5 : Nat) (Option.none : Option Jvm.ClassFile.FieldType)) ∈ lw_all := lw_g (lw_at lw_m10 7 rfl) rfl
theorem q2327 : (Jvm.Cond.methodLink "FeatherBenchModel" (358 : Nat) ({ cls := "FeatherBenchModel", name := "readFunc", desc := "()V" } : Jvm.MethodName)) ∈ lw_all := lw_g (lw_at lw_m10 8 rfl) rfl
theorem q2328 : (Jvm.Cond.privateMethod ({ cls := "FeatherBenchModel", name := "readFunc", desc := "()V" } : Jvm.MethodName)) ∈ lw_tbl := lw_at lw_m10 9 rfl
theorem q2329 : (Jvm.Cond.instanceMethod ({ cls := "FeatherBenchModel", name := "readFunc", desc := "()V" } : Jvm.MethodName)) ∈ lw_all := lw_g (lw_at lw_m10 10 rfl) rfl
theorem q2330 : (Jvm.Cond.code ({ cls := "FeatherBenchModel", name := "readFunc", desc := "()V" } : Jvm.MethodName) prog_24_method_33_code (3 : Nat) (Option.none : Option Jvm.ClassFile.FieldType)) ∈ lw_all := lw_g (lw_at lw_m10 11 rfl) rfl
theorem q2331 : (Jvm.Cond.methodLink "FeatherBenchModel" (352 : Nat) ({ cls := "FeatherBenchModel", name := "takeE", desc := "()I" } : Jvm.MethodName)) ∈ lw_all := lw_g (lw_at lw_m10 12 rfl) rfl
theorem q2332 : (Jvm.Cond.privateMethod ({ cls := "FeatherBenchModel", name := "takeE", desc := "()I" } : Jvm.MethodName)) ∈ lw_tbl := lw_at lw_m10 13 rfl
theorem q2333 : (Jvm.Cond.instanceMethod ({ cls := "FeatherBenchModel", name := "takeE", desc := "()I" } : Jvm.MethodName)) ∈ lw_all := lw_g (lw_at lw_m10 14 rfl) rfl
theorem q2334 : (Jvm.Cond.code ({ cls := "FeatherBenchModel", name := "takeE", desc := "()I" } : Jvm.MethodName) prog_24_method_24_code (5 : Nat) (Option.some Jvm.ClassFile.FieldType.int)) ∈ lw_all := lw_g (lw_at lw_m10 15 rfl) rfl
theorem q2335 : (Jvm.Cond.methodLink "FeatherBenchModel" (346 : Nat) ({ cls := "FeatherBenchModel", name := "takeList", desc := "()I" } : Jvm.MethodName)) ∈ lw_all := lw_g (lw_at lw_m10 16 rfl) rfl
theorem q2336 : (Jvm.Cond.privateMethod ({ cls := "FeatherBenchModel", name := "takeList", desc := "()I" } : Jvm.MethodName)) ∈ lw_tbl := lw_at lw_m10 17 rfl
theorem q2337 : (Jvm.Cond.instanceMethod ({ cls := "FeatherBenchModel", name := "takeList", desc := "()I" } : Jvm.MethodName)) ∈ lw_all := lw_g (lw_at lw_m10 18 rfl) rfl
theorem q2338 : (Jvm.Cond.code ({ cls := "FeatherBenchModel", name := "takeList", desc := "()I" } : Jvm.MethodName) prog_24_method_25_code (5 : Nat) (Option.some Jvm.ClassFile.FieldType.int)) ∈ lw_all := lw_g (lw_at lw_m10 19 rfl) rfl
theorem q2339 : (Jvm.Cond.methodLink "FeatherBenchModel" (349 : Nat) ({ cls := "FeatherBenchModel", name := "behindPoint", desc := "(I)I" } : Jvm.MethodName)) ∈ lw_all := lw_g (lw_at lw_m10 20 rfl) rfl
theorem q2340 : (Jvm.Cond.privateMethod ({ cls := "FeatherBenchModel", name := "behindPoint", desc := "(I)I" } : Jvm.MethodName)) ∈ lw_tbl := lw_at lw_m10 21 rfl
theorem q2341 : (Jvm.Cond.instanceMethod ({ cls := "FeatherBenchModel", name := "behindPoint", desc := "(I)I" } : Jvm.MethodName)) ∈ lw_all := lw_g (lw_at lw_m10 22 rfl) rfl
theorem q2342 : (Jvm.Cond.code ({ cls := "FeatherBenchModel", name := "behindPoint", desc := "(I)I" } : Jvm.MethodName) prog_24_method_26_code (6 : Nat) (Option.some Jvm.ClassFile.FieldType.int)) ∈ lw_all := lw_g (lw_at lw_m10 23 rfl) rfl
theorem q2343 : (Jvm.Cond.constant "FeatherBenchModel" (566 : Nat) (60000 : Int32)) ∈ lw_all := lw_g (lw_at lw_m10 24 rfl) rfl
theorem q2344 : (Jvm.Cond.constant "FeatherBenchModel" (556 : Nat) (100000 : Int32)) ∈ lw_all := lw_g (lw_at lw_m10 25 rfl) rfl
theorem q2345 : (Jvm.Cond.methodLink "FeatherBenchModel" (567 : Nat) ({ cls := "FeatherBenchModel", name := "goThrough", desc := "(II)V" } : Jvm.MethodName)) ∈ lw_all := lw_g (lw_at lw_m10 26 rfl) rfl
theorem q2346 : (Jvm.Cond.privateMethod ({ cls := "FeatherBenchModel", name := "goThrough", desc := "(II)V" } : Jvm.MethodName)) ∈ lw_tbl := lw_at lw_m10 27 rfl
theorem q2347 : (Jvm.Cond.instanceMethod ({ cls := "FeatherBenchModel", name := "goThrough", desc := "(II)V" } : Jvm.MethodName)) ∈ lw_all := lw_g (lw_at lw_m10 28 rfl) rfl
theorem q2348 : (Jvm.Cond.code ({ cls := "FeatherBenchModel", name := "goThrough", desc := "(II)V" } : Jvm.MethodName) prog_24_method_80_code (5 : Nat) (Option.none : Option Jvm.ClassFile.FieldType)) ∈ lw_all := lw_g (lw_at lw_m10 29 rfl) rfl
theorem q2349 : (Jvm.Cond.methodLink "FeatherBenchModel" (579 : Nat) ({ cls := "FeatherBenchModel", name := "namesOfType", desc := "(I)V" } : Jvm.MethodName)) ∈ lw_all := lw_g (lw_at lw_m10 30 rfl) rfl
theorem q2350 : (Jvm.Cond.privateMethod ({ cls := "FeatherBenchModel", name := "namesOfType", desc := "(I)V" } : Jvm.MethodName)) ∈ lw_tbl := lw_at lw_m10 31 rfl
theorem q2351 : (Jvm.Cond.instanceMethod ({ cls := "FeatherBenchModel", name := "namesOfType", desc := "(I)V" } : Jvm.MethodName)) ∈ lw_all := lw_g (lw_at lw_m10 32 rfl) rfl
theorem q2352 : (Jvm.Cond.code ({ cls := "FeatherBenchModel", name := "namesOfType", desc := "(I)V" } : Jvm.MethodName) prog_24_method_50_code (4 : Nat) (Option.none : Option Jvm.ClassFile.FieldType)) ∈ lw_all := lw_g (lw_at lw_m10 33 rfl) rfl
theorem q2353 : (Jvm.Cond.methodLink "FeatherBenchModel" (448 : Nat) ({ cls := "FeatherBenchModel", name := "isToldAhead", desc := "(I[III)Z" } : Jvm.MethodName)) ∈ lw_all := lw_g (lw_at lw_m10 34 rfl) rfl
theorem q2354 : (Jvm.Cond.privateMethod ({ cls := "FeatherBenchModel", name := "isToldAhead", desc := "(I[III)Z" } : Jvm.MethodName)) ∈ lw_tbl := lw_at lw_m10 35 rfl
theorem q2355 : (Jvm.Cond.instanceMethod ({ cls := "FeatherBenchModel", name := "isToldAhead", desc := "(I[III)Z" } : Jvm.MethodName)) ∈ lw_all := lw_g (lw_at lw_m10 36 rfl) rfl
theorem q2356 : (Jvm.Cond.code ({ cls := "FeatherBenchModel", name := "isToldAhead", desc := "(I[III)Z" } : Jvm.MethodName) prog_24_method_47_code (7 : Nat) (Option.some Jvm.ClassFile.FieldType.boolean)) ∈ lw_all := lw_g (lw_at lw_m10 37 rfl) rfl
theorem q2357 : (Jvm.Cond.methodLink "FeatherBenchModel" (455 : Nat) ({ cls := "FeatherBenchModel", name := "twice", desc := "([IIII)V" } : Jvm.MethodName)) ∈ lw_all := lw_g (lw_at lw_m10 38 rfl) rfl
theorem q2358 : (Jvm.Cond.privateMethod ({ cls := "FeatherBenchModel", name := "twice", desc := "([IIII)V" } : Jvm.MethodName)) ∈ lw_tbl := lw_at lw_m10 39 rfl
theorem q2359 : (Jvm.Cond.instanceMethod ({ cls := "FeatherBenchModel", name := "twice", desc := "([IIII)V" } : Jvm.MethodName)) ∈ lw_all := lw_g (lw_at lw_m10 40 rfl) rfl
theorem q2360 : (Jvm.Cond.code ({ cls := "FeatherBenchModel", name := "twice", desc := "([IIII)V" } : Jvm.MethodName) prog_24_method_48_code (6 : Nat) (Option.none : Option Jvm.ClassFile.FieldType)) ∈ lw_all := lw_g (lw_at lw_m10 41 rfl) rfl
theorem q2361 : (Jvm.Cond.methodLink "FeatherBenchModel" (452 : Nat) ({ cls := "FeatherBenchModel", name := "paramOf", desc := "(II)I" } : Jvm.MethodName)) ∈ lw_all := lw_g (lw_at lw_m10 42 rfl) rfl
theorem q2362 : (Jvm.Cond.privateMethod ({ cls := "FeatherBenchModel", name := "paramOf", desc := "(II)I" } : Jvm.MethodName)) ∈ lw_tbl := lw_at lw_m10 43 rfl
theorem q2363 : (Jvm.Cond.instanceMethod ({ cls := "FeatherBenchModel", name := "paramOf", desc := "(II)I" } : Jvm.MethodName)) ∈ lw_all := lw_g (lw_at lw_m10 44 rfl) rfl
theorem q2364 : (Jvm.Cond.code ({ cls := "FeatherBenchModel", name := "paramOf", desc := "(II)I" } : Jvm.MethodName) prog_24_method_49_code (5 : Nat) (Option.some Jvm.ClassFile.FieldType.int)) ∈ lw_all := lw_g (lw_at lw_m10 45 rfl) rfl
theorem q2365 : (Jvm.Cond.methodLink "FeatherBenchModel" (582 : Nat) ({ cls := "FeatherBenchModel", name := "namesOfFunc", desc := "(I)V" } : Jvm.MethodName)) ∈ lw_all := lw_g (lw_at lw_m10 46 rfl) rfl
theorem q2366 : (Jvm.Cond.privateMethod ({ cls := "FeatherBenchModel", name := "namesOfFunc", desc := "(I)V" } : Jvm.MethodName)) ∈ lw_tbl := lw_at lw_m10 47 rfl
theorem q2367 : (Jvm.Cond.instanceMethod ({ cls := "FeatherBenchModel", name := "namesOfFunc", desc := "(I)V" } : Jvm.MethodName)) ∈ lw_all := lw_g (lw_at lw_m10 48 rfl) rfl
theorem q2368 : (Jvm.Cond.code ({ cls := "FeatherBenchModel", name := "namesOfFunc", desc := "(I)V" } : Jvm.MethodName) prog_24_method_51_code (4 : Nat) (Option.none : Option Jvm.ClassFile.FieldType)) ∈ lw_all := lw_g (lw_at lw_m10 49 rfl) rfl
theorem q2369 : (Jvm.Cond.methodLink "FeatherBenchModel" (585 : Nat) ({ cls := "FeatherBenchModel", name := "typeWords", desc := "(I)V" } : Jvm.MethodName)) ∈ lw_all := lw_g (lw_at lw_m10 50 rfl) rfl
theorem q2370 : (Jvm.Cond.privateMethod ({ cls := "FeatherBenchModel", name := "typeWords", desc := "(I)V" } : Jvm.MethodName)) ∈ lw_tbl := lw_at lw_m10 51 rfl
theorem q2371 : (Jvm.Cond.instanceMethod ({ cls := "FeatherBenchModel", name := "typeWords", desc := "(I)V" } : Jvm.MethodName)) ∈ lw_all := lw_g (lw_at lw_m10 52 rfl) rfl
theorem q2372 : (Jvm.Cond.code ({ cls := "FeatherBenchModel", name := "typeWords", desc := "(I)V" } : Jvm.MethodName) prog_24_method_58_code (3 : Nat) (Option.none : Option Jvm.ClassFile.FieldType)) ∈ lw_all := lw_g (lw_at lw_m10 53 rfl) rfl
theorem q2373 : (Jvm.Cond.methodLink "FeatherBenchModel" (484 : Nat) ({ cls := "FeatherBenchModel", name := "place", desc := "(III)V" } : Jvm.MethodName)) ∈ lw_all := lw_g (lw_at lw_m10 54 rfl) rfl
theorem q2374 : (Jvm.Cond.privateMethod ({ cls := "FeatherBenchModel", name := "place", desc := "(III)V" } : Jvm.MethodName)) ∈ lw_tbl := lw_at lw_m10 55 rfl
theorem q2375 : (Jvm.Cond.instanceMethod ({ cls := "FeatherBenchModel", name := "place", desc := "(III)V" } : Jvm.MethodName)) ∈ lw_all := lw_g (lw_at lw_m10 56 rfl) rfl
theorem q2376 : (Jvm.Cond.code ({ cls := "FeatherBenchModel", name := "place", desc := "(III)V" } : Jvm.MethodName) prog_24_method_55_code (4 : Nat) (Option.none : Option Jvm.ClassFile.FieldType)) ∈ lw_all := lw_g (lw_at lw_m10 57 rfl) rfl
theorem q2377 : (Jvm.Cond.methodLink "FeatherBenchModel" (486 : Nat) ({ cls := "FeatherBenchModel", name := "boundWords", desc := "(I)V" } : Jvm.MethodName)) ∈ lw_all := lw_g (lw_at lw_m10 58 rfl) rfl
theorem q2378 : (Jvm.Cond.privateMethod ({ cls := "FeatherBenchModel", name := "boundWords", desc := "(I)V" } : Jvm.MethodName)) ∈ lw_tbl := lw_at lw_m10 59 rfl
theorem q2379 : (Jvm.Cond.instanceMethod ({ cls := "FeatherBenchModel", name := "boundWords", desc := "(I)V" } : Jvm.MethodName)) ∈ lw_all := lw_g (lw_at lw_m10 60 rfl) rfl
theorem q2380 : (Jvm.Cond.code ({ cls := "FeatherBenchModel", name := "boundWords", desc := "(I)V" } : Jvm.MethodName) prog_24_method_56_code (2 : Nat) (Option.none : Option Jvm.ClassFile.FieldType)) ∈ lw_all := lw_g (lw_at lw_m10 61 rfl) rfl
theorem q2381 : (Jvm.Cond.methodLink "FeatherBenchModel" (477 : Nat) ({ cls := "FeatherBenchModel", name := "resolve", desc := "(IZ)V" } : Jvm.MethodName)) ∈ lw_all := lw_g (lw_at lw_m10 62 rfl) rfl
theorem q2382 : (Jvm.Cond.privateMethod ({ cls := "FeatherBenchModel", name := "resolve", desc := "(IZ)V" } : Jvm.MethodName)) ∈ lw_tbl := lw_at lw_m10 63 rfl
theorem q2383 : (Jvm.Cond.instanceMethod ({ cls := "FeatherBenchModel", name := "resolve", desc := "(IZ)V" } : Jvm.MethodName)) ∈ lw_all := lw_g (lw_at lw_m10 64 rfl) rfl
theorem q2384 : (Jvm.Cond.code ({ cls := "FeatherBenchModel", name := "resolve", desc := "(IZ)V" } : Jvm.MethodName) prog_24_method_53_code (6 : Nat) (Option.none : Option Jvm.ClassFile.FieldType)) ∈ lw_all := lw_g (lw_at lw_m10 65 rfl) rfl
theorem q2385 : (Jvm.Cond.methodLink "FeatherBenchModel" (468 : Nat) ({ cls := "FeatherBenchModel", name := "wordNow", desc := "(I)I" } : Jvm.MethodName)) ∈ lw_all := lw_g (lw_at lw_m10 66 rfl) rfl
theorem q2386 : (Jvm.Cond.privateMethod ({ cls := "FeatherBenchModel", name := "wordNow", desc := "(I)I" } : Jvm.MethodName)) ∈ lw_tbl := lw_at lw_m10 67 rfl
theorem q2387 : (Jvm.Cond.instanceMethod ({ cls := "FeatherBenchModel", name := "wordNow", desc := "(I)I" } : Jvm.MethodName)) ∈ lw_all := lw_g (lw_at lw_m10 68 rfl) rfl
theorem q2388 : (Jvm.Cond.code ({ cls := "FeatherBenchModel", name := "wordNow", desc := "(I)I" } : Jvm.MethodName) prog_24_method_54_code (4 : Nat) (Option.some Jvm.ClassFile.FieldType.int)) ∈ lw_all := lw_g (lw_at lw_m10 69 rfl) rfl
theorem q2389 : (Jvm.Cond.methodLink "FeatherBenchModel" (471 : Nat) ({ cls := "FeatherBenchModel", name := "codeOfWord", desc := "(I)I" } : Jvm.MethodName)) ∈ lw_all := lw_g (lw_at lw_m10 70 rfl) rfl
theorem q2390 : (Jvm.Cond.privateMethod ({ cls := "FeatherBenchModel", name := "codeOfWord", desc := "(I)I" } : Jvm.MethodName)) ∈ lw_tbl := lw_at lw_m10 71 rfl
theorem q2391 : (Jvm.Cond.instanceMethod ({ cls := "FeatherBenchModel", name := "codeOfWord", desc := "(I)I" } : Jvm.MethodName)) ∈ lw_all := lw_g (lw_at lw_m10 72 rfl) rfl
theorem q2392 : (Jvm.Cond.code ({ cls := "FeatherBenchModel", name := "codeOfWord", desc := "(I)I" } : Jvm.MethodName) prog_24_method_52_code (3 : Nat) (Option.some Jvm.ClassFile.FieldType.int)) ∈ lw_all := lw_g (lw_at lw_m10 73 rfl) rfl
theorem q2393 : (Jvm.Cond.methodLink "FeatherBenchModel" (392 : Nat) ({ cls := "FeatherBenchModel", name := "codeOf", desc := "(I)I" } : Jvm.MethodName)) ∈ lw_all := lw_g (lw_at lw_m10 74 rfl) rfl
theorem q2394 : (Jvm.Cond.static ({ cls := "FeatherBenchModel", name := "codeOf", desc := "(I)I" } : Jvm.MethodName)) ∈ lw_all := lw_g (lw_at lw_m10 75 rfl) rfl
theorem q2395 : (Jvm.Cond.code ({ cls := "FeatherBenchModel", name := "codeOf", desc := "(I)I" } : Jvm.MethodName) prog_24_method_34_code (1 : Nat) (Option.some Jvm.ClassFile.FieldType.int)) ∈ lw_all := lw_g (lw_at lw_m10 76 rfl) rfl
theorem q2396 : (Jvm.Cond.methodLink "FeatherBenchModel" (489 : Nat) ({ cls := "FeatherBenchModel", name := "headWords", desc := "(III)V" } : Jvm.MethodName)) ∈ lw_all := lw_g (lw_at lw_m10 77 rfl) rfl
theorem q2397 : (Jvm.Cond.privateMethod ({ cls := "FeatherBenchModel", name := "headWords", desc := "(III)V" } : Jvm.MethodName)) ∈ lw_tbl := lw_at lw_m10 78 rfl
theorem q2398 : (Jvm.Cond.instanceMethod ({ cls := "FeatherBenchModel", name := "headWords", desc := "(III)V" } : Jvm.MethodName)) ∈ lw_all := lw_g (lw_at lw_m10 79 rfl) rfl
theorem q2399 : (Jvm.Cond.code ({ cls := "FeatherBenchModel", name := "headWords", desc := "(III)V" } : Jvm.MethodName) prog_24_method_57_code (5 : Nat) (Option.none : Option Jvm.ClassFile.FieldType)) ∈ lw_all := lw_g (lw_at lw_m10 80 rfl) rfl
theorem q2400 : (Jvm.Cond.methodLink "FeatherBenchModel" (588 : Nat) ({ cls := "FeatherBenchModel", name := "funcWords", desc := "(I)V" } : Jvm.MethodName)) ∈ lw_all := lw_g (lw_at lw_m10 81 rfl) rfl
theorem q2401 : (Jvm.Cond.privateMethod ({ cls := "FeatherBenchModel", name := "funcWords", desc := "(I)V" } : Jvm.MethodName)) ∈ lw_tbl := lw_at lw_m10 82 rfl
theorem q2402 : (Jvm.Cond.instanceMethod ({ cls := "FeatherBenchModel", name := "funcWords", desc := "(I)V" } : Jvm.MethodName)) ∈ lw_all := lw_g (lw_at lw_m10 83 rfl) rfl
theorem q2403 : (Jvm.Cond.code ({ cls := "FeatherBenchModel", name := "funcWords", desc := "(I)V" } : Jvm.MethodName) prog_24_method_59_code (3 : Nat) (Option.none : Option Jvm.ClassFile.FieldType)) ∈ lw_all := lw_g (lw_at lw_m10 84 rfl) rfl
theorem q2404 : (Jvm.Cond.methodLink "FeatherBenchModel" (591 : Nat) ({ cls := "FeatherBenchModel", name := "typeBounds", desc := "(I)V" } : Jvm.MethodName)) ∈ lw_all := lw_g (lw_at lw_m10 85 rfl) rfl
theorem q2405 : (Jvm.Cond.privateMethod ({ cls := "FeatherBenchModel", name := "typeBounds", desc := "(I)V" } : Jvm.MethodName)) ∈ lw_tbl := lw_at lw_m10 86 rfl
theorem q2406 : (Jvm.Cond.instanceMethod ({ cls := "FeatherBenchModel", name := "typeBounds", desc := "(I)V" } : Jvm.MethodName)) ∈ lw_all := lw_g (lw_at lw_m10 87 rfl) rfl
theorem q2407 : (Jvm.Cond.code ({ cls := "FeatherBenchModel", name := "typeBounds", desc := "(I)V" } : Jvm.MethodName) prog_24_method_63_code (3 : Nat) (Option.none : Option Jvm.ClassFile.FieldType)) ∈ lw_all := lw_g (lw_at lw_m10 88 rfl) rfl
theorem q2408 : (Jvm.Cond.methodLink "FeatherBenchModel" (492 : Nat) ({ cls := "FeatherBenchModel", name := "bounds", desc := "(I)V" } : Jvm.MethodName)) ∈ lw_all := lw_g (lw_at lw_m10 89 rfl) rfl
theorem q2409 : (Jvm.Cond.privateMethod ({ cls := "FeatherBenchModel", name := "bounds", desc := "(I)V" } : Jvm.MethodName)) ∈ lw_tbl := lw_at lw_m10 90 rfl
theorem q2410 : (Jvm.Cond.instanceMethod ({ cls := "FeatherBenchModel", name := "bounds", desc := "(I)V" } : Jvm.MethodName)) ∈ lw_all := lw_g (lw_at lw_m10 91 rfl) rfl
theorem q2411 : (Jvm.Cond.code ({ cls := "FeatherBenchModel", name := "bounds", desc := "(I)V" } : Jvm.MethodName) prog_24_method_60_code (6 : Nat) (Option.none : Option Jvm.ClassFile.FieldType)) ∈ lw_all := lw_g (lw_at lw_m10 92 rfl) rfl
theorem q2412 : (Jvm.Cond.methodLink "FeatherBenchModel" (414 : Nat) ({ cls := "FeatherBenchModel", name := "newEnv", desc := "()I" } : Jvm.MethodName)) ∈ lw_all := lw_g (lw_at lw_m10 93 rfl) rfl
theorem q2413 : (Jvm.Cond.privateMethod ({ cls := "FeatherBenchModel", name := "newEnv", desc := "()I" } : Jvm.MethodName)) ∈ lw_tbl := lw_at lw_m10 94 rfl
theorem q2414 : (Jvm.Cond.instanceMethod ({ cls := "FeatherBenchModel", name := "newEnv", desc := "()I" } : Jvm.MethodName)) ∈ lw_all := lw_g (lw_at lw_m10 95 rfl) rfl
theorem q2415 : (Jvm.Cond.code ({ cls := "FeatherBenchModel", name := "newEnv", desc := "()I" } : Jvm.MethodName) prog_24_method_37_code (1 : Nat) (Option.some Jvm.ClassFile.FieldType.int)) ∈ lw_all := lw_g (lw_at lw_m10 96 rfl) rfl
theorem q2416 : (Jvm.Cond.methodLink "FeatherBenchModel" (436 : Nat) ({ cls := "FeatherBenchModel", name := "group", desc := "(IIII)V" } : Jvm.MethodName)) ∈ lw_all := lw_g (lw_at lw_m10 97 rfl) rfl
theorem q2417 : (Jvm.Cond.privateMethod ({ cls := "FeatherBenchModel", name := "group", desc := "(IIII)V" } : Jvm.MethodName)) ∈ lw_tbl := lw_at lw_m10 98 rfl
theorem q2418 : (Jvm.Cond.instanceMethod ({ cls := "FeatherBenchModel", name := "group", desc := "(IIII)V" } : Jvm.MethodName)) ∈ lw_all := lw_g (lw_at lw_m10 99 rfl) rfl
theorem q2419 : (Jvm.Cond.code ({ cls := "FeatherBenchModel", name := "group", desc := "(IIII)V" } : Jvm.MethodName) prog_24_method_38_code (10 : Nat) (Option.none : Option Jvm.ClassFile.FieldType)) ∈ lw_all := lw_g (lw_at lw_m10 100 rfl) rfl
theorem q2420 : (Jvm.Cond.methodLink "FeatherBenchModel" (386 : Nat) ({ cls := "FeatherBenchModel", name := "behind", desc := "(I)I" } : Jvm.MethodName)) ∈ lw_all := lw_g (lw_at lw_m10 101 rfl) rfl
theorem q2421 : (Jvm.Cond.privateMethod ({ cls := "FeatherBenchModel", name := "behind", desc := "(I)I" } : Jvm.MethodName)) ∈ lw_tbl := lw_at lw_m10 102 rfl
theorem q2422 : (Jvm.Cond.instanceMethod ({ cls := "FeatherBenchModel", name := "behind", desc := "(I)I" } : Jvm.MethodName)) ∈ lw_all := lw_g (lw_at lw_m10 103 rfl) rfl
theorem q2423 : (Jvm.Cond.code ({ cls := "FeatherBenchModel", name := "behind", desc := "(I)I" } : Jvm.MethodName) prog_24_method_35_code (4 : Nat) (Option.some Jvm.ClassFile.FieldType.int)) ∈ lw_all := lw_g (lw_at lw_m10 104 rfl) rfl
theorem q2424 : (Jvm.Cond.methodLink "FeatherBenchModel" (495 : Nat) ({ cls := "FeatherBenchModel", name := "fits", desc := "(IIIII)V" } : Jvm.MethodName)) ∈ lw_all := lw_g (lw_at lw_m10 105 rfl) rfl
theorem q2425 : (Jvm.Cond.privateMethod ({ cls := "FeatherBenchModel", name := "fits", desc := "(IIIII)V" } : Jvm.MethodName)) ∈ lw_tbl := lw_at lw_m10 106 rfl
theorem q2426 : (Jvm.Cond.instanceMethod ({ cls := "FeatherBenchModel", name := "fits", desc := "(IIIII)V" } : Jvm.MethodName)) ∈ lw_all := lw_g (lw_at lw_m10 107 rfl) rfl
theorem q2427 : (Jvm.Cond.code ({ cls := "FeatherBenchModel", name := "fits", desc := "(IIIII)V" } : Jvm.MethodName) prog_24_method_61_code (8 : Nat) (Option.none : Option Jvm.ClassFile.FieldType)) ∈ lw_all := lw_g (lw_at lw_m10 108 rfl) rfl
theorem q2428 : (Jvm.Cond.methodLink "FeatherBenchModel" (417 : Nat) ({ cls := "FeatherBenchModel", name := "put", desc := "(III)Z" } : Jvm.MethodName)) ∈ lw_all := lw_g (lw_at lw_m10 109 rfl) rfl
theorem q2429 : (Jvm.Cond.privateMethod ({ cls := "FeatherBenchModel", name := "put", desc := "(III)Z" } : Jvm.MethodName)) ∈ lw_tbl := lw_at lw_m10 110 rfl
theorem q2430 : (Jvm.Cond.instanceMethod ({ cls := "FeatherBenchModel", name := "put", desc := "(III)Z" } : Jvm.MethodName)) ∈ lw_all := lw_g (lw_at lw_m10 111 rfl) rfl
theorem q2431 : (Jvm.Cond.code ({ cls := "FeatherBenchModel", name := "put", desc := "(III)Z" } : Jvm.MethodName) prog_24_method_40_code (10 : Nat) (Option.some Jvm.ClassFile.FieldType.boolean)) ∈ lw_all := lw_g (lw_at lw_m10 112 rfl) rfl
theorem q2432 : (Jvm.Cond.methodLink "FeatherBenchModel" (395 : Nat) ({ cls := "FeatherBenchModel", name := "found", desc := "(II)I" } : Jvm.MethodName)) ∈ lw_all := lw_g (lw_at lw_m10 113 rfl) rfl
theorem q2433 : (Jvm.Cond.privateMethod ({ cls := "FeatherBenchModel", name := "found", desc := "(II)I" } : Jvm.MethodName)) ∈ lw_tbl := lw_at lw_m10 114 rfl
theorem q2434 : (Jvm.Cond.instanceMethod ({ cls := "FeatherBenchModel", name := "found", desc := "(II)I" } : Jvm.MethodName)) ∈ lw_all := lw_g (lw_at lw_m10 115 rfl) rfl
theorem q2435 : (Jvm.Cond.code ({ cls := "FeatherBenchModel", name := "found", desc := "(II)I" } : Jvm.MethodName) prog_24_method_41_code (6 : Nat) (Option.some Jvm.ClassFile.FieldType.int)) ∈ lw_all := lw_g (lw_at lw_m10 116 rfl) rfl
theorem q2436 : (Jvm.Cond.methodLink "FeatherBenchModel" (499 : Nat) ({ cls := "FeatherBenchModel", name := "implement", desc := "(IIII)I" } : Jvm.MethodName)) ∈ lw_all := lw_g (lw_at lw_m10 117 rfl) rfl
theorem q2437 : (Jvm.Cond.privateMethod ({ cls := "FeatherBenchModel", name := "implement", desc := "(IIII)I" } : Jvm.MethodName)) ∈ lw_tbl := lw_at lw_m10 118 rfl
theorem q2438 : (Jvm.Cond.instanceMethod ({ cls := "FeatherBenchModel", name := "implement", desc := "(IIII)I" } : Jvm.MethodName)) ∈ lw_all := lw_g (lw_at lw_m10 119 rfl) rfl
theorem q2439 : (Jvm.Cond.code ({ cls := "FeatherBenchModel", name := "implement", desc := "(IIII)I" } : Jvm.MethodName) prog_24_method_44_code (12 : Nat) (Option.some Jvm.ClassFile.FieldType.int)) ∈ lw_all := lw_g (lw_at lw_m10 120 rfl) rfl
theorem q2440 : (Jvm.Cond.methodLink "FeatherBenchModel" (421 : Nat) ({ cls := "FeatherBenchModel", name := "isSame", desc := "(IIII)Z" } : Jvm.MethodName)) ∈ lw_all := lw_g (lw_at lw_m10 121 rfl) rfl
theorem q2441 : (Jvm.Cond.privateMethod ({ cls := "FeatherBenchModel", name := "isSame", desc := "(IIII)Z" } : Jvm.MethodName)) ∈ lw_tbl := lw_at lw_m10 122 rfl
theorem q2442 : (Jvm.Cond.instanceMethod ({ cls := "FeatherBenchModel", name := "isSame", desc := "(IIII)Z" } : Jvm.MethodName)) ∈ lw_all := lw_g (lw_at lw_m10 123 rfl) rfl
theorem q2443 : (Jvm.Cond.code ({ cls := "FeatherBenchModel", name := "isSame", desc := "(IIII)Z" } : Jvm.MethodName) prog_24_method_36_code (7 : Nat) (Option.some Jvm.ClassFile.FieldType.boolean)) ∈ lw_all := lw_g (lw_at lw_m10 124 rfl) rfl
theorem q2444 : (Jvm.Cond.methodLink "FeatherBenchModel" (425 : Nat) ({ cls := "FeatherBenchModel", name := "bound", desc := "(I)V" } : Jvm.MethodName)) ∈ lw_all := lw_g (lw_at lw_m10 125 rfl) rfl
theorem q2445 : (Jvm.Cond.privateMethod ({ cls := "FeatherBenchModel", name := "bound", desc := "(I)V" } : Jvm.MethodName)) ∈ lw_tbl := lw_at lw_m10 126 rfl
theorem q2446 : (Jvm.Cond.instanceMethod ({ cls := "FeatherBenchModel", name := "bound", desc := "(I)V" } : Jvm.MethodName)) ∈ lw_all := lw_g (lw_at lw_m10 127 rfl) rfl
theorem q2447 : (Jvm.Cond.code ({ cls := "FeatherBenchModel", name := "bound", desc := "(I)V" } : Jvm.MethodName) prog_24_method_43_code (8 : Nat) (Option.none : Option Jvm.ClassFile.FieldType)) ∈ lw_all := lw_g (lw_at lw_m10 128 rfl) rfl
theorem q2448 : (Jvm.Cond.methodLink "FeatherBenchModel" (428 : Nat) ({ cls := "FeatherBenchModel", name := "findHead", desc := "(II)Z" } : Jvm.MethodName)) ∈ lw_all := lw_g (lw_at lw_m10 129 rfl) rfl
theorem q2449 : (Jvm.Cond.privateMethod ({ cls := "FeatherBenchModel", name := "findHead", desc := "(II)Z" } : Jvm.MethodName)) ∈ lw_tbl := lw_at lw_m10 130 rfl
theorem q2450 : (Jvm.Cond.instanceMethod ({ cls := "FeatherBenchModel", name := "findHead", desc := "(II)Z" } : Jvm.MethodName)) ∈ lw_all := lw_g (lw_at lw_m10 131 rfl) rfl
theorem q2451 : (Jvm.Cond.code ({ cls := "FeatherBenchModel", name := "findHead", desc := "(II)Z" } : Jvm.MethodName) prog_24_method_42_code (6 : Nat) (Option.some Jvm.ClassFile.FieldType.boolean)) ∈ lw_all := lw_g (lw_at lw_m10 132 rfl) rfl
theorem q2452 : (Jvm.Cond.methodLink "FeatherBenchModel" (432 : Nat) ({ cls := "FeatherBenchModel", name := "alike", desc := "(IIIII)I" } : Jvm.MethodName)) ∈ lw_all := lw_g (lw_at lw_m10 133 rfl) rfl
theorem q2453 : (Jvm.Cond.privateMethod ({ cls := "FeatherBenchModel", name := "alike", desc := "(IIIII)I" } : Jvm.MethodName)) ∈ lw_tbl := lw_at lw_m10 134 rfl
theorem q2454 : (Jvm.Cond.instanceMethod ({ cls := "FeatherBenchModel", name := "alike", desc := "(IIIII)I" } : Jvm.MethodName)) ∈ lw_all := lw_g (lw_at lw_m10 135 rfl) rfl
theorem q2455 : (Jvm.Cond.code ({ cls := "FeatherBenchModel", name := "alike", desc := "(IIIII)I" } : Jvm.MethodName) prog_24_method_45_code (10 : Nat) (Option.some Jvm.ClassFile.FieldType.int)) ∈ lw_all := lw_g (lw_at lw_m10 136 rfl) rfl
theorem q2456 : (Jvm.Cond.methodLink "FeatherBenchModel" (440 : Nat) ({ cls := "FeatherBenchModel", name := "byPlaces", desc := "(III)V" } : Jvm.MethodName)) ∈ lw_all := lw_g (lw_at lw_m10 137 rfl) rfl
theorem q2457 : (Jvm.Cond.privateMethod ({ cls := "FeatherBenchModel", name := "byPlaces", desc := "(III)V" } : Jvm.MethodName)) ∈ lw_tbl := lw_at lw_m10 138 rfl
theorem q2458 : (Jvm.Cond.instanceMethod ({ cls := "FeatherBenchModel", name := "byPlaces", desc := "(III)V" } : Jvm.MethodName)) ∈ lw_all := lw_g (lw_at lw_m10 139 rfl) rfl
theorem q2459 : (Jvm.Cond.code ({ cls := "FeatherBenchModel", name := "byPlaces", desc := "(III)V" } : Jvm.MethodName) prog_24_method_39_code (6 : Nat) (Option.none : Option Jvm.ClassFile.FieldType)) ∈ lw_all := lw_g (lw_at lw_m10 140 rfl) rfl
theorem q2460 : (Jvm.Cond.methodLink "FeatherBenchModel" (444 : Nat) ({ cls := "FeatherBenchModel", name := "one", desc := "(IIII)I" } : Jvm.MethodName)) ∈ lw_all := lw_g (lw_at lw_m10 141 rfl) rfl
theorem q2461 : (Jvm.Cond.privateMethod ({ cls := "FeatherBenchModel", name := "one", desc := "(IIII)I" } : Jvm.MethodName)) ∈ lw_tbl := lw_at lw_m10 142 rfl
theorem q2462 : (Jvm.Cond.instanceMethod ({ cls := "FeatherBenchModel", name := "one", desc := "(IIII)I" } : Jvm.MethodName)) ∈ lw_all := lw_g (lw_at lw_m10 143 rfl) rfl
theorem q2463 : (Jvm.Cond.code ({ cls := "FeatherBenchModel", name := "one", desc := "(IIII)I" } : Jvm.MethodName) prog_24_method_46_code (10 : Nat) (Option.some Jvm.ClassFile.FieldType.int)) ∈ lw_all := lw_g (lw_at lw_m10 144 rfl) rfl
theorem q2464 : (Jvm.Cond.methodLink "FeatherBenchModel" (502 : Nat) ({ cls := "FeatherBenchModel", name := "headBounds", desc := "(I)V" } : Jvm.MethodName)) ∈ lw_all := lw_g (lw_at lw_m10 145 rfl) rfl
theorem q2465 : (Jvm.Cond.privateMethod ({ cls := "FeatherBenchModel", name := "headBounds", desc := "(I)V" } : Jvm.MethodName)) ∈ lw_tbl := lw_at lw_m10 146 rfl
theorem q2466 : (Jvm.Cond.instanceMethod ({ cls := "FeatherBenchModel", name := "headBounds", desc := "(I)V" } : Jvm.MethodName)) ∈ lw_all := lw_g (lw_at lw_m10 147 rfl) rfl
theorem q2467 : (Jvm.Cond.code ({ cls := "FeatherBenchModel", name := "headBounds", desc := "(I)V" } : Jvm.MethodName) prog_24_method_62_code (3 : Nat) (Option.none : Option Jvm.ClassFile.FieldType)) ∈ lw_all := lw_g (lw_at lw_m10 148 rfl) rfl
theorem q2468 : (Jvm.Cond.methodLink "FeatherBenchModel" (570 : Nat) ({ cls := "FeatherBenchModel", name := "selves", desc := "()V" } : Jvm.MethodName)) ∈ lw_all := lw_g (lw_at lw_m10 149 rfl) rfl
theorem q2469 : (Jvm.Cond.privateMethod ({ cls := "FeatherBenchModel", name := "selves", desc := "()V" } : Jvm.MethodName)) ∈ lw_tbl := lw_at lw_m10 150 rfl
theorem q2470 : (Jvm.Cond.instanceMethod ({ cls := "FeatherBenchModel", name := "selves", desc := "()V" } : Jvm.MethodName)) ∈ lw_all := lw_g (lw_at lw_m10 151 rfl) rfl
theorem q2471 : (Jvm.Cond.code ({ cls := "FeatherBenchModel", name := "selves", desc := "()V" } : Jvm.MethodName) prog_24_method_64_code (5 : Nat) (Option.none : Option Jvm.ClassFile.FieldType)) ∈ lw_all := lw_g (lw_at lw_m10 152 rfl) rfl
theorem q2472 : (Jvm.Cond.methodLink "FeatherBenchModel" (573 : Nat) ({ cls := "FeatherBenchModel", name := "typeFunc", desc := "(I)V" } : Jvm.MethodName)) ∈ lw_all := lw_g (lw_at lw_m10 153 rfl) rfl
theorem q2473 : (Jvm.Cond.privateMethod ({ cls := "FeatherBenchModel", name := "typeFunc", desc := "(I)V" } : Jvm.MethodName)) ∈ lw_tbl := lw_at lw_m10 154 rfl
theorem q2474 : (Jvm.Cond.instanceMethod ({ cls := "FeatherBenchModel", name := "typeFunc", desc := "(I)V" } : Jvm.MethodName)) ∈ lw_all := lw_g (lw_at lw_m10 155 rfl) rfl
theorem q2475 : (Jvm.Cond.code ({ cls := "FeatherBenchModel", name := "typeFunc", desc := "(I)V" } : Jvm.MethodName) prog_24_method_78_code (3 : Nat) (Option.none : Option Jvm.ClassFile.FieldType)) ∈ lw_all := lw_g (lw_at lw_m10 156 rfl) rfl
theorem q2476 : (Jvm.Cond.methodLink "FeatherBenchModel" (538 : Nat) ({ cls := "FeatherBenchModel", name := "typeE", desc := "(I)V" } : Jvm.MethodName)) ∈ lw_all := lw_g (lw_at lw_m10 157 rfl) rfl
theorem q2477 : (Jvm.Cond.privateMethod ({ cls := "FeatherBenchModel", name := "typeE", desc := "(I)V" } : Jvm.MethodName)) ∈ lw_tbl := lw_at lw_m10 158 rfl
theorem q2478 : (Jvm.Cond.instanceMethod ({ cls := "FeatherBenchModel", name := "typeE", desc := "(I)V" } : Jvm.MethodName)) ∈ lw_all := lw_g (lw_at lw_m10 159 rfl) rfl
theorem q2479 : (Jvm.Cond.code ({ cls := "FeatherBenchModel", name := "typeE", desc := "(I)V" } : Jvm.MethodName) prog_24_method_66_code (2 : Nat) (Option.none : Option Jvm.ClassFile.FieldType)) ∈ lw_all := lw_g (lw_at lw_m10 160 rfl) rfl
theorem q2480 : (Jvm.Cond.methodLink "FeatherBenchModel" (511 : Nat) ({ cls := "FeatherBenchModel", name := "typeVar", desc := "(I)V" } : Jvm.MethodName)) ∈ lw_all := lw_g (lw_at lw_m10 161 rfl) rfl
theorem q2481 : (Jvm.Cond.privateMethod ({ cls := "FeatherBenchModel", name := "typeVar", desc := "(I)V" } : Jvm.MethodName)) ∈ lw_tbl := lw_at lw_m10 162 rfl
theorem q2482 : (Jvm.Cond.instanceMethod ({ cls := "FeatherBenchModel", name := "typeVar", desc := "(I)V" } : Jvm.MethodName)) ∈ lw_all := lw_g (lw_at lw_m10 163 rfl) rfl
theorem q2483 : (Jvm.Cond.code ({ cls := "FeatherBenchModel", name := "typeVar", desc := "(I)V" } : Jvm.MethodName) prog_24_method_67_code (4 : Nat) (Option.none : Option Jvm.ClassFile.FieldType)) ∈ lw_all := lw_g (lw_at lw_m10 164 rfl) rfl
theorem q2484 : (Jvm.Cond.methodLink "FeatherBenchModel" (526 : Nat) ({ cls := "FeatherBenchModel", name := "typeOfVar", desc := "(I)V" } : Jvm.MethodName)) ∈ lw_all := lw_g (lw_at lw_m10 165 rfl) rfl
theorem q2485 : (Jvm.Cond.privateMethod ({ cls := "FeatherBenchModel", name := "typeOfVar", desc := "(I)V" } : Jvm.MethodName)) ∈ lw_tbl := lw_at lw_m10 166 rfl
theorem q2486 : (Jvm.Cond.instanceMethod ({ cls := "FeatherBenchModel", name := "typeOfVar", desc := "(I)V" } : Jvm.MethodName)) ∈ lw_all := lw_g (lw_at lw_m10 167 rfl) rfl
theorem q2487 : (Jvm.Cond.code ({ cls := "FeatherBenchModel", name := "typeOfVar", desc := "(I)V" } : Jvm.MethodName) prog_24_method_68_code (5 : Nat) (Option.none : Option Jvm.ClassFile.FieldType)) ∈ lw_all := lw_g (lw_at lw_m10 168 rfl) rfl
theorem q2488 : (Jvm.Cond.methodLink "FeatherBenchModel" (529 : Nat) ({ cls := "FeatherBenchModel", name := "is", desc := "(II)V" } : Jvm.MethodName)) ∈ lw_all := lw_g (lw_at lw_m10 169 rfl) rfl
theorem q2489 : (Jvm.Cond.privateMethod ({ cls := "FeatherBenchModel", name := "is", desc := "(II)V" } : Jvm.MethodName)) ∈ lw_tbl := lw_at lw_m10 170 rfl
theorem q2490 : (Jvm.Cond.instanceMethod ({ cls := "FeatherBenchModel", name := "is", desc := "(II)V" } : Jvm.MethodName)) ∈ lw_all := lw_g (lw_at lw_m10 171 rfl) rfl
theorem q2491 : (Jvm.Cond.code ({ cls := "FeatherBenchModel", name := "is", desc := "(II)V" } : Jvm.MethodName) prog_24_method_65_code (3 : Nat) (Option.none : Option Jvm.ClassFile.FieldType)) ∈ lw_all := lw_g (lw_at lw_m10 172 rfl) rfl
theorem q2492 : (Jvm.Cond.methodLink "FeatherBenchModel" (514 : Nat) ({ cls := "FeatherBenchModel", name := "typeStruct", desc := "(I)V" } : Jvm.MethodName)) ∈ lw_all := lw_g (lw_at lw_m10 173 rfl) rfl
theorem q2493 : (Jvm.Cond.privateMethod ({ cls := "FeatherBenchModel", name := "typeStruct", desc := "(I)V" } : Jvm.MethodName)) ∈ lw_tbl := lw_at lw_m10 174 rfl
theorem q2494 : (Jvm.Cond.instanceMethod ({ cls := "FeatherBenchModel", name := "typeStruct", desc := "(I)V" } : Jvm.MethodName)) ∈ lw_all := lw_g (lw_at lw_m10 175 rfl) rfl
theorem q2495 : (Jvm.Cond.code ({ cls := "FeatherBenchModel", name := "typeStruct", desc := "(I)V" } : Jvm.MethodName) prog_24_method_70_code (7 : Nat) (Option.none : Option Jvm.ClassFile.FieldType)) ∈ lw_all := lw_g (lw_at lw_m10 176 rfl) rfl
theorem q2496 : (Jvm.Cond.methodLink "FeatherBenchModel" (532 : Nat) ({ cls := "FeatherBenchModel", name := "isOfStruct", desc := "(I)Z" } : Jvm.MethodName)) ∈ lw_all := lw_g (lw_at lw_m10 177 rfl) rfl
theorem q2497 : (Jvm.Cond.privateMethod ({ cls := "FeatherBenchModel", name := "isOfStruct", desc := "(I)Z" } : Jvm.MethodName)) ∈ lw_tbl := lw_at lw_m10 178 rfl
theorem q2498 : (Jvm.Cond.instanceMethod ({ cls := "FeatherBenchModel", name := "isOfStruct", desc := "(I)Z" } : Jvm.MethodName)) ∈ lw_all := lw_g (lw_at lw_m10 179 rfl) rfl
theorem q2499 : (Jvm.Cond.code ({ cls := "FeatherBenchModel", name := "isOfStruct", desc := "(I)Z" } : Jvm.MethodName) prog_24_method_69_code (2 : Nat) (Option.some Jvm.ClassFile.FieldType.boolean)) ∈ lw_all := lw_g (lw_at lw_m10 180 rfl) rfl
theorem q2500 : (Jvm.Cond.methodLink "FeatherBenchModel" (535 : Nat) ({ cls := "FeatherBenchModel", name := "takes", desc := "(III)V" } : Jvm.MethodName)) ∈ lw_all := lw_g (lw_at lw_m10 181 rfl) rfl
theorem q2501 : (Jvm.Cond.privateMethod ({ cls := "FeatherBenchModel", name := "takes", desc := "(III)V" } : Jvm.MethodName)) ∈ lw_tbl := lw_at lw_m10 182 rfl
theorem q2502 : (Jvm.Cond.instanceMethod ({ cls := "FeatherBenchModel", name := "takes", desc := "(III)V" } : Jvm.MethodName)) ∈ lw_all := lw_g (lw_at lw_m10 183 rfl) rfl
theorem q2503 : (Jvm.Cond.code ({ cls := "FeatherBenchModel", name := "takes", desc := "(III)V" } : Jvm.MethodName) prog_24_method_71_code (5 : Nat) (Option.none : Option Jvm.ClassFile.FieldType)) ∈ lw_all := lw_g (lw_at lw_m10 184 rfl) rfl
theorem q2504 : (Jvm.Cond.methodLink "FeatherBenchModel" (541 : Nat) ({ cls := "FeatherBenchModel", name := "firstOf", desc := "(I)I" } : Jvm.MethodName)) ∈ lw_all := lw_g (lw_at lw_m10 185 rfl) rfl
theorem q2505 : (Jvm.Cond.privateMethod ({ cls := "FeatherBenchModel", name := "firstOf", desc := "(I)I" } : Jvm.MethodName)) ∈ lw_tbl := lw_at lw_m10 186 rfl
theorem q2506 : (Jvm.Cond.instanceMethod ({ cls := "FeatherBenchModel", name := "firstOf", desc := "(I)I" } : Jvm.MethodName)) ∈ lw_all := lw_g (lw_at lw_m10 187 rfl) rfl
theorem q2507 : (Jvm.Cond.code ({ cls := "FeatherBenchModel", name := "firstOf", desc := "(I)I" } : Jvm.MethodName) prog_24_method_27_code (3 : Nat) (Option.some Jvm.ClassFile.FieldType.int)) ∈ lw_all := lw_g (lw_at lw_m10 188 rfl) rfl
theorem q2508 : (Jvm.Cond.methodLink "FeatherBenchModel" (517 : Nat) ({ cls := "FeatherBenchModel", name := "typeField", desc := "(I)V" } : Jvm.MethodName)) ∈ lw_all := lw_g (lw_at lw_m10 189 rfl) rfl
theorem q2509 : (Jvm.Cond.privateMethod ({ cls := "FeatherBenchModel", name := "typeField", desc := "(I)V" } : Jvm.MethodName)) ∈ lw_tbl := lw_at lw_m10 190 rfl
theorem q2510 : (Jvm.Cond.instanceMethod ({ cls := "FeatherBenchModel", name := "typeField", desc := "(I)V" } : Jvm.MethodName)) ∈ lw_all := lw_g (lw_at lw_m10 191 rfl) rfl
theorem q2511 : (Jvm.Cond.code ({ cls := "FeatherBenchModel", name := "typeField", desc := "(I)V" } : Jvm.MethodName) prog_24_method_72_code (5 : Nat) (Option.none : Option Jvm.ClassFile.FieldType)) ∈ lw_all := lw_g (lw_at lw_m10 192 rfl) rfl
theorem q2512 : (Jvm.Cond.methodLink "FeatherBenchModel" (544 : Nat) ({ cls := "FeatherBenchModel", name := "fieldOf", desc := "(II)Z" } : Jvm.MethodName)) ∈ lw_all := lw_g (lw_at lw_m10 193 rfl) rfl
theorem q2513 : (Jvm.Cond.privateMethod ({ cls := "FeatherBenchModel", name := "fieldOf", desc := "(II)Z" } : Jvm.MethodName)) ∈ lw_tbl := lw_at lw_m10 194 rfl
theorem q2514 : (Jvm.Cond.instanceMethod ({ cls := "FeatherBenchModel", name := "fieldOf", desc := "(II)Z" } : Jvm.MethodName)) ∈ lw_all := lw_g (lw_at lw_m10 195 rfl) rfl
theorem q2515 : (Jvm.Cond.code ({ cls := "FeatherBenchModel", name := "fieldOf", desc := "(II)Z" } : Jvm.MethodName) prog_24_method_73_code (6 : Nat) (Option.some Jvm.ClassFile.FieldType.boolean)) ∈ lw_all := lw_g (lw_at lw_m10 196 rfl) rfl
theorem q2516 : (Jvm.Cond.methodLink "FeatherBenchModel" (520 : Nat) ({ cls := "FeatherBenchModel", name := "typeMethod", desc := "(I)V" } : Jvm.MethodName)) ∈ lw_all := lw_g (lw_at lw_m10 197 rfl) rfl
theorem q2517 : (Jvm.Cond.privateMethod ({ cls := "FeatherBenchModel", name := "typeMethod", desc := "(I)V" } : Jvm.MethodName)) ∈ lw_tbl := lw_at lw_m10 198 rfl
theorem q2518 : (Jvm.Cond.instanceMethod ({ cls := "FeatherBenchModel", name := "typeMethod", desc := "(I)V" } : Jvm.MethodName)) ∈ lw_all := lw_g (lw_at lw_m10 199 rfl) rfl
theorem q2519 : (Jvm.Cond.code ({ cls := "FeatherBenchModel", name := "typeMethod", desc := "(I)V" } : Jvm.MethodName) prog_24_method_75_code (8 : Nat) (Option.none : Option Jvm.ClassFile.FieldType)) ∈ lw_all := lw_g (lw_at lw_m10 200 rfl) rfl
theorem q2520 : (Jvm.Cond.methodLink "FeatherBenchModel" (550 : Nat) ({ cls := "FeatherBenchModel", name := "keepOpen", desc := "(I)V" } : Jvm.MethodName)) ∈ lw_all := lw_g (lw_at lw_m10 201 rfl) rfl
theorem q2521 : (Jvm.Cond.privateMethod ({ cls := "FeatherBenchModel", name := "keepOpen", desc := "(I)V" } : Jvm.MethodName)) ∈ lw_tbl := lw_at lw_m10 202 rfl
theorem q2522 : (Jvm.Cond.instanceMethod ({ cls := "FeatherBenchModel", name := "keepOpen", desc := "(I)V" } : Jvm.MethodName)) ∈ lw_all := lw_g (lw_at lw_m10 203 rfl) rfl
theorem q2523 : (Jvm.Cond.code ({ cls := "FeatherBenchModel", name := "keepOpen", desc := "(I)V" } : Jvm.MethodName) prog_24_method_74_code (3 : Nat) (Option.none : Option Jvm.ClassFile.FieldType)) ∈ lw_all := lw_g (lw_at lw_m10 204 rfl) rfl
theorem q2524 : (Jvm.Cond.methodLink "FeatherBenchModel" (553 : Nat) ({ cls := "FeatherBenchModel", name := "told", desc := "(III)V" } : Jvm.MethodName)) ∈ lw_all := lw_g (lw_at lw_m10 205 rfl) rfl
theorem q2525 : (Jvm.Cond.privateMethod ({ cls := "FeatherBenchModel", name := "told", desc := "(III)V" } : Jvm.MethodName)) ∈ lw_tbl := lw_at lw_m10 206 rfl
theorem q2526 : (Jvm.Cond.instanceMethod ({ cls := "FeatherBenchModel", name := "told", desc := "(III)V" } : Jvm.MethodName)) ∈ lw_all := lw_g (lw_at lw_m10 207 rfl) rfl
theorem q2527 : (Jvm.Cond.code ({ cls := "FeatherBenchModel", name := "told", desc := "(III)V" } : Jvm.MethodName) prog_24_method_76_code (6 : Nat) (Option.none : Option Jvm.ClassFile.FieldType)) ∈ lw_all := lw_g (lw_at lw_m10 208 rfl) rfl
theorem q2528 : (Jvm.Cond.methodLink "FeatherBenchModel" (523 : Nat) ({ cls := "FeatherBenchModel", name := "typeAssert", desc := "(I)V" } : Jvm.MethodName)) ∈ lw_all := lw_g (lw_at lw_m10 209 rfl) rfl
theorem q2529 : (Jvm.Cond.privateMethod ({ cls := "FeatherBenchModel", name := "typeAssert", desc := "(I)V" } : Jvm.MethodName)) ∈ lw_tbl := lw_at lw_m10 210 rfl
theorem q2530 : (Jvm.Cond.instanceMethod ({ cls := "FeatherBenchModel", name := "typeAssert", desc := "(I)V" } : Jvm.MethodName)) ∈ lw_all := lw_g (lw_at lw_m10 211 rfl) rfl
theorem q2531 : (Jvm.Cond.code ({ cls := "FeatherBenchModel", name := "typeAssert", desc := "(I)V" } : Jvm.MethodName) prog_24_method_77_code (6 : Nat) (Option.none : Option Jvm.ClassFile.FieldType)) ∈ lw_all := lw_g (lw_at lw_m10 212 rfl) rfl
theorem q2532 : (Jvm.Cond.methodLink "FeatherBenchModel" (576 : Nat) ({ cls := "FeatherBenchModel", name := "forget", desc := "()V" } : Jvm.MethodName)) ∈ lw_all := lw_g (lw_at lw_m10 213 rfl) rfl
theorem q2533 : (Jvm.Cond.privateMethod ({ cls := "FeatherBenchModel", name := "forget", desc := "()V" } : Jvm.MethodName)) ∈ lw_tbl := lw_at lw_m10 214 rfl
theorem q2534 : (Jvm.Cond.instanceMethod ({ cls := "FeatherBenchModel", name := "forget", desc := "()V" } : Jvm.MethodName)) ∈ lw_all := lw_g (lw_at lw_m10 215 rfl) rfl
theorem q2535 : (Jvm.Cond.code ({ cls := "FeatherBenchModel", name := "forget", desc := "()V" } : Jvm.MethodName) prog_24_method_81_code (1 : Nat) (Option.none : Option Jvm.ClassFile.FieldType)) ∈ lw_all := lw_g (lw_at lw_m10 216 rfl) rfl
theorem q2537 : (Jvm.Cond.instanceMethod ({ cls := "FeatherBenchModel", name := "implementing", desc := "()I" } : Jvm.MethodName)) ∈ lw_all := lw_g (lw_at lw_m10 218 rfl) rfl
theorem q2538 : (Jvm.Cond.selects "FeatherBenchModel" ({ cls := "FeatherBenchModel", name := "implementing", desc := "()I" } : Jvm.MethodName) ({ cls := "FeatherBenchModel", name := "implementing", desc := "()I" } : Jvm.MethodName)) ∈ lw_all := lw_g (lw_at lw_m10 219 rfl) rfl
theorem q2539 : (Jvm.Cond.code ({ cls := "FeatherBenchModel", name := "implementing", desc := "()I" } : Jvm.MethodName) prog_24_method_85_code (4 : Nat) (Option.some Jvm.ClassFile.FieldType.int)) ∈ lw_all := lw_g (lw_at lw_m10 220 rfl) rfl
theorem q2540 : (Jvm.Cond.methodLink "FeatherBenchModel" (607 : Nat) ({ cls := "FeatherBenchModel", name := "asks", desc := "()V" } : Jvm.MethodName)) ∈ lw_all := lw_g (lw_at lw_m10 221 rfl) rfl
theorem q2541 : (Jvm.Cond.privateMethod ({ cls := "FeatherBenchModel", name := "asks", desc := "()V" } : Jvm.MethodName)) ∈ lw_tbl := lw_at lw_m10 222 rfl
theorem q2542 : (Jvm.Cond.instanceMethod ({ cls := "FeatherBenchModel", name := "asks", desc := "()V" } : Jvm.MethodName)) ∈ lw_all := lw_g (lw_at lw_m10 223 rfl) rfl
theorem q2543 : (Jvm.Cond.code ({ cls := "FeatherBenchModel", name := "asks", desc := "()V" } : Jvm.MethodName) prog_24_method_84_code (1 : Nat) (Option.none : Option Jvm.ClassFile.FieldType)) ∈ lw_all := lw_g (lw_at lw_m10 224 rfl) rfl
theorem q2544 : (Jvm.Cond.methodLink "FeatherBenchModel" (610 : Nat) ({ cls := "FeatherBenchModel", name := "askedType", desc := "()I" } : Jvm.MethodName)) ∈ lw_all := lw_g (lw_at lw_m10 225 rfl) rfl
theorem q2545 : (Jvm.Cond.privateMethod ({ cls := "FeatherBenchModel", name := "askedType", desc := "()I" } : Jvm.MethodName)) ∈ lw_tbl := lw_at lw_m10 226 rfl
theorem q2546 : (Jvm.Cond.instanceMethod ({ cls := "FeatherBenchModel", name := "askedType", desc := "()I" } : Jvm.MethodName)) ∈ lw_all := lw_g (lw_at lw_m10 227 rfl) rfl
theorem q2547 : (Jvm.Cond.code ({ cls := "FeatherBenchModel", name := "askedType", desc := "()I" } : Jvm.MethodName) prog_24_method_82_code (2 : Nat) (Option.some Jvm.ClassFile.FieldType.int)) ∈ lw_all := lw_g (lw_at lw_m10 228 rfl) rfl
theorem q2548 : (Jvm.Cond.methodLink "FeatherBenchModel" (613 : Nat) ({ cls := "FeatherBenchModel", name := "isGood", desc := "(I)Z" } : Jvm.MethodName)) ∈ lw_all := lw_g (lw_at lw_m10 229 rfl) rfl
theorem q2549 : (Jvm.Cond.privateMethod ({ cls := "FeatherBenchModel", name := "isGood", desc := "(I)Z" } : Jvm.MethodName)) ∈ lw_tbl := lw_at lw_m10 230 rfl
theorem q2550 : (Jvm.Cond.instanceMethod ({ cls := "FeatherBenchModel", name := "isGood", desc := "(I)Z" } : Jvm.MethodName)) ∈ lw_all := lw_g (lw_at lw_m10 231 rfl) rfl
theorem q2551 : (Jvm.Cond.code ({ cls := "FeatherBenchModel", name := "isGood", desc := "(I)Z" } : Jvm.MethodName) prog_24_method_83_code (2 : Nat) (Option.some Jvm.ClassFile.FieldType.boolean)) ∈ lw_all := lw_g (lw_at lw_m10 232 rfl) rfl
theorem q2553 : (Jvm.Cond.instanceMethod ({ cls := "FeatherBenchModel", name := "run", desc := "(I)I" } : Jvm.MethodName)) ∈ lw_all := lw_g (lw_at lw_m10 234 rfl) rfl
theorem q2554 : (Jvm.Cond.selects "FeatherBenchModel" ({ cls := "FeatherBenchModel", name := "run", desc := "(I)I" } : Jvm.MethodName) ({ cls := "FeatherBenchModel", name := "run", desc := "(I)I" } : Jvm.MethodName)) ∈ lw_all := lw_g (lw_at lw_m10 235 rfl) rfl
theorem q2555 : (Jvm.Cond.code ({ cls := "FeatherBenchModel", name := "run", desc := "(I)I" } : Jvm.MethodName) prog_24_method_96_code (3 : Nat) (Option.some Jvm.ClassFile.FieldType.int)) ∈ lw_all := lw_g (lw_at lw_m10 236 rfl) rfl
theorem q2556 : (Jvm.Cond.methodLink "FeatherBenchModel" (659 : Nat) ({ cls := "FeatherBenchModel", name := "eval", desc := "(III)I" } : Jvm.MethodName)) ∈ lw_all := lw_g (lw_at lw_m10 237 rfl) rfl
theorem q2557 : (Jvm.Cond.privateMethod ({ cls := "FeatherBenchModel", name := "eval", desc := "(III)I" } : Jvm.MethodName)) ∈ lw_tbl := lw_at lw_m10 238 rfl
theorem q2558 : (Jvm.Cond.instanceMethod ({ cls := "FeatherBenchModel", name := "eval", desc := "(III)I" } : Jvm.MethodName)) ∈ lw_all := lw_g (lw_at lw_m10 239 rfl) rfl
theorem q2559 : (Jvm.Cond.code ({ cls := "FeatherBenchModel", name := "eval", desc := "(III)I" } : Jvm.MethodName) prog_24_method_89_code (6 : Nat) (Option.some Jvm.ClassFile.FieldType.int)) ∈ lw_all := lw_g (lw_at lw_m11 0 rfl) rfl
theorem q2560 : (Jvm.Cond.methodLink "FeatherBenchModel" (640 : Nat) ({ cls := "FeatherBenchModel", name := "evalStruct", desc := "(III)I" } : Jvm.MethodName)) ∈ lw_all := lw_g (lw_at lw_m11 1 rfl) rfl
theorem q2561 : (Jvm.Cond.privateMethod ({ cls := "FeatherBenchModel", name := "evalStruct", desc := "(III)I" } : Jvm.MethodName)) ∈ lw_tbl := lw_at lw_m11 2 rfl
theorem q2562 : (Jvm.Cond.instanceMethod ({ cls := "FeatherBenchModel", name := "evalStruct", desc := "(III)I" } : Jvm.MethodName)) ∈ lw_all := lw_g (lw_at lw_m11 3 rfl) rfl
theorem q2563 : (Jvm.Cond.code ({ cls := "FeatherBenchModel", name := "evalStruct", desc := "(III)I" } : Jvm.MethodName) prog_24_method_90_code (9 : Nat) (Option.some Jvm.ClassFile.FieldType.int)) ∈ lw_all := lw_g (lw_at lw_m11 4 rfl) rfl
theorem q2564 : (Jvm.Cond.methodLink "FeatherBenchModel" (653 : Nat) ({ cls := "FeatherBenchModel", name := "putForRun", desc := "(II)I" } : Jvm.MethodName)) ∈ lw_all := lw_g (lw_at lw_m11 5 rfl) rfl
theorem q2565 : (Jvm.Cond.privateMethod ({ cls := "FeatherBenchModel", name := "putForRun", desc := "(II)I" } : Jvm.MethodName)) ∈ lw_tbl := lw_at lw_m11 6 rfl
theorem q2566 : (Jvm.Cond.instanceMethod ({ cls := "FeatherBenchModel", name := "putForRun", desc := "(II)I" } : Jvm.MethodName)) ∈ lw_all := lw_g (lw_at lw_m11 7 rfl) rfl
theorem q2567 : (Jvm.Cond.code ({ cls := "FeatherBenchModel", name := "putForRun", desc := "(II)I" } : Jvm.MethodName) prog_24_method_88_code (4 : Nat) (Option.some Jvm.ClassFile.FieldType.int)) ∈ lw_all := lw_g (lw_at lw_m11 8 rfl) rfl
theorem q2568 : (Jvm.Cond.methodLink "FeatherBenchModel" (628 : Nat) ({ cls := "FeatherBenchModel", name := "hasParams", desc := "(II)Z" } : Jvm.MethodName)) ∈ lw_all := lw_g (lw_at lw_m11 9 rfl) rfl
theorem q2569 : (Jvm.Cond.privateMethod ({ cls := "FeatherBenchModel", name := "hasParams", desc := "(II)Z" } : Jvm.MethodName)) ∈ lw_tbl := lw_at lw_m11 10 rfl
theorem q2570 : (Jvm.Cond.instanceMethod ({ cls := "FeatherBenchModel", name := "hasParams", desc := "(II)Z" } : Jvm.MethodName)) ∈ lw_all := lw_g (lw_at lw_m11 11 rfl) rfl
theorem q2571 : (Jvm.Cond.code ({ cls := "FeatherBenchModel", name := "hasParams", desc := "(II)Z" } : Jvm.MethodName) prog_24_method_87_code (5 : Nat) (Option.some Jvm.ClassFile.FieldType.boolean)) ∈ lw_all := lw_g (lw_at lw_m11 12 rfl) rfl
theorem q2572 : (Jvm.Cond.methodLink "FeatherBenchModel" (631 : Nat) ({ cls := "FeatherBenchModel", name := "spend", desc := "(I)I" } : Jvm.MethodName)) ∈ lw_all := lw_g (lw_at lw_m11 13 rfl) rfl
theorem q2573 : (Jvm.Cond.privateMethod ({ cls := "FeatherBenchModel", name := "spend", desc := "(I)I" } : Jvm.MethodName)) ∈ lw_tbl := lw_at lw_m11 14 rfl
theorem q2574 : (Jvm.Cond.instanceMethod ({ cls := "FeatherBenchModel", name := "spend", desc := "(I)I" } : Jvm.MethodName)) ∈ lw_all := lw_g (lw_at lw_m11 15 rfl) rfl
theorem q2575 : (Jvm.Cond.code ({ cls := "FeatherBenchModel", name := "spend", desc := "(I)I" } : Jvm.MethodName) prog_24_method_86_code (4 : Nat) (Option.some Jvm.ClassFile.FieldType.int)) ∈ lw_all := lw_g (lw_at lw_m11 16 rfl) rfl
theorem q2576 : (Jvm.Cond.methodLink "FeatherBenchModel" (644 : Nat) ({ cls := "FeatherBenchModel", name := "evalField", desc := "(I)I" } : Jvm.MethodName)) ∈ lw_all := lw_g (lw_at lw_m11 17 rfl) rfl
theorem q2577 : (Jvm.Cond.privateMethod ({ cls := "FeatherBenchModel", name := "evalField", desc := "(I)I" } : Jvm.MethodName)) ∈ lw_tbl := lw_at lw_m11 18 rfl
theorem q2578 : (Jvm.Cond.instanceMethod ({ cls := "FeatherBenchModel", name := "evalField", desc := "(I)I" } : Jvm.MethodName)) ∈ lw_all := lw_g (lw_at lw_m11 19 rfl) rfl
theorem q2579 : (Jvm.Cond.code ({ cls := "FeatherBenchModel", name := "evalField", desc := "(I)I" } : Jvm.MethodName) prog_24_method_91_code (3 : Nat) (Option.some Jvm.ClassFile.FieldType.int)) ∈ lw_all := lw_g (lw_at lw_m11 20 rfl) rfl
theorem q2580 : (Jvm.Cond.methodLink "FeatherBenchModel" (647 : Nat) ({ cls := "FeatherBenchModel", name := "evalMethod", desc := "(III)I" } : Jvm.MethodName)) ∈ lw_all := lw_g (lw_at lw_m11 21 rfl) rfl
theorem q2581 : (Jvm.Cond.privateMethod ({ cls := "FeatherBenchModel", name := "evalMethod", desc := "(III)I" } : Jvm.MethodName)) ∈ lw_tbl := lw_at lw_m11 22 rfl
theorem q2582 : (Jvm.Cond.instanceMethod ({ cls := "FeatherBenchModel", name := "evalMethod", desc := "(III)I" } : Jvm.MethodName)) ∈ lw_all := lw_g (lw_at lw_m11 23 rfl) rfl
theorem q2583 : (Jvm.Cond.code ({ cls := "FeatherBenchModel", name := "evalMethod", desc := "(III)I" } : Jvm.MethodName) prog_24_method_93_code (9 : Nat) (Option.some Jvm.ClassFile.FieldType.int)) ∈ lw_all := lw_g (lw_at lw_m11 24 rfl) rfl
theorem q2584 : (Jvm.Cond.methodLink "FeatherBenchModel" (668 : Nat) ({ cls := "FeatherBenchModel", name := "evalCall", desc := "(III)I" } : Jvm.MethodName)) ∈ lw_all := lw_g (lw_at lw_m11 25 rfl) rfl
theorem q2585 : (Jvm.Cond.privateMethod ({ cls := "FeatherBenchModel", name := "evalCall", desc := "(III)I" } : Jvm.MethodName)) ∈ lw_tbl := lw_at lw_m11 26 rfl
theorem q2586 : (Jvm.Cond.instanceMethod ({ cls := "FeatherBenchModel", name := "evalCall", desc := "(III)I" } : Jvm.MethodName)) ∈ lw_all := lw_g (lw_at lw_m11 27 rfl) rfl
theorem q2587 : (Jvm.Cond.code ({ cls := "FeatherBenchModel", name := "evalCall", desc := "(III)I" } : Jvm.MethodName) prog_24_method_94_code (8 : Nat) (Option.some Jvm.ClassFile.FieldType.int)) ∈ lw_all := lw_g (lw_at lw_m11 28 rfl) rfl
theorem q2588 : (Jvm.Cond.methodLink "FeatherBenchModel" (671 : Nat) ({ cls := "FeatherBenchModel", name := "funcOf", desc := "(I)I" } : Jvm.MethodName)) ∈ lw_all := lw_g (lw_at lw_m11 29 rfl) rfl
theorem q2589 : (Jvm.Cond.privateMethod ({ cls := "FeatherBenchModel", name := "funcOf", desc := "(I)I" } : Jvm.MethodName)) ∈ lw_tbl := lw_at lw_m11 30 rfl
theorem q2590 : (Jvm.Cond.instanceMethod ({ cls := "FeatherBenchModel", name := "funcOf", desc := "(I)I" } : Jvm.MethodName)) ∈ lw_all := lw_g (lw_at lw_m11 31 rfl) rfl
theorem q2591 : (Jvm.Cond.code ({ cls := "FeatherBenchModel", name := "funcOf", desc := "(I)I" } : Jvm.MethodName) prog_24_method_95_code (3 : Nat) (Option.some Jvm.ClassFile.FieldType.int)) ∈ lw_all := lw_g (lw_at lw_m11 32 rfl) rfl
theorem q2592 : (Jvm.Cond.methodLink "FeatherBenchModel" (650 : Nat) ({ cls := "FeatherBenchModel", name := "evalAssert", desc := "(II)I" } : Jvm.MethodName)) ∈ lw_all := lw_g (lw_at lw_m11 33 rfl) rfl
theorem q2593 : (Jvm.Cond.privateMethod ({ cls := "FeatherBenchModel", name := "evalAssert", desc := "(II)I" } : Jvm.MethodName)) ∈ lw_tbl := lw_at lw_m11 34 rfl
theorem q2594 : (Jvm.Cond.instanceMethod ({ cls := "FeatherBenchModel", name := "evalAssert", desc := "(II)I" } : Jvm.MethodName)) ∈ lw_all := lw_g (lw_at lw_m11 35 rfl) rfl
theorem q2595 : (Jvm.Cond.code ({ cls := "FeatherBenchModel", name := "evalAssert", desc := "(II)I" } : Jvm.MethodName) prog_24_method_92_code (6 : Nat) (Option.some Jvm.ClassFile.FieldType.int)) ∈ lw_all := lw_g (lw_at lw_m11 36 rfl) rfl
theorem q2597 : (Jvm.Cond.instanceMethod ({ cls := "FeatherBenchModel", name := "failed", desc := "()I" } : Jvm.MethodName)) ∈ lw_all := lw_g (lw_at lw_m11 38 rfl) rfl
theorem q2598 : (Jvm.Cond.selects "FeatherBenchModel" ({ cls := "FeatherBenchModel", name := "failed", desc := "()I" } : Jvm.MethodName) ({ cls := "FeatherBenchModel", name := "failed", desc := "()I" } : Jvm.MethodName)) ∈ lw_all := lw_g (lw_at lw_m11 39 rfl) rfl
theorem q2599 : (Jvm.Cond.code ({ cls := "FeatherBenchModel", name := "failed", desc := "()I" } : Jvm.MethodName) prog_24_method_97_code (1 : Nat) (Option.some Jvm.ClassFile.FieldType.int)) ∈ lw_all := lw_g (lw_at lw_m11 40 rfl) rfl
theorem q2601 : (Jvm.Cond.instanceMethod ({ cls := "FeatherBenchModel", name := "calls", desc := "()I" } : Jvm.MethodName)) ∈ lw_all := lw_g (lw_at lw_m11 42 rfl) rfl
theorem q2602 : (Jvm.Cond.selects "FeatherBenchModel" ({ cls := "FeatherBenchModel", name := "calls", desc := "()I" } : Jvm.MethodName) ({ cls := "FeatherBenchModel", name := "calls", desc := "()I" } : Jvm.MethodName)) ∈ lw_all := lw_g (lw_at lw_m11 43 rfl) rfl
theorem q2603 : (Jvm.Cond.code ({ cls := "FeatherBenchModel", name := "calls", desc := "()I" } : Jvm.MethodName) prog_24_method_98_code (1 : Nat) (Option.some Jvm.ClassFile.FieldType.int)) ∈ lw_all := lw_g (lw_at lw_m11 44 rfl) rfl
theorem q2605 : (Jvm.Cond.instanceMethod ({ cls := "FeatherBenchModel", name := "instances", desc := "()I" } : Jvm.MethodName)) ∈ lw_all := lw_g (lw_at lw_m11 46 rfl) rfl
theorem q2606 : (Jvm.Cond.selects "FeatherBenchModel" ({ cls := "FeatherBenchModel", name := "instances", desc := "()I" } : Jvm.MethodName) ({ cls := "FeatherBenchModel", name := "instances", desc := "()I" } : Jvm.MethodName)) ∈ lw_all := lw_g (lw_at lw_m11 47 rfl) rfl
theorem q2607 : (Jvm.Cond.code ({ cls := "FeatherBenchModel", name := "instances", desc := "()I" } : Jvm.MethodName) prog_24_method_106_code (5 : Nat) (Option.some Jvm.ClassFile.FieldType.int)) ∈ lw_all := lw_g (lw_at lw_m11 48 rfl) rfl
theorem q2608 : (Jvm.Cond.methodLink "FeatherBenchModel" (695 : Nat) ({ cls := "FeatherBenchModel", name := "addE", desc := "(II)V" } : Jvm.MethodName)) ∈ lw_all := lw_g (lw_at lw_m11 49 rfl) rfl
theorem q2609 : (Jvm.Cond.privateMethod ({ cls := "FeatherBenchModel", name := "addE", desc := "(II)V" } : Jvm.MethodName)) ∈ lw_tbl := lw_at lw_m11 50 rfl
theorem q2610 : (Jvm.Cond.instanceMethod ({ cls := "FeatherBenchModel", name := "addE", desc := "(II)V" } : Jvm.MethodName)) ∈ lw_all := lw_g (lw_at lw_m11 51 rfl) rfl
theorem q2611 : (Jvm.Cond.code ({ cls := "FeatherBenchModel", name := "addE", desc := "(II)V" } : Jvm.MethodName) prog_24_method_102_code (3 : Nat) (Option.none : Option Jvm.ClassFile.FieldType)) ∈ lw_all := lw_g (lw_at lw_m11 52 rfl) rfl
theorem q2612 : (Jvm.Cond.methodLink "FeatherBenchModel" (692 : Nat) ({ cls := "FeatherBenchModel", name := "addMethod", desc := "(II)V" } : Jvm.MethodName)) ∈ lw_all := lw_g (lw_at lw_m11 53 rfl) rfl
theorem q2613 : (Jvm.Cond.privateMethod ({ cls := "FeatherBenchModel", name := "addMethod", desc := "(II)V" } : Jvm.MethodName)) ∈ lw_tbl := lw_at lw_m11 54 rfl
theorem q2614 : (Jvm.Cond.instanceMethod ({ cls := "FeatherBenchModel", name := "addMethod", desc := "(II)V" } : Jvm.MethodName)) ∈ lw_all := lw_g (lw_at lw_m11 55 rfl) rfl
theorem q2615 : (Jvm.Cond.code ({ cls := "FeatherBenchModel", name := "addMethod", desc := "(II)V" } : Jvm.MethodName) prog_24_method_104_code (7 : Nat) (Option.none : Option Jvm.ClassFile.FieldType)) ∈ lw_all := lw_g (lw_at lw_m11 56 rfl) rfl
theorem q2616 : (Jvm.Cond.methodLink "FeatherBenchModel" (686 : Nat) ({ cls := "FeatherBenchModel", name := "putFor", desc := "(II)Z" } : Jvm.MethodName)) ∈ lw_all := lw_g (lw_at lw_m11 57 rfl) rfl
theorem q2617 : (Jvm.Cond.privateMethod ({ cls := "FeatherBenchModel", name := "putFor", desc := "(II)Z" } : Jvm.MethodName)) ∈ lw_tbl := lw_at lw_m11 58 rfl
theorem q2618 : (Jvm.Cond.instanceMethod ({ cls := "FeatherBenchModel", name := "putFor", desc := "(II)Z" } : Jvm.MethodName)) ∈ lw_all := lw_g (lw_at lw_m11 59 rfl) rfl
theorem q2619 : (Jvm.Cond.code ({ cls := "FeatherBenchModel", name := "putFor", desc := "(II)Z" } : Jvm.MethodName) prog_24_method_100_code (3 : Nat) (Option.some Jvm.ClassFile.FieldType.boolean)) ∈ lw_all := lw_g (lw_at lw_m11 60 rfl) rfl
theorem q2620 : (Jvm.Cond.methodLink "FeatherBenchModel" (689 : Nat) ({ cls := "FeatherBenchModel", name := "addRow", desc := "(IIIII)V" } : Jvm.MethodName)) ∈ lw_all := lw_g (lw_at lw_m11 61 rfl) rfl
theorem q2621 : (Jvm.Cond.privateMethod ({ cls := "FeatherBenchModel", name := "addRow", desc := "(IIIII)V" } : Jvm.MethodName)) ∈ lw_tbl := lw_at lw_m11 62 rfl
theorem q2622 : (Jvm.Cond.instanceMethod ({ cls := "FeatherBenchModel", name := "addRow", desc := "(IIIII)V" } : Jvm.MethodName)) ∈ lw_all := lw_g (lw_at lw_m11 63 rfl) rfl
theorem q2623 : (Jvm.Cond.code ({ cls := "FeatherBenchModel", name := "addRow", desc := "(IIIII)V" } : Jvm.MethodName) prog_24_method_99_code (8 : Nat) (Option.none : Option Jvm.ClassFile.FieldType)) ∈ lw_all := lw_g (lw_at lw_m11 64 rfl) rfl
theorem q2624 : (Jvm.Cond.methodLink "FeatherBenchModel" (698 : Nat) ({ cls := "FeatherBenchModel", name := "addTypes", desc := "(II)V" } : Jvm.MethodName)) ∈ lw_all := lw_g (lw_at lw_m11 65 rfl) rfl
theorem q2625 : (Jvm.Cond.privateMethod ({ cls := "FeatherBenchModel", name := "addTypes", desc := "(II)V" } : Jvm.MethodName)) ∈ lw_tbl := lw_at lw_m11 66 rfl
theorem q2626 : (Jvm.Cond.instanceMethod ({ cls := "FeatherBenchModel", name := "addTypes", desc := "(II)V" } : Jvm.MethodName)) ∈ lw_all := lw_g (lw_at lw_m11 67 rfl) rfl
theorem q2627 : (Jvm.Cond.code ({ cls := "FeatherBenchModel", name := "addTypes", desc := "(II)V" } : Jvm.MethodName) prog_24_method_101_code (7 : Nat) (Option.none : Option Jvm.ClassFile.FieldType)) ∈ lw_all := lw_g (lw_at lw_m11 68 rfl) rfl
theorem q2628 : (Jvm.Cond.methodLink "FeatherBenchModel" (701 : Nat) ({ cls := "FeatherBenchModel", name := "addParts", desc := "(II)V" } : Jvm.MethodName)) ∈ lw_all := lw_g (lw_at lw_m11 69 rfl) rfl
theorem q2629 : (Jvm.Cond.privateMethod ({ cls := "FeatherBenchModel", name := "addParts", desc := "(II)V" } : Jvm.MethodName)) ∈ lw_tbl := lw_at lw_m11 70 rfl
theorem q2630 : (Jvm.Cond.instanceMethod ({ cls := "FeatherBenchModel", name := "addParts", desc := "(II)V" } : Jvm.MethodName)) ∈ lw_all := lw_g (lw_at lw_m11 71 rfl) rfl
theorem q2631 : (Jvm.Cond.code ({ cls := "FeatherBenchModel", name := "addParts", desc := "(II)V" } : Jvm.MethodName) prog_24_method_103_code (5 : Nat) (Option.none : Option Jvm.ClassFile.FieldType)) ∈ lw_all := lw_g (lw_at lw_m11 72 rfl) rfl
theorem q2632 : (Jvm.Cond.methodLink "FeatherBenchModel" (704 : Nat) ({ cls := "FeatherBenchModel", name := "addBody", desc := "(III)V" } : Jvm.MethodName)) ∈ lw_all := lw_g (lw_at lw_m11 73 rfl) rfl
theorem q2633 : (Jvm.Cond.privateMethod ({ cls := "FeatherBenchModel", name := "addBody", desc := "(III)V" } : Jvm.MethodName)) ∈ lw_tbl := lw_at lw_m11 74 rfl
theorem q2634 : (Jvm.Cond.instanceMethod ({ cls := "FeatherBenchModel", name := "addBody", desc := "(III)V" } : Jvm.MethodName)) ∈ lw_all := lw_g (lw_at lw_m11 75 rfl) rfl
theorem q2635 : (Jvm.Cond.code ({ cls := "FeatherBenchModel", name := "addBody", desc := "(III)V" } : Jvm.MethodName) prog_24_method_105_code (14 : Nat) (Option.none : Option Jvm.ClassFile.FieldType)) ∈ lw_all := lw_g (lw_at lw_m11 76 rfl) rfl
theorem q2636 : (Jvm.Cond.methodLink "FeatherBenchModel" (707 : Nat) ({ cls := "FeatherBenchModel", name := "howMany", desc := "(I)I" } : Jvm.MethodName)) ∈ lw_all := lw_g (lw_at lw_m11 77 rfl) rfl
theorem q2637 : (Jvm.Cond.privateMethod ({ cls := "FeatherBenchModel", name := "howMany", desc := "(I)I" } : Jvm.MethodName)) ∈ lw_tbl := lw_at lw_m11 78 rfl
theorem q2638 : (Jvm.Cond.instanceMethod ({ cls := "FeatherBenchModel", name := "howMany", desc := "(I)I" } : Jvm.MethodName)) ∈ lw_all := lw_g (lw_at lw_m11 79 rfl) rfl
theorem q2639 : (Jvm.Cond.code ({ cls := "FeatherBenchModel", name := "howMany", desc := "(I)I" } : Jvm.MethodName) prog_24_method_107_code (4 : Nat) (Option.some Jvm.ClassFile.FieldType.int)) ∈ lw_all := lw_g (lw_at lw_m11 80 rfl) rfl
theorem q2641 : (Jvm.Cond.instanceMethod ({ cls := "FeatherBenchModel", name := "made", desc := "(I)I" } : Jvm.MethodName)) ∈ lw_all := lw_g (lw_at lw_m11 82 rfl) rfl
theorem q2642 : (Jvm.Cond.selects "FeatherBenchModel" ({ cls := "FeatherBenchModel", name := "made", desc := "(I)I" } : Jvm.MethodName) ({ cls := "FeatherBenchModel", name := "made", desc := "(I)I" } : Jvm.MethodName)) ∈ lw_all := lw_g (lw_at lw_m11 83 rfl) rfl
theorem q2643 : (Jvm.Cond.code ({ cls := "FeatherBenchModel", name := "made", desc := "(I)I" } : Jvm.MethodName) prog_24_method_108_code (2 : Nat) (Option.some Jvm.ClassFile.FieldType.int)) ∈ lw_all := lw_g (lw_at lw_m11 84 rfl) rfl
theorem q2645 : (Jvm.Cond.instanceMethod ({ cls := "FeatherBenchModel", name := "isMade", desc := "()I" } : Jvm.MethodName)) ∈ lw_all := lw_g (lw_at lw_m11 86 rfl) rfl
theorem q2646 : (Jvm.Cond.selects "FeatherBenchModel" ({ cls := "FeatherBenchModel", name := "isMade", desc := "()I" } : Jvm.MethodName) ({ cls := "FeatherBenchModel", name := "isMade", desc := "()I" } : Jvm.MethodName)) ∈ lw_all := lw_g (lw_at lw_m11 87 rfl) rfl
theorem q2647 : (Jvm.Cond.code ({ cls := "FeatherBenchModel", name := "isMade", desc := "()I" } : Jvm.MethodName) prog_24_method_109_code (4 : Nat) (Option.some Jvm.ClassFile.FieldType.int)) ∈ lw_all := lw_g (lw_at lw_m11 88 rfl) rfl
theorem q2649 : (Jvm.Cond.instanceMethod ({ cls := "FeatherBenchModel", name := "print", desc := "(I)I" } : Jvm.MethodName)) ∈ lw_all := lw_g (lw_at lw_m11 90 rfl) rfl
theorem q2650 : (Jvm.Cond.selects "FeatherBenchModel" ({ cls := "FeatherBenchModel", name := "print", desc := "(I)I" } : Jvm.MethodName) ({ cls := "FeatherBenchModel", name := "print", desc := "(I)I" } : Jvm.MethodName)) ∈ lw_all := lw_g (lw_at lw_m11 91 rfl) rfl
theorem q2651 : (Jvm.Cond.code ({ cls := "FeatherBenchModel", name := "print", desc := "(I)I" } : Jvm.MethodName) prog_24_method_117_code (3 : Nat) (Option.some Jvm.ClassFile.FieldType.int)) ∈ lw_all := lw_g (lw_at lw_m11 92 rfl) rfl
theorem q2652 : (Jvm.Cond.methodLink "FeatherBenchModel" (734 : Nat) ({ cls := "FeatherBenchModel", name := "sayValue", desc := "(I)V" } : Jvm.MethodName)) ∈ lw_all := lw_g (lw_at lw_m11 93 rfl) rfl
theorem q2653 : (Jvm.Cond.privateMethod ({ cls := "FeatherBenchModel", name := "sayValue", desc := "(I)V" } : Jvm.MethodName)) ∈ lw_tbl := lw_at lw_m11 94 rfl
theorem q2654 : (Jvm.Cond.instanceMethod ({ cls := "FeatherBenchModel", name := "sayValue", desc := "(I)V" } : Jvm.MethodName)) ∈ lw_all := lw_g (lw_at lw_m11 95 rfl) rfl
theorem q2655 : (Jvm.Cond.code ({ cls := "FeatherBenchModel", name := "sayValue", desc := "(I)V" } : Jvm.MethodName) prog_24_method_116_code (4 : Nat) (Option.none : Option Jvm.ClassFile.FieldType)) ∈ lw_all := lw_g (lw_at lw_m11 96 rfl) rfl
theorem q2656 : (Jvm.Cond.methodLink "FeatherBenchModel" (731 : Nat) ({ cls := "FeatherBenchModel", name := "beginValue", desc := "(I)V" } : Jvm.MethodName)) ∈ lw_all := lw_g (lw_at lw_m11 97 rfl) rfl
theorem q2657 : (Jvm.Cond.privateMethod ({ cls := "FeatherBenchModel", name := "beginValue", desc := "(I)V" } : Jvm.MethodName)) ∈ lw_tbl := lw_at lw_m11 98 rfl
theorem q2658 : (Jvm.Cond.instanceMethod ({ cls := "FeatherBenchModel", name := "beginValue", desc := "(I)V" } : Jvm.MethodName)) ∈ lw_all := lw_g (lw_at lw_m11 99 rfl) rfl
theorem q2659 : (Jvm.Cond.code ({ cls := "FeatherBenchModel", name := "beginValue", desc := "(I)V" } : Jvm.MethodName) prog_24_method_115_code (3 : Nat) (Option.none : Option Jvm.ClassFile.FieldType)) ∈ lw_all := lw_g (lw_at lw_m11 100 rfl) rfl
theorem q2660 : (Jvm.Cond.methodLink "FeatherBenchModel" (725 : Nat) ({ cls := "FeatherBenchModel", name := "sayType", desc := "(I)I" } : Jvm.MethodName)) ∈ lw_all := lw_g (lw_at lw_m11 101 rfl) rfl
theorem q2661 : (Jvm.Cond.privateMethod ({ cls := "FeatherBenchModel", name := "sayType", desc := "(I)I" } : Jvm.MethodName)) ∈ lw_tbl := lw_at lw_m11 102 rfl
theorem q2662 : (Jvm.Cond.instanceMethod ({ cls := "FeatherBenchModel", name := "sayType", desc := "(I)I" } : Jvm.MethodName)) ∈ lw_all := lw_g (lw_at lw_m11 103 rfl) rfl
theorem q2663 : (Jvm.Cond.code ({ cls := "FeatherBenchModel", name := "sayType", desc := "(I)I" } : Jvm.MethodName) prog_24_method_114_code (6 : Nat) (Option.some Jvm.ClassFile.FieldType.int)) ∈ lw_all := lw_g (lw_at lw_m11 104 rfl) rfl
theorem q2664 : (Jvm.Cond.methodLink "FeatherBenchModel" (722 : Nat) ({ cls := "FeatherBenchModel", name := "sayWord", desc := "(I)V" } : Jvm.MethodName)) ∈ lw_all := lw_g (lw_at lw_m11 105 rfl) rfl
theorem q2665 : (Jvm.Cond.privateMethod ({ cls := "FeatherBenchModel", name := "sayWord", desc := "(I)V" } : Jvm.MethodName)) ∈ lw_tbl := lw_at lw_m11 106 rfl
theorem q2666 : (Jvm.Cond.instanceMethod ({ cls := "FeatherBenchModel", name := "sayWord", desc := "(I)V" } : Jvm.MethodName)) ∈ lw_all := lw_g (lw_at lw_m11 107 rfl) rfl
theorem q2667 : (Jvm.Cond.code ({ cls := "FeatherBenchModel", name := "sayWord", desc := "(I)V" } : Jvm.MethodName) prog_24_method_113_code (2 : Nat) (Option.none : Option Jvm.ClassFile.FieldType)) ∈ lw_all := lw_g (lw_at lw_m11 108 rfl) rfl
theorem q2668 : (Jvm.Cond.methodLink "FeatherBenchModel" (719 : Nat) ({ cls := "FeatherBenchModel", name := "sayPart", desc := "(J)V" } : Jvm.MethodName)) ∈ lw_all := lw_g (lw_at lw_m11 109 rfl) rfl
theorem q2669 : (Jvm.Cond.privateMethod ({ cls := "FeatherBenchModel", name := "sayPart", desc := "(J)V" } : Jvm.MethodName)) ∈ lw_tbl := lw_at lw_m11 110 rfl
theorem q2670 : (Jvm.Cond.instanceMethod ({ cls := "FeatherBenchModel", name := "sayPart", desc := "(J)V" } : Jvm.MethodName)) ∈ lw_all := lw_g (lw_at lw_m11 111 rfl) rfl
theorem q2671 : (Jvm.Cond.code ({ cls := "FeatherBenchModel", name := "sayPart", desc := "(J)V" } : Jvm.MethodName) prog_24_method_112_code (7 : Nat) (Option.none : Option Jvm.ClassFile.FieldType)) ∈ lw_all := lw_g (lw_at lw_m11 112 rfl) rfl
theorem q2672 : (Jvm.Cond.methodLink "FeatherBenchModel" (713 : Nat) ({ cls := "FeatherBenchModel", name := "signOf", desc := "(I)I" } : Jvm.MethodName)) ∈ lw_all := lw_g (lw_at lw_m11 113 rfl) rfl
theorem q2673 : (Jvm.Cond.static ({ cls := "FeatherBenchModel", name := "signOf", desc := "(I)I" } : Jvm.MethodName)) ∈ lw_all := lw_g (lw_at lw_m11 114 rfl) rfl
theorem q2674 : (Jvm.Cond.code ({ cls := "FeatherBenchModel", name := "signOf", desc := "(I)I" } : Jvm.MethodName) prog_24_method_111_code (1 : Nat) (Option.some Jvm.ClassFile.FieldType.int)) ∈ lw_all := lw_g (lw_at lw_m11 115 rfl) rfl
theorem q2675 : (Jvm.Cond.methodLink "FeatherBenchModel" (716 : Nat) ({ cls := "FeatherBenchModel", name := "say", desc := "(I)V" } : Jvm.MethodName)) ∈ lw_all := lw_g (lw_at lw_m11 116 rfl) rfl
theorem q2676 : (Jvm.Cond.privateMethod ({ cls := "FeatherBenchModel", name := "say", desc := "(I)V" } : Jvm.MethodName)) ∈ lw_tbl := lw_at lw_m11 117 rfl
theorem q2677 : (Jvm.Cond.instanceMethod ({ cls := "FeatherBenchModel", name := "say", desc := "(I)V" } : Jvm.MethodName)) ∈ lw_all := lw_g (lw_at lw_m11 118 rfl) rfl
theorem q2678 : (Jvm.Cond.code ({ cls := "FeatherBenchModel", name := "say", desc := "(I)V" } : Jvm.MethodName) prog_24_method_110_code (2 : Nat) (Option.none : Option Jvm.ClassFile.FieldType)) ∈ lw_all := lw_g (lw_at lw_m11 119 rfl) rfl
theorem q2680 : (Jvm.Cond.instanceMethod ({ cls := "FeatherBenchModel", name := "out", desc := "(I)I" } : Jvm.MethodName)) ∈ lw_all := lw_g (lw_at lw_m11 121 rfl) rfl
theorem q2681 : (Jvm.Cond.selects "FeatherBenchModel" ({ cls := "FeatherBenchModel", name := "out", desc := "(I)I" } : Jvm.MethodName) ({ cls := "FeatherBenchModel", name := "out", desc := "(I)I" } : Jvm.MethodName)) ∈ lw_all := lw_g (lw_at lw_m11 122 rfl) rfl
theorem q2682 : (Jvm.Cond.code ({ cls := "FeatherBenchModel", name := "out", desc := "(I)I" } : Jvm.MethodName) prog_24_method_118_code (2 : Nat) (Option.some Jvm.ClassFile.FieldType.int)) ∈ lw_all := lw_g (lw_at lw_m11 123 rfl) rfl
theorem q2684 : (Jvm.Cond.instanceMethod ({ cls := "FeatherBenchModel", name := "count", desc := "(I)I" } : Jvm.MethodName)) ∈ lw_all := lw_g (lw_at lw_m11 125 rfl) rfl
theorem q2685 : (Jvm.Cond.selects "FeatherBenchModel" ({ cls := "FeatherBenchModel", name := "count", desc := "(I)I" } : Jvm.MethodName) ({ cls := "FeatherBenchModel", name := "count", desc := "(I)I" } : Jvm.MethodName)) ∈ lw_all := lw_g (lw_at lw_m11 126 rfl) rfl
theorem q2686 : (Jvm.Cond.code ({ cls := "FeatherBenchModel", name := "count", desc := "(I)I" } : Jvm.MethodName) prog_24_method_119_code (2 : Nat) (Option.some Jvm.ClassFile.FieldType.int)) ∈ lw_all := lw_g (lw_at lw_m11 127 rfl) rfl
theorem q2698 : (Jvm.Cond.castable "FeatherBenchModel" "java/lang/Object") ∈ lw_tbl := lw_at lw_m11 139 rfl
theorem in_X2 : ∀ w ∈ wsX20, w ∈ lw_all := lw_in wsX20 [1967, 1969, 1971, 1973, 1975, 1977, 1979, 1981, 1983, 1985, 1987, 1989, 1991, 1993, 1995, 1997, 1999, 2001, 2003, 2005, 2007, 2009, 2011, 2013, 2015, 2017, 2019, 2021, 2023, 2025, 2027, 2029, 2031, 2033, 2035, 2037, 2039, 2041, 2043, 2045, 2047, 2049, 2051, 2053, 2055, 2057, 2059, 2061, 2063, 2065, 2067, 2069, 2071, 2073, 2075, 2077, 2079, 2081, 2083, 2085, 2087, 2089, 2091, 2093, 2095, 2097, 2099, 2101, 2103, 2105, 2107, 2109, 2111, 2113, 2115, 2117, 2119, 2121, 2123, 2125, 2127, 2129, 2131, 2133, 2135, 2137, 2139, 2141, 2143, 2145, 2147, 2149, 2151, 2153, 2155, 2157, 2159, 2161, 2163, 2165, 2167, 2169, 2171, 2173, 2175, 2177, 2179, 2181, 2183, 2185, 2187, 2189, 2191, 2193, 2195, 2197, 2199, 2201, 2203, 2205, 2207, 2209, 2211, 2213, 2215] (by decide +kernel) (by decide +kernel)
/-! FeatherBench$Wrong -/
def RX3 : String := "FeatherBench$Wrong"
def TX3 : u_T := fun k => match k with
  | 0 => ("java/lang/Throwable", "cause", "Ljava/lang/Throwable;", false)
  | 1 => ("java/lang/Throwable", "stackTrace", "[Ljava/lang/StackTraceElement;", false)
  | 2 => ("java/lang/Throwable", "suppressedExceptions", "Ljava/util/List;", false)
  | 3 => ("java/lang/Throwable", "detailMessage", "Ljava/lang/String;", false)
  | 4 => ("java/lang/Throwable", "backtrace", "Ljava/lang/Object;", false)
  | 5 => ("java/lang/Throwable", "depth", "I", false)
  | 6 => ("FeatherBench$Wrong", "kind", "I", true)
  | _ => ("FeatherBench$Wrong", "place", "I", true)
def tyX3 : Nat → FieldType := fun k => match k with
  | 0 => .object "java/lang/Throwable"
  | 1 => .array (.object "java/lang/StackTraceElement")
  | 2 => .object "java/util/List"
  | 3 => .object "java/lang/String"
  | 4 => .object "java/lang/Object"
  | 5 => .int
  | 6 => .int
  | _ => .int
abbrev wsX30 : List Cond := u_ws RX3 TX3 8
theorem nmX3 : ∀ a, a < 8 → ∀ b, b < 8 → a ≠ b → (TX3 a).2.1 ≠ (TX3 b).2.1 := by decide +kernel
theorem tyX3_ok : ∀ k, k < 8 → parseFieldDescriptor (TX3 k).2.2.1 = some (tyX3 k) := by decide +kernel
abbrev cX3_init : ByteArray := prog_22_method_1_code
def yX3_init : MethodName := ⟨RX3, "<init>", "(II)V"⟩
theorem dX3_init_0 : decode cX3_init 0 = .ok (.aload_n 0, 1) := by decide +kernel
theorem dX3_init_1 : decode cX3_init 1 = .ok (.aconst_null, 1) := by decide +kernel
theorem dX3_init_2 : decode cX3_init 2 = .ok (.aconst_null, 1) := by decide +kernel
theorem dX3_init_3 : decode cX3_init 3 = .ok (.iconst 0, 1) := by decide +kernel
theorem dX3_init_4 : decode cX3_init 4 = .ok (.iconst 0, 1) := by decide +kernel
theorem dX3_init_5 : decode cX3_init 5 = .ok (.invokespecial 1, 3) := by decide +kernel
theorem dX3_init_8 : decode cX3_init 8 = .ok (.aload_n 0, 1) := by decide +kernel
theorem dX3_init_9 : decode cX3_init 9 = .ok (.iload_n 1, 1) := by decide +kernel
theorem dX3_init_10 : decode cX3_init 10 = .ok (.putfield 7, 3) := by decide +kernel
theorem dX3_init_13 : decode cX3_init 13 = .ok (.aload_n 0, 1) := by decide +kernel
theorem dX3_init_14 : decode cX3_init 14 = .ok (.iload_n 2, 1) := by decide +kernel
theorem dX3_init_15 : decode cX3_init 15 = .ok (.putfield 13, 3) := by decide +kernel
theorem dX3_init_18 : decode cX3_init 18 = .ok (.return_, 1) := by decide +kernel
theorem q175 : (Jvm.Cond.initialized "FeatherBench$Wrong") ∈ lw_all := lw_g (lw_at lw_m1 16 rfl) rfl
theorem q494 : (Jvm.Cond.instantiable "FeatherBench$Wrong" (8 : Nat)) ∈ lw_all := lw_g (lw_at lw_m2 95 rfl) rfl
theorem q495 : (Jvm.Cond.castable "FeatherBench$Wrong" "FeatherBench$Wrong") ∈ lw_tbl := lw_at lw_m2 96 rfl
theorem q502 : (Jvm.Cond.selects "FeatherBench$Wrong" ({ cls := "java/lang/Throwable", name := "fillInStackTrace", desc := "(I)Ljava/lang/Throwable;" } : Jvm.MethodName) ({ cls := "java/lang/Throwable", name := "fillInStackTrace", desc := "(I)Ljava/lang/Throwable;" } : Jvm.MethodName)) ∈ lw_all := lw_g (lw_at lw_m2 103 rfl) rfl
theorem q503 : (Jvm.Cond.selects "FeatherBench$Wrong" ({ cls := "java/lang/Throwable", name := "fillInStackTrace", desc := "()Ljava/lang/Throwable;" } : Jvm.MethodName) ({ cls := "java/lang/Throwable", name := "fillInStackTrace", desc := "()Ljava/lang/Throwable;" } : Jvm.MethodName)) ∈ lw_all := lw_g (lw_at lw_m2 104 rfl) rfl
theorem q504 : (Jvm.Cond.lays "FeatherBench$Wrong" "java/lang/Throwable" "cause" "Ljava/lang/Throwable;") ∈ lw_all := lw_g (lw_at lw_m2 105 rfl) rfl
theorem q506 : (Jvm.Cond.lays "FeatherBench$Wrong" "java/lang/Throwable" "stackTrace" "[Ljava/lang/StackTraceElement;") ∈ lw_all := lw_g (lw_at lw_m2 107 rfl) rfl
theorem q508 : (Jvm.Cond.lays "FeatherBench$Wrong" "java/lang/Throwable" "suppressedExceptions" "Ljava/util/List;") ∈ lw_all := lw_g (lw_at lw_m2 109 rfl) rfl
theorem q510 : (Jvm.Cond.lays "FeatherBench$Wrong" "java/lang/Throwable" "detailMessage" "Ljava/lang/String;") ∈ lw_all := lw_g (lw_at lw_m2 111 rfl) rfl
theorem q512 : (Jvm.Cond.lays "FeatherBench$Wrong" "java/lang/Throwable" "backtrace" "Ljava/lang/Object;") ∈ lw_all := lw_g (lw_at lw_m2 113 rfl) rfl
theorem q536 : (Jvm.Cond.instanceMethod ({ cls := "FeatherBench$Wrong", name := "<init>", desc := "(II)V" } : Jvm.MethodName)) ∈ lw_all := lw_g (lw_at lw_m2 137 rfl) rfl
theorem q537 : (Jvm.Cond.code ({ cls := "FeatherBench$Wrong", name := "<init>", desc := "(II)V" } : Jvm.MethodName) prog_22_method_1_code (3 : Nat) (Option.none : Option Jvm.ClassFile.FieldType)) ∈ lw_all := lw_g (lw_at lw_m2 138 rfl) rfl
theorem q538 : (Jvm.Cond.methodLink "FeatherBench$Wrong" (1 : Nat) ({ cls := "java/lang/RuntimeException", name := "<init>", desc := "(Ljava/lang/String;Ljava/lang/Throwable;ZZ)V" } : Jvm.MethodName)) ∈ lw_all := lw_g (lw_at lw_m2 139 rfl) rfl
theorem q547 : (Jvm.Cond.fieldLink "FeatherBench$Wrong" (7 : Nat) "FeatherBench$Wrong" "kind" "I") ∈ lw_all := lw_g (lw_at lw_m2 148 rfl) rfl
theorem q549 : (Jvm.Cond.fieldLink "FeatherBench$Wrong" (13 : Nat) "FeatherBench$Wrong" "place" "I") ∈ lw_all := lw_g (lw_at lw_m2 150 rfl) rfl
theorem q556 : (Jvm.Cond.laysFinal "FeatherBench$Wrong" "FeatherBench$Wrong" "kind" "I") ∈ lw_all := lw_g (lw_at lw_m2 157 rfl) rfl
theorem q557 : (Jvm.Cond.soleField "FeatherBench$Wrong" "kind") ∈ lw_all := lw_g (lw_at lw_m2 158 rfl) rfl
theorem q558 : (Jvm.Cond.laysFinal "FeatherBench$Wrong" "FeatherBench$Wrong" "place" "I") ∈ lw_all := lw_g (lw_at lw_m2 159 rfl) rfl
theorem q559 : (Jvm.Cond.soleField "FeatherBench$Wrong" "place") ∈ lw_all := lw_g (lw_at lw_m2 160 rfl) rfl
theorem q564 : (Jvm.Cond.lays "FeatherBench$Wrong" "java/lang/Throwable" "depth" "I") ∈ lw_all := lw_g (lw_at lw_m2 165 rfl) rfl
theorem q567 : (Jvm.Cond.superclass "FeatherBench$Wrong" "java/lang/RuntimeException") ∈ lw_all := lw_g (lw_at lw_m2 168 rfl) rfl
theorem q922 : (Jvm.Cond.selects "FeatherBench$Wrong" ({ cls := "java/lang/Object", name := "getClass", desc := "()Ljava/lang/Class;" } : Jvm.MethodName) ({ cls := "java/lang/Object", name := "getClass", desc := "()Ljava/lang/Class;" } : Jvm.MethodName)) ∈ lw_all := lw_g (lw_at lw_m4 43 rfl) rfl
theorem q1422 : (Jvm.Cond.selects "FeatherBench$Wrong" ({ cls := "java/lang/Object", name := "equals", desc := "(Ljava/lang/Object;)Z" } : Jvm.MethodName) ({ cls := "java/lang/Object", name := "equals", desc := "(Ljava/lang/Object;)Z" } : Jvm.MethodName)) ∈ lw_all := lw_g (lw_at lw_m6 63 rfl) rfl
theorem q2699 : (Jvm.Cond.castable "FeatherBench$Wrong" "java/lang/Object") ∈ lw_tbl := lw_at lw_m11 140 rfl
theorem in_X3 : ∀ w ∈ wsX30, w ∈ lw_all := lw_in wsX30 [504, 506, 508, 510, 512, 564, 556, 558] (by decide +kernel) (by decide +kernel)
/-! FeatherBench$Decl -/
def RX4 : String := "FeatherBench$Decl"
def TX4 : u_T := fun k => match k with
  | 0 => ("FeatherBench$Decl", "name", "Ljava/lang/String;", true)
  | 1 => ("FeatherBench$Decl", "at", "I", true)
  | 2 => ("FeatherBench$Decl", "number", "I", true)
  | 3 => ("FeatherBench$Decl", "formals", "Ljava/util/ArrayList;", true)
  | 4 => ("FeatherBench$Decl", "isStruct", "Z", false)
  | 5 => ("FeatherBench$Decl", "fields", "Ljava/util/ArrayList;", true)
  | 6 => ("FeatherBench$Decl", "heads", "Ljava/util/ArrayList;", true)
  | _ => ("FeatherBench$Decl", "funcs", "Ljava/util/ArrayList;", true)
def tyX4 : Nat → FieldType := fun k => match k with
  | 0 => .object "java/lang/String"
  | 1 => .int
  | 2 => .int
  | 3 => .object "java/util/ArrayList"
  | 4 => .boolean
  | 5 => .object "java/util/ArrayList"
  | 6 => .object "java/util/ArrayList"
  | _ => .object "java/util/ArrayList"
abbrev wsX40 : List Cond := u_ws RX4 TX4 8
theorem nmX4 : ∀ a, a < 8 → ∀ b, b < 8 → a ≠ b → (TX4 a).2.1 ≠ (TX4 b).2.1 := by decide +kernel
theorem tyX4_ok : ∀ k, k < 8 → parseFieldDescriptor (TX4 k).2.2.1 = some (tyX4 k) := by decide +kernel
abbrev cX4_init : ByteArray := prog_4_method_1_code
def yX4_init : MethodName := ⟨RX4, "<init>", "(Ljava/lang/String;II)V"⟩
theorem dX4_init_0 : decode cX4_init 0 = .ok (.aload_n 0, 1) := by decide +kernel
theorem dX4_init_1 : decode cX4_init 1 = .ok (.invokespecial 1, 3) := by decide +kernel
theorem dX4_init_4 : decode cX4_init 4 = .ok (.aload_n 0, 1) := by decide +kernel
theorem dX4_init_5 : decode cX4_init 5 = .ok (.new 7, 3) := by decide +kernel
theorem dX4_init_8 : decode cX4_init 8 = .ok (.dup, 1) := by decide +kernel
theorem dX4_init_9 : decode cX4_init 9 = .ok (.iconst 1, 1) := by decide +kernel
theorem dX4_init_10 : decode cX4_init 10 = .ok (.invokespecial 9, 3) := by decide +kernel
theorem dX4_init_13 : decode cX4_init 13 = .ok (.putfield 12, 3) := by decide +kernel
theorem dX4_init_16 : decode cX4_init 16 = .ok (.aload_n 0, 1) := by decide +kernel
theorem dX4_init_17 : decode cX4_init 17 = .ok (.new 7, 3) := by decide +kernel
theorem dX4_init_20 : decode cX4_init 20 = .ok (.dup, 1) := by decide +kernel
theorem dX4_init_21 : decode cX4_init 21 = .ok (.iconst 2, 1) := by decide +kernel
theorem dX4_init_22 : decode cX4_init 22 = .ok (.invokespecial 9, 3) := by decide +kernel
theorem dX4_init_25 : decode cX4_init 25 = .ok (.putfield 18, 3) := by decide +kernel
theorem dX4_init_28 : decode cX4_init 28 = .ok (.aload_n 0, 1) := by decide +kernel
theorem dX4_init_29 : decode cX4_init 29 = .ok (.new 7, 3) := by decide +kernel
theorem dX4_init_32 : decode cX4_init 32 = .ok (.dup, 1) := by decide +kernel
theorem dX4_init_33 : decode cX4_init 33 = .ok (.iconst 2, 1) := by decide +kernel
theorem dX4_init_34 : decode cX4_init 34 = .ok (.invokespecial 9, 3) := by decide +kernel
theorem dX4_init_37 : decode cX4_init 37 = .ok (.putfield 21, 3) := by decide +kernel
theorem dX4_init_40 : decode cX4_init 40 = .ok (.aload_n 0, 1) := by decide +kernel
theorem dX4_init_41 : decode cX4_init 41 = .ok (.new 7, 3) := by decide +kernel
theorem dX4_init_44 : decode cX4_init 44 = .ok (.dup, 1) := by decide +kernel
theorem dX4_init_45 : decode cX4_init 45 = .ok (.iconst 2, 1) := by decide +kernel
theorem dX4_init_46 : decode cX4_init 46 = .ok (.invokespecial 9, 3) := by decide +kernel
theorem dX4_init_49 : decode cX4_init 49 = .ok (.putfield 24, 3) := by decide +kernel
theorem dX4_init_52 : decode cX4_init 52 = .ok (.aload_n 0, 1) := by decide +kernel
theorem dX4_init_53 : decode cX4_init 53 = .ok (.aload_n 1, 1) := by decide +kernel
theorem dX4_init_54 : decode cX4_init 54 = .ok (.putfield 27, 3) := by decide +kernel
theorem dX4_init_57 : decode cX4_init 57 = .ok (.aload_n 0, 1) := by decide +kernel
theorem dX4_init_58 : decode cX4_init 58 = .ok (.iload_n 2, 1) := by decide +kernel
theorem dX4_init_59 : decode cX4_init 59 = .ok (.putfield 31, 3) := by decide +kernel
theorem dX4_init_62 : decode cX4_init 62 = .ok (.aload_n 0, 1) := by decide +kernel
theorem dX4_init_63 : decode cX4_init 63 = .ok (.iload_n 3, 1) := by decide +kernel
theorem dX4_init_64 : decode cX4_init 64 = .ok (.putfield 35, 3) := by decide +kernel
theorem dX4_init_67 : decode cX4_init 67 = .ok (.return_, 1) := by decide +kernel
theorem q176 : (Jvm.Cond.initialized "FeatherBench$Decl") ∈ lw_all := lw_g (lw_at lw_m1 17 rfl) rfl
theorem q569 : (Jvm.Cond.instantiable "FeatherBench$Decl" (8 : Nat)) ∈ lw_all := lw_g (lw_at lw_m2 170 rfl) rfl
theorem q743 : (Jvm.Cond.instanceMethod ({ cls := "FeatherBench$Decl", name := "<init>", desc := "(Ljava/lang/String;II)V" } : Jvm.MethodName)) ∈ lw_all := lw_g (lw_at lw_m3 104 rfl) rfl
theorem q744 : (Jvm.Cond.code ({ cls := "FeatherBench$Decl", name := "<init>", desc := "(Ljava/lang/String;II)V" } : Jvm.MethodName) prog_4_method_1_code (4 : Nat) (Option.none : Option Jvm.ClassFile.FieldType)) ∈ lw_all := lw_g (lw_at lw_m3 105 rfl) rfl
theorem q745 : (Jvm.Cond.methodLink "FeatherBench$Decl" (1 : Nat) ({ cls := "java/lang/Object", name := "<init>", desc := "()V" } : Jvm.MethodName)) ∈ lw_all := lw_g (lw_at lw_m3 106 rfl) rfl
theorem q746 : (Jvm.Cond.classLink "FeatherBench$Decl" (7 : Nat) "java/util/ArrayList") ∈ lw_all := lw_g (lw_at lw_m3 107 rfl) rfl
theorem q747 : (Jvm.Cond.methodLink "FeatherBench$Decl" (9 : Nat) ({ cls := "java/util/ArrayList", name := "<init>", desc := "(I)V" } : Jvm.MethodName)) ∈ lw_all := lw_g (lw_at lw_m3 108 rfl) rfl
theorem q748 : (Jvm.Cond.fieldLink "FeatherBench$Decl" (27 : Nat) "FeatherBench$Decl" "name" "Ljava/lang/String;") ∈ lw_all := lw_g (lw_at lw_m3 109 rfl) rfl
theorem q751 : (Jvm.Cond.fieldLink "FeatherBench$Decl" (31 : Nat) "FeatherBench$Decl" "at" "I") ∈ lw_all := lw_g (lw_at lw_m3 112 rfl) rfl
theorem q753 : (Jvm.Cond.fieldLink "FeatherBench$Decl" (35 : Nat) "FeatherBench$Decl" "number" "I") ∈ lw_all := lw_g (lw_at lw_m3 114 rfl) rfl
theorem q755 : (Jvm.Cond.fieldLink "FeatherBench$Decl" (12 : Nat) "FeatherBench$Decl" "formals" "Ljava/util/ArrayList;") ∈ lw_all := lw_g (lw_at lw_m3 116 rfl) rfl
theorem q763 : (Jvm.Cond.fieldLink "FeatherBench$Decl" (18 : Nat) "FeatherBench$Decl" "fields" "Ljava/util/ArrayList;") ∈ lw_all := lw_g (lw_at lw_m3 124 rfl) rfl
theorem q766 : (Jvm.Cond.fieldLink "FeatherBench$Decl" (21 : Nat) "FeatherBench$Decl" "heads" "Ljava/util/ArrayList;") ∈ lw_all := lw_g (lw_at lw_m3 127 rfl) rfl
theorem q770 : (Jvm.Cond.fieldLink "FeatherBench$Decl" (24 : Nat) "FeatherBench$Decl" "funcs" "Ljava/util/ArrayList;") ∈ lw_all := lw_g (lw_at lw_m3 131 rfl) rfl
theorem q773 : (Jvm.Cond.laysFinal "FeatherBench$Decl" "FeatherBench$Decl" "name" "Ljava/lang/String;") ∈ lw_all := lw_g (lw_at lw_m3 134 rfl) rfl
theorem q774 : (Jvm.Cond.soleField "FeatherBench$Decl" "name") ∈ lw_all := lw_g (lw_at lw_m3 135 rfl) rfl
theorem q775 : (Jvm.Cond.laysFinal "FeatherBench$Decl" "FeatherBench$Decl" "at" "I") ∈ lw_all := lw_g (lw_at lw_m3 136 rfl) rfl
theorem q776 : (Jvm.Cond.soleField "FeatherBench$Decl" "at") ∈ lw_all := lw_g (lw_at lw_m3 137 rfl) rfl
theorem q777 : (Jvm.Cond.laysFinal "FeatherBench$Decl" "FeatherBench$Decl" "number" "I") ∈ lw_all := lw_g (lw_at lw_m3 138 rfl) rfl
theorem q778 : (Jvm.Cond.soleField "FeatherBench$Decl" "number") ∈ lw_all := lw_g (lw_at lw_m3 139 rfl) rfl
theorem q779 : (Jvm.Cond.laysFinal "FeatherBench$Decl" "FeatherBench$Decl" "formals" "Ljava/util/ArrayList;") ∈ lw_all := lw_g (lw_at lw_m3 140 rfl) rfl
theorem q780 : (Jvm.Cond.soleField "FeatherBench$Decl" "formals") ∈ lw_all := lw_g (lw_at lw_m3 141 rfl) rfl
theorem q781 : (Jvm.Cond.lays "FeatherBench$Decl" "FeatherBench$Decl" "isStruct" "Z") ∈ lw_all := lw_g (lw_at lw_m3 142 rfl) rfl
theorem q782 : (Jvm.Cond.soleField "FeatherBench$Decl" "isStruct") ∈ lw_all := lw_g (lw_at lw_m3 143 rfl) rfl
theorem q783 : (Jvm.Cond.laysFinal "FeatherBench$Decl" "FeatherBench$Decl" "fields" "Ljava/util/ArrayList;") ∈ lw_all := lw_g (lw_at lw_m3 144 rfl) rfl
theorem q784 : (Jvm.Cond.soleField "FeatherBench$Decl" "fields") ∈ lw_all := lw_g (lw_at lw_m3 145 rfl) rfl
theorem q785 : (Jvm.Cond.laysFinal "FeatherBench$Decl" "FeatherBench$Decl" "heads" "Ljava/util/ArrayList;") ∈ lw_all := lw_g (lw_at lw_m3 146 rfl) rfl
theorem q786 : (Jvm.Cond.soleField "FeatherBench$Decl" "heads") ∈ lw_all := lw_g (lw_at lw_m3 147 rfl) rfl
theorem q787 : (Jvm.Cond.laysFinal "FeatherBench$Decl" "FeatherBench$Decl" "funcs" "Ljava/util/ArrayList;") ∈ lw_all := lw_g (lw_at lw_m3 148 rfl) rfl
theorem q788 : (Jvm.Cond.soleField "FeatherBench$Decl" "funcs") ∈ lw_all := lw_g (lw_at lw_m3 149 rfl) rfl
theorem q789 : (Jvm.Cond.superclass "FeatherBench$Decl" "java/lang/Object") ∈ lw_all := lw_g (lw_at lw_m3 150 rfl) rfl
theorem q904 : (Jvm.Cond.selects "FeatherBench$Decl" ({ cls := "java/lang/Object", name := "getClass", desc := "()Ljava/lang/Class;" } : Jvm.MethodName) ({ cls := "java/lang/Object", name := "getClass", desc := "()Ljava/lang/Class;" } : Jvm.MethodName)) ∈ lw_all := lw_g (lw_at lw_m4 25 rfl) rfl
theorem q1404 : (Jvm.Cond.selects "FeatherBench$Decl" ({ cls := "java/lang/Object", name := "equals", desc := "(Ljava/lang/Object;)Z" } : Jvm.MethodName) ({ cls := "java/lang/Object", name := "equals", desc := "(Ljava/lang/Object;)Z" } : Jvm.MethodName)) ∈ lw_all := lw_g (lw_at lw_m6 45 rfl) rfl
theorem q2700 : (Jvm.Cond.castable "FeatherBench$Decl" "java/lang/Object") ∈ lw_tbl := lw_at lw_m11 141 rfl
theorem in_X4 : ∀ w ∈ wsX40, w ∈ lw_all := lw_in wsX40 [773, 775, 777, 779, 781, 783, 785, 787] (by decide +kernel) (by decide +kernel)
/-! FeatherBench$Param -/
def RX5 : String := "FeatherBench$Param"
def TX5 : u_T := fun k => match k with
  | 0 => ("FeatherBench$Param", "name", "Ljava/lang/String;", true)
  | 1 => ("FeatherBench$Param", "at", "I", true)
  | 2 => ("FeatherBench$Param", "tree", "LFeatherBench$Tree;", false)
  | _ => ("FeatherBench$Param", "bound", "LFeatherBench$Ty;", false)
def tyX5 : Nat → FieldType := fun k => match k with
  | 0 => .object "java/lang/String"
  | 1 => .int
  | 2 => .object "FeatherBench$Tree"
  | _ => .object "FeatherBench$Ty"
abbrev wsX50 : List Cond := u_ws RX5 TX5 4
theorem nmX5 : ∀ a, a < 4 → ∀ b, b < 4 → a ≠ b → (TX5 a).2.1 ≠ (TX5 b).2.1 := by decide +kernel
theorem tyX5_ok : ∀ k, k < 4 → parseFieldDescriptor (TX5 k).2.2.1 = some (tyX5 k) := by decide +kernel
abbrev cX5_init : ByteArray := prog_15_method_1_code
def yX5_init : MethodName := ⟨RX5, "<init>", "(Ljava/lang/String;I)V"⟩
theorem dX5_init_0 : decode cX5_init 0 = .ok (.aload_n 0, 1) := by decide +kernel
theorem dX5_init_1 : decode cX5_init 1 = .ok (.invokespecial 1, 3) := by decide +kernel
theorem dX5_init_4 : decode cX5_init 4 = .ok (.aload_n 0, 1) := by decide +kernel
theorem dX5_init_5 : decode cX5_init 5 = .ok (.aload_n 1, 1) := by decide +kernel
theorem dX5_init_6 : decode cX5_init 6 = .ok (.putfield 7, 3) := by decide +kernel
theorem dX5_init_9 : decode cX5_init 9 = .ok (.aload_n 0, 1) := by decide +kernel
theorem dX5_init_10 : decode cX5_init 10 = .ok (.iload_n 2, 1) := by decide +kernel
theorem dX5_init_11 : decode cX5_init 11 = .ok (.putfield 13, 3) := by decide +kernel
theorem dX5_init_14 : decode cX5_init 14 = .ok (.return_, 1) := by decide +kernel
theorem q182 : (Jvm.Cond.initialized "FeatherBench$Param") ∈ lw_all := lw_g (lw_at lw_m1 23 rfl) rfl
theorem q803 : (Jvm.Cond.instantiable "FeatherBench$Param" (4 : Nat)) ∈ lw_all := lw_g (lw_at lw_m3 164 rfl) rfl
theorem q809 : (Jvm.Cond.instanceMethod ({ cls := "FeatherBench$Param", name := "<init>", desc := "(Ljava/lang/String;I)V" } : Jvm.MethodName)) ∈ lw_all := lw_g (lw_at lw_m3 170 rfl) rfl
theorem q810 : (Jvm.Cond.code ({ cls := "FeatherBench$Param", name := "<init>", desc := "(Ljava/lang/String;I)V" } : Jvm.MethodName) prog_15_method_1_code (3 : Nat) (Option.none : Option Jvm.ClassFile.FieldType)) ∈ lw_all := lw_g (lw_at lw_m3 171 rfl) rfl
theorem q811 : (Jvm.Cond.methodLink "FeatherBench$Param" (1 : Nat) ({ cls := "java/lang/Object", name := "<init>", desc := "()V" } : Jvm.MethodName)) ∈ lw_all := lw_g (lw_at lw_m3 172 rfl) rfl
theorem q812 : (Jvm.Cond.fieldLink "FeatherBench$Param" (7 : Nat) "FeatherBench$Param" "name" "Ljava/lang/String;") ∈ lw_all := lw_g (lw_at lw_m3 173 rfl) rfl
theorem q814 : (Jvm.Cond.fieldLink "FeatherBench$Param" (13 : Nat) "FeatherBench$Param" "at" "I") ∈ lw_all := lw_g (lw_at lw_m3 175 rfl) rfl
theorem q820 : (Jvm.Cond.laysFinal "FeatherBench$Param" "FeatherBench$Param" "name" "Ljava/lang/String;") ∈ lw_all := lw_g (lw_at lw_m3 181 rfl) rfl
theorem q821 : (Jvm.Cond.soleField "FeatherBench$Param" "name") ∈ lw_all := lw_g (lw_at lw_m3 182 rfl) rfl
theorem q822 : (Jvm.Cond.laysFinal "FeatherBench$Param" "FeatherBench$Param" "at" "I") ∈ lw_all := lw_g (lw_at lw_m3 183 rfl) rfl
theorem q823 : (Jvm.Cond.soleField "FeatherBench$Param" "at") ∈ lw_all := lw_g (lw_at lw_m3 184 rfl) rfl
theorem q824 : (Jvm.Cond.lays "FeatherBench$Param" "FeatherBench$Param" "tree" "LFeatherBench$Tree;") ∈ lw_all := lw_g (lw_at lw_m3 185 rfl) rfl
theorem q825 : (Jvm.Cond.soleField "FeatherBench$Param" "tree") ∈ lw_all := lw_g (lw_at lw_m3 186 rfl) rfl
theorem q826 : (Jvm.Cond.lays "FeatherBench$Param" "FeatherBench$Param" "bound" "LFeatherBench$Ty;") ∈ lw_all := lw_g (lw_at lw_m3 187 rfl) rfl
theorem q827 : (Jvm.Cond.soleField "FeatherBench$Param" "bound") ∈ lw_all := lw_g (lw_at lw_m3 188 rfl) rfl
theorem q828 : (Jvm.Cond.superclass "FeatherBench$Param" "java/lang/Object") ∈ lw_all := lw_g (lw_at lw_m3 189 rfl) rfl
theorem q915 : (Jvm.Cond.selects "FeatherBench$Param" ({ cls := "java/lang/Object", name := "getClass", desc := "()Ljava/lang/Class;" } : Jvm.MethodName) ({ cls := "java/lang/Object", name := "getClass", desc := "()Ljava/lang/Class;" } : Jvm.MethodName)) ∈ lw_all := lw_g (lw_at lw_m4 36 rfl) rfl
theorem q1415 : (Jvm.Cond.selects "FeatherBench$Param" ({ cls := "java/lang/Object", name := "equals", desc := "(Ljava/lang/Object;)Z" } : Jvm.MethodName) ({ cls := "java/lang/Object", name := "equals", desc := "(Ljava/lang/Object;)Z" } : Jvm.MethodName)) ∈ lw_all := lw_g (lw_at lw_m6 56 rfl) rfl
theorem q2703 : (Jvm.Cond.castable "FeatherBench$Param" "java/lang/Object") ∈ lw_tbl := lw_at lw_m11 144 rfl
theorem in_X5 : ∀ w ∈ wsX50, w ∈ lw_all := lw_in wsX50 [820, 822, 824, 826] (by decide +kernel) (by decide +kernel)
/-! FeatherBench$Tree -/
def RX6 : String := "FeatherBench$Tree"
def TX6 : u_T := fun k => match k with
  | 0 => ("FeatherBench$Tree", "word", "Ljava/lang/String;", true)
  | 1 => ("FeatherBench$Tree", "at", "I", true)
  | 2 => ("FeatherBench$Tree", "args", "Ljava/util/ArrayList;", true)
  | 3 => ("FeatherBench$Tree", "hasArgs", "Z", false)
  | _ => ("FeatherBench$Tree", "ty", "LFeatherBench$Ty;", false)
def tyX6 : Nat → FieldType := fun k => match k with
  | 0 => .object "java/lang/String"
  | 1 => .int
  | 2 => .object "java/util/ArrayList"
  | 3 => .boolean
  | _ => .object "FeatherBench$Ty"
abbrev wsX60 : List Cond := u_ws RX6 TX6 5
theorem nmX6 : ∀ a, a < 5 → ∀ b, b < 5 → a ≠ b → (TX6 a).2.1 ≠ (TX6 b).2.1 := by decide +kernel
theorem tyX6_ok : ∀ k, k < 5 → parseFieldDescriptor (TX6 k).2.2.1 = some (tyX6 k) := by decide +kernel
abbrev cX6_init : ByteArray := prog_19_method_1_code
def yX6_init : MethodName := ⟨RX6, "<init>", "(Ljava/lang/String;I)V"⟩
theorem dX6_init_0 : decode cX6_init 0 = .ok (.aload_n 0, 1) := by decide +kernel
theorem dX6_init_1 : decode cX6_init 1 = .ok (.invokespecial 1, 3) := by decide +kernel
theorem dX6_init_4 : decode cX6_init 4 = .ok (.aload_n 0, 1) := by decide +kernel
theorem dX6_init_5 : decode cX6_init 5 = .ok (.new 7, 3) := by decide +kernel
theorem dX6_init_8 : decode cX6_init 8 = .ok (.dup, 1) := by decide +kernel
theorem dX6_init_9 : decode cX6_init 9 = .ok (.iconst 1, 1) := by decide +kernel
theorem dX6_init_10 : decode cX6_init 10 = .ok (.invokespecial 9, 3) := by decide +kernel
theorem dX6_init_13 : decode cX6_init 13 = .ok (.putfield 12, 3) := by decide +kernel
theorem dX6_init_16 : decode cX6_init 16 = .ok (.aload_n 0, 1) := by decide +kernel
theorem dX6_init_17 : decode cX6_init 17 = .ok (.aload_n 1, 1) := by decide +kernel
theorem dX6_init_18 : decode cX6_init 18 = .ok (.putfield 18, 3) := by decide +kernel
theorem dX6_init_21 : decode cX6_init 21 = .ok (.aload_n 0, 1) := by decide +kernel
theorem dX6_init_22 : decode cX6_init 22 = .ok (.iload_n 2, 1) := by decide +kernel
theorem dX6_init_23 : decode cX6_init 23 = .ok (.putfield 22, 3) := by decide +kernel
theorem dX6_init_26 : decode cX6_init 26 = .ok (.return_, 1) := by decide +kernel
theorem q183 : (Jvm.Cond.initialized "FeatherBench$Tree") ∈ lw_all := lw_g (lw_at lw_m1 24 rfl) rfl
theorem q838 : (Jvm.Cond.instantiable "FeatherBench$Tree" (5 : Nat)) ∈ lw_all := lw_g (lw_at lw_m3 199 rfl) rfl
theorem q840 : (Jvm.Cond.instanceMethod ({ cls := "FeatherBench$Tree", name := "<init>", desc := "(Ljava/lang/String;I)V" } : Jvm.MethodName)) ∈ lw_all := lw_g (lw_at lw_m3 201 rfl) rfl
theorem q841 : (Jvm.Cond.code ({ cls := "FeatherBench$Tree", name := "<init>", desc := "(Ljava/lang/String;I)V" } : Jvm.MethodName) prog_19_method_1_code (3 : Nat) (Option.none : Option Jvm.ClassFile.FieldType)) ∈ lw_all := lw_g (lw_at lw_m3 202 rfl) rfl
theorem q842 : (Jvm.Cond.methodLink "FeatherBench$Tree" (1 : Nat) ({ cls := "java/lang/Object", name := "<init>", desc := "()V" } : Jvm.MethodName)) ∈ lw_all := lw_g (lw_at lw_m3 203 rfl) rfl
theorem q843 : (Jvm.Cond.classLink "FeatherBench$Tree" (7 : Nat) "java/util/ArrayList") ∈ lw_all := lw_g (lw_at lw_m3 204 rfl) rfl
theorem q844 : (Jvm.Cond.methodLink "FeatherBench$Tree" (9 : Nat) ({ cls := "java/util/ArrayList", name := "<init>", desc := "(I)V" } : Jvm.MethodName)) ∈ lw_all := lw_g (lw_at lw_m3 205 rfl) rfl
theorem q845 : (Jvm.Cond.fieldLink "FeatherBench$Tree" (18 : Nat) "FeatherBench$Tree" "word" "Ljava/lang/String;") ∈ lw_all := lw_g (lw_at lw_m3 206 rfl) rfl
theorem q847 : (Jvm.Cond.fieldLink "FeatherBench$Tree" (22 : Nat) "FeatherBench$Tree" "at" "I") ∈ lw_all := lw_g (lw_at lw_m3 208 rfl) rfl
theorem q849 : (Jvm.Cond.fieldLink "FeatherBench$Tree" (12 : Nat) "FeatherBench$Tree" "args" "Ljava/util/ArrayList;") ∈ lw_all := lw_g (lw_at lw_m3 210 rfl) rfl
theorem q857 : (Jvm.Cond.laysFinal "FeatherBench$Tree" "FeatherBench$Tree" "word" "Ljava/lang/String;") ∈ lw_all := lw_g (lw_at lw_m3 218 rfl) rfl
theorem q858 : (Jvm.Cond.soleField "FeatherBench$Tree" "word") ∈ lw_all := lw_g (lw_at lw_m3 219 rfl) rfl
theorem q859 : (Jvm.Cond.laysFinal "FeatherBench$Tree" "FeatherBench$Tree" "at" "I") ∈ lw_all := lw_g (lw_at lw_m3 220 rfl) rfl
theorem q860 : (Jvm.Cond.soleField "FeatherBench$Tree" "at") ∈ lw_all := lw_g (lw_at lw_m3 221 rfl) rfl
theorem q861 : (Jvm.Cond.laysFinal "FeatherBench$Tree" "FeatherBench$Tree" "args" "Ljava/util/ArrayList;") ∈ lw_all := lw_g (lw_at lw_m3 222 rfl) rfl
theorem q862 : (Jvm.Cond.soleField "FeatherBench$Tree" "args") ∈ lw_all := lw_g (lw_at lw_m3 223 rfl) rfl
theorem q863 : (Jvm.Cond.lays "FeatherBench$Tree" "FeatherBench$Tree" "hasArgs" "Z") ∈ lw_all := lw_g (lw_at lw_m3 224 rfl) rfl
theorem q864 : (Jvm.Cond.soleField "FeatherBench$Tree" "hasArgs") ∈ lw_all := lw_g (lw_at lw_m3 225 rfl) rfl
theorem q865 : (Jvm.Cond.lays "FeatherBench$Tree" "FeatherBench$Tree" "ty" "LFeatherBench$Ty;") ∈ lw_all := lw_g (lw_at lw_m3 226 rfl) rfl
theorem q866 : (Jvm.Cond.soleField "FeatherBench$Tree" "ty") ∈ lw_all := lw_g (lw_at lw_m3 227 rfl) rfl
theorem q867 : (Jvm.Cond.superclass "FeatherBench$Tree" "java/lang/Object") ∈ lw_all := lw_g (lw_at lw_m3 228 rfl) rfl
theorem q919 : (Jvm.Cond.selects "FeatherBench$Tree" ({ cls := "java/lang/Object", name := "getClass", desc := "()Ljava/lang/Class;" } : Jvm.MethodName) ({ cls := "java/lang/Object", name := "getClass", desc := "()Ljava/lang/Class;" } : Jvm.MethodName)) ∈ lw_all := lw_g (lw_at lw_m4 40 rfl) rfl
theorem q1419 : (Jvm.Cond.selects "FeatherBench$Tree" ({ cls := "java/lang/Object", name := "equals", desc := "(Ljava/lang/Object;)Z" } : Jvm.MethodName) ({ cls := "java/lang/Object", name := "equals", desc := "(Ljava/lang/Object;)Z" } : Jvm.MethodName)) ∈ lw_all := lw_g (lw_at lw_m6 60 rfl) rfl
theorem q2704 : (Jvm.Cond.castable "FeatherBench$Tree" "java/lang/Object") ∈ lw_tbl := lw_at lw_m11 145 rfl
theorem in_X6 : ∀ w ∈ wsX60, w ∈ lw_all := lw_in wsX60 [857, 859, 861, 863, 865] (by decide +kernel) (by decide +kernel)
/-! FeatherBench$Var -/
def RX7 : String := "FeatherBench$Var"
def TX7 : u_T := fun k => match k with
  | 0 => ("FeatherBench$Var", "name", "Ljava/lang/String;", true)
  | 1 => ("FeatherBench$Var", "at", "I", true)
  | 2 => ("FeatherBench$Var", "tree", "LFeatherBench$Tree;", false)
  | _ => ("FeatherBench$Var", "ty", "LFeatherBench$Ty;", false)
def tyX7 : Nat → FieldType := fun k => match k with
  | 0 => .object "java/lang/String"
  | 1 => .int
  | 2 => .object "FeatherBench$Tree"
  | _ => .object "FeatherBench$Ty"
abbrev wsX70 : List Cond := u_ws RX7 TX7 4
theorem nmX7 : ∀ a, a < 4 → ∀ b, b < 4 → a ≠ b → (TX7 a).2.1 ≠ (TX7 b).2.1 := by decide +kernel
theorem tyX7_ok : ∀ k, k < 4 → parseFieldDescriptor (TX7 k).2.2.1 = some (tyX7 k) := by decide +kernel
abbrev cX7_init : ByteArray := prog_21_method_1_code
def yX7_init : MethodName := ⟨RX7, "<init>", "(Ljava/lang/String;I)V"⟩
theorem dX7_init_0 : decode cX7_init 0 = .ok (.aload_n 0, 1) := by decide +kernel
theorem dX7_init_1 : decode cX7_init 1 = .ok (.invokespecial 1, 3) := by decide +kernel
theorem dX7_init_4 : decode cX7_init 4 = .ok (.aload_n 0, 1) := by decide +kernel
theorem dX7_init_5 : decode cX7_init 5 = .ok (.aload_n 1, 1) := by decide +kernel
theorem dX7_init_6 : decode cX7_init 6 = .ok (.putfield 7, 3) := by decide +kernel
theorem dX7_init_9 : decode cX7_init 9 = .ok (.aload_n 0, 1) := by decide +kernel
theorem dX7_init_10 : decode cX7_init 10 = .ok (.iload_n 2, 1) := by decide +kernel
theorem dX7_init_11 : decode cX7_init 11 = .ok (.putfield 13, 3) := by decide +kernel
theorem dX7_init_14 : decode cX7_init 14 = .ok (.return_, 1) := by decide +kernel
theorem q184 : (Jvm.Cond.initialized "FeatherBench$Var") ∈ lw_all := lw_g (lw_at lw_m1 25 rfl) rfl
theorem q921 : (Jvm.Cond.selects "FeatherBench$Var" ({ cls := "java/lang/Object", name := "getClass", desc := "()Ljava/lang/Class;" } : Jvm.MethodName) ({ cls := "java/lang/Object", name := "getClass", desc := "()Ljava/lang/Class;" } : Jvm.MethodName)) ∈ lw_all := lw_g (lw_at lw_m4 42 rfl) rfl
theorem q938 : (Jvm.Cond.instantiable "FeatherBench$Var" (4 : Nat)) ∈ lw_all := lw_g (lw_at lw_m4 59 rfl) rfl
theorem q940 : (Jvm.Cond.instanceMethod ({ cls := "FeatherBench$Var", name := "<init>", desc := "(Ljava/lang/String;I)V" } : Jvm.MethodName)) ∈ lw_all := lw_g (lw_at lw_m4 61 rfl) rfl
theorem q941 : (Jvm.Cond.code ({ cls := "FeatherBench$Var", name := "<init>", desc := "(Ljava/lang/String;I)V" } : Jvm.MethodName) prog_21_method_1_code (3 : Nat) (Option.none : Option Jvm.ClassFile.FieldType)) ∈ lw_all := lw_g (lw_at lw_m4 62 rfl) rfl
theorem q942 : (Jvm.Cond.methodLink "FeatherBench$Var" (1 : Nat) ({ cls := "java/lang/Object", name := "<init>", desc := "()V" } : Jvm.MethodName)) ∈ lw_all := lw_g (lw_at lw_m4 63 rfl) rfl
theorem q943 : (Jvm.Cond.fieldLink "FeatherBench$Var" (7 : Nat) "FeatherBench$Var" "name" "Ljava/lang/String;") ∈ lw_all := lw_g (lw_at lw_m4 64 rfl) rfl
theorem q945 : (Jvm.Cond.fieldLink "FeatherBench$Var" (13 : Nat) "FeatherBench$Var" "at" "I") ∈ lw_all := lw_g (lw_at lw_m4 66 rfl) rfl
theorem q951 : (Jvm.Cond.laysFinal "FeatherBench$Var" "FeatherBench$Var" "name" "Ljava/lang/String;") ∈ lw_all := lw_g (lw_at lw_m4 72 rfl) rfl
theorem q952 : (Jvm.Cond.soleField "FeatherBench$Var" "name") ∈ lw_all := lw_g (lw_at lw_m4 73 rfl) rfl
theorem q953 : (Jvm.Cond.laysFinal "FeatherBench$Var" "FeatherBench$Var" "at" "I") ∈ lw_all := lw_g (lw_at lw_m4 74 rfl) rfl
theorem q954 : (Jvm.Cond.soleField "FeatherBench$Var" "at") ∈ lw_all := lw_g (lw_at lw_m4 75 rfl) rfl
theorem q955 : (Jvm.Cond.lays "FeatherBench$Var" "FeatherBench$Var" "tree" "LFeatherBench$Tree;") ∈ lw_all := lw_g (lw_at lw_m4 76 rfl) rfl
theorem q956 : (Jvm.Cond.soleField "FeatherBench$Var" "tree") ∈ lw_all := lw_g (lw_at lw_m4 77 rfl) rfl
theorem q957 : (Jvm.Cond.lays "FeatherBench$Var" "FeatherBench$Var" "ty" "LFeatherBench$Ty;") ∈ lw_all := lw_g (lw_at lw_m4 78 rfl) rfl
theorem q958 : (Jvm.Cond.soleField "FeatherBench$Var" "ty") ∈ lw_all := lw_g (lw_at lw_m4 79 rfl) rfl
theorem q959 : (Jvm.Cond.superclass "FeatherBench$Var" "java/lang/Object") ∈ lw_all := lw_g (lw_at lw_m4 80 rfl) rfl
theorem q1421 : (Jvm.Cond.selects "FeatherBench$Var" ({ cls := "java/lang/Object", name := "equals", desc := "(Ljava/lang/Object;)Z" } : Jvm.MethodName) ({ cls := "java/lang/Object", name := "equals", desc := "(Ljava/lang/Object;)Z" } : Jvm.MethodName)) ∈ lw_all := lw_g (lw_at lw_m6 62 rfl) rfl
theorem q2705 : (Jvm.Cond.castable "FeatherBench$Var" "java/lang/Object") ∈ lw_tbl := lw_at lw_m11 146 rfl
theorem in_X7 : ∀ w ∈ wsX70, w ∈ lw_all := lw_in wsX70 [951, 953, 955, 957] (by decide +kernel) (by decide +kernel)
/-! FeatherBench$Head -/
def RX8 : String := "FeatherBench$Head"
def TX8 : u_T := fun k => match k with
  | 0 => ("FeatherBench$Head", "name", "Ljava/lang/String;", true)
  | 1 => ("FeatherBench$Head", "at", "I", true)
  | 2 => ("FeatherBench$Head", "formals", "Ljava/util/ArrayList;", true)
  | 3 => ("FeatherBench$Head", "vars", "Ljava/util/ArrayList;", true)
  | _ => ("FeatherBench$Head", "result", "LFeatherBench$Tree;", false)
def tyX8 : Nat → FieldType := fun k => match k with
  | 0 => .object "java/lang/String"
  | 1 => .int
  | 2 => .object "java/util/ArrayList"
  | 3 => .object "java/util/ArrayList"
  | _ => .object "FeatherBench$Tree"
abbrev wsX80 : List Cond := u_ws RX8 TX8 5
theorem nmX8 : ∀ a, a < 5 → ∀ b, b < 5 → a ≠ b → (TX8 a).2.1 ≠ (TX8 b).2.1 := by decide +kernel
theorem tyX8_ok : ∀ k, k < 5 → parseFieldDescriptor (TX8 k).2.2.1 = some (tyX8 k) := by decide +kernel
abbrev cX8_init : ByteArray := prog_12_method_1_code
def yX8_init : MethodName := ⟨RX8, "<init>", "(Ljava/lang/String;I)V"⟩
theorem dX8_init_0 : decode cX8_init 0 = .ok (.aload_n 0, 1) := by decide +kernel
theorem dX8_init_1 : decode cX8_init 1 = .ok (.invokespecial 1, 3) := by decide +kernel
theorem dX8_init_4 : decode cX8_init 4 = .ok (.aload_n 0, 1) := by decide +kernel
theorem dX8_init_5 : decode cX8_init 5 = .ok (.new 7, 3) := by decide +kernel
theorem dX8_init_8 : decode cX8_init 8 = .ok (.dup, 1) := by decide +kernel
theorem dX8_init_9 : decode cX8_init 9 = .ok (.iconst 1, 1) := by decide +kernel
theorem dX8_init_10 : decode cX8_init 10 = .ok (.invokespecial 9, 3) := by decide +kernel
theorem dX8_init_13 : decode cX8_init 13 = .ok (.putfield 12, 3) := by decide +kernel
theorem dX8_init_16 : decode cX8_init 16 = .ok (.aload_n 0, 1) := by decide +kernel
theorem dX8_init_17 : decode cX8_init 17 = .ok (.new 7, 3) := by decide +kernel
theorem dX8_init_20 : decode cX8_init 20 = .ok (.dup, 1) := by decide +kernel
theorem dX8_init_21 : decode cX8_init 21 = .ok (.iconst 2, 1) := by decide +kernel
theorem dX8_init_22 : decode cX8_init 22 = .ok (.invokespecial 9, 3) := by decide +kernel
theorem dX8_init_25 : decode cX8_init 25 = .ok (.putfield 18, 3) := by decide +kernel
theorem dX8_init_28 : decode cX8_init 28 = .ok (.aload_n 0, 1) := by decide +kernel
theorem dX8_init_29 : decode cX8_init 29 = .ok (.aload_n 1, 1) := by decide +kernel
theorem dX8_init_30 : decode cX8_init 30 = .ok (.putfield 21, 3) := by decide +kernel
theorem dX8_init_33 : decode cX8_init 33 = .ok (.aload_n 0, 1) := by decide +kernel
theorem dX8_init_34 : decode cX8_init 34 = .ok (.iload_n 2, 1) := by decide +kernel
theorem dX8_init_35 : decode cX8_init 35 = .ok (.putfield 25, 3) := by decide +kernel
theorem dX8_init_38 : decode cX8_init 38 = .ok (.return_, 1) := by decide +kernel
theorem q185 : (Jvm.Cond.initialized "FeatherBench$Head") ∈ lw_all := lw_g (lw_at lw_m1 26 rfl) rfl
theorem q912 : (Jvm.Cond.selects "FeatherBench$Head" ({ cls := "java/lang/Object", name := "getClass", desc := "()Ljava/lang/Class;" } : Jvm.MethodName) ({ cls := "java/lang/Object", name := "getClass", desc := "()Ljava/lang/Class;" } : Jvm.MethodName)) ∈ lw_all := lw_g (lw_at lw_m4 33 rfl) rfl
theorem q965 : (Jvm.Cond.instantiable "FeatherBench$Head" (5 : Nat)) ∈ lw_all := lw_g (lw_at lw_m4 86 rfl) rfl
theorem q967 : (Jvm.Cond.instanceMethod ({ cls := "FeatherBench$Head", name := "<init>", desc := "(Ljava/lang/String;I)V" } : Jvm.MethodName)) ∈ lw_all := lw_g (lw_at lw_m4 88 rfl) rfl
theorem q968 : (Jvm.Cond.code ({ cls := "FeatherBench$Head", name := "<init>", desc := "(Ljava/lang/String;I)V" } : Jvm.MethodName) prog_12_method_1_code (3 : Nat) (Option.none : Option Jvm.ClassFile.FieldType)) ∈ lw_all := lw_g (lw_at lw_m4 89 rfl) rfl
theorem q969 : (Jvm.Cond.methodLink "FeatherBench$Head" (1 : Nat) ({ cls := "java/lang/Object", name := "<init>", desc := "()V" } : Jvm.MethodName)) ∈ lw_all := lw_g (lw_at lw_m4 90 rfl) rfl
theorem q970 : (Jvm.Cond.classLink "FeatherBench$Head" (7 : Nat) "java/util/ArrayList") ∈ lw_all := lw_g (lw_at lw_m4 91 rfl) rfl
theorem q971 : (Jvm.Cond.methodLink "FeatherBench$Head" (9 : Nat) ({ cls := "java/util/ArrayList", name := "<init>", desc := "(I)V" } : Jvm.MethodName)) ∈ lw_all := lw_g (lw_at lw_m4 92 rfl) rfl
theorem q973 : (Jvm.Cond.fieldLink "FeatherBench$Head" (21 : Nat) "FeatherBench$Head" "name" "Ljava/lang/String;") ∈ lw_all := lw_g (lw_at lw_m4 94 rfl) rfl
theorem q975 : (Jvm.Cond.fieldLink "FeatherBench$Head" (25 : Nat) "FeatherBench$Head" "at" "I") ∈ lw_all := lw_g (lw_at lw_m4 96 rfl) rfl
theorem q977 : (Jvm.Cond.fieldLink "FeatherBench$Head" (12 : Nat) "FeatherBench$Head" "formals" "Ljava/util/ArrayList;") ∈ lw_all := lw_g (lw_at lw_m4 98 rfl) rfl
theorem q982 : (Jvm.Cond.fieldLink "FeatherBench$Head" (18 : Nat) "FeatherBench$Head" "vars" "Ljava/util/ArrayList;") ∈ lw_all := lw_g (lw_at lw_m4 103 rfl) rfl
theorem q989 : (Jvm.Cond.laysFinal "FeatherBench$Head" "FeatherBench$Head" "name" "Ljava/lang/String;") ∈ lw_all := lw_g (lw_at lw_m4 110 rfl) rfl
theorem q990 : (Jvm.Cond.soleField "FeatherBench$Head" "name") ∈ lw_all := lw_g (lw_at lw_m4 111 rfl) rfl
theorem q991 : (Jvm.Cond.laysFinal "FeatherBench$Head" "FeatherBench$Head" "at" "I") ∈ lw_all := lw_g (lw_at lw_m4 112 rfl) rfl
theorem q992 : (Jvm.Cond.soleField "FeatherBench$Head" "at") ∈ lw_all := lw_g (lw_at lw_m4 113 rfl) rfl
theorem q993 : (Jvm.Cond.laysFinal "FeatherBench$Head" "FeatherBench$Head" "formals" "Ljava/util/ArrayList;") ∈ lw_all := lw_g (lw_at lw_m4 114 rfl) rfl
theorem q994 : (Jvm.Cond.soleField "FeatherBench$Head" "formals") ∈ lw_all := lw_g (lw_at lw_m4 115 rfl) rfl
theorem q995 : (Jvm.Cond.laysFinal "FeatherBench$Head" "FeatherBench$Head" "vars" "Ljava/util/ArrayList;") ∈ lw_all := lw_g (lw_at lw_m4 116 rfl) rfl
theorem q996 : (Jvm.Cond.soleField "FeatherBench$Head" "vars") ∈ lw_all := lw_g (lw_at lw_m4 117 rfl) rfl
theorem q997 : (Jvm.Cond.lays "FeatherBench$Head" "FeatherBench$Head" "result" "LFeatherBench$Tree;") ∈ lw_all := lw_g (lw_at lw_m4 118 rfl) rfl
theorem q998 : (Jvm.Cond.soleField "FeatherBench$Head" "result") ∈ lw_all := lw_g (lw_at lw_m4 119 rfl) rfl
theorem q999 : (Jvm.Cond.superclass "FeatherBench$Head" "java/lang/Object") ∈ lw_all := lw_g (lw_at lw_m4 120 rfl) rfl
theorem q1412 : (Jvm.Cond.selects "FeatherBench$Head" ({ cls := "java/lang/Object", name := "equals", desc := "(Ljava/lang/Object;)Z" } : Jvm.MethodName) ({ cls := "java/lang/Object", name := "equals", desc := "(Ljava/lang/Object;)Z" } : Jvm.MethodName)) ∈ lw_all := lw_g (lw_at lw_m6 53 rfl) rfl
theorem q2706 : (Jvm.Cond.castable "FeatherBench$Head" "java/lang/Object") ∈ lw_tbl := lw_at lw_m11 147 rfl
theorem in_X8 : ∀ w ∈ wsX80, w ∈ lw_all := lw_in wsX80 [989, 991, 993, 995, 997] (by decide +kernel) (by decide +kernel)
/-! FeatherBench$Func -/
def RX9 : String := "FeatherBench$Func"
def TX9 : u_T := fun k => match k with
  | 0 => ("FeatherBench$Func", "self", "LFeatherBench$Var;", true)
  | 1 => ("FeatherBench$Func", "name", "Ljava/lang/String;", true)
  | 2 => ("FeatherBench$Func", "at", "I", true)
  | 3 => ("FeatherBench$Func", "params", "Ljava/util/ArrayList;", true)
  | 4 => ("FeatherBench$Func", "decl", "LFeatherBench$Decl;", false)
  | 5 => ("FeatherBench$Func", "head", "LFeatherBench$Head;", false)
  | _ => ("FeatherBench$Func", "body", "LFeatherBench$Exp;", false)
def tyX9 : Nat → FieldType := fun k => match k with
  | 0 => .object "FeatherBench$Var"
  | 1 => .object "java/lang/String"
  | 2 => .int
  | 3 => .object "java/util/ArrayList"
  | 4 => .object "FeatherBench$Decl"
  | 5 => .object "FeatherBench$Head"
  | _ => .object "FeatherBench$Exp"
abbrev wsX90 : List Cond := u_ws RX9 TX9 7
theorem nmX9 : ∀ a, a < 7 → ∀ b, b < 7 → a ≠ b → (TX9 a).2.1 ≠ (TX9 b).2.1 := by decide +kernel
theorem tyX9_ok : ∀ k, k < 7 → parseFieldDescriptor (TX9 k).2.2.1 = some (tyX9 k) := by decide +kernel
abbrev cX9_init : ByteArray := prog_10_method_1_code
def yX9_init : MethodName := ⟨RX9, "<init>", "(LFeatherBench$Var;Ljava/lang/String;I)V"⟩
theorem dX9_init_0 : decode cX9_init 0 = .ok (.aload_n 0, 1) := by decide +kernel
theorem dX9_init_1 : decode cX9_init 1 = .ok (.invokespecial 1, 3) := by decide +kernel
theorem dX9_init_4 : decode cX9_init 4 = .ok (.aload_n 0, 1) := by decide +kernel
theorem dX9_init_5 : decode cX9_init 5 = .ok (.new 7, 3) := by decide +kernel
theorem dX9_init_8 : decode cX9_init 8 = .ok (.dup, 1) := by decide +kernel
theorem dX9_init_9 : decode cX9_init 9 = .ok (.iconst 1, 1) := by decide +kernel
theorem dX9_init_10 : decode cX9_init 10 = .ok (.invokespecial 9, 3) := by decide +kernel
theorem dX9_init_13 : decode cX9_init 13 = .ok (.putfield 12, 3) := by decide +kernel
theorem dX9_init_16 : decode cX9_init 16 = .ok (.aload_n 0, 1) := by decide +kernel
theorem dX9_init_17 : decode cX9_init 17 = .ok (.aload_n 1, 1) := by decide +kernel
theorem dX9_init_18 : decode cX9_init 18 = .ok (.putfield 18, 3) := by decide +kernel
theorem dX9_init_21 : decode cX9_init 21 = .ok (.aload_n 0, 1) := by decide +kernel
theorem dX9_init_22 : decode cX9_init 22 = .ok (.aload_n 2, 1) := by decide +kernel
theorem dX9_init_23 : decode cX9_init 23 = .ok (.putfield 22, 3) := by decide +kernel
theorem dX9_init_26 : decode cX9_init 26 = .ok (.aload_n 0, 1) := by decide +kernel
theorem dX9_init_27 : decode cX9_init 27 = .ok (.iload_n 3, 1) := by decide +kernel
theorem dX9_init_28 : decode cX9_init 28 = .ok (.putfield 26, 3) := by decide +kernel
theorem dX9_init_31 : decode cX9_init 31 = .ok (.return_, 1) := by decide +kernel
theorem q186 : (Jvm.Cond.initialized "FeatherBench$Func") ∈ lw_all := lw_g (lw_at lw_m1 27 rfl) rfl
theorem q910 : (Jvm.Cond.selects "FeatherBench$Func" ({ cls := "java/lang/Object", name := "getClass", desc := "()Ljava/lang/Class;" } : Jvm.MethodName) ({ cls := "java/lang/Object", name := "getClass", desc := "()Ljava/lang/Class;" } : Jvm.MethodName)) ∈ lw_all := lw_g (lw_at lw_m4 31 rfl) rfl
theorem q1006 : (Jvm.Cond.instantiable "FeatherBench$Func" (7 : Nat)) ∈ lw_all := lw_g (lw_at lw_m4 127 rfl) rfl
theorem q1008 : (Jvm.Cond.instanceMethod ({ cls := "FeatherBench$Func", name := "<init>", desc := "(LFeatherBench$Var;Ljava/lang/String;I)V" } : Jvm.MethodName)) ∈ lw_all := lw_g (lw_at lw_m4 129 rfl) rfl
theorem q1009 : (Jvm.Cond.code ({ cls := "FeatherBench$Func", name := "<init>", desc := "(LFeatherBench$Var;Ljava/lang/String;I)V" } : Jvm.MethodName) prog_10_method_1_code (4 : Nat) (Option.none : Option Jvm.ClassFile.FieldType)) ∈ lw_all := lw_g (lw_at lw_m4 130 rfl) rfl
theorem q1010 : (Jvm.Cond.methodLink "FeatherBench$Func" (1 : Nat) ({ cls := "java/lang/Object", name := "<init>", desc := "()V" } : Jvm.MethodName)) ∈ lw_all := lw_g (lw_at lw_m4 131 rfl) rfl
theorem q1011 : (Jvm.Cond.classLink "FeatherBench$Func" (7 : Nat) "java/util/ArrayList") ∈ lw_all := lw_g (lw_at lw_m4 132 rfl) rfl
theorem q1012 : (Jvm.Cond.methodLink "FeatherBench$Func" (9 : Nat) ({ cls := "java/util/ArrayList", name := "<init>", desc := "(I)V" } : Jvm.MethodName)) ∈ lw_all := lw_g (lw_at lw_m4 133 rfl) rfl
theorem q1013 : (Jvm.Cond.fieldLink "FeatherBench$Func" (18 : Nat) "FeatherBench$Func" "self" "LFeatherBench$Var;") ∈ lw_all := lw_g (lw_at lw_m4 134 rfl) rfl
theorem q1015 : (Jvm.Cond.fieldLink "FeatherBench$Func" (22 : Nat) "FeatherBench$Func" "name" "Ljava/lang/String;") ∈ lw_all := lw_g (lw_at lw_m4 136 rfl) rfl
theorem q1017 : (Jvm.Cond.fieldLink "FeatherBench$Func" (26 : Nat) "FeatherBench$Func" "at" "I") ∈ lw_all := lw_g (lw_at lw_m4 138 rfl) rfl
theorem q1019 : (Jvm.Cond.fieldLink "FeatherBench$Func" (12 : Nat) "FeatherBench$Func" "params" "Ljava/util/ArrayList;") ∈ lw_all := lw_g (lw_at lw_m4 140 rfl) rfl
theorem q1031 : (Jvm.Cond.laysFinal "FeatherBench$Func" "FeatherBench$Func" "self" "LFeatherBench$Var;") ∈ lw_all := lw_g (lw_at lw_m4 152 rfl) rfl
theorem q1032 : (Jvm.Cond.soleField "FeatherBench$Func" "self") ∈ lw_all := lw_g (lw_at lw_m4 153 rfl) rfl
theorem q1033 : (Jvm.Cond.laysFinal "FeatherBench$Func" "FeatherBench$Func" "name" "Ljava/lang/String;") ∈ lw_all := lw_g (lw_at lw_m4 154 rfl) rfl
theorem q1034 : (Jvm.Cond.soleField "FeatherBench$Func" "name") ∈ lw_all := lw_g (lw_at lw_m4 155 rfl) rfl
theorem q1035 : (Jvm.Cond.laysFinal "FeatherBench$Func" "FeatherBench$Func" "at" "I") ∈ lw_all := lw_g (lw_at lw_m4 156 rfl) rfl
theorem q1036 : (Jvm.Cond.soleField "FeatherBench$Func" "at") ∈ lw_all := lw_g (lw_at lw_m4 157 rfl) rfl
theorem q1037 : (Jvm.Cond.laysFinal "FeatherBench$Func" "FeatherBench$Func" "params" "Ljava/util/ArrayList;") ∈ lw_all := lw_g (lw_at lw_m4 158 rfl) rfl
theorem q1038 : (Jvm.Cond.soleField "FeatherBench$Func" "params") ∈ lw_all := lw_g (lw_at lw_m4 159 rfl) rfl
theorem q1039 : (Jvm.Cond.lays "FeatherBench$Func" "FeatherBench$Func" "decl" "LFeatherBench$Decl;") ∈ lw_all := lw_g (lw_at lw_m4 160 rfl) rfl
theorem q1040 : (Jvm.Cond.soleField "FeatherBench$Func" "decl") ∈ lw_all := lw_g (lw_at lw_m4 161 rfl) rfl
theorem q1041 : (Jvm.Cond.lays "FeatherBench$Func" "FeatherBench$Func" "head" "LFeatherBench$Head;") ∈ lw_all := lw_g (lw_at lw_m4 162 rfl) rfl
theorem q1042 : (Jvm.Cond.soleField "FeatherBench$Func" "head") ∈ lw_all := lw_g (lw_at lw_m4 163 rfl) rfl
theorem q1043 : (Jvm.Cond.lays "FeatherBench$Func" "FeatherBench$Func" "body" "LFeatherBench$Exp;") ∈ lw_all := lw_g (lw_at lw_m4 164 rfl) rfl
theorem q1044 : (Jvm.Cond.soleField "FeatherBench$Func" "body") ∈ lw_all := lw_g (lw_at lw_m4 165 rfl) rfl
theorem q1045 : (Jvm.Cond.superclass "FeatherBench$Func" "java/lang/Object") ∈ lw_all := lw_g (lw_at lw_m4 166 rfl) rfl
theorem q1410 : (Jvm.Cond.selects "FeatherBench$Func" ({ cls := "java/lang/Object", name := "equals", desc := "(Ljava/lang/Object;)Z" } : Jvm.MethodName) ({ cls := "java/lang/Object", name := "equals", desc := "(Ljava/lang/Object;)Z" } : Jvm.MethodName)) ∈ lw_all := lw_g (lw_at lw_m6 51 rfl) rfl
theorem q2707 : (Jvm.Cond.castable "FeatherBench$Func" "java/lang/Object") ∈ lw_tbl := lw_at lw_m11 148 rfl
theorem in_X9 : ∀ w ∈ wsX90, w ∈ lw_all := lw_in wsX90 [1031, 1033, 1035, 1037, 1039, 1041, 1043] (by decide +kernel) (by decide +kernel)
/-! FeatherBench$Exp -/
def RX10 : String := "FeatherBench$Exp"
def TX10 : u_T := fun k => match k with
  | 0 => ("FeatherBench$Exp", "at", "I", true)
  | 1 => ("FeatherBench$Exp", "var", "Ljava/lang/String;", false)
  | 2 => ("FeatherBench$Exp", "varNumber", "I", false)
  | 3 => ("FeatherBench$Exp", "tree", "LFeatherBench$Tree;", false)
  | 4 => ("FeatherBench$Exp", "parts", "Ljava/util/ArrayList;", true)
  | _ => ("FeatherBench$Exp", "dots", "Ljava/util/ArrayList;", true)
def tyX10 : Nat → FieldType := fun k => match k with
  | 0 => .int
  | 1 => .object "java/lang/String"
  | 2 => .int
  | 3 => .object "FeatherBench$Tree"
  | 4 => .object "java/util/ArrayList"
  | _ => .object "java/util/ArrayList"
abbrev wsX100 : List Cond := u_ws RX10 TX10 6
theorem nmX10 : ∀ a, a < 6 → ∀ b, b < 6 → a ≠ b → (TX10 a).2.1 ≠ (TX10 b).2.1 := by decide +kernel
theorem tyX10_ok : ∀ k, k < 6 → parseFieldDescriptor (TX10 k).2.2.1 = some (tyX10 k) := by decide +kernel
abbrev cX10_init : ByteArray := prog_8_method_1_code
def yX10_init : MethodName := ⟨RX10, "<init>", "(I)V"⟩
theorem dX10_init_0 : decode cX10_init 0 = .ok (.aload_n 0, 1) := by decide +kernel
theorem dX10_init_1 : decode cX10_init 1 = .ok (.invokespecial 1, 3) := by decide +kernel
theorem dX10_init_4 : decode cX10_init 4 = .ok (.aload_n 0, 1) := by decide +kernel
theorem dX10_init_5 : decode cX10_init 5 = .ok (.new 7, 3) := by decide +kernel
theorem dX10_init_8 : decode cX10_init 8 = .ok (.dup, 1) := by decide +kernel
theorem dX10_init_9 : decode cX10_init 9 = .ok (.iconst 2, 1) := by decide +kernel
theorem dX10_init_10 : decode cX10_init 10 = .ok (.invokespecial 9, 3) := by decide +kernel
theorem dX10_init_13 : decode cX10_init 13 = .ok (.putfield 12, 3) := by decide +kernel
theorem dX10_init_16 : decode cX10_init 16 = .ok (.aload_n 0, 1) := by decide +kernel
theorem dX10_init_17 : decode cX10_init 17 = .ok (.new 7, 3) := by decide +kernel
theorem dX10_init_20 : decode cX10_init 20 = .ok (.dup, 1) := by decide +kernel
theorem dX10_init_21 : decode cX10_init 21 = .ok (.iconst 1, 1) := by decide +kernel
theorem dX10_init_22 : decode cX10_init 22 = .ok (.invokespecial 9, 3) := by decide +kernel
theorem dX10_init_25 : decode cX10_init 25 = .ok (.putfield 18, 3) := by decide +kernel
theorem dX10_init_28 : decode cX10_init 28 = .ok (.aload_n 0, 1) := by decide +kernel
theorem dX10_init_29 : decode cX10_init 29 = .ok (.iload_n 1, 1) := by decide +kernel
theorem dX10_init_30 : decode cX10_init 30 = .ok (.putfield 21, 3) := by decide +kernel
theorem dX10_init_33 : decode cX10_init 33 = .ok (.return_, 1) := by decide +kernel
theorem q187 : (Jvm.Cond.initialized "FeatherBench$Exp") ∈ lw_all := lw_g (lw_at lw_m1 28 rfl) rfl
theorem q908 : (Jvm.Cond.selects "FeatherBench$Exp" ({ cls := "java/lang/Object", name := "getClass", desc := "()Ljava/lang/Class;" } : Jvm.MethodName) ({ cls := "java/lang/Object", name := "getClass", desc := "()Ljava/lang/Class;" } : Jvm.MethodName)) ∈ lw_all := lw_g (lw_at lw_m4 29 rfl) rfl
theorem q1056 : (Jvm.Cond.instantiable "FeatherBench$Exp" (6 : Nat)) ∈ lw_all := lw_g (lw_at lw_m4 177 rfl) rfl
theorem q1058 : (Jvm.Cond.instanceMethod ({ cls := "FeatherBench$Exp", name := "<init>", desc := "(I)V" } : Jvm.MethodName)) ∈ lw_all := lw_g (lw_at lw_m4 179 rfl) rfl
theorem q1059 : (Jvm.Cond.code ({ cls := "FeatherBench$Exp", name := "<init>", desc := "(I)V" } : Jvm.MethodName) prog_8_method_1_code (2 : Nat) (Option.none : Option Jvm.ClassFile.FieldType)) ∈ lw_all := lw_g (lw_at lw_m4 180 rfl) rfl
theorem q1060 : (Jvm.Cond.methodLink "FeatherBench$Exp" (1 : Nat) ({ cls := "java/lang/Object", name := "<init>", desc := "()V" } : Jvm.MethodName)) ∈ lw_all := lw_g (lw_at lw_m4 181 rfl) rfl
theorem q1061 : (Jvm.Cond.classLink "FeatherBench$Exp" (7 : Nat) "java/util/ArrayList") ∈ lw_all := lw_g (lw_at lw_m4 182 rfl) rfl
theorem q1062 : (Jvm.Cond.methodLink "FeatherBench$Exp" (9 : Nat) ({ cls := "java/util/ArrayList", name := "<init>", desc := "(I)V" } : Jvm.MethodName)) ∈ lw_all := lw_g (lw_at lw_m4 183 rfl) rfl
theorem q1063 : (Jvm.Cond.fieldLink "FeatherBench$Exp" (21 : Nat) "FeatherBench$Exp" "at" "I") ∈ lw_all := lw_g (lw_at lw_m4 184 rfl) rfl
theorem q1074 : (Jvm.Cond.fieldLink "FeatherBench$Exp" (12 : Nat) "FeatherBench$Exp" "parts" "Ljava/util/ArrayList;") ∈ lw_all := lw_g (lw_at lw_m4 195 rfl) rfl
theorem q1079 : (Jvm.Cond.fieldLink "FeatherBench$Exp" (18 : Nat) "FeatherBench$Exp" "dots" "Ljava/util/ArrayList;") ∈ lw_all := lw_g (lw_at lw_m4 200 rfl) rfl
theorem q1084 : (Jvm.Cond.laysFinal "FeatherBench$Exp" "FeatherBench$Exp" "at" "I") ∈ lw_all := lw_g (lw_at lw_m4 205 rfl) rfl
theorem q1085 : (Jvm.Cond.soleField "FeatherBench$Exp" "at") ∈ lw_all := lw_g (lw_at lw_m4 206 rfl) rfl
theorem q1086 : (Jvm.Cond.lays "FeatherBench$Exp" "FeatherBench$Exp" "var" "Ljava/lang/String;") ∈ lw_all := lw_g (lw_at lw_m4 207 rfl) rfl
theorem q1087 : (Jvm.Cond.soleField "FeatherBench$Exp" "var") ∈ lw_all := lw_g (lw_at lw_m4 208 rfl) rfl
theorem q1088 : (Jvm.Cond.lays "FeatherBench$Exp" "FeatherBench$Exp" "varNumber" "I") ∈ lw_all := lw_g (lw_at lw_m4 209 rfl) rfl
theorem q1089 : (Jvm.Cond.soleField "FeatherBench$Exp" "varNumber") ∈ lw_all := lw_g (lw_at lw_m4 210 rfl) rfl
theorem q1090 : (Jvm.Cond.lays "FeatherBench$Exp" "FeatherBench$Exp" "tree" "LFeatherBench$Tree;") ∈ lw_all := lw_g (lw_at lw_m4 211 rfl) rfl
theorem q1091 : (Jvm.Cond.soleField "FeatherBench$Exp" "tree") ∈ lw_all := lw_g (lw_at lw_m4 212 rfl) rfl
theorem q1092 : (Jvm.Cond.laysFinal "FeatherBench$Exp" "FeatherBench$Exp" "parts" "Ljava/util/ArrayList;") ∈ lw_all := lw_g (lw_at lw_m4 213 rfl) rfl
theorem q1093 : (Jvm.Cond.soleField "FeatherBench$Exp" "parts") ∈ lw_all := lw_g (lw_at lw_m4 214 rfl) rfl
theorem q1094 : (Jvm.Cond.laysFinal "FeatherBench$Exp" "FeatherBench$Exp" "dots" "Ljava/util/ArrayList;") ∈ lw_all := lw_g (lw_at lw_m4 215 rfl) rfl
theorem q1095 : (Jvm.Cond.soleField "FeatherBench$Exp" "dots") ∈ lw_all := lw_g (lw_at lw_m4 216 rfl) rfl
theorem q1096 : (Jvm.Cond.superclass "FeatherBench$Exp" "java/lang/Object") ∈ lw_all := lw_g (lw_at lw_m4 217 rfl) rfl
theorem q1408 : (Jvm.Cond.selects "FeatherBench$Exp" ({ cls := "java/lang/Object", name := "equals", desc := "(Ljava/lang/Object;)Z" } : Jvm.MethodName) ({ cls := "java/lang/Object", name := "equals", desc := "(Ljava/lang/Object;)Z" } : Jvm.MethodName)) ∈ lw_all := lw_g (lw_at lw_m6 49 rfl) rfl
theorem q2708 : (Jvm.Cond.castable "FeatherBench$Exp" "java/lang/Object") ∈ lw_tbl := lw_at lw_m11 149 rfl
theorem in_X10 : ∀ w ∈ wsX100, w ∈ lw_all := lw_in wsX100 [1084, 1086, 1088, 1090, 1092, 1094] (by decide +kernel) (by decide +kernel)
/-! FeatherBench$Dot -/
def RX11 : String := "FeatherBench$Dot"
def TX11 : u_T := fun k => match k with
  | 0 => ("FeatherBench$Dot", "kind", "I", true)
  | 1 => ("FeatherBench$Dot", "at", "I", true)
  | 2 => ("FeatherBench$Dot", "word", "Ljava/lang/String;", false)
  | 3 => ("FeatherBench$Dot", "wordAt", "I", false)
  | 4 => ("FeatherBench$Dot", "field", "I", false)
  | 5 => ("FeatherBench$Dot", "types", "Ljava/util/ArrayList;", true)
  | 6 => ("FeatherBench$Dot", "args", "Ljava/util/ArrayList;", true)
  | 7 => ("FeatherBench$Dot", "tree", "LFeatherBench$Tree;", false)
  | _ => ("FeatherBench$Dot", "ahead", "LFeatherBench$Ty;", false)
def tyX11 : Nat → FieldType := fun k => match k with
  | 0 => .int
  | 1 => .int
  | 2 => .object "java/lang/String"
  | 3 => .int
  | 4 => .int
  | 5 => .object "java/util/ArrayList"
  | 6 => .object "java/util/ArrayList"
  | 7 => .object "FeatherBench$Tree"
  | _ => .object "FeatherBench$Ty"
abbrev wsX110 : List Cond := u_ws RX11 TX11 9
theorem nmX11 : ∀ a, a < 9 → ∀ b, b < 9 → a ≠ b → (TX11 a).2.1 ≠ (TX11 b).2.1 := by decide +kernel
theorem tyX11_ok : ∀ k, k < 9 → parseFieldDescriptor (TX11 k).2.2.1 = some (tyX11 k) := by decide +kernel
abbrev cX11_init : ByteArray := prog_5_method_1_code
def yX11_init : MethodName := ⟨RX11, "<init>", "(II)V"⟩
theorem dX11_init_0 : decode cX11_init 0 = .ok (.aload_n 0, 1) := by decide +kernel
theorem dX11_init_1 : decode cX11_init 1 = .ok (.invokespecial 1, 3) := by decide +kernel
theorem dX11_init_4 : decode cX11_init 4 = .ok (.aload_n 0, 1) := by decide +kernel
theorem dX11_init_5 : decode cX11_init 5 = .ok (.new 7, 3) := by decide +kernel
theorem dX11_init_8 : decode cX11_init 8 = .ok (.dup, 1) := by decide +kernel
theorem dX11_init_9 : decode cX11_init 9 = .ok (.iconst 1, 1) := by decide +kernel
theorem dX11_init_10 : decode cX11_init 10 = .ok (.invokespecial 9, 3) := by decide +kernel
theorem dX11_init_13 : decode cX11_init 13 = .ok (.putfield 12, 3) := by decide +kernel
theorem dX11_init_16 : decode cX11_init 16 = .ok (.aload_n 0, 1) := by decide +kernel
theorem dX11_init_17 : decode cX11_init 17 = .ok (.new 7, 3) := by decide +kernel
theorem dX11_init_20 : decode cX11_init 20 = .ok (.dup, 1) := by decide +kernel
theorem dX11_init_21 : decode cX11_init 21 = .ok (.iconst 1, 1) := by decide +kernel
theorem dX11_init_22 : decode cX11_init 22 = .ok (.invokespecial 9, 3) := by decide +kernel
theorem dX11_init_25 : decode cX11_init 25 = .ok (.putfield 18, 3) := by decide +kernel
theorem dX11_init_28 : decode cX11_init 28 = .ok (.aload_n 0, 1) := by decide +kernel
theorem dX11_init_29 : decode cX11_init 29 = .ok (.iload_n 1, 1) := by decide +kernel
theorem dX11_init_30 : decode cX11_init 30 = .ok (.putfield 21, 3) := by decide +kernel
theorem dX11_init_33 : decode cX11_init 33 = .ok (.aload_n 0, 1) := by decide +kernel
theorem dX11_init_34 : decode cX11_init 34 = .ok (.iload_n 2, 1) := by decide +kernel
theorem dX11_init_35 : decode cX11_init 35 = .ok (.putfield 25, 3) := by decide +kernel
theorem dX11_init_38 : decode cX11_init 38 = .ok (.return_, 1) := by decide +kernel
theorem q188 : (Jvm.Cond.initialized "FeatherBench$Dot") ∈ lw_all := lw_g (lw_at lw_m1 29 rfl) rfl
theorem q905 : (Jvm.Cond.selects "FeatherBench$Dot" ({ cls := "java/lang/Object", name := "getClass", desc := "()Ljava/lang/Class;" } : Jvm.MethodName) ({ cls := "java/lang/Object", name := "getClass", desc := "()Ljava/lang/Class;" } : Jvm.MethodName)) ∈ lw_all := lw_g (lw_at lw_m4 26 rfl) rfl
theorem q1110 : (Jvm.Cond.instantiable "FeatherBench$Dot" (9 : Nat)) ∈ lw_all := lw_g (lw_at lw_m4 231 rfl) rfl
theorem q1112 : (Jvm.Cond.instanceMethod ({ cls := "FeatherBench$Dot", name := "<init>", desc := "(II)V" } : Jvm.MethodName)) ∈ lw_all := lw_g (lw_at lw_m4 233 rfl) rfl
theorem q1113 : (Jvm.Cond.code ({ cls := "FeatherBench$Dot", name := "<init>", desc := "(II)V" } : Jvm.MethodName) prog_5_method_1_code (3 : Nat) (Option.none : Option Jvm.ClassFile.FieldType)) ∈ lw_all := lw_g (lw_at lw_m4 234 rfl) rfl
theorem q1114 : (Jvm.Cond.methodLink "FeatherBench$Dot" (1 : Nat) ({ cls := "java/lang/Object", name := "<init>", desc := "()V" } : Jvm.MethodName)) ∈ lw_all := lw_g (lw_at lw_m4 235 rfl) rfl
theorem q1115 : (Jvm.Cond.classLink "FeatherBench$Dot" (7 : Nat) "java/util/ArrayList") ∈ lw_all := lw_g (lw_at lw_m4 236 rfl) rfl
theorem q1116 : (Jvm.Cond.methodLink "FeatherBench$Dot" (9 : Nat) ({ cls := "java/util/ArrayList", name := "<init>", desc := "(I)V" } : Jvm.MethodName)) ∈ lw_all := lw_g (lw_at lw_m4 237 rfl) rfl
theorem q1117 : (Jvm.Cond.fieldLink "FeatherBench$Dot" (21 : Nat) "FeatherBench$Dot" "kind" "I") ∈ lw_all := lw_g (lw_at lw_m4 238 rfl) rfl
theorem q1121 : (Jvm.Cond.fieldLink "FeatherBench$Dot" (25 : Nat) "FeatherBench$Dot" "at" "I") ∈ lw_all := lw_g (lw_at lw_m5 2 rfl) rfl
theorem q1132 : (Jvm.Cond.fieldLink "FeatherBench$Dot" (12 : Nat) "FeatherBench$Dot" "types" "Ljava/util/ArrayList;") ∈ lw_all := lw_g (lw_at lw_m5 13 rfl) rfl
theorem q1137 : (Jvm.Cond.fieldLink "FeatherBench$Dot" (18 : Nat) "FeatherBench$Dot" "args" "Ljava/util/ArrayList;") ∈ lw_all := lw_g (lw_at lw_m5 18 rfl) rfl
theorem q1148 : (Jvm.Cond.laysFinal "FeatherBench$Dot" "FeatherBench$Dot" "kind" "I") ∈ lw_all := lw_g (lw_at lw_m5 29 rfl) rfl
theorem q1149 : (Jvm.Cond.soleField "FeatherBench$Dot" "kind") ∈ lw_all := lw_g (lw_at lw_m5 30 rfl) rfl
theorem q1150 : (Jvm.Cond.laysFinal "FeatherBench$Dot" "FeatherBench$Dot" "at" "I") ∈ lw_all := lw_g (lw_at lw_m5 31 rfl) rfl
theorem q1151 : (Jvm.Cond.soleField "FeatherBench$Dot" "at") ∈ lw_all := lw_g (lw_at lw_m5 32 rfl) rfl
theorem q1152 : (Jvm.Cond.lays "FeatherBench$Dot" "FeatherBench$Dot" "word" "Ljava/lang/String;") ∈ lw_all := lw_g (lw_at lw_m5 33 rfl) rfl
theorem q1153 : (Jvm.Cond.soleField "FeatherBench$Dot" "word") ∈ lw_all := lw_g (lw_at lw_m5 34 rfl) rfl
