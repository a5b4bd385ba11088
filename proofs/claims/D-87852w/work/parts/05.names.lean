set_option maxRecDepth 100000
theorem dX1_func_99 : decode cX1_func 99 = .ok (.iload 4, 2) := by decide +kernel
theorem dX1_func_101 : decode cX1_func 101 = .ok (.invokespecial 189, 3) := by decide +kernel
theorem dX1_func_104 : decode cX1_func 104 = .ok (.invokevirtual 176, 3) := by decide +kernel
theorem dX1_func_107 : decode cX1_func 107 = .ok (.pop, 1) := by decide +kernel
theorem dX1_func_108 : decode cX1_func 108 = .ok (.aload_n 0, 1) := by decide +kernel
theorem dX1_func_109 : decode cX1_func 109 = .ok (.bipush 44, 2) := by decide +kernel
theorem dX1_func_111 : decode cX1_func 111 = .ok (.invokevirtual 79, 3) := by decide +kernel
theorem dX1_func_114 : decode cX1_func 114 = .ok (.ifCond .ne (-40), 3) := by decide +kernel
theorem dX1_func_117 : decode cX1_func 117 = .ok (.aload_n 0, 1) := by decide +kernel
theorem dX1_func_118 : decode cX1_func 118 = .ok (.bipush 93, 2) := by decide +kernel
theorem dX1_func_120 : decode cX1_func 120 = .ok (.invokevirtual 132, 3) := by decide +kernel
theorem dX1_func_123 : decode cX1_func 123 = .ok (.aload_n 0, 1) := by decide +kernel
theorem dX1_func_124 : decode cX1_func 124 = .ok (.bipush 41, 2) := by decide +kernel
theorem dX1_func_126 : decode cX1_func 126 = .ok (.invokevirtual 132, 3) := by decide +kernel
theorem dX1_func_129 : decode cX1_func 129 = .ok (.aload_n 3, 1) := by decide +kernel
theorem dX1_func_130 : decode cX1_func 130 = .ok (.aload_n 0, 1) := by decide +kernel
theorem dX1_func_131 : decode cX1_func 131 = .ok (.iconst 0, 1) := by decide +kernel
theorem dX1_func_132 : decode cX1_func 132 = .ok (.invokevirtual 183, 3) := by decide +kernel
theorem dX1_func_135 : decode cX1_func 135 = .ok (.putfield 209, 3) := by decide +kernel
theorem dX1_func_138 : decode cX1_func 138 = .ok (.aload_n 0, 1) := by decide +kernel
theorem dX1_func_139 : decode cX1_func 139 = .ok (.bipush 123, 2) := by decide +kernel
theorem dX1_func_141 : decode cX1_func 141 = .ok (.invokevirtual 132, 3) := by decide +kernel
theorem dX1_func_144 : decode cX1_func 144 = .ok (.aload_n 0, 1) := by decide +kernel
theorem dX1_func_145 : decode cX1_func 145 = .ok (.ldc 212, 2) := by decide +kernel
theorem dX1_func_147 : decode cX1_func 147 = .ok (.invokevirtual 214, 3) := by decide +kernel
theorem dX1_func_150 : decode cX1_func 150 = .ok (.aload_n 3, 1) := by decide +kernel
theorem dX1_func_151 : decode cX1_func 151 = .ok (.aload_n 0, 1) := by decide +kernel
theorem dX1_func_152 : decode cX1_func 152 = .ok (.invokevirtual 125, 3) := by decide +kernel
theorem dX1_func_155 : decode cX1_func 155 = .ok (.putfield 217, 3) := by decide +kernel
theorem dX1_func_158 : decode cX1_func 158 = .ok (.aload_n 0, 1) := by decide +kernel
theorem dX1_func_159 : decode cX1_func 159 = .ok (.bipush 125, 2) := by decide +kernel
theorem dX1_func_161 : decode cX1_func 161 = .ok (.invokevirtual 132, 3) := by decide +kernel
theorem dX1_func_164 : decode cX1_func 164 = .ok (.aload_n 0, 1) := by decide +kernel
theorem dX1_func_165 : decode cX1_func 165 = .ok (.getfield 112, 3) := by decide +kernel
theorem dX1_func_168 : decode cX1_func 168 = .ok (.aload_n 3, 1) := by decide +kernel
theorem dX1_func_169 : decode cX1_func 169 = .ok (.invokevirtual 176, 3) := by decide +kernel
theorem dX1_func_172 : decode cX1_func 172 = .ok (.pop, 1) := by decide +kernel
theorem dX1_func_173 : decode cX1_func 173 = .ok (.return_, 1) := by decide +kernel
abbrev cX1_need_2 : ByteArray := prog_17_method_13_code
def yX1_need_2 : MethodName := ⟨RX1, "need", "(Ljava/lang/String;)V"⟩
theorem dX1_need_2_0 : decode cX1_need_2 0 = .ok (.aload_n 0, 1) := by decide +kernel
theorem dX1_need_2_1 : decode cX1_need_2 1 = .ok (.aload_n 1, 1) := by decide +kernel
theorem dX1_need_2_2 : decode cX1_need_2 2 = .ok (.invokevirtual 86, 3) := by decide +kernel
theorem dX1_need_2_5 : decode cX1_need_2 5 = .ok (.ifCond .ne 9, 3) := by decide +kernel
theorem dX1_need_2_8 : decode cX1_need_2 8 = .ok (.aload_n 0, 1) := by decide +kernel
theorem dX1_need_2_9 : decode cX1_need_2 9 = .ok (.iconst 1, 1) := by decide +kernel
theorem dX1_need_2_10 : decode cX1_need_2 10 = .ok (.invokevirtual 82, 3) := by decide +kernel
theorem dX1_need_2_13 : decode cX1_need_2 13 = .ok (.athrow, 1) := by decide +kernel
theorem dX1_need_2_14 : decode cX1_need_2 14 = .ok (.aload_n 0, 1) := by decide +kernel
theorem dX1_need_2_15 : decode cX1_need_2 15 = .ok (.invokevirtual 25, 3) := by decide +kernel
theorem dX1_need_2_18 : decode cX1_need_2 18 = .ok (.return_, 1) := by decide +kernel
abbrev cX1_e : ByteArray := prog_17_method_26_code
def yX1_e : MethodName := ⟨RX1, "e", "()LFeatherBench$Exp;"⟩
theorem dX1_e_0 : decode cX1_e 0 = .ok (.aload_n 0, 1) := by decide +kernel
theorem dX1_e_1 : decode cX1_e 1 = .ok (.invokevirtual 95, 3) := by decide +kernel
theorem dX1_e_4 : decode cX1_e 4 = .ok (.ifCond .ne 9, 3) := by decide +kernel
theorem dX1_e_7 : decode cX1_e 7 = .ok (.aload_n 0, 1) := by decide +kernel
theorem dX1_e_8 : decode cX1_e 8 = .ok (.iconst 1, 1) := by decide +kernel
theorem dX1_e_9 : decode cX1_e 9 = .ok (.invokevirtual 82, 3) := by decide +kernel
theorem dX1_e_12 : decode cX1_e 12 = .ok (.athrow, 1) := by decide +kernel
theorem dX1_e_13 : decode cX1_e 13 = .ok (.aload_n 0, 1) := by decide +kernel
theorem dX1_e_14 : decode cX1_e 14 = .ok (.invokevirtual 220, 3) := by decide +kernel
theorem dX1_e_17 : decode cX1_e 17 = .ok (.new 235, 3) := by decide +kernel
theorem dX1_e_20 : decode cX1_e 20 = .ok (.dup, 1) := by decide +kernel
theorem dX1_e_21 : decode cX1_e 21 = .ok (.aload_n 0, 1) := by decide +kernel
theorem dX1_e_22 : decode cX1_e 22 = .ok (.getfield 28, 3) := by decide +kernel
theorem dX1_e_25 : decode cX1_e 25 = .ok (.invokespecial 237, 3) := by decide +kernel
theorem dX1_e_28 : decode cX1_e 28 = .ok (.astore_n 1, 1) := by decide +kernel
theorem dX1_e_29 : decode cX1_e 29 = .ok (.aload_n 0, 1) := by decide +kernel
theorem dX1_e_30 : decode cX1_e 30 = .ok (.bipush 123, 2) := by decide +kernel
theorem dX1_e_32 : decode cX1_e 32 = .ok (.invokevirtual 238, 3) := by decide +kernel
theorem dX1_e_35 : decode cX1_e 35 = .ok (.ifCond .ne 12, 3) := by decide +kernel
theorem dX1_e_38 : decode cX1_e 38 = .ok (.aload_n 0, 1) := by decide +kernel
theorem dX1_e_39 : decode cX1_e 39 = .ok (.bipush 91, 2) := by decide +kernel
theorem dX1_e_41 : decode cX1_e 41 = .ok (.invokevirtual 238, 3) := by decide +kernel
theorem dX1_e_44 : decode cX1_e 44 = .ok (.ifCond .eq 43, 3) := by decide +kernel
theorem dX1_e_47 : decode cX1_e 47 = .ok (.aload_n 1, 1) := by decide +kernel
theorem dX1_e_48 : decode cX1_e 48 = .ok (.aload_n 0, 1) := by decide +kernel
theorem dX1_e_49 : decode cX1_e 49 = .ok (.invokevirtual 169, 3) := by decide +kernel
theorem dX1_e_52 : decode cX1_e 52 = .ok (.putfield 241, 3) := by decide +kernel
theorem dX1_e_55 : decode cX1_e 55 = .ok (.aload_n 0, 1) := by decide +kernel
theorem dX1_e_56 : decode cX1_e 56 = .ok (.bipush 123, 2) := by decide +kernel
theorem dX1_e_58 : decode cX1_e 58 = .ok (.invokevirtual 132, 3) := by decide +kernel
theorem dX1_e_61 : decode cX1_e 61 = .ok (.aload_n 0, 1) := by decide +kernel
theorem dX1_e_62 : decode cX1_e 62 = .ok (.bipush 125, 2) := by decide +kernel
theorem dX1_e_64 : decode cX1_e 64 = .ok (.invokevirtual 75, 3) := by decide +kernel
theorem dX1_e_67 : decode cX1_e 67 = .ok (.ifCond .ne 11, 3) := by decide +kernel
theorem dX1_e_70 : decode cX1_e 70 = .ok (.aload_n 0, 1) := by decide +kernel
theorem dX1_e_71 : decode cX1_e 71 = .ok (.aload_n 1, 1) := by decide +kernel
theorem dX1_e_72 : decode cX1_e 72 = .ok (.getfield 242, 3) := by decide +kernel
theorem dX1_e_75 : decode cX1_e 75 = .ok (.invokevirtual 245, 3) := by decide +kernel
theorem dX1_e_78 : decode cX1_e 78 = .ok (.aload_n 0, 1) := by decide +kernel
theorem dX1_e_79 : decode cX1_e 79 = .ok (.bipush 125, 2) := by decide +kernel
theorem dX1_e_81 : decode cX1_e 81 = .ok (.invokevirtual 132, 3) := by decide +kernel
theorem dX1_e_84 : decode cX1_e 84 = .ok (.goto 11, 3) := by decide +kernel
theorem dX1_e_87 : decode cX1_e 87 = .ok (.aload_n 1, 1) := by decide +kernel
theorem dX1_e_88 : decode cX1_e 88 = .ok (.aload_n 0, 1) := by decide +kernel
theorem dX1_e_89 : decode cX1_e 89 = .ok (.invokevirtual 102, 3) := by decide +kernel
theorem dX1_e_92 : decode cX1_e 92 = .ok (.putfield 248, 3) := by decide +kernel
theorem dX1_e_95 : decode cX1_e 95 = .ok (.aload_n 0, 1) := by decide +kernel
theorem dX1_e_96 : decode cX1_e 96 = .ok (.bipush 46, 2) := by decide +kernel
theorem dX1_e_98 : decode cX1_e 98 = .ok (.invokevirtual 75, 3) := by decide +kernel
theorem dX1_e_101 : decode cX1_e 101 = .ok (.ifCond .eq 36, 3) := by decide +kernel
theorem dX1_e_104 : decode cX1_e 104 = .ok (.aload_n 1, 1) := by decide +kernel
theorem dX1_e_105 : decode cX1_e 105 = .ok (.getfield 252, 3) := by decide +kernel
theorem dX1_e_108 : decode cX1_e 108 = .ok (.invokevirtual 136, 3) := by decide +kernel
theorem dX1_e_111 : decode cX1_e 111 = .ok (.bipush 20, 2) := by decide +kernel
theorem dX1_e_113 : decode cX1_e 113 = .ok (.if_icmp .ne 9, 3) := by decide +kernel
theorem dX1_e_116 : decode cX1_e 116 = .ok (.aload_n 0, 1) := by decide +kernel
theorem dX1_e_117 : decode cX1_e 117 = .ok (.iconst 5, 1) := by decide +kernel
theorem dX1_e_118 : decode cX1_e 118 = .ok (.invokevirtual 82, 3) := by decide +kernel
theorem dX1_e_121 : decode cX1_e 121 = .ok (.athrow, 1) := by decide +kernel
theorem dX1_e_122 : decode cX1_e 122 = .ok (.aload_n 1, 1) := by decide +kernel
theorem dX1_e_123 : decode cX1_e 123 = .ok (.getfield 252, 3) := by decide +kernel
theorem dX1_e_126 : decode cX1_e 126 = .ok (.aload_n 0, 1) := by decide +kernel
theorem dX1_e_127 : decode cX1_e 127 = .ok (.invokevirtual 255, 3) := by decide +kernel
theorem dX1_e_130 : decode cX1_e 130 = .ok (.invokevirtual 176, 3) := by decide +kernel
theorem dX1_e_133 : decode cX1_e 133 = .ok (.pop, 1) := by decide +kernel
theorem dX1_e_134 : decode cX1_e 134 = .ok (.goto (-39), 3) := by decide +kernel
theorem dX1_e_137 : decode cX1_e 137 = .ok (.aload_n 0, 1) := by decide +kernel
theorem dX1_e_138 : decode cX1_e 138 = .ok (.dup, 1) := by decide +kernel
theorem dX1_e_139 : decode cX1_e 139 = .ok (.getfield 22, 3) := by decide +kernel
theorem dX1_e_142 : decode cX1_e 142 = .ok (.iconst 1, 1) := by decide +kernel
theorem dX1_e_143 : decode cX1_e 143 = .ok (.isub, 1) := by decide +kernel
theorem dX1_e_144 : decode cX1_e 144 = .ok (.putfield 22, 3) := by decide +kernel
theorem dX1_e_147 : decode cX1_e 147 = .ok (.aload_n 1, 1) := by decide +kernel
theorem dX1_e_148 : decode cX1_e 148 = .ok (.areturn, 1) := by decide +kernel
abbrev cX1_isAhead : ByteArray := prog_17_method_18_code
def yX1_isAhead : MethodName := ⟨RX1, "isAhead", "(C)Z"⟩
theorem dX1_isAhead_0 : decode cX1_isAhead 0 = .ok (.aload_n 0, 1) := by decide +kernel
theorem dX1_isAhead_1 : decode cX1_isAhead 1 = .ok (.getfield 19, 3) := by decide +kernel
theorem dX1_isAhead_4 : decode cX1_isAhead 4 = .ok (.istore_n 2, 1) := by decide +kernel
theorem dX1_isAhead_5 : decode cX1_isAhead 5 = .ok (.aload_n 0, 1) := by decide +kernel
theorem dX1_isAhead_6 : decode cX1_isAhead 6 = .ok (.iload_n 2, 1) := by decide +kernel
theorem dX1_isAhead_7 : decode cX1_isAhead 7 = .ok (.invokevirtual 34, 3) := by decide +kernel
theorem dX1_isAhead_10 : decode cX1_isAhead 10 = .ok (.bipush 10, 2) := by decide +kernel
theorem dX1_isAhead_12 : decode cX1_isAhead 12 = .ok (.if_icmp .eq 13, 3) := by decide +kernel
theorem dX1_isAhead_15 : decode cX1_isAhead 15 = .ok (.aload_n 0, 1) := by decide +kernel
theorem dX1_isAhead_16 : decode cX1_isAhead 16 = .ok (.iload_n 2, 1) := by decide +kernel
theorem dX1_isAhead_17 : decode cX1_isAhead 17 = .ok (.invokevirtual 34, 3) := by decide +kernel
theorem dX1_isAhead_20 : decode cX1_isAhead 20 = .ok (.bipush 32, 2) := by decide +kernel
theorem dX1_isAhead_22 : decode cX1_isAhead 22 = .ok (.if_icmp .ne 9, 3) := by decide +kernel
theorem dX1_isAhead_25 : decode cX1_isAhead 25 = .ok (.iinc 2 1, 3) := by decide +kernel
theorem dX1_isAhead_28 : decode cX1_isAhead 28 = .ok (.goto (-23), 3) := by decide +kernel
theorem dX1_isAhead_31 : decode cX1_isAhead 31 = .ok (.aload_n 0, 1) := by decide +kernel
theorem dX1_isAhead_32 : decode cX1_isAhead 32 = .ok (.iload_n 2, 1) := by decide +kernel
theorem dX1_isAhead_33 : decode cX1_isAhead 33 = .ok (.invokevirtual 34, 3) := by decide +kernel
theorem dX1_isAhead_36 : decode cX1_isAhead 36 = .ok (.iload_n 1, 1) := by decide +kernel
theorem dX1_isAhead_37 : decode cX1_isAhead 37 = .ok (.if_icmp .ne 7, 3) := by decide +kernel
theorem dX1_isAhead_40 : decode cX1_isAhead 40 = .ok (.iconst 1, 1) := by decide +kernel
theorem dX1_isAhead_41 : decode cX1_isAhead 41 = .ok (.goto 4, 3) := by decide +kernel
theorem dX1_isAhead_44 : decode cX1_isAhead 44 = .ok (.iconst 0, 1) := by decide +kernel
theorem dX1_isAhead_45 : decode cX1_isAhead 45 = .ok (.ireturn, 1) := by decide +kernel
abbrev cX1_list : ByteArray := prog_17_method_27_code
def yX1_list : MethodName := ⟨RX1, "list", "(Ljava/util/ArrayList;)V"⟩
theorem dX1_list_0 : decode cX1_list 0 = .ok (.aload_n 0, 1) := by decide +kernel
theorem dX1_list_1 : decode cX1_list 1 = .ok (.invokevirtual 95, 3) := by decide +kernel
theorem dX1_list_4 : decode cX1_list 4 = .ok (.ifCond .eq 18, 3) := by decide +kernel
theorem dX1_list_7 : decode cX1_list 7 = .ok (.aload_n 1, 1) := by decide +kernel
theorem dX1_list_8 : decode cX1_list 8 = .ok (.invokevirtual 136, 3) := by decide +kernel
theorem dX1_list_11 : decode cX1_list 11 = .ok (.bipush 6, 2) := by decide +kernel
theorem dX1_list_13 : decode cX1_list 13 = .ok (.if_icmp .ne 9, 3) := by decide +kernel
theorem dX1_list_16 : decode cX1_list 16 = .ok (.aload_n 0, 1) := by decide +kernel
theorem dX1_list_17 : decode cX1_list 17 = .ok (.iconst 5, 1) := by decide +kernel
theorem dX1_list_18 : decode cX1_list 18 = .ok (.invokevirtual 82, 3) := by decide +kernel
theorem dX1_list_21 : decode cX1_list 21 = .ok (.athrow, 1) := by decide +kernel
theorem dX1_list_22 : decode cX1_list 22 = .ok (.aload_n 1, 1) := by decide +kernel
theorem dX1_list_23 : decode cX1_list 23 = .ok (.aload_n 0, 1) := by decide +kernel
theorem dX1_list_24 : decode cX1_list 24 = .ok (.invokevirtual 125, 3) := by decide +kernel
theorem dX1_list_27 : decode cX1_list 27 = .ok (.invokevirtual 176, 3) := by decide +kernel
theorem dX1_list_30 : decode cX1_list 30 = .ok (.pop, 1) := by decide +kernel
theorem dX1_list_31 : decode cX1_list 31 = .ok (.aload_n 0, 1) := by decide +kernel
theorem dX1_list_32 : decode cX1_list 32 = .ok (.bipush 44, 2) := by decide +kernel
theorem dX1_list_34 : decode cX1_list 34 = .ok (.invokevirtual 79, 3) := by decide +kernel
theorem dX1_list_37 : decode cX1_list 37 = .ok (.ifCond .ne (-37), 3) := by decide +kernel
theorem dX1_list_40 : decode cX1_list 40 = .ok (.return_, 1) := by decide +kernel
abbrev cX1_dot : ByteArray := prog_17_method_28_code
def yX1_dot : MethodName := ⟨RX1, "dot", "()LFeatherBench$Dot;"⟩
theorem dX1_dot_0 : decode cX1_dot 0 = .ok (.aload_n 0, 1) := by decide +kernel
theorem dX1_dot_1 : decode cX1_dot 1 = .ok (.getfield 28, 3) := by decide +kernel
theorem dX1_dot_4 : decode cX1_dot 4 = .ok (.istore_n 1, 1) := by decide +kernel
theorem dX1_dot_5 : decode cX1_dot 5 = .ok (.aload_n 0, 1) := by decide +kernel
theorem dX1_dot_6 : decode cX1_dot 6 = .ok (.invokevirtual 25, 3) := by decide +kernel
theorem dX1_dot_9 : decode cX1_dot 9 = .ok (.aload_n 0, 1) := by decide +kernel
theorem dX1_dot_10 : decode cX1_dot 10 = .ok (.bipush 40, 2) := by decide +kernel
theorem dX1_dot_12 : decode cX1_dot 12 = .ok (.invokevirtual 79, 3) := by decide +kernel
theorem dX1_dot_15 : decode cX1_dot 15 = .ok (.ifCond .eq 29, 3) := by decide +kernel
theorem dX1_dot_18 : decode cX1_dot 18 = .ok (.new 259, 3) := by decide +kernel
theorem dX1_dot_21 : decode cX1_dot 21 = .ok (.dup, 1) := by decide +kernel
theorem dX1_dot_22 : decode cX1_dot 22 = .ok (.iconst 2, 1) := by decide +kernel
theorem dX1_dot_23 : decode cX1_dot 23 = .ok (.iload_n 1, 1) := by decide +kernel
theorem dX1_dot_24 : decode cX1_dot 24 = .ok (.invokespecial 261, 3) := by decide +kernel
theorem dX1_dot_27 : decode cX1_dot 27 = .ok (.astore_n 2, 1) := by decide +kernel
theorem dX1_dot_28 : decode cX1_dot 28 = .ok (.aload_n 2, 1) := by decide +kernel
theorem dX1_dot_29 : decode cX1_dot 29 = .ok (.aload_n 0, 1) := by decide +kernel
theorem dX1_dot_30 : decode cX1_dot 30 = .ok (.invokevirtual 169, 3) := by decide +kernel
theorem dX1_dot_33 : decode cX1_dot 33 = .ok (.putfield 262, 3) := by decide +kernel
theorem dX1_dot_36 : decode cX1_dot 36 = .ok (.aload_n 0, 1) := by decide +kernel
theorem dX1_dot_37 : decode cX1_dot 37 = .ok (.bipush 41, 2) := by decide +kernel
theorem dX1_dot_39 : decode cX1_dot 39 = .ok (.invokevirtual 132, 3) := by decide +kernel
theorem dX1_dot_42 : decode cX1_dot 42 = .ok (.aload_n 2, 1) := by decide +kernel
theorem dX1_dot_43 : decode cX1_dot 43 = .ok (.areturn, 1) := by decide +kernel
theorem dX1_dot_44 : decode cX1_dot 44 = .ok (.aload_n 0, 1) := by decide +kernel
theorem dX1_dot_45 : decode cX1_dot 45 = .ok (.invokevirtual 95, 3) := by decide +kernel
theorem dX1_dot_48 : decode cX1_dot 48 = .ok (.ifCond .eq 25, 3) := by decide +kernel
theorem dX1_dot_51 : decode cX1_dot 51 = .ok (.aload_n 0, 1) := by decide +kernel
theorem dX1_dot_52 : decode cX1_dot 52 = .ok (.bipush 40, 2) := by decide +kernel
theorem dX1_dot_54 : decode cX1_dot 54 = .ok (.invokevirtual 238, 3) := by decide +kernel
theorem dX1_dot_57 : decode cX1_dot 57 = .ok (.ifCond .ne 12, 3) := by decide +kernel
theorem dX1_dot_60 : decode cX1_dot 60 = .ok (.aload_n 0, 1) := by decide +kernel
theorem dX1_dot_61 : decode cX1_dot 61 = .ok (.bipush 91, 2) := by decide +kernel
theorem dX1_dot_63 : decode cX1_dot 63 = .ok (.invokevirtual 238, 3) := by decide +kernel
theorem dX1_dot_66 : decode cX1_dot 66 = .ok (.ifCond .eq 7, 3) := by decide +kernel
theorem dX1_dot_69 : decode cX1_dot 69 = .ok (.iconst 1, 1) := by decide +kernel
theorem dX1_dot_70 : decode cX1_dot 70 = .ok (.goto 4, 3) := by decide +kernel
theorem dX1_dot_73 : decode cX1_dot 73 = .ok (.iconst 0, 1) := by decide +kernel
theorem dX1_dot_74 : decode cX1_dot 74 = .ok (.istore_n 2, 1) := by decide +kernel
theorem dX1_dot_75 : decode cX1_dot 75 = .ok (.new 259, 3) := by decide +kernel
theorem dX1_dot_78 : decode cX1_dot 78 = .ok (.dup, 1) := by decide +kernel
theorem dX1_dot_79 : decode cX1_dot 79 = .ok (.iload_n 2, 1) := by decide +kernel
theorem dX1_dot_80 : decode cX1_dot 80 = .ok (.ifCond .eq 7, 3) := by decide +kernel
theorem dX1_dot_83 : decode cX1_dot 83 = .ok (.iconst 1, 1) := by decide +kernel
theorem dX1_dot_84 : decode cX1_dot 84 = .ok (.goto 4, 3) := by decide +kernel
theorem dX1_dot_87 : decode cX1_dot 87 = .ok (.iconst 0, 1) := by decide +kernel
theorem dX1_dot_88 : decode cX1_dot 88 = .ok (.iload_n 1, 1) := by decide +kernel
theorem dX1_dot_89 : decode cX1_dot 89 = .ok (.invokespecial 261, 3) := by decide +kernel
theorem dX1_dot_92 : decode cX1_dot 92 = .ok (.astore_n 3, 1) := by decide +kernel
theorem dX1_dot_93 : decode cX1_dot 93 = .ok (.aload_n 3, 1) := by decide +kernel
theorem dX1_dot_94 : decode cX1_dot 94 = .ok (.aload_n 0, 1) := by decide +kernel
theorem dX1_dot_95 : decode cX1_dot 95 = .ok (.getfield 28, 3) := by decide +kernel
theorem dX1_dot_98 : decode cX1_dot 98 = .ok (.putfield 263, 3) := by decide +kernel
theorem dX1_dot_101 : decode cX1_dot 101 = .ok (.aload_n 3, 1) := by decide +kernel
theorem dX1_dot_102 : decode cX1_dot 102 = .ok (.aload_n 0, 1) := by decide +kernel
theorem dX1_dot_103 : decode cX1_dot 103 = .ok (.invokevirtual 102, 3) := by decide +kernel
theorem dX1_dot_106 : decode cX1_dot 106 = .ok (.putfield 266, 3) := by decide +kernel
theorem dX1_dot_109 : decode cX1_dot 109 = .ok (.iload_n 2, 1) := by decide +kernel
theorem dX1_dot_110 : decode cX1_dot 110 = .ok (.ifCond .ne 5, 3) := by decide +kernel
theorem dX1_dot_113 : decode cX1_dot 113 = .ok (.aload_n 3, 1) := by decide +kernel
theorem dX1_dot_114 : decode cX1_dot 114 = .ok (.areturn, 1) := by decide +kernel
theorem dX1_dot_115 : decode cX1_dot 115 = .ok (.aload_n 0, 1) := by decide +kernel
theorem dX1_dot_116 : decode cX1_dot 116 = .ok (.bipush 91, 2) := by decide +kernel
theorem dX1_dot_118 : decode cX1_dot 118 = .ok (.invokevirtual 75, 3) := by decide +kernel
theorem dX1_dot_121 : decode cX1_dot 121 = .ok (.ifCond .eq 11, 3) := by decide +kernel
theorem dX1_dot_124 : decode cX1_dot 124 = .ok (.aload_n 0, 1) := by decide +kernel
theorem dX1_dot_125 : decode cX1_dot 125 = .ok (.aload_n 3, 1) := by decide +kernel
theorem dX1_dot_126 : decode cX1_dot 126 = .ok (.getfield 268, 3) := by decide +kernel
theorem dX1_dot_129 : decode cX1_dot 129 = .ok (.invokevirtual 232, 3) := by decide +kernel
theorem dX1_dot_132 : decode cX1_dot 132 = .ok (.aload_n 0, 1) := by decide +kernel
theorem dX1_dot_133 : decode cX1_dot 133 = .ok (.bipush 40, 2) := by decide +kernel
theorem dX1_dot_135 : decode cX1_dot 135 = .ok (.invokevirtual 132, 3) := by decide +kernel
theorem dX1_dot_138 : decode cX1_dot 138 = .ok (.aload_n 0, 1) := by decide +kernel
theorem dX1_dot_139 : decode cX1_dot 139 = .ok (.bipush 41, 2) := by decide +kernel
theorem dX1_dot_141 : decode cX1_dot 141 = .ok (.invokevirtual 75, 3) := by decide +kernel
theorem dX1_dot_144 : decode cX1_dot 144 = .ok (.ifCond .ne 11, 3) := by decide +kernel
theorem dX1_dot_147 : decode cX1_dot 147 = .ok (.aload_n 0, 1) := by decide +kernel
theorem dX1_dot_148 : decode cX1_dot 148 = .ok (.aload_n 3, 1) := by decide +kernel
theorem dX1_dot_149 : decode cX1_dot 149 = .ok (.getfield 269, 3) := by decide +kernel
theorem dX1_dot_152 : decode cX1_dot 152 = .ok (.invokevirtual 245, 3) := by decide +kernel
theorem dX1_dot_155 : decode cX1_dot 155 = .ok (.aload_n 0, 1) := by decide +kernel
theorem dX1_dot_156 : decode cX1_dot 156 = .ok (.bipush 41, 2) := by decide +kernel
theorem dX1_dot_158 : decode cX1_dot 158 = .ok (.invokevirtual 132, 3) := by decide +kernel
theorem dX1_dot_161 : decode cX1_dot 161 = .ok (.aload_n 3, 1) := by decide +kernel
theorem dX1_dot_162 : decode cX1_dot 162 = .ok (.areturn, 1) := by decide +kernel
abbrev cX1_isEnd : ByteArray := prog_17_method_6_code
def yX1_isEnd : MethodName := ⟨RX1, "isEnd", "()Z"⟩
theorem dX1_isEnd_0 : decode cX1_isEnd 0 = .ok (.aload_n 0, 1) := by decide +kernel
theorem dX1_isEnd_1 : decode cX1_isEnd 1 = .ok (.getfield 31, 3) := by decide +kernel
theorem dX1_isEnd_4 : decode cX1_isEnd 4 = .ok (.ifCond .ne 7, 3) := by decide +kernel
theorem dX1_isEnd_7 : decode cX1_isEnd 7 = .ok (.iconst 1, 1) := by decide +kernel
theorem dX1_isEnd_8 : decode cX1_isEnd 8 = .ok (.goto 4, 3) := by decide +kernel
theorem dX1_isEnd_11 : decode cX1_isEnd 11 = .ok (.iconst 0, 1) := by decide +kernel
theorem dX1_isEnd_12 : decode cX1_isEnd 12 = .ok (.ireturn, 1) := by decide +kernel
theorem q161 : (Jvm.Cond.initialized "FeatherBench$Reader") ∈ lw_all := lw_g (lw_at lw_m1 2 rfl) rfl
theorem q213 : (Jvm.Cond.instantiable "FeatherBench$Reader" (9 : Nat)) ∈ lw_all := lw_g (lw_at lw_m1 54 rfl) rfl
theorem q215 : (Jvm.Cond.instanceMethod ({ cls := "FeatherBench$Reader", name := "<init>", desc := "()V" } : Jvm.MethodName)) ∈ lw_all := lw_g (lw_at lw_m1 56 rfl) rfl
theorem q216 : (Jvm.Cond.code ({ cls := "FeatherBench$Reader", name := "<init>", desc := "()V" } : Jvm.MethodName) prog_17_method_1_code (1 : Nat) (Option.none : Option Jvm.ClassFile.FieldType)) ∈ lw_all := lw_g (lw_at lw_m1 57 rfl) rfl
theorem q217 : (Jvm.Cond.methodLink "FeatherBench$Reader" (3 : Nat) ({ cls := "java/lang/Object", name := "<init>", desc := "()V" } : Jvm.MethodName)) ∈ lw_all := lw_g (lw_at lw_m1 58 rfl) rfl
theorem q218 : (Jvm.Cond.fieldLink "FeatherBench$Reader" (9 : Nat) "FeatherBench$Reader" "text" "[B") ∈ lw_all := lw_g (lw_at lw_m1 59 rfl) rfl
theorem q219 : (Jvm.Cond.fieldLink "FeatherBench$Reader" (15 : Nat) "FeatherBench$Reader" "size" "I") ∈ lw_all := lw_g (lw_at lw_m1 60 rfl) rfl
theorem q220 : (Jvm.Cond.fieldLink "FeatherBench$Reader" (19 : Nat) "FeatherBench$Reader" "to" "I") ∈ lw_all := lw_g (lw_at lw_m1 61 rfl) rfl
theorem q221 : (Jvm.Cond.fieldLink "FeatherBench$Reader" (31 : Nat) "FeatherBench$Reader" "kind" "I") ∈ lw_all := lw_g (lw_at lw_m1 62 rfl) rfl
theorem q222 : (Jvm.Cond.fieldLink "FeatherBench$Reader" (28 : Nat) "FeatherBench$Reader" "from" "I") ∈ lw_all := lw_g (lw_at lw_m1 63 rfl) rfl
theorem q223 : (Jvm.Cond.fieldLink "FeatherBench$Reader" (22 : Nat) "FeatherBench$Reader" "within" "I") ∈ lw_all := lw_g (lw_at lw_m1 64 rfl) rfl
theorem q225 : (Jvm.Cond.fieldLink "FeatherBench$Reader" (108 : Nat) "FeatherBench$Reader" "types" "Ljava/util/ArrayList;") ∈ lw_all := lw_g (lw_at lw_m1 66 rfl) rfl
theorem q227 : (Jvm.Cond.fieldLink "FeatherBench$Reader" (112 : Nat) "FeatherBench$Reader" "funcs" "Ljava/util/ArrayList;") ∈ lw_all := lw_g (lw_at lw_m1 68 rfl) rfl
theorem q229 : (Jvm.Cond.fieldLink "FeatherBench$Reader" (129 : Nat) "FeatherBench$Reader" "main" "LFeatherBench$Exp;") ∈ lw_all := lw_g (lw_at lw_m1 70 rfl) rfl
theorem q230 : (Jvm.Cond.lays "FeatherBench$Reader" "FeatherBench$Reader" "text" "[B") ∈ lw_all := lw_g (lw_at lw_m1 71 rfl) rfl
theorem q231 : (Jvm.Cond.soleField "FeatherBench$Reader" "text") ∈ lw_all := lw_g (lw_at lw_m1 72 rfl) rfl
theorem q232 : (Jvm.Cond.lays "FeatherBench$Reader" "FeatherBench$Reader" "size" "I") ∈ lw_all := lw_g (lw_at lw_m1 73 rfl) rfl
theorem q233 : (Jvm.Cond.soleField "FeatherBench$Reader" "size") ∈ lw_all := lw_g (lw_at lw_m1 74 rfl) rfl
theorem q234 : (Jvm.Cond.lays "FeatherBench$Reader" "FeatherBench$Reader" "to" "I") ∈ lw_all := lw_g (lw_at lw_m1 75 rfl) rfl
theorem q235 : (Jvm.Cond.soleField "FeatherBench$Reader" "to") ∈ lw_all := lw_g (lw_at lw_m1 76 rfl) rfl
theorem q236 : (Jvm.Cond.lays "FeatherBench$Reader" "FeatherBench$Reader" "kind" "I") ∈ lw_all := lw_g (lw_at lw_m1 77 rfl) rfl
theorem q237 : (Jvm.Cond.soleField "FeatherBench$Reader" "kind") ∈ lw_all := lw_g (lw_at lw_m1 78 rfl) rfl
theorem q238 : (Jvm.Cond.lays "FeatherBench$Reader" "FeatherBench$Reader" "from" "I") ∈ lw_all := lw_g (lw_at lw_m1 79 rfl) rfl
theorem q239 : (Jvm.Cond.soleField "FeatherBench$Reader" "from") ∈ lw_all := lw_g (lw_at lw_m1 80 rfl) rfl
theorem q240 : (Jvm.Cond.lays "FeatherBench$Reader" "FeatherBench$Reader" "within" "I") ∈ lw_all := lw_g (lw_at lw_m1 81 rfl) rfl
theorem q241 : (Jvm.Cond.soleField "FeatherBench$Reader" "within") ∈ lw_all := lw_g (lw_at lw_m1 82 rfl) rfl
theorem q242 : (Jvm.Cond.lays "FeatherBench$Reader" "FeatherBench$Reader" "types" "Ljava/util/ArrayList;") ∈ lw_all := lw_g (lw_at lw_m1 83 rfl) rfl
theorem q243 : (Jvm.Cond.soleField "FeatherBench$Reader" "types") ∈ lw_all := lw_g (lw_at lw_m1 84 rfl) rfl
theorem q244 : (Jvm.Cond.lays "FeatherBench$Reader" "FeatherBench$Reader" "funcs" "Ljava/util/ArrayList;") ∈ lw_all := lw_g (lw_at lw_m1 85 rfl) rfl
theorem q245 : (Jvm.Cond.soleField "FeatherBench$Reader" "funcs") ∈ lw_all := lw_g (lw_at lw_m1 86 rfl) rfl
theorem q246 : (Jvm.Cond.lays "FeatherBench$Reader" "FeatherBench$Reader" "main" "LFeatherBench$Exp;") ∈ lw_all := lw_g (lw_at lw_m1 87 rfl) rfl
theorem q247 : (Jvm.Cond.soleField "FeatherBench$Reader" "main") ∈ lw_all := lw_g (lw_at lw_m1 88 rfl) rfl
theorem q248 : (Jvm.Cond.superclass "FeatherBench$Reader" "java/lang/Object") ∈ lw_all := lw_g (lw_at lw_m1 89 rfl) rfl
theorem q347 : (Jvm.Cond.instanceMethod ({ cls := "FeatherBench$Reader", name := "begin", desc := "([BI)V" } : Jvm.MethodName)) ∈ lw_all := lw_g (lw_at lw_m1 188 rfl) rfl
theorem q348 : (Jvm.Cond.selects "FeatherBench$Reader" ({ cls := "FeatherBench$Reader", name := "begin", desc := "([BI)V" } : Jvm.MethodName) ({ cls := "FeatherBench$Reader", name := "begin", desc := "([BI)V" } : Jvm.MethodName)) ∈ lw_all := lw_g (lw_at lw_m1 189 rfl) rfl
theorem q349 : (Jvm.Cond.code ({ cls := "FeatherBench$Reader", name := "begin", desc := "([BI)V" } : Jvm.MethodName) prog_17_method_2_code (3 : Nat) (Option.none : Option Jvm.ClassFile.FieldType)) ∈ lw_all := lw_g (lw_at lw_m1 190 rfl) rfl
theorem q350 : (Jvm.Cond.methodLink "FeatherBench$Reader" (25 : Nat) ({ cls := "FeatherBench$Reader", name := "next", desc := "()V" } : Jvm.MethodName)) ∈ lw_all := lw_g (lw_at lw_m1 191 rfl) rfl
theorem q351 : (Jvm.Cond.privateMethod ({ cls := "FeatherBench$Reader", name := "next", desc := "()V" } : Jvm.MethodName)) ∈ lw_tbl := lw_at lw_m1 192 rfl
theorem q352 : (Jvm.Cond.instanceMethod ({ cls := "FeatherBench$Reader", name := "next", desc := "()V" } : Jvm.MethodName)) ∈ lw_all := lw_g (lw_at lw_m1 193 rfl) rfl
theorem q353 : (Jvm.Cond.code ({ cls := "FeatherBench$Reader", name := "next", desc := "()V" } : Jvm.MethodName) prog_17_method_5_code (1 : Nat) (Option.none : Option Jvm.ClassFile.FieldType)) ∈ lw_all := lw_g (lw_at lw_m1 194 rfl) rfl
theorem q354 : (Jvm.Cond.methodLink "FeatherBench$Reader" (34 : Nat) ({ cls := "FeatherBench$Reader", name := "at", desc := "(I)I" } : Jvm.MethodName)) ∈ lw_all := lw_g (lw_at lw_m1 195 rfl) rfl
theorem q355 : (Jvm.Cond.privateMethod ({ cls := "FeatherBench$Reader", name := "at", desc := "(I)I" } : Jvm.MethodName)) ∈ lw_tbl := lw_at lw_m1 196 rfl
theorem q356 : (Jvm.Cond.instanceMethod ({ cls := "FeatherBench$Reader", name := "at", desc := "(I)I" } : Jvm.MethodName)) ∈ lw_all := lw_g (lw_at lw_m1 197 rfl) rfl
theorem q357 : (Jvm.Cond.code ({ cls := "FeatherBench$Reader", name := "at", desc := "(I)I" } : Jvm.MethodName) prog_17_method_3_code (2 : Nat) (Option.some Jvm.ClassFile.FieldType.int)) ∈ lw_all := lw_g (lw_at lw_m1 198 rfl) rfl
theorem q358 : (Jvm.Cond.methodLink "FeatherBench$Reader" (38 : Nat) ({ cls := "FeatherBench$Reader", name := "isLetter", desc := "(I)Z" } : Jvm.MethodName)) ∈ lw_all := lw_g (lw_at lw_m1 199 rfl) rfl
theorem q359 : (Jvm.Cond.static ({ cls := "FeatherBench$Reader", name := "isLetter", desc := "(I)Z" } : Jvm.MethodName)) ∈ lw_all := lw_g (lw_at lw_m1 200 rfl) rfl
theorem q360 : (Jvm.Cond.code ({ cls := "FeatherBench$Reader", name := "isLetter", desc := "(I)Z" } : Jvm.MethodName) prog_17_method_4_code (1 : Nat) (Option.some Jvm.ClassFile.FieldType.boolean)) ∈ lw_all := lw_g (lw_at lw_m1 201 rfl) rfl
theorem q361 : (Jvm.Cond.stringRef "FeatherBench$Reader" (42 : Nat) "{}()[],;.") ∈ lw_tbl := lw_at lw_m1 202 rfl
theorem q362 : (Jvm.Cond.methodLink "FeatherBench$Reader" (44 : Nat) ({ cls := "java/lang/String", name := "indexOf", desc := "(I)I" } : Jvm.MethodName)) ∈ lw_all := lw_g (lw_at lw_m1 203 rfl) rfl
theorem q449 : (Jvm.Cond.instanceMethod ({ cls := "FeatherBench$Reader", name := "program", desc := "()V" } : Jvm.MethodName)) ∈ lw_all := lw_g (lw_at lw_m2 50 rfl) rfl
theorem q450 : (Jvm.Cond.selects "FeatherBench$Reader" ({ cls := "FeatherBench$Reader", name := "program", desc := "()V" } : Jvm.MethodName) ({ cls := "FeatherBench$Reader", name := "program", desc := "()V" } : Jvm.MethodName)) ∈ lw_all := lw_g (lw_at lw_m2 51 rfl) rfl
theorem q451 : (Jvm.Cond.code ({ cls := "FeatherBench$Reader", name := "program", desc := "()V" } : Jvm.MethodName) prog_17_method_19_code (1 : Nat) (Option.none : Option Jvm.ClassFile.FieldType)) ∈ lw_all := lw_g (lw_at lw_m2 52 rfl) rfl
theorem q452 : (Jvm.Cond.classLink "FeatherBench$Reader" (105 : Nat) "java/util/ArrayList") ∈ lw_all := lw_g (lw_at lw_m2 53 rfl) rfl
theorem q453 : (Jvm.Cond.methodLink "FeatherBench$Reader" (107 : Nat) ({ cls := "java/util/ArrayList", name := "<init>", desc := "(I)V" } : Jvm.MethodName)) ∈ lw_all := lw_g (lw_at lw_m2 54 rfl) rfl
theorem q454 : (Jvm.Cond.stringRef "FeatherBench$Reader" (115 : Nat) "main") ∈ lw_tbl := lw_at lw_m2 55 rfl
theorem q455 : (Jvm.Cond.methodLink "FeatherBench$Reader" (86 : Nat) ({ cls := "FeatherBench$Reader", name := "is", desc := "(Ljava/lang/String;)Z" } : Jvm.MethodName)) ∈ lw_all := lw_g (lw_at lw_m2 56 rfl) rfl
theorem q456 : (Jvm.Cond.privateMethod ({ cls := "FeatherBench$Reader", name := "is", desc := "(Ljava/lang/String;)Z" } : Jvm.MethodName)) ∈ lw_tbl := lw_at lw_m2 57 rfl
theorem q457 : (Jvm.Cond.instanceMethod ({ cls := "FeatherBench$Reader", name := "is", desc := "(Ljava/lang/String;)Z" } : Jvm.MethodName)) ∈ lw_all := lw_g (lw_at lw_m2 58 rfl) rfl
theorem q458 : (Jvm.Cond.code ({ cls := "FeatherBench$Reader", name := "is", desc := "(Ljava/lang/String;)Z" } : Jvm.MethodName) prog_17_method_9_code (4 : Nat) (Option.some Jvm.ClassFile.FieldType.boolean)) ∈ lw_all := lw_g (lw_at lw_m2 59 rfl) rfl
theorem q459 : (Jvm.Cond.methodLink "FeatherBench$Reader" (67 : Nat) ({ cls := "java/lang/String", name := "length", desc := "()I" } : Jvm.MethodName)) ∈ lw_all := lw_g (lw_at lw_m2 60 rfl) rfl
theorem q460 : (Jvm.Cond.methodLink "FeatherBench$Reader" (71 : Nat) ({ cls := "java/lang/String", name := "charAt", desc := "(I)C" } : Jvm.MethodName)) ∈ lw_all := lw_g (lw_at lw_m2 61 rfl) rfl
theorem q480 : (Jvm.Cond.stringRef "FeatherBench$Reader" (117 : Nat) "type") ∈ lw_tbl := lw_at lw_m2 81 rfl
theorem q481 : (Jvm.Cond.methodLink "FeatherBench$Reader" (119 : Nat) ({ cls := "FeatherBench$Reader", name := "type", desc := "()V" } : Jvm.MethodName)) ∈ lw_all := lw_g (lw_at lw_m2 82 rfl) rfl
theorem q482 : (Jvm.Cond.privateMethod ({ cls := "FeatherBench$Reader", name := "type", desc := "()V" } : Jvm.MethodName)) ∈ lw_tbl := lw_at lw_m2 83 rfl
theorem q483 : (Jvm.Cond.instanceMethod ({ cls := "FeatherBench$Reader", name := "type", desc := "()V" } : Jvm.MethodName)) ∈ lw_all := lw_g (lw_at lw_m2 84 rfl) rfl
theorem q484 : (Jvm.Cond.code ({ cls := "FeatherBench$Reader", name := "type", desc := "()V" } : Jvm.MethodName) prog_17_method_20_code (5 : Nat) (Option.none : Option Jvm.ClassFile.FieldType)) ∈ lw_all := lw_g (lw_at lw_m2 85 rfl) rfl
theorem q485 : (Jvm.Cond.methodLink "FeatherBench$Reader" (136 : Nat) ({ cls := "java/util/ArrayList", name := "size", desc := "()I" } : Jvm.MethodName)) ∈ lw_all := lw_g (lw_at lw_m2 86 rfl) rfl
theorem q489 : (Jvm.Cond.methodLink "FeatherBench$Reader" (82 : Nat) ({ cls := "FeatherBench$Reader", name := "wrong", desc := "(I)LFeatherBench$Wrong;" } : Jvm.MethodName)) ∈ lw_all := lw_g (lw_at lw_m2 90 rfl) rfl
theorem q490 : (Jvm.Cond.privateMethod ({ cls := "FeatherBench$Reader", name := "wrong", desc := "(I)LFeatherBench$Wrong;" } : Jvm.MethodName)) ∈ lw_tbl := lw_at lw_m2 91 rfl
theorem q491 : (Jvm.Cond.instanceMethod ({ cls := "FeatherBench$Reader", name := "wrong", desc := "(I)LFeatherBench$Wrong;" } : Jvm.MethodName)) ∈ lw_all := lw_g (lw_at lw_m2 92 rfl) rfl
theorem q492 : (Jvm.Cond.code ({ cls := "FeatherBench$Reader", name := "wrong", desc := "(I)LFeatherBench$Wrong;" } : Jvm.MethodName) prog_17_method_7_code (2 : Nat) (Option.some (Jvm.ClassFile.FieldType.object "FeatherBench$Wrong"))) ∈ lw_all := lw_g (lw_at lw_m2 93 rfl) rfl
theorem q493 : (Jvm.Cond.classLink "FeatherBench$Reader" (49 : Nat) "FeatherBench$Wrong") ∈ lw_all := lw_g (lw_at lw_m2 94 rfl) rfl
theorem q535 : (Jvm.Cond.methodLink "FeatherBench$Reader" (51 : Nat) ({ cls := "FeatherBench$Wrong", name := "<init>", desc := "(II)V" } : Jvm.MethodName)) ∈ lw_all := lw_g (lw_at lw_m2 136 rfl) rfl
theorem q568 : (Jvm.Cond.classLink "FeatherBench$Reader" (138 : Nat) "FeatherBench$Decl") ∈ lw_all := lw_g (lw_at lw_m2 169 rfl) rfl
theorem q570 : (Jvm.Cond.methodLink "FeatherBench$Reader" (102 : Nat) ({ cls := "FeatherBench$Reader", name := "name", desc := "()Ljava/lang/String;" } : Jvm.MethodName)) ∈ lw_all := lw_g (lw_at lw_m2 171 rfl) rfl
theorem q571 : (Jvm.Cond.privateMethod ({ cls := "FeatherBench$Reader", name := "name", desc := "()Ljava/lang/String;" } : Jvm.MethodName)) ∈ lw_tbl := lw_at lw_m2 172 rfl
theorem q572 : (Jvm.Cond.instanceMethod ({ cls := "FeatherBench$Reader", name := "name", desc := "()Ljava/lang/String;" } : Jvm.MethodName)) ∈ lw_all := lw_g (lw_at lw_m2 173 rfl) rfl
theorem q573 : (Jvm.Cond.code ({ cls := "FeatherBench$Reader", name := "name", desc := "()Ljava/lang/String;" } : Jvm.MethodName) prog_17_method_15_code (2 : Nat) (Option.some (Jvm.ClassFile.FieldType.object "java/lang/String"))) ∈ lw_all := lw_g (lw_at lw_m2 174 rfl) rfl
theorem q574 : (Jvm.Cond.methodLink "FeatherBench$Reader" (95 : Nat) ({ cls := "FeatherBench$Reader", name := "isName", desc := "()Z" } : Jvm.MethodName)) ∈ lw_all := lw_g (lw_at lw_m2 175 rfl) rfl
theorem q575 : (Jvm.Cond.privateMethod ({ cls := "FeatherBench$Reader", name := "isName", desc := "()Z" } : Jvm.MethodName)) ∈ lw_tbl := lw_at lw_m2 176 rfl
theorem q576 : (Jvm.Cond.instanceMethod ({ cls := "FeatherBench$Reader", name := "isName", desc := "()Z" } : Jvm.MethodName)) ∈ lw_all := lw_g (lw_at lw_m2 177 rfl) rfl
theorem q577 : (Jvm.Cond.code ({ cls := "FeatherBench$Reader", name := "isName", desc := "()Z" } : Jvm.MethodName) prog_17_method_14_code (5 : Nat) (Option.some Jvm.ClassFile.FieldType.boolean)) ∈ lw_all := lw_g (lw_at lw_m2 178 rfl) rfl
theorem q578 : (Jvm.Cond.stringRef "FeatherBench$Reader" (90 : Nat) "type struct interface func return main ") ∈ lw_tbl := lw_at lw_m2 179 rfl
theorem q579 : (Jvm.Cond.methodLink "FeatherBench$Reader" (92 : Nat) ({ cls := "java/lang/String", name := "indexOf", desc := "(II)I" } : Jvm.MethodName)) ∈ lw_all := lw_g (lw_at lw_m2 180 rfl) rfl
theorem q580 : (Jvm.Cond.methodLink "FeatherBench$Reader" (99 : Nat) ({ cls := "FeatherBench$Reader", name := "word", desc := "()Ljava/lang/String;" } : Jvm.MethodName)) ∈ lw_all := lw_g (lw_at lw_m2 181 rfl) rfl
theorem q581 : (Jvm.Cond.privateMethod ({ cls := "FeatherBench$Reader", name := "word", desc := "()Ljava/lang/String;" } : Jvm.MethodName)) ∈ lw_tbl := lw_at lw_m2 182 rfl
theorem q582 : (Jvm.Cond.instanceMethod ({ cls := "FeatherBench$Reader", name := "word", desc := "()Ljava/lang/String;" } : Jvm.MethodName)) ∈ lw_all := lw_g (lw_at lw_m2 183 rfl) rfl
theorem q583 : (Jvm.Cond.code ({ cls := "FeatherBench$Reader", name := "word", desc := "()Ljava/lang/String;" } : Jvm.MethodName) prog_17_method_8_code (3 : Nat) (Option.some (Jvm.ClassFile.FieldType.object "java/lang/String"))) ∈ lw_all := lw_g (lw_at lw_m2 184 rfl) rfl
theorem q584 : (Jvm.Cond.classLink "FeatherBench$Reader" (54 : Nat) "java/lang/StringBuilder") ∈ lw_all := lw_g (lw_at lw_m2 185 rfl) rfl
theorem q586 : (Jvm.Cond.methodLink "FeatherBench$Reader" (56 : Nat) ({ cls := "java/lang/StringBuilder", name := "<init>", desc := "(I)V" } : Jvm.MethodName)) ∈ lw_all := lw_g (lw_at lw_m2 187 rfl) rfl
theorem q614 : (Jvm.Cond.methodLink "FeatherBench$Reader" (59 : Nat) ({ cls := "java/lang/StringBuilder", name := "append", desc := "(C)Ljava/lang/StringBuilder;" } : Jvm.MethodName)) ∈ lw_all := lw_g (lw_at lw_m2 215 rfl) rfl
theorem q685 : (Jvm.Cond.methodLink "FeatherBench$Reader" (63 : Nat) ({ cls := "java/lang/StringBuilder", name := "toString", desc := "()Ljava/lang/String;" } : Jvm.MethodName)) ∈ lw_all := lw_g (lw_at lw_m3 46 rfl) rfl
theorem q742 : (Jvm.Cond.methodLink "FeatherBench$Reader" (140 : Nat) ({ cls := "FeatherBench$Decl", name := "<init>", desc := "(Ljava/lang/String;II)V" } : Jvm.MethodName)) ∈ lw_all := lw_g (lw_at lw_m3 103 rfl) rfl
theorem q758 : (Jvm.Cond.fieldLinkNest "FeatherBench$Reader" (143 : Nat) "FeatherBench$Decl" "formals" "Ljava/util/ArrayList;" "FeatherBench") ∈ lw_tbl := lw_at lw_m3 119 rfl
theorem q762 : (Jvm.Cond.fieldLinkNest "FeatherBench$Reader" (151 : Nat) "FeatherBench$Decl" "isStruct" "Z" "FeatherBench") ∈ lw_tbl := lw_at lw_m3 123 rfl
theorem q765 : (Jvm.Cond.fieldLinkNest "FeatherBench$Reader" (159 : Nat) "FeatherBench$Decl" "fields" "Ljava/util/ArrayList;" "FeatherBench") ∈ lw_tbl := lw_at lw_m3 126 rfl
theorem q769 : (Jvm.Cond.fieldLinkNest "FeatherBench$Reader" (180 : Nat) "FeatherBench$Decl" "heads" "Ljava/util/ArrayList;" "FeatherBench") ∈ lw_tbl := lw_at lw_m3 130 rfl
theorem q790 : (Jvm.Cond.methodLink "FeatherBench$Reader" (146 : Nat) ({ cls := "FeatherBench$Reader", name := "formals", desc := "(Ljava/util/ArrayList;)V" } : Jvm.MethodName)) ∈ lw_all := lw_g (lw_at lw_m3 151 rfl) rfl
theorem q791 : (Jvm.Cond.privateMethod ({ cls := "FeatherBench$Reader", name := "formals", desc := "(Ljava/util/ArrayList;)V" } : Jvm.MethodName)) ∈ lw_tbl := lw_at lw_m3 152 rfl
theorem q792 : (Jvm.Cond.instanceMethod ({ cls := "FeatherBench$Reader", name := "formals", desc := "(Ljava/util/ArrayList;)V" } : Jvm.MethodName)) ∈ lw_all := lw_g (lw_at lw_m3 153 rfl) rfl
theorem q793 : (Jvm.Cond.code ({ cls := "FeatherBench$Reader", name := "formals", desc := "(Ljava/util/ArrayList;)V" } : Jvm.MethodName) prog_17_method_21_code (4 : Nat) (Option.none : Option Jvm.ClassFile.FieldType)) ∈ lw_all := lw_g (lw_at lw_m3 154 rfl) rfl
theorem q794 : (Jvm.Cond.methodLink "FeatherBench$Reader" (79 : Nat) ({ cls := "FeatherBench$Reader", name := "meets", desc := "(C)Z" } : Jvm.MethodName)) ∈ lw_all := lw_g (lw_at lw_m3 155 rfl) rfl
theorem q795 : (Jvm.Cond.privateMethod ({ cls := "FeatherBench$Reader", name := "meets", desc := "(C)Z" } : Jvm.MethodName)) ∈ lw_tbl := lw_at lw_m3 156 rfl
theorem q796 : (Jvm.Cond.instanceMethod ({ cls := "FeatherBench$Reader", name := "meets", desc := "(C)Z" } : Jvm.MethodName)) ∈ lw_all := lw_g (lw_at lw_m3 157 rfl) rfl
theorem q797 : (Jvm.Cond.code ({ cls := "FeatherBench$Reader", name := "meets", desc := "(C)Z" } : Jvm.MethodName) prog_17_method_11_code (2 : Nat) (Option.some Jvm.ClassFile.FieldType.boolean)) ∈ lw_all := lw_g (lw_at lw_m3 158 rfl) rfl
theorem q798 : (Jvm.Cond.methodLink "FeatherBench$Reader" (75 : Nat) ({ cls := "FeatherBench$Reader", name := "isSign", desc := "(C)Z" } : Jvm.MethodName)) ∈ lw_all := lw_g (lw_at lw_m3 159 rfl) rfl
theorem q799 : (Jvm.Cond.privateMethod ({ cls := "FeatherBench$Reader", name := "isSign", desc := "(C)Z" } : Jvm.MethodName)) ∈ lw_tbl := lw_at lw_m3 160 rfl
theorem q800 : (Jvm.Cond.instanceMethod ({ cls := "FeatherBench$Reader", name := "isSign", desc := "(C)Z" } : Jvm.MethodName)) ∈ lw_all := lw_g (lw_at lw_m3 161 rfl) rfl
theorem q801 : (Jvm.Cond.code ({ cls := "FeatherBench$Reader", name := "isSign", desc := "(C)Z" } : Jvm.MethodName) prog_17_method_10_code (2 : Nat) (Option.some Jvm.ClassFile.FieldType.boolean)) ∈ lw_all := lw_g (lw_at lw_m3 162 rfl) rfl
theorem q802 : (Jvm.Cond.classLink "FeatherBench$Reader" (187 : Nat) "FeatherBench$Param") ∈ lw_all := lw_g (lw_at lw_m3 163 rfl) rfl
theorem q804 : (Jvm.Cond.methodLink "FeatherBench$Reader" (162 : Nat) ({ cls := "FeatherBench$Reader", name := "listed", desc := "(I)Ljava/lang/String;" } : Jvm.MethodName)) ∈ lw_all := lw_g (lw_at lw_m3 165 rfl) rfl
theorem q805 : (Jvm.Cond.privateMethod ({ cls := "FeatherBench$Reader", name := "listed", desc := "(I)Ljava/lang/String;" } : Jvm.MethodName)) ∈ lw_tbl := lw_at lw_m3 166 rfl
theorem q806 : (Jvm.Cond.instanceMethod ({ cls := "FeatherBench$Reader", name := "listed", desc := "(I)Ljava/lang/String;" } : Jvm.MethodName)) ∈ lw_all := lw_g (lw_at lw_m3 167 rfl) rfl
theorem q807 : (Jvm.Cond.code ({ cls := "FeatherBench$Reader", name := "listed", desc := "(I)Ljava/lang/String;" } : Jvm.MethodName) prog_17_method_16_code (2 : Nat) (Option.some (Jvm.ClassFile.FieldType.object "java/lang/String"))) ∈ lw_all := lw_g (lw_at lw_m3 168 rfl) rfl
theorem q808 : (Jvm.Cond.methodLink "FeatherBench$Reader" (189 : Nat) ({ cls := "FeatherBench$Param", name := "<init>", desc := "(Ljava/lang/String;I)V" } : Jvm.MethodName)) ∈ lw_all := lw_g (lw_at lw_m3 169 rfl) rfl
theorem q817 : (Jvm.Cond.fieldLinkNest "FeatherBench$Reader" (190 : Nat) "FeatherBench$Param" "tree" "LFeatherBench$Tree;" "FeatherBench") ∈ lw_tbl := lw_at lw_m3 178 rfl
theorem q829 : (Jvm.Cond.methodLink "FeatherBench$Reader" (169 : Nat) ({ cls := "FeatherBench$Reader", name := "tree", desc := "()LFeatherBench$Tree;" } : Jvm.MethodName)) ∈ lw_all := lw_g (lw_at lw_m3 190 rfl) rfl
theorem q830 : (Jvm.Cond.instanceMethod ({ cls := "FeatherBench$Reader", name := "tree", desc := "()LFeatherBench$Tree;" } : Jvm.MethodName)) ∈ lw_all := lw_g (lw_at lw_m3 191 rfl) rfl
theorem q831 : (Jvm.Cond.selects "FeatherBench$Reader" ({ cls := "FeatherBench$Reader", name := "tree", desc := "()LFeatherBench$Tree;" } : Jvm.MethodName) ({ cls := "FeatherBench$Reader", name := "tree", desc := "()LFeatherBench$Tree;" } : Jvm.MethodName)) ∈ lw_all := lw_g (lw_at lw_m3 192 rfl) rfl
theorem q832 : (Jvm.Cond.code ({ cls := "FeatherBench$Reader", name := "tree", desc := "()LFeatherBench$Tree;" } : Jvm.MethodName) prog_17_method_24_code (3 : Nat) (Option.some (Jvm.ClassFile.FieldType.object "FeatherBench$Tree"))) ∈ lw_all := lw_g (lw_at lw_m3 193 rfl) rfl
theorem q833 : (Jvm.Cond.methodLink "FeatherBench$Reader" (220 : Nat) ({ cls := "FeatherBench$Reader", name := "deeper", desc := "()V" } : Jvm.MethodName)) ∈ lw_all := lw_g (lw_at lw_m3 194 rfl) rfl
theorem q834 : (Jvm.Cond.privateMethod ({ cls := "FeatherBench$Reader", name := "deeper", desc := "()V" } : Jvm.MethodName)) ∈ lw_tbl := lw_at lw_m3 195 rfl
theorem q835 : (Jvm.Cond.instanceMethod ({ cls := "FeatherBench$Reader", name := "deeper", desc := "()V" } : Jvm.MethodName)) ∈ lw_all := lw_g (lw_at lw_m3 196 rfl) rfl
theorem q836 : (Jvm.Cond.code ({ cls := "FeatherBench$Reader", name := "deeper", desc := "()V" } : Jvm.MethodName) prog_17_method_17_code (1 : Nat) (Option.none : Option Jvm.ClassFile.FieldType)) ∈ lw_all := lw_g (lw_at lw_m3 197 rfl) rfl
theorem q837 : (Jvm.Cond.classLink "FeatherBench$Reader" (223 : Nat) "FeatherBench$Tree") ∈ lw_all := lw_g (lw_at lw_m3 198 rfl) rfl
theorem q839 : (Jvm.Cond.methodLink "FeatherBench$Reader" (225 : Nat) ({ cls := "FeatherBench$Tree", name := "<init>", desc := "(Ljava/lang/String;I)V" } : Jvm.MethodName)) ∈ lw_all := lw_g (lw_at lw_m3 200 rfl) rfl
theorem q851 : (Jvm.Cond.fieldLinkNest "FeatherBench$Reader" (229 : Nat) "FeatherBench$Tree" "args" "Ljava/util/ArrayList;" "FeatherBench") ∈ lw_tbl := lw_at lw_m3 212 rfl
theorem q853 : (Jvm.Cond.fieldLinkNest "FeatherBench$Reader" (226 : Nat) "FeatherBench$Tree" "hasArgs" "Z" "FeatherBench") ∈ lw_tbl := lw_at lw_m3 214 rfl
theorem q868 : (Jvm.Cond.methodLink "FeatherBench$Reader" (232 : Nat) ({ cls := "FeatherBench$Reader", name := "trees", desc := "(Ljava/util/ArrayList;)V" } : Jvm.MethodName)) ∈ lw_all := lw_g (lw_at lw_m3 229 rfl) rfl
theorem q869 : (Jvm.Cond.privateMethod ({ cls := "FeatherBench$Reader", name := "trees", desc := "(Ljava/util/ArrayList;)V" } : Jvm.MethodName)) ∈ lw_tbl := lw_at lw_m3 230 rfl
theorem q870 : (Jvm.Cond.instanceMethod ({ cls := "FeatherBench$Reader", name := "trees", desc := "(Ljava/util/ArrayList;)V" } : Jvm.MethodName)) ∈ lw_all := lw_g (lw_at lw_m3 231 rfl) rfl
theorem q871 : (Jvm.Cond.code ({ cls := "FeatherBench$Reader", name := "trees", desc := "(Ljava/util/ArrayList;)V" } : Jvm.MethodName) prog_17_method_25_code (2 : Nat) (Option.none : Option Jvm.ClassFile.FieldType)) ∈ lw_all := lw_g (lw_at lw_m3 232 rfl) rfl
theorem q872 : (Jvm.Cond.methodLink "FeatherBench$Reader" (132 : Nat) ({ cls := "FeatherBench$Reader", name := "need", desc := "(C)V" } : Jvm.MethodName)) ∈ lw_all := lw_g (lw_at lw_m3 233 rfl) rfl
theorem q873 : (Jvm.Cond.instanceMethod ({ cls := "FeatherBench$Reader", name := "need", desc := "(C)V" } : Jvm.MethodName)) ∈ lw_all := lw_g (lw_at lw_m3 234 rfl) rfl
theorem q874 : (Jvm.Cond.selects "FeatherBench$Reader" ({ cls := "FeatherBench$Reader", name := "need", desc := "(C)V" } : Jvm.MethodName) ({ cls := "FeatherBench$Reader", name := "need", desc := "(C)V" } : Jvm.MethodName)) ∈ lw_all := lw_g (lw_at lw_m3 235 rfl) rfl
theorem q875 : (Jvm.Cond.code ({ cls := "FeatherBench$Reader", name := "need", desc := "(C)V" } : Jvm.MethodName) prog_17_method_12_code (2 : Nat) (Option.none : Option Jvm.ClassFile.FieldType)) ∈ lw_all := lw_g (lw_at lw_m3 236 rfl) rfl
theorem q876 : (Jvm.Cond.methodLink "FeatherBench$Reader" (176 : Nat) ({ cls := "java/util/ArrayList", name := "add", desc := "(Ljava/lang/Object;)Z" } : Jvm.MethodName)) ∈ lw_all := lw_g (lw_at lw_m3 237 rfl) rfl
theorem q917 : (Jvm.Cond.selects "FeatherBench$Reader" ({ cls := "java/lang/Object", name := "getClass", desc := "()Ljava/lang/Class;" } : Jvm.MethodName) ({ cls := "java/lang/Object", name := "getClass", desc := "()Ljava/lang/Class;" } : Jvm.MethodName)) ∈ lw_all := lw_g (lw_at lw_m4 38 rfl) rfl
theorem q935 : (Jvm.Cond.stringRef "FeatherBench$Reader" (149 : Nat) "struct") ∈ lw_tbl := lw_at lw_m4 56 rfl
theorem q936 : (Jvm.Cond.stringRef "FeatherBench$Reader" (155 : Nat) "interface") ∈ lw_tbl := lw_at lw_m4 57 rfl
theorem q937 : (Jvm.Cond.classLink "FeatherBench$Reader" (157 : Nat) "FeatherBench$Var") ∈ lw_all := lw_g (lw_at lw_m4 58 rfl) rfl
theorem q939 : (Jvm.Cond.methodLink "FeatherBench$Reader" (166 : Nat) ({ cls := "FeatherBench$Var", name := "<init>", desc := "(Ljava/lang/String;I)V" } : Jvm.MethodName)) ∈ lw_all := lw_g (lw_at lw_m4 60 rfl) rfl
theorem q948 : (Jvm.Cond.fieldLinkNest "FeatherBench$Reader" (173 : Nat) "FeatherBench$Var" "tree" "LFeatherBench$Tree;" "FeatherBench") ∈ lw_tbl := lw_at lw_m4 69 rfl
theorem q960 : (Jvm.Cond.methodLink "FeatherBench$Reader" (183 : Nat) ({ cls := "FeatherBench$Reader", name := "head", desc := "(I)LFeatherBench$Head;" } : Jvm.MethodName)) ∈ lw_all := lw_g (lw_at lw_m4 81 rfl) rfl
theorem q961 : (Jvm.Cond.privateMethod ({ cls := "FeatherBench$Reader", name := "head", desc := "(I)LFeatherBench$Head;" } : Jvm.MethodName)) ∈ lw_tbl := lw_at lw_m4 82 rfl
theorem q962 : (Jvm.Cond.instanceMethod ({ cls := "FeatherBench$Reader", name := "head", desc := "(I)LFeatherBench$Head;" } : Jvm.MethodName)) ∈ lw_all := lw_g (lw_at lw_m4 83 rfl) rfl
theorem q963 : (Jvm.Cond.code ({ cls := "FeatherBench$Reader", name := "head", desc := "(I)LFeatherBench$Head;" } : Jvm.MethodName) prog_17_method_22_code (6 : Nat) (Option.some (Jvm.ClassFile.FieldType.object "FeatherBench$Head"))) ∈ lw_all := lw_g (lw_at lw_m4 84 rfl) rfl
theorem q964 : (Jvm.Cond.classLink "FeatherBench$Reader" (191 : Nat) "FeatherBench$Head") ∈ lw_all := lw_g (lw_at lw_m4 85 rfl) rfl
theorem q966 : (Jvm.Cond.methodLink "FeatherBench$Reader" (193 : Nat) ({ cls := "FeatherBench$Head", name := "<init>", desc := "(Ljava/lang/String;I)V" } : Jvm.MethodName)) ∈ lw_all := lw_g (lw_at lw_m4 87 rfl) rfl
theorem q981 : (Jvm.Cond.fieldLinkNest "FeatherBench$Reader" (194 : Nat) "FeatherBench$Head" "formals" "Ljava/util/ArrayList;" "FeatherBench") ∈ lw_tbl := lw_at lw_m4 102 rfl
theorem q985 : (Jvm.Cond.fieldLinkNest "FeatherBench$Reader" (195 : Nat) "FeatherBench$Head" "vars" "Ljava/util/ArrayList;" "FeatherBench") ∈ lw_tbl := lw_at lw_m4 106 rfl
theorem q988 : (Jvm.Cond.fieldLinkNest "FeatherBench$Reader" (198 : Nat) "FeatherBench$Head" "result" "LFeatherBench$Tree;" "FeatherBench") ∈ lw_tbl := lw_at lw_m4 109 rfl
theorem q1000 : (Jvm.Cond.stringRef "FeatherBench$Reader" (121 : Nat) "func") ∈ lw_tbl := lw_at lw_m4 121 rfl
theorem q1001 : (Jvm.Cond.methodLink "FeatherBench$Reader" (123 : Nat) ({ cls := "FeatherBench$Reader", name := "func", desc := "()V" } : Jvm.MethodName)) ∈ lw_all := lw_g (lw_at lw_m4 122 rfl) rfl
theorem q1002 : (Jvm.Cond.privateMethod ({ cls := "FeatherBench$Reader", name := "func", desc := "()V" } : Jvm.MethodName)) ∈ lw_tbl := lw_at lw_m4 123 rfl
theorem q1003 : (Jvm.Cond.instanceMethod ({ cls := "FeatherBench$Reader", name := "func", desc := "()V" } : Jvm.MethodName)) ∈ lw_all := lw_g (lw_at lw_m4 124 rfl) rfl
theorem q1004 : (Jvm.Cond.code ({ cls := "FeatherBench$Reader", name := "func", desc := "()V" } : Jvm.MethodName) prog_17_method_23_code (5 : Nat) (Option.none : Option Jvm.ClassFile.FieldType)) ∈ lw_all := lw_g (lw_at lw_m4 125 rfl) rfl
theorem q1005 : (Jvm.Cond.classLink "FeatherBench$Reader" (201 : Nat) "FeatherBench$Func") ∈ lw_all := lw_g (lw_at lw_m4 126 rfl) rfl
theorem q1007 : (Jvm.Cond.methodLink "FeatherBench$Reader" (203 : Nat) ({ cls := "FeatherBench$Func", name := "<init>", desc := "(LFeatherBench$Var;Ljava/lang/String;I)V" } : Jvm.MethodName)) ∈ lw_all := lw_g (lw_at lw_m4 128 rfl) rfl
theorem q1022 : (Jvm.Cond.fieldLinkNest "FeatherBench$Reader" (206 : Nat) "FeatherBench$Func" "params" "Ljava/util/ArrayList;" "FeatherBench") ∈ lw_tbl := lw_at lw_m4 143 rfl
theorem q1026 : (Jvm.Cond.fieldLinkNest "FeatherBench$Reader" (209 : Nat) "FeatherBench$Func" "head" "LFeatherBench$Head;" "FeatherBench") ∈ lw_tbl := lw_at lw_m4 147 rfl
theorem q1029 : (Jvm.Cond.fieldLinkNest "FeatherBench$Reader" (217 : Nat) "FeatherBench$Func" "body" "LFeatherBench$Exp;" "FeatherBench") ∈ lw_tbl := lw_at lw_m4 150 rfl
theorem q1046 : (Jvm.Cond.stringRef "FeatherBench$Reader" (212 : Nat) "return") ∈ lw_tbl := lw_at lw_m4 167 rfl
theorem q1047 : (Jvm.Cond.methodLink "FeatherBench$Reader" (214 : Nat) ({ cls := "FeatherBench$Reader", name := "need", desc := "(Ljava/lang/String;)V" } : Jvm.MethodName)) ∈ lw_all := lw_g (lw_at lw_m4 168 rfl) rfl
theorem q1048 : (Jvm.Cond.privateMethod ({ cls := "FeatherBench$Reader", name := "need", desc := "(Ljava/lang/String;)V" } : Jvm.MethodName)) ∈ lw_tbl := lw_at lw_m4 169 rfl
theorem q1049 : (Jvm.Cond.instanceMethod ({ cls := "FeatherBench$Reader", name := "need", desc := "(Ljava/lang/String;)V" } : Jvm.MethodName)) ∈ lw_all := lw_g (lw_at lw_m4 170 rfl) rfl
theorem q1050 : (Jvm.Cond.code ({ cls := "FeatherBench$Reader", name := "need", desc := "(Ljava/lang/String;)V" } : Jvm.MethodName) prog_17_method_13_code (2 : Nat) (Option.none : Option Jvm.ClassFile.FieldType)) ∈ lw_all := lw_g (lw_at lw_m4 171 rfl) rfl
theorem q1051 : (Jvm.Cond.methodLink "FeatherBench$Reader" (125 : Nat) ({ cls := "FeatherBench$Reader", name := "e", desc := "()LFeatherBench$Exp;" } : Jvm.MethodName)) ∈ lw_all := lw_g (lw_at lw_m4 172 rfl) rfl
theorem q1052 : (Jvm.Cond.privateMethod ({ cls := "FeatherBench$Reader", name := "e", desc := "()LFeatherBench$Exp;" } : Jvm.MethodName)) ∈ lw_tbl := lw_at lw_m4 173 rfl
theorem q1053 : (Jvm.Cond.instanceMethod ({ cls := "FeatherBench$Reader", name := "e", desc := "()LFeatherBench$Exp;" } : Jvm.MethodName)) ∈ lw_all := lw_g (lw_at lw_m4 174 rfl) rfl
theorem q1054 : (Jvm.Cond.code ({ cls := "FeatherBench$Reader", name := "e", desc := "()LFeatherBench$Exp;" } : Jvm.MethodName) prog_17_method_26_code (2 : Nat) (Option.some (Jvm.ClassFile.FieldType.object "FeatherBench$Exp"))) ∈ lw_all := lw_g (lw_at lw_m4 175 rfl) rfl
theorem q1055 : (Jvm.Cond.classLink "FeatherBench$Reader" (235 : Nat) "FeatherBench$Exp") ∈ lw_all := lw_g (lw_at lw_m4 176 rfl) rfl
theorem q1057 : (Jvm.Cond.methodLink "FeatherBench$Reader" (237 : Nat) ({ cls := "FeatherBench$Exp", name := "<init>", desc := "(I)V" } : Jvm.MethodName)) ∈ lw_all := lw_g (lw_at lw_m4 178 rfl) rfl
theorem q1067 : (Jvm.Cond.fieldLinkNest "FeatherBench$Reader" (248 : Nat) "FeatherBench$Exp" "var" "Ljava/lang/String;" "FeatherBench") ∈ lw_tbl := lw_at lw_m4 188 rfl
theorem q1073 : (Jvm.Cond.fieldLinkNest "FeatherBench$Reader" (241 : Nat) "FeatherBench$Exp" "tree" "LFeatherBench$Tree;" "FeatherBench") ∈ lw_tbl := lw_at lw_m4 194 rfl
theorem q1078 : (Jvm.Cond.fieldLinkNest "FeatherBench$Reader" (242 : Nat) "FeatherBench$Exp" "parts" "Ljava/util/ArrayList;" "FeatherBench") ∈ lw_tbl := lw_at lw_m4 199 rfl
theorem q1083 : (Jvm.Cond.fieldLinkNest "FeatherBench$Reader" (252 : Nat) "FeatherBench$Exp" "dots" "Ljava/util/ArrayList;" "FeatherBench") ∈ lw_tbl := lw_at lw_m4 204 rfl
theorem q1097 : (Jvm.Cond.methodLink "FeatherBench$Reader" (238 : Nat) ({ cls := "FeatherBench$Reader", name := "isAhead", desc := "(C)Z" } : Jvm.MethodName)) ∈ lw_all := lw_g (lw_at lw_m4 218 rfl) rfl
theorem q1098 : (Jvm.Cond.privateMethod ({ cls := "FeatherBench$Reader", name := "isAhead", desc := "(C)Z" } : Jvm.MethodName)) ∈ lw_tbl := lw_at lw_m4 219 rfl
theorem q1099 : (Jvm.Cond.instanceMethod ({ cls := "FeatherBench$Reader", name := "isAhead", desc := "(C)Z" } : Jvm.MethodName)) ∈ lw_all := lw_g (lw_at lw_m4 220 rfl) rfl
theorem q1100 : (Jvm.Cond.code ({ cls := "FeatherBench$Reader", name := "isAhead", desc := "(C)Z" } : Jvm.MethodName) prog_17_method_18_code (3 : Nat) (Option.some Jvm.ClassFile.FieldType.boolean)) ∈ lw_all := lw_g (lw_at lw_m4 221 rfl) rfl
theorem q1101 : (Jvm.Cond.methodLink "FeatherBench$Reader" (245 : Nat) ({ cls := "FeatherBench$Reader", name := "list", desc := "(Ljava/util/ArrayList;)V" } : Jvm.MethodName)) ∈ lw_all := lw_g (lw_at lw_m4 222 rfl) rfl
theorem q1102 : (Jvm.Cond.privateMethod ({ cls := "FeatherBench$Reader", name := "list", desc := "(Ljava/util/ArrayList;)V" } : Jvm.MethodName)) ∈ lw_tbl := lw_at lw_m4 223 rfl
theorem q1103 : (Jvm.Cond.instanceMethod ({ cls := "FeatherBench$Reader", name := "list", desc := "(Ljava/util/ArrayList;)V" } : Jvm.MethodName)) ∈ lw_all := lw_g (lw_at lw_m4 224 rfl) rfl
theorem q1104 : (Jvm.Cond.code ({ cls := "FeatherBench$Reader", name := "list", desc := "(Ljava/util/ArrayList;)V" } : Jvm.MethodName) prog_17_method_27_code (2 : Nat) (Option.none : Option Jvm.ClassFile.FieldType)) ∈ lw_all := lw_g (lw_at lw_m4 225 rfl) rfl
theorem q1105 : (Jvm.Cond.methodLink "FeatherBench$Reader" (255 : Nat) ({ cls := "FeatherBench$Reader", name := "dot", desc := "()LFeatherBench$Dot;" } : Jvm.MethodName)) ∈ lw_all := lw_g (lw_at lw_m4 226 rfl) rfl
theorem q1106 : (Jvm.Cond.privateMethod ({ cls := "FeatherBench$Reader", name := "dot", desc := "()LFeatherBench$Dot;" } : Jvm.MethodName)) ∈ lw_tbl := lw_at lw_m4 227 rfl
theorem q1107 : (Jvm.Cond.instanceMethod ({ cls := "FeatherBench$Reader", name := "dot", desc := "()LFeatherBench$Dot;" } : Jvm.MethodName)) ∈ lw_all := lw_g (lw_at lw_m4 228 rfl) rfl
theorem q1108 : (Jvm.Cond.code ({ cls := "FeatherBench$Reader", name := "dot", desc := "()LFeatherBench$Dot;" } : Jvm.MethodName) prog_17_method_28_code (4 : Nat) (Option.some (Jvm.ClassFile.FieldType.object "FeatherBench$Dot"))) ∈ lw_all := lw_g (lw_at lw_m4 229 rfl) rfl
theorem q1109 : (Jvm.Cond.classLink "FeatherBench$Reader" (259 : Nat) "FeatherBench$Dot") ∈ lw_all := lw_g (lw_at lw_m4 230 rfl) rfl
theorem q1111 : (Jvm.Cond.methodLink "FeatherBench$Reader" (261 : Nat) ({ cls := "FeatherBench$Dot", name := "<init>", desc := "(II)V" } : Jvm.MethodName)) ∈ lw_all := lw_g (lw_at lw_m4 232 rfl) rfl
theorem q1127 : (Jvm.Cond.fieldLinkNest "FeatherBench$Reader" (266 : Nat) "FeatherBench$Dot" "word" "Ljava/lang/String;" "FeatherBench") ∈ lw_tbl := lw_at lw_m5 8 rfl
theorem q1129 : (Jvm.Cond.fieldLinkNest "FeatherBench$Reader" (263 : Nat) "FeatherBench$Dot" "wordAt" "I" "FeatherBench") ∈ lw_tbl := lw_at lw_m5 10 rfl
theorem q1136 : (Jvm.Cond.fieldLinkNest "FeatherBench$Reader" (268 : Nat) "FeatherBench$Dot" "types" "Ljava/util/ArrayList;" "FeatherBench") ∈ lw_tbl := lw_at lw_m5 17 rfl
theorem q1141 : (Jvm.Cond.fieldLinkNest "FeatherBench$Reader" (269 : Nat) "FeatherBench$Dot" "args" "Ljava/util/ArrayList;" "FeatherBench") ∈ lw_tbl := lw_at lw_m5 22 rfl
theorem q1144 : (Jvm.Cond.fieldLinkNest "FeatherBench$Reader" (262 : Nat) "FeatherBench$Dot" "tree" "LFeatherBench$Tree;" "FeatherBench") ∈ lw_tbl := lw_at lw_m5 25 rfl
theorem q1417 : (Jvm.Cond.selects "FeatherBench$Reader" ({ cls := "java/lang/Object", name := "equals", desc := "(Ljava/lang/Object;)Z" } : Jvm.MethodName) ({ cls := "java/lang/Object", name := "equals", desc := "(Ljava/lang/Object;)Z" } : Jvm.MethodName)) ∈ lw_all := lw_g (lw_at lw_m6 58 rfl) rfl
theorem q1577 : (Jvm.Cond.instanceMethod ({ cls := "FeatherBench$Reader", name := "isEnd", desc := "()Z" } : Jvm.MethodName)) ∈ lw_all := lw_g (lw_at lw_m6 218 rfl) rfl
theorem q1578 : (Jvm.Cond.selects "FeatherBench$Reader" ({ cls := "FeatherBench$Reader", name := "isEnd", desc := "()Z" } : Jvm.MethodName) ({ cls := "FeatherBench$Reader", name := "isEnd", desc := "()Z" } : Jvm.MethodName)) ∈ lw_all := lw_g (lw_at lw_m6 219 rfl) rfl
theorem q1579 : (Jvm.Cond.code ({ cls := "FeatherBench$Reader", name := "isEnd", desc := "()Z" } : Jvm.MethodName) prog_17_method_6_code (1 : Nat) (Option.some Jvm.ClassFile.FieldType.boolean)) ∈ lw_all := lw_g (lw_at lw_m6 220 rfl) rfl
theorem q2696 : (Jvm.Cond.castable "FeatherBench$Reader" "java/lang/Object") ∈ lw_tbl := lw_at lw_m11 137 rfl
theorem in_X1 : ∀ w ∈ wsX10, w ∈ lw_all := lw_in wsX10 [230, 232, 234, 236, 238, 240, 242, 244, 246] (by decide +kernel) (by decide +kernel)
/-! FeatherBenchModel -/
def RX2 : String := "FeatherBenchModel"
def TX2 : u_T := fun k => match k with
  | 0 => ("FeatherBenchModel", "thrown", "I", false)
  | 1 => ("FeatherBenchModel", "tape", "[I", true)
  | 2 => ("FeatherBenchModel", "taped", "I", false)
  | 3 => ("FeatherBenchModel", "size", "I", false)
  | 4 => ("FeatherBenchModel", "sort", "[I", true)
  | 5 => ("FeatherBenchModel", "place", "[I", true)
  | 6 => ("FeatherBenchModel", "word", "[I", true)
  | 7 => ("FeatherBenchModel", "at", "I", false)
  | 8 => ("FeatherBenchModel", "fault", "I", false)
  | 9 => ("FeatherBenchModel", "bank", "I", false)
  | 10 => ("FeatherBenchModel", "wordA", "[J", true)
  | 11 => ("FeatherBenchModel", "wordB", "[J", true)
  | 12 => ("FeatherBenchModel", "words", "[I", true)
  | 13 => ("FeatherBenchModel", "keys", "Ljava/lang/String;", true)
  | 14 => ("FeatherBenchModel", "what", "[I", true)
  | 15 => ("FeatherBenchModel", "token", "[I", true)
  | 16 => ("FeatherBenchModel", "point", "[I", true)
  | 17 => ("FeatherBenchModel", "first", "[I", true)
  | 18 => ("FeatherBenchModel", "beside", "[I", true)
  | 19 => ("FeatherBenchModel", "many", "[I", true)
  | 20 => ("FeatherBenchModel", "ahead", "[I", true)
  | 21 => ("FeatherBenchModel", "behindIt", "[I", true)
  | 22 => ("FeatherBenchModel", "typeOf", "[I", true)
  | 23 => ("FeatherBenchModel", "typesMany", "[I", true)
  | 24 => ("FeatherBenchModel", "start", "[I", true)
  | 25 => ("FeatherBenchModel", "length", "[I", true)
  | 26 => ("FeatherBenchModel", "nodes", "I", false)
  | 27 => ("FeatherBenchModel", "deep", "I", false)
  | 28 => ("FeatherBenchModel", "listMany", "I", false)
  | 29 => ("FeatherBenchModel", "now", "I", false)
  | 30 => ("FeatherBenchModel", "next", "I", false)
  | 31 => ("FeatherBenchModel", "types", "[I", true)
  | 32 => ("FeatherBenchModel", "typeToken", "[I", true)
  | 33 => ("FeatherBenchModel", "isStruct", "[Z", true)
  | 34 => ("FeatherBenchModel", "formals", "[I", true)
  | 35 => ("FeatherBenchModel", "formalToken", "[I", true)
  | 36 => ("FeatherBenchModel", "formalBound", "[I", true)
  | 37 => ("FeatherBenchModel", "fields", "[I", true)
  | 38 => ("FeatherBenchModel", "fieldToken", "[I", true)
  | 39 => ("FeatherBenchModel", "fieldType", "[I", true)
  | 40 => ("FeatherBenchModel", "headsFrom", "[I", true)
  | 41 => ("FeatherBenchModel", "headsMany", "[I", true)
  | 42 => ("FeatherBenchModel", "heads", "I", false)
  | 43 => ("FeatherBenchModel", "headToken", "[I", true)
  | 44 => ("FeatherBenchModel", "headFormals", "[I", true)
  | 45 => ("FeatherBenchModel", "headFormalToken", "[I", true)
  | 46 => ("FeatherBenchModel", "headBound", "[I", true)
  | 47 => ("FeatherBenchModel", "vars", "[I", true)
  | 48 => ("FeatherBenchModel", "varToken", "[I", true)
  | 49 => ("FeatherBenchModel", "varType", "[I", true)
  | 50 => ("FeatherBenchModel", "headType", "[I", true)
  | 51 => ("FeatherBenchModel", "funcs", "[I", true)
  | 52 => ("FeatherBenchModel", "funcVar", "[I", true)
  | 53 => ("FeatherBenchModel", "funcName", "[I", true)
  | 54 => ("FeatherBenchModel", "funcParams", "[I", true)
  | 55 => ("FeatherBenchModel", "funcParam", "[I", true)
  | 56 => ("FeatherBenchModel", "funcHead", "[I", true)
  | 57 => ("FeatherBenchModel", "funcE", "[I", true)
  | 58 => ("FeatherBenchModel", "mainE", "[I", true)
  | 59 => ("FeatherBenchModel", "hasProgram", "[Z", true)
  | 60 => ("FeatherBenchModel", "structOf", "[I", true)
  | 61 => ("FeatherBenchModel", "declared", "[I", true)
  | 62 => ("FeatherBenchModel", "declaredMany", "[I", true)
  | 63 => ("FeatherBenchModel", "ty", "[I", true)
  | 64 => ("FeatherBenchModel", "top", "I", false)
  | 65 => ("FeatherBenchModel", "statics", "I", false)
  | 66 => ("FeatherBenchModel", "groupCode", "[I", true)
  | 67 => ("FeatherBenchModel", "groupMany", "[I", true)
  | 68 => ("FeatherBenchModel", "given", "[I", true)
  | 69 => ("FeatherBenchModel", "givenLong", "[I", true)
  | 70 => ("FeatherBenchModel", "envs", "I", false)
  | 71 => ("FeatherBenchModel", "putAt", "I", false)
  | 72 => ("FeatherBenchModel", "putLong", "I", false)
  | 73 => ("FeatherBenchModel", "headAt", "I", false)
  | 74 => ("FeatherBenchModel", "headCode", "I", false)
  | 75 => ("FeatherBenchModel", "now0", "I", false)
  | 76 => ("FeatherBenchModel", "inType", "I", false)
  | 77 => ("FeatherBenchModel", "inHead", "I", false)
  | 78 => ("FeatherBenchModel", "inFunc", "I", false)
  | 79 => ("FeatherBenchModel", "holds", "[Z", true)
  | 80 => ("FeatherBenchModel", "isAt", "I", false)
  | 81 => ("FeatherBenchModel", "isLong", "I", false)
  | 82 => ("FeatherBenchModel", "openTypes", "[I", true)
  | 83 => ("FeatherBenchModel", "openAt", "[I", true)
  | 84 => ("FeatherBenchModel", "openLong", "[I", true)
  | 85 => ("FeatherBenchModel", "opens", "I", false)
  | 86 => ("FeatherBenchModel", "mainAt", "I", false)
  | 87 => ("FeatherBenchModel", "mainLong", "I", false)
  | 88 => ("FeatherBenchModel", "mainType", "[I", true)
  | 89 => ("FeatherBenchModel", "mainTypeLong", "[I", true)
  | 90 => ("FeatherBenchModel", "isThere", "Z", false)
  | 91 => ("FeatherBenchModel", "hasRun", "I", false)
  | 92 => ("FeatherBenchModel", "failedAt", "I", false)
  | 93 => ("FeatherBenchModel", "callMany", "I", false)
  | 94 => ("FeatherBenchModel", "steps", "I", false)
  | 95 => ("FeatherBenchModel", "latest", "I", false)
  | 96 => ("FeatherBenchModel", "limit", "I", false)
  | 97 => ("FeatherBenchModel", "valueTop", "I", false)
  | 98 => ("FeatherBenchModel", "values", "I", false)
  | 99 => ("FeatherBenchModel", "valueAt", "[I", true)
  | 100 => ("FeatherBenchModel", "valueLong", "[I", true)
  | 101 => ("FeatherBenchModel", "part", "[I", true)
  | 102 => ("FeatherBenchModel", "got", "I", false)
  | 103 => ("FeatherBenchModel", "result", "I", false)
  | 104 => ("FeatherBenchModel", "pile", "[I", true)
  | 105 => ("FeatherBenchModel", "piled", "I", false)
  | 106 => ("FeatherBenchModel", "callsIn", "I", false)
  | 107 => ("FeatherBenchModel", "runAt", "I", false)
  | 108 => ("FeatherBenchModel", "runLong", "I", false)
  | 109 => ("FeatherBenchModel", "madeMany", "I", false)
  | 110 => ("FeatherBenchModel", "wasMade", "Z", false)
  | 111 => ("FeatherBenchModel", "isFit", "Z", false)
  | 112 => ("FeatherBenchModel", "rows", "I", false)
  | 113 => ("FeatherBenchModel", "rowSort", "[I", true)
  | 114 => ("FeatherBenchModel", "rowWord", "[I", true)
  | 115 => ("FeatherBenchModel", "rowMany", "[I", true)
  | 116 => ("FeatherBenchModel", "rowAt", "[I", true)
  | 117 => ("FeatherBenchModel", "rowLong", "[I", true)
  | 118 => ("FeatherBenchModel", "madeTop", "I", false)
  | 119 => ("FeatherBenchModel", "out", "[I", true)
  | 120 => ("FeatherBenchModel", "outs", "I", false)
  | 121 => ("FeatherBenchModel", "saidRow", "[I", true)
  | 122 => ("FeatherBenchModel", "saidValue", "[I", true)
  | 123 => ("FeatherBenchModel", "saidMany", "[I", true)
  | _ => ("FeatherBenchModel", "saids", "I", false)
def tyX2 : Nat → FieldType := fun k => match k with
  | 0 => .int
  | 1 => .array .int
  | 2 => .int
  | 3 => .int
  | 4 => .array .int
  | 5 => .array .int
  | 6 => .array .int
  | 7 => .int
  | 8 => .int
  | 9 => .int
  | 10 => .array .long
  | 11 => .array .long
  | 12 => .array .int
  | 13 => .object "java/lang/String"
  | 14 => .array .int
  | 15 => .array .int
  | 16 => .array .int
  | 17 => .array .int
  | 18 => .array .int
  | 19 => .array .int
  | 20 => .array .int
  | 21 => .array .int
  | 22 => .array .int
  | 23 => .array .int
  | 24 => .array .int
  | 25 => .array .int
  | 26 => .int
  | 27 => .int
  | 28 => .int
  | 29 => .int
  | 30 => .int
  | 31 => .array .int
  | 32 => .array .int
  | 33 => .array .boolean
  | 34 => .array .int
  | 35 => .array .int
  | 36 => .array .int
  | 37 => .array .int
  | 38 => .array .int
  | 39 => .array .int
  | 40 => .array .int
  | 41 => .array .int
  | 42 => .int
  | 43 => .array .int
  | 44 => .array .int
  | 45 => .array .int
  | 46 => .array .int
  | 47 => .array .int
  | 48 => .array .int
  | 49 => .array .int
  | 50 => .array .int
  | 51 => .array .int
  | 52 => .array .int
  | 53 => .array .int
  | 54 => .array .int
  | 55 => .array .int
  | 56 => .array .int
  | 57 => .array .int
  | 58 => .array .int
  | 59 => .array .boolean
  | 60 => .array .int
  | 61 => .array .int
  | 62 => .array .int
  | 63 => .array .int
  | 64 => .int
  | 65 => .int
  | 66 => .array .int
  | 67 => .array .int
  | 68 => .array .int
  | 69 => .array .int
  | 70 => .int
  | 71 => .int
  | 72 => .int
  | 73 => .int
  | 74 => .int
  | 75 => .int
  | 76 => .int
  | 77 => .int
  | 78 => .int
  | 79 => .array .boolean
  | 80 => .int
  | 81 => .int
  | 82 => .array .int
  | 83 => .array .int
  | 84 => .array .int
  | 85 => .int
  | 86 => .int
  | 87 => .int
  | 88 => .array .int
  | 89 => .array .int
  | 90 => .boolean
  | 91 => .int
  | 92 => .int
  | 93 => .int
  | 94 => .int
  | 95 => .int
  | 96 => .int
  | 97 => .int
  | 98 => .int
  | 99 => .array .int
  | 100 => .array .int
  | 101 => .array .int
  | 102 => .int
  | 103 => .int
  | 104 => .array .int
  | 105 => .int
  | 106 => .int
  | 107 => .int
  | 108 => .int
  | 109 => .int
  | 110 => .boolean
  | 111 => .boolean
  | 112 => .int
  | 113 => .array .int
  | 114 => .array .int
  | 115 => .array .int
  | 116 => .array .int
  | 117 => .array .int
  | 118 => .int
  | 119 => .array .int
  | 120 => .int
  | 121 => .array .int
  | 122 => .array .int
  | 123 => .array .int
  | _ => .int
abbrev wsX20 : List Cond := u_ws RX2 TX2 125
set_option maxRecDepth 100000 in
theorem nmX2 : ∀ a, a < 125 → ∀ b, b < 125 → a ≠ b → (TX2 a).2.1 ≠ (TX2 b).2.1 := by decide +kernel
set_option maxRecDepth 100000 in
theorem tyX2_ok : ∀ k, k < 125 → parseFieldDescriptor (TX2 k).2.2.1 = some (tyX2 k) := by decide +kernel
abbrev cX2_init : ByteArray := prog_24_method_1_code
def yX2_init : MethodName := ⟨RX2, "<init>", "()V"⟩
theorem dX2_init_0 : decode cX2_init 0 = .ok (.aload_n 0, 1) := by decide +kernel
theorem dX2_init_1 : decode cX2_init 1 = .ok (.invokespecial 1, 3) := by decide +kernel
theorem dX2_init_4 : decode cX2_init 4 = .ok (.aload_n 0, 1) := by decide +kernel
theorem dX2_init_5 : decode cX2_init 5 = .ok (.sipush 4000, 3) := by decide +kernel
theorem dX2_init_8 : decode cX2_init 8 = .ok (.newarray .int, 2) := by decide +kernel
theorem dX2_init_10 : decode cX2_init 10 = .ok (.putfield 7, 3) := by decide +kernel
theorem dX2_init_13 : decode cX2_init 13 = .ok (.aload_n 0, 1) := by decide +kernel
theorem dX2_init_14 : decode cX2_init 14 = .ok (.sipush 12006, 3) := by decide +kernel
theorem dX2_init_17 : decode cX2_init 17 = .ok (.newarray .int, 2) := by decide +kernel
theorem dX2_init_19 : decode cX2_init 19 = .ok (.putfield 13, 3) := by decide +kernel
theorem dX2_init_22 : decode cX2_init 22 = .ok (.aload_n 0, 1) := by decide +kernel
theorem dX2_init_23 : decode cX2_init 23 = .ok (.sipush 12006, 3) := by decide +kernel
theorem dX2_init_26 : decode cX2_init 26 = .ok (.newarray .int, 2) := by decide +kernel
theorem dX2_init_28 : decode cX2_init 28 = .ok (.putfield 16, 3) := by decide +kernel
theorem dX2_init_31 : decode cX2_init 31 = .ok (.aload_n 0, 1) := by decide +kernel
theorem dX2_init_32 : decode cX2_init 32 = .ok (.sipush 12006, 3) := by decide +kernel
theorem dX2_init_35 : decode cX2_init 35 = .ok (.newarray .int, 2) := by decide +kernel
theorem dX2_init_37 : decode cX2_init 37 = .ok (.putfield 19, 3) := by decide +kernel
theorem dX2_init_40 : decode cX2_init 40 = .ok (.aload_n 0, 1) := by decide +kernel
theorem dX2_init_41 : decode cX2_init 41 = .ok (.sipush 6300, 3) := by decide +kernel
theorem dX2_init_44 : decode cX2_init 44 = .ok (.newarray .long, 2) := by decide +kernel
theorem dX2_init_46 : decode cX2_init 46 = .ok (.putfield 22, 3) := by decide +kernel
theorem dX2_init_49 : decode cX2_init 49 = .ok (.aload_n 0, 1) := by decide +kernel
theorem dX2_init_50 : decode cX2_init 50 = .ok (.sipush 6300, 3) := by decide +kernel
theorem dX2_init_53 : decode cX2_init 53 = .ok (.newarray .long, 2) := by decide +kernel
theorem dX2_init_55 : decode cX2_init 55 = .ok (.putfield 26, 3) := by decide +kernel
theorem dX2_init_58 : decode cX2_init 58 = .ok (.aload_n 0, 1) := by decide +kernel
theorem dX2_init_59 : decode cX2_init 59 = .ok (.iconst 3, 1) := by decide +kernel
theorem dX2_init_60 : decode cX2_init 60 = .ok (.newarray .int, 2) := by decide +kernel
theorem dX2_init_62 : decode cX2_init 62 = .ok (.putfield 29, 3) := by decide +kernel
theorem dX2_init_65 : decode cX2_init 65 = .ok (.aload_n 0, 1) := by decide +kernel
theorem dX2_init_66 : decode cX2_init 66 = .ok (.ldc 32, 2) := by decide +kernel
theorem dX2_init_68 : decode cX2_init 68 = .ok (.putfield 34, 3) := by decide +kernel
theorem dX2_init_71 : decode cX2_init 71 = .ok (.aload_n 0, 1) := by decide +kernel
theorem dX2_init_72 : decode cX2_init 72 = .ok (.sipush 12006, 3) := by decide +kernel
theorem dX2_init_75 : decode cX2_init 75 = .ok (.newarray .int, 2) := by decide +kernel
theorem dX2_init_77 : decode cX2_init 77 = .ok (.putfield 38, 3) := by decide +kernel
theorem dX2_init_80 : decode cX2_init 80 = .ok (.aload_n 0, 1) := by decide +kernel
theorem dX2_init_81 : decode cX2_init 81 = .ok (.sipush 12006, 3) := by decide +kernel
theorem dX2_init_84 : decode cX2_init 84 = .ok (.newarray .int, 2) := by decide +kernel
theorem dX2_init_86 : decode cX2_init 86 = .ok (.putfield 41, 3) := by decide +kernel
theorem dX2_init_89 : decode cX2_init 89 = .ok (.aload_n 0, 1) := by decide +kernel
theorem dX2_init_90 : decode cX2_init 90 = .ok (.sipush 12006, 3) := by decide +kernel
theorem dX2_init_93 : decode cX2_init 93 = .ok (.newarray .int, 2) := by decide +kernel
theorem dX2_init_95 : decode cX2_init 95 = .ok (.putfield 44, 3) := by decide +kernel
theorem dX2_init_98 : decode cX2_init 98 = .ok (.aload_n 0, 1) := by decide +kernel
theorem dX2_init_99 : decode cX2_init 99 = .ok (.sipush 12006, 3) := by decide +kernel
theorem dX2_init_102 : decode cX2_init 102 = .ok (.newarray .int, 2) := by decide +kernel
theorem dX2_init_104 : decode cX2_init 104 = .ok (.putfield 47, 3) := by decide +kernel
theorem dX2_init_107 : decode cX2_init 107 = .ok (.aload_n 0, 1) := by decide +kernel
theorem dX2_init_108 : decode cX2_init 108 = .ok (.sipush 12006, 3) := by decide +kernel
theorem dX2_init_111 : decode cX2_init 111 = .ok (.newarray .int, 2) := by decide +kernel
theorem dX2_init_113 : decode cX2_init 113 = .ok (.putfield 50, 3) := by decide +kernel
theorem dX2_init_116 : decode cX2_init 116 = .ok (.aload_n 0, 1) := by decide +kernel
theorem dX2_init_117 : decode cX2_init 117 = .ok (.sipush 12006, 3) := by decide +kernel
theorem dX2_init_120 : decode cX2_init 120 = .ok (.newarray .int, 2) := by decide +kernel
theorem dX2_init_122 : decode cX2_init 122 = .ok (.putfield 53, 3) := by decide +kernel
theorem dX2_init_125 : decode cX2_init 125 = .ok (.aload_n 0, 1) := by decide +kernel
theorem dX2_init_126 : decode cX2_init 126 = .ok (.sipush 12006, 3) := by decide +kernel
theorem dX2_init_129 : decode cX2_init 129 = .ok (.newarray .int, 2) := by decide +kernel
theorem dX2_init_131 : decode cX2_init 131 = .ok (.putfield 56, 3) := by decide +kernel
theorem dX2_init_134 : decode cX2_init 134 = .ok (.aload_n 0, 1) := by decide +kernel
theorem dX2_init_135 : decode cX2_init 135 = .ok (.sipush 12006, 3) := by decide +kernel
theorem dX2_init_138 : decode cX2_init 138 = .ok (.newarray .int, 2) := by decide +kernel
theorem dX2_init_140 : decode cX2_init 140 = .ok (.putfield 59, 3) := by decide +kernel
theorem dX2_init_143 : decode cX2_init 143 = .ok (.aload_n 0, 1) := by decide +kernel
theorem dX2_init_144 : decode cX2_init 144 = .ok (.sipush 12006, 3) := by decide +kernel
theorem dX2_init_147 : decode cX2_init 147 = .ok (.newarray .int, 2) := by decide +kernel
theorem dX2_init_149 : decode cX2_init 149 = .ok (.putfield 62, 3) := by decide +kernel
theorem dX2_init_152 : decode cX2_init 152 = .ok (.aload_n 0, 1) := by decide +kernel
theorem dX2_init_153 : decode cX2_init 153 = .ok (.sipush 12006, 3) := by decide +kernel
theorem dX2_init_156 : decode cX2_init 156 = .ok (.newarray .int, 2) := by decide +kernel
theorem dX2_init_158 : decode cX2_init 158 = .ok (.putfield 65, 3) := by decide +kernel
theorem dX2_init_161 : decode cX2_init 161 = .ok (.aload_n 0, 1) := by decide +kernel
theorem dX2_init_162 : decode cX2_init 162 = .ok (.sipush 12006, 3) := by decide +kernel
theorem dX2_init_165 : decode cX2_init 165 = .ok (.newarray .int, 2) := by decide +kernel
theorem dX2_init_167 : decode cX2_init 167 = .ok (.putfield 68, 3) := by decide +kernel
theorem dX2_init_170 : decode cX2_init 170 = .ok (.aload_n 0, 1) := by decide +kernel
theorem dX2_init_171 : decode cX2_init 171 = .ok (.sipush 12006, 3) := by decide +kernel
theorem dX2_init_174 : decode cX2_init 174 = .ok (.newarray .int, 2) := by decide +kernel
theorem dX2_init_176 : decode cX2_init 176 = .ok (.putfield 71, 3) := by decide +kernel
theorem dX2_init_179 : decode cX2_init 179 = .ok (.aload_n 0, 1) := by decide +kernel
theorem dX2_init_180 : decode cX2_init 180 = .ok (.iconst 2, 1) := by decide +kernel
theorem dX2_init_181 : decode cX2_init 181 = .ok (.newarray .int, 2) := by decide +kernel
theorem dX2_init_183 : decode cX2_init 183 = .ok (.putfield 74, 3) := by decide +kernel
theorem dX2_init_186 : decode cX2_init 186 = .ok (.aload_n 0, 1) := by decide +kernel
theorem dX2_init_187 : decode cX2_init 187 = .ok (.bipush 48, 2) := by decide +kernel
theorem dX2_init_189 : decode cX2_init 189 = .ok (.newarray .int, 2) := by decide +kernel
theorem dX2_init_191 : decode cX2_init 191 = .ok (.putfield 77, 3) := by decide +kernel
theorem dX2_init_194 : decode cX2_init 194 = .ok (.aload_n 0, 1) := by decide +kernel
theorem dX2_init_195 : decode cX2_init 195 = .ok (.bipush 48, 2) := by decide +kernel
theorem dX2_init_197 : decode cX2_init 197 = .ok (.newarray .boolean, 2) := by decide +kernel
theorem dX2_init_199 : decode cX2_init 199 = .ok (.putfield 80, 3) := by decide +kernel
theorem dX2_init_202 : decode cX2_init 202 = .ok (.aload_n 0, 1) := by decide +kernel
theorem dX2_init_203 : decode cX2_init 203 = .ok (.bipush 48, 2) := by decide +kernel
theorem dX2_init_205 : decode cX2_init 205 = .ok (.newarray .int, 2) := by decide +kernel
theorem dX2_init_207 : decode cX2_init 207 = .ok (.putfield 84, 3) := by decide +kernel
theorem dX2_init_210 : decode cX2_init 210 = .ok (.aload_n 0, 1) := by decide +kernel
theorem dX2_init_211 : decode cX2_init 211 = .ok (.sipush 288, 3) := by decide +kernel
theorem dX2_init_214 : decode cX2_init 214 = .ok (.newarray .int, 2) := by decide +kernel
theorem dX2_init_216 : decode cX2_init 216 = .ok (.putfield 87, 3) := by decide +kernel
theorem dX2_init_219 : decode cX2_init 219 = .ok (.aload_n 0, 1) := by decide +kernel
theorem dX2_init_220 : decode cX2_init 220 = .ok (.sipush 288, 3) := by decide +kernel
theorem dX2_init_223 : decode cX2_init 223 = .ok (.newarray .int, 2) := by decide +kernel
theorem dX2_init_225 : decode cX2_init 225 = .ok (.putfield 90, 3) := by decide +kernel
theorem dX2_init_228 : decode cX2_init 228 = .ok (.aload_n 0, 1) := by decide +kernel
theorem dX2_init_229 : decode cX2_init 229 = .ok (.bipush 48, 2) := by decide +kernel
theorem dX2_init_231 : decode cX2_init 231 = .ok (.newarray .int, 2) := by decide +kernel
theorem dX2_init_233 : decode cX2_init 233 = .ok (.putfield 93, 3) := by decide +kernel
theorem dX2_init_236 : decode cX2_init 236 = .ok (.aload_n 0, 1) := by decide +kernel
theorem dX2_init_237 : decode cX2_init 237 = .ok (.sipush 288, 3) := by decide +kernel
theorem dX2_init_240 : decode cX2_init 240 = .ok (.newarray .int, 2) := by decide +kernel
theorem dX2_init_242 : decode cX2_init 242 = .ok (.putfield 96, 3) := by decide +kernel
theorem dX2_init_245 : decode cX2_init 245 = .ok (.aload_n 0, 1) := by decide +kernel
theorem dX2_init_246 : decode cX2_init 246 = .ok (.sipush 288, 3) := by decide +kernel
theorem dX2_init_249 : decode cX2_init 249 = .ok (.newarray .int, 2) := by decide +kernel
theorem dX2_init_251 : decode cX2_init 251 = .ok (.putfield 99, 3) := by decide +kernel
theorem dX2_init_254 : decode cX2_init 254 = .ok (.aload_n 0, 1) := by decide +kernel
theorem dX2_init_255 : decode cX2_init 255 = .ok (.bipush 48, 2) := by decide +kernel
theorem dX2_init_257 : decode cX2_init 257 = .ok (.newarray .int, 2) := by decide +kernel
theorem dX2_init_259 : decode cX2_init 259 = .ok (.putfield 102, 3) := by decide +kernel
theorem dX2_init_262 : decode cX2_init 262 = .ok (.aload_n 0, 1) := by decide +kernel
theorem dX2_init_263 : decode cX2_init 263 = .ok (.bipush 48, 2) := by decide +kernel
theorem dX2_init_265 : decode cX2_init 265 = .ok (.newarray .int, 2) := by decide +kernel
theorem dX2_init_267 : decode cX2_init 267 = .ok (.putfield 105, 3) := by decide +kernel
theorem dX2_init_270 : decode cX2_init 270 = .ok (.aload_n 0, 1) := by decide +kernel
theorem dX2_init_271 : decode cX2_init 271 = .ok (.sipush 408, 3) := by decide +kernel
theorem dX2_init_274 : decode cX2_init 274 = .ok (.newarray .int, 2) := by decide +kernel
theorem dX2_init_276 : decode cX2_init 276 = .ok (.putfield 108, 3) := by decide +kernel
theorem dX2_init_279 : decode cX2_init 279 = .ok (.aload_n 0, 1) := by decide +kernel
theorem dX2_init_280 : decode cX2_init 280 = .ok (.sipush 408, 3) := by decide +kernel
theorem dX2_init_283 : decode cX2_init 283 = .ok (.newarray .int, 2) := by decide +kernel
theorem dX2_init_285 : decode cX2_init 285 = .ok (.putfield 111, 3) := by decide +kernel
theorem dX2_init_288 : decode cX2_init 288 = .ok (.aload_n 0, 1) := by decide +kernel
theorem dX2_init_289 : decode cX2_init 289 = .ok (.sipush 2448, 3) := by decide +kernel
theorem dX2_init_292 : decode cX2_init 292 = .ok (.newarray .int, 2) := by decide +kernel
theorem dX2_init_294 : decode cX2_init 294 = .ok (.putfield 114, 3) := by decide +kernel
theorem dX2_init_297 : decode cX2_init 297 = .ok (.aload_n 0, 1) := by decide +kernel
theorem dX2_init_298 : decode cX2_init 298 = .ok (.sipush 2448, 3) := by decide +kernel
theorem dX2_init_301 : decode cX2_init 301 = .ok (.newarray .int, 2) := by decide +kernel
theorem dX2_init_303 : decode cX2_init 303 = .ok (.putfield 117, 3) := by decide +kernel
theorem dX2_init_306 : decode cX2_init 306 = .ok (.aload_n 0, 1) := by decide +kernel
theorem dX2_init_307 : decode cX2_init 307 = .ok (.sipush 408, 3) := by decide +kernel
theorem dX2_init_310 : decode cX2_init 310 = .ok (.newarray .int, 2) := by decide +kernel
theorem dX2_init_312 : decode cX2_init 312 = .ok (.putfield 120, 3) := by decide +kernel
theorem dX2_init_315 : decode cX2_init 315 = .ok (.aload_n 0, 1) := by decide +kernel
theorem dX2_init_316 : decode cX2_init 316 = .ok (.sipush 2448, 3) := by decide +kernel
theorem dX2_init_319 : decode cX2_init 319 = .ok (.newarray .int, 2) := by decide +kernel
theorem dX2_init_321 : decode cX2_init 321 = .ok (.putfield 123, 3) := by decide +kernel
theorem dX2_init_324 : decode cX2_init 324 = .ok (.aload_n 0, 1) := by decide +kernel
theorem dX2_init_325 : decode cX2_init 325 = .ok (.sipush 2448, 3) := by decide +kernel
theorem dX2_init_328 : decode cX2_init 328 = .ok (.newarray .int, 2) := by decide +kernel
theorem dX2_init_330 : decode cX2_init 330 = .ok (.putfield 126, 3) := by decide +kernel
theorem dX2_init_333 : decode cX2_init 333 = .ok (.aload_n 0, 1) := by decide +kernel
theorem dX2_init_334 : decode cX2_init 334 = .ok (.sipush 408, 3) := by decide +kernel
theorem dX2_init_337 : decode cX2_init 337 = .ok (.newarray .int, 2) := by decide +kernel
theorem dX2_init_339 : decode cX2_init 339 = .ok (.putfield 129, 3) := by decide +kernel
theorem dX2_init_342 : decode cX2_init 342 = .ok (.aload_n 0, 1) := by decide +kernel
theorem dX2_init_343 : decode cX2_init 343 = .ok (.iconst 2, 1) := by decide +kernel
theorem dX2_init_344 : decode cX2_init 344 = .ok (.newarray .int, 2) := by decide +kernel
theorem dX2_init_346 : decode cX2_init 346 = .ok (.putfield 132, 3) := by decide +kernel
theorem dX2_init_349 : decode cX2_init 349 = .ok (.aload_n 0, 1) := by decide +kernel
theorem dX2_init_350 : decode cX2_init 350 = .ok (.bipush 120, 2) := by decide +kernel
theorem dX2_init_352 : decode cX2_init 352 = .ok (.newarray .int, 2) := by decide +kernel
theorem dX2_init_354 : decode cX2_init 354 = .ok (.putfield 135, 3) := by decide +kernel
theorem dX2_init_357 : decode cX2_init 357 = .ok (.aload_n 0, 1) := by decide +kernel
theorem dX2_init_358 : decode cX2_init 358 = .ok (.bipush 120, 2) := by decide +kernel
theorem dX2_init_360 : decode cX2_init 360 = .ok (.newarray .int, 2) := by decide +kernel
theorem dX2_init_362 : decode cX2_init 362 = .ok (.putfield 138, 3) := by decide +kernel
theorem dX2_init_365 : decode cX2_init 365 = .ok (.aload_n 0, 1) := by decide +kernel
theorem dX2_init_366 : decode cX2_init 366 = .ok (.bipush 120, 2) := by decide +kernel
theorem dX2_init_368 : decode cX2_init 368 = .ok (.newarray .int, 2) := by decide +kernel
theorem dX2_init_370 : decode cX2_init 370 = .ok (.putfield 141, 3) := by decide +kernel
theorem dX2_init_373 : decode cX2_init 373 = .ok (.aload_n 0, 1) := by decide +kernel
theorem dX2_init_374 : decode cX2_init 374 = .ok (.bipush 120, 2) := by decide +kernel
theorem dX2_init_376 : decode cX2_init 376 = .ok (.newarray .int, 2) := by decide +kernel
theorem dX2_init_378 : decode cX2_init 378 = .ok (.putfield 144, 3) := by decide +kernel
theorem dX2_init_381 : decode cX2_init 381 = .ok (.aload_n 0, 1) := by decide +kernel
theorem dX2_init_382 : decode cX2_init 382 = .ok (.bipush 120, 2) := by decide +kernel
theorem dX2_init_384 : decode cX2_init 384 = .ok (.newarray .int, 2) := by decide +kernel
theorem dX2_init_386 : decode cX2_init 386 = .ok (.putfield 147, 3) := by decide +kernel
theorem dX2_init_389 : decode cX2_init 389 = .ok (.aload_n 0, 1) := by decide +kernel
theorem dX2_init_390 : decode cX2_init 390 = .ok (.bipush 120, 2) := by decide +kernel
theorem dX2_init_392 : decode cX2_init 392 = .ok (.newarray .int, 2) := by decide +kernel
theorem dX2_init_394 : decode cX2_init 394 = .ok (.putfield 150, 3) := by decide +kernel
theorem dX2_init_397 : decode cX2_init 397 = .ok (.aload_n 0, 1) := by decide +kernel
theorem dX2_init_398 : decode cX2_init 398 = .ok (.iconst 2, 1) := by decide +kernel
theorem dX2_init_399 : decode cX2_init 399 = .ok (.newarray .int, 2) := by decide +kernel
theorem dX2_init_401 : decode cX2_init 401 = .ok (.putfield 153, 3) := by decide +kernel
theorem dX2_init_404 : decode cX2_init 404 = .ok (.aload_n 0, 1) := by decide +kernel
theorem dX2_init_405 : decode cX2_init 405 = .ok (.iconst 2, 1) := by decide +kernel
theorem dX2_init_406 : decode cX2_init 406 = .ok (.newarray .boolean, 2) := by decide +kernel
theorem dX2_init_408 : decode cX2_init 408 = .ok (.putfield 156, 3) := by decide +kernel
theorem dX2_init_411 : decode cX2_init 411 = .ok (.aload_n 0, 1) := by decide +kernel
theorem dX2_init_412 : decode cX2_init 412 = .ok (.bipush 120, 2) := by decide +kernel
theorem dX2_init_414 : decode cX2_init 414 = .ok (.newarray .int, 2) := by decide +kernel
theorem dX2_init_416 : decode cX2_init 416 = .ok (.putfield 159, 3) := by decide +kernel
theorem dX2_init_419 : decode cX2_init 419 = .ok (.aload_n 0, 1) := by decide +kernel
theorem dX2_init_420 : decode cX2_init 420 = .ok (.sipush 168, 3) := by decide +kernel
theorem dX2_init_423 : decode cX2_init 423 = .ok (.newarray .int, 2) := by decide +kernel
theorem dX2_init_425 : decode cX2_init 425 = .ok (.putfield 162, 3) := by decide +kernel
theorem dX2_init_428 : decode cX2_init 428 = .ok (.aload_n 0, 1) := by decide +kernel
theorem dX2_init_429 : decode cX2_init 429 = .ok (.iconst 2, 1) := by decide +kernel
theorem dX2_init_430 : decode cX2_init 430 = .ok (.newarray .int, 2) := by decide +kernel
theorem dX2_init_432 : decode cX2_init 432 = .ok (.putfield 165, 3) := by decide +kernel
theorem dX2_init_435 : decode cX2_init 435 = .ok (.aload_n 0, 1) := by decide +kernel
theorem dX2_init_436 : decode cX2_init 436 = .ok (.ldc 168, 2) := by decide +kernel
theorem dX2_init_438 : decode cX2_init 438 = .ok (.newarray .int, 2) := by decide +kernel
theorem dX2_init_440 : decode cX2_init 440 = .ok (.putfield 169, 3) := by decide +kernel
theorem dX2_init_443 : decode cX2_init 443 = .ok (.aload_n 0, 1) := by decide +kernel
theorem dX2_init_444 : decode cX2_init 444 = .ok (.sipush 600, 3) := by decide +kernel
theorem dX2_init_447 : decode cX2_init 447 = .ok (.newarray .int, 2) := by decide +kernel
theorem dX2_init_449 : decode cX2_init 449 = .ok (.putfield 172, 3) := by decide +kernel
theorem dX2_init_452 : decode cX2_init 452 = .ok (.aload_n 0, 1) := by decide +kernel
theorem dX2_init_453 : decode cX2_init 453 = .ok (.sipush 600, 3) := by decide +kernel
theorem dX2_init_456 : decode cX2_init 456 = .ok (.newarray .int, 2) := by decide +kernel
theorem dX2_init_458 : decode cX2_init 458 = .ok (.putfield 175, 3) := by decide +kernel
theorem dX2_init_461 : decode cX2_init 461 = .ok (.aload_n 0, 1) := by decide +kernel
theorem dX2_init_462 : decode cX2_init 462 = .ok (.sipush 3600, 3) := by decide +kernel
theorem dX2_init_465 : decode cX2_init 465 = .ok (.newarray .int, 2) := by decide +kernel
theorem dX2_init_467 : decode cX2_init 467 = .ok (.putfield 178, 3) := by decide +kernel
theorem dX2_init_470 : decode cX2_init 470 = .ok (.aload_n 0, 1) := by decide +kernel
theorem dX2_init_471 : decode cX2_init 471 = .ok (.sipush 3600, 3) := by decide +kernel
theorem dX2_init_474 : decode cX2_init 474 = .ok (.newarray .int, 2) := by decide +kernel
theorem dX2_init_476 : decode cX2_init 476 = .ok (.putfield 181, 3) := by decide +kernel
theorem dX2_init_479 : decode cX2_init 479 = .ok (.aload_n 0, 1) := by decide +kernel
theorem dX2_init_480 : decode cX2_init 480 = .ok (.sipush 576, 3) := by decide +kernel
theorem dX2_init_483 : decode cX2_init 483 = .ok (.newarray .boolean, 2) := by decide +kernel
theorem dX2_init_485 : decode cX2_init 485 = .ok (.putfield 184, 3) := by decide +kernel
theorem dX2_init_488 : decode cX2_init 488 = .ok (.aload_n 0, 1) := by decide +kernel
theorem dX2_init_489 : decode cX2_init 489 = .ok (.ldc 187, 2) := by decide +kernel
theorem dX2_init_491 : decode cX2_init 491 = .ok (.newarray .int, 2) := by decide +kernel
theorem dX2_init_493 : decode cX2_init 493 = .ok (.putfield 188, 3) := by decide +kernel
theorem dX2_init_496 : decode cX2_init 496 = .ok (.aload_n 0, 1) := by decide +kernel
theorem dX2_init_497 : decode cX2_init 497 = .ok (.sipush 12006, 3) := by decide +kernel
theorem dX2_init_500 : decode cX2_init 500 = .ok (.newarray .int, 2) := by decide +kernel
theorem dX2_init_502 : decode cX2_init 502 = .ok (.putfield 191, 3) := by decide +kernel
theorem dX2_init_505 : decode cX2_init 505 = .ok (.aload_n 0, 1) := by decide +kernel
theorem dX2_init_506 : decode cX2_init 506 = .ok (.sipush 12006, 3) := by decide +kernel
theorem dX2_init_509 : decode cX2_init 509 = .ok (.newarray .int, 2) := by decide +kernel
theorem dX2_init_511 : decode cX2_init 511 = .ok (.putfield 194, 3) := by decide +kernel
theorem dX2_init_514 : decode cX2_init 514 = .ok (.aload_n 0, 1) := by decide +kernel
theorem dX2_init_515 : decode cX2_init 515 = .ok (.bipush 120, 2) := by decide +kernel
theorem dX2_init_517 : decode cX2_init 517 = .ok (.newarray .int, 2) := by decide +kernel
theorem dX2_init_519 : decode cX2_init 519 = .ok (.putfield 197, 3) := by decide +kernel
theorem dX2_init_522 : decode cX2_init 522 = .ok (.aload_n 0, 1) := by decide +kernel
theorem dX2_init_523 : decode cX2_init 523 = .ok (.iconst 2, 1) := by decide +kernel
theorem dX2_init_524 : decode cX2_init 524 = .ok (.newarray .int, 2) := by decide +kernel
theorem dX2_init_526 : decode cX2_init 526 = .ok (.putfield 200, 3) := by decide +kernel
theorem dX2_init_529 : decode cX2_init 529 = .ok (.aload_n 0, 1) := by decide +kernel
theorem dX2_init_530 : decode cX2_init 530 = .ok (.iconst (-1), 1) := by decide +kernel
theorem dX2_init_531 : decode cX2_init 531 = .ok (.putfield 203, 3) := by decide +kernel
theorem dX2_init_534 : decode cX2_init 534 = .ok (.aload_n 0, 1) := by decide +kernel
theorem dX2_init_535 : decode cX2_init 535 = .ok (.iconst (-1), 1) := by decide +kernel
theorem dX2_init_536 : decode cX2_init 536 = .ok (.putfield 207, 3) := by decide +kernel
theorem dX2_init_539 : decode cX2_init 539 = .ok (.aload_n 0, 1) := by decide +kernel
theorem dX2_init_540 : decode cX2_init 540 = .ok (.sipush 5100, 3) := by decide +kernel
theorem dX2_init_543 : decode cX2_init 543 = .ok (.newarray .int, 2) := by decide +kernel
theorem dX2_init_545 : decode cX2_init 545 = .ok (.putfield 210, 3) := by decide +kernel
theorem dX2_init_548 : decode cX2_init 548 = .ok (.aload_n 0, 1) := by decide +kernel
theorem dX2_init_549 : decode cX2_init 549 = .ok (.sipush 5100, 3) := by decide +kernel
theorem dX2_init_552 : decode cX2_init 552 = .ok (.newarray .int, 2) := by decide +kernel
theorem dX2_init_554 : decode cX2_init 554 = .ok (.putfield 213, 3) := by decide +kernel
theorem dX2_init_557 : decode cX2_init 557 = .ok (.aload_n 0, 1) := by decide +kernel
theorem dX2_init_558 : decode cX2_init 558 = .ok (.sipush 30600, 3) := by decide +kernel
theorem dX2_init_561 : decode cX2_init 561 = .ok (.newarray .int, 2) := by decide +kernel
theorem dX2_init_563 : decode cX2_init 563 = .ok (.putfield 216, 3) := by decide +kernel
theorem dX2_init_566 : decode cX2_init 566 = .ok (.aload_n 0, 1) := by decide +kernel
theorem dX2_init_567 : decode cX2_init 567 = .ok (.sipush 4000, 3) := by decide +kernel
theorem dX2_init_570 : decode cX2_init 570 = .ok (.newarray .int, 2) := by decide +kernel
theorem dX2_init_572 : decode cX2_init 572 = .ok (.putfield 219, 3) := by decide +kernel
theorem dX2_init_575 : decode cX2_init 575 = .ok (.aload_n 0, 1) := by decide +kernel
theorem dX2_init_576 : decode cX2_init 576 = .ok (.iconst (-1), 1) := by decide +kernel
theorem dX2_init_577 : decode cX2_init 577 = .ok (.putfield 222, 3) := by decide +kernel
theorem dX2_init_580 : decode cX2_init 580 = .ok (.aload_n 0, 1) := by decide +kernel
theorem dX2_init_581 : decode cX2_init 581 = .ok (.sipush 160, 3) := by decide +kernel
theorem dX2_init_584 : decode cX2_init 584 = .ok (.newarray .int, 2) := by decide +kernel
theorem dX2_init_586 : decode cX2_init 586 = .ok (.putfield 225, 3) := by decide +kernel
theorem dX2_init_589 : decode cX2_init 589 = .ok (.aload_n 0, 1) := by decide +kernel
theorem dX2_init_590 : decode cX2_init 590 = .ok (.sipush 160, 3) := by decide +kernel
theorem dX2_init_593 : decode cX2_init 593 = .ok (.newarray .int, 2) := by decide +kernel
theorem dX2_init_595 : decode cX2_init 595 = .ok (.putfield 228, 3) := by decide +kernel
theorem dX2_init_598 : decode cX2_init 598 = .ok (.aload_n 0, 1) := by decide +kernel
theorem dX2_init_599 : decode cX2_init 599 = .ok (.sipush 160, 3) := by decide +kernel
theorem dX2_init_602 : decode cX2_init 602 = .ok (.newarray .int, 2) := by decide +kernel
theorem dX2_init_604 : decode cX2_init 604 = .ok (.putfield 231, 3) := by decide +kernel
theorem dX2_init_607 : decode cX2_init 607 = .ok (.aload_n 0, 1) := by decide +kernel
theorem dX2_init_608 : decode cX2_init 608 = .ok (.sipush 160, 3) := by decide +kernel
theorem dX2_init_611 : decode cX2_init 611 = .ok (.newarray .int, 2) := by decide +kernel
theorem dX2_init_613 : decode cX2_init 613 = .ok (.putfield 234, 3) := by decide +kernel
theorem dX2_init_616 : decode cX2_init 616 = .ok (.aload_n 0, 1) := by decide +kernel
theorem dX2_init_617 : decode cX2_init 617 = .ok (.sipush 160, 3) := by decide +kernel
theorem dX2_init_620 : decode cX2_init 620 = .ok (.newarray .int, 2) := by decide +kernel
theorem dX2_init_622 : decode cX2_init 622 = .ok (.putfield 237, 3) := by decide +kernel
theorem dX2_init_625 : decode cX2_init 625 = .ok (.aload_n 0, 1) := by decide +kernel
theorem dX2_init_626 : decode cX2_init 626 = .ok (.sipush 2000, 3) := by decide +kernel
theorem dX2_init_629 : decode cX2_init 629 = .ok (.newarray .int, 2) := by decide +kernel
theorem dX2_init_631 : decode cX2_init 631 = .ok (.putfield 240, 3) := by decide +kernel
theorem dX2_init_634 : decode cX2_init 634 = .ok (.aload_n 0, 1) := by decide +kernel
theorem dX2_init_635 : decode cX2_init 635 = .ok (.bipush 60, 2) := by decide +kernel
theorem dX2_init_637 : decode cX2_init 637 = .ok (.newarray .int, 2) := by decide +kernel
theorem dX2_init_639 : decode cX2_init 639 = .ok (.putfield 243, 3) := by decide +kernel
theorem dX2_init_642 : decode cX2_init 642 = .ok (.aload_n 0, 1) := by decide +kernel
theorem dX2_init_643 : decode cX2_init 643 = .ok (.sipush 1100, 3) := by decide +kernel
theorem dX2_init_646 : decode cX2_init 646 = .ok (.newarray .int, 2) := by decide +kernel
theorem dX2_init_648 : decode cX2_init 648 = .ok (.putfield 246, 3) := by decide +kernel
theorem dX2_init_651 : decode cX2_init 651 = .ok (.aload_n 0, 1) := by decide +kernel
theorem dX2_init_652 : decode cX2_init 652 = .ok (.sipush 1100, 3) := by decide +kernel
theorem dX2_init_655 : decode cX2_init 655 = .ok (.newarray .int, 2) := by decide +kernel
theorem dX2_init_657 : decode cX2_init 657 = .ok (.putfield 249, 3) := by decide +kernel
theorem dX2_init_660 : decode cX2_init 660 = .ok (.return_, 1) := by decide +kernel
abbrev cX2_feed : ByteArray := prog_24_method_3_code
def yX2_feed : MethodName := ⟨RX2, "feed", "(JJJ)I"⟩
theorem dX2_feed_0 : decode cX2_feed 0 = .ok (.aload_n 0, 1) := by decide +kernel
theorem dX2_feed_1 : decode cX2_feed 1 = .ok (.iconst 0, 1) := by decide +kernel
theorem dX2_feed_2 : decode cX2_feed 2 = .ok (.putfield 252, 3) := by decide +kernel
theorem dX2_feed_5 : decode cX2_feed 5 = .ok (.aload_n 0, 1) := by decide +kernel
theorem dX2_feed_6 : decode cX2_feed 6 = .ok (.lload_n 1, 1) := by decide +kernel
theorem dX2_feed_7 : decode cX2_feed 7 = .ok (.invokevirtual 255, 3) := by decide +kernel
theorem dX2_feed_10 : decode cX2_feed 10 = .ok (.aload_n 0, 1) := by decide +kernel
theorem dX2_feed_11 : decode cX2_feed 11 = .ok (.lload_n 3, 1) := by decide +kernel
theorem dX2_feed_12 : decode cX2_feed 12 = .ok (.invokevirtual 255, 3) := by decide +kernel
theorem dX2_feed_15 : decode cX2_feed 15 = .ok (.aload_n 0, 1) := by decide +kernel
theorem dX2_feed_16 : decode cX2_feed 16 = .ok (.lload 5, 2) := by decide +kernel
theorem dX2_feed_18 : decode cX2_feed 18 = .ok (.invokevirtual 255, 3) := by decide +kernel
theorem dX2_feed_21 : decode cX2_feed 21 = .ok (.aload_n 0, 1) := by decide +kernel
theorem dX2_feed_22 : decode cX2_feed 22 = .ok (.getfield 259, 3) := by decide +kernel
theorem dX2_feed_25 : decode cX2_feed 25 = .ok (.ireturn, 1) := by decide +kernel
abbrev cX2_lay : ByteArray := prog_24_method_4_code
def yX2_lay : MethodName := ⟨RX2, "lay", "(J)V"⟩
theorem dX2_lay_0 : decode cX2_lay 0 = .ok (.bipush 56, 2) := by decide +kernel
theorem dX2_lay_2 : decode cX2_lay 2 = .ok (.istore_n 3, 1) := by decide +kernel
theorem dX2_lay_3 : decode cX2_lay 3 = .ok (.iload_n 3, 1) := by decide +kernel
theorem dX2_lay_4 : decode cX2_lay 4 = .ok (.ifCond .lt 71, 3) := by decide +kernel
theorem dX2_lay_7 : decode cX2_lay 7 = .ok (.lload_n 1, 1) := by decide +kernel
theorem dX2_lay_8 : decode cX2_lay 8 = .ok (.iload_n 3, 1) := by decide +kernel
theorem dX2_lay_9 : decode cX2_lay 9 = .ok (.lshr, 1) := by decide +kernel
theorem dX2_lay_10 : decode cX2_lay 10 = .ok (.l2i, 1) := by decide +kernel
theorem dX2_lay_11 : decode cX2_lay 11 = .ok (.sipush 255, 3) := by decide +kernel
theorem dX2_lay_14 : decode cX2_lay 14 = .ok (.iand, 1) := by decide +kernel
theorem dX2_lay_15 : decode cX2_lay 15 = .ok (.istore 4, 2) := by decide +kernel
theorem dX2_lay_17 : decode cX2_lay 17 = .ok (.iload 4, 2) := by decide +kernel
theorem dX2_lay_19 : decode cX2_lay 19 = .ok (.bipush 10, 2) := by decide +kernel
theorem dX2_lay_21 : decode cX2_lay 21 = .ok (.if_icmp .eq 17, 3) := by decide +kernel
theorem dX2_lay_24 : decode cX2_lay 24 = .ok (.iload 4, 2) := by decide +kernel
theorem dX2_lay_26 : decode cX2_lay 26 = .ok (.bipush 32, 2) := by decide +kernel
theorem dX2_lay_28 : decode cX2_lay 28 = .ok (.if_icmp .lt 41, 3) := by decide +kernel
theorem dX2_lay_31 : decode cX2_lay 31 = .ok (.iload 4, 2) := by decide +kernel
theorem dX2_lay_33 : decode cX2_lay 33 = .ok (.bipush 126, 2) := by decide +kernel
theorem dX2_lay_35 : decode cX2_lay 35 = .ok (.if_icmp .gt 34, 3) := by decide +kernel
theorem dX2_lay_38 : decode cX2_lay 38 = .ok (.aload_n 0, 1) := by decide +kernel
theorem dX2_lay_39 : decode cX2_lay 39 = .ok (.getfield 259, 3) := by decide +kernel
theorem dX2_lay_42 : decode cX2_lay 42 = .ok (.sipush 4000, 3) := by decide +kernel
theorem dX2_lay_45 : decode cX2_lay 45 = .ok (.if_icmp .ge 24, 3) := by decide +kernel
theorem dX2_lay_48 : decode cX2_lay 48 = .ok (.aload_n 0, 1) := by decide +kernel
theorem dX2_lay_49 : decode cX2_lay 49 = .ok (.getfield 7, 3) := by decide +kernel
theorem dX2_lay_52 : decode cX2_lay 52 = .ok (.aload_n 0, 1) := by decide +kernel
theorem dX2_lay_53 : decode cX2_lay 53 = .ok (.getfield 259, 3) := by decide +kernel
theorem dX2_lay_56 : decode cX2_lay 56 = .ok (.iload 4, 2) := by decide +kernel
theorem dX2_lay_58 : decode cX2_lay 58 = .ok (.iastore, 1) := by decide +kernel
theorem dX2_lay_59 : decode cX2_lay 59 = .ok (.aload_n 0, 1) := by decide +kernel
theorem dX2_lay_60 : decode cX2_lay 60 = .ok (.dup, 1) := by decide +kernel
theorem dX2_lay_61 : decode cX2_lay 61 = .ok (.getfield 259, 3) := by decide +kernel
theorem dX2_lay_64 : decode cX2_lay 64 = .ok (.iconst 1, 1) := by decide +kernel
theorem dX2_lay_65 : decode cX2_lay 65 = .ok (.iadd, 1) := by decide +kernel
theorem dX2_lay_66 : decode cX2_lay 66 = .ok (.putfield 259, 3) := by decide +kernel
theorem dX2_lay_69 : decode cX2_lay 69 = .ok (.iinc 3 (-8), 3) := by decide +kernel
theorem dX2_lay_72 : decode cX2_lay 72 = .ok (.goto (-69), 3) := by decide +kernel
theorem dX2_lay_75 : decode cX2_lay 75 = .ok (.return_, 1) := by decide +kernel
abbrev cX2_program : ByteArray := prog_24_method_79_code
def yX2_program : MethodName := ⟨RX2, "program", "()I"⟩
theorem dX2_program_0 : decode cX2_program 0 = .ok (.aload_n 0, 1) := by decide +kernel
theorem dX2_program_1 : decode cX2_program 1 = .ok (.iconst 0, 1) := by decide +kernel
theorem dX2_program_2 : decode cX2_program 2 = .ok (.putfield 252, 3) := by decide +kernel
theorem dX2_program_5 : decode cX2_program 5 = .ok (.aload_n 0, 1) := by decide +kernel
theorem dX2_program_6 : decode cX2_program 6 = .ok (.iconst 1, 1) := by decide +kernel
theorem dX2_program_7 : decode cX2_program 7 = .ok (.aload_n 0, 1) := by decide +kernel
theorem dX2_program_8 : decode cX2_program 8 = .ok (.getfield 481, 3) := by decide +kernel
theorem dX2_program_11 : decode cX2_program 11 = .ok (.isub, 1) := by decide +kernel
theorem dX2_program_12 : decode cX2_program 12 = .ok (.putfield 364, 3) := by decide +kernel
theorem dX2_program_15 : decode cX2_program 15 = .ok (.aload_n 0, 1) := by decide +kernel
theorem dX2_program_16 : decode cX2_program 16 = .ok (.aload_n 0, 1) := by decide +kernel
theorem dX2_program_17 : decode cX2_program 17 = .ok (.getfield 364, 3) := by decide +kernel
theorem dX2_program_20 : decode cX2_program 20 = .ok (.putfield 262, 3) := by decide +kernel
theorem dX2_program_23 : decode cX2_program 23 = .ok (.aload_n 0, 1) := by decide +kernel
theorem dX2_program_24 : decode cX2_program 24 = .ok (.invokevirtual 557, 3) := by decide +kernel
theorem dX2_program_27 : decode cX2_program 27 = .ok (.aload_n 0, 1) := by decide +kernel
theorem dX2_program_28 : decode cX2_program 28 = .ok (.invokevirtual 560, 3) := by decide +kernel
theorem dX2_program_31 : decode cX2_program 31 = .ok (.aload_n 0, 1) := by decide +kernel
theorem dX2_program_32 : decode cX2_program 32 = .ok (.sipush 4002, 3) := by decide +kernel
theorem dX2_program_35 : decode cX2_program 35 = .ok (.aload_n 0, 1) := by decide +kernel
theorem dX2_program_36 : decode cX2_program 36 = .ok (.getfield 364, 3) := by decide +kernel
theorem dX2_program_39 : decode cX2_program 39 = .ok (.imul, 1) := by decide +kernel
theorem dX2_program_40 : decode cX2_program 40 = .ok (.putfield 317, 3) := by decide +kernel
theorem dX2_program_43 : decode cX2_program 43 = .ok (.aload_n 0, 1) := by decide +kernel
theorem dX2_program_44 : decode cX2_program 44 = .ok (.getfield 74, 3) := by decide +kernel
theorem dX2_program_47 : decode cX2_program 47 = .ok (.aload_n 0, 1) := by decide +kernel
theorem dX2_program_48 : decode cX2_program 48 = .ok (.getfield 364, 3) := by decide +kernel
theorem dX2_program_51 : decode cX2_program 51 = .ok (.iconst 0, 1) := by decide +kernel
theorem dX2_program_52 : decode cX2_program 52 = .ok (.iastore, 1) := by decide +kernel
theorem dX2_program_53 : decode cX2_program 53 = .ok (.aload_n 0, 1) := by decide +kernel
theorem dX2_program_54 : decode cX2_program 54 = .ok (.getfield 132, 3) := by decide +kernel
theorem dX2_program_57 : decode cX2_program 57 = .ok (.aload_n 0, 1) := by decide +kernel
theorem dX2_program_58 : decode cX2_program 58 = .ok (.getfield 364, 3) := by decide +kernel
theorem dX2_program_61 : decode cX2_program 61 = .ok (.iconst 0, 1) := by decide +kernel
theorem dX2_program_62 : decode cX2_program 62 = .ok (.iastore, 1) := by decide +kernel
theorem dX2_program_63 : decode cX2_program 63 = .ok (.aload_n 0, 1) := by decide +kernel
theorem dX2_program_64 : decode cX2_program 64 = .ok (.sipush 204, 3) := by decide +kernel
theorem dX2_program_67 : decode cX2_program 67 = .ok (.aload_n 0, 1) := by decide +kernel
theorem dX2_program_68 : decode cX2_program 68 = .ok (.getfield 364, 3) := by decide +kernel
theorem dX2_program_71 : decode cX2_program 71 = .ok (.imul, 1) := by decide +kernel
theorem dX2_program_72 : decode cX2_program 72 = .ok (.putfield 370, 3) := by decide +kernel
theorem dX2_program_75 : decode cX2_program 75 = .ok (.aload_n 0, 1) := by decide +kernel
theorem dX2_program_76 : decode cX2_program 76 = .ok (.getfield 165, 3) := by decide +kernel
theorem dX2_program_79 : decode cX2_program 79 = .ok (.aload_n 0, 1) := by decide +kernel
theorem dX2_program_80 : decode cX2_program 80 = .ok (.getfield 364, 3) := by decide +kernel
theorem dX2_program_83 : decode cX2_program 83 = .ok (.iconst 0, 1) := by decide +kernel
theorem dX2_program_84 : decode cX2_program 84 = .ok (.iastore, 1) := by decide +kernel
theorem dX2_program_85 : decode cX2_program 85 = .ok (.aload_n 0, 1) := by decide +kernel
theorem dX2_program_86 : decode cX2_program 86 = .ok (.invokevirtual 563, 3) := by decide +kernel
theorem dX2_program_89 : decode cX2_program 89 = .ok (.aload_n 0, 1) := by decide +kernel
theorem dX2_program_90 : decode cX2_program 90 = .ok (.aload_n 0, 1) := by decide +kernel
theorem dX2_program_91 : decode cX2_program 91 = .ok (.getfield 364, 3) := by decide +kernel
theorem dX2_program_94 : decode cX2_program 94 = .ok (.putfield 405, 3) := by decide +kernel
theorem dX2_program_97 : decode cX2_program 97 = .ok (.aload_n 0, 1) := by decide +kernel
theorem dX2_program_98 : decode cX2_program 98 = .ok (.bipush 10, 2) := by decide +kernel
theorem dX2_program_100 : decode cX2_program 100 = .ok (.sipush 4100, 3) := by decide +kernel
theorem dX2_program_103 : decode cX2_program 103 = .ok (.aload_n 0, 1) := by decide +kernel
theorem dX2_program_104 : decode cX2_program 104 = .ok (.getfield 364, 3) := by decide +kernel
theorem dX2_program_107 : decode cX2_program 107 = .ok (.imul, 1) := by decide +kernel
theorem dX2_program_108 : decode cX2_program 108 = .ok (.iadd, 1) := by decide +kernel
theorem dX2_program_109 : decode cX2_program 109 = .ok (.putfield 474, 3) := by decide +kernel
theorem dX2_program_112 : decode cX2_program 112 = .ok (.aload_n 0, 1) := by decide +kernel
theorem dX2_program_113 : decode cX2_program 113 = .ok (.ldc_w 566, 3) := by decide +kernel
theorem dX2_program_116 : decode cX2_program 116 = .ok (.aload_n 0, 1) := by decide +kernel
theorem dX2_program_117 : decode cX2_program 117 = .ok (.getfield 364, 3) := by decide +kernel
theorem dX2_program_120 : decode cX2_program 120 = .ok (.imul, 1) := by decide +kernel
theorem dX2_program_121 : decode cX2_program 121 = .ok (.putfield 547, 3) := by decide +kernel
theorem dX2_program_124 : decode cX2_program 124 = .ok (.iconst 0, 1) := by decide +kernel
theorem dX2_program_125 : decode cX2_program 125 = .ok (.istore_n 1, 1) := by decide +kernel
theorem dX2_program_126 : decode cX2_program 126 = .ok (.iload_n 1, 1) := by decide +kernel
theorem dX2_program_127 : decode cX2_program 127 = .ok (.bipush 6, 2) := by decide +kernel
theorem dX2_program_129 : decode cX2_program 129 = .ok (.if_icmp .ge 23, 3) := by decide +kernel
theorem dX2_program_132 : decode cX2_program 132 = .ok (.aload_n 0, 1) := by decide +kernel
theorem dX2_program_133 : decode cX2_program 133 = .ok (.getfield 169, 3) := by decide +kernel
theorem dX2_program_136 : decode cX2_program 136 = .ok (.iload_n 1, 1) := by decide +kernel
theorem dX2_program_137 : decode cX2_program 137 = .ok (.bipush 8, 2) := by decide +kernel
theorem dX2_program_139 : decode cX2_program 139 = .ok (.sipush 5000, 3) := by decide +kernel
theorem dX2_program_142 : decode cX2_program 142 = .ok (.iload_n 1, 1) := by decide +kernel
theorem dX2_program_143 : decode cX2_program 143 = .ok (.iadd, 1) := by decide +kernel
theorem dX2_program_144 : decode cX2_program 144 = .ok (.imul, 1) := by decide +kernel
theorem dX2_program_145 : decode cX2_program 145 = .ok (.iastore, 1) := by decide +kernel
theorem dX2_program_146 : decode cX2_program 146 = .ok (.iinc 1 1, 3) := by decide +kernel
theorem dX2_program_149 : decode cX2_program 149 = .ok (.goto (-23), 3) := by decide +kernel
theorem dX2_program_152 : decode cX2_program 152 = .ok (.aload_n 0, 1) := by decide +kernel
theorem dX2_program_153 : decode cX2_program 153 = .ok (.ldc_w 556, 3) := by decide +kernel
theorem dX2_program_156 : decode cX2_program 156 = .ok (.putfield 389, 3) := by decide +kernel
theorem dX2_program_159 : decode cX2_program 159 = .ok (.aload_n 0, 1) := by decide +kernel
theorem dX2_program_160 : decode cX2_program 160 = .ok (.iconst 0, 1) := by decide +kernel
theorem dX2_program_161 : decode cX2_program 161 = .ok (.putfield 383, 3) := by decide +kernel
theorem dX2_program_164 : decode cX2_program 164 = .ok (.iconst 0, 1) := by decide +kernel
theorem dX2_program_165 : decode cX2_program 165 = .ok (.istore_n 1, 1) := by decide +kernel
theorem dX2_program_166 : decode cX2_program 166 = .ok (.iload_n 1, 1) := by decide +kernel
theorem dX2_program_167 : decode cX2_program 167 = .ok (.iconst 3, 1) := by decide +kernel
theorem dX2_program_168 : decode cX2_program 168 = .ok (.if_icmp .ge 56, 3) := by decide +kernel
theorem dX2_program_171 : decode cX2_program 171 = .ok (.iconst 0, 1) := by decide +kernel
theorem dX2_program_172 : decode cX2_program 172 = .ok (.istore_n 2, 1) := by decide +kernel
theorem dX2_program_173 : decode cX2_program 173 = .ok (.iload_n 2, 1) := by decide +kernel
theorem dX2_program_174 : decode cX2_program 174 = .ok (.aload_n 0, 1) := by decide +kernel
theorem dX2_program_175 : decode cX2_program 175 = .ok (.getfield 165, 3) := by decide +kernel
theorem dX2_program_178 : decode cX2_program 178 = .ok (.aload_n 0, 1) := by decide +kernel
theorem dX2_program_179 : decode cX2_program 179 = .ok (.getfield 364, 3) := by decide +kernel
theorem dX2_program_182 : decode cX2_program 182 = .ok (.iaload, 1) := by decide +kernel
theorem dX2_program_183 : decode cX2_program 183 = .ok (.if_icmp .ge 35, 3) := by decide +kernel
theorem dX2_program_186 : decode cX2_program 186 = .ok (.aload_n 0, 1) := by decide +kernel
theorem dX2_program_187 : decode cX2_program 187 = .ok (.getfield 300, 3) := by decide +kernel
theorem dX2_program_190 : decode cX2_program 190 = .ok (.ifCond .ne 28, 3) := by decide +kernel
theorem dX2_program_193 : decode cX2_program 193 = .ok (.aload_n 0, 1) := by decide +kernel
theorem dX2_program_194 : decode cX2_program 194 = .ok (.iload_n 1, 1) := by decide +kernel
theorem dX2_program_195 : decode cX2_program 195 = .ok (.aload_n 0, 1) := by decide +kernel
theorem dX2_program_196 : decode cX2_program 196 = .ok (.getfield 162, 3) := by decide +kernel
theorem dX2_program_199 : decode cX2_program 199 = .ok (.bipush 84, 2) := by decide +kernel
theorem dX2_program_201 : decode cX2_program 201 = .ok (.aload_n 0, 1) := by decide +kernel
theorem dX2_program_202 : decode cX2_program 202 = .ok (.getfield 364, 3) := by decide +kernel
theorem dX2_program_205 : decode cX2_program 205 = .ok (.imul, 1) := by decide +kernel
theorem dX2_program_206 : decode cX2_program 206 = .ok (.iload_n 2, 1) := by decide +kernel
theorem dX2_program_207 : decode cX2_program 207 = .ok (.iadd, 1) := by decide +kernel
theorem dX2_program_208 : decode cX2_program 208 = .ok (.iaload, 1) := by decide +kernel
theorem dX2_program_209 : decode cX2_program 209 = .ok (.invokevirtual 567, 3) := by decide +kernel
theorem dX2_program_212 : decode cX2_program 212 = .ok (.iinc 2 1, 3) := by decide +kernel
theorem dX2_program_215 : decode cX2_program 215 = .ok (.goto (-42), 3) := by decide +kernel
theorem dX2_program_218 : decode cX2_program 218 = .ok (.iinc 1 1, 3) := by decide +kernel
theorem dX2_program_221 : decode cX2_program 221 = .ok (.goto (-55), 3) := by decide +kernel
theorem dX2_program_224 : decode cX2_program 224 = .ok (.aload_n 0, 1) := by decide +kernel
theorem dX2_program_225 : decode cX2_program 225 = .ok (.getfield 300, 3) := by decide +kernel
theorem dX2_program_228 : decode cX2_program 228 = .ok (.ifCond .ne 7, 3) := by decide +kernel
theorem dX2_program_231 : decode cX2_program 231 = .ok (.aload_n 0, 1) := by decide +kernel
theorem dX2_program_232 : decode cX2_program 232 = .ok (.invokevirtual 570, 3) := by decide +kernel
theorem dX2_program_235 : decode cX2_program 235 = .ok (.iconst 0, 1) := by decide +kernel
theorem dX2_program_236 : decode cX2_program 236 = .ok (.istore_n 1, 1) := by decide +kernel
theorem dX2_program_237 : decode cX2_program 237 = .ok (.iload_n 1, 1) := by decide +kernel
theorem dX2_program_238 : decode cX2_program 238 = .ok (.aload_n 0, 1) := by decide +kernel
theorem dX2_program_239 : decode cX2_program 239 = .ok (.getfield 132, 3) := by decide +kernel
theorem dX2_program_242 : decode cX2_program 242 = .ok (.aload_n 0, 1) := by decide +kernel
theorem dX2_program_243 : decode cX2_program 243 = .ok (.getfield 364, 3) := by decide +kernel
theorem dX2_program_246 : decode cX2_program 246 = .ok (.iaload, 1) := by decide +kernel
theorem dX2_program_247 : decode cX2_program 247 = .ok (.if_icmp .ge 29, 3) := by decide +kernel
theorem dX2_program_250 : decode cX2_program 250 = .ok (.aload_n 0, 1) := by decide +kernel
theorem dX2_program_251 : decode cX2_program 251 = .ok (.getfield 300, 3) := by decide +kernel
theorem dX2_program_254 : decode cX2_program 254 = .ok (.ifCond .ne 22, 3) := by decide +kernel
theorem dX2_program_257 : decode cX2_program 257 = .ok (.aload_n 0, 1) := by decide +kernel
theorem dX2_program_258 : decode cX2_program 258 = .ok (.bipush 60, 2) := by decide +kernel
theorem dX2_program_260 : decode cX2_program 260 = .ok (.aload_n 0, 1) := by decide +kernel
theorem dX2_program_261 : decode cX2_program 261 = .ok (.getfield 364, 3) := by decide +kernel
theorem dX2_program_264 : decode cX2_program 264 = .ok (.imul, 1) := by decide +kernel
theorem dX2_program_265 : decode cX2_program 265 = .ok (.iload_n 1, 1) := by decide +kernel
theorem dX2_program_266 : decode cX2_program 266 = .ok (.iadd, 1) := by decide +kernel
theorem dX2_program_267 : decode cX2_program 267 = .ok (.invokevirtual 573, 3) := by decide +kernel
theorem dX2_program_270 : decode cX2_program 270 = .ok (.iinc 1 1, 3) := by decide +kernel
theorem dX2_program_273 : decode cX2_program 273 = .ok (.goto (-36), 3) := by decide +kernel
theorem dX2_program_276 : decode cX2_program 276 = .ok (.aload_n 0, 1) := by decide +kernel
theorem dX2_program_277 : decode cX2_program 277 = .ok (.getfield 300, 3) := by decide +kernel
theorem dX2_program_280 : decode cX2_program 280 = .ok (.ifCond .ne 30, 3) := by decide +kernel
theorem dX2_program_283 : decode cX2_program 283 = .ok (.aload_n 0, 1) := by decide +kernel
theorem dX2_program_284 : decode cX2_program 284 = .ok (.iconst (-1), 1) := by decide +kernel
theorem dX2_program_285 : decode cX2_program 285 = .ok (.iconst (-1), 1) := by decide +kernel
theorem dX2_program_286 : decode cX2_program 286 = .ok (.iconst (-1), 1) := by decide +kernel
theorem dX2_program_287 : decode cX2_program 287 = .ok (.invokevirtual 484, 3) := by decide +kernel
theorem dX2_program_290 : decode cX2_program 290 = .ok (.aload_n 0, 1) := by decide +kernel
theorem dX2_program_291 : decode cX2_program 291 = .ok (.ldc_w 556, 3) := by decide +kernel
theorem dX2_program_294 : decode cX2_program 294 = .ok (.putfield 389, 3) := by decide +kernel
theorem dX2_program_297 : decode cX2_program 297 = .ok (.aload_n 0, 1) := by decide +kernel
theorem dX2_program_298 : decode cX2_program 298 = .ok (.aload_n 0, 1) := by decide +kernel
theorem dX2_program_299 : decode cX2_program 299 = .ok (.getfield 153, 3) := by decide +kernel
theorem dX2_program_302 : decode cX2_program 302 = .ok (.aload_n 0, 1) := by decide +kernel
theorem dX2_program_303 : decode cX2_program 303 = .ok (.getfield 364, 3) := by decide +kernel
theorem dX2_program_306 : decode cX2_program 306 = .ok (.iaload, 1) := by decide +kernel
theorem dX2_program_307 : decode cX2_program 307 = .ok (.invokevirtual 538, 3) := by decide +kernel
theorem dX2_program_310 : decode cX2_program 310 = .ok (.aload_n 0, 1) := by decide +kernel
theorem dX2_program_311 : decode cX2_program 311 = .ok (.getfield 300, 3) := by decide +kernel
theorem dX2_program_314 : decode cX2_program 314 = .ok (.ifCond .ne 69, 3) := by decide +kernel
theorem dX2_program_317 : decode cX2_program 317 = .ok (.iconst 0, 1) := by decide +kernel
theorem dX2_program_318 : decode cX2_program 318 = .ok (.istore_n 1, 1) := by decide +kernel
theorem dX2_program_319 : decode cX2_program 319 = .ok (.iload_n 1, 1) := by decide +kernel
theorem dX2_program_320 : decode cX2_program 320 = .ok (.aload_n 0, 1) := by decide +kernel
theorem dX2_program_321 : decode cX2_program 321 = .ok (.getfield 508, 3) := by decide +kernel
theorem dX2_program_324 : decode cX2_program 324 = .ok (.if_icmp .ge 34, 3) := by decide +kernel
theorem dX2_program_327 : decode cX2_program 327 = .ok (.aload_n 0, 1) := by decide +kernel
theorem dX2_program_328 : decode cX2_program 328 = .ok (.getfield 197, 3) := by decide +kernel
theorem dX2_program_331 : decode cX2_program 331 = .ok (.bipush 60, 2) := by decide +kernel
theorem dX2_program_333 : decode cX2_program 333 = .ok (.aload_n 0, 1) := by decide +kernel
theorem dX2_program_334 : decode cX2_program 334 = .ok (.getfield 364, 3) := by decide +kernel
theorem dX2_program_337 : decode cX2_program 337 = .ok (.imul, 1) := by decide +kernel
theorem dX2_program_338 : decode cX2_program 338 = .ok (.iload_n 1, 1) := by decide +kernel
theorem dX2_program_339 : decode cX2_program 339 = .ok (.iadd, 1) := by decide +kernel
theorem dX2_program_340 : decode cX2_program 340 = .ok (.aload_n 0, 1) := by decide +kernel
theorem dX2_program_341 : decode cX2_program 341 = .ok (.getfield 169, 3) := by decide +kernel
theorem dX2_program_344 : decode cX2_program 344 = .ok (.aload_n 0, 1) := by decide +kernel
theorem dX2_program_345 : decode cX2_program 345 = .ok (.getfield 505, 3) := by decide +kernel
theorem dX2_program_348 : decode cX2_program 348 = .ok (.iload_n 1, 1) := by decide +kernel
theorem dX2_program_349 : decode cX2_program 349 = .ok (.iadd, 1) := by decide +kernel
theorem dX2_program_350 : decode cX2_program 350 = .ok (.iaload, 1) := by decide +kernel
theorem dX2_program_351 : decode cX2_program 351 = .ok (.iastore, 1) := by decide +kernel
theorem dX2_program_352 : decode cX2_program 352 = .ok (.iinc 1 1, 3) := by decide +kernel
theorem dX2_program_355 : decode cX2_program 355 = .ok (.goto (-36), 3) := by decide +kernel
theorem dX2_program_358 : decode cX2_program 358 = .ok (.aload_n 0, 1) := by decide +kernel
theorem dX2_program_359 : decode cX2_program 359 = .ok (.getfield 200, 3) := by decide +kernel
theorem dX2_program_362 : decode cX2_program 362 = .ok (.aload_n 0, 1) := by decide +kernel
theorem dX2_program_363 : decode cX2_program 363 = .ok (.getfield 364, 3) := by decide +kernel
theorem dX2_program_366 : decode cX2_program 366 = .ok (.aload_n 0, 1) := by decide +kernel
theorem dX2_program_367 : decode cX2_program 367 = .ok (.getfield 508, 3) := by decide +kernel
theorem dX2_program_370 : decode cX2_program 370 = .ok (.iastore, 1) := by decide +kernel
theorem dX2_program_371 : decode cX2_program 371 = .ok (.aload_n 0, 1) := by decide +kernel
theorem dX2_program_372 : decode cX2_program 372 = .ok (.aload_n 0, 1) := by decide +kernel
theorem dX2_program_373 : decode cX2_program 373 = .ok (.getfield 364, 3) := by decide +kernel
theorem dX2_program_376 : decode cX2_program 376 = .ok (.putfield 481, 3) := by decide +kernel
theorem dX2_program_379 : decode cX2_program 379 = .ok (.aload_n 0, 1) := by decide +kernel
theorem dX2_program_380 : decode cX2_program 380 = .ok (.invokevirtual 576, 3) := by decide +kernel
theorem dX2_program_383 : decode cX2_program 383 = .ok (.aload_n 0, 1) := by decide +kernel
theorem dX2_program_384 : decode cX2_program 384 = .ok (.aload_n 0, 1) := by decide +kernel
theorem dX2_program_385 : decode cX2_program 385 = .ok (.getfield 481, 3) := by decide +kernel
theorem dX2_program_388 : decode cX2_program 388 = .ok (.putfield 405, 3) := by decide +kernel
theorem dX2_program_391 : decode cX2_program 391 = .ok (.aload_n 0, 1) := by decide +kernel
theorem dX2_program_392 : decode cX2_program 392 = .ok (.getfield 300, 3) := by decide +kernel
theorem dX2_program_395 : decode cX2_program 395 = .ok (.ireturn, 1) := by decide +kernel
abbrev cX2_keptWords : ByteArray := prog_24_method_10_code
def yX2_keptWords : MethodName := ⟨RX2, "keptWords", "()V"⟩
theorem dX2_keptWords_0 : decode cX2_keptWords 0 = .ok (.aload_n 0, 1) := by decide +kernel
theorem dX2_keptWords_1 : decode cX2_keptWords 1 = .ok (.getfield 29, 3) := by decide +kernel
theorem dX2_keptWords_4 : decode cX2_keptWords 4 = .ok (.aload_n 0, 1) := by decide +kernel
theorem dX2_keptWords_5 : decode cX2_keptWords 5 = .ok (.getfield 262, 3) := by decide +kernel
theorem dX2_keptWords_8 : decode cX2_keptWords 8 = .ok (.iconst 0, 1) := by decide +kernel
theorem dX2_keptWords_9 : decode cX2_keptWords 9 = .ok (.iastore, 1) := by decide +kernel
theorem dX2_keptWords_10 : decode cX2_keptWords 10 = .ok (.lconst 0, 1) := by decide +kernel
theorem dX2_keptWords_11 : decode cX2_keptWords 11 = .ok (.lstore_n 1, 1) := by decide +kernel
theorem dX2_keptWords_12 : decode cX2_keptWords 12 = .ok (.iconst 0, 1) := by decide +kernel
theorem dX2_keptWords_13 : decode cX2_keptWords 13 = .ok (.istore_n 3, 1) := by decide +kernel
theorem dX2_keptWords_14 : decode cX2_keptWords 14 = .ok (.iload_n 3, 1) := by decide +kernel
theorem dX2_keptWords_15 : decode cX2_keptWords 15 = .ok (.ldc 32, 2) := by decide +kernel
theorem dX2_keptWords_17 : decode cX2_keptWords 17 = .ok (.invokevirtual 265, 3) := by decide +kernel
theorem dX2_keptWords_20 : decode cX2_keptWords 20 = .ok (.if_icmp .ge 50, 3) := by decide +kernel
theorem dX2_keptWords_23 : decode cX2_keptWords 23 = .ok (.ldc 32, 2) := by decide +kernel
theorem dX2_keptWords_25 : decode cX2_keptWords 25 = .ok (.iload_n 3, 1) := by decide +kernel
theorem dX2_keptWords_26 : decode cX2_keptWords 26 = .ok (.invokevirtual 270, 3) := by decide +kernel
theorem dX2_keptWords_29 : decode cX2_keptWords 29 = .ok (.istore 4, 2) := by decide +kernel
theorem dX2_keptWords_31 : decode cX2_keptWords 31 = .ok (.iload 4, 2) := by decide +kernel
theorem dX2_keptWords_33 : decode cX2_keptWords 33 = .ok (.bipush 32, 2) := by decide +kernel
theorem dX2_keptWords_35 : decode cX2_keptWords 35 = .ok (.if_icmp .ne 16, 3) := by decide +kernel
theorem dX2_keptWords_38 : decode cX2_keptWords 38 = .ok (.aload_n 0, 1) := by decide +kernel
theorem dX2_keptWords_39 : decode cX2_keptWords 39 = .ok (.lload_n 1, 1) := by decide +kernel
theorem dX2_keptWords_40 : decode cX2_keptWords 40 = .ok (.lconst 0, 1) := by decide +kernel
theorem dX2_keptWords_41 : decode cX2_keptWords 41 = .ok (.invokevirtual 274, 3) := by decide +kernel
theorem dX2_keptWords_44 : decode cX2_keptWords 44 = .ok (.istore 5, 2) := by decide +kernel
theorem dX2_keptWords_46 : decode cX2_keptWords 46 = .ok (.lconst 0, 1) := by decide +kernel
theorem dX2_keptWords_47 : decode cX2_keptWords 47 = .ok (.lstore_n 1, 1) := by decide +kernel
theorem dX2_keptWords_48 : decode cX2_keptWords 48 = .ok (.goto 16, 3) := by decide +kernel
theorem dX2_keptWords_51 : decode cX2_keptWords 51 = .ok (.ldc2_w 278, 3) := by decide +kernel
theorem dX2_keptWords_54 : decode cX2_keptWords 54 = .ok (.lload_n 1, 1) := by decide +kernel
theorem dX2_keptWords_55 : decode cX2_keptWords 55 = .ok (.lmul, 1) := by decide +kernel
theorem dX2_keptWords_56 : decode cX2_keptWords 56 = .ok (.iload 4, 2) := by decide +kernel
theorem dX2_keptWords_58 : decode cX2_keptWords 58 = .ok (.invokestatic 280, 3) := by decide +kernel
theorem dX2_keptWords_61 : decode cX2_keptWords 61 = .ok (.i2l, 1) := by decide +kernel
theorem dX2_keptWords_62 : decode cX2_keptWords 62 = .ok (.ladd, 1) := by decide +kernel
theorem dX2_keptWords_63 : decode cX2_keptWords 63 = .ok (.lstore_n 1, 1) := by decide +kernel
theorem dX2_keptWords_64 : decode cX2_keptWords 64 = .ok (.iinc 3 1, 3) := by decide +kernel
theorem dX2_keptWords_67 : decode cX2_keptWords 67 = .ok (.goto (-53), 3) := by decide +kernel
theorem dX2_keptWords_70 : decode cX2_keptWords 70 = .ok (.return_, 1) := by decide +kernel
abbrev cX2_wordOf : ByteArray := prog_24_method_9_code
def yX2_wordOf : MethodName := ⟨RX2, "wordOf", "(JJ)I"⟩
theorem dX2_wordOf_0 : decode cX2_wordOf 0 = .ok (.sipush 2100, 3) := by decide +kernel
theorem dX2_wordOf_3 : decode cX2_wordOf 3 = .ok (.aload_n 0, 1) := by decide +kernel
theorem dX2_wordOf_4 : decode cX2_wordOf 4 = .ok (.getfield 262, 3) := by decide +kernel
theorem dX2_wordOf_7 : decode cX2_wordOf 7 = .ok (.imul, 1) := by decide +kernel
theorem dX2_wordOf_8 : decode cX2_wordOf 8 = .ok (.istore 5, 2) := by decide +kernel
theorem dX2_wordOf_10 : decode cX2_wordOf 10 = .ok (.iconst 0, 1) := by decide +kernel
theorem dX2_wordOf_11 : decode cX2_wordOf 11 = .ok (.istore 6, 2) := by decide +kernel
theorem dX2_wordOf_13 : decode cX2_wordOf 13 = .ok (.iload 6, 2) := by decide +kernel
theorem dX2_wordOf_15 : decode cX2_wordOf 15 = .ok (.aload_n 0, 1) := by decide +kernel
theorem dX2_wordOf_16 : decode cX2_wordOf 16 = .ok (.getfield 29, 3) := by decide +kernel
theorem dX2_wordOf_19 : decode cX2_wordOf 19 = .ok (.aload_n 0, 1) := by decide +kernel
theorem dX2_wordOf_20 : decode cX2_wordOf 20 = .ok (.getfield 262, 3) := by decide +kernel
theorem dX2_wordOf_23 : decode cX2_wordOf 23 = .ok (.iaload, 1) := by decide +kernel
theorem dX2_wordOf_24 : decode cX2_wordOf 24 = .ok (.if_icmp .ge 42, 3) := by decide +kernel
theorem dX2_wordOf_27 : decode cX2_wordOf 27 = .ok (.aload_n 0, 1) := by decide +kernel
theorem dX2_wordOf_28 : decode cX2_wordOf 28 = .ok (.getfield 22, 3) := by decide +kernel
theorem dX2_wordOf_31 : decode cX2_wordOf 31 = .ok (.iload 5, 2) := by decide +kernel
theorem dX2_wordOf_33 : decode cX2_wordOf 33 = .ok (.iload 6, 2) := by decide +kernel
theorem dX2_wordOf_35 : decode cX2_wordOf 35 = .ok (.iadd, 1) := by decide +kernel
theorem dX2_wordOf_36 : decode cX2_wordOf 36 = .ok (.laload, 1) := by decide +kernel
theorem dX2_wordOf_37 : decode cX2_wordOf 37 = .ok (.lload_n 1, 1) := by decide +kernel
theorem dX2_wordOf_38 : decode cX2_wordOf 38 = .ok (.lcmp, 1) := by decide +kernel
theorem dX2_wordOf_39 : decode cX2_wordOf 39 = .ok (.ifCond .ne 21, 3) := by decide +kernel
theorem dX2_wordOf_42 : decode cX2_wordOf 42 = .ok (.aload_n 0, 1) := by decide +kernel
theorem dX2_wordOf_43 : decode cX2_wordOf 43 = .ok (.getfield 26, 3) := by decide +kernel
theorem dX2_wordOf_46 : decode cX2_wordOf 46 = .ok (.iload 5, 2) := by decide +kernel
theorem dX2_wordOf_48 : decode cX2_wordOf 48 = .ok (.iload 6, 2) := by decide +kernel
theorem dX2_wordOf_50 : decode cX2_wordOf 50 = .ok (.iadd, 1) := by decide +kernel
theorem dX2_wordOf_51 : decode cX2_wordOf 51 = .ok (.laload, 1) := by decide +kernel
theorem dX2_wordOf_52 : decode cX2_wordOf 52 = .ok (.lload_n 3, 1) := by decide +kernel
theorem dX2_wordOf_53 : decode cX2_wordOf 53 = .ok (.lcmp, 1) := by decide +kernel
theorem dX2_wordOf_54 : decode cX2_wordOf 54 = .ok (.ifCond .ne 6, 3) := by decide +kernel
theorem dX2_wordOf_57 : decode cX2_wordOf 57 = .ok (.iload 6, 2) := by decide +kernel
theorem dX2_wordOf_59 : decode cX2_wordOf 59 = .ok (.ireturn, 1) := by decide +kernel
theorem dX2_wordOf_60 : decode cX2_wordOf 60 = .ok (.iinc 6 1, 3) := by decide +kernel
theorem dX2_wordOf_63 : decode cX2_wordOf 63 = .ok (.goto (-50), 3) := by decide +kernel
theorem dX2_wordOf_66 : decode cX2_wordOf 66 = .ok (.aload_n 0, 1) := by decide +kernel
theorem dX2_wordOf_67 : decode cX2_wordOf 67 = .ok (.getfield 22, 3) := by decide +kernel
theorem dX2_wordOf_70 : decode cX2_wordOf 70 = .ok (.iload 5, 2) := by decide +kernel
theorem dX2_wordOf_72 : decode cX2_wordOf 72 = .ok (.aload_n 0, 1) := by decide +kernel
theorem dX2_wordOf_73 : decode cX2_wordOf 73 = .ok (.getfield 29, 3) := by decide +kernel
theorem dX2_wordOf_76 : decode cX2_wordOf 76 = .ok (.aload_n 0, 1) := by decide +kernel
theorem dX2_wordOf_77 : decode cX2_wordOf 77 = .ok (.getfield 262, 3) := by decide +kernel
theorem dX2_wordOf_80 : decode cX2_wordOf 80 = .ok (.iaload, 1) := by decide +kernel
theorem dX2_wordOf_81 : decode cX2_wordOf 81 = .ok (.iadd, 1) := by decide +kernel
theorem dX2_wordOf_82 : decode cX2_wordOf 82 = .ok (.lload_n 1, 1) := by decide +kernel
theorem dX2_wordOf_83 : decode cX2_wordOf 83 = .ok (.lastore, 1) := by decide +kernel
theorem dX2_wordOf_84 : decode cX2_wordOf 84 = .ok (.aload_n 0, 1) := by decide +kernel
theorem dX2_wordOf_85 : decode cX2_wordOf 85 = .ok (.getfield 26, 3) := by decide +kernel
theorem dX2_wordOf_88 : decode cX2_wordOf 88 = .ok (.iload 5, 2) := by decide +kernel
theorem dX2_wordOf_90 : decode cX2_wordOf 90 = .ok (.aload_n 0, 1) := by decide +kernel
theorem dX2_wordOf_91 : decode cX2_wordOf 91 = .ok (.getfield 29, 3) := by decide +kernel
theorem dX2_wordOf_94 : decode cX2_wordOf 94 = .ok (.aload_n 0, 1) := by decide +kernel
theorem dX2_wordOf_95 : decode cX2_wordOf 95 = .ok (.getfield 262, 3) := by decide +kernel
theorem dX2_wordOf_98 : decode cX2_wordOf 98 = .ok (.iaload, 1) := by decide +kernel
theorem dX2_wordOf_99 : decode cX2_wordOf 99 = .ok (.iadd, 1) := by decide +kernel
theorem dX2_wordOf_100 : decode cX2_wordOf 100 = .ok (.lload_n 3, 1) := by decide +kernel
theorem dX2_wordOf_101 : decode cX2_wordOf 101 = .ok (.lastore, 1) := by decide +kernel
theorem dX2_wordOf_102 : decode cX2_wordOf 102 = .ok (.aload_n 0, 1) := by decide +kernel
theorem dX2_wordOf_103 : decode cX2_wordOf 103 = .ok (.getfield 29, 3) := by decide +kernel
theorem dX2_wordOf_106 : decode cX2_wordOf 106 = .ok (.aload_n 0, 1) := by decide +kernel
theorem dX2_wordOf_107 : decode cX2_wordOf 107 = .ok (.getfield 262, 3) := by decide +kernel
theorem dX2_wordOf_110 : decode cX2_wordOf 110 = .ok (.dup2, 1) := by decide +kernel
theorem dX2_wordOf_111 : decode cX2_wordOf 111 = .ok (.iaload, 1) := by decide +kernel
theorem dX2_wordOf_112 : decode cX2_wordOf 112 = .ok (.iconst 1, 1) := by decide +kernel
theorem dX2_wordOf_113 : decode cX2_wordOf 113 = .ok (.iadd, 1) := by decide +kernel
theorem dX2_wordOf_114 : decode cX2_wordOf 114 = .ok (.iastore, 1) := by decide +kernel
theorem dX2_wordOf_115 : decode cX2_wordOf 115 = .ok (.aload_n 0, 1) := by decide +kernel
theorem dX2_wordOf_116 : decode cX2_wordOf 116 = .ok (.getfield 29, 3) := by decide +kernel
theorem dX2_wordOf_119 : decode cX2_wordOf 119 = .ok (.aload_n 0, 1) := by decide +kernel
theorem dX2_wordOf_120 : decode cX2_wordOf 120 = .ok (.getfield 262, 3) := by decide +kernel
theorem dX2_wordOf_123 : decode cX2_wordOf 123 = .ok (.iaload, 1) := by decide +kernel
theorem dX2_wordOf_124 : decode cX2_wordOf 124 = .ok (.iconst 1, 1) := by decide +kernel
theorem dX2_wordOf_125 : decode cX2_wordOf 125 = .ok (.isub, 1) := by decide +kernel
theorem dX2_wordOf_126 : decode cX2_wordOf 126 = .ok (.ireturn, 1) := by decide +kernel
abbrev cX2_rank : ByteArray := prog_24_method_7_code
def yX2_rank : MethodName := ⟨RX2, "rank", "(I)I"⟩
theorem dX2_rank_0 : decode cX2_rank 0 = .ok (.iload_n 0, 1) := by decide +kernel
theorem dX2_rank_1 : decode cX2_rank 1 = .ok (.bipush 97, 2) := by decide +kernel
theorem dX2_rank_3 : decode cX2_rank 3 = .ok (.if_icmp .lt 12, 3) := by decide +kernel
theorem dX2_rank_6 : decode cX2_rank 6 = .ok (.iload_n 0, 1) := by decide +kernel
theorem dX2_rank_7 : decode cX2_rank 7 = .ok (.bipush 97, 2) := by decide +kernel
theorem dX2_rank_9 : decode cX2_rank 9 = .ok (.isub, 1) := by decide +kernel
theorem dX2_rank_10 : decode cX2_rank 10 = .ok (.iconst 1, 1) := by decide +kernel
theorem dX2_rank_11 : decode cX2_rank 11 = .ok (.iadd, 1) := by decide +kernel
theorem dX2_rank_12 : decode cX2_rank 12 = .ok (.goto 26, 3) := by decide +kernel
theorem dX2_rank_15 : decode cX2_rank 15 = .ok (.iload_n 0, 1) := by decide +kernel
theorem dX2_rank_16 : decode cX2_rank 16 = .ok (.bipush 65, 2) := by decide +kernel
theorem dX2_rank_18 : decode cX2_rank 18 = .ok (.if_icmp .lt 13, 3) := by decide +kernel
theorem dX2_rank_21 : decode cX2_rank 21 = .ok (.iload_n 0, 1) := by decide +kernel
theorem dX2_rank_22 : decode cX2_rank 22 = .ok (.bipush 65, 2) := by decide +kernel
theorem dX2_rank_24 : decode cX2_rank 24 = .ok (.isub, 1) := by decide +kernel
theorem dX2_rank_25 : decode cX2_rank 25 = .ok (.bipush 27, 2) := by decide +kernel
theorem dX2_rank_27 : decode cX2_rank 27 = .ok (.iadd, 1) := by decide +kernel
theorem dX2_rank_28 : decode cX2_rank 28 = .ok (.goto 10, 3) := by decide +kernel
theorem dX2_rank_31 : decode cX2_rank 31 = .ok (.iload_n 0, 1) := by decide +kernel
theorem dX2_rank_32 : decode cX2_rank 32 = .ok (.bipush 48, 2) := by decide +kernel
theorem dX2_rank_34 : decode cX2_rank 34 = .ok (.isub, 1) := by decide +kernel
theorem dX2_rank_35 : decode cX2_rank 35 = .ok (.bipush 53, 2) := by decide +kernel
theorem dX2_rank_37 : decode cX2_rank 37 = .ok (.iadd, 1) := by decide +kernel
theorem dX2_rank_38 : decode cX2_rank 38 = .ok (.ireturn, 1) := by decide +kernel
abbrev cX2_cutAll : ByteArray := prog_24_method_11_code
def yX2_cutAll : MethodName := ⟨RX2, "cutAll", "()V"⟩
theorem dX2_cutAll_0 : decode cX2_cutAll 0 = .ok (.aload_n 0, 1) := by decide +kernel
theorem dX2_cutAll_1 : decode cX2_cutAll 1 = .ok (.aload_n 0, 1) := by decide +kernel
theorem dX2_cutAll_2 : decode cX2_cutAll 2 = .ok (.getfield 259, 3) := by decide +kernel
theorem dX2_cutAll_5 : decode cX2_cutAll 5 = .ok (.putfield 284, 3) := by decide +kernel
theorem dX2_cutAll_8 : decode cX2_cutAll 8 = .ok (.aload_n 0, 1) := by decide +kernel
theorem dX2_cutAll_9 : decode cX2_cutAll 9 = .ok (.iconst 0, 1) := by decide +kernel
theorem dX2_cutAll_10 : decode cX2_cutAll 10 = .ok (.putfield 259, 3) := by decide +kernel
theorem dX2_cutAll_13 : decode cX2_cutAll 13 = .ok (.sipush 4002, 3) := by decide +kernel
theorem dX2_cutAll_16 : decode cX2_cutAll 16 = .ok (.aload_n 0, 1) := by decide +kernel
theorem dX2_cutAll_17 : decode cX2_cutAll 17 = .ok (.getfield 262, 3) := by decide +kernel
theorem dX2_cutAll_20 : decode cX2_cutAll 20 = .ok (.imul, 1) := by decide +kernel
theorem dX2_cutAll_21 : decode cX2_cutAll 21 = .ok (.istore_n 1, 1) := by decide +kernel
theorem dX2_cutAll_22 : decode cX2_cutAll 22 = .ok (.iconst 0, 1) := by decide +kernel
theorem dX2_cutAll_23 : decode cX2_cutAll 23 = .ok (.istore_n 2, 1) := by decide +kernel
theorem dX2_cutAll_24 : decode cX2_cutAll 24 = .ok (.iload_n 2, 1) := by decide +kernel
theorem dX2_cutAll_25 : decode cX2_cutAll 25 = .ok (.aload_n 0, 1) := by decide +kernel
theorem dX2_cutAll_26 : decode cX2_cutAll 26 = .ok (.getfield 284, 3) := by decide +kernel
theorem dX2_cutAll_29 : decode cX2_cutAll 29 = .ok (.if_icmp .ge 256, 3) := by decide +kernel
theorem dX2_cutAll_32 : decode cX2_cutAll 32 = .ok (.aload_n 0, 1) := by decide +kernel
theorem dX2_cutAll_33 : decode cX2_cutAll 33 = .ok (.getfield 7, 3) := by decide +kernel
theorem dX2_cutAll_36 : decode cX2_cutAll 36 = .ok (.iload_n 2, 1) := by decide +kernel
theorem dX2_cutAll_37 : decode cX2_cutAll 37 = .ok (.iaload, 1) := by decide +kernel
theorem dX2_cutAll_38 : decode cX2_cutAll 38 = .ok (.istore_n 3, 1) := by decide +kernel
theorem dX2_cutAll_39 : decode cX2_cutAll 39 = .ok (.iload_n 3, 1) := by decide +kernel
theorem dX2_cutAll_40 : decode cX2_cutAll 40 = .ok (.bipush 10, 2) := by decide +kernel
theorem dX2_cutAll_42 : decode cX2_cutAll 42 = .ok (.if_icmp .eq 9, 3) := by decide +kernel
theorem dX2_cutAll_45 : decode cX2_cutAll 45 = .ok (.iload_n 3, 1) := by decide +kernel
theorem dX2_cutAll_46 : decode cX2_cutAll 46 = .ok (.bipush 32, 2) := by decide +kernel
theorem dX2_cutAll_48 : decode cX2_cutAll 48 = .ok (.if_icmp .ne 9, 3) := by decide +kernel
theorem dX2_cutAll_51 : decode cX2_cutAll 51 = .ok (.iinc 2 1, 3) := by decide +kernel
theorem dX2_cutAll_54 : decode cX2_cutAll 54 = .ok (.goto (-30), 3) := by decide +kernel
theorem dX2_cutAll_57 : decode cX2_cutAll 57 = .ok (.iload_n 2, 1) := by decide +kernel
theorem dX2_cutAll_58 : decode cX2_cutAll 58 = .ok (.istore 4, 2) := by decide +kernel
