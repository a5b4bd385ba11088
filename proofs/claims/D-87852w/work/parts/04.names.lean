set_option maxRecDepth 100000
theorem dX0_called_210 : decode cX0_called 210 = .ok (.invokespecial 307, 3) := by decide +kernel
theorem dX0_called_213 : decode cX0_called 213 = .ok (.invokevirtual 310, 3) := by decide +kernel
theorem dX0_called_216 : decode cX0_called 216 = .ok (.astore 7, 2) := by decide +kernel
theorem dX0_called_218 : decode cX0_called 218 = .ok (.aload_n 0, 1) := by decide +kernel
theorem dX0_called_219 : decode cX0_called 219 = .ok (.dup, 1) := by decide +kernel
theorem dX0_called_220 : decode cX0_called 220 = .ok (.getfield 300, 3) := by decide +kernel
theorem dX0_called_223 : decode cX0_called 223 = .ok (.iconst 1, 1) := by decide +kernel
theorem dX0_called_224 : decode cX0_called 224 = .ok (.isub, 1) := by decide +kernel
theorem dX0_called_225 : decode cX0_called 225 = .ok (.putfield 300, 3) := by decide +kernel
theorem dX0_called_228 : decode cX0_called 228 = .ok (.aload 7, 2) := by decide +kernel
theorem dX0_called_230 : decode cX0_called 230 = .ok (.areturn, 1) := by decide +kernel
abbrev cX0_failed : ByteArray := prog_1_method_24_code
def yX0_failed : MethodName := ⟨RX0, "failed", "()I"⟩
theorem dX0_failed_0 : decode cX0_failed 0 = .ok (.aload_n 0, 1) := by decide +kernel
theorem dX0_failed_1 : decode cX0_failed 1 = .ok (.getfield 169, 3) := by decide +kernel
theorem dX0_failed_4 : decode cX0_failed 4 = .ok (.ireturn, 1) := by decide +kernel
abbrev cX0_calls : ByteArray := prog_1_method_25_code
def yX0_calls : MethodName := ⟨RX0, "calls", "()I"⟩
theorem dX0_calls_0 : decode cX0_calls 0 = .ok (.aload_n 0, 1) := by decide +kernel
theorem dX0_calls_1 : decode cX0_calls 1 = .ok (.getfield 240, 3) := by decide +kernel
theorem dX0_calls_4 : decode cX0_calls 4 = .ok (.ireturn, 1) := by decide +kernel
abbrev cX0_instances : ByteArray := prog_1_method_26_code
def yX0_instances : MethodName := ⟨RX0, "instances", "()I"⟩
theorem dX0_instances_0 : decode cX0_instances 0 = .ok (.aload_n 0, 1) := by decide +kernel
theorem dX0_instances_1 : decode cX0_instances 1 = .ok (.getfield 222, 3) := by decide +kernel
theorem dX0_instances_4 : decode cX0_instances 4 = .ok (.ifnonnull 5, 3) := by decide +kernel
theorem dX0_instances_7 : decode cX0_instances 7 = .ok (.iconst (-1), 1) := by decide +kernel
theorem dX0_instances_8 : decode cX0_instances 8 = .ok (.ireturn, 1) := by decide +kernel
theorem dX0_instances_9 : decode cX0_instances 9 = .ok (.aload_n 0, 1) := by decide +kernel
theorem dX0_instances_10 : decode cX0_instances 10 = .ok (.getfield 234, 3) := by decide +kernel
theorem dX0_instances_13 : decode cX0_instances 13 = .ok (.ifCond .ne 7, 3) := by decide +kernel
theorem dX0_instances_16 : decode cX0_instances 16 = .ok (.aload_n 0, 1) := by decide +kernel
theorem dX0_instances_17 : decode cX0_instances 17 = .ok (.invokevirtual 386, 3) := by decide +kernel
theorem dX0_instances_20 : decode cX0_instances 20 = .ok (.aload_n 0, 1) := by decide +kernel
theorem dX0_instances_21 : decode cX0_instances 21 = .ok (.getfield 230, 3) := by decide +kernel
theorem dX0_instances_24 : decode cX0_instances 24 = .ok (.ifnonnull 7, 3) := by decide +kernel
theorem dX0_instances_27 : decode cX0_instances 27 = .ok (.iconst (-1), 1) := by decide +kernel
theorem dX0_instances_28 : decode cX0_instances 28 = .ok (.goto 13, 3) := by decide +kernel
theorem dX0_instances_31 : decode cX0_instances 31 = .ok (.aload_n 0, 1) := by decide +kernel
theorem dX0_instances_32 : decode cX0_instances 32 = .ok (.getfield 230, 3) := by decide +kernel
theorem dX0_instances_35 : decode cX0_instances 35 = .ok (.getfield 389, 3) := by decide +kernel
theorem dX0_instances_38 : decode cX0_instances 38 = .ok (.invokevirtual 1, 3) := by decide +kernel
theorem dX0_instances_41 : decode cX0_instances 41 = .ok (.ireturn, 1) := by decide +kernel
abbrev cX0_makes : ByteArray := prog_1_method_27_code
def yX0_makes : MethodName := ⟨RX0, "makes", "()V"⟩
theorem dX0_makes_0 : decode cX0_makes 0 = .ok (.aload_n 0, 1) := by decide +kernel
theorem dX0_makes_1 : decode cX0_makes 1 = .ok (.iconst 1, 1) := by decide +kernel
theorem dX0_makes_2 : decode cX0_makes 2 = .ok (.putfield 234, 3) := by decide +kernel
theorem dX0_makes_5 : decode cX0_makes 5 = .ok (.new 390, 3) := by decide +kernel
theorem dX0_makes_8 : decode cX0_makes 8 = .ok (.dup, 1) := by decide +kernel
theorem dX0_makes_9 : decode cX0_makes 9 = .ok (.invokespecial 394, 3) := by decide +kernel
theorem dX0_makes_12 : decode cX0_makes 12 = .ok (.astore_n 1, 1) := by decide +kernel
theorem dX0_makes_13 : decode cX0_makes 13 = .ok (.aload_n 1, 1) := by decide +kernel
theorem dX0_makes_14 : decode cX0_makes 14 = .ok (.aload_n 0, 1) := by decide +kernel
theorem dX0_makes_15 : decode cX0_makes 15 = .ok (.getfield 222, 3) := by decide +kernel
theorem dX0_makes_18 : decode cX0_makes 18 = .ok (.aconst_null, 1) := by decide +kernel
theorem dX0_makes_19 : decode cX0_makes 19 = .ok (.invokevirtual 395, 3) := by decide +kernel
theorem dX0_makes_22 : decode cX0_makes 22 = .ok (.aload_n 1, 1) := by decide +kernel
theorem dX0_makes_23 : decode cX0_makes 23 = .ok (.invokevirtual 399, 3) := by decide +kernel
theorem dX0_makes_26 : decode cX0_makes 26 = .ok (.aload_n 0, 1) := by decide +kernel
theorem dX0_makes_27 : decode cX0_makes 27 = .ok (.aload_n 1, 1) := by decide +kernel
theorem dX0_makes_28 : decode cX0_makes 28 = .ok (.putfield 230, 3) := by decide +kernel
theorem dX0_makes_31 : decode cX0_makes 31 = .ok (.goto 18, 3) := by decide +kernel
theorem dX0_makes_34 : decode cX0_makes 34 = .ok (.astore_n 2, 1) := by decide +kernel
theorem dX0_makes_35 : decode cX0_makes 35 = .ok (.aload_n 0, 1) := by decide +kernel
theorem dX0_makes_36 : decode cX0_makes 36 = .ok (.aconst_null, 1) := by decide +kernel
theorem dX0_makes_37 : decode cX0_makes 37 = .ok (.putfield 230, 3) := by decide +kernel
theorem dX0_makes_40 : decode cX0_makes 40 = .ok (.goto 9, 3) := by decide +kernel
theorem dX0_makes_43 : decode cX0_makes 43 = .ok (.astore_n 2, 1) := by decide +kernel
theorem dX0_makes_44 : decode cX0_makes 44 = .ok (.aload_n 0, 1) := by decide +kernel
theorem dX0_makes_45 : decode cX0_makes 45 = .ok (.aconst_null, 1) := by decide +kernel
theorem dX0_makes_46 : decode cX0_makes 46 = .ok (.putfield 230, 3) := by decide +kernel
theorem dX0_makes_49 : decode cX0_makes 49 = .ok (.return_, 1) := by decide +kernel
abbrev cX0_isSame_2 : ByteArray := prog_1_method_10_code
def yX0_isSame_2 : MethodName := ⟨RX0, "isSame", "(LFeatherBench$Ty;LFeatherBench$Put;LFeatherBench$Ty;LFeatherBench$Put;)Z"⟩
theorem dX0_isSame_2_0 : decode cX0_isSame_2 0 = .ok (.aload_n 0, 1) := by decide +kernel
theorem dX0_isSame_2_1 : decode cX0_isSame_2 1 = .ok (.getfield 23, 3) := by decide +kernel
theorem dX0_isSame_2_4 : decode cX0_isSame_2 4 = .ok (.ifnull 11, 3) := by decide +kernel
theorem dX0_isSame_2_7 : decode cX0_isSame_2 7 = .ok (.aload_n 1, 1) := by decide +kernel
theorem dX0_isSame_2_8 : decode cX0_isSame_2 8 = .ok (.ifnull 7, 3) := by decide +kernel
theorem dX0_isSame_2_11 : decode cX0_isSame_2 11 = .ok (.iconst 1, 1) := by decide +kernel
theorem dX0_isSame_2_12 : decode cX0_isSame_2 12 = .ok (.goto 4, 3) := by decide +kernel
theorem dX0_isSame_2_15 : decode cX0_isSame_2 15 = .ok (.iconst 0, 1) := by decide +kernel
theorem dX0_isSame_2_16 : decode cX0_isSame_2 16 = .ok (.istore 4, 2) := by decide +kernel
theorem dX0_isSame_2_18 : decode cX0_isSame_2 18 = .ok (.aload_n 2, 1) := by decide +kernel
theorem dX0_isSame_2_19 : decode cX0_isSame_2 19 = .ok (.getfield 23, 3) := by decide +kernel
theorem dX0_isSame_2_22 : decode cX0_isSame_2 22 = .ok (.ifnull 11, 3) := by decide +kernel
theorem dX0_isSame_2_25 : decode cX0_isSame_2 25 = .ok (.aload_n 3, 1) := by decide +kernel
theorem dX0_isSame_2_26 : decode cX0_isSame_2 26 = .ok (.ifnull 7, 3) := by decide +kernel
theorem dX0_isSame_2_29 : decode cX0_isSame_2 29 = .ok (.iconst 1, 1) := by decide +kernel
theorem dX0_isSame_2_30 : decode cX0_isSame_2 30 = .ok (.goto 4, 3) := by decide +kernel
theorem dX0_isSame_2_33 : decode cX0_isSame_2 33 = .ok (.iconst 0, 1) := by decide +kernel
theorem dX0_isSame_2_34 : decode cX0_isSame_2 34 = .ok (.istore 5, 2) := by decide +kernel
theorem dX0_isSame_2_36 : decode cX0_isSame_2 36 = .ok (.iload 4, 2) := by decide +kernel
theorem dX0_isSame_2_38 : decode cX0_isSame_2 38 = .ok (.ifCond .eq 11, 3) := by decide +kernel
theorem dX0_isSame_2_41 : decode cX0_isSame_2 41 = .ok (.aload_n 1, 1) := by decide +kernel
theorem dX0_isSame_2_42 : decode cX0_isSame_2 42 = .ok (.aload_n 0, 1) := by decide +kernel
theorem dX0_isSame_2_43 : decode cX0_isSame_2 43 = .ok (.invokevirtual 152, 3) := by decide +kernel
theorem dX0_isSame_2_46 : decode cX0_isSame_2 46 = .ok (.goto 4, 3) := by decide +kernel
theorem dX0_isSame_2_49 : decode cX0_isSame_2 49 = .ok (.aload_n 0, 1) := by decide +kernel
theorem dX0_isSame_2_50 : decode cX0_isSame_2 50 = .ok (.astore 6, 2) := by decide +kernel
theorem dX0_isSame_2_52 : decode cX0_isSame_2 52 = .ok (.iload 5, 2) := by decide +kernel
theorem dX0_isSame_2_54 : decode cX0_isSame_2 54 = .ok (.ifCond .eq 11, 3) := by decide +kernel
theorem dX0_isSame_2_57 : decode cX0_isSame_2 57 = .ok (.aload_n 3, 1) := by decide +kernel
theorem dX0_isSame_2_58 : decode cX0_isSame_2 58 = .ok (.aload_n 2, 1) := by decide +kernel
theorem dX0_isSame_2_59 : decode cX0_isSame_2 59 = .ok (.invokevirtual 152, 3) := by decide +kernel
theorem dX0_isSame_2_62 : decode cX0_isSame_2 62 = .ok (.goto 4, 3) := by decide +kernel
theorem dX0_isSame_2_65 : decode cX0_isSame_2 65 = .ok (.aload_n 2, 1) := by decide +kernel
theorem dX0_isSame_2_66 : decode cX0_isSame_2 66 = .ok (.astore 7, 2) := by decide +kernel
theorem dX0_isSame_2_68 : decode cX0_isSame_2 68 = .ok (.iload 4, 2) := by decide +kernel
theorem dX0_isSame_2_70 : decode cX0_isSame_2 70 = .ok (.ifCond .eq 7, 3) := by decide +kernel
theorem dX0_isSame_2_73 : decode cX0_isSame_2 73 = .ok (.aconst_null, 1) := by decide +kernel
theorem dX0_isSame_2_74 : decode cX0_isSame_2 74 = .ok (.goto 4, 3) := by decide +kernel
theorem dX0_isSame_2_77 : decode cX0_isSame_2 77 = .ok (.aload_n 1, 1) := by decide +kernel
theorem dX0_isSame_2_78 : decode cX0_isSame_2 78 = .ok (.astore 8, 2) := by decide +kernel
theorem dX0_isSame_2_80 : decode cX0_isSame_2 80 = .ok (.iload 5, 2) := by decide +kernel
theorem dX0_isSame_2_82 : decode cX0_isSame_2 82 = .ok (.ifCond .eq 7, 3) := by decide +kernel
theorem dX0_isSame_2_85 : decode cX0_isSame_2 85 = .ok (.aconst_null, 1) := by decide +kernel
theorem dX0_isSame_2_86 : decode cX0_isSame_2 86 = .ok (.goto 4, 3) := by decide +kernel
theorem dX0_isSame_2_89 : decode cX0_isSame_2 89 = .ok (.aload_n 3, 1) := by decide +kernel
theorem dX0_isSame_2_90 : decode cX0_isSame_2 90 = .ok (.astore 9, 2) := by decide +kernel
theorem dX0_isSame_2_92 : decode cX0_isSame_2 92 = .ok (.aload 6, 2) := by decide +kernel
theorem dX0_isSame_2_94 : decode cX0_isSame_2 94 = .ok (.getfield 23, 3) := by decide +kernel
theorem dX0_isSame_2_97 : decode cX0_isSame_2 97 = .ok (.aload 7, 2) := by decide +kernel
theorem dX0_isSame_2_99 : decode cX0_isSame_2 99 = .ok (.getfield 23, 3) := by decide +kernel
theorem dX0_isSame_2_102 : decode cX0_isSame_2 102 = .ok (.if_acmp .ne 16, 3) := by decide +kernel
theorem dX0_isSame_2_105 : decode cX0_isSame_2 105 = .ok (.aload 6, 2) := by decide +kernel
theorem dX0_isSame_2_107 : decode cX0_isSame_2 107 = .ok (.getfield 41, 3) := by decide +kernel
theorem dX0_isSame_2_110 : decode cX0_isSame_2 110 = .ok (.aload 7, 2) := by decide +kernel
theorem dX0_isSame_2_112 : decode cX0_isSame_2 112 = .ok (.getfield 41, 3) := by decide +kernel
theorem dX0_isSame_2_115 : decode cX0_isSame_2 115 = .ok (.if_acmp .eq 5, 3) := by decide +kernel
theorem dX0_isSame_2_118 : decode cX0_isSame_2 118 = .ok (.iconst 0, 1) := by decide +kernel
theorem dX0_isSame_2_119 : decode cX0_isSame_2 119 = .ok (.ireturn, 1) := by decide +kernel
theorem dX0_isSame_2_120 : decode cX0_isSame_2 120 = .ok (.iconst 0, 1) := by decide +kernel
theorem dX0_isSame_2_121 : decode cX0_isSame_2 121 = .ok (.istore 10, 2) := by decide +kernel
theorem dX0_isSame_2_123 : decode cX0_isSame_2 123 = .ok (.iload 10, 2) := by decide +kernel
theorem dX0_isSame_2_125 : decode cX0_isSame_2 125 = .ok (.aload 6, 2) := by decide +kernel
theorem dX0_isSame_2_127 : decode cX0_isSame_2 127 = .ok (.getfield 35, 3) := by decide +kernel
theorem dX0_isSame_2_130 : decode cX0_isSame_2 130 = .ok (.arraylength, 1) := by decide +kernel
theorem dX0_isSame_2_131 : decode cX0_isSame_2 131 = .ok (.if_icmp .ge 37, 3) := by decide +kernel
theorem dX0_isSame_2_134 : decode cX0_isSame_2 134 = .ok (.aload 6, 2) := by decide +kernel
theorem dX0_isSame_2_136 : decode cX0_isSame_2 136 = .ok (.getfield 35, 3) := by decide +kernel
theorem dX0_isSame_2_139 : decode cX0_isSame_2 139 = .ok (.iload 10, 2) := by decide +kernel
theorem dX0_isSame_2_141 : decode cX0_isSame_2 141 = .ok (.aaload, 1) := by decide +kernel
theorem dX0_isSame_2_142 : decode cX0_isSame_2 142 = .ok (.aload 8, 2) := by decide +kernel
theorem dX0_isSame_2_144 : decode cX0_isSame_2 144 = .ok (.aload 7, 2) := by decide +kernel
theorem dX0_isSame_2_146 : decode cX0_isSame_2 146 = .ok (.getfield 35, 3) := by decide +kernel
theorem dX0_isSame_2_149 : decode cX0_isSame_2 149 = .ok (.iload 10, 2) := by decide +kernel
theorem dX0_isSame_2_151 : decode cX0_isSame_2 151 = .ok (.aaload, 1) := by decide +kernel
theorem dX0_isSame_2_152 : decode cX0_isSame_2 152 = .ok (.aload 9, 2) := by decide +kernel
theorem dX0_isSame_2_154 : decode cX0_isSame_2 154 = .ok (.invokestatic 156, 3) := by decide +kernel
theorem dX0_isSame_2_157 : decode cX0_isSame_2 157 = .ok (.ifCond .ne 5, 3) := by decide +kernel
theorem dX0_isSame_2_160 : decode cX0_isSame_2 160 = .ok (.iconst 0, 1) := by decide +kernel
theorem dX0_isSame_2_161 : decode cX0_isSame_2 161 = .ok (.ireturn, 1) := by decide +kernel
theorem dX0_isSame_2_162 : decode cX0_isSame_2 162 = .ok (.iinc 10 1, 3) := by decide +kernel
theorem dX0_isSame_2_165 : decode cX0_isSame_2 165 = .ok (.goto (-42), 3) := by decide +kernel
theorem dX0_isSame_2_168 : decode cX0_isSame_2 168 = .ok (.iconst 1, 1) := by decide +kernel
theorem dX0_isSame_2_169 : decode cX0_isSame_2 169 = .ok (.ireturn, 1) := by decide +kernel
abbrev cX0_made : ByteArray := prog_1_method_28_code
def yX0_made : MethodName := ⟨RX0, "made", "(I)I"⟩
theorem dX0_made_0 : decode cX0_made 0 = .ok (.aload_n 0, 1) := by decide +kernel
theorem dX0_made_1 : decode cX0_made 1 = .ok (.getfield 230, 3) := by decide +kernel
theorem dX0_made_4 : decode cX0_made 4 = .ok (.ifnonnull 5, 3) := by decide +kernel
theorem dX0_made_7 : decode cX0_made 7 = .ok (.iconst (-1), 1) := by decide +kernel
theorem dX0_made_8 : decode cX0_made 8 = .ok (.ireturn, 1) := by decide +kernel
theorem dX0_made_9 : decode cX0_made 9 = .ok (.iload_n 1, 1) := by decide +kernel
theorem dX0_made_10 : decode cX0_made 10 = .ok (.ifCond .ne 16, 3) := by decide +kernel
theorem dX0_made_13 : decode cX0_made 13 = .ok (.aload_n 0, 1) := by decide +kernel
theorem dX0_made_14 : decode cX0_made 14 = .ok (.getfield 230, 3) := by decide +kernel
theorem dX0_made_17 : decode cX0_made 17 = .ok (.getfield 403, 3) := by decide +kernel
theorem dX0_made_20 : decode cX0_made 20 = .ok (.invokevirtual 1, 3) := by decide +kernel
theorem dX0_made_23 : decode cX0_made 23 = .ok (.goto 40, 3) := by decide +kernel
theorem dX0_made_26 : decode cX0_made 26 = .ok (.iload_n 1, 1) := by decide +kernel
theorem dX0_made_27 : decode cX0_made 27 = .ok (.iconst 1, 1) := by decide +kernel
theorem dX0_made_28 : decode cX0_made 28 = .ok (.if_icmp .ne 16, 3) := by decide +kernel
theorem dX0_made_31 : decode cX0_made 31 = .ok (.aload_n 0, 1) := by decide +kernel
theorem dX0_made_32 : decode cX0_made 32 = .ok (.getfield 230, 3) := by decide +kernel
theorem dX0_made_35 : decode cX0_made 35 = .ok (.getfield 404, 3) := by decide +kernel
theorem dX0_made_38 : decode cX0_made 38 = .ok (.invokevirtual 1, 3) := by decide +kernel
theorem dX0_made_41 : decode cX0_made 41 = .ok (.goto 22, 3) := by decide +kernel
theorem dX0_made_44 : decode cX0_made 44 = .ok (.iload_n 1, 1) := by decide +kernel
theorem dX0_made_45 : decode cX0_made 45 = .ok (.iconst 2, 1) := by decide +kernel
theorem dX0_made_46 : decode cX0_made 46 = .ok (.if_icmp .ne 16, 3) := by decide +kernel
theorem dX0_made_49 : decode cX0_made 49 = .ok (.aload_n 0, 1) := by decide +kernel
theorem dX0_made_50 : decode cX0_made 50 = .ok (.getfield 230, 3) := by decide +kernel
theorem dX0_made_53 : decode cX0_made 53 = .ok (.getfield 389, 3) := by decide +kernel
theorem dX0_made_56 : decode cX0_made 56 = .ok (.invokevirtual 1, 3) := by decide +kernel
theorem dX0_made_59 : decode cX0_made 59 = .ok (.goto 4, 3) := by decide +kernel
theorem dX0_made_62 : decode cX0_made 62 = .ok (.iconst (-1), 1) := by decide +kernel
theorem dX0_made_63 : decode cX0_made 63 = .ok (.ireturn, 1) := by decide +kernel
abbrev cX0_isMade : ByteArray := prog_1_method_29_code
def yX0_isMade : MethodName := ⟨RX0, "isMade", "()I"⟩
theorem dX0_isMade_0 : decode cX0_isMade 0 = .ok (.aload_n 0, 1) := by decide +kernel
theorem dX0_isMade_1 : decode cX0_isMade 1 = .ok (.iconst 1, 1) := by decide +kernel
theorem dX0_isMade_2 : decode cX0_isMade 2 = .ok (.invokevirtual 264, 3) := by decide +kernel
theorem dX0_isMade_5 : decode cX0_isMade 5 = .ok (.astore_n 1, 1) := by decide +kernel
theorem dX0_isMade_6 : decode cX0_isMade 6 = .ok (.aload_n 1, 1) := by decide +kernel
theorem dX0_isMade_7 : decode cX0_isMade 7 = .ok (.ifnull 10, 3) := by decide +kernel
theorem dX0_isMade_10 : decode cX0_isMade 10 = .ok (.aload_n 0, 1) := by decide +kernel
theorem dX0_isMade_11 : decode cX0_isMade 11 = .ok (.getfield 222, 3) := by decide +kernel
theorem dX0_isMade_14 : decode cX0_isMade 14 = .ok (.ifnonnull 5, 3) := by decide +kernel
theorem dX0_isMade_17 : decode cX0_isMade 17 = .ok (.iconst (-1), 1) := by decide +kernel
theorem dX0_isMade_18 : decode cX0_isMade 18 = .ok (.ireturn, 1) := by decide +kernel
theorem dX0_isMade_19 : decode cX0_isMade 19 = .ok (.aload_n 0, 1) := by decide +kernel
theorem dX0_isMade_20 : decode cX0_isMade 20 = .ok (.aload_n 1, 1) := by decide +kernel
theorem dX0_isMade_21 : decode cX0_isMade 21 = .ok (.invokevirtual 268, 3) := by decide +kernel
theorem dX0_isMade_24 : decode cX0_isMade 24 = .ok (.ifCond .ne 6, 3) := by decide +kernel
theorem dX0_isMade_27 : decode cX0_isMade 27 = .ok (.bipush (-2), 2) := by decide +kernel
theorem dX0_isMade_29 : decode cX0_isMade 29 = .ok (.ireturn, 1) := by decide +kernel
theorem dX0_isMade_30 : decode cX0_isMade 30 = .ok (.aload_n 0, 1) := by decide +kernel
theorem dX0_isMade_31 : decode cX0_isMade 31 = .ok (.getfield 230, 3) := by decide +kernel
theorem dX0_isMade_34 : decode cX0_isMade 34 = .ok (.ifnonnull 8, 3) := by decide +kernel
theorem dX0_isMade_37 : decode cX0_isMade 37 = .ok (.bipush (-3), 2) := by decide +kernel
theorem dX0_isMade_39 : decode cX0_isMade 39 = .ok (.goto 30, 3) := by decide +kernel
theorem dX0_isMade_42 : decode cX0_isMade 42 = .ok (.aload_n 0, 1) := by decide +kernel
theorem dX0_isMade_43 : decode cX0_isMade 43 = .ok (.getfield 230, 3) := by decide +kernel
theorem dX0_isMade_46 : decode cX0_isMade 46 = .ok (.aload_n 1, 1) := by decide +kernel
theorem dX0_isMade_47 : decode cX0_isMade 47 = .ok (.iconst 0, 1) := by decide +kernel
theorem dX0_isMade_48 : decode cX0_isMade 48 = .ok (.invokevirtual 7, 3) := by decide +kernel
theorem dX0_isMade_51 : decode cX0_isMade 51 = .ok (.checkcast 121, 3) := by decide +kernel
theorem dX0_isMade_54 : decode cX0_isMade 54 = .ok (.getfield 120, 3) := by decide +kernel
theorem dX0_isMade_57 : decode cX0_isMade 57 = .ok (.aconst_null, 1) := by decide +kernel
theorem dX0_isMade_58 : decode cX0_isMade 58 = .ok (.invokevirtual 407, 3) := by decide +kernel
theorem dX0_isMade_61 : decode cX0_isMade 61 = .ok (.ifnull 7, 3) := by decide +kernel
theorem dX0_isMade_64 : decode cX0_isMade 64 = .ok (.iconst 1, 1) := by decide +kernel
theorem dX0_isMade_65 : decode cX0_isMade 65 = .ok (.goto 4, 3) := by decide +kernel
theorem dX0_isMade_68 : decode cX0_isMade 68 = .ok (.iconst 0, 1) := by decide +kernel
theorem dX0_isMade_69 : decode cX0_isMade 69 = .ok (.ireturn, 1) := by decide +kernel
abbrev cX0_print : ByteArray := prog_1_method_33_code
def yX0_print : MethodName := ⟨RX0, "print", "(I)I"⟩
theorem dX0_print_0 : decode cX0_print 0 = .ok (.iload_n 1, 1) := by decide +kernel
theorem dX0_print_1 : decode cX0_print 1 = .ok (.ifCond .lt 27, 3) := by decide +kernel
theorem dX0_print_4 : decode cX0_print 4 = .ok (.iload_n 1, 1) := by decide +kernel
theorem dX0_print_5 : decode cX0_print 5 = .ok (.iconst 1, 1) := by decide +kernel
theorem dX0_print_6 : decode cX0_print 6 = .ok (.if_icmp .gt 22, 3) := by decide +kernel
theorem dX0_print_9 : decode cX0_print 9 = .ok (.aload_n 0, 1) := by decide +kernel
theorem dX0_print_10 : decode cX0_print 10 = .ok (.getfield 222, 3) := by decide +kernel
theorem dX0_print_13 : decode cX0_print 13 = .ok (.ifnull 15, 3) := by decide +kernel
theorem dX0_print_16 : decode cX0_print 16 = .ok (.iload_n 1, 1) := by decide +kernel
theorem dX0_print_17 : decode cX0_print 17 = .ok (.iconst 1, 1) := by decide +kernel
theorem dX0_print_18 : decode cX0_print 18 = .ok (.if_icmp .ne 12, 3) := by decide +kernel
theorem dX0_print_21 : decode cX0_print 21 = .ok (.aload_n 0, 1) := by decide +kernel
theorem dX0_print_22 : decode cX0_print 22 = .ok (.getfield 226, 3) := by decide +kernel
theorem dX0_print_25 : decode cX0_print 25 = .ok (.ifnonnull 5, 3) := by decide +kernel
theorem dX0_print_28 : decode cX0_print 28 = .ok (.iconst (-1), 1) := by decide +kernel
theorem dX0_print_29 : decode cX0_print 29 = .ok (.ireturn, 1) := by decide +kernel
theorem dX0_print_30 : decode cX0_print 30 = .ok (.aload_n 0, 1) := by decide +kernel
theorem dX0_print_31 : decode cX0_print 31 = .ok (.iconst 0, 1) := by decide +kernel
theorem dX0_print_32 : decode cX0_print 32 = .ok (.putfield 410, 3) := by decide +kernel
theorem dX0_print_35 : decode cX0_print 35 = .ok (.iload_n 1, 1) := by decide +kernel
theorem dX0_print_36 : decode cX0_print 36 = .ok (.ifCond .ne 14, 3) := by decide +kernel
theorem dX0_print_39 : decode cX0_print 39 = .ok (.aload_n 0, 1) := by decide +kernel
theorem dX0_print_40 : decode cX0_print 40 = .ok (.aload_n 0, 1) := by decide +kernel
theorem dX0_print_41 : decode cX0_print 41 = .ok (.getfield 223, 3) := by decide +kernel
theorem dX0_print_44 : decode cX0_print 44 = .ok (.invokevirtual 424, 3) := by decide +kernel
theorem dX0_print_47 : decode cX0_print 47 = .ok (.goto 11, 3) := by decide +kernel
theorem dX0_print_50 : decode cX0_print 50 = .ok (.aload_n 0, 1) := by decide +kernel
theorem dX0_print_51 : decode cX0_print 51 = .ok (.aload_n 0, 1) := by decide +kernel
theorem dX0_print_52 : decode cX0_print 52 = .ok (.getfield 226, 3) := by decide +kernel
theorem dX0_print_55 : decode cX0_print 55 = .ok (.invokevirtual 427, 3) := by decide +kernel
theorem dX0_print_58 : decode cX0_print 58 = .ok (.goto 9, 3) := by decide +kernel
theorem dX0_print_61 : decode cX0_print 61 = .ok (.astore_n 2, 1) := by decide +kernel
theorem dX0_print_62 : decode cX0_print 62 = .ok (.aload_n 0, 1) := by decide +kernel
theorem dX0_print_63 : decode cX0_print 63 = .ok (.getfield 410, 3) := by decide +kernel
theorem dX0_print_66 : decode cX0_print 66 = .ok (.ireturn, 1) := by decide +kernel
theorem dX0_print_67 : decode cX0_print 67 = .ok (.aload_n 0, 1) := by decide +kernel
theorem dX0_print_68 : decode cX0_print 68 = .ok (.getfield 410, 3) := by decide +kernel
theorem dX0_print_71 : decode cX0_print 71 = .ok (.ireturn, 1) := by decide +kernel
abbrev cX0_say : ByteArray := prog_1_method_31_code
def yX0_say : MethodName := ⟨RX0, "say", "(LFeatherBench$Ty;)V"⟩
theorem dX0_say_0 : decode cX0_say 0 = .ok (.iconst 0, 1) := by decide +kernel
theorem dX0_say_1 : decode cX0_say 1 = .ok (.istore_n 2, 1) := by decide +kernel
theorem dX0_say_2 : decode cX0_say 2 = .ok (.iload_n 2, 1) := by decide +kernel
theorem dX0_say_3 : decode cX0_say 3 = .ok (.aload_n 1, 1) := by decide +kernel
theorem dX0_say_4 : decode cX0_say 4 = .ok (.getfield 41, 3) := by decide +kernel
theorem dX0_say_7 : decode cX0_say 7 = .ok (.getfield 413, 3) := by decide +kernel
theorem dX0_say_10 : decode cX0_say 10 = .ok (.invokevirtual 414, 3) := by decide +kernel
theorem dX0_say_13 : decode cX0_say 13 = .ok (.if_icmp .ge 24, 3) := by decide +kernel
theorem dX0_say_16 : decode cX0_say 16 = .ok (.aload_n 0, 1) := by decide +kernel
theorem dX0_say_17 : decode cX0_say 17 = .ok (.aload_n 1, 1) := by decide +kernel
theorem dX0_say_18 : decode cX0_say 18 = .ok (.getfield 41, 3) := by decide +kernel
theorem dX0_say_21 : decode cX0_say 21 = .ok (.getfield 413, 3) := by decide +kernel
theorem dX0_say_24 : decode cX0_say 24 = .ok (.iload_n 2, 1) := by decide +kernel
theorem dX0_say_25 : decode cX0_say 25 = .ok (.invokevirtual 417, 3) := by decide +kernel
theorem dX0_say_28 : decode cX0_say 28 = .ok (.invokevirtual 421, 3) := by decide +kernel
theorem dX0_say_31 : decode cX0_say 31 = .ok (.iinc 2 1, 3) := by decide +kernel
theorem dX0_say_34 : decode cX0_say 34 = .ok (.goto (-32), 3) := by decide +kernel
theorem dX0_say_37 : decode cX0_say 37 = .ok (.iconst 0, 1) := by decide +kernel
theorem dX0_say_38 : decode cX0_say 38 = .ok (.istore_n 2, 1) := by decide +kernel
theorem dX0_say_39 : decode cX0_say 39 = .ok (.iload_n 2, 1) := by decide +kernel
theorem dX0_say_40 : decode cX0_say 40 = .ok (.aload_n 1, 1) := by decide +kernel
theorem dX0_say_41 : decode cX0_say 41 = .ok (.getfield 35, 3) := by decide +kernel
theorem dX0_say_44 : decode cX0_say 44 = .ok (.arraylength, 1) := by decide +kernel
theorem dX0_say_45 : decode cX0_say 45 = .ok (.if_icmp .ge 34, 3) := by decide +kernel
theorem dX0_say_48 : decode cX0_say 48 = .ok (.aload_n 0, 1) := by decide +kernel
theorem dX0_say_49 : decode cX0_say 49 = .ok (.iload_n 2, 1) := by decide +kernel
theorem dX0_say_50 : decode cX0_say 50 = .ok (.ifCond .ne 8, 3) := by decide +kernel
theorem dX0_say_53 : decode cX0_say 53 = .ok (.bipush 91, 2) := by decide +kernel
theorem dX0_say_55 : decode cX0_say 55 = .ok (.goto 5, 3) := by decide +kernel
theorem dX0_say_58 : decode cX0_say 58 = .ok (.bipush 44, 2) := by decide +kernel
theorem dX0_say_60 : decode cX0_say 60 = .ok (.invokevirtual 421, 3) := by decide +kernel
theorem dX0_say_63 : decode cX0_say 63 = .ok (.aload_n 0, 1) := by decide +kernel
theorem dX0_say_64 : decode cX0_say 64 = .ok (.aload_n 1, 1) := by decide +kernel
theorem dX0_say_65 : decode cX0_say 65 = .ok (.getfield 35, 3) := by decide +kernel
theorem dX0_say_68 : decode cX0_say 68 = .ok (.iload_n 2, 1) := by decide +kernel
theorem dX0_say_69 : decode cX0_say 69 = .ok (.aaload, 1) := by decide +kernel
theorem dX0_say_70 : decode cX0_say 70 = .ok (.invokevirtual 424, 3) := by decide +kernel
theorem dX0_say_73 : decode cX0_say 73 = .ok (.iinc 2 1, 3) := by decide +kernel
theorem dX0_say_76 : decode cX0_say 76 = .ok (.goto (-37), 3) := by decide +kernel
theorem dX0_say_79 : decode cX0_say 79 = .ok (.aload_n 1, 1) := by decide +kernel
theorem dX0_say_80 : decode cX0_say 80 = .ok (.getfield 35, 3) := by decide +kernel
theorem dX0_say_83 : decode cX0_say 83 = .ok (.arraylength, 1) := by decide +kernel
theorem dX0_say_84 : decode cX0_say 84 = .ok (.ifCond .le 9, 3) := by decide +kernel
theorem dX0_say_87 : decode cX0_say 87 = .ok (.aload_n 0, 1) := by decide +kernel
theorem dX0_say_88 : decode cX0_say 88 = .ok (.bipush 93, 2) := by decide +kernel
theorem dX0_say_90 : decode cX0_say 90 = .ok (.invokevirtual 421, 3) := by decide +kernel
theorem dX0_say_93 : decode cX0_say 93 = .ok (.return_, 1) := by decide +kernel
abbrev cX0_say_2 : ByteArray := prog_1_method_30_code
def yX0_say_2 : MethodName := ⟨RX0, "say", "(C)V"⟩
theorem dX0_say_2_0 : decode cX0_say_2 0 = .ok (.aload_n 0, 1) := by decide +kernel
theorem dX0_say_2_1 : decode cX0_say_2 1 = .ok (.getfield 410, 3) := by decide +kernel
theorem dX0_say_2_4 : decode cX0_say_2 4 = .ok (.sipush 2000, 3) := by decide +kernel
theorem dX0_say_2_7 : decode cX0_say_2 7 = .ok (.if_icmp .ne 12, 3) := by decide +kernel
theorem dX0_say_2_10 : decode cX0_say_2 10 = .ok (.new 281, 3) := by decide +kernel
theorem dX0_say_2_13 : decode cX0_say_2 13 = .ok (.dup, 1) := by decide +kernel
theorem dX0_say_2_14 : decode cX0_say_2 14 = .ok (.iconst 0, 1) := by decide +kernel
theorem dX0_say_2_15 : decode cX0_say_2 15 = .ok (.invokespecial 283, 3) := by decide +kernel
theorem dX0_say_2_18 : decode cX0_say_2 18 = .ok (.athrow, 1) := by decide +kernel
theorem dX0_say_2_19 : decode cX0_say_2 19 = .ok (.aload_n 0, 1) := by decide +kernel
theorem dX0_say_2_20 : decode cX0_say_2 20 = .ok (.getfield 166, 3) := by decide +kernel
theorem dX0_say_2_23 : decode cX0_say_2 23 = .ok (.aload_n 0, 1) := by decide +kernel
theorem dX0_say_2_24 : decode cX0_say_2 24 = .ok (.dup, 1) := by decide +kernel
theorem dX0_say_2_25 : decode cX0_say_2 25 = .ok (.getfield 410, 3) := by decide +kernel
theorem dX0_say_2_28 : decode cX0_say_2 28 = .ok (.dup_x1, 1) := by decide +kernel
theorem dX0_say_2_29 : decode cX0_say_2 29 = .ok (.iconst 1, 1) := by decide +kernel
theorem dX0_say_2_30 : decode cX0_say_2 30 = .ok (.iadd, 1) := by decide +kernel
theorem dX0_say_2_31 : decode cX0_say_2 31 = .ok (.putfield 410, 3) := by decide +kernel
theorem dX0_say_2_34 : decode cX0_say_2 34 = .ok (.iload_n 1, 1) := by decide +kernel
theorem dX0_say_2_35 : decode cX0_say_2 35 = .ok (.i2b, 1) := by decide +kernel
theorem dX0_say_2_36 : decode cX0_say_2 36 = .ok (.bastore, 1) := by decide +kernel
theorem dX0_say_2_37 : decode cX0_say_2 37 = .ok (.return_, 1) := by decide +kernel
abbrev cX0_say_3 : ByteArray := prog_1_method_32_code
def yX0_say_3 : MethodName := ⟨RX0, "say", "(LFeatherBench$Thing;)V"⟩
theorem dX0_say_3_0 : decode cX0_say_3 0 = .ok (.aload_n 0, 1) := by decide +kernel
theorem dX0_say_3_1 : decode cX0_say_3 1 = .ok (.aload_n 1, 1) := by decide +kernel
theorem dX0_say_3_2 : decode cX0_say_3 2 = .ok (.getfield 343, 3) := by decide +kernel
theorem dX0_say_3_5 : decode cX0_say_3 5 = .ok (.invokevirtual 424, 3) := by decide +kernel
theorem dX0_say_3_8 : decode cX0_say_3 8 = .ok (.aload_n 0, 1) := by decide +kernel
theorem dX0_say_3_9 : decode cX0_say_3 9 = .ok (.bipush 123, 2) := by decide +kernel
theorem dX0_say_3_11 : decode cX0_say_3 11 = .ok (.invokevirtual 421, 3) := by decide +kernel
theorem dX0_say_3_14 : decode cX0_say_3 14 = .ok (.iconst 0, 1) := by decide +kernel
theorem dX0_say_3_15 : decode cX0_say_3 15 = .ok (.istore_n 2, 1) := by decide +kernel
theorem dX0_say_3_16 : decode cX0_say_3 16 = .ok (.iload_n 2, 1) := by decide +kernel
theorem dX0_say_3_17 : decode cX0_say_3 17 = .ok (.aload_n 1, 1) := by decide +kernel
theorem dX0_say_3_18 : decode cX0_say_3 18 = .ok (.getfield 337, 3) := by decide +kernel
theorem dX0_say_3_21 : decode cX0_say_3 21 = .ok (.arraylength, 1) := by decide +kernel
theorem dX0_say_3_22 : decode cX0_say_3 22 = .ok (.if_icmp .ge 29, 3) := by decide +kernel
theorem dX0_say_3_25 : decode cX0_say_3 25 = .ok (.iload_n 2, 1) := by decide +kernel
theorem dX0_say_3_26 : decode cX0_say_3 26 = .ok (.ifCond .le 9, 3) := by decide +kernel
theorem dX0_say_3_29 : decode cX0_say_3 29 = .ok (.aload_n 0, 1) := by decide +kernel
theorem dX0_say_3_30 : decode cX0_say_3 30 = .ok (.bipush 44, 2) := by decide +kernel
theorem dX0_say_3_32 : decode cX0_say_3 32 = .ok (.invokevirtual 421, 3) := by decide +kernel
theorem dX0_say_3_35 : decode cX0_say_3 35 = .ok (.aload_n 0, 1) := by decide +kernel
theorem dX0_say_3_36 : decode cX0_say_3 36 = .ok (.aload_n 1, 1) := by decide +kernel
theorem dX0_say_3_37 : decode cX0_say_3 37 = .ok (.getfield 337, 3) := by decide +kernel
theorem dX0_say_3_40 : decode cX0_say_3 40 = .ok (.iload_n 2, 1) := by decide +kernel
theorem dX0_say_3_41 : decode cX0_say_3 41 = .ok (.aaload, 1) := by decide +kernel
theorem dX0_say_3_42 : decode cX0_say_3 42 = .ok (.invokevirtual 427, 3) := by decide +kernel
theorem dX0_say_3_45 : decode cX0_say_3 45 = .ok (.iinc 2 1, 3) := by decide +kernel
theorem dX0_say_3_48 : decode cX0_say_3 48 = .ok (.goto (-32), 3) := by decide +kernel
theorem dX0_say_3_51 : decode cX0_say_3 51 = .ok (.aload_n 0, 1) := by decide +kernel
theorem dX0_say_3_52 : decode cX0_say_3 52 = .ok (.bipush 125, 2) := by decide +kernel
theorem dX0_say_3_54 : decode cX0_say_3 54 = .ok (.invokevirtual 421, 3) := by decide +kernel
theorem dX0_say_3_57 : decode cX0_say_3 57 = .ok (.return_, 1) := by decide +kernel
abbrev cX0_out : ByteArray := prog_1_method_34_code
def yX0_out : MethodName := ⟨RX0, "out", "(I)I"⟩
theorem dX0_out_0 : decode cX0_out 0 = .ok (.iload_n 1, 1) := by decide +kernel
theorem dX0_out_1 : decode cX0_out 1 = .ok (.ifCond .lt 11, 3) := by decide +kernel
theorem dX0_out_4 : decode cX0_out 4 = .ok (.iload_n 1, 1) := by decide +kernel
theorem dX0_out_5 : decode cX0_out 5 = .ok (.aload_n 0, 1) := by decide +kernel
theorem dX0_out_6 : decode cX0_out 6 = .ok (.getfield 410, 3) := by decide +kernel
theorem dX0_out_9 : decode cX0_out 9 = .ok (.if_icmp .lt 7, 3) := by decide +kernel
theorem dX0_out_12 : decode cX0_out 12 = .ok (.iconst (-1), 1) := by decide +kernel
theorem dX0_out_13 : decode cX0_out 13 = .ok (.goto 9, 3) := by decide +kernel
theorem dX0_out_16 : decode cX0_out 16 = .ok (.aload_n 0, 1) := by decide +kernel
theorem dX0_out_17 : decode cX0_out 17 = .ok (.getfield 166, 3) := by decide +kernel
theorem dX0_out_20 : decode cX0_out 20 = .ok (.iload_n 1, 1) := by decide +kernel
theorem dX0_out_21 : decode cX0_out 21 = .ok (.baload, 1) := by decide +kernel
theorem dX0_out_22 : decode cX0_out 22 = .ok (.ireturn, 1) := by decide +kernel
abbrev cX0_count : ByteArray := prog_1_method_35_code
def yX0_count : MethodName := ⟨RX0, "count", "(I)I"⟩
theorem dX0_count_0 : decode cX0_count 0 = .ok (.iload_n 1, 1) := by decide +kernel
theorem dX0_count_1 : decode cX0_count 1 = .ok (.tableswitch 80 0 5 #[39, 47, 52, 57, 62, 67], 39) := by decide +kernel
theorem dX0_count_40 : decode cX0_count 40 = .ok (.aload_n 0, 1) := by decide +kernel
theorem dX0_count_41 : decode cX0_count 41 = .ok (.getfield 182, 3) := by decide +kernel
theorem dX0_count_44 : decode cX0_count 44 = .ok (.invokevirtual 1, 3) := by decide +kernel
theorem dX0_count_47 : decode cX0_count 47 = .ok (.ireturn, 1) := by decide +kernel
theorem dX0_count_48 : decode cX0_count 48 = .ok (.aload_n 0, 1) := by decide +kernel
theorem dX0_count_49 : decode cX0_count 49 = .ok (.getfield 220, 3) := by decide +kernel
theorem dX0_count_52 : decode cX0_count 52 = .ok (.ireturn, 1) := by decide +kernel
theorem dX0_count_53 : decode cX0_count 53 = .ok (.aload_n 0, 1) := by decide +kernel
theorem dX0_count_54 : decode cX0_count 54 = .ok (.getfield 279, 3) := by decide +kernel
theorem dX0_count_57 : decode cX0_count 57 = .ok (.ireturn, 1) := by decide +kernel
theorem dX0_count_58 : decode cX0_count 58 = .ok (.aload_n 0, 1) := by decide +kernel
theorem dX0_count_59 : decode cX0_count 59 = .ok (.getfield 237, 3) := by decide +kernel
theorem dX0_count_62 : decode cX0_count 62 = .ok (.ireturn, 1) := by decide +kernel
theorem dX0_count_63 : decode cX0_count 63 = .ok (.aload_n 0, 1) := by decide +kernel
theorem dX0_count_64 : decode cX0_count 64 = .ok (.getfield 185, 3) := by decide +kernel
theorem dX0_count_67 : decode cX0_count 67 = .ok (.ireturn, 1) := by decide +kernel
theorem dX0_count_68 : decode cX0_count 68 = .ok (.aload_n 0, 1) := by decide +kernel
theorem dX0_count_69 : decode cX0_count 69 = .ok (.getfield 222, 3) := by decide +kernel
theorem dX0_count_72 : decode cX0_count 72 = .ok (.ifnonnull 7, 3) := by decide +kernel
theorem dX0_count_75 : decode cX0_count 75 = .ok (.iconst 0, 1) := by decide +kernel
theorem dX0_count_76 : decode cX0_count 76 = .ok (.goto 4, 3) := by decide +kernel
theorem dX0_count_79 : decode cX0_count 79 = .ok (.iconst 1, 1) := by decide +kernel
theorem dX0_count_80 : decode cX0_count 80 = .ok (.ireturn, 1) := by decide +kernel
theorem dX0_count_81 : decode cX0_count 81 = .ok (.iconst (-1), 1) := by decide +kernel
theorem dX0_count_82 : decode cX0_count 82 = .ok (.ireturn, 1) := by decide +kernel
theorem q160 : (Jvm.Cond.initialized "FeatherBench") ∈ lw_all := lw_g (lw_at lw_m1 1 rfl) rfl
theorem q205 : (Jvm.Cond.instantiable "FeatherBench" (18 : Nat)) ∈ lw_all := lw_g (lw_at lw_m1 46 rfl) rfl
theorem q207 : (Jvm.Cond.instanceMethod ({ cls := "FeatherBench", name := "<init>", desc := "()V" } : Jvm.MethodName)) ∈ lw_all := lw_g (lw_at lw_m1 48 rfl) rfl
theorem q208 : (Jvm.Cond.code ({ cls := "FeatherBench", name := "<init>", desc := "()V" } : Jvm.MethodName) prog_1_method_11_code (1 : Nat) (Option.none : Option Jvm.ClassFile.FieldType)) ∈ lw_all := lw_g (lw_at lw_m1 49 rfl) rfl
theorem q209 : (Jvm.Cond.methodLink "FeatherBench" (159 : Nat) ({ cls := "java/lang/Object", name := "<init>", desc := "()V" } : Jvm.MethodName)) ∈ lw_all := lw_g (lw_at lw_m1 50 rfl) rfl
theorem q212 : (Jvm.Cond.classLink "FeatherBench" (172 : Nat) "FeatherBench$Reader") ∈ lw_all := lw_g (lw_at lw_m1 53 rfl) rfl
theorem q214 : (Jvm.Cond.methodLinkNest "FeatherBench" (174 : Nat) ({ cls := "FeatherBench$Reader", name := "<init>", desc := "()V" } : Jvm.MethodName) "FeatherBench") ∈ lw_tbl := lw_at lw_m1 55 rfl
theorem q224 : (Jvm.Cond.fieldLinkNest "FeatherBench" (200 : Nat) "FeatherBench$Reader" "types" "Ljava/util/ArrayList;" "FeatherBench") ∈ lw_tbl := lw_at lw_m1 65 rfl
theorem q226 : (Jvm.Cond.fieldLinkNest "FeatherBench" (201 : Nat) "FeatherBench$Reader" "funcs" "Ljava/util/ArrayList;" "FeatherBench") ∈ lw_tbl := lw_at lw_m1 67 rfl
theorem q228 : (Jvm.Cond.fieldLinkNest "FeatherBench" (205 : Nat) "FeatherBench$Reader" "main" "LFeatherBench$Exp;" "FeatherBench") ∈ lw_tbl := lw_at lw_m1 69 rfl
theorem q250 : (Jvm.Cond.classLink "FeatherBench" (2 : Nat) "java/util/ArrayList") ∈ lw_all := lw_g (lw_at lw_m1 91 rfl) rfl
theorem q252 : (Jvm.Cond.methodLink "FeatherBench" (179 : Nat) ({ cls := "java/util/ArrayList", name := "<init>", desc := "(I)V" } : Jvm.MethodName)) ∈ lw_all := lw_g (lw_at lw_m1 93 rfl) rfl
theorem q278 : (Jvm.Cond.fieldLink "FeatherBench" (162 : Nat) "FeatherBench" "tape" "[B") ∈ lw_all := lw_g (lw_at lw_m1 119 rfl) rfl
theorem q279 : (Jvm.Cond.fieldLink "FeatherBench" (166 : Nat) "FeatherBench" "out" "[B") ∈ lw_all := lw_g (lw_at lw_m1 120 rfl) rfl
theorem q280 : (Jvm.Cond.fieldLink "FeatherBench" (185 : Nat) "FeatherBench" "taped" "I") ∈ lw_all := lw_g (lw_at lw_m1 121 rfl) rfl
theorem q281 : (Jvm.Cond.fieldLink "FeatherBench" (410 : Nat) "FeatherBench" "outMany" "I") ∈ lw_all := lw_g (lw_at lw_m1 122 rfl) rfl
theorem q282 : (Jvm.Cond.fieldLink "FeatherBench" (237 : Nat) "FeatherBench" "steps" "I") ∈ lw_all := lw_g (lw_at lw_m1 123 rfl) rfl
theorem q283 : (Jvm.Cond.fieldLink "FeatherBench" (279 : Nat) "FeatherBench" "all" "I") ∈ lw_all := lw_g (lw_at lw_m1 124 rfl) rfl
theorem q284 : (Jvm.Cond.fieldLink "FeatherBench" (276 : Nat) "FeatherBench" "most" "I") ∈ lw_all := lw_g (lw_at lw_m1 125 rfl) rfl
theorem q285 : (Jvm.Cond.fieldLink "FeatherBench" (300 : Nat) "FeatherBench" "deep" "I") ∈ lw_all := lw_g (lw_at lw_m1 126 rfl) rfl
theorem q286 : (Jvm.Cond.fieldLink "FeatherBench" (240 : Nat) "FeatherBench" "called" "I") ∈ lw_all := lw_g (lw_at lw_m1 127 rfl) rfl
theorem q287 : (Jvm.Cond.fieldLink "FeatherBench" (169 : Nat) "FeatherBench" "failedAt" "I") ∈ lw_all := lw_g (lw_at lw_m1 128 rfl) rfl
theorem q288 : (Jvm.Cond.fieldLink "FeatherBench" (175 : Nat) "FeatherBench" "reader" "LFeatherBench$Reader;") ∈ lw_all := lw_g (lw_at lw_m1 129 rfl) rfl
theorem q289 : (Jvm.Cond.fieldLink "FeatherBench" (182 : Nat) "FeatherBench" "types" "Ljava/util/ArrayList;") ∈ lw_all := lw_g (lw_at lw_m1 130 rfl) rfl
theorem q290 : (Jvm.Cond.fieldLink "FeatherBench" (220 : Nat) "FeatherBench" "funcs" "I") ∈ lw_all := lw_g (lw_at lw_m1 131 rfl) rfl
theorem q291 : (Jvm.Cond.fieldLink "FeatherBench" (222 : Nat) "FeatherBench" "main" "LFeatherBench$Exp;") ∈ lw_all := lw_g (lw_at lw_m1 132 rfl) rfl
theorem q292 : (Jvm.Cond.fieldLink "FeatherBench" (223 : Nat) "FeatherBench" "mainType" "LFeatherBench$Ty;") ∈ lw_all := lw_g (lw_at lw_m1 133 rfl) rfl
theorem q293 : (Jvm.Cond.fieldLink "FeatherBench" (226 : Nat) "FeatherBench" "value" "LFeatherBench$Thing;") ∈ lw_all := lw_g (lw_at lw_m1 134 rfl) rfl
theorem q294 : (Jvm.Cond.fieldLink "FeatherBench" (230 : Nat) "FeatherBench" "instances" "LFeatherBench$Instances;") ∈ lw_all := lw_g (lw_at lw_m1 135 rfl) rfl
theorem q295 : (Jvm.Cond.fieldLink "FeatherBench" (234 : Nat) "FeatherBench" "wereMade" "Z") ∈ lw_all := lw_g (lw_at lw_m1 136 rfl) rfl
theorem q296 : (Jvm.Cond.laysFinal "FeatherBench" "FeatherBench" "tape" "[B") ∈ lw_all := lw_g (lw_at lw_m1 137 rfl) rfl
theorem q297 : (Jvm.Cond.soleField "FeatherBench" "tape") ∈ lw_all := lw_g (lw_at lw_m1 138 rfl) rfl
theorem q298 : (Jvm.Cond.laysFinal "FeatherBench" "FeatherBench" "out" "[B") ∈ lw_all := lw_g (lw_at lw_m1 139 rfl) rfl
theorem q299 : (Jvm.Cond.soleField "FeatherBench" "out") ∈ lw_all := lw_g (lw_at lw_m1 140 rfl) rfl
theorem q300 : (Jvm.Cond.lays "FeatherBench" "FeatherBench" "taped" "I") ∈ lw_all := lw_g (lw_at lw_m1 141 rfl) rfl
theorem q301 : (Jvm.Cond.soleField "FeatherBench" "taped") ∈ lw_all := lw_g (lw_at lw_m1 142 rfl) rfl
theorem q302 : (Jvm.Cond.lays "FeatherBench" "FeatherBench" "outMany" "I") ∈ lw_all := lw_g (lw_at lw_m1 143 rfl) rfl
theorem q303 : (Jvm.Cond.soleField "FeatherBench" "outMany") ∈ lw_all := lw_g (lw_at lw_m1 144 rfl) rfl
theorem q304 : (Jvm.Cond.lays "FeatherBench" "FeatherBench" "steps" "I") ∈ lw_all := lw_g (lw_at lw_m1 145 rfl) rfl
theorem q305 : (Jvm.Cond.soleField "FeatherBench" "steps") ∈ lw_all := lw_g (lw_at lw_m1 146 rfl) rfl
theorem q306 : (Jvm.Cond.lays "FeatherBench" "FeatherBench" "all" "I") ∈ lw_all := lw_g (lw_at lw_m1 147 rfl) rfl
theorem q307 : (Jvm.Cond.soleField "FeatherBench" "all") ∈ lw_all := lw_g (lw_at lw_m1 148 rfl) rfl
theorem q308 : (Jvm.Cond.lays "FeatherBench" "FeatherBench" "most" "I") ∈ lw_all := lw_g (lw_at lw_m1 149 rfl) rfl
theorem q309 : (Jvm.Cond.soleField "FeatherBench" "most") ∈ lw_all := lw_g (lw_at lw_m1 150 rfl) rfl
theorem q310 : (Jvm.Cond.lays "FeatherBench" "FeatherBench" "deep" "I") ∈ lw_all := lw_g (lw_at lw_m1 151 rfl) rfl
theorem q311 : (Jvm.Cond.soleField "FeatherBench" "deep") ∈ lw_all := lw_g (lw_at lw_m1 152 rfl) rfl
theorem q312 : (Jvm.Cond.lays "FeatherBench" "FeatherBench" "called" "I") ∈ lw_all := lw_g (lw_at lw_m1 153 rfl) rfl
theorem q313 : (Jvm.Cond.soleField "FeatherBench" "called") ∈ lw_all := lw_g (lw_at lw_m1 154 rfl) rfl
theorem q314 : (Jvm.Cond.lays "FeatherBench" "FeatherBench" "failedAt" "I") ∈ lw_all := lw_g (lw_at lw_m1 155 rfl) rfl
theorem q315 : (Jvm.Cond.soleField "FeatherBench" "failedAt") ∈ lw_all := lw_g (lw_at lw_m1 156 rfl) rfl
theorem q316 : (Jvm.Cond.laysFinal "FeatherBench" "FeatherBench" "reader" "LFeatherBench$Reader;") ∈ lw_all := lw_g (lw_at lw_m1 157 rfl) rfl
theorem q317 : (Jvm.Cond.soleField "FeatherBench" "reader") ∈ lw_all := lw_g (lw_at lw_m1 158 rfl) rfl
theorem q318 : (Jvm.Cond.lays "FeatherBench" "FeatherBench" "types" "Ljava/util/ArrayList;") ∈ lw_all := lw_g (lw_at lw_m1 159 rfl) rfl
theorem q319 : (Jvm.Cond.soleField "FeatherBench" "types") ∈ lw_all := lw_g (lw_at lw_m1 160 rfl) rfl
theorem q320 : (Jvm.Cond.lays "FeatherBench" "FeatherBench" "funcs" "I") ∈ lw_all := lw_g (lw_at lw_m1 161 rfl) rfl
theorem q321 : (Jvm.Cond.soleField "FeatherBench" "funcs") ∈ lw_all := lw_g (lw_at lw_m1 162 rfl) rfl
theorem q322 : (Jvm.Cond.lays "FeatherBench" "FeatherBench" "main" "LFeatherBench$Exp;") ∈ lw_all := lw_g (lw_at lw_m1 163 rfl) rfl
theorem q323 : (Jvm.Cond.soleField "FeatherBench" "main") ∈ lw_all := lw_g (lw_at lw_m1 164 rfl) rfl
theorem q324 : (Jvm.Cond.lays "FeatherBench" "FeatherBench" "mainType" "LFeatherBench$Ty;") ∈ lw_all := lw_g (lw_at lw_m1 165 rfl) rfl
theorem q325 : (Jvm.Cond.soleField "FeatherBench" "mainType") ∈ lw_all := lw_g (lw_at lw_m1 166 rfl) rfl
theorem q326 : (Jvm.Cond.lays "FeatherBench" "FeatherBench" "value" "LFeatherBench$Thing;") ∈ lw_all := lw_g (lw_at lw_m1 167 rfl) rfl
theorem q327 : (Jvm.Cond.soleField "FeatherBench" "value") ∈ lw_all := lw_g (lw_at lw_m1 168 rfl) rfl
theorem q328 : (Jvm.Cond.lays "FeatherBench" "FeatherBench" "instances" "LFeatherBench$Instances;") ∈ lw_all := lw_g (lw_at lw_m1 169 rfl) rfl
theorem q329 : (Jvm.Cond.soleField "FeatherBench" "instances") ∈ lw_all := lw_g (lw_at lw_m1 170 rfl) rfl
theorem q330 : (Jvm.Cond.lays "FeatherBench" "FeatherBench" "wereMade" "Z") ∈ lw_all := lw_g (lw_at lw_m1 171 rfl) rfl
theorem q331 : (Jvm.Cond.soleField "FeatherBench" "wereMade") ∈ lw_all := lw_g (lw_at lw_m1 172 rfl) rfl
theorem q332 : (Jvm.Cond.superclass "FeatherBench" "java/lang/Object") ∈ lw_all := lw_g (lw_at lw_m1 173 rfl) rfl
theorem q334 : (Jvm.Cond.instanceMethod ({ cls := "FeatherBench", name := "feed", desc := "(JJJ)I" } : Jvm.MethodName)) ∈ lw_all := lw_g (lw_at lw_m1 175 rfl) rfl
theorem q335 : (Jvm.Cond.selects "FeatherBench" ({ cls := "FeatherBench", name := "feed", desc := "(JJJ)I" } : Jvm.MethodName) ({ cls := "FeatherBench", name := "feed", desc := "(JJJ)I" } : Jvm.MethodName)) ∈ lw_all := lw_g (lw_at lw_m1 176 rfl) rfl
theorem q336 : (Jvm.Cond.code ({ cls := "FeatherBench", name := "feed", desc := "(JJJ)I" } : Jvm.MethodName) prog_1_method_12_code (9 : Nat) (Option.some Jvm.ClassFile.FieldType.int)) ∈ lw_all := lw_g (lw_at lw_m1 177 rfl) rfl
theorem q338 : (Jvm.Cond.instanceMethod ({ cls := "FeatherBench", name := "program", desc := "()I" } : Jvm.MethodName)) ∈ lw_all := lw_g (lw_at lw_m1 179 rfl) rfl
theorem q339 : (Jvm.Cond.selects "FeatherBench" ({ cls := "FeatherBench", name := "program", desc := "()I" } : Jvm.MethodName) ({ cls := "FeatherBench", name := "program", desc := "()I" } : Jvm.MethodName)) ∈ lw_all := lw_g (lw_at lw_m1 180 rfl) rfl
theorem q340 : (Jvm.Cond.codeWith ({ cls := "FeatherBench", name := "program", desc := "()I" } : Jvm.MethodName) prog_1_method_14_code (3 : Nat) (Option.some Jvm.ClassFile.FieldType.int) [((15 : Nat), (54 : Nat), (57 : Nat), (212 : Nat))]) ∈ lw_all := lw_g (lw_at lw_m1 181 rfl) rfl
theorem q341 : (Jvm.Cond.classLink "FeatherBench" (212 : Nat) "FeatherBench$Wrong") ∈ lw_all := lw_g (lw_at lw_m1 182 rfl) rfl
theorem q342 : (Jvm.Cond.methodLink "FeatherBench" (188 : Nat) ({ cls := "FeatherBench", name := "take", desc := "()I" } : Jvm.MethodName)) ∈ lw_all := lw_g (lw_at lw_m1 183 rfl) rfl
theorem q343 : (Jvm.Cond.privateMethod ({ cls := "FeatherBench", name := "take", desc := "()I" } : Jvm.MethodName)) ∈ lw_tbl := lw_at lw_m1 184 rfl
theorem q344 : (Jvm.Cond.instanceMethod ({ cls := "FeatherBench", name := "take", desc := "()I" } : Jvm.MethodName)) ∈ lw_all := lw_g (lw_at lw_m1 185 rfl) rfl
theorem q345 : (Jvm.Cond.code ({ cls := "FeatherBench", name := "take", desc := "()I" } : Jvm.MethodName) prog_1_method_13_code (2 : Nat) (Option.some Jvm.ClassFile.FieldType.int)) ∈ lw_all := lw_g (lw_at lw_m1 186 rfl) rfl
theorem q346 : (Jvm.Cond.methodLink "FeatherBench" (191 : Nat) ({ cls := "FeatherBench$Reader", name := "begin", desc := "([BI)V" } : Jvm.MethodName)) ∈ lw_all := lw_g (lw_at lw_m1 187 rfl) rfl
theorem q448 : (Jvm.Cond.methodLink "FeatherBench" (195 : Nat) ({ cls := "FeatherBench$Reader", name := "program", desc := "()V" } : Jvm.MethodName)) ∈ lw_all := lw_g (lw_at lw_m2 49 rfl) rfl
theorem q548 : (Jvm.Cond.fieldLinkNest "FeatherBench" (214 : Nat) "FeatherBench$Wrong" "kind" "I" "FeatherBench") ∈ lw_tbl := lw_at lw_m2 149 rfl
theorem q550 : (Jvm.Cond.fieldLinkNest "FeatherBench" (217 : Nat) "FeatherBench$Wrong" "place" "I" "FeatherBench") ∈ lw_tbl := lw_at lw_m2 151 rfl
theorem q750 : (Jvm.Cond.fieldLinkNest "FeatherBench" (413 : Nat) "FeatherBench$Decl" "name" "Ljava/lang/String;" "FeatherBench") ∈ lw_tbl := lw_at lw_m3 111 rfl
theorem q756 : (Jvm.Cond.fieldLinkNest "FeatherBench" (45 : Nat) "FeatherBench$Decl" "formals" "Ljava/util/ArrayList;" "FeatherBench") ∈ lw_tbl := lw_at lw_m3 117 rfl
theorem q759 : (Jvm.Cond.fieldLinkNest "FeatherBench" (55 : Nat) "FeatherBench$Decl" "isStruct" "Z" "FeatherBench") ∈ lw_tbl := lw_at lw_m3 120 rfl
theorem q767 : (Jvm.Cond.fieldLinkNest "FeatherBench" (59 : Nat) "FeatherBench$Decl" "heads" "Ljava/util/ArrayList;" "FeatherBench") ∈ lw_tbl := lw_at lw_m3 128 rfl
theorem q771 : (Jvm.Cond.fieldLinkNest "FeatherBench" (73 : Nat) "FeatherBench$Decl" "funcs" "Ljava/util/ArrayList;" "FeatherBench") ∈ lw_tbl := lw_at lw_m3 132 rfl
theorem q818 : (Jvm.Cond.fieldLinkNest "FeatherBench" (29 : Nat) "FeatherBench$Param" "bound" "LFeatherBench$Ty;" "FeatherBench") ∈ lw_tbl := lw_at lw_m3 179 rfl
theorem q854 : (Jvm.Cond.fieldLinkNest "FeatherBench" (120 : Nat) "FeatherBench$Tree" "ty" "LFeatherBench$Ty;" "FeatherBench") ∈ lw_tbl := lw_at lw_m3 215 rfl
theorem q901 : (Jvm.Cond.selects "FeatherBench" ({ cls := "java/lang/Object", name := "getClass", desc := "()Ljava/lang/Class;" } : Jvm.MethodName) ({ cls := "java/lang/Object", name := "getClass", desc := "()Ljava/lang/Class;" } : Jvm.MethodName)) ∈ lw_all := lw_g (lw_at lw_m4 22 rfl) rfl
theorem q949 : (Jvm.Cond.fieldLinkNest "FeatherBench" (113 : Nat) "FeatherBench$Var" "ty" "LFeatherBench$Ty;" "FeatherBench") ∈ lw_tbl := lw_at lw_m4 70 rfl
theorem q972 : (Jvm.Cond.fieldLinkNest "FeatherBench" (13 : Nat) "FeatherBench$Head" "name" "Ljava/lang/String;" "FeatherBench") ∈ lw_tbl := lw_at lw_m4 93 rfl
theorem q978 : (Jvm.Cond.fieldLinkNest "FeatherBench" (104 : Nat) "FeatherBench$Head" "formals" "Ljava/util/ArrayList;" "FeatherBench") ∈ lw_tbl := lw_at lw_m4 99 rfl
theorem q983 : (Jvm.Cond.fieldLinkNest "FeatherBench" (108 : Nat) "FeatherBench$Head" "vars" "Ljava/util/ArrayList;" "FeatherBench") ∈ lw_tbl := lw_at lw_m4 104 rfl
theorem q986 : (Jvm.Cond.fieldLinkNest "FeatherBench" (116 : Nat) "FeatherBench$Head" "result" "LFeatherBench$Tree;" "FeatherBench") ∈ lw_tbl := lw_at lw_m4 107 rfl
theorem q1020 : (Jvm.Cond.fieldLinkNest "FeatherBench" (82 : Nat) "FeatherBench$Func" "params" "Ljava/util/ArrayList;" "FeatherBench") ∈ lw_tbl := lw_at lw_m4 141 rfl
theorem q1024 : (Jvm.Cond.fieldLinkNest "FeatherBench" (78 : Nat) "FeatherBench$Func" "head" "LFeatherBench$Head;" "FeatherBench") ∈ lw_tbl := lw_at lw_m4 145 rfl
theorem q1030 : (Jvm.Cond.fieldLinkNest "FeatherBench" (381 : Nat) "FeatherBench$Func" "body" "LFeatherBench$Exp;" "FeatherBench") ∈ lw_tbl := lw_at lw_m4 151 rfl
theorem q1065 : (Jvm.Cond.fieldLinkNest "FeatherBench" (317 : Nat) "FeatherBench$Exp" "var" "Ljava/lang/String;" "FeatherBench") ∈ lw_tbl := lw_at lw_m4 186 rfl
theorem q1068 : (Jvm.Cond.fieldLinkNest "FeatherBench" (325 : Nat) "FeatherBench$Exp" "varNumber" "I" "FeatherBench") ∈ lw_tbl := lw_at lw_m4 189 rfl
theorem q1071 : (Jvm.Cond.fieldLinkNest "FeatherBench" (360 : Nat) "FeatherBench$Exp" "tree" "LFeatherBench$Tree;" "FeatherBench") ∈ lw_tbl := lw_at lw_m4 192 rfl
theorem q1076 : (Jvm.Cond.fieldLinkNest "FeatherBench" (361 : Nat) "FeatherBench$Exp" "parts" "Ljava/util/ArrayList;" "FeatherBench") ∈ lw_tbl := lw_at lw_m4 197 rfl
theorem q1081 : (Jvm.Cond.fieldLinkNest "FeatherBench" (331 : Nat) "FeatherBench$Exp" "dots" "Ljava/util/ArrayList;" "FeatherBench") ∈ lw_tbl := lw_at lw_m4 202 rfl
theorem q1119 : (Jvm.Cond.fieldLinkNest "FeatherBench" (336 : Nat) "FeatherBench$Dot" "kind" "I" "FeatherBench") ∈ lw_tbl := lw_at lw_m5 0 rfl
theorem q1122 : (Jvm.Cond.fieldLinkNest "FeatherBench" (354 : Nat) "FeatherBench$Dot" "at" "I" "FeatherBench") ∈ lw_tbl := lw_at lw_m5 3 rfl
theorem q1125 : (Jvm.Cond.fieldLinkNest "FeatherBench" (370 : Nat) "FeatherBench$Dot" "word" "Ljava/lang/String;" "FeatherBench") ∈ lw_tbl := lw_at lw_m5 6 rfl
theorem q1130 : (Jvm.Cond.fieldLinkNest "FeatherBench" (340 : Nat) "FeatherBench$Dot" "field" "I" "FeatherBench") ∈ lw_tbl := lw_at lw_m5 11 rfl
theorem q1134 : (Jvm.Cond.fieldLinkNest "FeatherBench" (369 : Nat) "FeatherBench$Dot" "types" "Ljava/util/ArrayList;" "FeatherBench") ∈ lw_tbl := lw_at lw_m5 15 rfl
theorem q1139 : (Jvm.Cond.fieldLinkNest "FeatherBench" (367 : Nat) "FeatherBench$Dot" "args" "Ljava/util/ArrayList;" "FeatherBench") ∈ lw_tbl := lw_at lw_m5 20 rfl
theorem q1143 : (Jvm.Cond.fieldLinkNest "FeatherBench" (346 : Nat) "FeatherBench$Dot" "tree" "LFeatherBench$Tree;" "FeatherBench") ∈ lw_tbl := lw_at lw_m5 24 rfl
theorem q1167 : (Jvm.Cond.classLink "FeatherBench" (198 : Nat) "FeatherBench$Checker") ∈ lw_all := lw_g (lw_at lw_m5 48 rfl) rfl
theorem q1169 : (Jvm.Cond.methodLink "FeatherBench" (202 : Nat) ({ cls := "FeatherBench$Checker", name := "<init>", desc := "(Ljava/util/ArrayList;Ljava/util/ArrayList;)V" } : Jvm.MethodName)) ∈ lw_all := lw_g (lw_at lw_m5 50 rfl) rfl
theorem q1189 : (Jvm.Cond.methodLink "FeatherBench" (209 : Nat) ({ cls := "FeatherBench$Checker", name := "program", desc := "(LFeatherBench$Exp;)LFeatherBench$Ty;" } : Jvm.MethodName)) ∈ lw_all := lw_g (lw_at lw_m5 70 rfl) rfl
theorem q1274 : (Jvm.Cond.static ({ cls := "FeatherBench", name := "headOf", desc := "(Ljava/util/ArrayList;Ljava/lang/String;)LFeatherBench$Head;" } : Jvm.MethodName)) ∈ lw_all := lw_g (lw_at lw_m5 155 rfl) rfl
theorem q1275 : (Jvm.Cond.code ({ cls := "FeatherBench", name := "headOf", desc := "(Ljava/util/ArrayList;Ljava/lang/String;)LFeatherBench$Head;" } : Jvm.MethodName) prog_1_method_1_code (3 : Nat) (Option.some (Jvm.ClassFile.FieldType.object "FeatherBench$Head"))) ∈ lw_all := lw_g (lw_at lw_m5 156 rfl) rfl
theorem q1276 : (Jvm.Cond.methodLink "FeatherBench" (1 : Nat) ({ cls := "java/util/ArrayList", name := "size", desc := "()I" } : Jvm.MethodName)) ∈ lw_all := lw_g (lw_at lw_m5 157 rfl) rfl
theorem q1277 : (Jvm.Cond.methodLink "FeatherBench" (7 : Nat) ({ cls := "java/util/ArrayList", name := "get", desc := "(I)Ljava/lang/Object;" } : Jvm.MethodName)) ∈ lw_all := lw_g (lw_at lw_m5 158 rfl) rfl
theorem q1278 : (Jvm.Cond.classLink "FeatherBench" (11 : Nat) "FeatherBench$Head") ∈ lw_all := lw_g (lw_at lw_m5 159 rfl) rfl
theorem q1279 : (Jvm.Cond.methodLink "FeatherBench" (17 : Nat) ({ cls := "java/lang/String", name := "equals", desc := "(Ljava/lang/Object;)Z" } : Jvm.MethodName)) ∈ lw_all := lw_g (lw_at lw_m5 160 rfl) rfl
theorem q1297 : (Jvm.Cond.fieldLinkNest "FeatherBench" (23 : Nat) "FeatherBench$Ty" "param" "LFeatherBench$Param;" "FeatherBench") ∈ lw_tbl := lw_at lw_m5 178 rfl
theorem q1301 : (Jvm.Cond.fieldLinkNest "FeatherBench" (41 : Nat) "FeatherBench$Ty" "decl" "LFeatherBench$Decl;" "FeatherBench") ∈ lw_tbl := lw_at lw_m5 182 rfl
theorem q1304 : (Jvm.Cond.fieldLinkNest "FeatherBench" (35 : Nat) "FeatherBench$Ty" "args" "[LFeatherBench$Ty;" "FeatherBench") ∈ lw_tbl := lw_at lw_m5 185 rfl
theorem q1308 : (Jvm.Cond.fieldLinkNest "FeatherBench" (138 : Nat) "FeatherBench$Ty" "words" "I" "FeatherBench") ∈ lw_tbl := lw_at lw_m5 189 rfl
theorem q1310 : (Jvm.Cond.fieldLinkNest "FeatherBench" (135 : Nat) "FeatherBench$Ty" "isOpen" "Z" "FeatherBench") ∈ lw_tbl := lw_at lw_m5 191 rfl
theorem q1401 : (Jvm.Cond.selects "FeatherBench" ({ cls := "java/lang/Object", name := "equals", desc := "(Ljava/lang/Object;)Z" } : Jvm.MethodName) ({ cls := "java/lang/Object", name := "equals", desc := "(Ljava/lang/Object;)Z" } : Jvm.MethodName)) ∈ lw_all := lw_g (lw_at lw_m6 42 rfl) rfl
theorem q1434 : (Jvm.Cond.static ({ cls := "FeatherBench", name := "meets", desc := "(LFeatherBench$Ty;LFeatherBench$Ty;)Z" } : Jvm.MethodName)) ∈ lw_all := lw_g (lw_at lw_m6 75 rfl) rfl
theorem q1435 : (Jvm.Cond.code ({ cls := "FeatherBench", name := "meets", desc := "(LFeatherBench$Ty;LFeatherBench$Ty;)Z" } : Jvm.MethodName) prog_1_method_3_code (5 : Nat) (Option.some Jvm.ClassFile.FieldType.boolean)) ∈ lw_all := lw_g (lw_at lw_m6 76 rfl) rfl
theorem q1436 : (Jvm.Cond.methodLink "FeatherBench" (89 : Nat) ({ cls := "FeatherBench$Ty", name := "isInterface", desc := "()Z" } : Jvm.MethodName)) ∈ lw_all := lw_g (lw_at lw_m6 77 rfl) rfl
theorem q1440 : (Jvm.Cond.methodLink "FeatherBench" (92 : Nat) ({ cls := "FeatherBench$Ty", name := "isOne", desc := "(LFeatherBench$Ty;)Z" } : Jvm.MethodName)) ∈ lw_all := lw_g (lw_at lw_m6 81 rfl) rfl
theorem q1445 : (Jvm.Cond.methodLink "FeatherBench" (96 : Nat) ({ cls := "FeatherBench", name := "hasAlike", desc := "(LFeatherBench$Ty;LFeatherBench$Head;LFeatherBench$Ty;)Z" } : Jvm.MethodName)) ∈ lw_all := lw_g (lw_at lw_m6 86 rfl) rfl
theorem q1446 : (Jvm.Cond.static ({ cls := "FeatherBench", name := "hasAlike", desc := "(LFeatherBench$Ty;LFeatherBench$Head;LFeatherBench$Ty;)Z" } : Jvm.MethodName)) ∈ lw_all := lw_g (lw_at lw_m6 87 rfl) rfl
theorem q1447 : (Jvm.Cond.code ({ cls := "FeatherBench", name := "hasAlike", desc := "(LFeatherBench$Ty;LFeatherBench$Head;LFeatherBench$Ty;)Z" } : Jvm.MethodName) prog_1_method_4_code (5 : Nat) (Option.some Jvm.ClassFile.FieldType.boolean)) ∈ lw_all := lw_g (lw_at lw_m6 88 rfl) rfl
theorem q1448 : (Jvm.Cond.methodLink "FeatherBench" (62 : Nat) ({ cls := "FeatherBench", name := "headOf", desc := "(Ljava/util/ArrayList;Ljava/lang/String;)LFeatherBench$Head;" } : Jvm.MethodName)) ∈ lw_all := lw_g (lw_at lw_m6 89 rfl) rfl
theorem q1449 : (Jvm.Cond.methodLink "FeatherBench" (100 : Nat) ({ cls := "FeatherBench", name := "isAlike", desc := "(LFeatherBench$Head;Ljava/util/ArrayList;[LFeatherBench$Ty;LFeatherBench$Head;Ljava/util/ArrayList;[LFeatherBench$Ty;)Z" } : Jvm.MethodName)) ∈ lw_all := lw_g (lw_at lw_m6 90 rfl) rfl
theorem q1450 : (Jvm.Cond.static ({ cls := "FeatherBench", name := "isAlike", desc := "(LFeatherBench$Head;Ljava/util/ArrayList;[LFeatherBench$Ty;LFeatherBench$Head;Ljava/util/ArrayList;[LFeatherBench$Ty;)Z" } : Jvm.MethodName)) ∈ lw_all := lw_g (lw_at lw_m6 91 rfl) rfl
theorem q1451 : (Jvm.Cond.code ({ cls := "FeatherBench", name := "isAlike", desc := "(LFeatherBench$Head;Ljava/util/ArrayList;[LFeatherBench$Ty;LFeatherBench$Head;Ljava/util/ArrayList;[LFeatherBench$Ty;)Z" } : Jvm.MethodName) prog_1_method_5_code (7 : Nat) (Option.some Jvm.ClassFile.FieldType.boolean)) ∈ lw_all := lw_g (lw_at lw_m6 92 rfl) rfl
theorem q1452 : (Jvm.Cond.classLink "FeatherBench" (30 : Nat) "FeatherBench$Param") ∈ lw_all := lw_g (lw_at lw_m6 93 rfl) rfl
theorem q1453 : (Jvm.Cond.methodLink "FeatherBench" (105 : Nat) ({ cls := "FeatherBench", name := "isOne", desc := "(LFeatherBench$Ty;Ljava/util/ArrayList;Ljava/util/ArrayList;[LFeatherBench$Ty;LFeatherBench$Ty;Ljava/util/ArrayList;Ljava/util/ArrayList;[LFeatherBench$Ty;)Z" } : Jvm.MethodName)) ∈ lw_all := lw_g (lw_at lw_m6 94 rfl) rfl
theorem q1454 : (Jvm.Cond.static ({ cls := "FeatherBench", name := "isOne", desc := "(LFeatherBench$Ty;Ljava/util/ArrayList;Ljava/util/ArrayList;[LFeatherBench$Ty;LFeatherBench$Ty;Ljava/util/ArrayList;Ljava/util/ArrayList;[LFeatherBench$Ty;)Z" } : Jvm.MethodName)) ∈ lw_all := lw_g (lw_at lw_m6 95 rfl) rfl
theorem q1455 : (Jvm.Cond.code ({ cls := "FeatherBench", name := "isOne", desc := "(LFeatherBench$Ty;Ljava/util/ArrayList;Ljava/util/ArrayList;[LFeatherBench$Ty;LFeatherBench$Ty;Ljava/util/ArrayList;Ljava/util/ArrayList;[LFeatherBench$Ty;)Z" } : Jvm.MethodName) prog_1_method_6_code (8 : Nat) (Option.some Jvm.ClassFile.FieldType.boolean)) ∈ lw_all := lw_g (lw_at lw_m6 96 rfl) rfl
theorem q1456 : (Jvm.Cond.methodLink "FeatherBench" (123 : Nat) ({ cls := "FeatherBench", name := "words", desc := "(LFeatherBench$Ty;Ljava/util/ArrayList;Ljava/util/ArrayList;[LFeatherBench$Ty;)I" } : Jvm.MethodName)) ∈ lw_all := lw_g (lw_at lw_m6 97 rfl) rfl
theorem q1457 : (Jvm.Cond.static ({ cls := "FeatherBench", name := "words", desc := "(LFeatherBench$Ty;Ljava/util/ArrayList;Ljava/util/ArrayList;[LFeatherBench$Ty;)I" } : Jvm.MethodName)) ∈ lw_all := lw_g (lw_at lw_m6 98 rfl) rfl
theorem q1458 : (Jvm.Cond.code ({ cls := "FeatherBench", name := "words", desc := "(LFeatherBench$Ty;Ljava/util/ArrayList;Ljava/util/ArrayList;[LFeatherBench$Ty;)I" } : Jvm.MethodName) prog_1_method_7_code (6 : Nat) (Option.some Jvm.ClassFile.FieldType.int)) ∈ lw_all := lw_g (lw_at lw_m6 99 rfl) rfl
theorem q1459 : (Jvm.Cond.methodLink "FeatherBench" (141 : Nat) ({ cls := "java/util/ArrayList", name := "contains", desc := "(Ljava/lang/Object;)Z" } : Jvm.MethodName)) ∈ lw_all := lw_g (lw_at lw_m6 100 rfl) rfl
theorem q1464 : (Jvm.Cond.methodLink "FeatherBench" (144 : Nat) ({ cls := "java/util/ArrayList", name := "indexOf", desc := "(Ljava/lang/Object;)I" } : Jvm.MethodName)) ∈ lw_all := lw_g (lw_at lw_m6 105 rfl) rfl
theorem q1465 : (Jvm.Cond.classLink "FeatherBench" (127 : Nat) "FeatherBench$Greater") ∈ lw_all := lw_g (lw_at lw_m6 106 rfl) rfl
theorem q1466 : (Jvm.Cond.methodLink "FeatherBench" (129 : Nat) ({ cls := "FeatherBench$Greater", name := "<init>", desc := "()V" } : Jvm.MethodName)) ∈ lw_all := lw_g (lw_at lw_m6 107 rfl) rfl
theorem q1467 : (Jvm.Cond.methodLink "FeatherBench" (132 : Nat) ({ cls := "FeatherBench", name := "isSame", desc := "(LFeatherBench$Ty;Ljava/util/ArrayList;Ljava/util/ArrayList;[LFeatherBench$Ty;LFeatherBench$Ty;Ljava/util/ArrayList;Ljava/util/ArrayList;[LFeatherBench$Ty;)Z" } : Jvm.MethodName)) ∈ lw_all := lw_g (lw_at lw_m6 108 rfl) rfl
theorem q1468 : (Jvm.Cond.static ({ cls := "FeatherBench", name := "isSame", desc := "(LFeatherBench$Ty;Ljava/util/ArrayList;Ljava/util/ArrayList;[LFeatherBench$Ty;LFeatherBench$Ty;Ljava/util/ArrayList;Ljava/util/ArrayList;[LFeatherBench$Ty;)Z" } : Jvm.MethodName)) ∈ lw_all := lw_g (lw_at lw_m6 109 rfl) rfl
theorem q1469 : (Jvm.Cond.code ({ cls := "FeatherBench", name := "isSame", desc := "(LFeatherBench$Ty;Ljava/util/ArrayList;Ljava/util/ArrayList;[LFeatherBench$Ty;LFeatherBench$Ty;Ljava/util/ArrayList;Ljava/util/ArrayList;[LFeatherBench$Ty;)Z" } : Jvm.MethodName) prog_1_method_8_code (13 : Nat) (Option.some Jvm.ClassFile.FieldType.boolean)) ∈ lw_all := lw_g (lw_at lw_m6 110 rfl) rfl
theorem q1470 : (Jvm.Cond.methodLink "FeatherBench" (148 : Nat) ({ cls := "FeatherBench", name := "isPut", desc := "(LFeatherBench$Ty;LFeatherBench$Ty;Ljava/util/ArrayList;Ljava/util/ArrayList;[LFeatherBench$Ty;)Z" } : Jvm.MethodName)) ∈ lw_all := lw_g (lw_at lw_m6 111 rfl) rfl
theorem q1471 : (Jvm.Cond.static ({ cls := "FeatherBench", name := "isPut", desc := "(LFeatherBench$Ty;LFeatherBench$Ty;Ljava/util/ArrayList;Ljava/util/ArrayList;[LFeatherBench$Ty;)Z" } : Jvm.MethodName)) ∈ lw_all := lw_g (lw_at lw_m6 112 rfl) rfl
theorem q1472 : (Jvm.Cond.code ({ cls := "FeatherBench", name := "isPut", desc := "(LFeatherBench$Ty;LFeatherBench$Ty;Ljava/util/ArrayList;Ljava/util/ArrayList;[LFeatherBench$Ty;)Z" } : Jvm.MethodName) prog_1_method_9_code (6 : Nat) (Option.some Jvm.ClassFile.FieldType.boolean)) ∈ lw_all := lw_g (lw_at lw_m6 113 rfl) rfl
theorem q1473 : (Jvm.Cond.classLink "FeatherBench" (111 : Nat) "FeatherBench$Var") ∈ lw_all := lw_g (lw_at lw_m6 114 rfl) rfl
theorem q1474 : (Jvm.Cond.classLink "FeatherBench" (76 : Nat) "FeatherBench$Func") ∈ lw_all := lw_g (lw_at lw_m6 115 rfl) rfl
theorem q1524 : (Jvm.Cond.static ({ cls := "FeatherBench", name := "methodOf", desc := "(LFeatherBench$Ty;Ljava/lang/String;)LFeatherBench$Method;" } : Jvm.MethodName)) ∈ lw_all := lw_g (lw_at lw_m6 165 rfl) rfl
theorem q1525 : (Jvm.Cond.code ({ cls := "FeatherBench", name := "methodOf", desc := "(LFeatherBench$Ty;Ljava/lang/String;)LFeatherBench$Method;" } : Jvm.MethodName) prog_1_method_2_code (6 : Nat) (Option.some (Jvm.ClassFile.FieldType.object "FeatherBench$Method"))) ∈ lw_all := lw_g (lw_at lw_m6 166 rfl) rfl
theorem q1526 : (Jvm.Cond.classLink "FeatherBench" (39 : Nat) "FeatherBench$Put") ∈ lw_all := lw_g (lw_at lw_m6 167 rfl) rfl
theorem q1527 : (Jvm.Cond.methodLink "FeatherBench" (51 : Nat) ({ cls := "FeatherBench$Put", name := "<init>", desc := "(Ljava/util/ArrayList;[LFeatherBench$Ty;LFeatherBench$Put;)V" } : Jvm.MethodName)) ∈ lw_all := lw_g (lw_at lw_m6 168 rfl) rfl
theorem q1528 : (Jvm.Cond.classLink "FeatherBench" (68 : Nat) "FeatherBench$Method") ∈ lw_all := lw_g (lw_at lw_m6 169 rfl) rfl
theorem q1530 : (Jvm.Cond.methodLink "FeatherBench" (70 : Nat) ({ cls := "FeatherBench$Method", name := "<init>", desc := "(LFeatherBench$Head;LFeatherBench$Func;LFeatherBench$Put;)V" } : Jvm.MethodName)) ∈ lw_all := lw_g (lw_at lw_m6 171 rfl) rfl
theorem q1536 : (Jvm.Cond.fieldLinkNest "FeatherBench" (384 : Nat) "FeatherBench$Method" "head" "LFeatherBench$Head;" "FeatherBench") ∈ lw_tbl := lw_at lw_m6 177 rfl
theorem q1540 : (Jvm.Cond.fieldLinkNest "FeatherBench" (377 : Nat) "FeatherBench$Method" "func" "LFeatherBench$Func;" "FeatherBench") ∈ lw_tbl := lw_at lw_m6 181 rfl
theorem q1543 : (Jvm.Cond.fieldLinkNest "FeatherBench" (385 : Nat) "FeatherBench$Method" "put" "LFeatherBench$Put;" "FeatherBench") ∈ lw_tbl := lw_at lw_m6 184 rfl
theorem q1553 : (Jvm.Cond.methodLink "FeatherBench" (85 : Nat) ({ cls := "java/util/ArrayList", name := "isEmpty", desc := "()Z" } : Jvm.MethodName)) ∈ lw_all := lw_g (lw_at lw_m6 194 rfl) rfl
theorem q1562 : (Jvm.Cond.instanceMethod ({ cls := "FeatherBench", name := "implementing", desc := "()I" } : Jvm.MethodName)) ∈ lw_all := lw_g (lw_at lw_m6 203 rfl) rfl
theorem q1563 : (Jvm.Cond.selects "FeatherBench" ({ cls := "FeatherBench", name := "implementing", desc := "()I" } : Jvm.MethodName) ({ cls := "FeatherBench", name := "implementing", desc := "()I" } : Jvm.MethodName)) ∈ lw_all := lw_g (lw_at lw_m6 204 rfl) rfl
theorem q1564 : (Jvm.Cond.codeWith ({ cls := "FeatherBench", name := "implementing", desc := "()I" } : Jvm.MethodName) prog_1_method_17_code (3 : Nat) (Option.some Jvm.ClassFile.FieldType.int) [((30 : Nat), (63 : Nat), (64 : Nat), (127 : Nat))]) ∈ lw_all := lw_g (lw_at lw_m6 205 rfl) rfl
theorem q1565 : (Jvm.Cond.methodLink "FeatherBench" (264 : Nat) ({ cls := "FeatherBench", name := "told", desc := "(I)Ljava/util/ArrayList;" } : Jvm.MethodName)) ∈ lw_all := lw_g (lw_at lw_m6 206 rfl) rfl
theorem q1566 : (Jvm.Cond.privateMethod ({ cls := "FeatherBench", name := "told", desc := "(I)Ljava/util/ArrayList;" } : Jvm.MethodName)) ∈ lw_tbl := lw_at lw_m6 207 rfl
theorem q1567 : (Jvm.Cond.instanceMethod ({ cls := "FeatherBench", name := "told", desc := "(I)Ljava/util/ArrayList;" } : Jvm.MethodName)) ∈ lw_all := lw_g (lw_at lw_m6 208 rfl) rfl
theorem q1568 : (Jvm.Cond.codeWith ({ cls := "FeatherBench", name := "told", desc := "(I)Ljava/util/ArrayList;" } : Jvm.MethodName) prog_1_method_15_code (4 : Nat) (Option.some (Jvm.ClassFile.FieldType.object "java/util/ArrayList")) [((24 : Nat), (62 : Nat), (65 : Nat), (212 : Nat))]) ∈ lw_all := lw_g (lw_at lw_m6 209 rfl) rfl
theorem q1569 : (Jvm.Cond.methodLink "FeatherBench" (243 : Nat) ({ cls := "FeatherBench$Reader", name := "need", desc := "(C)V" } : Jvm.MethodName)) ∈ lw_all := lw_g (lw_at lw_m6 210 rfl) rfl
theorem q1570 : (Jvm.Cond.methodLink "FeatherBench" (247 : Nat) ({ cls := "FeatherBench$Reader", name := "tree", desc := "()LFeatherBench$Tree;" } : Jvm.MethodName)) ∈ lw_all := lw_g (lw_at lw_m6 211 rfl) rfl
theorem q1571 : (Jvm.Cond.methodLink "FeatherBench" (251 : Nat) ({ cls := "java/util/ArrayList", name := "add", desc := "(Ljava/lang/Object;)Z" } : Jvm.MethodName)) ∈ lw_all := lw_g (lw_at lw_m6 212 rfl) rfl
theorem q1572 : (Jvm.Cond.methodLink "FeatherBench" (254 : Nat) ({ cls := "java/util/ArrayList", name := "clear", desc := "()V" } : Jvm.MethodName)) ∈ lw_all := lw_g (lw_at lw_m6 213 rfl) rfl
theorem q1576 : (Jvm.Cond.methodLink "FeatherBench" (257 : Nat) ({ cls := "FeatherBench$Reader", name := "isEnd", desc := "()Z" } : Jvm.MethodName)) ∈ lw_all := lw_g (lw_at lw_m6 217 rfl) rfl
theorem q1580 : (Jvm.Cond.methodLink "FeatherBench" (268 : Nat) ({ cls := "FeatherBench", name := "isWell", desc := "(Ljava/util/ArrayList;)Z" } : Jvm.MethodName)) ∈ lw_all := lw_g (lw_at lw_m6 221 rfl) rfl
theorem q1581 : (Jvm.Cond.privateMethod ({ cls := "FeatherBench", name := "isWell", desc := "(Ljava/util/ArrayList;)Z" } : Jvm.MethodName)) ∈ lw_tbl := lw_at lw_m6 222 rfl
theorem q1582 : (Jvm.Cond.instanceMethod ({ cls := "FeatherBench", name := "isWell", desc := "(Ljava/util/ArrayList;)Z" } : Jvm.MethodName)) ∈ lw_all := lw_g (lw_at lw_m6 223 rfl) rfl
theorem q1583 : (Jvm.Cond.codeWith ({ cls := "FeatherBench", name := "isWell", desc := "(Ljava/util/ArrayList;)Z" } : Jvm.MethodName) prog_1_method_16_code (4 : Nat) (Option.some Jvm.ClassFile.FieldType.boolean) [((20 : Nat), (49 : Nat), (52 : Nat), (212 : Nat))]) ∈ lw_all := lw_g (lw_at lw_m6 224 rfl) rfl
theorem q1584 : (Jvm.Cond.classLink "FeatherBench" (121 : Nat) "FeatherBench$Tree") ∈ lw_all := lw_g (lw_at lw_m6 225 rfl) rfl
theorem q1585 : (Jvm.Cond.methodLinkNest "FeatherBench" (260 : Nat) ({ cls := "FeatherBench$Checker", name := "all", desc := "(LFeatherBench$Tree;)LFeatherBench$Ty;" } : Jvm.MethodName) "FeatherBench") ∈ lw_tbl := lw_at lw_m6 226 rfl
theorem q1586 : (Jvm.Cond.methodLink "FeatherBench" (272 : Nat) ({ cls := "FeatherBench", name := "meets", desc := "(LFeatherBench$Ty;LFeatherBench$Ty;)Z" } : Jvm.MethodName)) ∈ lw_all := lw_g (lw_at lw_m6 227 rfl) rfl
theorem q1588 : (Jvm.Cond.instanceMethod ({ cls := "FeatherBench", name := "run", desc := "(I)I" } : Jvm.MethodName)) ∈ lw_all := lw_g (lw_at lw_m6 229 rfl) rfl
theorem q1589 : (Jvm.Cond.selects "FeatherBench" ({ cls := "FeatherBench", name := "run", desc := "(I)I" } : Jvm.MethodName) ({ cls := "FeatherBench", name := "run", desc := "(I)I" } : Jvm.MethodName)) ∈ lw_all := lw_g (lw_at lw_m6 230 rfl) rfl
theorem q1590 : (Jvm.Cond.codeWith ({ cls := "FeatherBench", name := "run", desc := "(I)I" } : Jvm.MethodName) prog_1_method_20_code (3 : Nat) (Option.some Jvm.ClassFile.FieldType.int) [((62 : Nat), (86 : Nat), (89 : Nat), (281 : Nat)), ((62 : Nat), (86 : Nat), (95 : Nat), (127 : Nat))]) ∈ lw_all := lw_g (lw_at lw_m6 231 rfl) rfl
theorem q1591 : (Jvm.Cond.classLink "FeatherBench" (281 : Nat) "FeatherBench$Ended") ∈ lw_all := lw_g (lw_at lw_m6 232 rfl) rfl
theorem q1592 : (Jvm.Cond.constant "FeatherBench" (293 : Nat) (60000 : Int32)) ∈ lw_all := lw_g (lw_at lw_m6 233 rfl) rfl
theorem q1593 : (Jvm.Cond.methodLink "FeatherBench" (294 : Nat) ({ cls := "java/lang/Math", name := "min", desc := "(II)I" } : Jvm.MethodName)) ∈ lw_all := lw_g (lw_at lw_m6 234 rfl) rfl
theorem q1594 : (Jvm.Cond.classLink "FeatherBench" (303 : Nat) "FeatherBench$Frame") ∈ lw_all := lw_g (lw_at lw_m6 235 rfl) rfl
theorem q1596 : (Jvm.Cond.classLink "FeatherBench" (305 : Nat) "FeatherBench$Thing") ∈ lw_all := lw_g (lw_at lw_m6 237 rfl) rfl
theorem q1598 : (Jvm.Cond.methodLink "FeatherBench" (307 : Nat) ({ cls := "FeatherBench$Frame", name := "<init>", desc := "([LFeatherBench$Thing;LFeatherBench$Put;)V" } : Jvm.MethodName)) ∈ lw_all := lw_g (lw_at lw_m6 239 rfl) rfl
theorem q1603 : (Jvm.Cond.fieldLinkNest "FeatherBench" (322 : Nat) "FeatherBench$Frame" "vars" "[LFeatherBench$Thing;" "FeatherBench") ∈ lw_tbl := lw_at lw_m7 4 rfl
theorem q1605 : (Jvm.Cond.fieldLinkNest "FeatherBench" (348 : Nat) "FeatherBench$Frame" "put" "LFeatherBench$Put;" "FeatherBench") ∈ lw_tbl := lw_at lw_m7 6 rfl
theorem q1611 : (Jvm.Cond.methodLink "FeatherBench" (310 : Nat) ({ cls := "FeatherBench", name := "worked", desc := "(LFeatherBench$Exp;LFeatherBench$Frame;)LFeatherBench$Thing;" } : Jvm.MethodName)) ∈ lw_all := lw_g (lw_at lw_m7 12 rfl) rfl
theorem q1612 : (Jvm.Cond.privateMethod ({ cls := "FeatherBench", name := "worked", desc := "(LFeatherBench$Exp;LFeatherBench$Frame;)LFeatherBench$Thing;" } : Jvm.MethodName)) ∈ lw_tbl := lw_at lw_m7 13 rfl
theorem q1613 : (Jvm.Cond.instanceMethod ({ cls := "FeatherBench", name := "worked", desc := "(LFeatherBench$Exp;LFeatherBench$Frame;)LFeatherBench$Thing;" } : Jvm.MethodName)) ∈ lw_all := lw_g (lw_at lw_m7 14 rfl) rfl
theorem q1614 : (Jvm.Cond.code ({ cls := "FeatherBench", name := "worked", desc := "(LFeatherBench$Exp;LFeatherBench$Frame;)LFeatherBench$Thing;" } : Jvm.MethodName) prog_1_method_21_code (7 : Nat) (Option.some (Jvm.ClassFile.FieldType.object "FeatherBench$Thing"))) ∈ lw_all := lw_g (lw_at lw_m7 15 rfl) rfl
theorem q1615 : (Jvm.Cond.methodLink "FeatherBench" (328 : Nat) ({ cls := "FeatherBench", name := "literal", desc := "(LFeatherBench$Exp;LFeatherBench$Frame;)LFeatherBench$Thing;" } : Jvm.MethodName)) ∈ lw_all := lw_g (lw_at lw_m7 16 rfl) rfl
theorem q1616 : (Jvm.Cond.privateMethod ({ cls := "FeatherBench", name := "literal", desc := "(LFeatherBench$Exp;LFeatherBench$Frame;)LFeatherBench$Thing;" } : Jvm.MethodName)) ∈ lw_tbl := lw_at lw_m7 17 rfl
theorem q1617 : (Jvm.Cond.instanceMethod ({ cls := "FeatherBench", name := "literal", desc := "(LFeatherBench$Exp;LFeatherBench$Frame;)LFeatherBench$Thing;" } : Jvm.MethodName)) ∈ lw_all := lw_g (lw_at lw_m7 18 rfl) rfl
theorem q1618 : (Jvm.Cond.code ({ cls := "FeatherBench", name := "literal", desc := "(LFeatherBench$Exp;LFeatherBench$Frame;)LFeatherBench$Thing;" } : Jvm.MethodName) prog_1_method_22_code (6 : Nat) (Option.some (Jvm.ClassFile.FieldType.object "FeatherBench$Thing"))) ∈ lw_all := lw_g (lw_at lw_m7 19 rfl) rfl
theorem q1619 : (Jvm.Cond.methodLink "FeatherBench" (351 : Nat) ({ cls := "FeatherBench", name := "put", desc := "(LFeatherBench$Ty;LFeatherBench$Put;)LFeatherBench$Ty;" } : Jvm.MethodName)) ∈ lw_all := lw_g (lw_at lw_m7 20 rfl) rfl
theorem q1620 : (Jvm.Cond.privateMethod ({ cls := "FeatherBench", name := "put", desc := "(LFeatherBench$Ty;LFeatherBench$Put;)LFeatherBench$Ty;" } : Jvm.MethodName)) ∈ lw_tbl := lw_at lw_m7 21 rfl
theorem q1621 : (Jvm.Cond.instanceMethod ({ cls := "FeatherBench", name := "put", desc := "(LFeatherBench$Ty;LFeatherBench$Put;)LFeatherBench$Ty;" } : Jvm.MethodName)) ∈ lw_all := lw_g (lw_at lw_m7 22 rfl) rfl
theorem q1622 : (Jvm.Cond.code ({ cls := "FeatherBench", name := "put", desc := "(LFeatherBench$Ty;LFeatherBench$Put;)LFeatherBench$Ty;" } : Jvm.MethodName) prog_1_method_19_code (4 : Nat) (Option.some (Jvm.ClassFile.FieldType.object "FeatherBench$Ty"))) ∈ lw_all := lw_g (lw_at lw_m7 23 rfl) rfl
theorem q1623 : (Jvm.Cond.methodLink "FeatherBench" (284 : Nat) ({ cls := "FeatherBench$Ty", name := "words", desc := "(LFeatherBench$Put;)I" } : Jvm.MethodName)) ∈ lw_all := lw_g (lw_at lw_m7 24 rfl) rfl
theorem q1628 : (Jvm.Cond.methodLink "FeatherBench" (287 : Nat) ({ cls := "FeatherBench", name := "steps", desc := "(I)V" } : Jvm.MethodName)) ∈ lw_all := lw_g (lw_at lw_m7 29 rfl) rfl
theorem q1629 : (Jvm.Cond.privateMethod ({ cls := "FeatherBench", name := "steps", desc := "(I)V" } : Jvm.MethodName)) ∈ lw_tbl := lw_at lw_m7 30 rfl
theorem q1630 : (Jvm.Cond.instanceMethod ({ cls := "FeatherBench", name := "steps", desc := "(I)V" } : Jvm.MethodName)) ∈ lw_all := lw_g (lw_at lw_m7 31 rfl) rfl
theorem q1631 : (Jvm.Cond.code ({ cls := "FeatherBench", name := "steps", desc := "(I)V" } : Jvm.MethodName) prog_1_method_18_code (2 : Nat) (Option.none : Option Jvm.ClassFile.FieldType)) ∈ lw_all := lw_g (lw_at lw_m7 32 rfl) rfl
theorem q1640 : (Jvm.Cond.methodLink "FeatherBench" (283 : Nat) ({ cls := "FeatherBench$Ended", name := "<init>", desc := "(I)V" } : Jvm.MethodName)) ∈ lw_all := lw_g (lw_at lw_m7 41 rfl) rfl
theorem q1645 : (Jvm.Cond.fieldLinkNest "FeatherBench" (314 : Nat) "FeatherBench$Ended" "how" "I" "FeatherBench") ∈ lw_tbl := lw_at lw_m7 46 rfl
theorem q1650 : (Jvm.Cond.methodLink "FeatherBench" (289 : Nat) ({ cls := "FeatherBench$Ty", name := "put", desc := "(LFeatherBench$Put;)LFeatherBench$Ty;" } : Jvm.MethodName)) ∈ lw_all := lw_g (lw_at lw_m7 51 rfl) rfl
theorem q1651 : (Jvm.Cond.classLink "FeatherBench" (318 : Nat) "FeatherBench$Exp") ∈ lw_all := lw_g (lw_at lw_m7 52 rfl) rfl
theorem q1653 : (Jvm.Cond.methodLink "FeatherBench" (364 : Nat) ({ cls := "FeatherBench$Thing", name := "<init>", desc := "(LFeatherBench$Ty;[LFeatherBench$Thing;)V" } : Jvm.MethodName)) ∈ lw_all := lw_g (lw_at lw_m7 54 rfl) rfl
theorem q1658 : (Jvm.Cond.fieldLinkNest "FeatherBench" (343 : Nat) "FeatherBench$Thing" "type" "LFeatherBench$Ty;" "FeatherBench") ∈ lw_tbl := lw_at lw_m7 59 rfl
theorem q1660 : (Jvm.Cond.fieldLinkNest "FeatherBench" (337 : Nat) "FeatherBench$Thing" "part" "[LFeatherBench$Thing;" "FeatherBench") ∈ lw_tbl := lw_at lw_m7 61 rfl
theorem q1666 : (Jvm.Cond.classLink "FeatherBench" (334 : Nat) "FeatherBench$Dot") ∈ lw_all := lw_g (lw_at lw_m7 67 rfl) rfl
theorem q1667 : (Jvm.Cond.methodLink "FeatherBench" (357 : Nat) ({ cls := "FeatherBench", name := "called", desc := "(LFeatherBench$Dot;LFeatherBench$Thing;LFeatherBench$Frame;)LFeatherBench$Thing;" } : Jvm.MethodName)) ∈ lw_all := lw_g (lw_at lw_m7 68 rfl) rfl
theorem q1668 : (Jvm.Cond.privateMethod ({ cls := "FeatherBench", name := "called", desc := "(LFeatherBench$Dot;LFeatherBench$Thing;LFeatherBench$Frame;)LFeatherBench$Thing;" } : Jvm.MethodName)) ∈ lw_tbl := lw_at lw_m7 69 rfl
theorem q1669 : (Jvm.Cond.instanceMethod ({ cls := "FeatherBench", name := "called", desc := "(LFeatherBench$Dot;LFeatherBench$Thing;LFeatherBench$Frame;)LFeatherBench$Thing;" } : Jvm.MethodName)) ∈ lw_all := lw_g (lw_at lw_m7 70 rfl) rfl
theorem q1670 : (Jvm.Cond.code ({ cls := "FeatherBench", name := "called", desc := "(LFeatherBench$Dot;LFeatherBench$Thing;LFeatherBench$Frame;)LFeatherBench$Thing;" } : Jvm.MethodName) prog_1_method_23_code (8 : Nat) (Option.some (Jvm.ClassFile.FieldType.object "FeatherBench$Thing"))) ∈ lw_all := lw_g (lw_at lw_m7 71 rfl) rfl
theorem q1671 : (Jvm.Cond.classLink "FeatherBench" (24 : Nat) "FeatherBench$Ty") ∈ lw_all := lw_g (lw_at lw_m7 72 rfl) rfl
theorem q1672 : (Jvm.Cond.methodLink "FeatherBench" (373 : Nat) ({ cls := "FeatherBench", name := "methodOf", desc := "(LFeatherBench$Ty;Ljava/lang/String;)LFeatherBench$Method;" } : Jvm.MethodName)) ∈ lw_all := lw_g (lw_at lw_m7 73 rfl) rfl
theorem q1674 : (Jvm.Cond.instanceMethod ({ cls := "FeatherBench", name := "failed", desc := "()I" } : Jvm.MethodName)) ∈ lw_all := lw_g (lw_at lw_m7 75 rfl) rfl
theorem q1675 : (Jvm.Cond.selects "FeatherBench" ({ cls := "FeatherBench", name := "failed", desc := "()I" } : Jvm.MethodName) ({ cls := "FeatherBench", name := "failed", desc := "()I" } : Jvm.MethodName)) ∈ lw_all := lw_g (lw_at lw_m7 76 rfl) rfl
theorem q1676 : (Jvm.Cond.code ({ cls := "FeatherBench", name := "failed", desc := "()I" } : Jvm.MethodName) prog_1_method_24_code (1 : Nat) (Option.some Jvm.ClassFile.FieldType.int)) ∈ lw_all := lw_g (lw_at lw_m7 77 rfl) rfl
theorem q1678 : (Jvm.Cond.instanceMethod ({ cls := "FeatherBench", name := "calls", desc := "()I" } : Jvm.MethodName)) ∈ lw_all := lw_g (lw_at lw_m7 79 rfl) rfl
theorem q1679 : (Jvm.Cond.selects "FeatherBench" ({ cls := "FeatherBench", name := "calls", desc := "()I" } : Jvm.MethodName) ({ cls := "FeatherBench", name := "calls", desc := "()I" } : Jvm.MethodName)) ∈ lw_all := lw_g (lw_at lw_m7 80 rfl) rfl
theorem q1680 : (Jvm.Cond.code ({ cls := "FeatherBench", name := "calls", desc := "()I" } : Jvm.MethodName) prog_1_method_25_code (1 : Nat) (Option.some Jvm.ClassFile.FieldType.int)) ∈ lw_all := lw_g (lw_at lw_m7 81 rfl) rfl
theorem q1682 : (Jvm.Cond.instanceMethod ({ cls := "FeatherBench", name := "instances", desc := "()I" } : Jvm.MethodName)) ∈ lw_all := lw_g (lw_at lw_m7 83 rfl) rfl
theorem q1683 : (Jvm.Cond.selects "FeatherBench" ({ cls := "FeatherBench", name := "instances", desc := "()I" } : Jvm.MethodName) ({ cls := "FeatherBench", name := "instances", desc := "()I" } : Jvm.MethodName)) ∈ lw_all := lw_g (lw_at lw_m7 84 rfl) rfl
theorem q1684 : (Jvm.Cond.code ({ cls := "FeatherBench", name := "instances", desc := "()I" } : Jvm.MethodName) prog_1_method_26_code (1 : Nat) (Option.some Jvm.ClassFile.FieldType.int)) ∈ lw_all := lw_g (lw_at lw_m7 85 rfl) rfl
theorem q1685 : (Jvm.Cond.methodLink "FeatherBench" (386 : Nat) ({ cls := "FeatherBench", name := "makes", desc := "()V" } : Jvm.MethodName)) ∈ lw_all := lw_g (lw_at lw_m7 86 rfl) rfl
theorem q1686 : (Jvm.Cond.privateMethod ({ cls := "FeatherBench", name := "makes", desc := "()V" } : Jvm.MethodName)) ∈ lw_tbl := lw_at lw_m7 87 rfl
theorem q1687 : (Jvm.Cond.instanceMethod ({ cls := "FeatherBench", name := "makes", desc := "()V" } : Jvm.MethodName)) ∈ lw_all := lw_g (lw_at lw_m7 88 rfl) rfl
theorem q1688 : (Jvm.Cond.codeWith ({ cls := "FeatherBench", name := "makes", desc := "()V" } : Jvm.MethodName) prog_1_method_27_code (3 : Nat) (Option.none : Option Jvm.ClassFile.FieldType) [((13 : Nat), (31 : Nat), (34 : Nat), (127 : Nat)), ((13 : Nat), (31 : Nat), (43 : Nat), (401 : Nat))]) ∈ lw_all := lw_g (lw_at lw_m7 89 rfl) rfl
theorem q1689 : (Jvm.Cond.classLink "FeatherBench" (401 : Nat) "FeatherBench$Endless") ∈ lw_all := lw_g (lw_at lw_m7 90 rfl) rfl
theorem q1690 : (Jvm.Cond.classLink "FeatherBench" (390 : Nat) "FeatherBench$Instances") ∈ lw_all := lw_g (lw_at lw_m7 91 rfl) rfl
theorem q1692 : (Jvm.Cond.methodLinkNest "FeatherBench" (394 : Nat) ({ cls := "FeatherBench$Instances", name := "<init>", desc := "()V" } : Jvm.MethodName) "FeatherBench") ∈ lw_tbl := lw_at lw_m7 93 rfl
theorem q1699 : (Jvm.Cond.fieldLinkNest "FeatherBench" (403 : Nat) "FeatherBench$Instances" "types" "Ljava/util/ArrayList;" "FeatherBench") ∈ lw_tbl := lw_at lw_m7 100 rfl
theorem q1701 : (Jvm.Cond.fieldLinkNest "FeatherBench" (404 : Nat) "FeatherBench$Instances" "calls" "Ljava/util/ArrayList;" "FeatherBench") ∈ lw_tbl := lw_at lw_m7 102 rfl
theorem q1703 : (Jvm.Cond.fieldLinkNest "FeatherBench" (389 : Nat) "FeatherBench$Instances" "methods" "Ljava/util/ArrayList;" "FeatherBench") ∈ lw_tbl := lw_at lw_m7 104 rfl
theorem q1711 : (Jvm.Cond.methodLink "FeatherBench" (395 : Nat) ({ cls := "FeatherBench$Instances", name := "through", desc := "(LFeatherBench$Exp;LFeatherBench$Put;)V" } : Jvm.MethodName)) ∈ lw_all := lw_g (lw_at lw_m7 112 rfl) rfl
theorem q1730 : (Jvm.Cond.static ({ cls := "FeatherBench", name := "isSame", desc := "(LFeatherBench$Ty;LFeatherBench$Put;LFeatherBench$Ty;LFeatherBench$Put;)Z" } : Jvm.MethodName)) ∈ lw_all := lw_g (lw_at lw_m7 131 rfl) rfl
theorem q1731 : (Jvm.Cond.code ({ cls := "FeatherBench", name := "isSame", desc := "(LFeatherBench$Ty;LFeatherBench$Put;LFeatherBench$Ty;LFeatherBench$Put;)Z" } : Jvm.MethodName) prog_1_method_10_code (11 : Nat) (Option.some Jvm.ClassFile.FieldType.boolean)) ∈ lw_all := lw_g (lw_at lw_m7 132 rfl) rfl
theorem q1732 : (Jvm.Cond.methodLink "FeatherBench" (152 : Nat) ({ cls := "FeatherBench$Put", name := "of", desc := "(LFeatherBench$Ty;)LFeatherBench$Ty;" } : Jvm.MethodName)) ∈ lw_all := lw_g (lw_at lw_m7 133 rfl) rfl
theorem q1733 : (Jvm.Cond.methodLink "FeatherBench" (156 : Nat) ({ cls := "FeatherBench", name := "isSame", desc := "(LFeatherBench$Ty;LFeatherBench$Put;LFeatherBench$Ty;LFeatherBench$Put;)Z" } : Jvm.MethodName)) ∈ lw_all := lw_g (lw_at lw_m7 134 rfl) rfl
theorem q1787 : (Jvm.Cond.methodLink "FeatherBench" (399 : Nat) ({ cls := "FeatherBench$Instances", name := "all", desc := "()V" } : Jvm.MethodName)) ∈ lw_all := lw_g (lw_at lw_m7 188 rfl) rfl
theorem q1801 : (Jvm.Cond.instanceMethod ({ cls := "FeatherBench", name := "made", desc := "(I)I" } : Jvm.MethodName)) ∈ lw_all := lw_g (lw_at lw_m7 202 rfl) rfl
theorem q1802 : (Jvm.Cond.selects "FeatherBench" ({ cls := "FeatherBench", name := "made", desc := "(I)I" } : Jvm.MethodName) ({ cls := "FeatherBench", name := "made", desc := "(I)I" } : Jvm.MethodName)) ∈ lw_all := lw_g (lw_at lw_m7 203 rfl) rfl
theorem q1803 : (Jvm.Cond.code ({ cls := "FeatherBench", name := "made", desc := "(I)I" } : Jvm.MethodName) prog_1_method_28_code (2 : Nat) (Option.some Jvm.ClassFile.FieldType.int)) ∈ lw_all := lw_g (lw_at lw_m7 204 rfl) rfl
theorem q1805 : (Jvm.Cond.instanceMethod ({ cls := "FeatherBench", name := "isMade", desc := "()I" } : Jvm.MethodName)) ∈ lw_all := lw_g (lw_at lw_m7 206 rfl) rfl
theorem q1806 : (Jvm.Cond.selects "FeatherBench" ({ cls := "FeatherBench", name := "isMade", desc := "()I" } : Jvm.MethodName) ({ cls := "FeatherBench", name := "isMade", desc := "()I" } : Jvm.MethodName)) ∈ lw_all := lw_g (lw_at lw_m7 207 rfl) rfl
theorem q1807 : (Jvm.Cond.code ({ cls := "FeatherBench", name := "isMade", desc := "()I" } : Jvm.MethodName) prog_1_method_29_code (2 : Nat) (Option.some Jvm.ClassFile.FieldType.int)) ∈ lw_all := lw_g (lw_at lw_m7 208 rfl) rfl
theorem q1808 : (Jvm.Cond.methodLink "FeatherBench" (407 : Nat) ({ cls := "FeatherBench$Instances", name := "has", desc := "(LFeatherBench$Ty;LFeatherBench$Put;)LFeatherBench$Ty;" } : Jvm.MethodName)) ∈ lw_all := lw_g (lw_at lw_m7 209 rfl) rfl
theorem q1810 : (Jvm.Cond.instanceMethod ({ cls := "FeatherBench", name := "print", desc := "(I)I" } : Jvm.MethodName)) ∈ lw_all := lw_g (lw_at lw_m7 211 rfl) rfl
theorem q1811 : (Jvm.Cond.selects "FeatherBench" ({ cls := "FeatherBench", name := "print", desc := "(I)I" } : Jvm.MethodName) ({ cls := "FeatherBench", name := "print", desc := "(I)I" } : Jvm.MethodName)) ∈ lw_all := lw_g (lw_at lw_m7 212 rfl) rfl
theorem q1812 : (Jvm.Cond.codeWith ({ cls := "FeatherBench", name := "print", desc := "(I)I" } : Jvm.MethodName) prog_1_method_33_code (3 : Nat) (Option.some Jvm.ClassFile.FieldType.int) [((35 : Nat), (58 : Nat), (61 : Nat), (281 : Nat))]) ∈ lw_all := lw_g (lw_at lw_m7 213 rfl) rfl
theorem q1813 : (Jvm.Cond.methodLink "FeatherBench" (424 : Nat) ({ cls := "FeatherBench", name := "say", desc := "(LFeatherBench$Ty;)V" } : Jvm.MethodName)) ∈ lw_all := lw_g (lw_at lw_m7 214 rfl) rfl
theorem q1814 : (Jvm.Cond.privateMethod ({ cls := "FeatherBench", name := "say", desc := "(LFeatherBench$Ty;)V" } : Jvm.MethodName)) ∈ lw_tbl := lw_at lw_m7 215 rfl
theorem q1815 : (Jvm.Cond.instanceMethod ({ cls := "FeatherBench", name := "say", desc := "(LFeatherBench$Ty;)V" } : Jvm.MethodName)) ∈ lw_all := lw_g (lw_at lw_m7 216 rfl) rfl
theorem q1816 : (Jvm.Cond.code ({ cls := "FeatherBench", name := "say", desc := "(LFeatherBench$Ty;)V" } : Jvm.MethodName) prog_1_method_31_code (3 : Nat) (Option.none : Option Jvm.ClassFile.FieldType)) ∈ lw_all := lw_g (lw_at lw_m7 217 rfl) rfl
theorem q1817 : (Jvm.Cond.methodLink "FeatherBench" (414 : Nat) ({ cls := "java/lang/String", name := "length", desc := "()I" } : Jvm.MethodName)) ∈ lw_all := lw_g (lw_at lw_m7 218 rfl) rfl
theorem q1818 : (Jvm.Cond.methodLink "FeatherBench" (417 : Nat) ({ cls := "java/lang/String", name := "charAt", desc := "(I)C" } : Jvm.MethodName)) ∈ lw_all := lw_g (lw_at lw_m7 219 rfl) rfl
theorem q1819 : (Jvm.Cond.methodLink "FeatherBench" (421 : Nat) ({ cls := "FeatherBench", name := "say", desc := "(C)V" } : Jvm.MethodName)) ∈ lw_all := lw_g (lw_at lw_m7 220 rfl) rfl
theorem q1820 : (Jvm.Cond.privateMethod ({ cls := "FeatherBench", name := "say", desc := "(C)V" } : Jvm.MethodName)) ∈ lw_tbl := lw_at lw_m7 221 rfl
theorem q1821 : (Jvm.Cond.instanceMethod ({ cls := "FeatherBench", name := "say", desc := "(C)V" } : Jvm.MethodName)) ∈ lw_all := lw_g (lw_at lw_m7 222 rfl) rfl
theorem q1822 : (Jvm.Cond.code ({ cls := "FeatherBench", name := "say", desc := "(C)V" } : Jvm.MethodName) prog_1_method_30_code (2 : Nat) (Option.none : Option Jvm.ClassFile.FieldType)) ∈ lw_all := lw_g (lw_at lw_m7 223 rfl) rfl
theorem q1823 : (Jvm.Cond.methodLink "FeatherBench" (427 : Nat) ({ cls := "FeatherBench", name := "say", desc := "(LFeatherBench$Thing;)V" } : Jvm.MethodName)) ∈ lw_all := lw_g (lw_at lw_m7 224 rfl) rfl
theorem q1824 : (Jvm.Cond.privateMethod ({ cls := "FeatherBench", name := "say", desc := "(LFeatherBench$Thing;)V" } : Jvm.MethodName)) ∈ lw_tbl := lw_at lw_m7 225 rfl
theorem q1825 : (Jvm.Cond.instanceMethod ({ cls := "FeatherBench", name := "say", desc := "(LFeatherBench$Thing;)V" } : Jvm.MethodName)) ∈ lw_all := lw_g (lw_at lw_m7 226 rfl) rfl
theorem q1826 : (Jvm.Cond.code ({ cls := "FeatherBench", name := "say", desc := "(LFeatherBench$Thing;)V" } : Jvm.MethodName) prog_1_method_32_code (3 : Nat) (Option.none : Option Jvm.ClassFile.FieldType)) ∈ lw_all := lw_g (lw_at lw_m7 227 rfl) rfl
theorem q1828 : (Jvm.Cond.instanceMethod ({ cls := "FeatherBench", name := "out", desc := "(I)I" } : Jvm.MethodName)) ∈ lw_all := lw_g (lw_at lw_m7 229 rfl) rfl
theorem q1829 : (Jvm.Cond.selects "FeatherBench" ({ cls := "FeatherBench", name := "out", desc := "(I)I" } : Jvm.MethodName) ({ cls := "FeatherBench", name := "out", desc := "(I)I" } : Jvm.MethodName)) ∈ lw_all := lw_g (lw_at lw_m7 230 rfl) rfl
theorem q1830 : (Jvm.Cond.code ({ cls := "FeatherBench", name := "out", desc := "(I)I" } : Jvm.MethodName) prog_1_method_34_code (2 : Nat) (Option.some Jvm.ClassFile.FieldType.int)) ∈ lw_all := lw_g (lw_at lw_m7 231 rfl) rfl
theorem q1832 : (Jvm.Cond.instanceMethod ({ cls := "FeatherBench", name := "count", desc := "(I)I" } : Jvm.MethodName)) ∈ lw_all := lw_g (lw_at lw_m7 233 rfl) rfl
theorem q1833 : (Jvm.Cond.selects "FeatherBench" ({ cls := "FeatherBench", name := "count", desc := "(I)I" } : Jvm.MethodName) ({ cls := "FeatherBench", name := "count", desc := "(I)I" } : Jvm.MethodName)) ∈ lw_all := lw_g (lw_at lw_m7 234 rfl) rfl
theorem q1834 : (Jvm.Cond.code ({ cls := "FeatherBench", name := "count", desc := "(I)I" } : Jvm.MethodName) prog_1_method_35_code (2 : Nat) (Option.some Jvm.ClassFile.FieldType.int)) ∈ lw_all := lw_g (lw_at lw_m7 235 rfl) rfl
theorem q2695 : (Jvm.Cond.castable "FeatherBench" "java/lang/Object") ∈ lw_tbl := lw_at lw_m11 136 rfl
theorem in_X0 : ∀ w ∈ wsX00, w ∈ lw_all := lw_in wsX00 [296, 298, 300, 302, 304, 306, 308, 310, 312, 314, 316, 318, 320, 322, 324, 326, 328, 330] (by decide +kernel) (by decide +kernel)
/-! FeatherBench$Reader -/
def RX1 : String := "FeatherBench$Reader"
def TX1 : u_T := fun k => match k with
  | 0 => ("FeatherBench$Reader", "text", "[B", false)
  | 1 => ("FeatherBench$Reader", "size", "I", false)
  | 2 => ("FeatherBench$Reader", "to", "I", false)
  | 3 => ("FeatherBench$Reader", "kind", "I", false)
  | 4 => ("FeatherBench$Reader", "from", "I", false)
  | 5 => ("FeatherBench$Reader", "within", "I", false)
  | 6 => ("FeatherBench$Reader", "types", "Ljava/util/ArrayList;", false)
  | 7 => ("FeatherBench$Reader", "funcs", "Ljava/util/ArrayList;", false)
  | _ => ("FeatherBench$Reader", "main", "LFeatherBench$Exp;", false)
def tyX1 : Nat → FieldType := fun k => match k with
  | 0 => .array .byte
  | 1 => .int
  | 2 => .int
  | 3 => .int
  | 4 => .int
  | 5 => .int
  | 6 => .object "java/util/ArrayList"
  | 7 => .object "java/util/ArrayList"
  | _ => .object "FeatherBench$Exp"
abbrev wsX10 : List Cond := u_ws RX1 TX1 9
theorem nmX1 : ∀ a, a < 9 → ∀ b, b < 9 → a ≠ b → (TX1 a).2.1 ≠ (TX1 b).2.1 := by decide +kernel
theorem tyX1_ok : ∀ k, k < 9 → parseFieldDescriptor (TX1 k).2.2.1 = some (tyX1 k) := by decide +kernel
abbrev cX1_init : ByteArray := prog_17_method_1_code
def yX1_init : MethodName := ⟨RX1, "<init>", "()V"⟩
theorem dX1_init_0 : decode cX1_init 0 = .ok (.aload_n 0, 1) := by decide +kernel
theorem dX1_init_1 : decode cX1_init 1 = .ok (.invokespecial 3, 3) := by decide +kernel
theorem dX1_init_4 : decode cX1_init 4 = .ok (.return_, 1) := by decide +kernel
abbrev cX1_begin : ByteArray := prog_17_method_2_code
def yX1_begin : MethodName := ⟨RX1, "begin", "([BI)V"⟩
theorem dX1_begin_0 : decode cX1_begin 0 = .ok (.aload_n 0, 1) := by decide +kernel
theorem dX1_begin_1 : decode cX1_begin 1 = .ok (.aload_n 1, 1) := by decide +kernel
theorem dX1_begin_2 : decode cX1_begin 2 = .ok (.putfield 9, 3) := by decide +kernel
theorem dX1_begin_5 : decode cX1_begin 5 = .ok (.aload_n 0, 1) := by decide +kernel
theorem dX1_begin_6 : decode cX1_begin 6 = .ok (.iload_n 2, 1) := by decide +kernel
theorem dX1_begin_7 : decode cX1_begin 7 = .ok (.putfield 15, 3) := by decide +kernel
theorem dX1_begin_10 : decode cX1_begin 10 = .ok (.aload_n 0, 1) := by decide +kernel
theorem dX1_begin_11 : decode cX1_begin 11 = .ok (.iconst 0, 1) := by decide +kernel
theorem dX1_begin_12 : decode cX1_begin 12 = .ok (.putfield 19, 3) := by decide +kernel
theorem dX1_begin_15 : decode cX1_begin 15 = .ok (.aload_n 0, 1) := by decide +kernel
theorem dX1_begin_16 : decode cX1_begin 16 = .ok (.iconst 0, 1) := by decide +kernel
theorem dX1_begin_17 : decode cX1_begin 17 = .ok (.putfield 22, 3) := by decide +kernel
theorem dX1_begin_20 : decode cX1_begin 20 = .ok (.aload_n 0, 1) := by decide +kernel
theorem dX1_begin_21 : decode cX1_begin 21 = .ok (.invokevirtual 25, 3) := by decide +kernel
theorem dX1_begin_24 : decode cX1_begin 24 = .ok (.return_, 1) := by decide +kernel
abbrev cX1_next : ByteArray := prog_17_method_5_code
def yX1_next : MethodName := ⟨RX1, "next", "()V"⟩
theorem dX1_next_0 : decode cX1_next 0 = .ok (.aload_n 0, 1) := by decide +kernel
theorem dX1_next_1 : decode cX1_next 1 = .ok (.getfield 19, 3) := by decide +kernel
theorem dX1_next_4 : decode cX1_next 4 = .ok (.aload_n 0, 1) := by decide +kernel
theorem dX1_next_5 : decode cX1_next 5 = .ok (.getfield 15, 3) := by decide +kernel
theorem dX1_next_8 : decode cX1_next 8 = .ok (.if_icmp .ge 44, 3) := by decide +kernel
theorem dX1_next_11 : decode cX1_next 11 = .ok (.aload_n 0, 1) := by decide +kernel
theorem dX1_next_12 : decode cX1_next 12 = .ok (.getfield 9, 3) := by decide +kernel
theorem dX1_next_15 : decode cX1_next 15 = .ok (.aload_n 0, 1) := by decide +kernel
theorem dX1_next_16 : decode cX1_next 16 = .ok (.getfield 19, 3) := by decide +kernel
theorem dX1_next_19 : decode cX1_next 19 = .ok (.baload, 1) := by decide +kernel
theorem dX1_next_20 : decode cX1_next 20 = .ok (.bipush 10, 2) := by decide +kernel
theorem dX1_next_22 : decode cX1_next 22 = .ok (.if_icmp .eq 17, 3) := by decide +kernel
theorem dX1_next_25 : decode cX1_next 25 = .ok (.aload_n 0, 1) := by decide +kernel
theorem dX1_next_26 : decode cX1_next 26 = .ok (.getfield 9, 3) := by decide +kernel
theorem dX1_next_29 : decode cX1_next 29 = .ok (.aload_n 0, 1) := by decide +kernel
theorem dX1_next_30 : decode cX1_next 30 = .ok (.getfield 19, 3) := by decide +kernel
theorem dX1_next_33 : decode cX1_next 33 = .ok (.baload, 1) := by decide +kernel
theorem dX1_next_34 : decode cX1_next 34 = .ok (.bipush 32, 2) := by decide +kernel
theorem dX1_next_36 : decode cX1_next 36 = .ok (.if_icmp .ne 16, 3) := by decide +kernel
theorem dX1_next_39 : decode cX1_next 39 = .ok (.aload_n 0, 1) := by decide +kernel
theorem dX1_next_40 : decode cX1_next 40 = .ok (.dup, 1) := by decide +kernel
theorem dX1_next_41 : decode cX1_next 41 = .ok (.getfield 19, 3) := by decide +kernel
theorem dX1_next_44 : decode cX1_next 44 = .ok (.iconst 1, 1) := by decide +kernel
theorem dX1_next_45 : decode cX1_next 45 = .ok (.iadd, 1) := by decide +kernel
theorem dX1_next_46 : decode cX1_next 46 = .ok (.putfield 19, 3) := by decide +kernel
theorem dX1_next_49 : decode cX1_next 49 = .ok (.goto (-49), 3) := by decide +kernel
theorem dX1_next_52 : decode cX1_next 52 = .ok (.aload_n 0, 1) := by decide +kernel
theorem dX1_next_53 : decode cX1_next 53 = .ok (.aload_n 0, 1) := by decide +kernel
theorem dX1_next_54 : decode cX1_next 54 = .ok (.getfield 19, 3) := by decide +kernel
theorem dX1_next_57 : decode cX1_next 57 = .ok (.putfield 28, 3) := by decide +kernel
theorem dX1_next_60 : decode cX1_next 60 = .ok (.aload_n 0, 1) := by decide +kernel
theorem dX1_next_61 : decode cX1_next 61 = .ok (.getfield 19, 3) := by decide +kernel
theorem dX1_next_64 : decode cX1_next 64 = .ok (.aload_n 0, 1) := by decide +kernel
theorem dX1_next_65 : decode cX1_next 65 = .ok (.getfield 15, 3) := by decide +kernel
theorem dX1_next_68 : decode cX1_next 68 = .ok (.if_icmp .ne 11, 3) := by decide +kernel
theorem dX1_next_71 : decode cX1_next 71 = .ok (.aload_n 0, 1) := by decide +kernel
theorem dX1_next_72 : decode cX1_next 72 = .ok (.iconst 0, 1) := by decide +kernel
theorem dX1_next_73 : decode cX1_next 73 = .ok (.putfield 31, 3) := by decide +kernel
theorem dX1_next_76 : decode cX1_next 76 = .ok (.goto 132, 3) := by decide +kernel
theorem dX1_next_79 : decode cX1_next 79 = .ok (.aload_n 0, 1) := by decide +kernel
theorem dX1_next_80 : decode cX1_next 80 = .ok (.aload_n 0, 1) := by decide +kernel
theorem dX1_next_81 : decode cX1_next 81 = .ok (.getfield 19, 3) := by decide +kernel
theorem dX1_next_84 : decode cX1_next 84 = .ok (.invokevirtual 34, 3) := by decide +kernel
theorem dX1_next_87 : decode cX1_next 87 = .ok (.invokestatic 38, 3) := by decide +kernel
theorem dX1_next_90 : decode cX1_next 90 = .ok (.ifCond .eq 82, 3) := by decide +kernel
theorem dX1_next_93 : decode cX1_next 93 = .ok (.aload_n 0, 1) := by decide +kernel
theorem dX1_next_94 : decode cX1_next 94 = .ok (.aload_n 0, 1) := by decide +kernel
theorem dX1_next_95 : decode cX1_next 95 = .ok (.getfield 19, 3) := by decide +kernel
theorem dX1_next_98 : decode cX1_next 98 = .ok (.invokevirtual 34, 3) := by decide +kernel
theorem dX1_next_101 : decode cX1_next 101 = .ok (.invokestatic 38, 3) := by decide +kernel
theorem dX1_next_104 : decode cX1_next 104 = .ok (.ifCond .ne 29, 3) := by decide +kernel
theorem dX1_next_107 : decode cX1_next 107 = .ok (.aload_n 0, 1) := by decide +kernel
theorem dX1_next_108 : decode cX1_next 108 = .ok (.aload_n 0, 1) := by decide +kernel
theorem dX1_next_109 : decode cX1_next 109 = .ok (.getfield 19, 3) := by decide +kernel
theorem dX1_next_112 : decode cX1_next 112 = .ok (.invokevirtual 34, 3) := by decide +kernel
theorem dX1_next_115 : decode cX1_next 115 = .ok (.bipush 48, 2) := by decide +kernel
theorem dX1_next_117 : decode cX1_next 117 = .ok (.if_icmp .lt 29, 3) := by decide +kernel
theorem dX1_next_120 : decode cX1_next 120 = .ok (.aload_n 0, 1) := by decide +kernel
theorem dX1_next_121 : decode cX1_next 121 = .ok (.aload_n 0, 1) := by decide +kernel
theorem dX1_next_122 : decode cX1_next 122 = .ok (.getfield 19, 3) := by decide +kernel
theorem dX1_next_125 : decode cX1_next 125 = .ok (.invokevirtual 34, 3) := by decide +kernel
theorem dX1_next_128 : decode cX1_next 128 = .ok (.bipush 57, 2) := by decide +kernel
theorem dX1_next_130 : decode cX1_next 130 = .ok (.if_icmp .gt 16, 3) := by decide +kernel
theorem dX1_next_133 : decode cX1_next 133 = .ok (.aload_n 0, 1) := by decide +kernel
theorem dX1_next_134 : decode cX1_next 134 = .ok (.dup, 1) := by decide +kernel
theorem dX1_next_135 : decode cX1_next 135 = .ok (.getfield 19, 3) := by decide +kernel
theorem dX1_next_138 : decode cX1_next 138 = .ok (.iconst 1, 1) := by decide +kernel
theorem dX1_next_139 : decode cX1_next 139 = .ok (.iadd, 1) := by decide +kernel
theorem dX1_next_140 : decode cX1_next 140 = .ok (.putfield 19, 3) := by decide +kernel
theorem dX1_next_143 : decode cX1_next 143 = .ok (.goto (-50), 3) := by decide +kernel
theorem dX1_next_146 : decode cX1_next 146 = .ok (.aload_n 0, 1) := by decide +kernel
theorem dX1_next_147 : decode cX1_next 147 = .ok (.aload_n 0, 1) := by decide +kernel
theorem dX1_next_148 : decode cX1_next 148 = .ok (.getfield 19, 3) := by decide +kernel
theorem dX1_next_151 : decode cX1_next 151 = .ok (.aload_n 0, 1) := by decide +kernel
theorem dX1_next_152 : decode cX1_next 152 = .ok (.getfield 28, 3) := by decide +kernel
theorem dX1_next_155 : decode cX1_next 155 = .ok (.isub, 1) := by decide +kernel
theorem dX1_next_156 : decode cX1_next 156 = .ok (.bipush 12, 2) := by decide +kernel
theorem dX1_next_158 : decode cX1_next 158 = .ok (.if_icmp .le 7, 3) := by decide +kernel
theorem dX1_next_161 : decode cX1_next 161 = .ok (.iconst 3, 1) := by decide +kernel
theorem dX1_next_162 : decode cX1_next 162 = .ok (.goto 4, 3) := by decide +kernel
theorem dX1_next_165 : decode cX1_next 165 = .ok (.iconst 1, 1) := by decide +kernel
theorem dX1_next_166 : decode cX1_next 166 = .ok (.putfield 31, 3) := by decide +kernel
theorem dX1_next_169 : decode cX1_next 169 = .ok (.goto 39, 3) := by decide +kernel
theorem dX1_next_172 : decode cX1_next 172 = .ok (.aload_n 0, 1) := by decide +kernel
theorem dX1_next_173 : decode cX1_next 173 = .ok (.ldc 42, 2) := by decide +kernel
theorem dX1_next_175 : decode cX1_next 175 = .ok (.aload_n 0, 1) := by decide +kernel
theorem dX1_next_176 : decode cX1_next 176 = .ok (.aload_n 0, 1) := by decide +kernel
theorem dX1_next_177 : decode cX1_next 177 = .ok (.getfield 19, 3) := by decide +kernel
theorem dX1_next_180 : decode cX1_next 180 = .ok (.invokevirtual 34, 3) := by decide +kernel
theorem dX1_next_183 : decode cX1_next 183 = .ok (.i2c, 1) := by decide +kernel
theorem dX1_next_184 : decode cX1_next 184 = .ok (.invokevirtual 44, 3) := by decide +kernel
theorem dX1_next_187 : decode cX1_next 187 = .ok (.ifCond .lt 7, 3) := by decide +kernel
theorem dX1_next_190 : decode cX1_next 190 = .ok (.iconst 2, 1) := by decide +kernel
theorem dX1_next_191 : decode cX1_next 191 = .ok (.goto 4, 3) := by decide +kernel
theorem dX1_next_194 : decode cX1_next 194 = .ok (.iconst 3, 1) := by decide +kernel
theorem dX1_next_195 : decode cX1_next 195 = .ok (.putfield 31, 3) := by decide +kernel
theorem dX1_next_198 : decode cX1_next 198 = .ok (.aload_n 0, 1) := by decide +kernel
theorem dX1_next_199 : decode cX1_next 199 = .ok (.dup, 1) := by decide +kernel
theorem dX1_next_200 : decode cX1_next 200 = .ok (.getfield 19, 3) := by decide +kernel
theorem dX1_next_203 : decode cX1_next 203 = .ok (.iconst 1, 1) := by decide +kernel
theorem dX1_next_204 : decode cX1_next 204 = .ok (.iadd, 1) := by decide +kernel
theorem dX1_next_205 : decode cX1_next 205 = .ok (.putfield 19, 3) := by decide +kernel
theorem dX1_next_208 : decode cX1_next 208 = .ok (.return_, 1) := by decide +kernel
abbrev cX1_at : ByteArray := prog_17_method_3_code
def yX1_at : MethodName := ⟨RX1, "at", "(I)I"⟩
theorem dX1_at_0 : decode cX1_at 0 = .ok (.iload_n 1, 1) := by decide +kernel
theorem dX1_at_1 : decode cX1_at 1 = .ok (.aload_n 0, 1) := by decide +kernel
theorem dX1_at_2 : decode cX1_at 2 = .ok (.getfield 15, 3) := by decide +kernel
theorem dX1_at_5 : decode cX1_at 5 = .ok (.if_icmp .ge 12, 3) := by decide +kernel
theorem dX1_at_8 : decode cX1_at 8 = .ok (.aload_n 0, 1) := by decide +kernel
theorem dX1_at_9 : decode cX1_at 9 = .ok (.getfield 9, 3) := by decide +kernel
theorem dX1_at_12 : decode cX1_at 12 = .ok (.iload_n 1, 1) := by decide +kernel
theorem dX1_at_13 : decode cX1_at 13 = .ok (.baload, 1) := by decide +kernel
theorem dX1_at_14 : decode cX1_at 14 = .ok (.goto 4, 3) := by decide +kernel
theorem dX1_at_17 : decode cX1_at 17 = .ok (.iconst 0, 1) := by decide +kernel
theorem dX1_at_18 : decode cX1_at 18 = .ok (.ireturn, 1) := by decide +kernel
abbrev cX1_isLetter : ByteArray := prog_17_method_4_code
def yX1_isLetter : MethodName := ⟨RX1, "isLetter", "(I)Z"⟩
theorem dX1_isLetter_0 : decode cX1_isLetter 0 = .ok (.iload_n 0, 1) := by decide +kernel
theorem dX1_isLetter_1 : decode cX1_isLetter 1 = .ok (.bipush 97, 2) := by decide +kernel
theorem dX1_isLetter_3 : decode cX1_isLetter 3 = .ok (.if_icmp .lt 9, 3) := by decide +kernel
theorem dX1_isLetter_6 : decode cX1_isLetter 6 = .ok (.iload_n 0, 1) := by decide +kernel
theorem dX1_isLetter_7 : decode cX1_isLetter 7 = .ok (.bipush 122, 2) := by decide +kernel
theorem dX1_isLetter_9 : decode cX1_isLetter 9 = .ok (.if_icmp .le 15, 3) := by decide +kernel
theorem dX1_isLetter_12 : decode cX1_isLetter 12 = .ok (.iload_n 0, 1) := by decide +kernel
theorem dX1_isLetter_13 : decode cX1_isLetter 13 = .ok (.bipush 65, 2) := by decide +kernel
theorem dX1_isLetter_15 : decode cX1_isLetter 15 = .ok (.if_icmp .lt 13, 3) := by decide +kernel
theorem dX1_isLetter_18 : decode cX1_isLetter 18 = .ok (.iload_n 0, 1) := by decide +kernel
theorem dX1_isLetter_19 : decode cX1_isLetter 19 = .ok (.bipush 90, 2) := by decide +kernel
theorem dX1_isLetter_21 : decode cX1_isLetter 21 = .ok (.if_icmp .gt 7, 3) := by decide +kernel
theorem dX1_isLetter_24 : decode cX1_isLetter 24 = .ok (.iconst 1, 1) := by decide +kernel
theorem dX1_isLetter_25 : decode cX1_isLetter 25 = .ok (.goto 4, 3) := by decide +kernel
theorem dX1_isLetter_28 : decode cX1_isLetter 28 = .ok (.iconst 0, 1) := by decide +kernel
theorem dX1_isLetter_29 : decode cX1_isLetter 29 = .ok (.ireturn, 1) := by decide +kernel
abbrev cX1_program : ByteArray := prog_17_method_19_code
def yX1_program : MethodName := ⟨RX1, "program", "()V"⟩
theorem dX1_program_0 : decode cX1_program 0 = .ok (.aload_n 0, 1) := by decide +kernel
theorem dX1_program_1 : decode cX1_program 1 = .ok (.new 105, 3) := by decide +kernel
theorem dX1_program_4 : decode cX1_program 4 = .ok (.dup, 1) := by decide +kernel
theorem dX1_program_5 : decode cX1_program 5 = .ok (.iconst 4, 1) := by decide +kernel
theorem dX1_program_6 : decode cX1_program 6 = .ok (.invokespecial 107, 3) := by decide +kernel
theorem dX1_program_9 : decode cX1_program 9 = .ok (.putfield 108, 3) := by decide +kernel
theorem dX1_program_12 : decode cX1_program 12 = .ok (.aload_n 0, 1) := by decide +kernel
theorem dX1_program_13 : decode cX1_program 13 = .ok (.new 105, 3) := by decide +kernel
theorem dX1_program_16 : decode cX1_program 16 = .ok (.dup, 1) := by decide +kernel
theorem dX1_program_17 : decode cX1_program 17 = .ok (.iconst 4, 1) := by decide +kernel
theorem dX1_program_18 : decode cX1_program 18 = .ok (.invokespecial 107, 3) := by decide +kernel
theorem dX1_program_21 : decode cX1_program 21 = .ok (.putfield 112, 3) := by decide +kernel
theorem dX1_program_24 : decode cX1_program 24 = .ok (.aload_n 0, 1) := by decide +kernel
theorem dX1_program_25 : decode cX1_program 25 = .ok (.ldc 115, 2) := by decide +kernel
theorem dX1_program_27 : decode cX1_program 27 = .ok (.invokevirtual 86, 3) := by decide +kernel
theorem dX1_program_30 : decode cX1_program 30 = .ok (.ifCond .ne 41, 3) := by decide +kernel
theorem dX1_program_33 : decode cX1_program 33 = .ok (.aload_n 0, 1) := by decide +kernel
theorem dX1_program_34 : decode cX1_program 34 = .ok (.ldc 117, 2) := by decide +kernel
theorem dX1_program_36 : decode cX1_program 36 = .ok (.invokevirtual 86, 3) := by decide +kernel
theorem dX1_program_39 : decode cX1_program 39 = .ok (.ifCond .eq 10, 3) := by decide +kernel
theorem dX1_program_42 : decode cX1_program 42 = .ok (.aload_n 0, 1) := by decide +kernel
theorem dX1_program_43 : decode cX1_program 43 = .ok (.invokevirtual 119, 3) := by decide +kernel
theorem dX1_program_46 : decode cX1_program 46 = .ok (.goto (-22), 3) := by decide +kernel
theorem dX1_program_49 : decode cX1_program 49 = .ok (.aload_n 0, 1) := by decide +kernel
theorem dX1_program_50 : decode cX1_program 50 = .ok (.ldc 121, 2) := by decide +kernel
theorem dX1_program_52 : decode cX1_program 52 = .ok (.invokevirtual 86, 3) := by decide +kernel
theorem dX1_program_55 : decode cX1_program 55 = .ok (.ifCond .eq 10, 3) := by decide +kernel
theorem dX1_program_58 : decode cX1_program 58 = .ok (.aload_n 0, 1) := by decide +kernel
theorem dX1_program_59 : decode cX1_program 59 = .ok (.invokevirtual 123, 3) := by decide +kernel
theorem dX1_program_62 : decode cX1_program 62 = .ok (.goto (-38), 3) := by decide +kernel
theorem dX1_program_65 : decode cX1_program 65 = .ok (.aload_n 0, 1) := by decide +kernel
theorem dX1_program_66 : decode cX1_program 66 = .ok (.iconst 1, 1) := by decide +kernel
theorem dX1_program_67 : decode cX1_program 67 = .ok (.invokevirtual 82, 3) := by decide +kernel
theorem dX1_program_70 : decode cX1_program 70 = .ok (.athrow, 1) := by decide +kernel
theorem dX1_program_71 : decode cX1_program 71 = .ok (.aload_n 0, 1) := by decide +kernel
theorem dX1_program_72 : decode cX1_program 72 = .ok (.invokevirtual 25, 3) := by decide +kernel
theorem dX1_program_75 : decode cX1_program 75 = .ok (.aload_n 0, 1) := by decide +kernel
theorem dX1_program_76 : decode cX1_program 76 = .ok (.aload_n 0, 1) := by decide +kernel
theorem dX1_program_77 : decode cX1_program 77 = .ok (.invokevirtual 125, 3) := by decide +kernel
theorem dX1_program_80 : decode cX1_program 80 = .ok (.putfield 129, 3) := by decide +kernel
theorem dX1_program_83 : decode cX1_program 83 = .ok (.aload_n 0, 1) := by decide +kernel
theorem dX1_program_84 : decode cX1_program 84 = .ok (.bipush 59, 2) := by decide +kernel
theorem dX1_program_86 : decode cX1_program 86 = .ok (.invokevirtual 132, 3) := by decide +kernel
theorem dX1_program_89 : decode cX1_program 89 = .ok (.aload_n 0, 1) := by decide +kernel
theorem dX1_program_90 : decode cX1_program 90 = .ok (.getfield 31, 3) := by decide +kernel
theorem dX1_program_93 : decode cX1_program 93 = .ok (.ifCond .eq 9, 3) := by decide +kernel
theorem dX1_program_96 : decode cX1_program 96 = .ok (.aload_n 0, 1) := by decide +kernel
theorem dX1_program_97 : decode cX1_program 97 = .ok (.iconst 1, 1) := by decide +kernel
theorem dX1_program_98 : decode cX1_program 98 = .ok (.invokevirtual 82, 3) := by decide +kernel
theorem dX1_program_101 : decode cX1_program 101 = .ok (.athrow, 1) := by decide +kernel
theorem dX1_program_102 : decode cX1_program 102 = .ok (.return_, 1) := by decide +kernel
abbrev cX1_is : ByteArray := prog_17_method_9_code
def yX1_is : MethodName := ⟨RX1, "is", "(Ljava/lang/String;)Z"⟩
theorem dX1_is_0 : decode cX1_is 0 = .ok (.aload_n 0, 1) := by decide +kernel
theorem dX1_is_1 : decode cX1_is 1 = .ok (.getfield 31, 3) := by decide +kernel
theorem dX1_is_4 : decode cX1_is 4 = .ok (.iconst 1, 1) := by decide +kernel
theorem dX1_is_5 : decode cX1_is 5 = .ok (.if_icmp .ne 23, 3) := by decide +kernel
theorem dX1_is_8 : decode cX1_is 8 = .ok (.aload_n 0, 1) := by decide +kernel
theorem dX1_is_9 : decode cX1_is 9 = .ok (.getfield 19, 3) := by decide +kernel
theorem dX1_is_12 : decode cX1_is 12 = .ok (.aload_n 0, 1) := by decide +kernel
theorem dX1_is_13 : decode cX1_is 13 = .ok (.getfield 28, 3) := by decide +kernel
theorem dX1_is_16 : decode cX1_is 16 = .ok (.isub, 1) := by decide +kernel
theorem dX1_is_17 : decode cX1_is 17 = .ok (.aload_n 1, 1) := by decide +kernel
theorem dX1_is_18 : decode cX1_is 18 = .ok (.invokevirtual 67, 3) := by decide +kernel
theorem dX1_is_21 : decode cX1_is 21 = .ok (.if_icmp .ne 7, 3) := by decide +kernel
theorem dX1_is_24 : decode cX1_is 24 = .ok (.iconst 1, 1) := by decide +kernel
theorem dX1_is_25 : decode cX1_is 25 = .ok (.goto 4, 3) := by decide +kernel
theorem dX1_is_28 : decode cX1_is 28 = .ok (.iconst 0, 1) := by decide +kernel
theorem dX1_is_29 : decode cX1_is 29 = .ok (.istore_n 2, 1) := by decide +kernel
theorem dX1_is_30 : decode cX1_is 30 = .ok (.iconst 0, 1) := by decide +kernel
theorem dX1_is_31 : decode cX1_is 31 = .ok (.istore_n 3, 1) := by decide +kernel
theorem dX1_is_32 : decode cX1_is 32 = .ok (.iload_n 2, 1) := by decide +kernel
theorem dX1_is_33 : decode cX1_is 33 = .ok (.ifCond .eq 42, 3) := by decide +kernel
theorem dX1_is_36 : decode cX1_is 36 = .ok (.iload_n 3, 1) := by decide +kernel
theorem dX1_is_37 : decode cX1_is 37 = .ok (.aload_n 1, 1) := by decide +kernel
theorem dX1_is_38 : decode cX1_is 38 = .ok (.invokevirtual 67, 3) := by decide +kernel
theorem dX1_is_41 : decode cX1_is 41 = .ok (.if_icmp .ge 34, 3) := by decide +kernel
theorem dX1_is_44 : decode cX1_is 44 = .ok (.aload_n 0, 1) := by decide +kernel
theorem dX1_is_45 : decode cX1_is 45 = .ok (.getfield 9, 3) := by decide +kernel
theorem dX1_is_48 : decode cX1_is 48 = .ok (.aload_n 0, 1) := by decide +kernel
theorem dX1_is_49 : decode cX1_is 49 = .ok (.getfield 28, 3) := by decide +kernel
theorem dX1_is_52 : decode cX1_is 52 = .ok (.iload_n 3, 1) := by decide +kernel
theorem dX1_is_53 : decode cX1_is 53 = .ok (.iadd, 1) := by decide +kernel
theorem dX1_is_54 : decode cX1_is 54 = .ok (.baload, 1) := by decide +kernel
theorem dX1_is_55 : decode cX1_is 55 = .ok (.aload_n 1, 1) := by decide +kernel
theorem dX1_is_56 : decode cX1_is 56 = .ok (.iload_n 3, 1) := by decide +kernel
theorem dX1_is_57 : decode cX1_is 57 = .ok (.invokevirtual 71, 3) := by decide +kernel
theorem dX1_is_60 : decode cX1_is 60 = .ok (.if_icmp .ne 7, 3) := by decide +kernel
theorem dX1_is_63 : decode cX1_is 63 = .ok (.iconst 1, 1) := by decide +kernel
theorem dX1_is_64 : decode cX1_is 64 = .ok (.goto 4, 3) := by decide +kernel
theorem dX1_is_67 : decode cX1_is 67 = .ok (.iconst 0, 1) := by decide +kernel
theorem dX1_is_68 : decode cX1_is 68 = .ok (.istore_n 2, 1) := by decide +kernel
theorem dX1_is_69 : decode cX1_is 69 = .ok (.iinc 3 1, 3) := by decide +kernel
theorem dX1_is_72 : decode cX1_is 72 = .ok (.goto (-40), 3) := by decide +kernel
theorem dX1_is_75 : decode cX1_is 75 = .ok (.iload_n 2, 1) := by decide +kernel
theorem dX1_is_76 : decode cX1_is 76 = .ok (.ireturn, 1) := by decide +kernel
abbrev cX1_type : ByteArray := prog_17_method_20_code
def yX1_type : MethodName := ⟨RX1, "type", "()V"⟩
theorem dX1_type_0 : decode cX1_type 0 = .ok (.aload_n 0, 1) := by decide +kernel
theorem dX1_type_1 : decode cX1_type 1 = .ok (.getfield 108, 3) := by decide +kernel
theorem dX1_type_4 : decode cX1_type 4 = .ok (.invokevirtual 136, 3) := by decide +kernel
theorem dX1_type_7 : decode cX1_type 7 = .ok (.bipush 24, 2) := by decide +kernel
theorem dX1_type_9 : decode cX1_type 9 = .ok (.if_icmp .ne 9, 3) := by decide +kernel
theorem dX1_type_12 : decode cX1_type 12 = .ok (.aload_n 0, 1) := by decide +kernel
theorem dX1_type_13 : decode cX1_type 13 = .ok (.iconst 5, 1) := by decide +kernel
theorem dX1_type_14 : decode cX1_type 14 = .ok (.invokevirtual 82, 3) := by decide +kernel
theorem dX1_type_17 : decode cX1_type 17 = .ok (.athrow, 1) := by decide +kernel
theorem dX1_type_18 : decode cX1_type 18 = .ok (.aload_n 0, 1) := by decide +kernel
theorem dX1_type_19 : decode cX1_type 19 = .ok (.invokevirtual 25, 3) := by decide +kernel
theorem dX1_type_22 : decode cX1_type 22 = .ok (.aload_n 0, 1) := by decide +kernel
theorem dX1_type_23 : decode cX1_type 23 = .ok (.getfield 28, 3) := by decide +kernel
theorem dX1_type_26 : decode cX1_type 26 = .ok (.istore_n 1, 1) := by decide +kernel
theorem dX1_type_27 : decode cX1_type 27 = .ok (.new 138, 3) := by decide +kernel
theorem dX1_type_30 : decode cX1_type 30 = .ok (.dup, 1) := by decide +kernel
theorem dX1_type_31 : decode cX1_type 31 = .ok (.aload_n 0, 1) := by decide +kernel
theorem dX1_type_32 : decode cX1_type 32 = .ok (.invokevirtual 102, 3) := by decide +kernel
theorem dX1_type_35 : decode cX1_type 35 = .ok (.iload_n 1, 1) := by decide +kernel
theorem dX1_type_36 : decode cX1_type 36 = .ok (.aload_n 0, 1) := by decide +kernel
theorem dX1_type_37 : decode cX1_type 37 = .ok (.getfield 108, 3) := by decide +kernel
theorem dX1_type_40 : decode cX1_type 40 = .ok (.invokevirtual 136, 3) := by decide +kernel
theorem dX1_type_43 : decode cX1_type 43 = .ok (.invokespecial 140, 3) := by decide +kernel
theorem dX1_type_46 : decode cX1_type 46 = .ok (.astore_n 2, 1) := by decide +kernel
theorem dX1_type_47 : decode cX1_type 47 = .ok (.aload_n 0, 1) := by decide +kernel
theorem dX1_type_48 : decode cX1_type 48 = .ok (.aload_n 2, 1) := by decide +kernel
theorem dX1_type_49 : decode cX1_type 49 = .ok (.getfield 143, 3) := by decide +kernel
theorem dX1_type_52 : decode cX1_type 52 = .ok (.invokevirtual 146, 3) := by decide +kernel
theorem dX1_type_55 : decode cX1_type 55 = .ok (.aload_n 2, 1) := by decide +kernel
theorem dX1_type_56 : decode cX1_type 56 = .ok (.aload_n 0, 1) := by decide +kernel
theorem dX1_type_57 : decode cX1_type 57 = .ok (.ldc 149, 2) := by decide +kernel
theorem dX1_type_59 : decode cX1_type 59 = .ok (.invokevirtual 86, 3) := by decide +kernel
theorem dX1_type_62 : decode cX1_type 62 = .ok (.putfield 151, 3) := by decide +kernel
theorem dX1_type_65 : decode cX1_type 65 = .ok (.aload_n 2, 1) := by decide +kernel
theorem dX1_type_66 : decode cX1_type 66 = .ok (.getfield 151, 3) := by decide +kernel
theorem dX1_type_69 : decode cX1_type 69 = .ok (.ifCond .ne 18, 3) := by decide +kernel
theorem dX1_type_72 : decode cX1_type 72 = .ok (.aload_n 0, 1) := by decide +kernel
theorem dX1_type_73 : decode cX1_type 73 = .ok (.ldc 155, 2) := by decide +kernel
theorem dX1_type_75 : decode cX1_type 75 = .ok (.invokevirtual 86, 3) := by decide +kernel
theorem dX1_type_78 : decode cX1_type 78 = .ok (.ifCond .ne 9, 3) := by decide +kernel
theorem dX1_type_81 : decode cX1_type 81 = .ok (.aload_n 0, 1) := by decide +kernel
theorem dX1_type_82 : decode cX1_type 82 = .ok (.iconst 1, 1) := by decide +kernel
theorem dX1_type_83 : decode cX1_type 83 = .ok (.invokevirtual 82, 3) := by decide +kernel
theorem dX1_type_86 : decode cX1_type 86 = .ok (.athrow, 1) := by decide +kernel
theorem dX1_type_87 : decode cX1_type 87 = .ok (.aload_n 0, 1) := by decide +kernel
theorem dX1_type_88 : decode cX1_type 88 = .ok (.invokevirtual 25, 3) := by decide +kernel
theorem dX1_type_91 : decode cX1_type 91 = .ok (.aload_n 0, 1) := by decide +kernel
theorem dX1_type_92 : decode cX1_type 92 = .ok (.bipush 123, 2) := by decide +kernel
theorem dX1_type_94 : decode cX1_type 94 = .ok (.invokevirtual 132, 3) := by decide +kernel
theorem dX1_type_97 : decode cX1_type 97 = .ok (.aload_n 0, 1) := by decide +kernel
theorem dX1_type_98 : decode cX1_type 98 = .ok (.bipush 125, 2) := by decide +kernel
theorem dX1_type_100 : decode cX1_type 100 = .ok (.invokevirtual 75, 3) := by decide +kernel
theorem dX1_type_103 : decode cX1_type 103 = .ok (.ifCond .ne 86, 3) := by decide +kernel
theorem dX1_type_106 : decode cX1_type 106 = .ok (.aload_n 2, 1) := by decide +kernel
theorem dX1_type_107 : decode cX1_type 107 = .ok (.getfield 151, 3) := by decide +kernel
theorem dX1_type_110 : decode cX1_type 110 = .ok (.ifCond .eq 51, 3) := by decide +kernel
theorem dX1_type_113 : decode cX1_type 113 = .ok (.aload_n 0, 1) := by decide +kernel
theorem dX1_type_114 : decode cX1_type 114 = .ok (.getfield 28, 3) := by decide +kernel
theorem dX1_type_117 : decode cX1_type 117 = .ok (.istore_n 3, 1) := by decide +kernel
theorem dX1_type_118 : decode cX1_type 118 = .ok (.new 157, 3) := by decide +kernel
theorem dX1_type_121 : decode cX1_type 121 = .ok (.dup, 1) := by decide +kernel
theorem dX1_type_122 : decode cX1_type 122 = .ok (.aload_n 0, 1) := by decide +kernel
theorem dX1_type_123 : decode cX1_type 123 = .ok (.aload_n 2, 1) := by decide +kernel
theorem dX1_type_124 : decode cX1_type 124 = .ok (.getfield 159, 3) := by decide +kernel
theorem dX1_type_127 : decode cX1_type 127 = .ok (.invokevirtual 136, 3) := by decide +kernel
theorem dX1_type_130 : decode cX1_type 130 = .ok (.invokevirtual 162, 3) := by decide +kernel
theorem dX1_type_133 : decode cX1_type 133 = .ok (.iload_n 3, 1) := by decide +kernel
theorem dX1_type_134 : decode cX1_type 134 = .ok (.invokespecial 166, 3) := by decide +kernel
theorem dX1_type_137 : decode cX1_type 137 = .ok (.astore 4, 2) := by decide +kernel
theorem dX1_type_139 : decode cX1_type 139 = .ok (.aload 4, 2) := by decide +kernel
theorem dX1_type_141 : decode cX1_type 141 = .ok (.aload_n 0, 1) := by decide +kernel
theorem dX1_type_142 : decode cX1_type 142 = .ok (.invokevirtual 169, 3) := by decide +kernel
theorem dX1_type_145 : decode cX1_type 145 = .ok (.putfield 173, 3) := by decide +kernel
theorem dX1_type_148 : decode cX1_type 148 = .ok (.aload_n 2, 1) := by decide +kernel
theorem dX1_type_149 : decode cX1_type 149 = .ok (.getfield 159, 3) := by decide +kernel
theorem dX1_type_152 : decode cX1_type 152 = .ok (.aload 4, 2) := by decide +kernel
theorem dX1_type_154 : decode cX1_type 154 = .ok (.invokevirtual 176, 3) := by decide +kernel
theorem dX1_type_157 : decode cX1_type 157 = .ok (.pop, 1) := by decide +kernel
theorem dX1_type_158 : decode cX1_type 158 = .ok (.goto 22, 3) := by decide +kernel
theorem dX1_type_161 : decode cX1_type 161 = .ok (.aload_n 2, 1) := by decide +kernel
theorem dX1_type_162 : decode cX1_type 162 = .ok (.getfield 180, 3) := by decide +kernel
theorem dX1_type_165 : decode cX1_type 165 = .ok (.aload_n 0, 1) := by decide +kernel
theorem dX1_type_166 : decode cX1_type 166 = .ok (.aload_n 2, 1) := by decide +kernel
theorem dX1_type_167 : decode cX1_type 167 = .ok (.getfield 180, 3) := by decide +kernel
theorem dX1_type_170 : decode cX1_type 170 = .ok (.invokevirtual 136, 3) := by decide +kernel
theorem dX1_type_173 : decode cX1_type 173 = .ok (.invokevirtual 183, 3) := by decide +kernel
theorem dX1_type_176 : decode cX1_type 176 = .ok (.invokevirtual 176, 3) := by decide +kernel
theorem dX1_type_179 : decode cX1_type 179 = .ok (.pop, 1) := by decide +kernel
theorem dX1_type_180 : decode cX1_type 180 = .ok (.aload_n 0, 1) := by decide +kernel
theorem dX1_type_181 : decode cX1_type 181 = .ok (.bipush 59, 2) := by decide +kernel
theorem dX1_type_183 : decode cX1_type 183 = .ok (.invokevirtual 132, 3) := by decide +kernel
theorem dX1_type_186 : decode cX1_type 186 = .ok (.goto (-89), 3) := by decide +kernel
theorem dX1_type_189 : decode cX1_type 189 = .ok (.aload_n 0, 1) := by decide +kernel
theorem dX1_type_190 : decode cX1_type 190 = .ok (.invokevirtual 25, 3) := by decide +kernel
theorem dX1_type_193 : decode cX1_type 193 = .ok (.aload_n 0, 1) := by decide +kernel
theorem dX1_type_194 : decode cX1_type 194 = .ok (.getfield 108, 3) := by decide +kernel
theorem dX1_type_197 : decode cX1_type 197 = .ok (.aload_n 2, 1) := by decide +kernel
theorem dX1_type_198 : decode cX1_type 198 = .ok (.invokevirtual 176, 3) := by decide +kernel
theorem dX1_type_201 : decode cX1_type 201 = .ok (.pop, 1) := by decide +kernel
theorem dX1_type_202 : decode cX1_type 202 = .ok (.return_, 1) := by decide +kernel
abbrev cX1_wrong : ByteArray := prog_17_method_7_code
def yX1_wrong : MethodName := ⟨RX1, "wrong", "(I)LFeatherBench$Wrong;"⟩
theorem dX1_wrong_0 : decode cX1_wrong 0 = .ok (.new 49, 3) := by decide +kernel
theorem dX1_wrong_3 : decode cX1_wrong 3 = .ok (.dup, 1) := by decide +kernel
theorem dX1_wrong_4 : decode cX1_wrong 4 = .ok (.iload_n 1, 1) := by decide +kernel
theorem dX1_wrong_5 : decode cX1_wrong 5 = .ok (.aload_n 0, 1) := by decide +kernel
theorem dX1_wrong_6 : decode cX1_wrong 6 = .ok (.getfield 28, 3) := by decide +kernel
theorem dX1_wrong_9 : decode cX1_wrong 9 = .ok (.invokespecial 51, 3) := by decide +kernel
theorem dX1_wrong_12 : decode cX1_wrong 12 = .ok (.areturn, 1) := by decide +kernel
abbrev cX1_name : ByteArray := prog_17_method_15_code
def yX1_name : MethodName := ⟨RX1, "name", "()Ljava/lang/String;"⟩
theorem dX1_name_0 : decode cX1_name 0 = .ok (.aload_n 0, 1) := by decide +kernel
theorem dX1_name_1 : decode cX1_name 1 = .ok (.invokevirtual 95, 3) := by decide +kernel
theorem dX1_name_4 : decode cX1_name 4 = .ok (.ifCond .ne 9, 3) := by decide +kernel
theorem dX1_name_7 : decode cX1_name 7 = .ok (.aload_n 0, 1) := by decide +kernel
theorem dX1_name_8 : decode cX1_name 8 = .ok (.iconst 1, 1) := by decide +kernel
theorem dX1_name_9 : decode cX1_name 9 = .ok (.invokevirtual 82, 3) := by decide +kernel
theorem dX1_name_12 : decode cX1_name 12 = .ok (.athrow, 1) := by decide +kernel
theorem dX1_name_13 : decode cX1_name 13 = .ok (.aload_n 0, 1) := by decide +kernel
theorem dX1_name_14 : decode cX1_name 14 = .ok (.invokevirtual 99, 3) := by decide +kernel
theorem dX1_name_17 : decode cX1_name 17 = .ok (.astore_n 1, 1) := by decide +kernel
theorem dX1_name_18 : decode cX1_name 18 = .ok (.aload_n 0, 1) := by decide +kernel
theorem dX1_name_19 : decode cX1_name 19 = .ok (.invokevirtual 25, 3) := by decide +kernel
theorem dX1_name_22 : decode cX1_name 22 = .ok (.aload_n 1, 1) := by decide +kernel
theorem dX1_name_23 : decode cX1_name 23 = .ok (.areturn, 1) := by decide +kernel
abbrev cX1_isName : ByteArray := prog_17_method_14_code
def yX1_isName : MethodName := ⟨RX1, "isName", "()Z"⟩
theorem dX1_isName_0 : decode cX1_isName 0 = .ok (.aload_n 0, 1) := by decide +kernel
theorem dX1_isName_1 : decode cX1_isName 1 = .ok (.getfield 31, 3) := by decide +kernel
theorem dX1_isName_4 : decode cX1_isName 4 = .ok (.iconst 1, 1) := by decide +kernel
theorem dX1_isName_5 : decode cX1_isName 5 = .ok (.if_icmp .eq 5, 3) := by decide +kernel
theorem dX1_isName_8 : decode cX1_isName 8 = .ok (.iconst 0, 1) := by decide +kernel
theorem dX1_isName_9 : decode cX1_isName 9 = .ok (.ireturn, 1) := by decide +kernel
theorem dX1_isName_10 : decode cX1_isName 10 = .ok (.iconst 0, 1) := by decide +kernel
theorem dX1_isName_11 : decode cX1_isName 11 = .ok (.istore_n 1, 1) := by decide +kernel
theorem dX1_isName_12 : decode cX1_isName 12 = .ok (.iconst 0, 1) := by decide +kernel
theorem dX1_isName_13 : decode cX1_isName 13 = .ok (.istore_n 2, 1) := by decide +kernel
theorem dX1_isName_14 : decode cX1_isName 14 = .ok (.iload_n 2, 1) := by decide +kernel
theorem dX1_isName_15 : decode cX1_isName 15 = .ok (.ldc 90, 2) := by decide +kernel
theorem dX1_isName_17 : decode cX1_isName 17 = .ok (.invokevirtual 67, 3) := by decide +kernel
theorem dX1_isName_20 : decode cX1_isName 20 = .ok (.if_icmp .ge 100, 3) := by decide +kernel
theorem dX1_isName_23 : decode cX1_isName 23 = .ok (.iload_n 1, 1) := by decide +kernel
theorem dX1_isName_24 : decode cX1_isName 24 = .ok (.ifCond .ne 96, 3) := by decide +kernel
theorem dX1_isName_27 : decode cX1_isName 27 = .ok (.aload_n 0, 1) := by decide +kernel
theorem dX1_isName_28 : decode cX1_isName 28 = .ok (.getfield 19, 3) := by decide +kernel
theorem dX1_isName_31 : decode cX1_isName 31 = .ok (.aload_n 0, 1) := by decide +kernel
theorem dX1_isName_32 : decode cX1_isName 32 = .ok (.getfield 28, 3) := by decide +kernel
theorem dX1_isName_35 : decode cX1_isName 35 = .ok (.isub, 1) := by decide +kernel
theorem dX1_isName_36 : decode cX1_isName 36 = .ok (.istore_n 3, 1) := by decide +kernel
theorem dX1_isName_37 : decode cX1_isName 37 = .ok (.ldc 90, 2) := by decide +kernel
theorem dX1_isName_39 : decode cX1_isName 39 = .ok (.bipush 32, 2) := by decide +kernel
theorem dX1_isName_41 : decode cX1_isName 41 = .ok (.iload_n 2, 1) := by decide +kernel
theorem dX1_isName_42 : decode cX1_isName 42 = .ok (.invokevirtual 92, 3) := by decide +kernel
theorem dX1_isName_45 : decode cX1_isName 45 = .ok (.iload_n 2, 1) := by decide +kernel
theorem dX1_isName_46 : decode cX1_isName 46 = .ok (.isub, 1) := by decide +kernel
theorem dX1_isName_47 : decode cX1_isName 47 = .ok (.iload_n 3, 1) := by decide +kernel
theorem dX1_isName_48 : decode cX1_isName 48 = .ok (.if_icmp .ne 7, 3) := by decide +kernel
theorem dX1_isName_51 : decode cX1_isName 51 = .ok (.iconst 1, 1) := by decide +kernel
theorem dX1_isName_52 : decode cX1_isName 52 = .ok (.goto 4, 3) := by decide +kernel
theorem dX1_isName_55 : decode cX1_isName 55 = .ok (.iconst 0, 1) := by decide +kernel
theorem dX1_isName_56 : decode cX1_isName 56 = .ok (.istore_n 1, 1) := by decide +kernel
theorem dX1_isName_57 : decode cX1_isName 57 = .ok (.iconst 0, 1) := by decide +kernel
theorem dX1_isName_58 : decode cX1_isName 58 = .ok (.istore 4, 2) := by decide +kernel
theorem dX1_isName_60 : decode cX1_isName 60 = .ok (.iload_n 1, 1) := by decide +kernel
theorem dX1_isName_61 : decode cX1_isName 61 = .ok (.ifCond .eq 45, 3) := by decide +kernel
theorem dX1_isName_64 : decode cX1_isName 64 = .ok (.iload 4, 2) := by decide +kernel
theorem dX1_isName_66 : decode cX1_isName 66 = .ok (.iload_n 3, 1) := by decide +kernel
theorem dX1_isName_67 : decode cX1_isName 67 = .ok (.if_icmp .ge 39, 3) := by decide +kernel
theorem dX1_isName_70 : decode cX1_isName 70 = .ok (.aload_n 0, 1) := by decide +kernel
theorem dX1_isName_71 : decode cX1_isName 71 = .ok (.getfield 9, 3) := by decide +kernel
theorem dX1_isName_74 : decode cX1_isName 74 = .ok (.aload_n 0, 1) := by decide +kernel
theorem dX1_isName_75 : decode cX1_isName 75 = .ok (.getfield 28, 3) := by decide +kernel
theorem dX1_isName_78 : decode cX1_isName 78 = .ok (.iload 4, 2) := by decide +kernel
theorem dX1_isName_80 : decode cX1_isName 80 = .ok (.iadd, 1) := by decide +kernel
theorem dX1_isName_81 : decode cX1_isName 81 = .ok (.baload, 1) := by decide +kernel
theorem dX1_isName_82 : decode cX1_isName 82 = .ok (.ldc 90, 2) := by decide +kernel
theorem dX1_isName_84 : decode cX1_isName 84 = .ok (.iload_n 2, 1) := by decide +kernel
theorem dX1_isName_85 : decode cX1_isName 85 = .ok (.iload 4, 2) := by decide +kernel
theorem dX1_isName_87 : decode cX1_isName 87 = .ok (.iadd, 1) := by decide +kernel
theorem dX1_isName_88 : decode cX1_isName 88 = .ok (.invokevirtual 71, 3) := by decide +kernel
theorem dX1_isName_91 : decode cX1_isName 91 = .ok (.if_icmp .ne 7, 3) := by decide +kernel
theorem dX1_isName_94 : decode cX1_isName 94 = .ok (.iconst 1, 1) := by decide +kernel
theorem dX1_isName_95 : decode cX1_isName 95 = .ok (.goto 4, 3) := by decide +kernel
theorem dX1_isName_98 : decode cX1_isName 98 = .ok (.iconst 0, 1) := by decide +kernel
theorem dX1_isName_99 : decode cX1_isName 99 = .ok (.istore_n 1, 1) := by decide +kernel
theorem dX1_isName_100 : decode cX1_isName 100 = .ok (.iinc 4 1, 3) := by decide +kernel
theorem dX1_isName_103 : decode cX1_isName 103 = .ok (.goto (-43), 3) := by decide +kernel
theorem dX1_isName_106 : decode cX1_isName 106 = .ok (.ldc 90, 2) := by decide +kernel
theorem dX1_isName_108 : decode cX1_isName 108 = .ok (.bipush 32, 2) := by decide +kernel
theorem dX1_isName_110 : decode cX1_isName 110 = .ok (.iload_n 2, 1) := by decide +kernel
theorem dX1_isName_111 : decode cX1_isName 111 = .ok (.invokevirtual 92, 3) := by decide +kernel
theorem dX1_isName_114 : decode cX1_isName 114 = .ok (.iconst 1, 1) := by decide +kernel
theorem dX1_isName_115 : decode cX1_isName 115 = .ok (.iadd, 1) := by decide +kernel
theorem dX1_isName_116 : decode cX1_isName 116 = .ok (.istore_n 2, 1) := by decide +kernel
theorem dX1_isName_117 : decode cX1_isName 117 = .ok (.goto (-103), 3) := by decide +kernel
theorem dX1_isName_120 : decode cX1_isName 120 = .ok (.iload_n 1, 1) := by decide +kernel
theorem dX1_isName_121 : decode cX1_isName 121 = .ok (.ifCond .ne 7, 3) := by decide +kernel
theorem dX1_isName_124 : decode cX1_isName 124 = .ok (.iconst 1, 1) := by decide +kernel
theorem dX1_isName_125 : decode cX1_isName 125 = .ok (.goto 4, 3) := by decide +kernel
theorem dX1_isName_128 : decode cX1_isName 128 = .ok (.iconst 0, 1) := by decide +kernel
theorem dX1_isName_129 : decode cX1_isName 129 = .ok (.ireturn, 1) := by decide +kernel
abbrev cX1_word : ByteArray := prog_17_method_8_code
def yX1_word : MethodName := ⟨RX1, "word", "()Ljava/lang/String;"⟩
theorem dX1_word_0 : decode cX1_word 0 = .ok (.new 54, 3) := by decide +kernel
theorem dX1_word_3 : decode cX1_word 3 = .ok (.dup, 1) := by decide +kernel
theorem dX1_word_4 : decode cX1_word 4 = .ok (.bipush 12, 2) := by decide +kernel
theorem dX1_word_6 : decode cX1_word 6 = .ok (.invokespecial 56, 3) := by decide +kernel
theorem dX1_word_9 : decode cX1_word 9 = .ok (.astore_n 1, 1) := by decide +kernel
theorem dX1_word_10 : decode cX1_word 10 = .ok (.aload_n 0, 1) := by decide +kernel
theorem dX1_word_11 : decode cX1_word 11 = .ok (.getfield 28, 3) := by decide +kernel
theorem dX1_word_14 : decode cX1_word 14 = .ok (.istore_n 2, 1) := by decide +kernel
theorem dX1_word_15 : decode cX1_word 15 = .ok (.iload_n 2, 1) := by decide +kernel
theorem dX1_word_16 : decode cX1_word 16 = .ok (.aload_n 0, 1) := by decide +kernel
theorem dX1_word_17 : decode cX1_word 17 = .ok (.getfield 19, 3) := by decide +kernel
theorem dX1_word_20 : decode cX1_word 20 = .ok (.if_icmp .ge 21, 3) := by decide +kernel
theorem dX1_word_23 : decode cX1_word 23 = .ok (.aload_n 1, 1) := by decide +kernel
theorem dX1_word_24 : decode cX1_word 24 = .ok (.aload_n 0, 1) := by decide +kernel
theorem dX1_word_25 : decode cX1_word 25 = .ok (.getfield 9, 3) := by decide +kernel
theorem dX1_word_28 : decode cX1_word 28 = .ok (.iload_n 2, 1) := by decide +kernel
theorem dX1_word_29 : decode cX1_word 29 = .ok (.baload, 1) := by decide +kernel
theorem dX1_word_30 : decode cX1_word 30 = .ok (.i2c, 1) := by decide +kernel
theorem dX1_word_31 : decode cX1_word 31 = .ok (.invokevirtual 59, 3) := by decide +kernel
theorem dX1_word_34 : decode cX1_word 34 = .ok (.pop, 1) := by decide +kernel
theorem dX1_word_35 : decode cX1_word 35 = .ok (.iinc 2 1, 3) := by decide +kernel
theorem dX1_word_38 : decode cX1_word 38 = .ok (.goto (-23), 3) := by decide +kernel
theorem dX1_word_41 : decode cX1_word 41 = .ok (.aload_n 1, 1) := by decide +kernel
theorem dX1_word_42 : decode cX1_word 42 = .ok (.invokevirtual 63, 3) := by decide +kernel
theorem dX1_word_45 : decode cX1_word 45 = .ok (.areturn, 1) := by decide +kernel
abbrev cX1_formals : ByteArray := prog_17_method_21_code
def yX1_formals : MethodName := ⟨RX1, "formals", "(Ljava/util/ArrayList;)V"⟩
theorem dX1_formals_0 : decode cX1_formals 0 = .ok (.aload_n 0, 1) := by decide +kernel
theorem dX1_formals_1 : decode cX1_formals 1 = .ok (.bipush 91, 2) := by decide +kernel
theorem dX1_formals_3 : decode cX1_formals 3 = .ok (.invokevirtual 79, 3) := by decide +kernel
theorem dX1_formals_6 : decode cX1_formals 6 = .ok (.ifCond .ne 4, 3) := by decide +kernel
theorem dX1_formals_9 : decode cX1_formals 9 = .ok (.return_, 1) := by decide +kernel
theorem dX1_formals_10 : decode cX1_formals 10 = .ok (.aload_n 0, 1) := by decide +kernel
theorem dX1_formals_11 : decode cX1_formals 11 = .ok (.getfield 28, 3) := by decide +kernel
theorem dX1_formals_14 : decode cX1_formals 14 = .ok (.istore_n 2, 1) := by decide +kernel
theorem dX1_formals_15 : decode cX1_formals 15 = .ok (.new 187, 3) := by decide +kernel
theorem dX1_formals_18 : decode cX1_formals 18 = .ok (.dup, 1) := by decide +kernel
theorem dX1_formals_19 : decode cX1_formals 19 = .ok (.aload_n 0, 1) := by decide +kernel
theorem dX1_formals_20 : decode cX1_formals 20 = .ok (.aload_n 1, 1) := by decide +kernel
theorem dX1_formals_21 : decode cX1_formals 21 = .ok (.invokevirtual 136, 3) := by decide +kernel
theorem dX1_formals_24 : decode cX1_formals 24 = .ok (.invokevirtual 162, 3) := by decide +kernel
theorem dX1_formals_27 : decode cX1_formals 27 = .ok (.iload_n 2, 1) := by decide +kernel
theorem dX1_formals_28 : decode cX1_formals 28 = .ok (.invokespecial 189, 3) := by decide +kernel
theorem dX1_formals_31 : decode cX1_formals 31 = .ok (.astore_n 3, 1) := by decide +kernel
theorem dX1_formals_32 : decode cX1_formals 32 = .ok (.aload_n 3, 1) := by decide +kernel
theorem dX1_formals_33 : decode cX1_formals 33 = .ok (.aload_n 0, 1) := by decide +kernel
theorem dX1_formals_34 : decode cX1_formals 34 = .ok (.invokevirtual 169, 3) := by decide +kernel
theorem dX1_formals_37 : decode cX1_formals 37 = .ok (.putfield 190, 3) := by decide +kernel
theorem dX1_formals_40 : decode cX1_formals 40 = .ok (.aload_n 1, 1) := by decide +kernel
theorem dX1_formals_41 : decode cX1_formals 41 = .ok (.aload_n 3, 1) := by decide +kernel
theorem dX1_formals_42 : decode cX1_formals 42 = .ok (.invokevirtual 176, 3) := by decide +kernel
theorem dX1_formals_45 : decode cX1_formals 45 = .ok (.pop, 1) := by decide +kernel
theorem dX1_formals_46 : decode cX1_formals 46 = .ok (.aload_n 0, 1) := by decide +kernel
theorem dX1_formals_47 : decode cX1_formals 47 = .ok (.bipush 44, 2) := by decide +kernel
theorem dX1_formals_49 : decode cX1_formals 49 = .ok (.invokevirtual 79, 3) := by decide +kernel
theorem dX1_formals_52 : decode cX1_formals 52 = .ok (.ifCond .ne (-42), 3) := by decide +kernel
theorem dX1_formals_55 : decode cX1_formals 55 = .ok (.aload_n 0, 1) := by decide +kernel
theorem dX1_formals_56 : decode cX1_formals 56 = .ok (.bipush 93, 2) := by decide +kernel
theorem dX1_formals_58 : decode cX1_formals 58 = .ok (.invokevirtual 132, 3) := by decide +kernel
theorem dX1_formals_61 : decode cX1_formals 61 = .ok (.return_, 1) := by decide +kernel
abbrev cX1_meets : ByteArray := prog_17_method_11_code
def yX1_meets : MethodName := ⟨RX1, "meets", "(C)Z"⟩
theorem dX1_meets_0 : decode cX1_meets 0 = .ok (.aload_n 0, 1) := by decide +kernel
theorem dX1_meets_1 : decode cX1_meets 1 = .ok (.iload_n 1, 1) := by decide +kernel
theorem dX1_meets_2 : decode cX1_meets 2 = .ok (.invokevirtual 75, 3) := by decide +kernel
theorem dX1_meets_5 : decode cX1_meets 5 = .ok (.ifCond .ne 5, 3) := by decide +kernel
theorem dX1_meets_8 : decode cX1_meets 8 = .ok (.iconst 0, 1) := by decide +kernel
theorem dX1_meets_9 : decode cX1_meets 9 = .ok (.ireturn, 1) := by decide +kernel
theorem dX1_meets_10 : decode cX1_meets 10 = .ok (.aload_n 0, 1) := by decide +kernel
theorem dX1_meets_11 : decode cX1_meets 11 = .ok (.invokevirtual 25, 3) := by decide +kernel
theorem dX1_meets_14 : decode cX1_meets 14 = .ok (.iconst 1, 1) := by decide +kernel
theorem dX1_meets_15 : decode cX1_meets 15 = .ok (.ireturn, 1) := by decide +kernel
abbrev cX1_isSign : ByteArray := prog_17_method_10_code
def yX1_isSign : MethodName := ⟨RX1, "isSign", "(C)Z"⟩
theorem dX1_isSign_0 : decode cX1_isSign 0 = .ok (.aload_n 0, 1) := by decide +kernel
theorem dX1_isSign_1 : decode cX1_isSign 1 = .ok (.getfield 31, 3) := by decide +kernel
theorem dX1_isSign_4 : decode cX1_isSign 4 = .ok (.iconst 2, 1) := by decide +kernel
theorem dX1_isSign_5 : decode cX1_isSign 5 = .ok (.if_icmp .ne 20, 3) := by decide +kernel
theorem dX1_isSign_8 : decode cX1_isSign 8 = .ok (.aload_n 0, 1) := by decide +kernel
theorem dX1_isSign_9 : decode cX1_isSign 9 = .ok (.getfield 9, 3) := by decide +kernel
theorem dX1_isSign_12 : decode cX1_isSign 12 = .ok (.aload_n 0, 1) := by decide +kernel
theorem dX1_isSign_13 : decode cX1_isSign 13 = .ok (.getfield 28, 3) := by decide +kernel
theorem dX1_isSign_16 : decode cX1_isSign 16 = .ok (.baload, 1) := by decide +kernel
theorem dX1_isSign_17 : decode cX1_isSign 17 = .ok (.iload_n 1, 1) := by decide +kernel
theorem dX1_isSign_18 : decode cX1_isSign 18 = .ok (.if_icmp .ne 7, 3) := by decide +kernel
theorem dX1_isSign_21 : decode cX1_isSign 21 = .ok (.iconst 1, 1) := by decide +kernel
theorem dX1_isSign_22 : decode cX1_isSign 22 = .ok (.goto 4, 3) := by decide +kernel
theorem dX1_isSign_25 : decode cX1_isSign 25 = .ok (.iconst 0, 1) := by decide +kernel
theorem dX1_isSign_26 : decode cX1_isSign 26 = .ok (.ireturn, 1) := by decide +kernel
abbrev cX1_listed : ByteArray := prog_17_method_16_code
def yX1_listed : MethodName := ⟨RX1, "listed", "(I)Ljava/lang/String;"⟩
theorem dX1_listed_0 : decode cX1_listed 0 = .ok (.aload_n 0, 1) := by decide +kernel
theorem dX1_listed_1 : decode cX1_listed 1 = .ok (.invokevirtual 95, 3) := by decide +kernel
theorem dX1_listed_4 : decode cX1_listed 4 = .ok (.ifCond .eq 15, 3) := by decide +kernel
theorem dX1_listed_7 : decode cX1_listed 7 = .ok (.iload_n 1, 1) := by decide +kernel
theorem dX1_listed_8 : decode cX1_listed 8 = .ok (.bipush 6, 2) := by decide +kernel
theorem dX1_listed_10 : decode cX1_listed 10 = .ok (.if_icmp .ne 9, 3) := by decide +kernel
theorem dX1_listed_13 : decode cX1_listed 13 = .ok (.aload_n 0, 1) := by decide +kernel
theorem dX1_listed_14 : decode cX1_listed 14 = .ok (.iconst 5, 1) := by decide +kernel
theorem dX1_listed_15 : decode cX1_listed 15 = .ok (.invokevirtual 82, 3) := by decide +kernel
theorem dX1_listed_18 : decode cX1_listed 18 = .ok (.athrow, 1) := by decide +kernel
theorem dX1_listed_19 : decode cX1_listed 19 = .ok (.aload_n 0, 1) := by decide +kernel
theorem dX1_listed_20 : decode cX1_listed 20 = .ok (.invokevirtual 102, 3) := by decide +kernel
theorem dX1_listed_23 : decode cX1_listed 23 = .ok (.areturn, 1) := by decide +kernel
abbrev cX1_tree : ByteArray := prog_17_method_24_code
def yX1_tree : MethodName := ⟨RX1, "tree", "()LFeatherBench$Tree;"⟩
theorem dX1_tree_0 : decode cX1_tree 0 = .ok (.aload_n 0, 1) := by decide +kernel
theorem dX1_tree_1 : decode cX1_tree 1 = .ok (.invokevirtual 95, 3) := by decide +kernel
theorem dX1_tree_4 : decode cX1_tree 4 = .ok (.ifCond .ne 9, 3) := by decide +kernel
theorem dX1_tree_7 : decode cX1_tree 7 = .ok (.aload_n 0, 1) := by decide +kernel
theorem dX1_tree_8 : decode cX1_tree 8 = .ok (.iconst 1, 1) := by decide +kernel
theorem dX1_tree_9 : decode cX1_tree 9 = .ok (.invokevirtual 82, 3) := by decide +kernel
theorem dX1_tree_12 : decode cX1_tree 12 = .ok (.athrow, 1) := by decide +kernel
theorem dX1_tree_13 : decode cX1_tree 13 = .ok (.aload_n 0, 1) := by decide +kernel
theorem dX1_tree_14 : decode cX1_tree 14 = .ok (.invokevirtual 220, 3) := by decide +kernel
theorem dX1_tree_17 : decode cX1_tree 17 = .ok (.aload_n 0, 1) := by decide +kernel
theorem dX1_tree_18 : decode cX1_tree 18 = .ok (.getfield 28, 3) := by decide +kernel
theorem dX1_tree_21 : decode cX1_tree 21 = .ok (.istore_n 1, 1) := by decide +kernel
theorem dX1_tree_22 : decode cX1_tree 22 = .ok (.new 223, 3) := by decide +kernel
theorem dX1_tree_25 : decode cX1_tree 25 = .ok (.dup, 1) := by decide +kernel
theorem dX1_tree_26 : decode cX1_tree 26 = .ok (.aload_n 0, 1) := by decide +kernel
theorem dX1_tree_27 : decode cX1_tree 27 = .ok (.invokevirtual 102, 3) := by decide +kernel
theorem dX1_tree_30 : decode cX1_tree 30 = .ok (.iload_n 1, 1) := by decide +kernel
theorem dX1_tree_31 : decode cX1_tree 31 = .ok (.invokespecial 225, 3) := by decide +kernel
theorem dX1_tree_34 : decode cX1_tree 34 = .ok (.astore_n 2, 1) := by decide +kernel
theorem dX1_tree_35 : decode cX1_tree 35 = .ok (.aload_n 0, 1) := by decide +kernel
theorem dX1_tree_36 : decode cX1_tree 36 = .ok (.bipush 91, 2) := by decide +kernel
theorem dX1_tree_38 : decode cX1_tree 38 = .ok (.invokevirtual 75, 3) := by decide +kernel
theorem dX1_tree_41 : decode cX1_tree 41 = .ok (.ifCond .eq 16, 3) := by decide +kernel
theorem dX1_tree_44 : decode cX1_tree 44 = .ok (.aload_n 2, 1) := by decide +kernel
theorem dX1_tree_45 : decode cX1_tree 45 = .ok (.iconst 1, 1) := by decide +kernel
theorem dX1_tree_46 : decode cX1_tree 46 = .ok (.putfield 226, 3) := by decide +kernel
theorem dX1_tree_49 : decode cX1_tree 49 = .ok (.aload_n 0, 1) := by decide +kernel
theorem dX1_tree_50 : decode cX1_tree 50 = .ok (.aload_n 2, 1) := by decide +kernel
theorem dX1_tree_51 : decode cX1_tree 51 = .ok (.getfield 229, 3) := by decide +kernel
theorem dX1_tree_54 : decode cX1_tree 54 = .ok (.invokevirtual 232, 3) := by decide +kernel
theorem dX1_tree_57 : decode cX1_tree 57 = .ok (.aload_n 0, 1) := by decide +kernel
theorem dX1_tree_58 : decode cX1_tree 58 = .ok (.dup, 1) := by decide +kernel
theorem dX1_tree_59 : decode cX1_tree 59 = .ok (.getfield 22, 3) := by decide +kernel
theorem dX1_tree_62 : decode cX1_tree 62 = .ok (.iconst 1, 1) := by decide +kernel
theorem dX1_tree_63 : decode cX1_tree 63 = .ok (.isub, 1) := by decide +kernel
theorem dX1_tree_64 : decode cX1_tree 64 = .ok (.putfield 22, 3) := by decide +kernel
theorem dX1_tree_67 : decode cX1_tree 67 = .ok (.aload_n 2, 1) := by decide +kernel
theorem dX1_tree_68 : decode cX1_tree 68 = .ok (.areturn, 1) := by decide +kernel
abbrev cX1_deeper : ByteArray := prog_17_method_17_code
def yX1_deeper : MethodName := ⟨RX1, "deeper", "()V"⟩
theorem dX1_deeper_0 : decode cX1_deeper 0 = .ok (.aload_n 0, 1) := by decide +kernel
theorem dX1_deeper_1 : decode cX1_deeper 1 = .ok (.getfield 22, 3) := by decide +kernel
theorem dX1_deeper_4 : decode cX1_deeper 4 = .ok (.bipush 10, 2) := by decide +kernel
theorem dX1_deeper_6 : decode cX1_deeper 6 = .ok (.if_icmp .ne 9, 3) := by decide +kernel
theorem dX1_deeper_9 : decode cX1_deeper 9 = .ok (.aload_n 0, 1) := by decide +kernel
theorem dX1_deeper_10 : decode cX1_deeper 10 = .ok (.iconst 5, 1) := by decide +kernel
theorem dX1_deeper_11 : decode cX1_deeper 11 = .ok (.invokevirtual 82, 3) := by decide +kernel
theorem dX1_deeper_14 : decode cX1_deeper 14 = .ok (.athrow, 1) := by decide +kernel
theorem dX1_deeper_15 : decode cX1_deeper 15 = .ok (.aload_n 0, 1) := by decide +kernel
theorem dX1_deeper_16 : decode cX1_deeper 16 = .ok (.dup, 1) := by decide +kernel
theorem dX1_deeper_17 : decode cX1_deeper 17 = .ok (.getfield 22, 3) := by decide +kernel
theorem dX1_deeper_20 : decode cX1_deeper 20 = .ok (.iconst 1, 1) := by decide +kernel
theorem dX1_deeper_21 : decode cX1_deeper 21 = .ok (.iadd, 1) := by decide +kernel
theorem dX1_deeper_22 : decode cX1_deeper 22 = .ok (.putfield 22, 3) := by decide +kernel
theorem dX1_deeper_25 : decode cX1_deeper 25 = .ok (.return_, 1) := by decide +kernel
abbrev cX1_trees : ByteArray := prog_17_method_25_code
def yX1_trees : MethodName := ⟨RX1, "trees", "(Ljava/util/ArrayList;)V"⟩
theorem dX1_trees_0 : decode cX1_trees 0 = .ok (.aload_n 0, 1) := by decide +kernel
theorem dX1_trees_1 : decode cX1_trees 1 = .ok (.bipush 91, 2) := by decide +kernel
theorem dX1_trees_3 : decode cX1_trees 3 = .ok (.invokevirtual 132, 3) := by decide +kernel
theorem dX1_trees_6 : decode cX1_trees 6 = .ok (.aload_n 0, 1) := by decide +kernel
theorem dX1_trees_7 : decode cX1_trees 7 = .ok (.invokevirtual 95, 3) := by decide +kernel
theorem dX1_trees_10 : decode cX1_trees 10 = .ok (.ifCond .eq 18, 3) := by decide +kernel
theorem dX1_trees_13 : decode cX1_trees 13 = .ok (.aload_n 1, 1) := by decide +kernel
theorem dX1_trees_14 : decode cX1_trees 14 = .ok (.invokevirtual 136, 3) := by decide +kernel
theorem dX1_trees_17 : decode cX1_trees 17 = .ok (.bipush 6, 2) := by decide +kernel
theorem dX1_trees_19 : decode cX1_trees 19 = .ok (.if_icmp .ne 9, 3) := by decide +kernel
theorem dX1_trees_22 : decode cX1_trees 22 = .ok (.aload_n 0, 1) := by decide +kernel
theorem dX1_trees_23 : decode cX1_trees 23 = .ok (.iconst 5, 1) := by decide +kernel
theorem dX1_trees_24 : decode cX1_trees 24 = .ok (.invokevirtual 82, 3) := by decide +kernel
theorem dX1_trees_27 : decode cX1_trees 27 = .ok (.athrow, 1) := by decide +kernel
theorem dX1_trees_28 : decode cX1_trees 28 = .ok (.aload_n 1, 1) := by decide +kernel
theorem dX1_trees_29 : decode cX1_trees 29 = .ok (.aload_n 0, 1) := by decide +kernel
theorem dX1_trees_30 : decode cX1_trees 30 = .ok (.invokevirtual 169, 3) := by decide +kernel
theorem dX1_trees_33 : decode cX1_trees 33 = .ok (.invokevirtual 176, 3) := by decide +kernel
theorem dX1_trees_36 : decode cX1_trees 36 = .ok (.pop, 1) := by decide +kernel
theorem dX1_trees_37 : decode cX1_trees 37 = .ok (.aload_n 0, 1) := by decide +kernel
theorem dX1_trees_38 : decode cX1_trees 38 = .ok (.bipush 44, 2) := by decide +kernel
theorem dX1_trees_40 : decode cX1_trees 40 = .ok (.invokevirtual 79, 3) := by decide +kernel
theorem dX1_trees_43 : decode cX1_trees 43 = .ok (.ifCond .ne (-37), 3) := by decide +kernel
theorem dX1_trees_46 : decode cX1_trees 46 = .ok (.aload_n 0, 1) := by decide +kernel
theorem dX1_trees_47 : decode cX1_trees 47 = .ok (.bipush 93, 2) := by decide +kernel
theorem dX1_trees_49 : decode cX1_trees 49 = .ok (.invokevirtual 132, 3) := by decide +kernel
theorem dX1_trees_52 : decode cX1_trees 52 = .ok (.return_, 1) := by decide +kernel
abbrev cX1_need : ByteArray := prog_17_method_12_code
def yX1_need : MethodName := ⟨RX1, "need", "(C)V"⟩
theorem dX1_need_0 : decode cX1_need 0 = .ok (.aload_n 0, 1) := by decide +kernel
theorem dX1_need_1 : decode cX1_need 1 = .ok (.iload_n 1, 1) := by decide +kernel
theorem dX1_need_2 : decode cX1_need 2 = .ok (.invokevirtual 79, 3) := by decide +kernel
theorem dX1_need_5 : decode cX1_need 5 = .ok (.ifCond .ne 9, 3) := by decide +kernel
theorem dX1_need_8 : decode cX1_need 8 = .ok (.aload_n 0, 1) := by decide +kernel
theorem dX1_need_9 : decode cX1_need 9 = .ok (.iconst 1, 1) := by decide +kernel
theorem dX1_need_10 : decode cX1_need 10 = .ok (.invokevirtual 82, 3) := by decide +kernel
theorem dX1_need_13 : decode cX1_need 13 = .ok (.athrow, 1) := by decide +kernel
theorem dX1_need_14 : decode cX1_need 14 = .ok (.return_, 1) := by decide +kernel
abbrev cX1_head : ByteArray := prog_17_method_22_code
def yX1_head : MethodName := ⟨RX1, "head", "(I)LFeatherBench$Head;"⟩
theorem dX1_head_0 : decode cX1_head 0 = .ok (.aload_n 0, 1) := by decide +kernel
theorem dX1_head_1 : decode cX1_head 1 = .ok (.getfield 28, 3) := by decide +kernel
theorem dX1_head_4 : decode cX1_head 4 = .ok (.istore_n 2, 1) := by decide +kernel
theorem dX1_head_5 : decode cX1_head 5 = .ok (.new 191, 3) := by decide +kernel
theorem dX1_head_8 : decode cX1_head 8 = .ok (.dup, 1) := by decide +kernel
theorem dX1_head_9 : decode cX1_head 9 = .ok (.aload_n 0, 1) := by decide +kernel
theorem dX1_head_10 : decode cX1_head 10 = .ok (.iload_n 1, 1) := by decide +kernel
theorem dX1_head_11 : decode cX1_head 11 = .ok (.invokevirtual 162, 3) := by decide +kernel
theorem dX1_head_14 : decode cX1_head 14 = .ok (.iload_n 2, 1) := by decide +kernel
theorem dX1_head_15 : decode cX1_head 15 = .ok (.invokespecial 193, 3) := by decide +kernel
theorem dX1_head_18 : decode cX1_head 18 = .ok (.astore_n 3, 1) := by decide +kernel
theorem dX1_head_19 : decode cX1_head 19 = .ok (.aload_n 0, 1) := by decide +kernel
theorem dX1_head_20 : decode cX1_head 20 = .ok (.aload_n 3, 1) := by decide +kernel
theorem dX1_head_21 : decode cX1_head 21 = .ok (.getfield 194, 3) := by decide +kernel
theorem dX1_head_24 : decode cX1_head 24 = .ok (.invokevirtual 146, 3) := by decide +kernel
theorem dX1_head_27 : decode cX1_head 27 = .ok (.aload_n 0, 1) := by decide +kernel
theorem dX1_head_28 : decode cX1_head 28 = .ok (.bipush 40, 2) := by decide +kernel
theorem dX1_head_30 : decode cX1_head 30 = .ok (.invokevirtual 132, 3) := by decide +kernel
theorem dX1_head_33 : decode cX1_head 33 = .ok (.aload_n 0, 1) := by decide +kernel
theorem dX1_head_34 : decode cX1_head 34 = .ok (.bipush 41, 2) := by decide +kernel
theorem dX1_head_36 : decode cX1_head 36 = .ok (.invokevirtual 75, 3) := by decide +kernel
theorem dX1_head_39 : decode cX1_head 39 = .ok (.ifCond .ne 59, 3) := by decide +kernel
theorem dX1_head_42 : decode cX1_head 42 = .ok (.aload_n 0, 1) := by decide +kernel
theorem dX1_head_43 : decode cX1_head 43 = .ok (.getfield 28, 3) := by decide +kernel
theorem dX1_head_46 : decode cX1_head 46 = .ok (.istore 4, 2) := by decide +kernel
theorem dX1_head_48 : decode cX1_head 48 = .ok (.new 157, 3) := by decide +kernel
theorem dX1_head_51 : decode cX1_head 51 = .ok (.dup, 1) := by decide +kernel
theorem dX1_head_52 : decode cX1_head 52 = .ok (.aload_n 0, 1) := by decide +kernel
theorem dX1_head_53 : decode cX1_head 53 = .ok (.aload_n 3, 1) := by decide +kernel
theorem dX1_head_54 : decode cX1_head 54 = .ok (.getfield 195, 3) := by decide +kernel
theorem dX1_head_57 : decode cX1_head 57 = .ok (.invokevirtual 136, 3) := by decide +kernel
theorem dX1_head_60 : decode cX1_head 60 = .ok (.invokevirtual 162, 3) := by decide +kernel
theorem dX1_head_63 : decode cX1_head 63 = .ok (.iload 4, 2) := by decide +kernel
theorem dX1_head_65 : decode cX1_head 65 = .ok (.invokespecial 166, 3) := by decide +kernel
theorem dX1_head_68 : decode cX1_head 68 = .ok (.astore 5, 2) := by decide +kernel
theorem dX1_head_70 : decode cX1_head 70 = .ok (.aload 5, 2) := by decide +kernel
theorem dX1_head_72 : decode cX1_head 72 = .ok (.aload_n 0, 1) := by decide +kernel
theorem dX1_head_73 : decode cX1_head 73 = .ok (.invokevirtual 169, 3) := by decide +kernel
theorem dX1_head_76 : decode cX1_head 76 = .ok (.putfield 173, 3) := by decide +kernel
theorem dX1_head_79 : decode cX1_head 79 = .ok (.aload_n 3, 1) := by decide +kernel
theorem dX1_head_80 : decode cX1_head 80 = .ok (.getfield 195, 3) := by decide +kernel
theorem dX1_head_83 : decode cX1_head 83 = .ok (.aload 5, 2) := by decide +kernel
theorem dX1_head_85 : decode cX1_head 85 = .ok (.invokevirtual 176, 3) := by decide +kernel
theorem dX1_head_88 : decode cX1_head 88 = .ok (.pop, 1) := by decide +kernel
theorem dX1_head_89 : decode cX1_head 89 = .ok (.aload_n 0, 1) := by decide +kernel
theorem dX1_head_90 : decode cX1_head 90 = .ok (.bipush 44, 2) := by decide +kernel
theorem dX1_head_92 : decode cX1_head 92 = .ok (.invokevirtual 79, 3) := by decide +kernel
theorem dX1_head_95 : decode cX1_head 95 = .ok (.ifCond .ne (-53), 3) := by decide +kernel
theorem dX1_head_98 : decode cX1_head 98 = .ok (.aload_n 0, 1) := by decide +kernel
theorem dX1_head_99 : decode cX1_head 99 = .ok (.bipush 41, 2) := by decide +kernel
theorem dX1_head_101 : decode cX1_head 101 = .ok (.invokevirtual 132, 3) := by decide +kernel
theorem dX1_head_104 : decode cX1_head 104 = .ok (.aload_n 3, 1) := by decide +kernel
theorem dX1_head_105 : decode cX1_head 105 = .ok (.aload_n 0, 1) := by decide +kernel
theorem dX1_head_106 : decode cX1_head 106 = .ok (.invokevirtual 169, 3) := by decide +kernel
theorem dX1_head_109 : decode cX1_head 109 = .ok (.putfield 198, 3) := by decide +kernel
theorem dX1_head_112 : decode cX1_head 112 = .ok (.aload_n 3, 1) := by decide +kernel
theorem dX1_head_113 : decode cX1_head 113 = .ok (.areturn, 1) := by decide +kernel
abbrev cX1_func : ByteArray := prog_17_method_23_code
def yX1_func : MethodName := ⟨RX1, "func", "()V"⟩
theorem dX1_func_0 : decode cX1_func 0 = .ok (.aload_n 0, 1) := by decide +kernel
theorem dX1_func_1 : decode cX1_func 1 = .ok (.getfield 112, 3) := by decide +kernel
theorem dX1_func_4 : decode cX1_func 4 = .ok (.invokevirtual 136, 3) := by decide +kernel
theorem dX1_func_7 : decode cX1_func 7 = .ok (.bipush 60, 2) := by decide +kernel
theorem dX1_func_9 : decode cX1_func 9 = .ok (.if_icmp .ne 9, 3) := by decide +kernel
theorem dX1_func_12 : decode cX1_func 12 = .ok (.aload_n 0, 1) := by decide +kernel
theorem dX1_func_13 : decode cX1_func 13 = .ok (.iconst 5, 1) := by decide +kernel
theorem dX1_func_14 : decode cX1_func 14 = .ok (.invokevirtual 82, 3) := by decide +kernel
theorem dX1_func_17 : decode cX1_func 17 = .ok (.athrow, 1) := by decide +kernel
theorem dX1_func_18 : decode cX1_func 18 = .ok (.aload_n 0, 1) := by decide +kernel
theorem dX1_func_19 : decode cX1_func 19 = .ok (.invokevirtual 25, 3) := by decide +kernel
theorem dX1_func_22 : decode cX1_func 22 = .ok (.aload_n 0, 1) := by decide +kernel
theorem dX1_func_23 : decode cX1_func 23 = .ok (.bipush 40, 2) := by decide +kernel
theorem dX1_func_25 : decode cX1_func 25 = .ok (.invokevirtual 132, 3) := by decide +kernel
theorem dX1_func_28 : decode cX1_func 28 = .ok (.aload_n 0, 1) := by decide +kernel
theorem dX1_func_29 : decode cX1_func 29 = .ok (.getfield 28, 3) := by decide +kernel
theorem dX1_func_32 : decode cX1_func 32 = .ok (.istore_n 1, 1) := by decide +kernel
theorem dX1_func_33 : decode cX1_func 33 = .ok (.new 157, 3) := by decide +kernel
theorem dX1_func_36 : decode cX1_func 36 = .ok (.dup, 1) := by decide +kernel
theorem dX1_func_37 : decode cX1_func 37 = .ok (.aload_n 0, 1) := by decide +kernel
theorem dX1_func_38 : decode cX1_func 38 = .ok (.invokevirtual 102, 3) := by decide +kernel
theorem dX1_func_41 : decode cX1_func 41 = .ok (.iload_n 1, 1) := by decide +kernel
theorem dX1_func_42 : decode cX1_func 42 = .ok (.invokespecial 166, 3) := by decide +kernel
theorem dX1_func_45 : decode cX1_func 45 = .ok (.astore_n 2, 1) := by decide +kernel
theorem dX1_func_46 : decode cX1_func 46 = .ok (.aload_n 0, 1) := by decide +kernel
theorem dX1_func_47 : decode cX1_func 47 = .ok (.getfield 28, 3) := by decide +kernel
theorem dX1_func_50 : decode cX1_func 50 = .ok (.istore_n 1, 1) := by decide +kernel
theorem dX1_func_51 : decode cX1_func 51 = .ok (.new 201, 3) := by decide +kernel
theorem dX1_func_54 : decode cX1_func 54 = .ok (.dup, 1) := by decide +kernel
theorem dX1_func_55 : decode cX1_func 55 = .ok (.aload_n 2, 1) := by decide +kernel
theorem dX1_func_56 : decode cX1_func 56 = .ok (.aload_n 0, 1) := by decide +kernel
theorem dX1_func_57 : decode cX1_func 57 = .ok (.invokevirtual 102, 3) := by decide +kernel
theorem dX1_func_60 : decode cX1_func 60 = .ok (.iload_n 1, 1) := by decide +kernel
theorem dX1_func_61 : decode cX1_func 61 = .ok (.invokespecial 203, 3) := by decide +kernel
theorem dX1_func_64 : decode cX1_func 64 = .ok (.astore_n 3, 1) := by decide +kernel
theorem dX1_func_65 : decode cX1_func 65 = .ok (.aload_n 0, 1) := by decide +kernel
theorem dX1_func_66 : decode cX1_func 66 = .ok (.bipush 91, 2) := by decide +kernel
theorem dX1_func_68 : decode cX1_func 68 = .ok (.invokevirtual 79, 3) := by decide +kernel
theorem dX1_func_71 : decode cX1_func 71 = .ok (.ifCond .eq 52, 3) := by decide +kernel
theorem dX1_func_74 : decode cX1_func 74 = .ok (.aload_n 0, 1) := by decide +kernel
theorem dX1_func_75 : decode cX1_func 75 = .ok (.getfield 28, 3) := by decide +kernel
theorem dX1_func_78 : decode cX1_func 78 = .ok (.istore 4, 2) := by decide +kernel
theorem dX1_func_80 : decode cX1_func 80 = .ok (.aload_n 3, 1) := by decide +kernel
theorem dX1_func_81 : decode cX1_func 81 = .ok (.getfield 206, 3) := by decide +kernel
theorem dX1_func_84 : decode cX1_func 84 = .ok (.new 187, 3) := by decide +kernel
theorem dX1_func_87 : decode cX1_func 87 = .ok (.dup, 1) := by decide +kernel
theorem dX1_func_88 : decode cX1_func 88 = .ok (.aload_n 0, 1) := by decide +kernel
theorem dX1_func_89 : decode cX1_func 89 = .ok (.aload_n 3, 1) := by decide +kernel
theorem dX1_func_90 : decode cX1_func 90 = .ok (.getfield 206, 3) := by decide +kernel
theorem dX1_func_93 : decode cX1_func 93 = .ok (.invokevirtual 136, 3) := by decide +kernel
theorem dX1_func_96 : decode cX1_func 96 = .ok (.invokevirtual 162, 3) := by decide +kernel
